/-! SkySpireModel -/
set_option maxRecDepth 100000
def RX3 : String := "SkySpireModel"
def TX3 : u_T := fun k => match k with
  | 0 => ("SkySpireModel", "thrown", "I", false)
  | 1 => ("SkySpireModel", "scalar", "[I", true)
  | 2 => ("SkySpireModel", "at", "[I", true)
  | 3 => ("SkySpireModel", "stiff", "[I", true)
  | 4 => ("SkySpireModel", "who", "[I", true)
  | 5 => ("SkySpireModel", "since", "[I", true)
  | 6 => ("SkySpireModel", "way", "[I", true)
  | 7 => ("SkySpireModel", "strong", "[I", true)
  | 8 => ("SkySpireModel", "marks", "[I", true)
  | 9 => ("SkySpireModel", "noteDay", "[I", true)
  | 10 => ("SkySpireModel", "noteCell", "[I", true)
  | 11 => ("SkySpireModel", "notePen", "[I", true)
  | 12 => ("SkySpireModel", "toldAt", "[I", true)
  | 13 => ("SkySpireModel", "toldStiff", "[I", true)
  | 14 => ("SkySpireModel", "newScalar", "[I", true)
  | 15 => ("SkySpireModel", "newAt", "[I", true)
  | 16 => ("SkySpireModel", "newStiff", "[I", true)
  | 17 => ("SkySpireModel", "newWay", "[I", true)
  | 18 => ("SkySpireModel", "newStrong", "[I", true)
  | 19 => ("SkySpireModel", "newMarks", "[I", true)
  | 20 => ("SkySpireModel", "taped", "I", false)
  | 21 => ("SkySpireModel", "p", "I", false)
  | 22 => ("SkySpireModel", "fault", "I", false)
  | 23 => ("SkySpireModel", "slot", "I", false)
  | 24 => ("SkySpireModel", "rules", "I", false)
  | 25 => ("SkySpireModel", "entries", "I", false)
  | 26 => ("SkySpireModel", "deep", "I", false)
  | 27 => ("SkySpireModel", "counted", "I", false)
  | 28 => ("SkySpireModel", "opened", "I", false)
  | 29 => ("SkySpireModel", "words", "I", false)
  | 30 => ("SkySpireModel", "tape", "[B", true)
  | 31 => ("SkySpireModel", "sort", "[I", true)
  | 32 => ("SkySpireModel", "number", "[I", true)
  | 33 => ("SkySpireModel", "clauses", "[I", true)
  | 34 => ("SkySpireModel", "sumAt", "[I", true)
  | 35 => ("SkySpireModel", "testAt", "[I", true)
  | 36 => ("SkySpireModel", "endAt", "[I", true)
  | 37 => ("SkySpireModel", "open", "[I", true)
  | 38 => ("SkySpireModel", "asked", "[J", true)
  | 39 => ("SkySpireModel", "stack", "[J", true)
  | 40 => ("SkySpireModel", "past", "[I", true)
  | 41 => ("SkySpireModel", "pastOf", "[I", true)
  | 42 => ("SkySpireModel", "pastMany", "I", false)
  | 43 => ("SkySpireModel", "pastAt", "I", false)
  | 44 => ("SkySpireModel", "takesBack", "Z", false)
  | 45 => ("SkySpireModel", "plays", "[I", true)
  | 46 => ("SkySpireModel", "firstHas", "[I", true)
  | 47 => ("SkySpireModel", "secondHas", "[I", true)
  | 48 => ("SkySpireModel", "shows", "[I", true)
  | 49 => ("SkySpireModel", "lay", "[I", true)
  | 50 => ("SkySpireModel", "images", "[I", true)
  | 51 => ("SkySpireModel", "isMade", "[Z", true)
  | 52 => ("SkySpireModel", "imageAt", "I", false)
  | _ => ("SkySpireModel", "goesBack", "Z", false)
def tyX3 : Nat → FieldType := fun k => match k with
  | 0 => .int
  | 1 => .array .int
  | 2 => .array .int
  | 3 => .array .int
  | 4 => .array .int
  | 5 => .array .int
  | 6 => .array .int
  | 7 => .array .int
  | 8 => .array .int
  | 9 => .array .int
  | 10 => .array .int
  | 11 => .array .int
  | 12 => .array .int
  | 13 => .array .int
  | 14 => .array .int
  | 15 => .array .int
  | 16 => .array .int
  | 17 => .array .int
  | 18 => .array .int
  | 19 => .array .int
  | 20 => .int
  | 21 => .int
  | 22 => .int
  | 23 => .int
  | 24 => .int
  | 25 => .int
  | 26 => .int
  | 27 => .int
  | 28 => .int
  | 29 => .int
  | 30 => .array .byte
  | 31 => .array .int
  | 32 => .array .int
  | 33 => .array .int
  | 34 => .array .int
  | 35 => .array .int
  | 36 => .array .int
  | 37 => .array .int
  | 38 => .array .long
  | 39 => .array .long
  | 40 => .array .int
  | 41 => .array .int
  | 42 => .int
  | 43 => .int
  | 44 => .boolean
  | 45 => .array .int
  | 46 => .array .int
  | 47 => .array .int
  | 48 => .array .int
  | 49 => .array .int
  | 50 => .array .int
  | 51 => .array .boolean
  | 52 => .int
  | _ => .boolean
abbrev wsX30 : List Cond := u_ws RX3 TX3 54
set_option maxRecDepth 100000 in
theorem nmX3 : ∀ a, a < 54 → ∀ b, b < 54 → a ≠ b → (TX3 a).2.1 ≠ (TX3 b).2.1 := by decide +kernel
set_option maxRecDepth 100000 in
theorem tyX3_ok : ∀ k, k < 54 → parseFieldDescriptor (TX3 k).2.2.1 = some (tyX3 k) := by decide +kernel
abbrev cX3_init : ByteArray := prog_17_method_1_code
def yX3_init : MethodName := ⟨RX3, "<init>", "()V"⟩
def dkwX3_init_15 : List UInt8 := [181, 0, 124, 42, 7, 188, 4, 181, 0, 127, 177]
abbrev dktX3_init_15 : List UInt8 := dkwX3_init_15 ++ []
def dkwX3_init_14 : List UInt8 := [17, 0, 252, 188, 10, 181, 0, 118, 42, 17, 8, 148, 188, 10, 181, 0, 121, 42, 17, 39, 16, 188, 10]
abbrev dktX3_init_14 : List UInt8 := dkwX3_init_14 ++ dktX3_init_15
def dkwX3_init_13 : List UInt8 := [188, 10, 181, 0, 109, 42, 16, 16, 188, 10, 181, 0, 112, 42, 16, 16, 188, 10, 181, 0, 115, 42]
abbrev dktX3_init_13 : List UInt8 := dkwX3_init_13 ++ dktX3_init_14
def dkwX3_init_12 : List UInt8 := [181, 0, 100, 42, 17, 6, 164, 188, 10, 181, 0, 103, 42, 4, 188, 10, 181, 0, 106, 42, 17, 2, 113]
abbrev dktX3_init_12 : List UInt8 := dkwX3_init_12 ++ dktX3_init_13
def dkwX3_init_11 : List UInt8 := [17, 1, 146, 188, 10, 181, 0, 93, 42, 16, 12, 188, 11, 181, 0, 96, 42, 17, 1, 44, 188, 11]
abbrev dktX3_init_11 : List UInt8 := dkwX3_init_11 ++ dktX3_init_12
def dkwX3_init_10 : List UInt8 := [188, 10, 181, 0, 84, 42, 16, 72, 188, 10, 181, 0, 87, 42, 16, 72, 188, 10, 181, 0, 90, 42]
abbrev dktX3_init_10 : List UInt8 := dkwX3_init_10 ++ dktX3_init_11
def dkwX3_init_9 : List UInt8 := [181, 0, 75, 42, 17, 7, 8, 188, 10, 181, 0, 78, 42, 16, 6, 188, 10, 181, 0, 81, 42, 16, 72]
abbrev dktX3_init_9 : List UInt8 := dkwX3_init_9 ++ dktX3_init_10
def dkwX3_init_8 : List UInt8 := [181, 0, 64, 42, 16, 12, 181, 0, 67, 42, 17, 1, 144, 188, 8, 181, 0, 71, 42, 17, 7, 8, 188, 10]
abbrev dktX3_init_8 : List UInt8 := dkwX3_init_8 ++ dktX3_init_9
def dkwX3_init_7 : List UInt8 := [181, 0, 55, 42, 16, 12, 188, 10, 181, 0, 58, 42, 16, 12, 188, 10, 181, 0, 61, 42, 16, 36, 188, 10]
abbrev dktX3_init_7 : List UInt8 := dkwX3_init_7 ++ dktX3_init_8
def dkwX3_init_6 : List UInt8 := [188, 10, 181, 0, 46, 42, 7, 188, 10, 181, 0, 49, 42, 8, 188, 10, 181, 0, 52, 42, 8, 188, 10]
abbrev dktX3_init_6 : List UInt8 := dkwX3_init_6 ++ dktX3_init_7
def dkwX3_init_5 : List UInt8 := [16, 10, 188, 10, 181, 0, 37, 42, 16, 10, 188, 10, 181, 0, 40, 42, 8, 188, 10, 181, 0, 43, 42, 8]
abbrev dktX3_init_5 : List UInt8 := dkwX3_init_5 ++ dktX3_init_6
def dkwX3_init_4 : List UInt8 := [16, 12, 188, 10, 181, 0, 28, 42, 16, 36, 188, 10, 181, 0, 31, 42, 16, 10, 188, 10, 181, 0, 34, 42]
abbrev dktX3_init_4 : List UInt8 := dkwX3_init_4 ++ dktX3_init_5
def dkwX3_init_3 : List UInt8 := [16, 36, 188, 10, 181, 0, 19, 42, 16, 36, 188, 10, 181, 0, 22, 42, 16, 12, 188, 10, 181, 0, 25, 42]
abbrev dktX3_init_3 : List UInt8 := dkwX3_init_3 ++ dktX3_init_4
def dkwX3_init_2 : List UInt8 := [89, 16, 9, 2, 79, 181, 0, 9, 42, 8, 188, 10, 181, 0, 13, 42, 8, 188, 10, 181, 0, 16, 42]
abbrev dktX3_init_2 : List UInt8 := dkwX3_init_2 ++ dktX3_init_3
def dkwX3_init_1 : List UInt8 := [79, 89, 7, 3, 79, 89, 8, 3, 79, 89, 16, 6, 3, 79, 89, 16, 7, 3, 79, 89, 16, 8, 3, 79]
abbrev dktX3_init_1 : List UInt8 := dkwX3_init_1 ++ dktX3_init_2
def dkwX3_init_0 : List UInt8 := [42, 183, 0, 3, 42, 16, 10, 188, 10, 89, 3, 3, 79, 89, 4, 3, 79, 89, 5, 3, 79, 89, 6, 3]
abbrev dktX3_init_0 : List UInt8 := dkwX3_init_0 ++ dktX3_init_1
theorem dksX3_init_0 : cX3_init.data.toList.drop 0 = dktX3_init_0 := by decide +kernel
theorem dksX3_init_1 : cX3_init.data.toList.drop 24 = dktX3_init_1 := dk_seg dksX3_init_0 24 rfl rfl
theorem dksX3_init_2 : cX3_init.data.toList.drop 48 = dktX3_init_2 := dk_seg dksX3_init_1 24 rfl rfl
theorem dksX3_init_3 : cX3_init.data.toList.drop 71 = dktX3_init_3 := dk_seg dksX3_init_2 23 rfl rfl
theorem dksX3_init_4 : cX3_init.data.toList.drop 95 = dktX3_init_4 := dk_seg dksX3_init_3 24 rfl rfl
theorem dksX3_init_5 : cX3_init.data.toList.drop 119 = dktX3_init_5 := dk_seg dksX3_init_4 24 rfl rfl
theorem dksX3_init_6 : cX3_init.data.toList.drop 143 = dktX3_init_6 := dk_seg dksX3_init_5 24 rfl rfl
theorem dksX3_init_7 : cX3_init.data.toList.drop 166 = dktX3_init_7 := dk_seg dksX3_init_6 23 rfl rfl
theorem dksX3_init_8 : cX3_init.data.toList.drop 190 = dktX3_init_8 := dk_seg dksX3_init_7 24 rfl rfl
theorem dksX3_init_9 : cX3_init.data.toList.drop 214 = dktX3_init_9 := dk_seg dksX3_init_8 24 rfl rfl
theorem dksX3_init_10 : cX3_init.data.toList.drop 237 = dktX3_init_10 := dk_seg dksX3_init_9 23 rfl rfl
theorem dksX3_init_11 : cX3_init.data.toList.drop 259 = dktX3_init_11 := dk_seg dksX3_init_10 22 rfl rfl
theorem dksX3_init_12 : cX3_init.data.toList.drop 281 = dktX3_init_12 := dk_seg dksX3_init_11 22 rfl rfl
theorem dksX3_init_13 : cX3_init.data.toList.drop 304 = dktX3_init_13 := dk_seg dksX3_init_12 23 rfl rfl
theorem dksX3_init_14 : cX3_init.data.toList.drop 326 = dktX3_init_14 := dk_seg dksX3_init_13 22 rfl rfl
theorem dksX3_init_15 : cX3_init.data.toList.drop 349 = dktX3_init_15 := dk_seg dksX3_init_14 23 rfl rfl
theorem dX3_init_0 : decode cX3_init 0 = .ok (.aload_n 0, 1) := dk_42 (dk_at dksX3_init_0 0 rfl rfl)
theorem dX3_init_1 : decode cX3_init 1 = .ok (.invokespecial 3, 3) := dk_183 0 3 (dk_at dksX3_init_0 1 rfl rfl)
theorem dX3_init_4 : decode cX3_init 4 = .ok (.aload_n 0, 1) := dk_42 (dk_at dksX3_init_0 4 rfl rfl)
theorem dX3_init_5 : decode cX3_init 5 = .ok (.bipush 10, 2) := dk_16 10 (dk_at dksX3_init_0 5 rfl rfl)
theorem dX3_init_7 : decode cX3_init 7 = .ok (.newarray .int, 2) := dk_188_10 (dk_at dksX3_init_0 7 rfl rfl)
theorem dX3_init_9 : decode cX3_init 9 = .ok (.dup, 1) := dk_89 (dk_at dksX3_init_0 9 rfl rfl)
theorem dX3_init_10 : decode cX3_init 10 = .ok (.iconst 0, 1) := dk_3 (dk_at dksX3_init_0 10 rfl rfl)
theorem dX3_init_11 : decode cX3_init 11 = .ok (.iconst 0, 1) := dk_3 (dk_at dksX3_init_0 11 rfl rfl)
theorem dX3_init_12 : decode cX3_init 12 = .ok (.iastore, 1) := dk_79 (dk_at dksX3_init_0 12 rfl rfl)
theorem dX3_init_13 : decode cX3_init 13 = .ok (.dup, 1) := dk_89 (dk_at dksX3_init_0 13 rfl rfl)
theorem dX3_init_14 : decode cX3_init 14 = .ok (.iconst 1, 1) := dk_4 (dk_at dksX3_init_0 14 rfl rfl)
theorem dX3_init_15 : decode cX3_init 15 = .ok (.iconst 0, 1) := dk_3 (dk_at dksX3_init_0 15 rfl rfl)
theorem dX3_init_16 : decode cX3_init 16 = .ok (.iastore, 1) := dk_79 (dk_at dksX3_init_0 16 rfl rfl)
theorem dX3_init_17 : decode cX3_init 17 = .ok (.dup, 1) := dk_89 (dk_at dksX3_init_0 17 rfl rfl)
theorem dX3_init_18 : decode cX3_init 18 = .ok (.iconst 2, 1) := dk_5 (dk_at dksX3_init_0 18 rfl rfl)
theorem dX3_init_19 : decode cX3_init 19 = .ok (.iconst 0, 1) := dk_3 (dk_at dksX3_init_0 19 rfl rfl)
theorem dX3_init_20 : decode cX3_init 20 = .ok (.iastore, 1) := dk_79 (dk_at dksX3_init_0 20 rfl rfl)
theorem dX3_init_21 : decode cX3_init 21 = .ok (.dup, 1) := dk_89 (dk_at dksX3_init_0 21 rfl rfl)
theorem dX3_init_22 : decode cX3_init 22 = .ok (.iconst 3, 1) := dk_6 (dk_at dksX3_init_0 22 rfl rfl)
theorem dX3_init_23 : decode cX3_init 23 = .ok (.iconst 0, 1) := dk_3 (dk_at dksX3_init_0 23 rfl rfl)
theorem dX3_init_24 : decode cX3_init 24 = .ok (.iastore, 1) := dk_79 (dk_at dksX3_init_1 0 rfl rfl)
theorem dX3_init_25 : decode cX3_init 25 = .ok (.dup, 1) := dk_89 (dk_at dksX3_init_1 1 rfl rfl)
theorem dX3_init_26 : decode cX3_init 26 = .ok (.iconst 4, 1) := dk_7 (dk_at dksX3_init_1 2 rfl rfl)
theorem dX3_init_27 : decode cX3_init 27 = .ok (.iconst 0, 1) := dk_3 (dk_at dksX3_init_1 3 rfl rfl)
theorem dX3_init_28 : decode cX3_init 28 = .ok (.iastore, 1) := dk_79 (dk_at dksX3_init_1 4 rfl rfl)
theorem dX3_init_29 : decode cX3_init 29 = .ok (.dup, 1) := dk_89 (dk_at dksX3_init_1 5 rfl rfl)
theorem dX3_init_30 : decode cX3_init 30 = .ok (.iconst 5, 1) := dk_8 (dk_at dksX3_init_1 6 rfl rfl)
theorem dX3_init_31 : decode cX3_init 31 = .ok (.iconst 0, 1) := dk_3 (dk_at dksX3_init_1 7 rfl rfl)
theorem dX3_init_32 : decode cX3_init 32 = .ok (.iastore, 1) := dk_79 (dk_at dksX3_init_1 8 rfl rfl)
theorem dX3_init_33 : decode cX3_init 33 = .ok (.dup, 1) := dk_89 (dk_at dksX3_init_1 9 rfl rfl)
theorem dX3_init_34 : decode cX3_init 34 = .ok (.bipush 6, 2) := dk_16 6 (dk_at dksX3_init_1 10 rfl rfl)
theorem dX3_init_36 : decode cX3_init 36 = .ok (.iconst 0, 1) := dk_3 (dk_at dksX3_init_1 12 rfl rfl)
theorem dX3_init_37 : decode cX3_init 37 = .ok (.iastore, 1) := dk_79 (dk_at dksX3_init_1 13 rfl rfl)
theorem dX3_init_38 : decode cX3_init 38 = .ok (.dup, 1) := dk_89 (dk_at dksX3_init_1 14 rfl rfl)
theorem dX3_init_39 : decode cX3_init 39 = .ok (.bipush 7, 2) := dk_16 7 (dk_at dksX3_init_1 15 rfl rfl)
theorem dX3_init_41 : decode cX3_init 41 = .ok (.iconst 0, 1) := dk_3 (dk_at dksX3_init_1 17 rfl rfl)
theorem dX3_init_42 : decode cX3_init 42 = .ok (.iastore, 1) := dk_79 (dk_at dksX3_init_1 18 rfl rfl)
theorem dX3_init_43 : decode cX3_init 43 = .ok (.dup, 1) := dk_89 (dk_at dksX3_init_1 19 rfl rfl)
theorem dX3_init_44 : decode cX3_init 44 = .ok (.bipush 8, 2) := dk_16 8 (dk_at dksX3_init_1 20 rfl rfl)
theorem dX3_init_46 : decode cX3_init 46 = .ok (.iconst 0, 1) := dk_3 (dk_at dksX3_init_1 22 rfl rfl)
theorem dX3_init_47 : decode cX3_init 47 = .ok (.iastore, 1) := dk_79 (dk_at dksX3_init_1 23 rfl rfl)
theorem dX3_init_48 : decode cX3_init 48 = .ok (.dup, 1) := dk_89 (dk_at dksX3_init_2 0 rfl rfl)
theorem dX3_init_49 : decode cX3_init 49 = .ok (.bipush 9, 2) := dk_16 9 (dk_at dksX3_init_2 1 rfl rfl)
theorem dX3_init_51 : decode cX3_init 51 = .ok (.iconst (-1), 1) := dk_2 (dk_at dksX3_init_2 3 rfl rfl)
theorem dX3_init_52 : decode cX3_init 52 = .ok (.iastore, 1) := dk_79 (dk_at dksX3_init_2 4 rfl rfl)
theorem dX3_init_53 : decode cX3_init 53 = .ok (.putfield 9, 3) := dk_181 0 9 (dk_at dksX3_init_2 5 rfl rfl)
theorem dX3_init_56 : decode cX3_init 56 = .ok (.aload_n 0, 1) := dk_42 (dk_at dksX3_init_2 8 rfl rfl)
theorem dX3_init_57 : decode cX3_init 57 = .ok (.iconst 5, 1) := dk_8 (dk_at dksX3_init_2 9 rfl rfl)
theorem dX3_init_58 : decode cX3_init 58 = .ok (.newarray .int, 2) := dk_188_10 (dk_at dksX3_init_2 10 rfl rfl)
theorem dX3_init_60 : decode cX3_init 60 = .ok (.putfield 13, 3) := dk_181 0 13 (dk_at dksX3_init_2 12 rfl rfl)
theorem dX3_init_63 : decode cX3_init 63 = .ok (.aload_n 0, 1) := dk_42 (dk_at dksX3_init_2 15 rfl rfl)
theorem dX3_init_64 : decode cX3_init 64 = .ok (.iconst 5, 1) := dk_8 (dk_at dksX3_init_2 16 rfl rfl)
theorem dX3_init_65 : decode cX3_init 65 = .ok (.newarray .int, 2) := dk_188_10 (dk_at dksX3_init_2 17 rfl rfl)
theorem dX3_init_67 : decode cX3_init 67 = .ok (.putfield 16, 3) := dk_181 0 16 (dk_at dksX3_init_2 19 rfl rfl)
theorem dX3_init_70 : decode cX3_init 70 = .ok (.aload_n 0, 1) := dk_42 (dk_at dksX3_init_2 22 rfl rfl)
theorem dX3_init_71 : decode cX3_init 71 = .ok (.bipush 36, 2) := dk_16 36 (dk_at dksX3_init_3 0 rfl rfl)
theorem dX3_init_73 : decode cX3_init 73 = .ok (.newarray .int, 2) := dk_188_10 (dk_at dksX3_init_3 2 rfl rfl)
theorem dX3_init_75 : decode cX3_init 75 = .ok (.putfield 19, 3) := dk_181 0 19 (dk_at dksX3_init_3 4 rfl rfl)
theorem dX3_init_78 : decode cX3_init 78 = .ok (.aload_n 0, 1) := dk_42 (dk_at dksX3_init_3 7 rfl rfl)
theorem dX3_init_79 : decode cX3_init 79 = .ok (.bipush 36, 2) := dk_16 36 (dk_at dksX3_init_3 8 rfl rfl)
theorem dX3_init_81 : decode cX3_init 81 = .ok (.newarray .int, 2) := dk_188_10 (dk_at dksX3_init_3 10 rfl rfl)
theorem dX3_init_83 : decode cX3_init 83 = .ok (.putfield 22, 3) := dk_181 0 22 (dk_at dksX3_init_3 12 rfl rfl)
theorem dX3_init_86 : decode cX3_init 86 = .ok (.aload_n 0, 1) := dk_42 (dk_at dksX3_init_3 15 rfl rfl)
theorem dX3_init_87 : decode cX3_init 87 = .ok (.bipush 12, 2) := dk_16 12 (dk_at dksX3_init_3 16 rfl rfl)
theorem dX3_init_89 : decode cX3_init 89 = .ok (.newarray .int, 2) := dk_188_10 (dk_at dksX3_init_3 18 rfl rfl)
theorem dX3_init_91 : decode cX3_init 91 = .ok (.putfield 25, 3) := dk_181 0 25 (dk_at dksX3_init_3 20 rfl rfl)
theorem dX3_init_94 : decode cX3_init 94 = .ok (.aload_n 0, 1) := dk_42 (dk_at dksX3_init_3 23 rfl rfl)
theorem dX3_init_95 : decode cX3_init 95 = .ok (.bipush 12, 2) := dk_16 12 (dk_at dksX3_init_4 0 rfl rfl)
theorem dX3_init_97 : decode cX3_init 97 = .ok (.newarray .int, 2) := dk_188_10 (dk_at dksX3_init_4 2 rfl rfl)
theorem dX3_init_99 : decode cX3_init 99 = .ok (.putfield 28, 3) := dk_181 0 28 (dk_at dksX3_init_4 4 rfl rfl)
theorem dX3_init_102 : decode cX3_init 102 = .ok (.aload_n 0, 1) := dk_42 (dk_at dksX3_init_4 7 rfl rfl)
theorem dX3_init_103 : decode cX3_init 103 = .ok (.bipush 36, 2) := dk_16 36 (dk_at dksX3_init_4 8 rfl rfl)
theorem dX3_init_105 : decode cX3_init 105 = .ok (.newarray .int, 2) := dk_188_10 (dk_at dksX3_init_4 10 rfl rfl)
theorem dX3_init_107 : decode cX3_init 107 = .ok (.putfield 31, 3) := dk_181 0 31 (dk_at dksX3_init_4 12 rfl rfl)
theorem dX3_init_110 : decode cX3_init 110 = .ok (.aload_n 0, 1) := dk_42 (dk_at dksX3_init_4 15 rfl rfl)
theorem dX3_init_111 : decode cX3_init 111 = .ok (.bipush 10, 2) := dk_16 10 (dk_at dksX3_init_4 16 rfl rfl)
theorem dX3_init_113 : decode cX3_init 113 = .ok (.newarray .int, 2) := dk_188_10 (dk_at dksX3_init_4 18 rfl rfl)
theorem dX3_init_115 : decode cX3_init 115 = .ok (.putfield 34, 3) := dk_181 0 34 (dk_at dksX3_init_4 20 rfl rfl)
theorem dX3_init_118 : decode cX3_init 118 = .ok (.aload_n 0, 1) := dk_42 (dk_at dksX3_init_4 23 rfl rfl)
theorem dX3_init_119 : decode cX3_init 119 = .ok (.bipush 10, 2) := dk_16 10 (dk_at dksX3_init_5 0 rfl rfl)
theorem dX3_init_121 : decode cX3_init 121 = .ok (.newarray .int, 2) := dk_188_10 (dk_at dksX3_init_5 2 rfl rfl)
theorem dX3_init_123 : decode cX3_init 123 = .ok (.putfield 37, 3) := dk_181 0 37 (dk_at dksX3_init_5 4 rfl rfl)
theorem dX3_init_126 : decode cX3_init 126 = .ok (.aload_n 0, 1) := dk_42 (dk_at dksX3_init_5 7 rfl rfl)
theorem dX3_init_127 : decode cX3_init 127 = .ok (.bipush 10, 2) := dk_16 10 (dk_at dksX3_init_5 8 rfl rfl)
theorem dX3_init_129 : decode cX3_init 129 = .ok (.newarray .int, 2) := dk_188_10 (dk_at dksX3_init_5 10 rfl rfl)
theorem dX3_init_131 : decode cX3_init 131 = .ok (.putfield 40, 3) := dk_181 0 40 (dk_at dksX3_init_5 12 rfl rfl)
theorem dX3_init_134 : decode cX3_init 134 = .ok (.aload_n 0, 1) := dk_42 (dk_at dksX3_init_5 15 rfl rfl)
theorem dX3_init_135 : decode cX3_init 135 = .ok (.iconst 5, 1) := dk_8 (dk_at dksX3_init_5 16 rfl rfl)
theorem dX3_init_136 : decode cX3_init 136 = .ok (.newarray .int, 2) := dk_188_10 (dk_at dksX3_init_5 17 rfl rfl)
theorem dX3_init_138 : decode cX3_init 138 = .ok (.putfield 43, 3) := dk_181 0 43 (dk_at dksX3_init_5 19 rfl rfl)
theorem dX3_init_141 : decode cX3_init 141 = .ok (.aload_n 0, 1) := dk_42 (dk_at dksX3_init_5 22 rfl rfl)
theorem dX3_init_142 : decode cX3_init 142 = .ok (.iconst 5, 1) := dk_8 (dk_at dksX3_init_5 23 rfl rfl)
theorem dX3_init_143 : decode cX3_init 143 = .ok (.newarray .int, 2) := dk_188_10 (dk_at dksX3_init_6 0 rfl rfl)
theorem dX3_init_145 : decode cX3_init 145 = .ok (.putfield 46, 3) := dk_181 0 46 (dk_at dksX3_init_6 2 rfl rfl)
theorem dX3_init_148 : decode cX3_init 148 = .ok (.aload_n 0, 1) := dk_42 (dk_at dksX3_init_6 5 rfl rfl)
theorem dX3_init_149 : decode cX3_init 149 = .ok (.iconst 4, 1) := dk_7 (dk_at dksX3_init_6 6 rfl rfl)
theorem dX3_init_150 : decode cX3_init 150 = .ok (.newarray .int, 2) := dk_188_10 (dk_at dksX3_init_6 7 rfl rfl)
theorem dX3_init_152 : decode cX3_init 152 = .ok (.putfield 49, 3) := dk_181 0 49 (dk_at dksX3_init_6 9 rfl rfl)
theorem dX3_init_155 : decode cX3_init 155 = .ok (.aload_n 0, 1) := dk_42 (dk_at dksX3_init_6 12 rfl rfl)
theorem dX3_init_156 : decode cX3_init 156 = .ok (.iconst 5, 1) := dk_8 (dk_at dksX3_init_6 13 rfl rfl)
theorem dX3_init_157 : decode cX3_init 157 = .ok (.newarray .int, 2) := dk_188_10 (dk_at dksX3_init_6 14 rfl rfl)
theorem dX3_init_159 : decode cX3_init 159 = .ok (.putfield 52, 3) := dk_181 0 52 (dk_at dksX3_init_6 16 rfl rfl)
theorem dX3_init_162 : decode cX3_init 162 = .ok (.aload_n 0, 1) := dk_42 (dk_at dksX3_init_6 19 rfl rfl)
theorem dX3_init_163 : decode cX3_init 163 = .ok (.iconst 5, 1) := dk_8 (dk_at dksX3_init_6 20 rfl rfl)
theorem dX3_init_164 : decode cX3_init 164 = .ok (.newarray .int, 2) := dk_188_10 (dk_at dksX3_init_6 21 rfl rfl)
theorem dX3_init_166 : decode cX3_init 166 = .ok (.putfield 55, 3) := dk_181 0 55 (dk_at dksX3_init_7 0 rfl rfl)
theorem dX3_init_169 : decode cX3_init 169 = .ok (.aload_n 0, 1) := dk_42 (dk_at dksX3_init_7 3 rfl rfl)
theorem dX3_init_170 : decode cX3_init 170 = .ok (.bipush 12, 2) := dk_16 12 (dk_at dksX3_init_7 4 rfl rfl)
theorem dX3_init_172 : decode cX3_init 172 = .ok (.newarray .int, 2) := dk_188_10 (dk_at dksX3_init_7 6 rfl rfl)
theorem dX3_init_174 : decode cX3_init 174 = .ok (.putfield 58, 3) := dk_181 0 58 (dk_at dksX3_init_7 8 rfl rfl)
theorem dX3_init_177 : decode cX3_init 177 = .ok (.aload_n 0, 1) := dk_42 (dk_at dksX3_init_7 11 rfl rfl)
theorem dX3_init_178 : decode cX3_init 178 = .ok (.bipush 12, 2) := dk_16 12 (dk_at dksX3_init_7 12 rfl rfl)
theorem dX3_init_180 : decode cX3_init 180 = .ok (.newarray .int, 2) := dk_188_10 (dk_at dksX3_init_7 14 rfl rfl)
theorem dX3_init_182 : decode cX3_init 182 = .ok (.putfield 61, 3) := dk_181 0 61 (dk_at dksX3_init_7 16 rfl rfl)
theorem dX3_init_185 : decode cX3_init 185 = .ok (.aload_n 0, 1) := dk_42 (dk_at dksX3_init_7 19 rfl rfl)
theorem dX3_init_186 : decode cX3_init 186 = .ok (.bipush 36, 2) := dk_16 36 (dk_at dksX3_init_7 20 rfl rfl)
theorem dX3_init_188 : decode cX3_init 188 = .ok (.newarray .int, 2) := dk_188_10 (dk_at dksX3_init_7 22 rfl rfl)
theorem dX3_init_190 : decode cX3_init 190 = .ok (.putfield 64, 3) := dk_181 0 64 (dk_at dksX3_init_8 0 rfl rfl)
theorem dX3_init_193 : decode cX3_init 193 = .ok (.aload_n 0, 1) := dk_42 (dk_at dksX3_init_8 3 rfl rfl)
theorem dX3_init_194 : decode cX3_init 194 = .ok (.bipush 12, 2) := dk_16 12 (dk_at dksX3_init_8 4 rfl rfl)
theorem dX3_init_196 : decode cX3_init 196 = .ok (.putfield 67, 3) := dk_181 0 67 (dk_at dksX3_init_8 6 rfl rfl)
theorem dX3_init_199 : decode cX3_init 199 = .ok (.aload_n 0, 1) := dk_42 (dk_at dksX3_init_8 9 rfl rfl)
theorem dX3_init_200 : decode cX3_init 200 = .ok (.sipush 400, 3) := dk_17 1 144 (dk_at dksX3_init_8 10 rfl rfl)
theorem dX3_init_203 : decode cX3_init 203 = .ok (.newarray .byte, 2) := dk_188_8 (dk_at dksX3_init_8 13 rfl rfl)
theorem dX3_init_205 : decode cX3_init 205 = .ok (.putfield 71, 3) := dk_181 0 71 (dk_at dksX3_init_8 15 rfl rfl)
theorem dX3_init_208 : decode cX3_init 208 = .ok (.aload_n 0, 1) := dk_42 (dk_at dksX3_init_8 18 rfl rfl)
theorem dX3_init_209 : decode cX3_init 209 = .ok (.sipush 1800, 3) := dk_17 7 8 (dk_at dksX3_init_8 19 rfl rfl)
theorem dX3_init_212 : decode cX3_init 212 = .ok (.newarray .int, 2) := dk_188_10 (dk_at dksX3_init_8 22 rfl rfl)
theorem dX3_init_214 : decode cX3_init 214 = .ok (.putfield 75, 3) := dk_181 0 75 (dk_at dksX3_init_9 0 rfl rfl)
theorem dX3_init_217 : decode cX3_init 217 = .ok (.aload_n 0, 1) := dk_42 (dk_at dksX3_init_9 3 rfl rfl)
theorem dX3_init_218 : decode cX3_init 218 = .ok (.sipush 1800, 3) := dk_17 7 8 (dk_at dksX3_init_9 4 rfl rfl)
theorem dX3_init_221 : decode cX3_init 221 = .ok (.newarray .int, 2) := dk_188_10 (dk_at dksX3_init_9 7 rfl rfl)
theorem dX3_init_223 : decode cX3_init 223 = .ok (.putfield 78, 3) := dk_181 0 78 (dk_at dksX3_init_9 9 rfl rfl)
theorem dX3_init_226 : decode cX3_init 226 = .ok (.aload_n 0, 1) := dk_42 (dk_at dksX3_init_9 12 rfl rfl)
theorem dX3_init_227 : decode cX3_init 227 = .ok (.bipush 6, 2) := dk_16 6 (dk_at dksX3_init_9 13 rfl rfl)
theorem dX3_init_229 : decode cX3_init 229 = .ok (.newarray .int, 2) := dk_188_10 (dk_at dksX3_init_9 15 rfl rfl)
theorem dX3_init_231 : decode cX3_init 231 = .ok (.putfield 81, 3) := dk_181 0 81 (dk_at dksX3_init_9 17 rfl rfl)
theorem dX3_init_234 : decode cX3_init 234 = .ok (.aload_n 0, 1) := dk_42 (dk_at dksX3_init_9 20 rfl rfl)
theorem dX3_init_235 : decode cX3_init 235 = .ok (.bipush 72, 2) := dk_16 72 (dk_at dksX3_init_9 21 rfl rfl)
theorem dX3_init_237 : decode cX3_init 237 = .ok (.newarray .int, 2) := dk_188_10 (dk_at dksX3_init_10 0 rfl rfl)
theorem dX3_init_239 : decode cX3_init 239 = .ok (.putfield 84, 3) := dk_181 0 84 (dk_at dksX3_init_10 2 rfl rfl)
theorem dX3_init_242 : decode cX3_init 242 = .ok (.aload_n 0, 1) := dk_42 (dk_at dksX3_init_10 5 rfl rfl)
theorem dX3_init_243 : decode cX3_init 243 = .ok (.bipush 72, 2) := dk_16 72 (dk_at dksX3_init_10 6 rfl rfl)
theorem dX3_init_245 : decode cX3_init 245 = .ok (.newarray .int, 2) := dk_188_10 (dk_at dksX3_init_10 8 rfl rfl)
theorem dX3_init_247 : decode cX3_init 247 = .ok (.putfield 87, 3) := dk_181 0 87 (dk_at dksX3_init_10 10 rfl rfl)
theorem dX3_init_250 : decode cX3_init 250 = .ok (.aload_n 0, 1) := dk_42 (dk_at dksX3_init_10 13 rfl rfl)
theorem dX3_init_251 : decode cX3_init 251 = .ok (.bipush 72, 2) := dk_16 72 (dk_at dksX3_init_10 14 rfl rfl)
theorem dX3_init_253 : decode cX3_init 253 = .ok (.newarray .int, 2) := dk_188_10 (dk_at dksX3_init_10 16 rfl rfl)
theorem dX3_init_255 : decode cX3_init 255 = .ok (.putfield 90, 3) := dk_181 0 90 (dk_at dksX3_init_10 18 rfl rfl)
theorem dX3_init_258 : decode cX3_init 258 = .ok (.aload_n 0, 1) := dk_42 (dk_at dksX3_init_10 21 rfl rfl)
theorem dX3_init_259 : decode cX3_init 259 = .ok (.sipush 402, 3) := dk_17 1 146 (dk_at dksX3_init_11 0 rfl rfl)
theorem dX3_init_262 : decode cX3_init 262 = .ok (.newarray .int, 2) := dk_188_10 (dk_at dksX3_init_11 3 rfl rfl)
theorem dX3_init_264 : decode cX3_init 264 = .ok (.putfield 93, 3) := dk_181 0 93 (dk_at dksX3_init_11 5 rfl rfl)
theorem dX3_init_267 : decode cX3_init 267 = .ok (.aload_n 0, 1) := dk_42 (dk_at dksX3_init_11 8 rfl rfl)
theorem dX3_init_268 : decode cX3_init 268 = .ok (.bipush 12, 2) := dk_16 12 (dk_at dksX3_init_11 9 rfl rfl)
theorem dX3_init_270 : decode cX3_init 270 = .ok (.newarray .long, 2) := dk_188_11 (dk_at dksX3_init_11 11 rfl rfl)
theorem dX3_init_272 : decode cX3_init 272 = .ok (.putfield 96, 3) := dk_181 0 96 (dk_at dksX3_init_11 13 rfl rfl)
theorem dX3_init_275 : decode cX3_init 275 = .ok (.aload_n 0, 1) := dk_42 (dk_at dksX3_init_11 16 rfl rfl)
theorem dX3_init_276 : decode cX3_init 276 = .ok (.sipush 300, 3) := dk_17 1 44 (dk_at dksX3_init_11 17 rfl rfl)
theorem dX3_init_279 : decode cX3_init 279 = .ok (.newarray .long, 2) := dk_188_11 (dk_at dksX3_init_11 20 rfl rfl)
theorem dX3_init_281 : decode cX3_init 281 = .ok (.putfield 100, 3) := dk_181 0 100 (dk_at dksX3_init_12 0 rfl rfl)
theorem dX3_init_284 : decode cX3_init 284 = .ok (.aload_n 0, 1) := dk_42 (dk_at dksX3_init_12 3 rfl rfl)
theorem dX3_init_285 : decode cX3_init 285 = .ok (.sipush 1700, 3) := dk_17 6 164 (dk_at dksX3_init_12 4 rfl rfl)
theorem dX3_init_288 : decode cX3_init 288 = .ok (.newarray .int, 2) := dk_188_10 (dk_at dksX3_init_12 7 rfl rfl)
theorem dX3_init_290 : decode cX3_init 290 = .ok (.putfield 103, 3) := dk_181 0 103 (dk_at dksX3_init_12 9 rfl rfl)
theorem dX3_init_293 : decode cX3_init 293 = .ok (.aload_n 0, 1) := dk_42 (dk_at dksX3_init_12 12 rfl rfl)
theorem dX3_init_294 : decode cX3_init 294 = .ok (.iconst 1, 1) := dk_4 (dk_at dksX3_init_12 13 rfl rfl)
theorem dX3_init_295 : decode cX3_init 295 = .ok (.newarray .int, 2) := dk_188_10 (dk_at dksX3_init_12 14 rfl rfl)
theorem dX3_init_297 : decode cX3_init 297 = .ok (.putfield 106, 3) := dk_181 0 106 (dk_at dksX3_init_12 16 rfl rfl)
theorem dX3_init_300 : decode cX3_init 300 = .ok (.aload_n 0, 1) := dk_42 (dk_at dksX3_init_12 19 rfl rfl)
theorem dX3_init_301 : decode cX3_init 301 = .ok (.sipush 625, 3) := dk_17 2 113 (dk_at dksX3_init_12 20 rfl rfl)
theorem dX3_init_304 : decode cX3_init 304 = .ok (.newarray .int, 2) := dk_188_10 (dk_at dksX3_init_13 0 rfl rfl)
theorem dX3_init_306 : decode cX3_init 306 = .ok (.putfield 109, 3) := dk_181 0 109 (dk_at dksX3_init_13 2 rfl rfl)
theorem dX3_init_309 : decode cX3_init 309 = .ok (.aload_n 0, 1) := dk_42 (dk_at dksX3_init_13 5 rfl rfl)
theorem dX3_init_310 : decode cX3_init 310 = .ok (.bipush 16, 2) := dk_16 16 (dk_at dksX3_init_13 6 rfl rfl)
theorem dX3_init_312 : decode cX3_init 312 = .ok (.newarray .int, 2) := dk_188_10 (dk_at dksX3_init_13 8 rfl rfl)
theorem dX3_init_314 : decode cX3_init 314 = .ok (.putfield 112, 3) := dk_181 0 112 (dk_at dksX3_init_13 10 rfl rfl)
theorem dX3_init_317 : decode cX3_init 317 = .ok (.aload_n 0, 1) := dk_42 (dk_at dksX3_init_13 13 rfl rfl)
theorem dX3_init_318 : decode cX3_init 318 = .ok (.bipush 16, 2) := dk_16 16 (dk_at dksX3_init_13 14 rfl rfl)
theorem dX3_init_320 : decode cX3_init 320 = .ok (.newarray .int, 2) := dk_188_10 (dk_at dksX3_init_13 16 rfl rfl)
theorem dX3_init_322 : decode cX3_init 322 = .ok (.putfield 115, 3) := dk_181 0 115 (dk_at dksX3_init_13 18 rfl rfl)
theorem dX3_init_325 : decode cX3_init 325 = .ok (.aload_n 0, 1) := dk_42 (dk_at dksX3_init_13 21 rfl rfl)
theorem dX3_init_326 : decode cX3_init 326 = .ok (.sipush 252, 3) := dk_17 0 252 (dk_at dksX3_init_14 0 rfl rfl)
theorem dX3_init_329 : decode cX3_init 329 = .ok (.newarray .int, 2) := dk_188_10 (dk_at dksX3_init_14 3 rfl rfl)
theorem dX3_init_331 : decode cX3_init 331 = .ok (.putfield 118, 3) := dk_181 0 118 (dk_at dksX3_init_14 5 rfl rfl)
theorem dX3_init_334 : decode cX3_init 334 = .ok (.aload_n 0, 1) := dk_42 (dk_at dksX3_init_14 8 rfl rfl)
theorem dX3_init_335 : decode cX3_init 335 = .ok (.sipush 2196, 3) := dk_17 8 148 (dk_at dksX3_init_14 9 rfl rfl)
theorem dX3_init_338 : decode cX3_init 338 = .ok (.newarray .int, 2) := dk_188_10 (dk_at dksX3_init_14 12 rfl rfl)
theorem dX3_init_340 : decode cX3_init 340 = .ok (.putfield 121, 3) := dk_181 0 121 (dk_at dksX3_init_14 14 rfl rfl)
theorem dX3_init_343 : decode cX3_init 343 = .ok (.aload_n 0, 1) := dk_42 (dk_at dksX3_init_14 17 rfl rfl)
theorem dX3_init_344 : decode cX3_init 344 = .ok (.sipush 10000, 3) := dk_17 39 16 (dk_at dksX3_init_14 18 rfl rfl)
theorem dX3_init_347 : decode cX3_init 347 = .ok (.newarray .int, 2) := dk_188_10 (dk_at dksX3_init_14 21 rfl rfl)
theorem dX3_init_349 : decode cX3_init 349 = .ok (.putfield 124, 3) := dk_181 0 124 (dk_at dksX3_init_15 0 rfl rfl)
theorem dX3_init_352 : decode cX3_init 352 = .ok (.aload_n 0, 1) := dk_42 (dk_at dksX3_init_15 3 rfl rfl)
theorem dX3_init_353 : decode cX3_init 353 = .ok (.iconst 4, 1) := dk_7 (dk_at dksX3_init_15 4 rfl rfl)
theorem dX3_init_354 : decode cX3_init 354 = .ok (.newarray .boolean, 2) := dk_188_4 (dk_at dksX3_init_15 5 rfl rfl)
theorem dX3_init_356 : decode cX3_init 356 = .ok (.putfield 127, 3) := dk_181 0 127 (dk_at dksX3_init_15 7 rfl rfl)
theorem dX3_init_359 : decode cX3_init 359 = .ok (.return_, 1) := dk_177 (dk_at dksX3_init_15 10 rfl rfl)
abbrev cX3_feed : ByteArray := prog_17_method_10_code
def yX3_feed : MethodName := ⟨RX3, "feed", "(IIIII)I"⟩
def dkwX3_feed_2 : List UInt8 := [172]
abbrev dktX3_feed_2 : List UInt8 := dkwX3_feed_2 ++ []
def dkwX3_feed_1 : List UInt8 := [182, 0, 145, 42, 29, 182, 0, 145, 42, 21, 4, 182, 0, 145, 42, 21, 5, 182, 0, 145, 42, 180, 0, 142]
abbrev dktX3_feed_1 : List UInt8 := dkwX3_feed_1 ++ dktX3_feed_2
def dkwX3_feed_0 : List UInt8 := [42, 180, 0, 142, 16, 20, 96, 17, 1, 144, 164, 0, 5, 2, 172, 42, 27, 182, 0, 145, 42, 28]
abbrev dktX3_feed_0 : List UInt8 := dkwX3_feed_0 ++ dktX3_feed_1
theorem dksX3_feed_0 : cX3_feed.data.toList.drop 0 = dktX3_feed_0 := by decide +kernel
theorem dksX3_feed_1 : cX3_feed.data.toList.drop 22 = dktX3_feed_1 := dk_seg dksX3_feed_0 22 rfl rfl
theorem dksX3_feed_2 : cX3_feed.data.toList.drop 46 = dktX3_feed_2 := dk_seg dksX3_feed_1 24 rfl rfl
theorem dX3_feed_0 : decode cX3_feed 0 = .ok (.aload_n 0, 1) := dk_42 (dk_at dksX3_feed_0 0 rfl rfl)
theorem dX3_feed_1 : decode cX3_feed 1 = .ok (.getfield 142, 3) := dk_180 0 142 (dk_at dksX3_feed_0 1 rfl rfl)
theorem dX3_feed_4 : decode cX3_feed 4 = .ok (.bipush 20, 2) := dk_16 20 (dk_at dksX3_feed_0 4 rfl rfl)
theorem dX3_feed_6 : decode cX3_feed 6 = .ok (.iadd, 1) := dk_96 (dk_at dksX3_feed_0 6 rfl rfl)
theorem dX3_feed_7 : decode cX3_feed 7 = .ok (.sipush 400, 3) := dk_17 1 144 (dk_at dksX3_feed_0 7 rfl rfl)
theorem dX3_feed_10 : decode cX3_feed 10 = .ok (.if_icmp .le 5, 3) := dk_164 0 5 (dk_at dksX3_feed_0 10 rfl rfl)
theorem dX3_feed_13 : decode cX3_feed 13 = .ok (.iconst (-1), 1) := dk_2 (dk_at dksX3_feed_0 13 rfl rfl)
theorem dX3_feed_14 : decode cX3_feed 14 = .ok (.ireturn, 1) := dk_172 (dk_at dksX3_feed_0 14 rfl rfl)
theorem dX3_feed_15 : decode cX3_feed 15 = .ok (.aload_n 0, 1) := dk_42 (dk_at dksX3_feed_0 15 rfl rfl)
theorem dX3_feed_16 : decode cX3_feed 16 = .ok (.iload_n 1, 1) := dk_27 (dk_at dksX3_feed_0 16 rfl rfl)
theorem dX3_feed_17 : decode cX3_feed 17 = .ok (.invokevirtual 145, 3) := dk_182 0 145 (dk_at dksX3_feed_0 17 rfl rfl)
theorem dX3_feed_20 : decode cX3_feed 20 = .ok (.aload_n 0, 1) := dk_42 (dk_at dksX3_feed_0 20 rfl rfl)
theorem dX3_feed_21 : decode cX3_feed 21 = .ok (.iload_n 2, 1) := dk_28 (dk_at dksX3_feed_0 21 rfl rfl)
theorem dX3_feed_22 : decode cX3_feed 22 = .ok (.invokevirtual 145, 3) := dk_182 0 145 (dk_at dksX3_feed_1 0 rfl rfl)
theorem dX3_feed_25 : decode cX3_feed 25 = .ok (.aload_n 0, 1) := dk_42 (dk_at dksX3_feed_1 3 rfl rfl)
theorem dX3_feed_26 : decode cX3_feed 26 = .ok (.iload_n 3, 1) := dk_29 (dk_at dksX3_feed_1 4 rfl rfl)
theorem dX3_feed_27 : decode cX3_feed 27 = .ok (.invokevirtual 145, 3) := dk_182 0 145 (dk_at dksX3_feed_1 5 rfl rfl)
theorem dX3_feed_30 : decode cX3_feed 30 = .ok (.aload_n 0, 1) := dk_42 (dk_at dksX3_feed_1 8 rfl rfl)
theorem dX3_feed_31 : decode cX3_feed 31 = .ok (.iload 4, 2) := dk_21 4 (dk_at dksX3_feed_1 9 rfl rfl)
theorem dX3_feed_33 : decode cX3_feed 33 = .ok (.invokevirtual 145, 3) := dk_182 0 145 (dk_at dksX3_feed_1 11 rfl rfl)
theorem dX3_feed_36 : decode cX3_feed 36 = .ok (.aload_n 0, 1) := dk_42 (dk_at dksX3_feed_1 14 rfl rfl)
theorem dX3_feed_37 : decode cX3_feed 37 = .ok (.iload 5, 2) := dk_21 5 (dk_at dksX3_feed_1 15 rfl rfl)
theorem dX3_feed_39 : decode cX3_feed 39 = .ok (.invokevirtual 145, 3) := dk_182 0 145 (dk_at dksX3_feed_1 17 rfl rfl)
theorem dX3_feed_42 : decode cX3_feed 42 = .ok (.aload_n 0, 1) := dk_42 (dk_at dksX3_feed_1 20 rfl rfl)
theorem dX3_feed_43 : decode cX3_feed 43 = .ok (.getfield 142, 3) := dk_180 0 142 (dk_at dksX3_feed_1 21 rfl rfl)
theorem dX3_feed_46 : decode cX3_feed 46 = .ok (.ireturn, 1) := dk_172 (dk_at dksX3_feed_2 0 rfl rfl)
abbrev cX3_put : ByteArray := prog_17_method_11_code
def yX3_put : MethodName := ⟨RX3, "put", "(I)V"⟩
def dkwX3_put_1 : List UInt8 := [180, 0, 142, 4, 96, 181, 0, 142, 132, 2, 248, 167, 255, 226, 177]
abbrev dktX3_put_1 : List UInt8 := dkwX3_put_1 ++ []
def dkwX3_put_0 : List UInt8 := [16, 24, 61, 28, 155, 0, 32, 42, 180, 0, 71, 42, 180, 0, 142, 27, 28, 122, 145, 84, 42, 89]
abbrev dktX3_put_0 : List UInt8 := dkwX3_put_0 ++ dktX3_put_1
theorem dksX3_put_0 : cX3_put.data.toList.drop 0 = dktX3_put_0 := by decide +kernel
theorem dksX3_put_1 : cX3_put.data.toList.drop 22 = dktX3_put_1 := dk_seg dksX3_put_0 22 rfl rfl
theorem dX3_put_0 : decode cX3_put 0 = .ok (.bipush 24, 2) := dk_16 24 (dk_at dksX3_put_0 0 rfl rfl)
theorem dX3_put_2 : decode cX3_put 2 = .ok (.istore_n 2, 1) := dk_61 (dk_at dksX3_put_0 2 rfl rfl)
theorem dX3_put_3 : decode cX3_put 3 = .ok (.iload_n 2, 1) := dk_28 (dk_at dksX3_put_0 3 rfl rfl)
theorem dX3_put_4 : decode cX3_put 4 = .ok (.ifCond .lt 32, 3) := dk_155 0 32 (dk_at dksX3_put_0 4 rfl rfl)
theorem dX3_put_7 : decode cX3_put 7 = .ok (.aload_n 0, 1) := dk_42 (dk_at dksX3_put_0 7 rfl rfl)
theorem dX3_put_8 : decode cX3_put 8 = .ok (.getfield 71, 3) := dk_180 0 71 (dk_at dksX3_put_0 8 rfl rfl)
theorem dX3_put_11 : decode cX3_put 11 = .ok (.aload_n 0, 1) := dk_42 (dk_at dksX3_put_0 11 rfl rfl)
theorem dX3_put_12 : decode cX3_put 12 = .ok (.getfield 142, 3) := dk_180 0 142 (dk_at dksX3_put_0 12 rfl rfl)
theorem dX3_put_15 : decode cX3_put 15 = .ok (.iload_n 1, 1) := dk_27 (dk_at dksX3_put_0 15 rfl rfl)
theorem dX3_put_16 : decode cX3_put 16 = .ok (.iload_n 2, 1) := dk_28 (dk_at dksX3_put_0 16 rfl rfl)
theorem dX3_put_17 : decode cX3_put 17 = .ok (.ishr, 1) := dk_122 (dk_at dksX3_put_0 17 rfl rfl)
theorem dX3_put_18 : decode cX3_put 18 = .ok (.i2b, 1) := dk_145 (dk_at dksX3_put_0 18 rfl rfl)
theorem dX3_put_19 : decode cX3_put 19 = .ok (.bastore, 1) := dk_84 (dk_at dksX3_put_0 19 rfl rfl)
theorem dX3_put_20 : decode cX3_put 20 = .ok (.aload_n 0, 1) := dk_42 (dk_at dksX3_put_0 20 rfl rfl)
theorem dX3_put_21 : decode cX3_put 21 = .ok (.dup, 1) := dk_89 (dk_at dksX3_put_0 21 rfl rfl)
theorem dX3_put_22 : decode cX3_put 22 = .ok (.getfield 142, 3) := dk_180 0 142 (dk_at dksX3_put_1 0 rfl rfl)
theorem dX3_put_25 : decode cX3_put 25 = .ok (.iconst 1, 1) := dk_4 (dk_at dksX3_put_1 3 rfl rfl)
theorem dX3_put_26 : decode cX3_put 26 = .ok (.iadd, 1) := dk_96 (dk_at dksX3_put_1 4 rfl rfl)
theorem dX3_put_27 : decode cX3_put 27 = .ok (.putfield 142, 3) := dk_181 0 142 (dk_at dksX3_put_1 5 rfl rfl)
theorem dX3_put_30 : decode cX3_put 30 = .ok (.iinc 2 (-8), 3) := dk_132 2 248 (dk_at dksX3_put_1 8 rfl rfl)
theorem dX3_put_33 : decode cX3_put 33 = .ok (.goto (-30), 3) := dk_167 255 226 (dk_at dksX3_put_1 11 rfl rfl)
theorem dX3_put_36 : decode cX3_put 36 = .ok (.return_, 1) := dk_177 (dk_at dksX3_put_1 14 rfl rfl)
abbrev cX3_end : ByteArray := prog_17_method_12_code
def yX3_end : MethodName := ⟨RX3, "end", "(I)I"⟩
def dkwX3_end_0 : List UInt8 := [27, 155, 0, 11, 27, 42, 180, 0, 142, 164, 0, 5, 2, 172, 42, 27, 181, 0, 142, 27, 172]
abbrev dktX3_end_0 : List UInt8 := dkwX3_end_0 ++ []
theorem dksX3_end_0 : cX3_end.data.toList.drop 0 = dktX3_end_0 := by decide +kernel
theorem dX3_end_0 : decode cX3_end 0 = .ok (.iload_n 1, 1) := dk_27 (dk_at dksX3_end_0 0 rfl rfl)
theorem dX3_end_1 : decode cX3_end 1 = .ok (.ifCond .lt 11, 3) := dk_155 0 11 (dk_at dksX3_end_0 1 rfl rfl)
theorem dX3_end_4 : decode cX3_end 4 = .ok (.iload_n 1, 1) := dk_27 (dk_at dksX3_end_0 4 rfl rfl)
theorem dX3_end_5 : decode cX3_end 5 = .ok (.aload_n 0, 1) := dk_42 (dk_at dksX3_end_0 5 rfl rfl)
theorem dX3_end_6 : decode cX3_end 6 = .ok (.getfield 142, 3) := dk_180 0 142 (dk_at dksX3_end_0 6 rfl rfl)
theorem dX3_end_9 : decode cX3_end 9 = .ok (.if_icmp .le 5, 3) := dk_164 0 5 (dk_at dksX3_end_0 9 rfl rfl)
theorem dX3_end_12 : decode cX3_end 12 = .ok (.iconst (-1), 1) := dk_2 (dk_at dksX3_end_0 12 rfl rfl)
theorem dX3_end_13 : decode cX3_end 13 = .ok (.ireturn, 1) := dk_172 (dk_at dksX3_end_0 13 rfl rfl)
theorem dX3_end_14 : decode cX3_end 14 = .ok (.aload_n 0, 1) := dk_42 (dk_at dksX3_end_0 14 rfl rfl)
theorem dX3_end_15 : decode cX3_end 15 = .ok (.iload_n 1, 1) := dk_27 (dk_at dksX3_end_0 15 rfl rfl)
theorem dX3_end_16 : decode cX3_end 16 = .ok (.putfield 142, 3) := dk_181 0 142 (dk_at dksX3_end_0 16 rfl rfl)
theorem dX3_end_19 : decode cX3_end 19 = .ok (.iload_n 1, 1) := dk_27 (dk_at dksX3_end_0 19 rfl rfl)
theorem dX3_end_20 : decode cX3_end 20 = .ok (.ireturn, 1) := dk_172 (dk_at dksX3_end_0 20 rfl rfl)
abbrev cX3_sky : ByteArray := prog_17_method_42_code
def yX3_sky : MethodName := ⟨RX3, "sky", "()I"⟩
def dkwX3_sky_5 : List UInt8 := [181, 1, 49, 42, 180, 0, 9, 5, 46, 172]
abbrev dktX3_sky_5 : List UInt8 := dkwX3_sky_5 ++ []
def dkwX3_sky_4 : List UInt8 := [180, 0, 28, 184, 1, 39, 42, 180, 0, 64, 42, 180, 0, 31, 184, 1, 39, 42, 182, 1, 46, 42, 3]
abbrev dktX3_sky_4 : List UInt8 := dkwX3_sky_4 ++ dktX3_sky_5
def dkwX3_sky_3 : List UInt8 := [180, 0, 46, 184, 1, 39, 42, 180, 0, 58, 42, 180, 0, 25, 184, 1, 39, 42, 180, 0, 61, 42]
abbrev dktX3_sky_3 : List UInt8 := dkwX3_sky_3 ++ dktX3_sky_4
def dkwX3_sky_2 : List UInt8 := [180, 0, 9, 16, 7, 3, 79, 42, 180, 0, 52, 42, 180, 0, 43, 184, 1, 39, 42, 180, 0, 55, 42]
abbrev dktX3_sky_2 : List UInt8 := dkwX3_sky_2 ++ dktX3_sky_3
def dkwX3_sky_1 : List UInt8 := [162, 0, 21, 42, 180, 0, 9, 27, 42, 180, 0, 49, 27, 46, 79, 132, 1, 1, 167, 255, 236, 42]
abbrev dktX3_sky_1 : List UInt8 := dkwX3_sky_1 ++ dktX3_sky_2
def dkwX3_sky_0 : List UInt8 := [42, 182, 1, 43, 42, 180, 0, 171, 158, 0, 11, 16, 254, 42, 180, 0, 171, 100, 172, 3, 60, 27, 7]
abbrev dktX3_sky_0 : List UInt8 := dkwX3_sky_0 ++ dktX3_sky_1
theorem dksX3_sky_0 : cX3_sky.data.toList.drop 0 = dktX3_sky_0 := by decide +kernel
theorem dksX3_sky_1 : cX3_sky.data.toList.drop 23 = dktX3_sky_1 := dk_seg dksX3_sky_0 23 rfl rfl
theorem dksX3_sky_2 : cX3_sky.data.toList.drop 45 = dktX3_sky_2 := dk_seg dksX3_sky_1 22 rfl rfl
theorem dksX3_sky_3 : cX3_sky.data.toList.drop 68 = dktX3_sky_3 := dk_seg dksX3_sky_2 23 rfl rfl
theorem dksX3_sky_4 : cX3_sky.data.toList.drop 90 = dktX3_sky_4 := dk_seg dksX3_sky_3 22 rfl rfl
theorem dksX3_sky_5 : cX3_sky.data.toList.drop 113 = dktX3_sky_5 := dk_seg dksX3_sky_4 23 rfl rfl
theorem dX3_sky_0 : decode cX3_sky 0 = .ok (.aload_n 0, 1) := dk_42 (dk_at dksX3_sky_0 0 rfl rfl)
theorem dX3_sky_1 : decode cX3_sky 1 = .ok (.invokevirtual 299, 3) := dk_182 1 43 (dk_at dksX3_sky_0 1 rfl rfl)
theorem dX3_sky_4 : decode cX3_sky 4 = .ok (.aload_n 0, 1) := dk_42 (dk_at dksX3_sky_0 4 rfl rfl)
theorem dX3_sky_5 : decode cX3_sky 5 = .ok (.getfield 171, 3) := dk_180 0 171 (dk_at dksX3_sky_0 5 rfl rfl)
theorem dX3_sky_8 : decode cX3_sky 8 = .ok (.ifCond .le 11, 3) := dk_158 0 11 (dk_at dksX3_sky_0 8 rfl rfl)
theorem dX3_sky_11 : decode cX3_sky 11 = .ok (.bipush (-2), 2) := dk_16 254 (dk_at dksX3_sky_0 11 rfl rfl)
theorem dX3_sky_13 : decode cX3_sky 13 = .ok (.aload_n 0, 1) := dk_42 (dk_at dksX3_sky_0 13 rfl rfl)
theorem dX3_sky_14 : decode cX3_sky 14 = .ok (.getfield 171, 3) := dk_180 0 171 (dk_at dksX3_sky_0 14 rfl rfl)
theorem dX3_sky_17 : decode cX3_sky 17 = .ok (.isub, 1) := dk_100 (dk_at dksX3_sky_0 17 rfl rfl)
theorem dX3_sky_18 : decode cX3_sky 18 = .ok (.ireturn, 1) := dk_172 (dk_at dksX3_sky_0 18 rfl rfl)
theorem dX3_sky_19 : decode cX3_sky 19 = .ok (.iconst 0, 1) := dk_3 (dk_at dksX3_sky_0 19 rfl rfl)
theorem dX3_sky_20 : decode cX3_sky 20 = .ok (.istore_n 1, 1) := dk_60 (dk_at dksX3_sky_0 20 rfl rfl)
theorem dX3_sky_21 : decode cX3_sky 21 = .ok (.iload_n 1, 1) := dk_27 (dk_at dksX3_sky_0 21 rfl rfl)
theorem dX3_sky_22 : decode cX3_sky 22 = .ok (.iconst 4, 1) := dk_7 (dk_at dksX3_sky_0 22 rfl rfl)
theorem dX3_sky_23 : decode cX3_sky 23 = .ok (.if_icmp .ge 21, 3) := dk_162 0 21 (dk_at dksX3_sky_1 0 rfl rfl)
theorem dX3_sky_26 : decode cX3_sky 26 = .ok (.aload_n 0, 1) := dk_42 (dk_at dksX3_sky_1 3 rfl rfl)
theorem dX3_sky_27 : decode cX3_sky 27 = .ok (.getfield 9, 3) := dk_180 0 9 (dk_at dksX3_sky_1 4 rfl rfl)
theorem dX3_sky_30 : decode cX3_sky 30 = .ok (.iload_n 1, 1) := dk_27 (dk_at dksX3_sky_1 7 rfl rfl)
theorem dX3_sky_31 : decode cX3_sky 31 = .ok (.aload_n 0, 1) := dk_42 (dk_at dksX3_sky_1 8 rfl rfl)
theorem dX3_sky_32 : decode cX3_sky 32 = .ok (.getfield 49, 3) := dk_180 0 49 (dk_at dksX3_sky_1 9 rfl rfl)
theorem dX3_sky_35 : decode cX3_sky 35 = .ok (.iload_n 1, 1) := dk_27 (dk_at dksX3_sky_1 12 rfl rfl)
theorem dX3_sky_36 : decode cX3_sky 36 = .ok (.iaload, 1) := dk_46 (dk_at dksX3_sky_1 13 rfl rfl)
theorem dX3_sky_37 : decode cX3_sky 37 = .ok (.iastore, 1) := dk_79 (dk_at dksX3_sky_1 14 rfl rfl)
theorem dX3_sky_38 : decode cX3_sky 38 = .ok (.iinc 1 1, 3) := dk_132 1 1 (dk_at dksX3_sky_1 15 rfl rfl)
theorem dX3_sky_41 : decode cX3_sky 41 = .ok (.goto (-20), 3) := dk_167 255 236 (dk_at dksX3_sky_1 18 rfl rfl)
theorem dX3_sky_44 : decode cX3_sky 44 = .ok (.aload_n 0, 1) := dk_42 (dk_at dksX3_sky_1 21 rfl rfl)
theorem dX3_sky_45 : decode cX3_sky 45 = .ok (.getfield 9, 3) := dk_180 0 9 (dk_at dksX3_sky_2 0 rfl rfl)
theorem dX3_sky_48 : decode cX3_sky 48 = .ok (.bipush 7, 2) := dk_16 7 (dk_at dksX3_sky_2 3 rfl rfl)
theorem dX3_sky_50 : decode cX3_sky 50 = .ok (.iconst 0, 1) := dk_3 (dk_at dksX3_sky_2 5 rfl rfl)
theorem dX3_sky_51 : decode cX3_sky 51 = .ok (.iastore, 1) := dk_79 (dk_at dksX3_sky_2 6 rfl rfl)
theorem dX3_sky_52 : decode cX3_sky 52 = .ok (.aload_n 0, 1) := dk_42 (dk_at dksX3_sky_2 7 rfl rfl)
theorem dX3_sky_53 : decode cX3_sky 53 = .ok (.getfield 52, 3) := dk_180 0 52 (dk_at dksX3_sky_2 8 rfl rfl)
theorem dX3_sky_56 : decode cX3_sky 56 = .ok (.aload_n 0, 1) := dk_42 (dk_at dksX3_sky_2 11 rfl rfl)
theorem dX3_sky_57 : decode cX3_sky 57 = .ok (.getfield 43, 3) := dk_180 0 43 (dk_at dksX3_sky_2 12 rfl rfl)
theorem dX3_sky_60 : decode cX3_sky 60 = .ok (.invokestatic 295, 3) := dk_184 1 39 (dk_at dksX3_sky_2 15 rfl rfl)
theorem dX3_sky_63 : decode cX3_sky 63 = .ok (.aload_n 0, 1) := dk_42 (dk_at dksX3_sky_2 18 rfl rfl)
theorem dX3_sky_64 : decode cX3_sky 64 = .ok (.getfield 55, 3) := dk_180 0 55 (dk_at dksX3_sky_2 19 rfl rfl)
theorem dX3_sky_67 : decode cX3_sky 67 = .ok (.aload_n 0, 1) := dk_42 (dk_at dksX3_sky_2 22 rfl rfl)
theorem dX3_sky_68 : decode cX3_sky 68 = .ok (.getfield 46, 3) := dk_180 0 46 (dk_at dksX3_sky_3 0 rfl rfl)
theorem dX3_sky_71 : decode cX3_sky 71 = .ok (.invokestatic 295, 3) := dk_184 1 39 (dk_at dksX3_sky_3 3 rfl rfl)
theorem dX3_sky_74 : decode cX3_sky 74 = .ok (.aload_n 0, 1) := dk_42 (dk_at dksX3_sky_3 6 rfl rfl)
theorem dX3_sky_75 : decode cX3_sky 75 = .ok (.getfield 58, 3) := dk_180 0 58 (dk_at dksX3_sky_3 7 rfl rfl)
theorem dX3_sky_78 : decode cX3_sky 78 = .ok (.aload_n 0, 1) := dk_42 (dk_at dksX3_sky_3 10 rfl rfl)
theorem dX3_sky_79 : decode cX3_sky 79 = .ok (.getfield 25, 3) := dk_180 0 25 (dk_at dksX3_sky_3 11 rfl rfl)
theorem dX3_sky_82 : decode cX3_sky 82 = .ok (.invokestatic 295, 3) := dk_184 1 39 (dk_at dksX3_sky_3 14 rfl rfl)
theorem dX3_sky_85 : decode cX3_sky 85 = .ok (.aload_n 0, 1) := dk_42 (dk_at dksX3_sky_3 17 rfl rfl)
theorem dX3_sky_86 : decode cX3_sky 86 = .ok (.getfield 61, 3) := dk_180 0 61 (dk_at dksX3_sky_3 18 rfl rfl)
theorem dX3_sky_89 : decode cX3_sky 89 = .ok (.aload_n 0, 1) := dk_42 (dk_at dksX3_sky_3 21 rfl rfl)
theorem dX3_sky_90 : decode cX3_sky 90 = .ok (.getfield 28, 3) := dk_180 0 28 (dk_at dksX3_sky_4 0 rfl rfl)
theorem dX3_sky_93 : decode cX3_sky 93 = .ok (.invokestatic 295, 3) := dk_184 1 39 (dk_at dksX3_sky_4 3 rfl rfl)
theorem dX3_sky_96 : decode cX3_sky 96 = .ok (.aload_n 0, 1) := dk_42 (dk_at dksX3_sky_4 6 rfl rfl)
theorem dX3_sky_97 : decode cX3_sky 97 = .ok (.getfield 64, 3) := dk_180 0 64 (dk_at dksX3_sky_4 7 rfl rfl)
theorem dX3_sky_100 : decode cX3_sky 100 = .ok (.aload_n 0, 1) := dk_42 (dk_at dksX3_sky_4 10 rfl rfl)
theorem dX3_sky_101 : decode cX3_sky 101 = .ok (.getfield 31, 3) := dk_180 0 31 (dk_at dksX3_sky_4 11 rfl rfl)
theorem dX3_sky_104 : decode cX3_sky 104 = .ok (.invokestatic 295, 3) := dk_184 1 39 (dk_at dksX3_sky_4 14 rfl rfl)
theorem dX3_sky_107 : decode cX3_sky 107 = .ok (.aload_n 0, 1) := dk_42 (dk_at dksX3_sky_4 17 rfl rfl)
theorem dX3_sky_108 : decode cX3_sky 108 = .ok (.invokevirtual 302, 3) := dk_182 1 46 (dk_at dksX3_sky_4 18 rfl rfl)
theorem dX3_sky_111 : decode cX3_sky 111 = .ok (.aload_n 0, 1) := dk_42 (dk_at dksX3_sky_4 21 rfl rfl)
theorem dX3_sky_112 : decode cX3_sky 112 = .ok (.iconst 0, 1) := dk_3 (dk_at dksX3_sky_4 22 rfl rfl)
theorem dX3_sky_113 : decode cX3_sky 113 = .ok (.putfield 305, 3) := dk_181 1 49 (dk_at dksX3_sky_5 0 rfl rfl)
theorem dX3_sky_116 : decode cX3_sky 116 = .ok (.aload_n 0, 1) := dk_42 (dk_at dksX3_sky_5 3 rfl rfl)
theorem dX3_sky_117 : decode cX3_sky 117 = .ok (.getfield 9, 3) := dk_180 0 9 (dk_at dksX3_sky_5 4 rfl rfl)
theorem dX3_sky_120 : decode cX3_sky 120 = .ok (.iconst 2, 1) := dk_5 (dk_at dksX3_sky_5 7 rfl rfl)
theorem dX3_sky_121 : decode cX3_sky 121 = .ok (.iaload, 1) := dk_46 (dk_at dksX3_sky_5 8 rfl rfl)
theorem dX3_sky_122 : decode cX3_sky 122 = .ok (.ireturn, 1) := dk_172 (dk_at dksX3_sky_5 9 rfl rfl)
abbrev cX3_readsAll : ByteArray := prog_17_method_40_code
def yX3_readsAll : MethodName := ⟨RX3, "readsAll", "()V"⟩
def dkwX3_readsAll_3 : List UInt8 := [181, 0, 142, 177]
abbrev dktX3_readsAll_3 : List UInt8 := dkwX3_readsAll_3 ++ []
def dkwX3_readsAll_2 : List UInt8 := [61, 28, 153, 0, 19, 42, 27, 182, 1, 33, 132, 1, 1, 42, 182, 1, 36, 61, 167, 255, 239, 42, 3]
abbrev dktX3_readsAll_2 : List UInt8 := dkwX3_readsAll_2 ++ dktX3_readsAll_3
def dkwX3_readsAll_1 : List UInt8 := [3, 60, 27, 16, 36, 162, 0, 16, 42, 180, 0, 64, 27, 3, 79, 132, 1, 1, 167, 255, 240, 3, 60, 4]
abbrev dktX3_readsAll_1 : List UInt8 := dkwX3_readsAll_1 ++ dktX3_readsAll_2
def dkwX3_readsAll_0 : List UInt8 := [42, 182, 1, 30, 3, 60, 27, 7, 162, 0, 16, 42, 180, 0, 49, 27, 3, 79, 132, 1, 1, 167, 255, 241]
abbrev dktX3_readsAll_0 : List UInt8 := dkwX3_readsAll_0 ++ dktX3_readsAll_1
theorem dksX3_readsAll_0 : cX3_readsAll.data.toList.drop 0 = dktX3_readsAll_0 := by decide +kernel
theorem dksX3_readsAll_1 : cX3_readsAll.data.toList.drop 24 = dktX3_readsAll_1 := dk_seg dksX3_readsAll_0 24 rfl rfl
theorem dksX3_readsAll_2 : cX3_readsAll.data.toList.drop 48 = dktX3_readsAll_2 := dk_seg dksX3_readsAll_1 24 rfl rfl
theorem dksX3_readsAll_3 : cX3_readsAll.data.toList.drop 71 = dktX3_readsAll_3 := dk_seg dksX3_readsAll_2 23 rfl rfl
theorem dX3_readsAll_0 : decode cX3_readsAll 0 = .ok (.aload_n 0, 1) := dk_42 (dk_at dksX3_readsAll_0 0 rfl rfl)
theorem dX3_readsAll_1 : decode cX3_readsAll 1 = .ok (.invokevirtual 286, 3) := dk_182 1 30 (dk_at dksX3_readsAll_0 1 rfl rfl)
theorem dX3_readsAll_4 : decode cX3_readsAll 4 = .ok (.iconst 0, 1) := dk_3 (dk_at dksX3_readsAll_0 4 rfl rfl)
theorem dX3_readsAll_5 : decode cX3_readsAll 5 = .ok (.istore_n 1, 1) := dk_60 (dk_at dksX3_readsAll_0 5 rfl rfl)
theorem dX3_readsAll_6 : decode cX3_readsAll 6 = .ok (.iload_n 1, 1) := dk_27 (dk_at dksX3_readsAll_0 6 rfl rfl)
theorem dX3_readsAll_7 : decode cX3_readsAll 7 = .ok (.iconst 4, 1) := dk_7 (dk_at dksX3_readsAll_0 7 rfl rfl)
theorem dX3_readsAll_8 : decode cX3_readsAll 8 = .ok (.if_icmp .ge 16, 3) := dk_162 0 16 (dk_at dksX3_readsAll_0 8 rfl rfl)
theorem dX3_readsAll_11 : decode cX3_readsAll 11 = .ok (.aload_n 0, 1) := dk_42 (dk_at dksX3_readsAll_0 11 rfl rfl)
theorem dX3_readsAll_12 : decode cX3_readsAll 12 = .ok (.getfield 49, 3) := dk_180 0 49 (dk_at dksX3_readsAll_0 12 rfl rfl)
theorem dX3_readsAll_15 : decode cX3_readsAll 15 = .ok (.iload_n 1, 1) := dk_27 (dk_at dksX3_readsAll_0 15 rfl rfl)
theorem dX3_readsAll_16 : decode cX3_readsAll 16 = .ok (.iconst 0, 1) := dk_3 (dk_at dksX3_readsAll_0 16 rfl rfl)
theorem dX3_readsAll_17 : decode cX3_readsAll 17 = .ok (.iastore, 1) := dk_79 (dk_at dksX3_readsAll_0 17 rfl rfl)
theorem dX3_readsAll_18 : decode cX3_readsAll 18 = .ok (.iinc 1 1, 3) := dk_132 1 1 (dk_at dksX3_readsAll_0 18 rfl rfl)
theorem dX3_readsAll_21 : decode cX3_readsAll 21 = .ok (.goto (-15), 3) := dk_167 255 241 (dk_at dksX3_readsAll_0 21 rfl rfl)
theorem dX3_readsAll_24 : decode cX3_readsAll 24 = .ok (.iconst 0, 1) := dk_3 (dk_at dksX3_readsAll_1 0 rfl rfl)
theorem dX3_readsAll_25 : decode cX3_readsAll 25 = .ok (.istore_n 1, 1) := dk_60 (dk_at dksX3_readsAll_1 1 rfl rfl)
theorem dX3_readsAll_26 : decode cX3_readsAll 26 = .ok (.iload_n 1, 1) := dk_27 (dk_at dksX3_readsAll_1 2 rfl rfl)
theorem dX3_readsAll_27 : decode cX3_readsAll 27 = .ok (.bipush 36, 2) := dk_16 36 (dk_at dksX3_readsAll_1 3 rfl rfl)
theorem dX3_readsAll_29 : decode cX3_readsAll 29 = .ok (.if_icmp .ge 16, 3) := dk_162 0 16 (dk_at dksX3_readsAll_1 5 rfl rfl)
theorem dX3_readsAll_32 : decode cX3_readsAll 32 = .ok (.aload_n 0, 1) := dk_42 (dk_at dksX3_readsAll_1 8 rfl rfl)
theorem dX3_readsAll_33 : decode cX3_readsAll 33 = .ok (.getfield 64, 3) := dk_180 0 64 (dk_at dksX3_readsAll_1 9 rfl rfl)
theorem dX3_readsAll_36 : decode cX3_readsAll 36 = .ok (.iload_n 1, 1) := dk_27 (dk_at dksX3_readsAll_1 12 rfl rfl)
theorem dX3_readsAll_37 : decode cX3_readsAll 37 = .ok (.iconst 0, 1) := dk_3 (dk_at dksX3_readsAll_1 13 rfl rfl)
theorem dX3_readsAll_38 : decode cX3_readsAll 38 = .ok (.iastore, 1) := dk_79 (dk_at dksX3_readsAll_1 14 rfl rfl)
theorem dX3_readsAll_39 : decode cX3_readsAll 39 = .ok (.iinc 1 1, 3) := dk_132 1 1 (dk_at dksX3_readsAll_1 15 rfl rfl)
theorem dX3_readsAll_42 : decode cX3_readsAll 42 = .ok (.goto (-16), 3) := dk_167 255 240 (dk_at dksX3_readsAll_1 18 rfl rfl)
theorem dX3_readsAll_45 : decode cX3_readsAll 45 = .ok (.iconst 0, 1) := dk_3 (dk_at dksX3_readsAll_1 21 rfl rfl)
theorem dX3_readsAll_46 : decode cX3_readsAll 46 = .ok (.istore_n 1, 1) := dk_60 (dk_at dksX3_readsAll_1 22 rfl rfl)
theorem dX3_readsAll_47 : decode cX3_readsAll 47 = .ok (.iconst 1, 1) := dk_4 (dk_at dksX3_readsAll_1 23 rfl rfl)
theorem dX3_readsAll_48 : decode cX3_readsAll 48 = .ok (.istore_n 2, 1) := dk_61 (dk_at dksX3_readsAll_2 0 rfl rfl)
theorem dX3_readsAll_49 : decode cX3_readsAll 49 = .ok (.iload_n 2, 1) := dk_28 (dk_at dksX3_readsAll_2 1 rfl rfl)
theorem dX3_readsAll_50 : decode cX3_readsAll 50 = .ok (.ifCond .eq 19, 3) := dk_153 0 19 (dk_at dksX3_readsAll_2 2 rfl rfl)
theorem dX3_readsAll_53 : decode cX3_readsAll 53 = .ok (.aload_n 0, 1) := dk_42 (dk_at dksX3_readsAll_2 5 rfl rfl)
theorem dX3_readsAll_54 : decode cX3_readsAll 54 = .ok (.iload_n 1, 1) := dk_27 (dk_at dksX3_readsAll_2 6 rfl rfl)
theorem dX3_readsAll_55 : decode cX3_readsAll 55 = .ok (.invokevirtual 289, 3) := dk_182 1 33 (dk_at dksX3_readsAll_2 7 rfl rfl)
theorem dX3_readsAll_58 : decode cX3_readsAll 58 = .ok (.iinc 1 1, 3) := dk_132 1 1 (dk_at dksX3_readsAll_2 10 rfl rfl)
theorem dX3_readsAll_61 : decode cX3_readsAll 61 = .ok (.aload_n 0, 1) := dk_42 (dk_at dksX3_readsAll_2 13 rfl rfl)
theorem dX3_readsAll_62 : decode cX3_readsAll 62 = .ok (.invokevirtual 292, 3) := dk_182 1 36 (dk_at dksX3_readsAll_2 14 rfl rfl)
theorem dX3_readsAll_65 : decode cX3_readsAll 65 = .ok (.istore_n 2, 1) := dk_61 (dk_at dksX3_readsAll_2 17 rfl rfl)
theorem dX3_readsAll_66 : decode cX3_readsAll 66 = .ok (.goto (-17), 3) := dk_167 255 239 (dk_at dksX3_readsAll_2 18 rfl rfl)
theorem dX3_readsAll_69 : decode cX3_readsAll 69 = .ok (.aload_n 0, 1) := dk_42 (dk_at dksX3_readsAll_2 21 rfl rfl)
theorem dX3_readsAll_70 : decode cX3_readsAll 70 = .ok (.iconst 0, 1) := dk_3 (dk_at dksX3_readsAll_2 22 rfl rfl)
theorem dX3_readsAll_71 : decode cX3_readsAll 71 = .ok (.putfield 142, 3) := dk_181 0 142 (dk_at dksX3_readsAll_3 0 rfl rfl)
theorem dX3_readsAll_74 : decode cX3_readsAll 74 = .ok (.return_, 1) := dk_177 (dk_at dksX3_readsAll_3 3 rfl rfl)
abbrev cX3_starts : ByteArray := prog_17_method_39_code
def yX3_starts : MethodName := ⟨RX3, "starts", "()V"⟩
def dkwX3_starts_1 : List UInt8 := [181, 0, 206, 177]
abbrev dktX3_starts_1 : List UInt8 := dkwX3_starts_1 ++ []
def dkwX3_starts_0 : List UInt8 := [42, 3, 181, 0, 174, 42, 3, 181, 0, 171, 42, 3, 181, 0, 203, 42, 3, 181, 0, 244, 42, 3]
abbrev dktX3_starts_0 : List UInt8 := dkwX3_starts_0 ++ dktX3_starts_1
theorem dksX3_starts_0 : cX3_starts.data.toList.drop 0 = dktX3_starts_0 := by decide +kernel
theorem dksX3_starts_1 : cX3_starts.data.toList.drop 22 = dktX3_starts_1 := dk_seg dksX3_starts_0 22 rfl rfl
theorem dX3_starts_0 : decode cX3_starts 0 = .ok (.aload_n 0, 1) := dk_42 (dk_at dksX3_starts_0 0 rfl rfl)
theorem dX3_starts_1 : decode cX3_starts 1 = .ok (.iconst 0, 1) := dk_3 (dk_at dksX3_starts_0 1 rfl rfl)
theorem dX3_starts_2 : decode cX3_starts 2 = .ok (.putfield 174, 3) := dk_181 0 174 (dk_at dksX3_starts_0 2 rfl rfl)
theorem dX3_starts_5 : decode cX3_starts 5 = .ok (.aload_n 0, 1) := dk_42 (dk_at dksX3_starts_0 5 rfl rfl)
theorem dX3_starts_6 : decode cX3_starts 6 = .ok (.iconst 0, 1) := dk_3 (dk_at dksX3_starts_0 6 rfl rfl)
theorem dX3_starts_7 : decode cX3_starts 7 = .ok (.putfield 171, 3) := dk_181 0 171 (dk_at dksX3_starts_0 7 rfl rfl)
theorem dX3_starts_10 : decode cX3_starts 10 = .ok (.aload_n 0, 1) := dk_42 (dk_at dksX3_starts_0 10 rfl rfl)
theorem dX3_starts_11 : decode cX3_starts 11 = .ok (.iconst 0, 1) := dk_3 (dk_at dksX3_starts_0 11 rfl rfl)
theorem dX3_starts_12 : decode cX3_starts 12 = .ok (.putfield 203, 3) := dk_181 0 203 (dk_at dksX3_starts_0 12 rfl rfl)
theorem dX3_starts_15 : decode cX3_starts 15 = .ok (.aload_n 0, 1) := dk_42 (dk_at dksX3_starts_0 15 rfl rfl)
theorem dX3_starts_16 : decode cX3_starts 16 = .ok (.iconst 0, 1) := dk_3 (dk_at dksX3_starts_0 16 rfl rfl)
theorem dX3_starts_17 : decode cX3_starts 17 = .ok (.putfield 244, 3) := dk_181 0 244 (dk_at dksX3_starts_0 17 rfl rfl)
theorem dX3_starts_20 : decode cX3_starts 20 = .ok (.aload_n 0, 1) := dk_42 (dk_at dksX3_starts_0 20 rfl rfl)
theorem dX3_starts_21 : decode cX3_starts 21 = .ok (.iconst 0, 1) := dk_3 (dk_at dksX3_starts_0 21 rfl rfl)
theorem dX3_starts_22 : decode cX3_starts 22 = .ok (.putfield 206, 3) := dk_181 0 206 (dk_at dksX3_starts_1 0 rfl rfl)
theorem dX3_starts_25 : decode cX3_starts 25 = .ok (.return_, 1) := dk_177 (dk_at dksX3_starts_1 3 rfl rfl)
abbrev cX3_skyClause : ByteArray := prog_17_method_36_code
def yX3_skyClause : MethodName := ⟨RX3, "skyClause", "(I)V"⟩
def dkwX3_skyClause_3 : List UInt8 := [182, 0, 184, 96, 181, 0, 174, 42, 29, 182, 1, 27, 177]
abbrev dktX3_skyClause_3 : List UInt8 := dkwX3_skyClause_3 ++ []
def dkwX3_skyClause_2 : List UInt8 := [182, 1, 23, 153, 0, 10, 42, 7, 28, 182, 0, 209, 177, 42, 89, 180, 0, 174, 29, 184, 1, 20]
abbrev dktX3_skyClause_2 : List UInt8 := dkwX3_skyClause_2 ++ dktX3_skyClause_3
def dkwX3_skyClause_1 : List UInt8 := [154, 0, 9, 132, 3, 1, 167, 255, 237, 29, 7, 160, 0, 10, 42, 3, 28, 182, 0, 209, 177, 42, 29, 27]
abbrev dktX3_skyClause_1 : List UInt8 := dkwX3_skyClause_1 ++ dktX3_skyClause_2
def dkwX3_skyClause_0 : List UInt8 := [42, 182, 0, 193, 42, 180, 0, 174, 61, 3, 62, 29, 7, 162, 0, 20, 42, 29, 184, 1, 20, 182, 0, 196]
abbrev dktX3_skyClause_0 : List UInt8 := dkwX3_skyClause_0 ++ dktX3_skyClause_1
theorem dksX3_skyClause_0 : cX3_skyClause.data.toList.drop 0 = dktX3_skyClause_0 := by decide +kernel
theorem dksX3_skyClause_1 : cX3_skyClause.data.toList.drop 24 = dktX3_skyClause_1 := dk_seg dksX3_skyClause_0 24 rfl rfl
theorem dksX3_skyClause_2 : cX3_skyClause.data.toList.drop 48 = dktX3_skyClause_2 := dk_seg dksX3_skyClause_1 24 rfl rfl
theorem dksX3_skyClause_3 : cX3_skyClause.data.toList.drop 70 = dktX3_skyClause_3 := dk_seg dksX3_skyClause_2 22 rfl rfl
theorem dX3_skyClause_0 : decode cX3_skyClause 0 = .ok (.aload_n 0, 1) := dk_42 (dk_at dksX3_skyClause_0 0 rfl rfl)
theorem dX3_skyClause_1 : decode cX3_skyClause 1 = .ok (.invokevirtual 193, 3) := dk_182 0 193 (dk_at dksX3_skyClause_0 1 rfl rfl)
theorem dX3_skyClause_4 : decode cX3_skyClause 4 = .ok (.aload_n 0, 1) := dk_42 (dk_at dksX3_skyClause_0 4 rfl rfl)
theorem dX3_skyClause_5 : decode cX3_skyClause 5 = .ok (.getfield 174, 3) := dk_180 0 174 (dk_at dksX3_skyClause_0 5 rfl rfl)
theorem dX3_skyClause_8 : decode cX3_skyClause 8 = .ok (.istore_n 2, 1) := dk_61 (dk_at dksX3_skyClause_0 8 rfl rfl)
theorem dX3_skyClause_9 : decode cX3_skyClause 9 = .ok (.iconst 0, 1) := dk_3 (dk_at dksX3_skyClause_0 9 rfl rfl)
theorem dX3_skyClause_10 : decode cX3_skyClause 10 = .ok (.istore_n 3, 1) := dk_62 (dk_at dksX3_skyClause_0 10 rfl rfl)
theorem dX3_skyClause_11 : decode cX3_skyClause 11 = .ok (.iload_n 3, 1) := dk_29 (dk_at dksX3_skyClause_0 11 rfl rfl)
theorem dX3_skyClause_12 : decode cX3_skyClause 12 = .ok (.iconst 4, 1) := dk_7 (dk_at dksX3_skyClause_0 12 rfl rfl)
theorem dX3_skyClause_13 : decode cX3_skyClause 13 = .ok (.if_icmp .ge 20, 3) := dk_162 0 20 (dk_at dksX3_skyClause_0 13 rfl rfl)
theorem dX3_skyClause_16 : decode cX3_skyClause 16 = .ok (.aload_n 0, 1) := dk_42 (dk_at dksX3_skyClause_0 16 rfl rfl)
theorem dX3_skyClause_17 : decode cX3_skyClause 17 = .ok (.iload_n 3, 1) := dk_29 (dk_at dksX3_skyClause_0 17 rfl rfl)
theorem dX3_skyClause_18 : decode cX3_skyClause 18 = .ok (.invokestatic 276, 3) := dk_184 1 20 (dk_at dksX3_skyClause_0 18 rfl rfl)
theorem dX3_skyClause_21 : decode cX3_skyClause 21 = .ok (.invokevirtual 196, 3) := dk_182 0 196 (dk_at dksX3_skyClause_0 21 rfl rfl)
theorem dX3_skyClause_24 : decode cX3_skyClause 24 = .ok (.ifCond .ne 9, 3) := dk_154 0 9 (dk_at dksX3_skyClause_1 0 rfl rfl)
theorem dX3_skyClause_27 : decode cX3_skyClause 27 = .ok (.iinc 3 1, 3) := dk_132 3 1 (dk_at dksX3_skyClause_1 3 rfl rfl)
theorem dX3_skyClause_30 : decode cX3_skyClause 30 = .ok (.goto (-19), 3) := dk_167 255 237 (dk_at dksX3_skyClause_1 6 rfl rfl)
theorem dX3_skyClause_33 : decode cX3_skyClause 33 = .ok (.iload_n 3, 1) := dk_29 (dk_at dksX3_skyClause_1 9 rfl rfl)
theorem dX3_skyClause_34 : decode cX3_skyClause 34 = .ok (.iconst 4, 1) := dk_7 (dk_at dksX3_skyClause_1 10 rfl rfl)
theorem dX3_skyClause_35 : decode cX3_skyClause 35 = .ok (.if_icmp .ne 10, 3) := dk_160 0 10 (dk_at dksX3_skyClause_1 11 rfl rfl)
theorem dX3_skyClause_38 : decode cX3_skyClause 38 = .ok (.aload_n 0, 1) := dk_42 (dk_at dksX3_skyClause_1 14 rfl rfl)
theorem dX3_skyClause_39 : decode cX3_skyClause 39 = .ok (.iconst 0, 1) := dk_3 (dk_at dksX3_skyClause_1 15 rfl rfl)
theorem dX3_skyClause_40 : decode cX3_skyClause 40 = .ok (.iload_n 2, 1) := dk_28 (dk_at dksX3_skyClause_1 16 rfl rfl)
theorem dX3_skyClause_41 : decode cX3_skyClause 41 = .ok (.invokevirtual 209, 3) := dk_182 0 209 (dk_at dksX3_skyClause_1 17 rfl rfl)
theorem dX3_skyClause_44 : decode cX3_skyClause 44 = .ok (.return_, 1) := dk_177 (dk_at dksX3_skyClause_1 20 rfl rfl)
theorem dX3_skyClause_45 : decode cX3_skyClause 45 = .ok (.aload_n 0, 1) := dk_42 (dk_at dksX3_skyClause_1 21 rfl rfl)
theorem dX3_skyClause_46 : decode cX3_skyClause 46 = .ok (.iload_n 3, 1) := dk_29 (dk_at dksX3_skyClause_1 22 rfl rfl)
theorem dX3_skyClause_47 : decode cX3_skyClause 47 = .ok (.iload_n 1, 1) := dk_27 (dk_at dksX3_skyClause_1 23 rfl rfl)
theorem dX3_skyClause_48 : decode cX3_skyClause 48 = .ok (.invokevirtual 279, 3) := dk_182 1 23 (dk_at dksX3_skyClause_2 0 rfl rfl)
theorem dX3_skyClause_51 : decode cX3_skyClause 51 = .ok (.ifCond .eq 10, 3) := dk_153 0 10 (dk_at dksX3_skyClause_2 3 rfl rfl)
theorem dX3_skyClause_54 : decode cX3_skyClause 54 = .ok (.aload_n 0, 1) := dk_42 (dk_at dksX3_skyClause_2 6 rfl rfl)
theorem dX3_skyClause_55 : decode cX3_skyClause 55 = .ok (.iconst 4, 1) := dk_7 (dk_at dksX3_skyClause_2 7 rfl rfl)
theorem dX3_skyClause_56 : decode cX3_skyClause 56 = .ok (.iload_n 2, 1) := dk_28 (dk_at dksX3_skyClause_2 8 rfl rfl)
theorem dX3_skyClause_57 : decode cX3_skyClause 57 = .ok (.invokevirtual 209, 3) := dk_182 0 209 (dk_at dksX3_skyClause_2 9 rfl rfl)
theorem dX3_skyClause_60 : decode cX3_skyClause 60 = .ok (.return_, 1) := dk_177 (dk_at dksX3_skyClause_2 12 rfl rfl)
theorem dX3_skyClause_61 : decode cX3_skyClause 61 = .ok (.aload_n 0, 1) := dk_42 (dk_at dksX3_skyClause_2 13 rfl rfl)
theorem dX3_skyClause_62 : decode cX3_skyClause 62 = .ok (.dup, 1) := dk_89 (dk_at dksX3_skyClause_2 14 rfl rfl)
theorem dX3_skyClause_63 : decode cX3_skyClause 63 = .ok (.getfield 174, 3) := dk_180 0 174 (dk_at dksX3_skyClause_2 15 rfl rfl)
theorem dX3_skyClause_66 : decode cX3_skyClause 66 = .ok (.iload_n 3, 1) := dk_29 (dk_at dksX3_skyClause_2 18 rfl rfl)
theorem dX3_skyClause_67 : decode cX3_skyClause 67 = .ok (.invokestatic 276, 3) := dk_184 1 20 (dk_at dksX3_skyClause_2 19 rfl rfl)
theorem dX3_skyClause_70 : decode cX3_skyClause 70 = .ok (.invokevirtual 184, 3) := dk_182 0 184 (dk_at dksX3_skyClause_3 0 rfl rfl)
theorem dX3_skyClause_73 : decode cX3_skyClause 73 = .ok (.iadd, 1) := dk_96 (dk_at dksX3_skyClause_3 3 rfl rfl)
theorem dX3_skyClause_74 : decode cX3_skyClause 74 = .ok (.putfield 174, 3) := dk_181 0 174 (dk_at dksX3_skyClause_3 4 rfl rfl)
theorem dX3_skyClause_77 : decode cX3_skyClause 77 = .ok (.aload_n 0, 1) := dk_42 (dk_at dksX3_skyClause_3 7 rfl rfl)
theorem dX3_skyClause_78 : decode cX3_skyClause 78 = .ok (.iload_n 3, 1) := dk_29 (dk_at dksX3_skyClause_3 8 rfl rfl)
theorem dX3_skyClause_79 : decode cX3_skyClause 79 = .ok (.invokevirtual 283, 3) := dk_182 1 27 (dk_at dksX3_skyClause_3 9 rfl rfl)
theorem dX3_skyClause_82 : decode cX3_skyClause 82 = .ok (.return_, 1) := dk_177 (dk_at dksX3_skyClause_3 12 rfl rfl)
abbrev cX3_blanks : ByteArray := prog_17_method_16_code
def yX3_blanks : MethodName := ⟨RX3, "blanks", "()V"⟩
def dkwX3_blanks_0 : List UInt8 := [42, 182, 0, 177, 16, 32, 160, 0, 16, 42, 89, 180, 0, 174, 4, 96, 181, 0, 174, 167, 255, 237, 177]
abbrev dktX3_blanks_0 : List UInt8 := dkwX3_blanks_0 ++ []
theorem dksX3_blanks_0 : cX3_blanks.data.toList.drop 0 = dktX3_blanks_0 := by decide +kernel
theorem dX3_blanks_0 : decode cX3_blanks 0 = .ok (.aload_n 0, 1) := dk_42 (dk_at dksX3_blanks_0 0 rfl rfl)
theorem dX3_blanks_1 : decode cX3_blanks 1 = .ok (.invokevirtual 177, 3) := dk_182 0 177 (dk_at dksX3_blanks_0 1 rfl rfl)
theorem dX3_blanks_4 : decode cX3_blanks 4 = .ok (.bipush 32, 2) := dk_16 32 (dk_at dksX3_blanks_0 4 rfl rfl)
theorem dX3_blanks_6 : decode cX3_blanks 6 = .ok (.if_icmp .ne 16, 3) := dk_160 0 16 (dk_at dksX3_blanks_0 6 rfl rfl)
theorem dX3_blanks_9 : decode cX3_blanks 9 = .ok (.aload_n 0, 1) := dk_42 (dk_at dksX3_blanks_0 9 rfl rfl)
theorem dX3_blanks_10 : decode cX3_blanks 10 = .ok (.dup, 1) := dk_89 (dk_at dksX3_blanks_0 10 rfl rfl)
theorem dX3_blanks_11 : decode cX3_blanks 11 = .ok (.getfield 174, 3) := dk_180 0 174 (dk_at dksX3_blanks_0 11 rfl rfl)
theorem dX3_blanks_14 : decode cX3_blanks 14 = .ok (.iconst 1, 1) := dk_4 (dk_at dksX3_blanks_0 14 rfl rfl)
theorem dX3_blanks_15 : decode cX3_blanks 15 = .ok (.iadd, 1) := dk_96 (dk_at dksX3_blanks_0 15 rfl rfl)
theorem dX3_blanks_16 : decode cX3_blanks 16 = .ok (.putfield 174, 3) := dk_181 0 174 (dk_at dksX3_blanks_0 16 rfl rfl)
theorem dX3_blanks_19 : decode cX3_blanks 19 = .ok (.goto (-19), 3) := dk_167 255 237 (dk_at dksX3_blanks_0 19 rfl rfl)
theorem dX3_blanks_22 : decode cX3_blanks 22 = .ok (.return_, 1) := dk_177 (dk_at dksX3_blanks_0 22 rfl rfl)
abbrev cX3_byteHere : ByteArray := prog_17_method_15_code
def yX3_byteHere : MethodName := ⟨RX3, "byteHere", "()I"⟩
def dkwX3_byteHere_1 : List UInt8 := [167, 0, 4, 2, 172]
abbrev dktX3_byteHere_1 : List UInt8 := dkwX3_byteHere_1 ++ []
def dkwX3_byteHere_0 : List UInt8 := [42, 180, 0, 174, 42, 180, 0, 142, 162, 0, 19, 42, 180, 0, 71, 42, 180, 0, 174, 51, 17, 0, 255, 126]
abbrev dktX3_byteHere_0 : List UInt8 := dkwX3_byteHere_0 ++ dktX3_byteHere_1
theorem dksX3_byteHere_0 : cX3_byteHere.data.toList.drop 0 = dktX3_byteHere_0 := by decide +kernel
theorem dksX3_byteHere_1 : cX3_byteHere.data.toList.drop 24 = dktX3_byteHere_1 := dk_seg dksX3_byteHere_0 24 rfl rfl
theorem dX3_byteHere_0 : decode cX3_byteHere 0 = .ok (.aload_n 0, 1) := dk_42 (dk_at dksX3_byteHere_0 0 rfl rfl)
theorem dX3_byteHere_1 : decode cX3_byteHere 1 = .ok (.getfield 174, 3) := dk_180 0 174 (dk_at dksX3_byteHere_0 1 rfl rfl)
theorem dX3_byteHere_4 : decode cX3_byteHere 4 = .ok (.aload_n 0, 1) := dk_42 (dk_at dksX3_byteHere_0 4 rfl rfl)
theorem dX3_byteHere_5 : decode cX3_byteHere 5 = .ok (.getfield 142, 3) := dk_180 0 142 (dk_at dksX3_byteHere_0 5 rfl rfl)
theorem dX3_byteHere_8 : decode cX3_byteHere 8 = .ok (.if_icmp .ge 19, 3) := dk_162 0 19 (dk_at dksX3_byteHere_0 8 rfl rfl)
theorem dX3_byteHere_11 : decode cX3_byteHere 11 = .ok (.aload_n 0, 1) := dk_42 (dk_at dksX3_byteHere_0 11 rfl rfl)
theorem dX3_byteHere_12 : decode cX3_byteHere 12 = .ok (.getfield 71, 3) := dk_180 0 71 (dk_at dksX3_byteHere_0 12 rfl rfl)
theorem dX3_byteHere_15 : decode cX3_byteHere 15 = .ok (.aload_n 0, 1) := dk_42 (dk_at dksX3_byteHere_0 15 rfl rfl)
theorem dX3_byteHere_16 : decode cX3_byteHere 16 = .ok (.getfield 174, 3) := dk_180 0 174 (dk_at dksX3_byteHere_0 16 rfl rfl)
theorem dX3_byteHere_19 : decode cX3_byteHere 19 = .ok (.baload, 1) := dk_51 (dk_at dksX3_byteHere_0 19 rfl rfl)
theorem dX3_byteHere_20 : decode cX3_byteHere 20 = .ok (.sipush 255, 3) := dk_17 0 255 (dk_at dksX3_byteHere_0 20 rfl rfl)
theorem dX3_byteHere_23 : decode cX3_byteHere 23 = .ok (.iand, 1) := dk_126 (dk_at dksX3_byteHere_0 23 rfl rfl)
theorem dX3_byteHere_24 : decode cX3_byteHere 24 = .ok (.goto 4, 3) := dk_167 0 4 (dk_at dksX3_byteHere_1 0 rfl rfl)
theorem dX3_byteHere_27 : decode cX3_byteHere 27 = .ok (.iconst (-1), 1) := dk_2 (dk_at dksX3_byteHere_1 3 rfl rfl)
theorem dX3_byteHere_28 : decode cX3_byteHere 28 = .ok (.ireturn, 1) := dk_172 (dk_at dksX3_byteHere_1 4 rfl rfl)
abbrev cX3_skyWord : ByteArray := prog_17_method_33_code
def yX3_skyWord : MethodName := ⟨RX3, "skyWord", "(I)Ljava/lang/String;"⟩
def dkwX3_skyWord_2 : List UInt8 := [19, 1, 12, 176, 18, 149, 176, 19, 1, 14, 176, 18, 165, 176]
abbrev dktX3_skyWord_2 : List UInt8 := dkwX3_skyWord_2 ++ []
def dkwX3_skyWord_1 : List UInt8 := [170, 0, 0, 0, 0, 0, 38, 0, 0, 0, 0, 0, 0, 0, 2, 0, 0, 0, 27, 0, 0, 0, 31, 0, 0, 0, 34]
abbrev dktX3_skyWord_1 : List UInt8 := dkwX3_skyWord_1 ++ dktX3_skyWord_2
def dkwX3_skyWord_0 : List UInt8 := [26]
abbrev dktX3_skyWord_0 : List UInt8 := dkwX3_skyWord_0 ++ dktX3_skyWord_1
theorem dksX3_skyWord_0 : cX3_skyWord.data.toList.drop 0 = dktX3_skyWord_0 := by decide +kernel
theorem dksX3_skyWord_1 : cX3_skyWord.data.toList.drop 1 = dktX3_skyWord_1 := dk_seg dksX3_skyWord_0 1 rfl rfl
theorem dksX3_skyWord_2 : cX3_skyWord.data.toList.drop 28 = dktX3_skyWord_2 := dk_seg dksX3_skyWord_1 27 rfl rfl
theorem dX3_skyWord_0 : decode cX3_skyWord 0 = .ok (.iload_n 0, 1) := dk_26 (dk_at dksX3_skyWord_0 0 rfl rfl)
theorem dX3_skyWord_1 : decode cX3_skyWord 1 = .ok (.tableswitch 38 0 2 #[27, 31, 34], 27) := by decide +kernel
theorem dX3_skyWord_28 : decode cX3_skyWord 28 = .ok (.ldc_w 268, 3) := dk_19 1 12 (dk_at dksX3_skyWord_2 0 rfl rfl)
theorem dX3_skyWord_31 : decode cX3_skyWord 31 = .ok (.areturn, 1) := dk_176 (dk_at dksX3_skyWord_2 3 rfl rfl)
theorem dX3_skyWord_32 : decode cX3_skyWord 32 = .ok (.ldc 149, 2) := dk_18 149 (dk_at dksX3_skyWord_2 4 rfl rfl)
theorem dX3_skyWord_34 : decode cX3_skyWord 34 = .ok (.areturn, 1) := dk_176 (dk_at dksX3_skyWord_2 6 rfl rfl)
theorem dX3_skyWord_35 : decode cX3_skyWord 35 = .ok (.ldc_w 270, 3) := dk_19 1 14 (dk_at dksX3_skyWord_2 7 rfl rfl)
theorem dX3_skyWord_38 : decode cX3_skyWord 38 = .ok (.areturn, 1) := dk_176 (dk_at dksX3_skyWord_2 10 rfl rfl)
theorem dX3_skyWord_39 : decode cX3_skyWord 39 = .ok (.ldc 165, 2) := dk_18 165 (dk_at dksX3_skyWord_2 11 rfl rfl)
theorem dX3_skyWord_41 : decode cX3_skyWord 41 = .ok (.areturn, 1) := dk_176 (dk_at dksX3_skyWord_2 13 rfl rfl)
abbrev cX3_stood : ByteArray := prog_17_method_18_code
def yX3_stood : MethodName := ⟨RX3, "stood", "(Ljava/lang/String;)Z"⟩
def dkwX3_stood_4 : List UInt8 := [160, 0, 7, 4, 167, 0, 4, 3, 62, 132, 4, 1, 167, 255, 213, 29, 172]
abbrev dktX3_stood_4 : List UInt8 := dkwX3_stood_4 ++ []
def dkwX3_stood_3 : List UInt8 := [29, 153, 0, 36, 42, 180, 0, 71, 42, 180, 0, 174, 21, 4, 96, 51, 43, 21, 4, 182, 0, 189]
abbrev dktX3_stood_3 : List UInt8 := dkwX3_stood_3 ++ dktX3_stood_4
def dkwX3_stood_2 : List UInt8 := [182, 0, 184, 160, 0, 7, 4, 167, 0, 4, 3, 62, 3, 54, 4, 21, 4, 43, 182, 0, 184, 162, 0, 40]
abbrev dktX3_stood_2 : List UInt8 := dkwX3_stood_2 ++ dktX3_stood_3
def dkwX3_stood_1 : List UInt8 := [42, 180, 0, 71, 28, 51, 16, 122, 163, 0, 9, 132, 2, 1, 167, 255, 223, 28, 42, 180, 0, 174, 100, 43]
abbrev dktX3_stood_1 : List UInt8 := dkwX3_stood_1 ++ dktX3_stood_2
def dkwX3_stood_0 : List UInt8 := [42, 180, 0, 174, 61, 28, 42, 180, 0, 142, 162, 0, 31, 42, 180, 0, 71, 28, 51, 16, 97, 161, 0, 20]
abbrev dktX3_stood_0 : List UInt8 := dkwX3_stood_0 ++ dktX3_stood_1
theorem dksX3_stood_0 : cX3_stood.data.toList.drop 0 = dktX3_stood_0 := by decide +kernel
theorem dksX3_stood_1 : cX3_stood.data.toList.drop 24 = dktX3_stood_1 := dk_seg dksX3_stood_0 24 rfl rfl
theorem dksX3_stood_2 : cX3_stood.data.toList.drop 48 = dktX3_stood_2 := dk_seg dksX3_stood_1 24 rfl rfl
theorem dksX3_stood_3 : cX3_stood.data.toList.drop 72 = dktX3_stood_3 := dk_seg dksX3_stood_2 24 rfl rfl
theorem dksX3_stood_4 : cX3_stood.data.toList.drop 94 = dktX3_stood_4 := dk_seg dksX3_stood_3 22 rfl rfl
theorem dX3_stood_0 : decode cX3_stood 0 = .ok (.aload_n 0, 1) := dk_42 (dk_at dksX3_stood_0 0 rfl rfl)
theorem dX3_stood_1 : decode cX3_stood 1 = .ok (.getfield 174, 3) := dk_180 0 174 (dk_at dksX3_stood_0 1 rfl rfl)
theorem dX3_stood_4 : decode cX3_stood 4 = .ok (.istore_n 2, 1) := dk_61 (dk_at dksX3_stood_0 4 rfl rfl)
theorem dX3_stood_5 : decode cX3_stood 5 = .ok (.iload_n 2, 1) := dk_28 (dk_at dksX3_stood_0 5 rfl rfl)
theorem dX3_stood_6 : decode cX3_stood 6 = .ok (.aload_n 0, 1) := dk_42 (dk_at dksX3_stood_0 6 rfl rfl)
theorem dX3_stood_7 : decode cX3_stood 7 = .ok (.getfield 142, 3) := dk_180 0 142 (dk_at dksX3_stood_0 7 rfl rfl)
theorem dX3_stood_10 : decode cX3_stood 10 = .ok (.if_icmp .ge 31, 3) := dk_162 0 31 (dk_at dksX3_stood_0 10 rfl rfl)
theorem dX3_stood_13 : decode cX3_stood 13 = .ok (.aload_n 0, 1) := dk_42 (dk_at dksX3_stood_0 13 rfl rfl)
theorem dX3_stood_14 : decode cX3_stood 14 = .ok (.getfield 71, 3) := dk_180 0 71 (dk_at dksX3_stood_0 14 rfl rfl)
theorem dX3_stood_17 : decode cX3_stood 17 = .ok (.iload_n 2, 1) := dk_28 (dk_at dksX3_stood_0 17 rfl rfl)
theorem dX3_stood_18 : decode cX3_stood 18 = .ok (.baload, 1) := dk_51 (dk_at dksX3_stood_0 18 rfl rfl)
theorem dX3_stood_19 : decode cX3_stood 19 = .ok (.bipush 97, 2) := dk_16 97 (dk_at dksX3_stood_0 19 rfl rfl)
theorem dX3_stood_21 : decode cX3_stood 21 = .ok (.if_icmp .lt 20, 3) := dk_161 0 20 (dk_at dksX3_stood_0 21 rfl rfl)
theorem dX3_stood_24 : decode cX3_stood 24 = .ok (.aload_n 0, 1) := dk_42 (dk_at dksX3_stood_1 0 rfl rfl)
theorem dX3_stood_25 : decode cX3_stood 25 = .ok (.getfield 71, 3) := dk_180 0 71 (dk_at dksX3_stood_1 1 rfl rfl)
theorem dX3_stood_28 : decode cX3_stood 28 = .ok (.iload_n 2, 1) := dk_28 (dk_at dksX3_stood_1 4 rfl rfl)
theorem dX3_stood_29 : decode cX3_stood 29 = .ok (.baload, 1) := dk_51 (dk_at dksX3_stood_1 5 rfl rfl)
theorem dX3_stood_30 : decode cX3_stood 30 = .ok (.bipush 122, 2) := dk_16 122 (dk_at dksX3_stood_1 6 rfl rfl)
theorem dX3_stood_32 : decode cX3_stood 32 = .ok (.if_icmp .gt 9, 3) := dk_163 0 9 (dk_at dksX3_stood_1 8 rfl rfl)
theorem dX3_stood_35 : decode cX3_stood 35 = .ok (.iinc 2 1, 3) := dk_132 2 1 (dk_at dksX3_stood_1 11 rfl rfl)
theorem dX3_stood_38 : decode cX3_stood 38 = .ok (.goto (-33), 3) := dk_167 255 223 (dk_at dksX3_stood_1 14 rfl rfl)
theorem dX3_stood_41 : decode cX3_stood 41 = .ok (.iload_n 2, 1) := dk_28 (dk_at dksX3_stood_1 17 rfl rfl)
theorem dX3_stood_42 : decode cX3_stood 42 = .ok (.aload_n 0, 1) := dk_42 (dk_at dksX3_stood_1 18 rfl rfl)
theorem dX3_stood_43 : decode cX3_stood 43 = .ok (.getfield 174, 3) := dk_180 0 174 (dk_at dksX3_stood_1 19 rfl rfl)
theorem dX3_stood_46 : decode cX3_stood 46 = .ok (.isub, 1) := dk_100 (dk_at dksX3_stood_1 22 rfl rfl)
theorem dX3_stood_47 : decode cX3_stood 47 = .ok (.aload_n 1, 1) := dk_43 (dk_at dksX3_stood_1 23 rfl rfl)
theorem dX3_stood_48 : decode cX3_stood 48 = .ok (.invokevirtual 184, 3) := dk_182 0 184 (dk_at dksX3_stood_2 0 rfl rfl)
theorem dX3_stood_51 : decode cX3_stood 51 = .ok (.if_icmp .ne 7, 3) := dk_160 0 7 (dk_at dksX3_stood_2 3 rfl rfl)
theorem dX3_stood_54 : decode cX3_stood 54 = .ok (.iconst 1, 1) := dk_4 (dk_at dksX3_stood_2 6 rfl rfl)
theorem dX3_stood_55 : decode cX3_stood 55 = .ok (.goto 4, 3) := dk_167 0 4 (dk_at dksX3_stood_2 7 rfl rfl)
theorem dX3_stood_58 : decode cX3_stood 58 = .ok (.iconst 0, 1) := dk_3 (dk_at dksX3_stood_2 10 rfl rfl)
theorem dX3_stood_59 : decode cX3_stood 59 = .ok (.istore_n 3, 1) := dk_62 (dk_at dksX3_stood_2 11 rfl rfl)
theorem dX3_stood_60 : decode cX3_stood 60 = .ok (.iconst 0, 1) := dk_3 (dk_at dksX3_stood_2 12 rfl rfl)
theorem dX3_stood_61 : decode cX3_stood 61 = .ok (.istore 4, 2) := dk_54 4 (dk_at dksX3_stood_2 13 rfl rfl)
theorem dX3_stood_63 : decode cX3_stood 63 = .ok (.iload 4, 2) := dk_21 4 (dk_at dksX3_stood_2 15 rfl rfl)
theorem dX3_stood_65 : decode cX3_stood 65 = .ok (.aload_n 1, 1) := dk_43 (dk_at dksX3_stood_2 17 rfl rfl)
theorem dX3_stood_66 : decode cX3_stood 66 = .ok (.invokevirtual 184, 3) := dk_182 0 184 (dk_at dksX3_stood_2 18 rfl rfl)
theorem dX3_stood_69 : decode cX3_stood 69 = .ok (.if_icmp .ge 40, 3) := dk_162 0 40 (dk_at dksX3_stood_2 21 rfl rfl)
theorem dX3_stood_72 : decode cX3_stood 72 = .ok (.iload_n 3, 1) := dk_29 (dk_at dksX3_stood_3 0 rfl rfl)
theorem dX3_stood_73 : decode cX3_stood 73 = .ok (.ifCond .eq 36, 3) := dk_153 0 36 (dk_at dksX3_stood_3 1 rfl rfl)
theorem dX3_stood_76 : decode cX3_stood 76 = .ok (.aload_n 0, 1) := dk_42 (dk_at dksX3_stood_3 4 rfl rfl)
theorem dX3_stood_77 : decode cX3_stood 77 = .ok (.getfield 71, 3) := dk_180 0 71 (dk_at dksX3_stood_3 5 rfl rfl)
theorem dX3_stood_80 : decode cX3_stood 80 = .ok (.aload_n 0, 1) := dk_42 (dk_at dksX3_stood_3 8 rfl rfl)
theorem dX3_stood_81 : decode cX3_stood 81 = .ok (.getfield 174, 3) := dk_180 0 174 (dk_at dksX3_stood_3 9 rfl rfl)
theorem dX3_stood_84 : decode cX3_stood 84 = .ok (.iload 4, 2) := dk_21 4 (dk_at dksX3_stood_3 12 rfl rfl)
theorem dX3_stood_86 : decode cX3_stood 86 = .ok (.iadd, 1) := dk_96 (dk_at dksX3_stood_3 14 rfl rfl)
theorem dX3_stood_87 : decode cX3_stood 87 = .ok (.baload, 1) := dk_51 (dk_at dksX3_stood_3 15 rfl rfl)
theorem dX3_stood_88 : decode cX3_stood 88 = .ok (.aload_n 1, 1) := dk_43 (dk_at dksX3_stood_3 16 rfl rfl)
theorem dX3_stood_89 : decode cX3_stood 89 = .ok (.iload 4, 2) := dk_21 4 (dk_at dksX3_stood_3 17 rfl rfl)
theorem dX3_stood_91 : decode cX3_stood 91 = .ok (.invokevirtual 189, 3) := dk_182 0 189 (dk_at dksX3_stood_3 19 rfl rfl)
theorem dX3_stood_94 : decode cX3_stood 94 = .ok (.if_icmp .ne 7, 3) := dk_160 0 7 (dk_at dksX3_stood_4 0 rfl rfl)
theorem dX3_stood_97 : decode cX3_stood 97 = .ok (.iconst 1, 1) := dk_4 (dk_at dksX3_stood_4 3 rfl rfl)
theorem dX3_stood_98 : decode cX3_stood 98 = .ok (.goto 4, 3) := dk_167 0 4 (dk_at dksX3_stood_4 4 rfl rfl)
theorem dX3_stood_101 : decode cX3_stood 101 = .ok (.iconst 0, 1) := dk_3 (dk_at dksX3_stood_4 7 rfl rfl)
theorem dX3_stood_102 : decode cX3_stood 102 = .ok (.istore_n 3, 1) := dk_62 (dk_at dksX3_stood_4 8 rfl rfl)
theorem dX3_stood_103 : decode cX3_stood 103 = .ok (.iinc 4 1, 3) := dk_132 4 1 (dk_at dksX3_stood_4 9 rfl rfl)
theorem dX3_stood_106 : decode cX3_stood 106 = .ok (.goto (-43), 3) := dk_167 255 213 (dk_at dksX3_stood_4 12 rfl rfl)
theorem dX3_stood_109 : decode cX3_stood 109 = .ok (.iload_n 3, 1) := dk_29 (dk_at dksX3_stood_4 15 rfl rfl)
theorem dX3_stood_110 : decode cX3_stood 110 = .ok (.ireturn, 1) := dk_172 (dk_at dksX3_stood_4 16 rfl rfl)
abbrev cX3_fails : ByteArray := prog_17_method_14_code
def yX3_fails : MethodName := ⟨RX3, "fails", "(II)V"⟩
def dkwX3_fails_1 : List UInt8 := [181, 0, 171, 177]
abbrev dktX3_fails_1 : List UInt8 := dkwX3_fails_1 ++ []
def dkwX3_fails_0 : List UInt8 := [42, 42, 180, 0, 171, 154, 0, 14, 4, 16, 8, 28, 104, 96, 27, 96, 167, 0, 7, 42, 180, 0, 171]
abbrev dktX3_fails_0 : List UInt8 := dkwX3_fails_0 ++ dktX3_fails_1
theorem dksX3_fails_0 : cX3_fails.data.toList.drop 0 = dktX3_fails_0 := by decide +kernel
theorem dksX3_fails_1 : cX3_fails.data.toList.drop 23 = dktX3_fails_1 := dk_seg dksX3_fails_0 23 rfl rfl
theorem dX3_fails_0 : decode cX3_fails 0 = .ok (.aload_n 0, 1) := dk_42 (dk_at dksX3_fails_0 0 rfl rfl)
theorem dX3_fails_1 : decode cX3_fails 1 = .ok (.aload_n 0, 1) := dk_42 (dk_at dksX3_fails_0 1 rfl rfl)
theorem dX3_fails_2 : decode cX3_fails 2 = .ok (.getfield 171, 3) := dk_180 0 171 (dk_at dksX3_fails_0 2 rfl rfl)
theorem dX3_fails_5 : decode cX3_fails 5 = .ok (.ifCond .ne 14, 3) := dk_154 0 14 (dk_at dksX3_fails_0 5 rfl rfl)
theorem dX3_fails_8 : decode cX3_fails 8 = .ok (.iconst 1, 1) := dk_4 (dk_at dksX3_fails_0 8 rfl rfl)
theorem dX3_fails_9 : decode cX3_fails 9 = .ok (.bipush 8, 2) := dk_16 8 (dk_at dksX3_fails_0 9 rfl rfl)
theorem dX3_fails_11 : decode cX3_fails 11 = .ok (.iload_n 2, 1) := dk_28 (dk_at dksX3_fails_0 11 rfl rfl)
theorem dX3_fails_12 : decode cX3_fails 12 = .ok (.imul, 1) := dk_104 (dk_at dksX3_fails_0 12 rfl rfl)
theorem dX3_fails_13 : decode cX3_fails 13 = .ok (.iadd, 1) := dk_96 (dk_at dksX3_fails_0 13 rfl rfl)
theorem dX3_fails_14 : decode cX3_fails 14 = .ok (.iload_n 1, 1) := dk_27 (dk_at dksX3_fails_0 14 rfl rfl)
theorem dX3_fails_15 : decode cX3_fails 15 = .ok (.iadd, 1) := dk_96 (dk_at dksX3_fails_0 15 rfl rfl)
theorem dX3_fails_16 : decode cX3_fails 16 = .ok (.goto 7, 3) := dk_167 0 7 (dk_at dksX3_fails_0 16 rfl rfl)
theorem dX3_fails_19 : decode cX3_fails 19 = .ok (.aload_n 0, 1) := dk_42 (dk_at dksX3_fails_0 19 rfl rfl)
theorem dX3_fails_20 : decode cX3_fails 20 = .ok (.getfield 171, 3) := dk_180 0 171 (dk_at dksX3_fails_0 20 rfl rfl)
theorem dX3_fails_23 : decode cX3_fails 23 = .ok (.putfield 171, 3) := dk_181 0 171 (dk_at dksX3_fails_1 0 rfl rfl)
theorem dX3_fails_26 : decode cX3_fails 26 = .ok (.return_, 1) := dk_177 (dk_at dksX3_fails_1 3 rfl rfl)
abbrev cX3_isFull : ByteArray := prog_17_method_35_code
def yX3_isFull : MethodName := ⟨RX3, "isFull", "(II)Z"⟩
def dkwX3_isFull_2 : List UInt8 := [160, 0, 18, 42, 180, 0, 49, 6, 46, 16, 12, 160, 0, 7, 4, 167, 0, 4, 3, 172]
abbrev dktX3_isFull_2 : List UInt8 := dkwX3_isFull_2 ++ []
def dkwX3_isFull_1 : List UInt8 := [159, 0, 5, 4, 172, 27, 4, 160, 0, 13, 42, 180, 0, 49, 5, 46, 8, 159, 0, 19, 27, 5]
abbrev dktX3_isFull_1 : List UInt8 := dkwX3_isFull_1 ++ dktX3_isFull_2
def dkwX3_isFull_0 : List UInt8 := [28, 16, 40, 159, 0, 24, 27, 154, 0, 7, 4, 167, 0, 4, 3, 28, 154, 0, 7, 4, 167, 0, 4, 3]
abbrev dktX3_isFull_0 : List UInt8 := dkwX3_isFull_0 ++ dktX3_isFull_1
theorem dksX3_isFull_0 : cX3_isFull.data.toList.drop 0 = dktX3_isFull_0 := by decide +kernel
theorem dksX3_isFull_1 : cX3_isFull.data.toList.drop 24 = dktX3_isFull_1 := dk_seg dksX3_isFull_0 24 rfl rfl
theorem dksX3_isFull_2 : cX3_isFull.data.toList.drop 46 = dktX3_isFull_2 := dk_seg dksX3_isFull_1 22 rfl rfl
theorem dX3_isFull_0 : decode cX3_isFull 0 = .ok (.iload_n 2, 1) := dk_28 (dk_at dksX3_isFull_0 0 rfl rfl)
theorem dX3_isFull_1 : decode cX3_isFull 1 = .ok (.bipush 40, 2) := dk_16 40 (dk_at dksX3_isFull_0 1 rfl rfl)
theorem dX3_isFull_3 : decode cX3_isFull 3 = .ok (.if_icmp .eq 24, 3) := dk_159 0 24 (dk_at dksX3_isFull_0 3 rfl rfl)
theorem dX3_isFull_6 : decode cX3_isFull 6 = .ok (.iload_n 1, 1) := dk_27 (dk_at dksX3_isFull_0 6 rfl rfl)
theorem dX3_isFull_7 : decode cX3_isFull 7 = .ok (.ifCond .ne 7, 3) := dk_154 0 7 (dk_at dksX3_isFull_0 7 rfl rfl)
theorem dX3_isFull_10 : decode cX3_isFull 10 = .ok (.iconst 1, 1) := dk_4 (dk_at dksX3_isFull_0 10 rfl rfl)
theorem dX3_isFull_11 : decode cX3_isFull 11 = .ok (.goto 4, 3) := dk_167 0 4 (dk_at dksX3_isFull_0 11 rfl rfl)
theorem dX3_isFull_14 : decode cX3_isFull 14 = .ok (.iconst 0, 1) := dk_3 (dk_at dksX3_isFull_0 14 rfl rfl)
theorem dX3_isFull_15 : decode cX3_isFull 15 = .ok (.iload_n 2, 1) := dk_28 (dk_at dksX3_isFull_0 15 rfl rfl)
theorem dX3_isFull_16 : decode cX3_isFull 16 = .ok (.ifCond .ne 7, 3) := dk_154 0 7 (dk_at dksX3_isFull_0 16 rfl rfl)
theorem dX3_isFull_19 : decode cX3_isFull 19 = .ok (.iconst 1, 1) := dk_4 (dk_at dksX3_isFull_0 19 rfl rfl)
theorem dX3_isFull_20 : decode cX3_isFull 20 = .ok (.goto 4, 3) := dk_167 0 4 (dk_at dksX3_isFull_0 20 rfl rfl)
theorem dX3_isFull_23 : decode cX3_isFull 23 = .ok (.iconst 0, 1) := dk_3 (dk_at dksX3_isFull_0 23 rfl rfl)
theorem dX3_isFull_24 : decode cX3_isFull 24 = .ok (.if_icmp .eq 5, 3) := dk_159 0 5 (dk_at dksX3_isFull_1 0 rfl rfl)
theorem dX3_isFull_27 : decode cX3_isFull 27 = .ok (.iconst 1, 1) := dk_4 (dk_at dksX3_isFull_1 3 rfl rfl)
theorem dX3_isFull_28 : decode cX3_isFull 28 = .ok (.ireturn, 1) := dk_172 (dk_at dksX3_isFull_1 4 rfl rfl)
theorem dX3_isFull_29 : decode cX3_isFull 29 = .ok (.iload_n 1, 1) := dk_27 (dk_at dksX3_isFull_1 5 rfl rfl)
theorem dX3_isFull_30 : decode cX3_isFull 30 = .ok (.iconst 1, 1) := dk_4 (dk_at dksX3_isFull_1 6 rfl rfl)
theorem dX3_isFull_31 : decode cX3_isFull 31 = .ok (.if_icmp .ne 13, 3) := dk_160 0 13 (dk_at dksX3_isFull_1 7 rfl rfl)
theorem dX3_isFull_34 : decode cX3_isFull 34 = .ok (.aload_n 0, 1) := dk_42 (dk_at dksX3_isFull_1 10 rfl rfl)
theorem dX3_isFull_35 : decode cX3_isFull 35 = .ok (.getfield 49, 3) := dk_180 0 49 (dk_at dksX3_isFull_1 11 rfl rfl)
theorem dX3_isFull_38 : decode cX3_isFull 38 = .ok (.iconst 2, 1) := dk_5 (dk_at dksX3_isFull_1 14 rfl rfl)
theorem dX3_isFull_39 : decode cX3_isFull 39 = .ok (.iaload, 1) := dk_46 (dk_at dksX3_isFull_1 15 rfl rfl)
theorem dX3_isFull_40 : decode cX3_isFull 40 = .ok (.iconst 5, 1) := dk_8 (dk_at dksX3_isFull_1 16 rfl rfl)
theorem dX3_isFull_41 : decode cX3_isFull 41 = .ok (.if_icmp .eq 19, 3) := dk_159 0 19 (dk_at dksX3_isFull_1 17 rfl rfl)
theorem dX3_isFull_44 : decode cX3_isFull 44 = .ok (.iload_n 1, 1) := dk_27 (dk_at dksX3_isFull_1 20 rfl rfl)
theorem dX3_isFull_45 : decode cX3_isFull 45 = .ok (.iconst 2, 1) := dk_5 (dk_at dksX3_isFull_1 21 rfl rfl)
theorem dX3_isFull_46 : decode cX3_isFull 46 = .ok (.if_icmp .ne 18, 3) := dk_160 0 18 (dk_at dksX3_isFull_2 0 rfl rfl)
theorem dX3_isFull_49 : decode cX3_isFull 49 = .ok (.aload_n 0, 1) := dk_42 (dk_at dksX3_isFull_2 3 rfl rfl)
theorem dX3_isFull_50 : decode cX3_isFull 50 = .ok (.getfield 49, 3) := dk_180 0 49 (dk_at dksX3_isFull_2 4 rfl rfl)
theorem dX3_isFull_53 : decode cX3_isFull 53 = .ok (.iconst 3, 1) := dk_6 (dk_at dksX3_isFull_2 7 rfl rfl)
theorem dX3_isFull_54 : decode cX3_isFull 54 = .ok (.iaload, 1) := dk_46 (dk_at dksX3_isFull_2 8 rfl rfl)
theorem dX3_isFull_55 : decode cX3_isFull 55 = .ok (.bipush 12, 2) := dk_16 12 (dk_at dksX3_isFull_2 9 rfl rfl)
theorem dX3_isFull_57 : decode cX3_isFull 57 = .ok (.if_icmp .ne 7, 3) := dk_160 0 7 (dk_at dksX3_isFull_2 11 rfl rfl)
theorem dX3_isFull_60 : decode cX3_isFull 60 = .ok (.iconst 1, 1) := dk_4 (dk_at dksX3_isFull_2 14 rfl rfl)
theorem dX3_isFull_61 : decode cX3_isFull 61 = .ok (.goto 4, 3) := dk_167 0 4 (dk_at dksX3_isFull_2 15 rfl rfl)
theorem dX3_isFull_64 : decode cX3_isFull 64 = .ok (.iconst 0, 1) := dk_3 (dk_at dksX3_isFull_2 18 rfl rfl)
theorem dX3_isFull_65 : decode cX3_isFull 65 = .ok (.ireturn, 1) := dk_172 (dk_at dksX3_isFull_2 19 rfl rfl)
abbrev cX3_skyPart : ByteArray := prog_17_method_34_code
def yX3_skyPart : MethodName := ⟨RX3, "skyPart", "(I)V"⟩
def dkwX3_skyPart_8 : List UInt8 := [154, 0, 10, 42, 180, 0, 64, 29, 4, 79, 177]
abbrev dktX3_skyPart_8 : List UInt8 := dkwX3_skyPart_8 ++ []
def dkwX3_skyPart_7 : List UInt8 := [180, 0, 49, 6, 92, 46, 4, 96, 79, 167, 0, 24, 42, 3, 28, 182, 1, 16, 62, 42, 180, 0, 171]
abbrev dktX3_skyPart_7 : List UInt8 := dkwX3_skyPart_7 ++ dktX3_skyPart_8
def dkwX3_skyPart_6 : List UInt8 := [6, 182, 1, 16, 79, 42, 180, 0, 61, 42, 180, 0, 49, 6, 46, 42, 3, 16, 9, 182, 1, 16, 79, 42]
abbrev dktX3_skyPart_6 : List UInt8 := dkwX3_skyPart_6 ++ dktX3_skyPart_7
def dkwX3_skyPart_5 : List UInt8 := [180, 0, 49, 5, 92, 46, 4, 96, 79, 167, 0, 72, 42, 180, 0, 58, 42, 180, 0, 49, 6, 46, 42, 3]
abbrev dktX3_skyPart_5 : List UInt8 := dkwX3_skyPart_5 ++ dktX3_skyPart_6
def dkwX3_skyPart_4 : List UInt8 := [182, 1, 16, 79, 42, 180, 0, 55, 42, 180, 0, 49, 5, 46, 42, 3, 16, 9, 182, 1, 16, 79, 42]
abbrev dktX3_skyPart_4 : List UInt8 := dkwX3_skyPart_4 ++ dktX3_skyPart_5
def dkwX3_skyPart_3 : List UInt8 := [180, 0, 49, 3, 29, 79, 167, 0, 120, 42, 180, 0, 52, 42, 180, 0, 49, 5, 46, 42, 3, 28]
abbrev dktX3_skyPart_3 : List UInt8 := dkwX3_skyPart_3 ++ dktX3_skyPart_4
def dkwX3_skyPart_2 : List UInt8 := [42, 5, 16, 6, 182, 1, 16, 62, 42, 180, 0, 49, 4, 42, 4, 16, 60, 182, 1, 16, 79, 42]
abbrev dktX3_skyPart_2 : List UInt8 := dkwX3_skyPart_2 ++ dktX3_skyPart_3
def dkwX3_skyPart_1 : List UInt8 := [170, 0, 0, 0, 0, 0, 154, 0, 0, 0, 0, 0, 0, 0, 2, 0, 0, 0, 27, 0, 0, 0, 58, 0, 0, 0, 106]
abbrev dktX3_skyPart_1 : List UInt8 := dkwX3_skyPart_1 ++ dktX3_skyPart_2
def dkwX3_skyPart_0 : List UInt8 := [42, 180, 0, 49, 3, 46, 42, 180, 0, 49, 3, 46, 104, 4, 100, 61, 27]
abbrev dktX3_skyPart_0 : List UInt8 := dkwX3_skyPart_0 ++ dktX3_skyPart_1
theorem dksX3_skyPart_0 : cX3_skyPart.data.toList.drop 0 = dktX3_skyPart_0 := by decide +kernel
theorem dksX3_skyPart_1 : cX3_skyPart.data.toList.drop 17 = dktX3_skyPart_1 := dk_seg dksX3_skyPart_0 17 rfl rfl
theorem dksX3_skyPart_2 : cX3_skyPart.data.toList.drop 44 = dktX3_skyPart_2 := dk_seg dksX3_skyPart_1 27 rfl rfl
theorem dksX3_skyPart_3 : cX3_skyPart.data.toList.drop 66 = dktX3_skyPart_3 := dk_seg dksX3_skyPart_2 22 rfl rfl
theorem dksX3_skyPart_4 : cX3_skyPart.data.toList.drop 88 = dktX3_skyPart_4 := dk_seg dksX3_skyPart_3 22 rfl rfl
theorem dksX3_skyPart_5 : cX3_skyPart.data.toList.drop 111 = dktX3_skyPart_5 := dk_seg dksX3_skyPart_4 23 rfl rfl
theorem dksX3_skyPart_6 : cX3_skyPart.data.toList.drop 135 = dktX3_skyPart_6 := dk_seg dksX3_skyPart_5 24 rfl rfl
theorem dksX3_skyPart_7 : cX3_skyPart.data.toList.drop 159 = dktX3_skyPart_7 := dk_seg dksX3_skyPart_6 24 rfl rfl
theorem dksX3_skyPart_8 : cX3_skyPart.data.toList.drop 182 = dktX3_skyPart_8 := dk_seg dksX3_skyPart_7 23 rfl rfl
theorem dX3_skyPart_0 : decode cX3_skyPart 0 = .ok (.aload_n 0, 1) := dk_42 (dk_at dksX3_skyPart_0 0 rfl rfl)
theorem dX3_skyPart_1 : decode cX3_skyPart 1 = .ok (.getfield 49, 3) := dk_180 0 49 (dk_at dksX3_skyPart_0 1 rfl rfl)
theorem dX3_skyPart_4 : decode cX3_skyPart 4 = .ok (.iconst 0, 1) := dk_3 (dk_at dksX3_skyPart_0 4 rfl rfl)
theorem dX3_skyPart_5 : decode cX3_skyPart 5 = .ok (.iaload, 1) := dk_46 (dk_at dksX3_skyPart_0 5 rfl rfl)
theorem dX3_skyPart_6 : decode cX3_skyPart 6 = .ok (.aload_n 0, 1) := dk_42 (dk_at dksX3_skyPart_0 6 rfl rfl)
theorem dX3_skyPart_7 : decode cX3_skyPart 7 = .ok (.getfield 49, 3) := dk_180 0 49 (dk_at dksX3_skyPart_0 7 rfl rfl)
theorem dX3_skyPart_10 : decode cX3_skyPart 10 = .ok (.iconst 0, 1) := dk_3 (dk_at dksX3_skyPart_0 10 rfl rfl)
theorem dX3_skyPart_11 : decode cX3_skyPart 11 = .ok (.iaload, 1) := dk_46 (dk_at dksX3_skyPart_0 11 rfl rfl)
theorem dX3_skyPart_12 : decode cX3_skyPart 12 = .ok (.imul, 1) := dk_104 (dk_at dksX3_skyPart_0 12 rfl rfl)
theorem dX3_skyPart_13 : decode cX3_skyPart 13 = .ok (.iconst 1, 1) := dk_4 (dk_at dksX3_skyPart_0 13 rfl rfl)
theorem dX3_skyPart_14 : decode cX3_skyPart 14 = .ok (.isub, 1) := dk_100 (dk_at dksX3_skyPart_0 14 rfl rfl)
theorem dX3_skyPart_15 : decode cX3_skyPart 15 = .ok (.istore_n 2, 1) := dk_61 (dk_at dksX3_skyPart_0 15 rfl rfl)
theorem dX3_skyPart_16 : decode cX3_skyPart 16 = .ok (.iload_n 1, 1) := dk_27 (dk_at dksX3_skyPart_0 16 rfl rfl)
theorem dX3_skyPart_17 : decode cX3_skyPart 17 = .ok (.tableswitch 154 0 2 #[27, 58, 106], 27) := by decide +kernel
theorem dX3_skyPart_44 : decode cX3_skyPart 44 = .ok (.aload_n 0, 1) := dk_42 (dk_at dksX3_skyPart_2 0 rfl rfl)
theorem dX3_skyPart_45 : decode cX3_skyPart 45 = .ok (.iconst 2, 1) := dk_5 (dk_at dksX3_skyPart_2 1 rfl rfl)
theorem dX3_skyPart_46 : decode cX3_skyPart 46 = .ok (.bipush 6, 2) := dk_16 6 (dk_at dksX3_skyPart_2 2 rfl rfl)
theorem dX3_skyPart_48 : decode cX3_skyPart 48 = .ok (.invokevirtual 272, 3) := dk_182 1 16 (dk_at dksX3_skyPart_2 4 rfl rfl)
theorem dX3_skyPart_51 : decode cX3_skyPart 51 = .ok (.istore_n 3, 1) := dk_62 (dk_at dksX3_skyPart_2 7 rfl rfl)
theorem dX3_skyPart_52 : decode cX3_skyPart 52 = .ok (.aload_n 0, 1) := dk_42 (dk_at dksX3_skyPart_2 8 rfl rfl)
theorem dX3_skyPart_53 : decode cX3_skyPart 53 = .ok (.getfield 49, 3) := dk_180 0 49 (dk_at dksX3_skyPart_2 9 rfl rfl)
theorem dX3_skyPart_56 : decode cX3_skyPart 56 = .ok (.iconst 1, 1) := dk_4 (dk_at dksX3_skyPart_2 12 rfl rfl)
theorem dX3_skyPart_57 : decode cX3_skyPart 57 = .ok (.aload_n 0, 1) := dk_42 (dk_at dksX3_skyPart_2 13 rfl rfl)
theorem dX3_skyPart_58 : decode cX3_skyPart 58 = .ok (.iconst 1, 1) := dk_4 (dk_at dksX3_skyPart_2 14 rfl rfl)
theorem dX3_skyPart_59 : decode cX3_skyPart 59 = .ok (.bipush 60, 2) := dk_16 60 (dk_at dksX3_skyPart_2 15 rfl rfl)
theorem dX3_skyPart_61 : decode cX3_skyPart 61 = .ok (.invokevirtual 272, 3) := dk_182 1 16 (dk_at dksX3_skyPart_2 17 rfl rfl)
theorem dX3_skyPart_64 : decode cX3_skyPart 64 = .ok (.iastore, 1) := dk_79 (dk_at dksX3_skyPart_2 20 rfl rfl)
theorem dX3_skyPart_65 : decode cX3_skyPart 65 = .ok (.aload_n 0, 1) := dk_42 (dk_at dksX3_skyPart_2 21 rfl rfl)
theorem dX3_skyPart_66 : decode cX3_skyPart 66 = .ok (.getfield 49, 3) := dk_180 0 49 (dk_at dksX3_skyPart_3 0 rfl rfl)
theorem dX3_skyPart_69 : decode cX3_skyPart 69 = .ok (.iconst 0, 1) := dk_3 (dk_at dksX3_skyPart_3 3 rfl rfl)
theorem dX3_skyPart_70 : decode cX3_skyPart 70 = .ok (.iload_n 3, 1) := dk_29 (dk_at dksX3_skyPart_3 4 rfl rfl)
theorem dX3_skyPart_71 : decode cX3_skyPart 71 = .ok (.iastore, 1) := dk_79 (dk_at dksX3_skyPart_3 5 rfl rfl)
theorem dX3_skyPart_72 : decode cX3_skyPart 72 = .ok (.goto 120, 3) := dk_167 0 120 (dk_at dksX3_skyPart_3 6 rfl rfl)
theorem dX3_skyPart_75 : decode cX3_skyPart 75 = .ok (.aload_n 0, 1) := dk_42 (dk_at dksX3_skyPart_3 9 rfl rfl)
theorem dX3_skyPart_76 : decode cX3_skyPart 76 = .ok (.getfield 52, 3) := dk_180 0 52 (dk_at dksX3_skyPart_3 10 rfl rfl)
theorem dX3_skyPart_79 : decode cX3_skyPart 79 = .ok (.aload_n 0, 1) := dk_42 (dk_at dksX3_skyPart_3 13 rfl rfl)
theorem dX3_skyPart_80 : decode cX3_skyPart 80 = .ok (.getfield 49, 3) := dk_180 0 49 (dk_at dksX3_skyPart_3 14 rfl rfl)
theorem dX3_skyPart_83 : decode cX3_skyPart 83 = .ok (.iconst 2, 1) := dk_5 (dk_at dksX3_skyPart_3 17 rfl rfl)
theorem dX3_skyPart_84 : decode cX3_skyPart 84 = .ok (.iaload, 1) := dk_46 (dk_at dksX3_skyPart_3 18 rfl rfl)
theorem dX3_skyPart_85 : decode cX3_skyPart 85 = .ok (.aload_n 0, 1) := dk_42 (dk_at dksX3_skyPart_3 19 rfl rfl)
theorem dX3_skyPart_86 : decode cX3_skyPart 86 = .ok (.iconst 0, 1) := dk_3 (dk_at dksX3_skyPart_3 20 rfl rfl)
theorem dX3_skyPart_87 : decode cX3_skyPart 87 = .ok (.iload_n 2, 1) := dk_28 (dk_at dksX3_skyPart_3 21 rfl rfl)
theorem dX3_skyPart_88 : decode cX3_skyPart 88 = .ok (.invokevirtual 272, 3) := dk_182 1 16 (dk_at dksX3_skyPart_4 0 rfl rfl)
theorem dX3_skyPart_91 : decode cX3_skyPart 91 = .ok (.iastore, 1) := dk_79 (dk_at dksX3_skyPart_4 3 rfl rfl)
theorem dX3_skyPart_92 : decode cX3_skyPart 92 = .ok (.aload_n 0, 1) := dk_42 (dk_at dksX3_skyPart_4 4 rfl rfl)
theorem dX3_skyPart_93 : decode cX3_skyPart 93 = .ok (.getfield 55, 3) := dk_180 0 55 (dk_at dksX3_skyPart_4 5 rfl rfl)
theorem dX3_skyPart_96 : decode cX3_skyPart 96 = .ok (.aload_n 0, 1) := dk_42 (dk_at dksX3_skyPart_4 8 rfl rfl)
theorem dX3_skyPart_97 : decode cX3_skyPart 97 = .ok (.getfield 49, 3) := dk_180 0 49 (dk_at dksX3_skyPart_4 9 rfl rfl)
theorem dX3_skyPart_100 : decode cX3_skyPart 100 = .ok (.iconst 2, 1) := dk_5 (dk_at dksX3_skyPart_4 12 rfl rfl)
theorem dX3_skyPart_101 : decode cX3_skyPart 101 = .ok (.iaload, 1) := dk_46 (dk_at dksX3_skyPart_4 13 rfl rfl)
theorem dX3_skyPart_102 : decode cX3_skyPart 102 = .ok (.aload_n 0, 1) := dk_42 (dk_at dksX3_skyPart_4 14 rfl rfl)
theorem dX3_skyPart_103 : decode cX3_skyPart 103 = .ok (.iconst 0, 1) := dk_3 (dk_at dksX3_skyPart_4 15 rfl rfl)
theorem dX3_skyPart_104 : decode cX3_skyPart 104 = .ok (.bipush 9, 2) := dk_16 9 (dk_at dksX3_skyPart_4 16 rfl rfl)
theorem dX3_skyPart_106 : decode cX3_skyPart 106 = .ok (.invokevirtual 272, 3) := dk_182 1 16 (dk_at dksX3_skyPart_4 18 rfl rfl)
theorem dX3_skyPart_109 : decode cX3_skyPart 109 = .ok (.iastore, 1) := dk_79 (dk_at dksX3_skyPart_4 21 rfl rfl)
theorem dX3_skyPart_110 : decode cX3_skyPart 110 = .ok (.aload_n 0, 1) := dk_42 (dk_at dksX3_skyPart_4 22 rfl rfl)
theorem dX3_skyPart_111 : decode cX3_skyPart 111 = .ok (.getfield 49, 3) := dk_180 0 49 (dk_at dksX3_skyPart_5 0 rfl rfl)
theorem dX3_skyPart_114 : decode cX3_skyPart 114 = .ok (.iconst 2, 1) := dk_5 (dk_at dksX3_skyPart_5 3 rfl rfl)
theorem dX3_skyPart_115 : decode cX3_skyPart 115 = .ok (.dup2, 1) := dk_92 (dk_at dksX3_skyPart_5 4 rfl rfl)
theorem dX3_skyPart_116 : decode cX3_skyPart 116 = .ok (.iaload, 1) := dk_46 (dk_at dksX3_skyPart_5 5 rfl rfl)
theorem dX3_skyPart_117 : decode cX3_skyPart 117 = .ok (.iconst 1, 1) := dk_4 (dk_at dksX3_skyPart_5 6 rfl rfl)
theorem dX3_skyPart_118 : decode cX3_skyPart 118 = .ok (.iadd, 1) := dk_96 (dk_at dksX3_skyPart_5 7 rfl rfl)
theorem dX3_skyPart_119 : decode cX3_skyPart 119 = .ok (.iastore, 1) := dk_79 (dk_at dksX3_skyPart_5 8 rfl rfl)
theorem dX3_skyPart_120 : decode cX3_skyPart 120 = .ok (.goto 72, 3) := dk_167 0 72 (dk_at dksX3_skyPart_5 9 rfl rfl)
theorem dX3_skyPart_123 : decode cX3_skyPart 123 = .ok (.aload_n 0, 1) := dk_42 (dk_at dksX3_skyPart_5 12 rfl rfl)
theorem dX3_skyPart_124 : decode cX3_skyPart 124 = .ok (.getfield 58, 3) := dk_180 0 58 (dk_at dksX3_skyPart_5 13 rfl rfl)
theorem dX3_skyPart_127 : decode cX3_skyPart 127 = .ok (.aload_n 0, 1) := dk_42 (dk_at dksX3_skyPart_5 16 rfl rfl)
theorem dX3_skyPart_128 : decode cX3_skyPart 128 = .ok (.getfield 49, 3) := dk_180 0 49 (dk_at dksX3_skyPart_5 17 rfl rfl)
theorem dX3_skyPart_131 : decode cX3_skyPart 131 = .ok (.iconst 3, 1) := dk_6 (dk_at dksX3_skyPart_5 20 rfl rfl)
theorem dX3_skyPart_132 : decode cX3_skyPart 132 = .ok (.iaload, 1) := dk_46 (dk_at dksX3_skyPart_5 21 rfl rfl)
theorem dX3_skyPart_133 : decode cX3_skyPart 133 = .ok (.aload_n 0, 1) := dk_42 (dk_at dksX3_skyPart_5 22 rfl rfl)
theorem dX3_skyPart_134 : decode cX3_skyPart 134 = .ok (.iconst 0, 1) := dk_3 (dk_at dksX3_skyPart_5 23 rfl rfl)
theorem dX3_skyPart_135 : decode cX3_skyPart 135 = .ok (.iconst 3, 1) := dk_6 (dk_at dksX3_skyPart_6 0 rfl rfl)
theorem dX3_skyPart_136 : decode cX3_skyPart 136 = .ok (.invokevirtual 272, 3) := dk_182 1 16 (dk_at dksX3_skyPart_6 1 rfl rfl)
theorem dX3_skyPart_139 : decode cX3_skyPart 139 = .ok (.iastore, 1) := dk_79 (dk_at dksX3_skyPart_6 4 rfl rfl)
theorem dX3_skyPart_140 : decode cX3_skyPart 140 = .ok (.aload_n 0, 1) := dk_42 (dk_at dksX3_skyPart_6 5 rfl rfl)
theorem dX3_skyPart_141 : decode cX3_skyPart 141 = .ok (.getfield 61, 3) := dk_180 0 61 (dk_at dksX3_skyPart_6 6 rfl rfl)
theorem dX3_skyPart_144 : decode cX3_skyPart 144 = .ok (.aload_n 0, 1) := dk_42 (dk_at dksX3_skyPart_6 9 rfl rfl)
theorem dX3_skyPart_145 : decode cX3_skyPart 145 = .ok (.getfield 49, 3) := dk_180 0 49 (dk_at dksX3_skyPart_6 10 rfl rfl)
theorem dX3_skyPart_148 : decode cX3_skyPart 148 = .ok (.iconst 3, 1) := dk_6 (dk_at dksX3_skyPart_6 13 rfl rfl)
theorem dX3_skyPart_149 : decode cX3_skyPart 149 = .ok (.iaload, 1) := dk_46 (dk_at dksX3_skyPart_6 14 rfl rfl)
theorem dX3_skyPart_150 : decode cX3_skyPart 150 = .ok (.aload_n 0, 1) := dk_42 (dk_at dksX3_skyPart_6 15 rfl rfl)
theorem dX3_skyPart_151 : decode cX3_skyPart 151 = .ok (.iconst 0, 1) := dk_3 (dk_at dksX3_skyPart_6 16 rfl rfl)
theorem dX3_skyPart_152 : decode cX3_skyPart 152 = .ok (.bipush 9, 2) := dk_16 9 (dk_at dksX3_skyPart_6 17 rfl rfl)
theorem dX3_skyPart_154 : decode cX3_skyPart 154 = .ok (.invokevirtual 272, 3) := dk_182 1 16 (dk_at dksX3_skyPart_6 19 rfl rfl)
theorem dX3_skyPart_157 : decode cX3_skyPart 157 = .ok (.iastore, 1) := dk_79 (dk_at dksX3_skyPart_6 22 rfl rfl)
theorem dX3_skyPart_158 : decode cX3_skyPart 158 = .ok (.aload_n 0, 1) := dk_42 (dk_at dksX3_skyPart_6 23 rfl rfl)
theorem dX3_skyPart_159 : decode cX3_skyPart 159 = .ok (.getfield 49, 3) := dk_180 0 49 (dk_at dksX3_skyPart_7 0 rfl rfl)
theorem dX3_skyPart_162 : decode cX3_skyPart 162 = .ok (.iconst 3, 1) := dk_6 (dk_at dksX3_skyPart_7 3 rfl rfl)
theorem dX3_skyPart_163 : decode cX3_skyPart 163 = .ok (.dup2, 1) := dk_92 (dk_at dksX3_skyPart_7 4 rfl rfl)
theorem dX3_skyPart_164 : decode cX3_skyPart 164 = .ok (.iaload, 1) := dk_46 (dk_at dksX3_skyPart_7 5 rfl rfl)
theorem dX3_skyPart_165 : decode cX3_skyPart 165 = .ok (.iconst 1, 1) := dk_4 (dk_at dksX3_skyPart_7 6 rfl rfl)
theorem dX3_skyPart_166 : decode cX3_skyPart 166 = .ok (.iadd, 1) := dk_96 (dk_at dksX3_skyPart_7 7 rfl rfl)
theorem dX3_skyPart_167 : decode cX3_skyPart 167 = .ok (.iastore, 1) := dk_79 (dk_at dksX3_skyPart_7 8 rfl rfl)
theorem dX3_skyPart_168 : decode cX3_skyPart 168 = .ok (.goto 24, 3) := dk_167 0 24 (dk_at dksX3_skyPart_7 9 rfl rfl)
theorem dX3_skyPart_171 : decode cX3_skyPart 171 = .ok (.aload_n 0, 1) := dk_42 (dk_at dksX3_skyPart_7 12 rfl rfl)
theorem dX3_skyPart_172 : decode cX3_skyPart 172 = .ok (.iconst 0, 1) := dk_3 (dk_at dksX3_skyPart_7 13 rfl rfl)
theorem dX3_skyPart_173 : decode cX3_skyPart 173 = .ok (.iload_n 2, 1) := dk_28 (dk_at dksX3_skyPart_7 14 rfl rfl)
theorem dX3_skyPart_174 : decode cX3_skyPart 174 = .ok (.invokevirtual 272, 3) := dk_182 1 16 (dk_at dksX3_skyPart_7 15 rfl rfl)
theorem dX3_skyPart_177 : decode cX3_skyPart 177 = .ok (.istore_n 3, 1) := dk_62 (dk_at dksX3_skyPart_7 18 rfl rfl)
theorem dX3_skyPart_178 : decode cX3_skyPart 178 = .ok (.aload_n 0, 1) := dk_42 (dk_at dksX3_skyPart_7 19 rfl rfl)
theorem dX3_skyPart_179 : decode cX3_skyPart 179 = .ok (.getfield 171, 3) := dk_180 0 171 (dk_at dksX3_skyPart_7 20 rfl rfl)
theorem dX3_skyPart_182 : decode cX3_skyPart 182 = .ok (.ifCond .ne 10, 3) := dk_154 0 10 (dk_at dksX3_skyPart_8 0 rfl rfl)
theorem dX3_skyPart_185 : decode cX3_skyPart 185 = .ok (.aload_n 0, 1) := dk_42 (dk_at dksX3_skyPart_8 3 rfl rfl)
theorem dX3_skyPart_186 : decode cX3_skyPart 186 = .ok (.getfield 64, 3) := dk_180 0 64 (dk_at dksX3_skyPart_8 4 rfl rfl)
theorem dX3_skyPart_189 : decode cX3_skyPart 189 = .ok (.iload_n 3, 1) := dk_29 (dk_at dksX3_skyPart_8 7 rfl rfl)
theorem dX3_skyPart_190 : decode cX3_skyPart 190 = .ok (.iconst 1, 1) := dk_4 (dk_at dksX3_skyPart_8 8 rfl rfl)
theorem dX3_skyPart_191 : decode cX3_skyPart 191 = .ok (.iastore, 1) := dk_79 (dk_at dksX3_skyPart_8 9 rfl rfl)
theorem dX3_skyPart_192 : decode cX3_skyPart 192 = .ok (.return_, 1) := dk_177 (dk_at dksX3_skyPart_8 10 rfl rfl)
abbrev cX3_amount : ByteArray := prog_17_method_32_code
def yX3_amount : MethodName := ⟨RX3, "amount", "(II)I"⟩
def dkwX3_amount_2 : List UInt8 := [154, 0, 9, 42, 4, 29, 182, 0, 209, 21, 4, 172]
abbrev dktX3_amount_2 : List UInt8 := dkwX3_amount_2 ++ []
def dkwX3_amount_1 : List UInt8 := [167, 0, 4, 3, 54, 4, 42, 180, 0, 171, 154, 0, 22, 21, 4, 133, 27, 133, 28, 133, 184, 0, 138]
abbrev dktX3_amount_1 : List UInt8 := dkwX3_amount_1 ++ dktX3_amount_2
def dkwX3_amount_0 : List UInt8 := [42, 182, 0, 193, 42, 180, 0, 174, 62, 42, 180, 0, 171, 154, 0, 12, 42, 18, 217, 182, 0, 218]
abbrev dktX3_amount_0 : List UInt8 := dkwX3_amount_0 ++ dktX3_amount_1
theorem dksX3_amount_0 : cX3_amount.data.toList.drop 0 = dktX3_amount_0 := by decide +kernel
theorem dksX3_amount_1 : cX3_amount.data.toList.drop 22 = dktX3_amount_1 := dk_seg dksX3_amount_0 22 rfl rfl
theorem dksX3_amount_2 : cX3_amount.data.toList.drop 45 = dktX3_amount_2 := dk_seg dksX3_amount_1 23 rfl rfl
theorem dX3_amount_0 : decode cX3_amount 0 = .ok (.aload_n 0, 1) := dk_42 (dk_at dksX3_amount_0 0 rfl rfl)
theorem dX3_amount_1 : decode cX3_amount 1 = .ok (.invokevirtual 193, 3) := dk_182 0 193 (dk_at dksX3_amount_0 1 rfl rfl)
theorem dX3_amount_4 : decode cX3_amount 4 = .ok (.aload_n 0, 1) := dk_42 (dk_at dksX3_amount_0 4 rfl rfl)
theorem dX3_amount_5 : decode cX3_amount 5 = .ok (.getfield 174, 3) := dk_180 0 174 (dk_at dksX3_amount_0 5 rfl rfl)
theorem dX3_amount_8 : decode cX3_amount 8 = .ok (.istore_n 3, 1) := dk_62 (dk_at dksX3_amount_0 8 rfl rfl)
theorem dX3_amount_9 : decode cX3_amount 9 = .ok (.aload_n 0, 1) := dk_42 (dk_at dksX3_amount_0 9 rfl rfl)
theorem dX3_amount_10 : decode cX3_amount 10 = .ok (.getfield 171, 3) := dk_180 0 171 (dk_at dksX3_amount_0 10 rfl rfl)
theorem dX3_amount_13 : decode cX3_amount 13 = .ok (.ifCond .ne 12, 3) := dk_154 0 12 (dk_at dksX3_amount_0 13 rfl rfl)
theorem dX3_amount_16 : decode cX3_amount 16 = .ok (.aload_n 0, 1) := dk_42 (dk_at dksX3_amount_0 16 rfl rfl)
theorem dX3_amount_17 : decode cX3_amount 17 = .ok (.ldc 217, 2) := dk_18 217 (dk_at dksX3_amount_0 17 rfl rfl)
theorem dX3_amount_19 : decode cX3_amount 19 = .ok (.invokevirtual 218, 3) := dk_182 0 218 (dk_at dksX3_amount_0 19 rfl rfl)
theorem dX3_amount_22 : decode cX3_amount 22 = .ok (.goto 4, 3) := dk_167 0 4 (dk_at dksX3_amount_1 0 rfl rfl)
theorem dX3_amount_25 : decode cX3_amount 25 = .ok (.iconst 0, 1) := dk_3 (dk_at dksX3_amount_1 3 rfl rfl)
theorem dX3_amount_26 : decode cX3_amount 26 = .ok (.istore 4, 2) := dk_54 4 (dk_at dksX3_amount_1 4 rfl rfl)
theorem dX3_amount_28 : decode cX3_amount 28 = .ok (.aload_n 0, 1) := dk_42 (dk_at dksX3_amount_1 6 rfl rfl)
theorem dX3_amount_29 : decode cX3_amount 29 = .ok (.getfield 171, 3) := dk_180 0 171 (dk_at dksX3_amount_1 7 rfl rfl)
theorem dX3_amount_32 : decode cX3_amount 32 = .ok (.ifCond .ne 22, 3) := dk_154 0 22 (dk_at dksX3_amount_1 10 rfl rfl)
theorem dX3_amount_35 : decode cX3_amount 35 = .ok (.iload 4, 2) := dk_21 4 (dk_at dksX3_amount_1 13 rfl rfl)
theorem dX3_amount_37 : decode cX3_amount 37 = .ok (.i2l, 1) := dk_133 (dk_at dksX3_amount_1 15 rfl rfl)
theorem dX3_amount_38 : decode cX3_amount 38 = .ok (.iload_n 1, 1) := dk_27 (dk_at dksX3_amount_1 16 rfl rfl)
theorem dX3_amount_39 : decode cX3_amount 39 = .ok (.i2l, 1) := dk_133 (dk_at dksX3_amount_1 17 rfl rfl)
theorem dX3_amount_40 : decode cX3_amount 40 = .ok (.iload_n 2, 1) := dk_28 (dk_at dksX3_amount_1 18 rfl rfl)
theorem dX3_amount_41 : decode cX3_amount 41 = .ok (.i2l, 1) := dk_133 (dk_at dksX3_amount_1 19 rfl rfl)
theorem dX3_amount_42 : decode cX3_amount 42 = .ok (.invokestatic 138, 3) := dk_184 0 138 (dk_at dksX3_amount_1 20 rfl rfl)
theorem dX3_amount_45 : decode cX3_amount 45 = .ok (.ifCond .ne 9, 3) := dk_154 0 9 (dk_at dksX3_amount_2 0 rfl rfl)
theorem dX3_amount_48 : decode cX3_amount 48 = .ok (.aload_n 0, 1) := dk_42 (dk_at dksX3_amount_2 3 rfl rfl)
theorem dX3_amount_49 : decode cX3_amount 49 = .ok (.iconst 1, 1) := dk_4 (dk_at dksX3_amount_2 4 rfl rfl)
theorem dX3_amount_50 : decode cX3_amount 50 = .ok (.iload_n 3, 1) := dk_29 (dk_at dksX3_amount_2 5 rfl rfl)
theorem dX3_amount_51 : decode cX3_amount 51 = .ok (.invokevirtual 209, 3) := dk_182 0 209 (dk_at dksX3_amount_2 6 rfl rfl)
theorem dX3_amount_54 : decode cX3_amount 54 = .ok (.iload 4, 2) := dk_21 4 (dk_at dksX3_amount_2 9 rfl rfl)
theorem dX3_amount_56 : decode cX3_amount 56 = .ok (.ireturn, 1) := dk_172 (dk_at dksX3_amount_2 11 rfl rfl)
abbrev cX3_digits : ByteArray := prog_17_method_22_code
def yX3_digits : MethodName := ⟨RX3, "digits", "(I)I"⟩
def dkwX3_digits_4 : List UInt8 := [29, 172]
abbrev dktX3_digits_4 : List UInt8 := dkwX3_digits_4 ++ []
def dkwX3_digits_3 : List UInt8 := [167, 255, 212, 42, 180, 0, 174, 28, 100, 8, 163, 0, 8, 29, 27, 164, 0, 9, 42, 4, 28, 182, 0, 209]
abbrev dktX3_digits_3 : List UInt8 := dkwX3_digits_3 ++ dktX3_digits_4
def dkwX3_digits_2 : List UInt8 := [182, 0, 177, 96, 16, 48, 100, 167, 0, 4, 29, 62, 42, 89, 180, 0, 174, 4, 96, 181, 0, 174]
abbrev dktX3_digits_2 : List UInt8 := dkwX3_digits_2 ++ dktX3_digits_3
def dkwX3_digits_1 : List UInt8 := [62, 42, 182, 0, 213, 153, 0, 43, 42, 180, 0, 174, 28, 100, 8, 162, 0, 18, 16, 10, 29, 104, 42]
abbrev dktX3_digits_1 : List UInt8 := dkwX3_digits_1 ++ dktX3_digits_2
def dkwX3_digits_0 : List UInt8 := [42, 182, 0, 213, 154, 0, 14, 42, 3, 42, 180, 0, 174, 182, 0, 209, 3, 172, 42, 180, 0, 174, 61, 3]
abbrev dktX3_digits_0 : List UInt8 := dkwX3_digits_0 ++ dktX3_digits_1
theorem dksX3_digits_0 : cX3_digits.data.toList.drop 0 = dktX3_digits_0 := by decide +kernel
theorem dksX3_digits_1 : cX3_digits.data.toList.drop 24 = dktX3_digits_1 := dk_seg dksX3_digits_0 24 rfl rfl
theorem dksX3_digits_2 : cX3_digits.data.toList.drop 47 = dktX3_digits_2 := dk_seg dksX3_digits_1 23 rfl rfl
theorem dksX3_digits_3 : cX3_digits.data.toList.drop 69 = dktX3_digits_3 := dk_seg dksX3_digits_2 22 rfl rfl
theorem dksX3_digits_4 : cX3_digits.data.toList.drop 93 = dktX3_digits_4 := dk_seg dksX3_digits_3 24 rfl rfl
theorem dX3_digits_0 : decode cX3_digits 0 = .ok (.aload_n 0, 1) := dk_42 (dk_at dksX3_digits_0 0 rfl rfl)
theorem dX3_digits_1 : decode cX3_digits 1 = .ok (.invokevirtual 213, 3) := dk_182 0 213 (dk_at dksX3_digits_0 1 rfl rfl)
theorem dX3_digits_4 : decode cX3_digits 4 = .ok (.ifCond .ne 14, 3) := dk_154 0 14 (dk_at dksX3_digits_0 4 rfl rfl)
theorem dX3_digits_7 : decode cX3_digits 7 = .ok (.aload_n 0, 1) := dk_42 (dk_at dksX3_digits_0 7 rfl rfl)
theorem dX3_digits_8 : decode cX3_digits 8 = .ok (.iconst 0, 1) := dk_3 (dk_at dksX3_digits_0 8 rfl rfl)
theorem dX3_digits_9 : decode cX3_digits 9 = .ok (.aload_n 0, 1) := dk_42 (dk_at dksX3_digits_0 9 rfl rfl)
theorem dX3_digits_10 : decode cX3_digits 10 = .ok (.getfield 174, 3) := dk_180 0 174 (dk_at dksX3_digits_0 10 rfl rfl)
theorem dX3_digits_13 : decode cX3_digits 13 = .ok (.invokevirtual 209, 3) := dk_182 0 209 (dk_at dksX3_digits_0 13 rfl rfl)
theorem dX3_digits_16 : decode cX3_digits 16 = .ok (.iconst 0, 1) := dk_3 (dk_at dksX3_digits_0 16 rfl rfl)
theorem dX3_digits_17 : decode cX3_digits 17 = .ok (.ireturn, 1) := dk_172 (dk_at dksX3_digits_0 17 rfl rfl)
theorem dX3_digits_18 : decode cX3_digits 18 = .ok (.aload_n 0, 1) := dk_42 (dk_at dksX3_digits_0 18 rfl rfl)
theorem dX3_digits_19 : decode cX3_digits 19 = .ok (.getfield 174, 3) := dk_180 0 174 (dk_at dksX3_digits_0 19 rfl rfl)
theorem dX3_digits_22 : decode cX3_digits 22 = .ok (.istore_n 2, 1) := dk_61 (dk_at dksX3_digits_0 22 rfl rfl)
theorem dX3_digits_23 : decode cX3_digits 23 = .ok (.iconst 0, 1) := dk_3 (dk_at dksX3_digits_0 23 rfl rfl)
theorem dX3_digits_24 : decode cX3_digits 24 = .ok (.istore_n 3, 1) := dk_62 (dk_at dksX3_digits_1 0 rfl rfl)
theorem dX3_digits_25 : decode cX3_digits 25 = .ok (.aload_n 0, 1) := dk_42 (dk_at dksX3_digits_1 1 rfl rfl)
theorem dX3_digits_26 : decode cX3_digits 26 = .ok (.invokevirtual 213, 3) := dk_182 0 213 (dk_at dksX3_digits_1 2 rfl rfl)
theorem dX3_digits_29 : decode cX3_digits 29 = .ok (.ifCond .eq 43, 3) := dk_153 0 43 (dk_at dksX3_digits_1 5 rfl rfl)
theorem dX3_digits_32 : decode cX3_digits 32 = .ok (.aload_n 0, 1) := dk_42 (dk_at dksX3_digits_1 8 rfl rfl)
theorem dX3_digits_33 : decode cX3_digits 33 = .ok (.getfield 174, 3) := dk_180 0 174 (dk_at dksX3_digits_1 9 rfl rfl)
theorem dX3_digits_36 : decode cX3_digits 36 = .ok (.iload_n 2, 1) := dk_28 (dk_at dksX3_digits_1 12 rfl rfl)
theorem dX3_digits_37 : decode cX3_digits 37 = .ok (.isub, 1) := dk_100 (dk_at dksX3_digits_1 13 rfl rfl)
theorem dX3_digits_38 : decode cX3_digits 38 = .ok (.iconst 5, 1) := dk_8 (dk_at dksX3_digits_1 14 rfl rfl)
theorem dX3_digits_39 : decode cX3_digits 39 = .ok (.if_icmp .ge 18, 3) := dk_162 0 18 (dk_at dksX3_digits_1 15 rfl rfl)
theorem dX3_digits_42 : decode cX3_digits 42 = .ok (.bipush 10, 2) := dk_16 10 (dk_at dksX3_digits_1 18 rfl rfl)
theorem dX3_digits_44 : decode cX3_digits 44 = .ok (.iload_n 3, 1) := dk_29 (dk_at dksX3_digits_1 20 rfl rfl)
theorem dX3_digits_45 : decode cX3_digits 45 = .ok (.imul, 1) := dk_104 (dk_at dksX3_digits_1 21 rfl rfl)
theorem dX3_digits_46 : decode cX3_digits 46 = .ok (.aload_n 0, 1) := dk_42 (dk_at dksX3_digits_1 22 rfl rfl)
theorem dX3_digits_47 : decode cX3_digits 47 = .ok (.invokevirtual 177, 3) := dk_182 0 177 (dk_at dksX3_digits_2 0 rfl rfl)
theorem dX3_digits_50 : decode cX3_digits 50 = .ok (.iadd, 1) := dk_96 (dk_at dksX3_digits_2 3 rfl rfl)
theorem dX3_digits_51 : decode cX3_digits 51 = .ok (.bipush 48, 2) := dk_16 48 (dk_at dksX3_digits_2 4 rfl rfl)
theorem dX3_digits_53 : decode cX3_digits 53 = .ok (.isub, 1) := dk_100 (dk_at dksX3_digits_2 6 rfl rfl)
theorem dX3_digits_54 : decode cX3_digits 54 = .ok (.goto 4, 3) := dk_167 0 4 (dk_at dksX3_digits_2 7 rfl rfl)
theorem dX3_digits_57 : decode cX3_digits 57 = .ok (.iload_n 3, 1) := dk_29 (dk_at dksX3_digits_2 10 rfl rfl)
theorem dX3_digits_58 : decode cX3_digits 58 = .ok (.istore_n 3, 1) := dk_62 (dk_at dksX3_digits_2 11 rfl rfl)
theorem dX3_digits_59 : decode cX3_digits 59 = .ok (.aload_n 0, 1) := dk_42 (dk_at dksX3_digits_2 12 rfl rfl)
theorem dX3_digits_60 : decode cX3_digits 60 = .ok (.dup, 1) := dk_89 (dk_at dksX3_digits_2 13 rfl rfl)
theorem dX3_digits_61 : decode cX3_digits 61 = .ok (.getfield 174, 3) := dk_180 0 174 (dk_at dksX3_digits_2 14 rfl rfl)
theorem dX3_digits_64 : decode cX3_digits 64 = .ok (.iconst 1, 1) := dk_4 (dk_at dksX3_digits_2 17 rfl rfl)
theorem dX3_digits_65 : decode cX3_digits 65 = .ok (.iadd, 1) := dk_96 (dk_at dksX3_digits_2 18 rfl rfl)
theorem dX3_digits_66 : decode cX3_digits 66 = .ok (.putfield 174, 3) := dk_181 0 174 (dk_at dksX3_digits_2 19 rfl rfl)
theorem dX3_digits_69 : decode cX3_digits 69 = .ok (.goto (-44), 3) := dk_167 255 212 (dk_at dksX3_digits_3 0 rfl rfl)
theorem dX3_digits_72 : decode cX3_digits 72 = .ok (.aload_n 0, 1) := dk_42 (dk_at dksX3_digits_3 3 rfl rfl)
theorem dX3_digits_73 : decode cX3_digits 73 = .ok (.getfield 174, 3) := dk_180 0 174 (dk_at dksX3_digits_3 4 rfl rfl)
theorem dX3_digits_76 : decode cX3_digits 76 = .ok (.iload_n 2, 1) := dk_28 (dk_at dksX3_digits_3 7 rfl rfl)
theorem dX3_digits_77 : decode cX3_digits 77 = .ok (.isub, 1) := dk_100 (dk_at dksX3_digits_3 8 rfl rfl)
theorem dX3_digits_78 : decode cX3_digits 78 = .ok (.iconst 5, 1) := dk_8 (dk_at dksX3_digits_3 9 rfl rfl)
theorem dX3_digits_79 : decode cX3_digits 79 = .ok (.if_icmp .gt 8, 3) := dk_163 0 8 (dk_at dksX3_digits_3 10 rfl rfl)
theorem dX3_digits_82 : decode cX3_digits 82 = .ok (.iload_n 3, 1) := dk_29 (dk_at dksX3_digits_3 13 rfl rfl)
theorem dX3_digits_83 : decode cX3_digits 83 = .ok (.iload_n 1, 1) := dk_27 (dk_at dksX3_digits_3 14 rfl rfl)
theorem dX3_digits_84 : decode cX3_digits 84 = .ok (.if_icmp .le 9, 3) := dk_164 0 9 (dk_at dksX3_digits_3 15 rfl rfl)
theorem dX3_digits_87 : decode cX3_digits 87 = .ok (.aload_n 0, 1) := dk_42 (dk_at dksX3_digits_3 18 rfl rfl)
theorem dX3_digits_88 : decode cX3_digits 88 = .ok (.iconst 1, 1) := dk_4 (dk_at dksX3_digits_3 19 rfl rfl)
theorem dX3_digits_89 : decode cX3_digits 89 = .ok (.iload_n 2, 1) := dk_28 (dk_at dksX3_digits_3 20 rfl rfl)
theorem dX3_digits_90 : decode cX3_digits 90 = .ok (.invokevirtual 209, 3) := dk_182 0 209 (dk_at dksX3_digits_3 21 rfl rfl)
theorem dX3_digits_93 : decode cX3_digits 93 = .ok (.iload_n 3, 1) := dk_29 (dk_at dksX3_digits_4 0 rfl rfl)
theorem dX3_digits_94 : decode cX3_digits 94 = .ok (.ireturn, 1) := dk_172 (dk_at dksX3_digits_4 1 rfl rfl)
abbrev cX3_isDigit : ByteArray := prog_17_method_17_code
def yX3_isDigit : MethodName := ⟨RX3, "isDigit", "()Z"⟩
def dkwX3_isDigit_0 : List UInt8 := [42, 182, 0, 177, 133, 20, 0, 180, 20, 0, 182, 184, 0, 138, 172]
abbrev dktX3_isDigit_0 : List UInt8 := dkwX3_isDigit_0 ++ []
theorem dksX3_isDigit_0 : cX3_isDigit.data.toList.drop 0 = dktX3_isDigit_0 := by decide +kernel
theorem dX3_isDigit_0 : decode cX3_isDigit 0 = .ok (.aload_n 0, 1) := dk_42 (dk_at dksX3_isDigit_0 0 rfl rfl)
theorem dX3_isDigit_1 : decode cX3_isDigit 1 = .ok (.invokevirtual 177, 3) := dk_182 0 177 (dk_at dksX3_isDigit_0 1 rfl rfl)
theorem dX3_isDigit_4 : decode cX3_isDigit 4 = .ok (.i2l, 1) := dk_133 (dk_at dksX3_isDigit_0 4 rfl rfl)
theorem dX3_isDigit_5 : decode cX3_isDigit 5 = .ok (.ldc2_w 180, 3) := dk_20 0 180 (dk_at dksX3_isDigit_0 5 rfl rfl)
theorem dX3_isDigit_8 : decode cX3_isDigit 8 = .ok (.ldc2_w 182, 3) := dk_20 0 182 (dk_at dksX3_isDigit_0 8 rfl rfl)
theorem dX3_isDigit_11 : decode cX3_isDigit 11 = .ok (.invokestatic 138, 3) := dk_184 0 138 (dk_at dksX3_isDigit_0 11 rfl rfl)
theorem dX3_isDigit_14 : decode cX3_isDigit 14 = .ok (.ireturn, 1) := dk_172 (dk_at dksX3_isDigit_0 14 rfl rfl)
abbrev cX3_in : ByteArray := prog_17_method_3_code
def yX3_in : MethodName := ⟨RX3, "in", "(JJJ)Z"⟩
def dkwX3_in_0 : List UInt8 := [30, 32, 148, 155, 0, 14, 30, 22, 4, 148, 157, 0, 7, 4, 167, 0, 4, 3, 172]
abbrev dktX3_in_0 : List UInt8 := dkwX3_in_0 ++ []
theorem dksX3_in_0 : cX3_in.data.toList.drop 0 = dktX3_in_0 := by decide +kernel
theorem dX3_in_0 : decode cX3_in 0 = .ok (.lload_n 0, 1) := dk_30 (dk_at dksX3_in_0 0 rfl rfl)
theorem dX3_in_1 : decode cX3_in 1 = .ok (.lload_n 2, 1) := dk_32 (dk_at dksX3_in_0 1 rfl rfl)
theorem dX3_in_2 : decode cX3_in 2 = .ok (.lcmp, 1) := dk_148 (dk_at dksX3_in_0 2 rfl rfl)
theorem dX3_in_3 : decode cX3_in 3 = .ok (.ifCond .lt 14, 3) := dk_155 0 14 (dk_at dksX3_in_0 3 rfl rfl)
theorem dX3_in_6 : decode cX3_in 6 = .ok (.lload_n 0, 1) := dk_30 (dk_at dksX3_in_0 6 rfl rfl)
theorem dX3_in_7 : decode cX3_in 7 = .ok (.lload 4, 2) := dk_22 4 (dk_at dksX3_in_0 7 rfl rfl)
theorem dX3_in_9 : decode cX3_in 9 = .ok (.lcmp, 1) := dk_148 (dk_at dksX3_in_0 9 rfl rfl)
theorem dX3_in_10 : decode cX3_in 10 = .ok (.ifCond .gt 7, 3) := dk_157 0 7 (dk_at dksX3_in_0 10 rfl rfl)
theorem dX3_in_13 : decode cX3_in 13 = .ok (.iconst 1, 1) := dk_4 (dk_at dksX3_in_0 13 rfl rfl)
theorem dX3_in_14 : decode cX3_in 14 = .ok (.goto 4, 3) := dk_167 0 4 (dk_at dksX3_in_0 14 rfl rfl)
theorem dX3_in_17 : decode cX3_in 17 = .ok (.iconst 0, 1) := dk_3 (dk_at dksX3_in_0 17 rfl rfl)
theorem dX3_in_18 : decode cX3_in 18 = .ok (.ireturn, 1) := dk_172 (dk_at dksX3_in_0 18 rfl rfl)
abbrev cX3_goesOn : ByteArray := prog_17_method_38_code
def yX3_goesOn : MethodName := ⟨RX3, "goesOn", "()Z"⟩
def dkwX3_goesOn_3 : List UInt8 := [181, 0, 174, 27, 172]
abbrev dktX3_goesOn_3 : List UInt8 := dkwX3_goesOn_3 ++ []
def dkwX3_goesOn_2 : List UInt8 := [42, 180, 0, 174, 42, 180, 0, 142, 162, 0, 7, 4, 167, 0, 4, 3, 60, 42, 89, 180, 0, 174, 4, 96]
abbrev dktX3_goesOn_2 : List UInt8 := dkwX3_goesOn_2 ++ dktX3_goesOn_3
def dkwX3_goesOn_1 : List UInt8 := [182, 0, 177, 16, 59, 159, 0, 12, 42, 3, 42, 180, 0, 174, 182, 0, 209, 42, 180, 0, 171, 154, 0, 18]
abbrev dktX3_goesOn_1 : List UInt8 := dkwX3_goesOn_1 ++ dktX3_goesOn_2
def dkwX3_goesOn_0 : List UInt8 := [42, 182, 0, 193, 42, 180, 0, 171, 154, 0, 32, 42, 180, 0, 174, 42, 180, 0, 142, 162, 0, 21, 42]
abbrev dktX3_goesOn_0 : List UInt8 := dkwX3_goesOn_0 ++ dktX3_goesOn_1
theorem dksX3_goesOn_0 : cX3_goesOn.data.toList.drop 0 = dktX3_goesOn_0 := by decide +kernel
theorem dksX3_goesOn_1 : cX3_goesOn.data.toList.drop 23 = dktX3_goesOn_1 := dk_seg dksX3_goesOn_0 23 rfl rfl
theorem dksX3_goesOn_2 : cX3_goesOn.data.toList.drop 47 = dktX3_goesOn_2 := dk_seg dksX3_goesOn_1 24 rfl rfl
theorem dksX3_goesOn_3 : cX3_goesOn.data.toList.drop 71 = dktX3_goesOn_3 := dk_seg dksX3_goesOn_2 24 rfl rfl
theorem dX3_goesOn_0 : decode cX3_goesOn 0 = .ok (.aload_n 0, 1) := dk_42 (dk_at dksX3_goesOn_0 0 rfl rfl)
theorem dX3_goesOn_1 : decode cX3_goesOn 1 = .ok (.invokevirtual 193, 3) := dk_182 0 193 (dk_at dksX3_goesOn_0 1 rfl rfl)
theorem dX3_goesOn_4 : decode cX3_goesOn 4 = .ok (.aload_n 0, 1) := dk_42 (dk_at dksX3_goesOn_0 4 rfl rfl)
theorem dX3_goesOn_5 : decode cX3_goesOn 5 = .ok (.getfield 171, 3) := dk_180 0 171 (dk_at dksX3_goesOn_0 5 rfl rfl)
theorem dX3_goesOn_8 : decode cX3_goesOn 8 = .ok (.ifCond .ne 32, 3) := dk_154 0 32 (dk_at dksX3_goesOn_0 8 rfl rfl)
theorem dX3_goesOn_11 : decode cX3_goesOn 11 = .ok (.aload_n 0, 1) := dk_42 (dk_at dksX3_goesOn_0 11 rfl rfl)
theorem dX3_goesOn_12 : decode cX3_goesOn 12 = .ok (.getfield 174, 3) := dk_180 0 174 (dk_at dksX3_goesOn_0 12 rfl rfl)
theorem dX3_goesOn_15 : decode cX3_goesOn 15 = .ok (.aload_n 0, 1) := dk_42 (dk_at dksX3_goesOn_0 15 rfl rfl)
theorem dX3_goesOn_16 : decode cX3_goesOn 16 = .ok (.getfield 142, 3) := dk_180 0 142 (dk_at dksX3_goesOn_0 16 rfl rfl)
theorem dX3_goesOn_19 : decode cX3_goesOn 19 = .ok (.if_icmp .ge 21, 3) := dk_162 0 21 (dk_at dksX3_goesOn_0 19 rfl rfl)
theorem dX3_goesOn_22 : decode cX3_goesOn 22 = .ok (.aload_n 0, 1) := dk_42 (dk_at dksX3_goesOn_0 22 rfl rfl)
theorem dX3_goesOn_23 : decode cX3_goesOn 23 = .ok (.invokevirtual 177, 3) := dk_182 0 177 (dk_at dksX3_goesOn_1 0 rfl rfl)
theorem dX3_goesOn_26 : decode cX3_goesOn 26 = .ok (.bipush 59, 2) := dk_16 59 (dk_at dksX3_goesOn_1 3 rfl rfl)
theorem dX3_goesOn_28 : decode cX3_goesOn 28 = .ok (.if_icmp .eq 12, 3) := dk_159 0 12 (dk_at dksX3_goesOn_1 5 rfl rfl)
theorem dX3_goesOn_31 : decode cX3_goesOn 31 = .ok (.aload_n 0, 1) := dk_42 (dk_at dksX3_goesOn_1 8 rfl rfl)
theorem dX3_goesOn_32 : decode cX3_goesOn 32 = .ok (.iconst 0, 1) := dk_3 (dk_at dksX3_goesOn_1 9 rfl rfl)
theorem dX3_goesOn_33 : decode cX3_goesOn 33 = .ok (.aload_n 0, 1) := dk_42 (dk_at dksX3_goesOn_1 10 rfl rfl)
theorem dX3_goesOn_34 : decode cX3_goesOn 34 = .ok (.getfield 174, 3) := dk_180 0 174 (dk_at dksX3_goesOn_1 11 rfl rfl)
theorem dX3_goesOn_37 : decode cX3_goesOn 37 = .ok (.invokevirtual 209, 3) := dk_182 0 209 (dk_at dksX3_goesOn_1 14 rfl rfl)
theorem dX3_goesOn_40 : decode cX3_goesOn 40 = .ok (.aload_n 0, 1) := dk_42 (dk_at dksX3_goesOn_1 17 rfl rfl)
theorem dX3_goesOn_41 : decode cX3_goesOn 41 = .ok (.getfield 171, 3) := dk_180 0 171 (dk_at dksX3_goesOn_1 18 rfl rfl)
theorem dX3_goesOn_44 : decode cX3_goesOn 44 = .ok (.ifCond .ne 18, 3) := dk_154 0 18 (dk_at dksX3_goesOn_1 21 rfl rfl)
theorem dX3_goesOn_47 : decode cX3_goesOn 47 = .ok (.aload_n 0, 1) := dk_42 (dk_at dksX3_goesOn_2 0 rfl rfl)
theorem dX3_goesOn_48 : decode cX3_goesOn 48 = .ok (.getfield 174, 3) := dk_180 0 174 (dk_at dksX3_goesOn_2 1 rfl rfl)
theorem dX3_goesOn_51 : decode cX3_goesOn 51 = .ok (.aload_n 0, 1) := dk_42 (dk_at dksX3_goesOn_2 4 rfl rfl)
theorem dX3_goesOn_52 : decode cX3_goesOn 52 = .ok (.getfield 142, 3) := dk_180 0 142 (dk_at dksX3_goesOn_2 5 rfl rfl)
theorem dX3_goesOn_55 : decode cX3_goesOn 55 = .ok (.if_icmp .ge 7, 3) := dk_162 0 7 (dk_at dksX3_goesOn_2 8 rfl rfl)
theorem dX3_goesOn_58 : decode cX3_goesOn 58 = .ok (.iconst 1, 1) := dk_4 (dk_at dksX3_goesOn_2 11 rfl rfl)
theorem dX3_goesOn_59 : decode cX3_goesOn 59 = .ok (.goto 4, 3) := dk_167 0 4 (dk_at dksX3_goesOn_2 12 rfl rfl)
theorem dX3_goesOn_62 : decode cX3_goesOn 62 = .ok (.iconst 0, 1) := dk_3 (dk_at dksX3_goesOn_2 15 rfl rfl)
theorem dX3_goesOn_63 : decode cX3_goesOn 63 = .ok (.istore_n 1, 1) := dk_60 (dk_at dksX3_goesOn_2 16 rfl rfl)
theorem dX3_goesOn_64 : decode cX3_goesOn 64 = .ok (.aload_n 0, 1) := dk_42 (dk_at dksX3_goesOn_2 17 rfl rfl)
theorem dX3_goesOn_65 : decode cX3_goesOn 65 = .ok (.dup, 1) := dk_89 (dk_at dksX3_goesOn_2 18 rfl rfl)
theorem dX3_goesOn_66 : decode cX3_goesOn 66 = .ok (.getfield 174, 3) := dk_180 0 174 (dk_at dksX3_goesOn_2 19 rfl rfl)
theorem dX3_goesOn_69 : decode cX3_goesOn 69 = .ok (.iconst 1, 1) := dk_4 (dk_at dksX3_goesOn_2 22 rfl rfl)
theorem dX3_goesOn_70 : decode cX3_goesOn 70 = .ok (.iadd, 1) := dk_96 (dk_at dksX3_goesOn_2 23 rfl rfl)
theorem dX3_goesOn_71 : decode cX3_goesOn 71 = .ok (.putfield 174, 3) := dk_181 0 174 (dk_at dksX3_goesOn_3 0 rfl rfl)
theorem dX3_goesOn_74 : decode cX3_goesOn 74 = .ok (.iload_n 1, 1) := dk_27 (dk_at dksX3_goesOn_3 3 rfl rfl)
theorem dX3_goesOn_75 : decode cX3_goesOn 75 = .ok (.ireturn, 1) := dk_172 (dk_at dksX3_goesOn_3 4 rfl rfl)
abbrev cX3_copies : ByteArray := prog_17_method_37_code
def yX3_copies : MethodName := ⟨RX3, "copies", "([I[I)V"⟩
def dkwX3_copies_0 : List UInt8 := [3, 61, 28, 42, 190, 162, 0, 15, 43, 28, 42, 28, 46, 79, 132, 2, 1, 167, 255, 241, 177]
abbrev dktX3_copies_0 : List UInt8 := dkwX3_copies_0 ++ []
theorem dksX3_copies_0 : cX3_copies.data.toList.drop 0 = dktX3_copies_0 := by decide +kernel
theorem dX3_copies_0 : decode cX3_copies 0 = .ok (.iconst 0, 1) := dk_3 (dk_at dksX3_copies_0 0 rfl rfl)
theorem dX3_copies_1 : decode cX3_copies 1 = .ok (.istore_n 2, 1) := dk_61 (dk_at dksX3_copies_0 1 rfl rfl)
theorem dX3_copies_2 : decode cX3_copies 2 = .ok (.iload_n 2, 1) := dk_28 (dk_at dksX3_copies_0 2 rfl rfl)
theorem dX3_copies_3 : decode cX3_copies 3 = .ok (.aload_n 0, 1) := dk_42 (dk_at dksX3_copies_0 3 rfl rfl)
theorem dX3_copies_4 : decode cX3_copies 4 = .ok (.arraylength, 1) := dk_190 (dk_at dksX3_copies_0 4 rfl rfl)
theorem dX3_copies_5 : decode cX3_copies 5 = .ok (.if_icmp .ge 15, 3) := dk_162 0 15 (dk_at dksX3_copies_0 5 rfl rfl)
theorem dX3_copies_8 : decode cX3_copies 8 = .ok (.aload_n 1, 1) := dk_43 (dk_at dksX3_copies_0 8 rfl rfl)
theorem dX3_copies_9 : decode cX3_copies 9 = .ok (.iload_n 2, 1) := dk_28 (dk_at dksX3_copies_0 9 rfl rfl)
theorem dX3_copies_10 : decode cX3_copies 10 = .ok (.aload_n 0, 1) := dk_42 (dk_at dksX3_copies_0 10 rfl rfl)
theorem dX3_copies_11 : decode cX3_copies 11 = .ok (.iload_n 2, 1) := dk_28 (dk_at dksX3_copies_0 11 rfl rfl)
theorem dX3_copies_12 : decode cX3_copies 12 = .ok (.iaload, 1) := dk_46 (dk_at dksX3_copies_0 12 rfl rfl)
theorem dX3_copies_13 : decode cX3_copies 13 = .ok (.iastore, 1) := dk_79 (dk_at dksX3_copies_0 13 rfl rfl)
theorem dX3_copies_14 : decode cX3_copies 14 = .ok (.iinc 2 1, 3) := dk_132 2 1 (dk_at dksX3_copies_0 14 rfl rfl)
theorem dX3_copies_17 : decode cX3_copies 17 = .ok (.goto (-15), 3) := dk_167 255 241 (dk_at dksX3_copies_0 17 rfl rfl)
theorem dX3_copies_20 : decode cX3_copies 20 = .ok (.return_, 1) := dk_177 (dk_at dksX3_copies_0 20 rfl rfl)
abbrev cX3_begins : ByteArray := prog_17_method_41_code
def yX3_begins : MethodName := ⟨RX3, "begins", "()V"⟩
def dkwX3_begins_3 : List UInt8 := [167, 255, 233, 177]
abbrev dktX3_begins_3 : List UInt8 := dkwX3_begins_3 ++ []
def dkwX3_begins_2 : List UInt8 := [16, 36, 162, 0, 23, 42, 180, 0, 19, 27, 2, 79, 42, 180, 0, 22, 27, 2, 79, 132, 1, 1]
abbrev dktX3_begins_2 : List UInt8 := dkwX3_begins_2 ++ dktX3_begins_3
def dkwX3_begins_1 : List UInt8 := [180, 0, 9, 7, 3, 79, 42, 180, 0, 9, 8, 3, 79, 42, 180, 0, 9, 16, 6, 3, 79, 3, 60, 27]
abbrev dktX3_begins_1 : List UInt8 := dkwX3_begins_1 ++ dktX3_begins_2
def dkwX3_begins_0 : List UInt8 := [42, 180, 0, 43, 42, 180, 0, 13, 184, 1, 39, 42, 180, 0, 46, 42, 180, 0, 16, 184, 1, 39, 42]
abbrev dktX3_begins_0 : List UInt8 := dkwX3_begins_0 ++ dktX3_begins_1
theorem dksX3_begins_0 : cX3_begins.data.toList.drop 0 = dktX3_begins_0 := by decide +kernel
theorem dksX3_begins_1 : cX3_begins.data.toList.drop 23 = dktX3_begins_1 := dk_seg dksX3_begins_0 23 rfl rfl
theorem dksX3_begins_2 : cX3_begins.data.toList.drop 47 = dktX3_begins_2 := dk_seg dksX3_begins_1 24 rfl rfl
theorem dksX3_begins_3 : cX3_begins.data.toList.drop 69 = dktX3_begins_3 := dk_seg dksX3_begins_2 22 rfl rfl
theorem dX3_begins_0 : decode cX3_begins 0 = .ok (.aload_n 0, 1) := dk_42 (dk_at dksX3_begins_0 0 rfl rfl)
theorem dX3_begins_1 : decode cX3_begins 1 = .ok (.getfield 43, 3) := dk_180 0 43 (dk_at dksX3_begins_0 1 rfl rfl)
theorem dX3_begins_4 : decode cX3_begins 4 = .ok (.aload_n 0, 1) := dk_42 (dk_at dksX3_begins_0 4 rfl rfl)
theorem dX3_begins_5 : decode cX3_begins 5 = .ok (.getfield 13, 3) := dk_180 0 13 (dk_at dksX3_begins_0 5 rfl rfl)
theorem dX3_begins_8 : decode cX3_begins 8 = .ok (.invokestatic 295, 3) := dk_184 1 39 (dk_at dksX3_begins_0 8 rfl rfl)
theorem dX3_begins_11 : decode cX3_begins 11 = .ok (.aload_n 0, 1) := dk_42 (dk_at dksX3_begins_0 11 rfl rfl)
theorem dX3_begins_12 : decode cX3_begins 12 = .ok (.getfield 46, 3) := dk_180 0 46 (dk_at dksX3_begins_0 12 rfl rfl)
theorem dX3_begins_15 : decode cX3_begins 15 = .ok (.aload_n 0, 1) := dk_42 (dk_at dksX3_begins_0 15 rfl rfl)
theorem dX3_begins_16 : decode cX3_begins 16 = .ok (.getfield 16, 3) := dk_180 0 16 (dk_at dksX3_begins_0 16 rfl rfl)
theorem dX3_begins_19 : decode cX3_begins 19 = .ok (.invokestatic 295, 3) := dk_184 1 39 (dk_at dksX3_begins_0 19 rfl rfl)
theorem dX3_begins_22 : decode cX3_begins 22 = .ok (.aload_n 0, 1) := dk_42 (dk_at dksX3_begins_0 22 rfl rfl)
theorem dX3_begins_23 : decode cX3_begins 23 = .ok (.getfield 9, 3) := dk_180 0 9 (dk_at dksX3_begins_1 0 rfl rfl)
theorem dX3_begins_26 : decode cX3_begins 26 = .ok (.iconst 4, 1) := dk_7 (dk_at dksX3_begins_1 3 rfl rfl)
theorem dX3_begins_27 : decode cX3_begins 27 = .ok (.iconst 0, 1) := dk_3 (dk_at dksX3_begins_1 4 rfl rfl)
theorem dX3_begins_28 : decode cX3_begins 28 = .ok (.iastore, 1) := dk_79 (dk_at dksX3_begins_1 5 rfl rfl)
theorem dX3_begins_29 : decode cX3_begins 29 = .ok (.aload_n 0, 1) := dk_42 (dk_at dksX3_begins_1 6 rfl rfl)
theorem dX3_begins_30 : decode cX3_begins 30 = .ok (.getfield 9, 3) := dk_180 0 9 (dk_at dksX3_begins_1 7 rfl rfl)
theorem dX3_begins_33 : decode cX3_begins 33 = .ok (.iconst 5, 1) := dk_8 (dk_at dksX3_begins_1 10 rfl rfl)
theorem dX3_begins_34 : decode cX3_begins 34 = .ok (.iconst 0, 1) := dk_3 (dk_at dksX3_begins_1 11 rfl rfl)
theorem dX3_begins_35 : decode cX3_begins 35 = .ok (.iastore, 1) := dk_79 (dk_at dksX3_begins_1 12 rfl rfl)
theorem dX3_begins_36 : decode cX3_begins 36 = .ok (.aload_n 0, 1) := dk_42 (dk_at dksX3_begins_1 13 rfl rfl)
theorem dX3_begins_37 : decode cX3_begins 37 = .ok (.getfield 9, 3) := dk_180 0 9 (dk_at dksX3_begins_1 14 rfl rfl)
theorem dX3_begins_40 : decode cX3_begins 40 = .ok (.bipush 6, 2) := dk_16 6 (dk_at dksX3_begins_1 17 rfl rfl)
theorem dX3_begins_42 : decode cX3_begins 42 = .ok (.iconst 0, 1) := dk_3 (dk_at dksX3_begins_1 19 rfl rfl)
theorem dX3_begins_43 : decode cX3_begins 43 = .ok (.iastore, 1) := dk_79 (dk_at dksX3_begins_1 20 rfl rfl)
theorem dX3_begins_44 : decode cX3_begins 44 = .ok (.iconst 0, 1) := dk_3 (dk_at dksX3_begins_1 21 rfl rfl)
theorem dX3_begins_45 : decode cX3_begins 45 = .ok (.istore_n 1, 1) := dk_60 (dk_at dksX3_begins_1 22 rfl rfl)
theorem dX3_begins_46 : decode cX3_begins 46 = .ok (.iload_n 1, 1) := dk_27 (dk_at dksX3_begins_1 23 rfl rfl)
theorem dX3_begins_47 : decode cX3_begins 47 = .ok (.bipush 36, 2) := dk_16 36 (dk_at dksX3_begins_2 0 rfl rfl)
theorem dX3_begins_49 : decode cX3_begins 49 = .ok (.if_icmp .ge 23, 3) := dk_162 0 23 (dk_at dksX3_begins_2 2 rfl rfl)
theorem dX3_begins_52 : decode cX3_begins 52 = .ok (.aload_n 0, 1) := dk_42 (dk_at dksX3_begins_2 5 rfl rfl)
theorem dX3_begins_53 : decode cX3_begins 53 = .ok (.getfield 19, 3) := dk_180 0 19 (dk_at dksX3_begins_2 6 rfl rfl)
theorem dX3_begins_56 : decode cX3_begins 56 = .ok (.iload_n 1, 1) := dk_27 (dk_at dksX3_begins_2 9 rfl rfl)
theorem dX3_begins_57 : decode cX3_begins 57 = .ok (.iconst (-1), 1) := dk_2 (dk_at dksX3_begins_2 10 rfl rfl)
theorem dX3_begins_58 : decode cX3_begins 58 = .ok (.iastore, 1) := dk_79 (dk_at dksX3_begins_2 11 rfl rfl)
theorem dX3_begins_59 : decode cX3_begins 59 = .ok (.aload_n 0, 1) := dk_42 (dk_at dksX3_begins_2 12 rfl rfl)
theorem dX3_begins_60 : decode cX3_begins 60 = .ok (.getfield 22, 3) := dk_180 0 22 (dk_at dksX3_begins_2 13 rfl rfl)
theorem dX3_begins_63 : decode cX3_begins 63 = .ok (.iload_n 1, 1) := dk_27 (dk_at dksX3_begins_2 16 rfl rfl)
theorem dX3_begins_64 : decode cX3_begins 64 = .ok (.iconst (-1), 1) := dk_2 (dk_at dksX3_begins_2 17 rfl rfl)
theorem dX3_begins_65 : decode cX3_begins 65 = .ok (.iastore, 1) := dk_79 (dk_at dksX3_begins_2 18 rfl rfl)
theorem dX3_begins_66 : decode cX3_begins 66 = .ok (.iinc 1 1, 3) := dk_132 1 1 (dk_at dksX3_begins_2 19 rfl rfl)
theorem dX3_begins_69 : decode cX3_begins 69 = .ok (.goto (-23), 3) := dk_167 255 233 (dk_at dksX3_begins_3 0 rfl rfl)
theorem dX3_begins_72 : decode cX3_begins 72 = .ok (.return_, 1) := dk_177 (dk_at dksX3_begins_3 3 rfl rfl)
abbrev cX3_rule : ByteArray := prog_17_method_44_code
def yX3_rule : MethodName := ⟨RX3, "rule", "()I"⟩
def dkwX3_rule_4 : List UInt8 := [180, 0, 171, 100, 167, 0, 9, 42, 180, 1, 62, 4, 100, 172]
abbrev dktX3_rule_4 : List UInt8 := dkwX3_rule_4 ++ []
def dkwX3_rule_3 : List UInt8 := [154, 0, 7, 4, 167, 0, 4, 3, 96, 181, 1, 62, 42, 180, 0, 171, 158, 0, 13, 16, 254, 42]
abbrev dktX3_rule_3 : List UInt8 := dkwX3_rule_3 ++ dktX3_rule_4
def dkwX3_rule_2 : List UInt8 := [3, 181, 0, 142, 42, 180, 0, 81, 42, 180, 0, 200, 27, 79, 42, 89, 180, 1, 62, 42, 180, 0, 171]
abbrev dktX3_rule_2 : List UInt8 := dkwX3_rule_2 ++ dktX3_rule_3
def dkwX3_rule_1 : List UInt8 := [60, 4, 61, 28, 153, 0, 19, 42, 27, 182, 1, 65, 132, 1, 1, 42, 182, 1, 36, 61, 167, 255, 239, 42]
abbrev dktX3_rule_1 : List UInt8 := dkwX3_rule_1 ++ dktX3_rule_2
def dkwX3_rule_0 : List UInt8 := [42, 180, 1, 62, 16, 6, 160, 0, 5, 2, 172, 42, 42, 180, 1, 62, 181, 0, 200, 42, 182, 1, 30, 3]
abbrev dktX3_rule_0 : List UInt8 := dkwX3_rule_0 ++ dktX3_rule_1
theorem dksX3_rule_0 : cX3_rule.data.toList.drop 0 = dktX3_rule_0 := by decide +kernel
theorem dksX3_rule_1 : cX3_rule.data.toList.drop 24 = dktX3_rule_1 := dk_seg dksX3_rule_0 24 rfl rfl
theorem dksX3_rule_2 : cX3_rule.data.toList.drop 48 = dktX3_rule_2 := dk_seg dksX3_rule_1 24 rfl rfl
theorem dksX3_rule_3 : cX3_rule.data.toList.drop 71 = dktX3_rule_3 := dk_seg dksX3_rule_2 23 rfl rfl
theorem dksX3_rule_4 : cX3_rule.data.toList.drop 93 = dktX3_rule_4 := dk_seg dksX3_rule_3 22 rfl rfl
theorem dX3_rule_0 : decode cX3_rule 0 = .ok (.aload_n 0, 1) := dk_42 (dk_at dksX3_rule_0 0 rfl rfl)
theorem dX3_rule_1 : decode cX3_rule 1 = .ok (.getfield 318, 3) := dk_180 1 62 (dk_at dksX3_rule_0 1 rfl rfl)
theorem dX3_rule_4 : decode cX3_rule 4 = .ok (.bipush 6, 2) := dk_16 6 (dk_at dksX3_rule_0 4 rfl rfl)
theorem dX3_rule_6 : decode cX3_rule 6 = .ok (.if_icmp .ne 5, 3) := dk_160 0 5 (dk_at dksX3_rule_0 6 rfl rfl)
theorem dX3_rule_9 : decode cX3_rule 9 = .ok (.iconst (-1), 1) := dk_2 (dk_at dksX3_rule_0 9 rfl rfl)
theorem dX3_rule_10 : decode cX3_rule 10 = .ok (.ireturn, 1) := dk_172 (dk_at dksX3_rule_0 10 rfl rfl)
theorem dX3_rule_11 : decode cX3_rule 11 = .ok (.aload_n 0, 1) := dk_42 (dk_at dksX3_rule_0 11 rfl rfl)
theorem dX3_rule_12 : decode cX3_rule 12 = .ok (.aload_n 0, 1) := dk_42 (dk_at dksX3_rule_0 12 rfl rfl)
theorem dX3_rule_13 : decode cX3_rule 13 = .ok (.getfield 318, 3) := dk_180 1 62 (dk_at dksX3_rule_0 13 rfl rfl)
theorem dX3_rule_16 : decode cX3_rule 16 = .ok (.putfield 200, 3) := dk_181 0 200 (dk_at dksX3_rule_0 16 rfl rfl)
theorem dX3_rule_19 : decode cX3_rule 19 = .ok (.aload_n 0, 1) := dk_42 (dk_at dksX3_rule_0 19 rfl rfl)
theorem dX3_rule_20 : decode cX3_rule 20 = .ok (.invokevirtual 286, 3) := dk_182 1 30 (dk_at dksX3_rule_0 20 rfl rfl)
theorem dX3_rule_23 : decode cX3_rule 23 = .ok (.iconst 0, 1) := dk_3 (dk_at dksX3_rule_0 23 rfl rfl)
theorem dX3_rule_24 : decode cX3_rule 24 = .ok (.istore_n 1, 1) := dk_60 (dk_at dksX3_rule_1 0 rfl rfl)
theorem dX3_rule_25 : decode cX3_rule 25 = .ok (.iconst 1, 1) := dk_4 (dk_at dksX3_rule_1 1 rfl rfl)
theorem dX3_rule_26 : decode cX3_rule 26 = .ok (.istore_n 2, 1) := dk_61 (dk_at dksX3_rule_1 2 rfl rfl)
theorem dX3_rule_27 : decode cX3_rule 27 = .ok (.iload_n 2, 1) := dk_28 (dk_at dksX3_rule_1 3 rfl rfl)
theorem dX3_rule_28 : decode cX3_rule 28 = .ok (.ifCond .eq 19, 3) := dk_153 0 19 (dk_at dksX3_rule_1 4 rfl rfl)
theorem dX3_rule_31 : decode cX3_rule 31 = .ok (.aload_n 0, 1) := dk_42 (dk_at dksX3_rule_1 7 rfl rfl)
theorem dX3_rule_32 : decode cX3_rule 32 = .ok (.iload_n 1, 1) := dk_27 (dk_at dksX3_rule_1 8 rfl rfl)
theorem dX3_rule_33 : decode cX3_rule 33 = .ok (.invokevirtual 321, 3) := dk_182 1 65 (dk_at dksX3_rule_1 9 rfl rfl)
theorem dX3_rule_36 : decode cX3_rule 36 = .ok (.iinc 1 1, 3) := dk_132 1 1 (dk_at dksX3_rule_1 12 rfl rfl)
theorem dX3_rule_39 : decode cX3_rule 39 = .ok (.aload_n 0, 1) := dk_42 (dk_at dksX3_rule_1 15 rfl rfl)
theorem dX3_rule_40 : decode cX3_rule 40 = .ok (.invokevirtual 292, 3) := dk_182 1 36 (dk_at dksX3_rule_1 16 rfl rfl)
theorem dX3_rule_43 : decode cX3_rule 43 = .ok (.istore_n 2, 1) := dk_61 (dk_at dksX3_rule_1 19 rfl rfl)
theorem dX3_rule_44 : decode cX3_rule 44 = .ok (.goto (-17), 3) := dk_167 255 239 (dk_at dksX3_rule_1 20 rfl rfl)
theorem dX3_rule_47 : decode cX3_rule 47 = .ok (.aload_n 0, 1) := dk_42 (dk_at dksX3_rule_1 23 rfl rfl)
theorem dX3_rule_48 : decode cX3_rule 48 = .ok (.iconst 0, 1) := dk_3 (dk_at dksX3_rule_2 0 rfl rfl)
theorem dX3_rule_49 : decode cX3_rule 49 = .ok (.putfield 142, 3) := dk_181 0 142 (dk_at dksX3_rule_2 1 rfl rfl)
theorem dX3_rule_52 : decode cX3_rule 52 = .ok (.aload_n 0, 1) := dk_42 (dk_at dksX3_rule_2 4 rfl rfl)
theorem dX3_rule_53 : decode cX3_rule 53 = .ok (.getfield 81, 3) := dk_180 0 81 (dk_at dksX3_rule_2 5 rfl rfl)
theorem dX3_rule_56 : decode cX3_rule 56 = .ok (.aload_n 0, 1) := dk_42 (dk_at dksX3_rule_2 8 rfl rfl)
theorem dX3_rule_57 : decode cX3_rule 57 = .ok (.getfield 200, 3) := dk_180 0 200 (dk_at dksX3_rule_2 9 rfl rfl)
theorem dX3_rule_60 : decode cX3_rule 60 = .ok (.iload_n 1, 1) := dk_27 (dk_at dksX3_rule_2 12 rfl rfl)
theorem dX3_rule_61 : decode cX3_rule 61 = .ok (.iastore, 1) := dk_79 (dk_at dksX3_rule_2 13 rfl rfl)
theorem dX3_rule_62 : decode cX3_rule 62 = .ok (.aload_n 0, 1) := dk_42 (dk_at dksX3_rule_2 14 rfl rfl)
theorem dX3_rule_63 : decode cX3_rule 63 = .ok (.dup, 1) := dk_89 (dk_at dksX3_rule_2 15 rfl rfl)
theorem dX3_rule_64 : decode cX3_rule 64 = .ok (.getfield 318, 3) := dk_180 1 62 (dk_at dksX3_rule_2 16 rfl rfl)
theorem dX3_rule_67 : decode cX3_rule 67 = .ok (.aload_n 0, 1) := dk_42 (dk_at dksX3_rule_2 19 rfl rfl)
theorem dX3_rule_68 : decode cX3_rule 68 = .ok (.getfield 171, 3) := dk_180 0 171 (dk_at dksX3_rule_2 20 rfl rfl)
theorem dX3_rule_71 : decode cX3_rule 71 = .ok (.ifCond .ne 7, 3) := dk_154 0 7 (dk_at dksX3_rule_3 0 rfl rfl)
theorem dX3_rule_74 : decode cX3_rule 74 = .ok (.iconst 1, 1) := dk_4 (dk_at dksX3_rule_3 3 rfl rfl)
theorem dX3_rule_75 : decode cX3_rule 75 = .ok (.goto 4, 3) := dk_167 0 4 (dk_at dksX3_rule_3 4 rfl rfl)
theorem dX3_rule_78 : decode cX3_rule 78 = .ok (.iconst 0, 1) := dk_3 (dk_at dksX3_rule_3 7 rfl rfl)
theorem dX3_rule_79 : decode cX3_rule 79 = .ok (.iadd, 1) := dk_96 (dk_at dksX3_rule_3 8 rfl rfl)
theorem dX3_rule_80 : decode cX3_rule 80 = .ok (.putfield 318, 3) := dk_181 1 62 (dk_at dksX3_rule_3 9 rfl rfl)
theorem dX3_rule_83 : decode cX3_rule 83 = .ok (.aload_n 0, 1) := dk_42 (dk_at dksX3_rule_3 12 rfl rfl)
theorem dX3_rule_84 : decode cX3_rule 84 = .ok (.getfield 171, 3) := dk_180 0 171 (dk_at dksX3_rule_3 13 rfl rfl)
theorem dX3_rule_87 : decode cX3_rule 87 = .ok (.ifCond .le 13, 3) := dk_158 0 13 (dk_at dksX3_rule_3 16 rfl rfl)
theorem dX3_rule_90 : decode cX3_rule 90 = .ok (.bipush (-2), 2) := dk_16 254 (dk_at dksX3_rule_3 19 rfl rfl)
theorem dX3_rule_92 : decode cX3_rule 92 = .ok (.aload_n 0, 1) := dk_42 (dk_at dksX3_rule_3 21 rfl rfl)
theorem dX3_rule_93 : decode cX3_rule 93 = .ok (.getfield 171, 3) := dk_180 0 171 (dk_at dksX3_rule_4 0 rfl rfl)
theorem dX3_rule_96 : decode cX3_rule 96 = .ok (.isub, 1) := dk_100 (dk_at dksX3_rule_4 3 rfl rfl)
theorem dX3_rule_97 : decode cX3_rule 97 = .ok (.goto 9, 3) := dk_167 0 9 (dk_at dksX3_rule_4 4 rfl rfl)
theorem dX3_rule_100 : decode cX3_rule 100 = .ok (.aload_n 0, 1) := dk_42 (dk_at dksX3_rule_4 7 rfl rfl)
theorem dX3_rule_101 : decode cX3_rule 101 = .ok (.getfield 318, 3) := dk_180 1 62 (dk_at dksX3_rule_4 8 rfl rfl)
theorem dX3_rule_104 : decode cX3_rule 104 = .ok (.iconst 1, 1) := dk_4 (dk_at dksX3_rule_4 11 rfl rfl)
theorem dX3_rule_105 : decode cX3_rule 105 = .ok (.isub, 1) := dk_100 (dk_at dksX3_rule_4 12 rfl rfl)
theorem dX3_rule_106 : decode cX3_rule 106 = .ok (.ireturn, 1) := dk_172 (dk_at dksX3_rule_4 13 rfl rfl)
abbrev cX3_ruleClause : ByteArray := prog_17_method_43_code
def yX3_ruleClause : MethodName := ⟨RX3, "ruleClause", "(I)V"⟩
def dkwX3_ruleClause_4 : List UInt8 := [182, 1, 56, 153, 0, 7, 42, 182, 1, 59, 42, 180, 0, 90, 29, 42, 180, 0, 203, 79, 177]
abbrev dktX3_ruleClause_4 : List UInt8 := dkwX3_ruleClause_4 ++ []
def dkwX3_ruleClause_3 : List UInt8 := [182, 0, 238, 42, 180, 0, 87, 29, 42, 180, 0, 203, 79, 42, 180, 0, 171, 154, 0, 17, 42, 19, 1, 54]
abbrev dktX3_ruleClause_3 : List UInt8 := dkwX3_ruleClause_3 ++ dktX3_ruleClause_4
def dkwX3_ruleClause_2 : List UInt8 := [181, 0, 174, 16, 12, 42, 180, 0, 200, 104, 27, 96, 62, 42, 180, 0, 84, 29, 42, 180, 0, 203, 79, 42]
abbrev dktX3_ruleClause_2 : List UInt8 := dkwX3_ruleClause_2 ++ dktX3_ruleClause_3
def dkwX3_ruleClause_1 : List UInt8 := [182, 0, 209, 177, 27, 16, 12, 160, 0, 10, 42, 7, 28, 182, 0, 209, 177, 42, 89, 180, 0, 174, 8, 96]
abbrev dktX3_ruleClause_1 : List UInt8 := dkwX3_ruleClause_1 ++ dktX3_ruleClause_2
def dkwX3_ruleClause_0 : List UInt8 := [42, 182, 0, 193, 42, 180, 0, 174, 61, 42, 19, 1, 52, 182, 0, 196, 154, 0, 10, 42, 3, 28]
abbrev dktX3_ruleClause_0 : List UInt8 := dkwX3_ruleClause_0 ++ dktX3_ruleClause_1
theorem dksX3_ruleClause_0 : cX3_ruleClause.data.toList.drop 0 = dktX3_ruleClause_0 := by decide +kernel
theorem dksX3_ruleClause_1 : cX3_ruleClause.data.toList.drop 22 = dktX3_ruleClause_1 := dk_seg dksX3_ruleClause_0 22 rfl rfl
theorem dksX3_ruleClause_2 : cX3_ruleClause.data.toList.drop 46 = dktX3_ruleClause_2 := dk_seg dksX3_ruleClause_1 24 rfl rfl
theorem dksX3_ruleClause_3 : cX3_ruleClause.data.toList.drop 70 = dktX3_ruleClause_3 := dk_seg dksX3_ruleClause_2 24 rfl rfl
theorem dksX3_ruleClause_4 : cX3_ruleClause.data.toList.drop 94 = dktX3_ruleClause_4 := dk_seg dksX3_ruleClause_3 24 rfl rfl
theorem dX3_ruleClause_0 : decode cX3_ruleClause 0 = .ok (.aload_n 0, 1) := dk_42 (dk_at dksX3_ruleClause_0 0 rfl rfl)
theorem dX3_ruleClause_1 : decode cX3_ruleClause 1 = .ok (.invokevirtual 193, 3) := dk_182 0 193 (dk_at dksX3_ruleClause_0 1 rfl rfl)
theorem dX3_ruleClause_4 : decode cX3_ruleClause 4 = .ok (.aload_n 0, 1) := dk_42 (dk_at dksX3_ruleClause_0 4 rfl rfl)
theorem dX3_ruleClause_5 : decode cX3_ruleClause 5 = .ok (.getfield 174, 3) := dk_180 0 174 (dk_at dksX3_ruleClause_0 5 rfl rfl)
theorem dX3_ruleClause_8 : decode cX3_ruleClause 8 = .ok (.istore_n 2, 1) := dk_61 (dk_at dksX3_ruleClause_0 8 rfl rfl)
theorem dX3_ruleClause_9 : decode cX3_ruleClause 9 = .ok (.aload_n 0, 1) := dk_42 (dk_at dksX3_ruleClause_0 9 rfl rfl)
theorem dX3_ruleClause_10 : decode cX3_ruleClause 10 = .ok (.ldc_w 308, 3) := dk_19 1 52 (dk_at dksX3_ruleClause_0 10 rfl rfl)
theorem dX3_ruleClause_13 : decode cX3_ruleClause 13 = .ok (.invokevirtual 196, 3) := dk_182 0 196 (dk_at dksX3_ruleClause_0 13 rfl rfl)
theorem dX3_ruleClause_16 : decode cX3_ruleClause 16 = .ok (.ifCond .ne 10, 3) := dk_154 0 10 (dk_at dksX3_ruleClause_0 16 rfl rfl)
theorem dX3_ruleClause_19 : decode cX3_ruleClause 19 = .ok (.aload_n 0, 1) := dk_42 (dk_at dksX3_ruleClause_0 19 rfl rfl)
theorem dX3_ruleClause_20 : decode cX3_ruleClause 20 = .ok (.iconst 0, 1) := dk_3 (dk_at dksX3_ruleClause_0 20 rfl rfl)
theorem dX3_ruleClause_21 : decode cX3_ruleClause 21 = .ok (.iload_n 2, 1) := dk_28 (dk_at dksX3_ruleClause_0 21 rfl rfl)
theorem dX3_ruleClause_22 : decode cX3_ruleClause 22 = .ok (.invokevirtual 209, 3) := dk_182 0 209 (dk_at dksX3_ruleClause_1 0 rfl rfl)
theorem dX3_ruleClause_25 : decode cX3_ruleClause 25 = .ok (.return_, 1) := dk_177 (dk_at dksX3_ruleClause_1 3 rfl rfl)
theorem dX3_ruleClause_26 : decode cX3_ruleClause 26 = .ok (.iload_n 1, 1) := dk_27 (dk_at dksX3_ruleClause_1 4 rfl rfl)
theorem dX3_ruleClause_27 : decode cX3_ruleClause 27 = .ok (.bipush 12, 2) := dk_16 12 (dk_at dksX3_ruleClause_1 5 rfl rfl)
theorem dX3_ruleClause_29 : decode cX3_ruleClause 29 = .ok (.if_icmp .ne 10, 3) := dk_160 0 10 (dk_at dksX3_ruleClause_1 7 rfl rfl)
theorem dX3_ruleClause_32 : decode cX3_ruleClause 32 = .ok (.aload_n 0, 1) := dk_42 (dk_at dksX3_ruleClause_1 10 rfl rfl)
theorem dX3_ruleClause_33 : decode cX3_ruleClause 33 = .ok (.iconst 4, 1) := dk_7 (dk_at dksX3_ruleClause_1 11 rfl rfl)
theorem dX3_ruleClause_34 : decode cX3_ruleClause 34 = .ok (.iload_n 2, 1) := dk_28 (dk_at dksX3_ruleClause_1 12 rfl rfl)
theorem dX3_ruleClause_35 : decode cX3_ruleClause 35 = .ok (.invokevirtual 209, 3) := dk_182 0 209 (dk_at dksX3_ruleClause_1 13 rfl rfl)
theorem dX3_ruleClause_38 : decode cX3_ruleClause 38 = .ok (.return_, 1) := dk_177 (dk_at dksX3_ruleClause_1 16 rfl rfl)
theorem dX3_ruleClause_39 : decode cX3_ruleClause 39 = .ok (.aload_n 0, 1) := dk_42 (dk_at dksX3_ruleClause_1 17 rfl rfl)
theorem dX3_ruleClause_40 : decode cX3_ruleClause 40 = .ok (.dup, 1) := dk_89 (dk_at dksX3_ruleClause_1 18 rfl rfl)
theorem dX3_ruleClause_41 : decode cX3_ruleClause 41 = .ok (.getfield 174, 3) := dk_180 0 174 (dk_at dksX3_ruleClause_1 19 rfl rfl)
theorem dX3_ruleClause_44 : decode cX3_ruleClause 44 = .ok (.iconst 5, 1) := dk_8 (dk_at dksX3_ruleClause_1 22 rfl rfl)
theorem dX3_ruleClause_45 : decode cX3_ruleClause 45 = .ok (.iadd, 1) := dk_96 (dk_at dksX3_ruleClause_1 23 rfl rfl)
theorem dX3_ruleClause_46 : decode cX3_ruleClause 46 = .ok (.putfield 174, 3) := dk_181 0 174 (dk_at dksX3_ruleClause_2 0 rfl rfl)
theorem dX3_ruleClause_49 : decode cX3_ruleClause 49 = .ok (.bipush 12, 2) := dk_16 12 (dk_at dksX3_ruleClause_2 3 rfl rfl)
theorem dX3_ruleClause_51 : decode cX3_ruleClause 51 = .ok (.aload_n 0, 1) := dk_42 (dk_at dksX3_ruleClause_2 5 rfl rfl)
theorem dX3_ruleClause_52 : decode cX3_ruleClause 52 = .ok (.getfield 200, 3) := dk_180 0 200 (dk_at dksX3_ruleClause_2 6 rfl rfl)
theorem dX3_ruleClause_55 : decode cX3_ruleClause 55 = .ok (.imul, 1) := dk_104 (dk_at dksX3_ruleClause_2 9 rfl rfl)
theorem dX3_ruleClause_56 : decode cX3_ruleClause 56 = .ok (.iload_n 1, 1) := dk_27 (dk_at dksX3_ruleClause_2 10 rfl rfl)
theorem dX3_ruleClause_57 : decode cX3_ruleClause 57 = .ok (.iadd, 1) := dk_96 (dk_at dksX3_ruleClause_2 11 rfl rfl)
theorem dX3_ruleClause_58 : decode cX3_ruleClause 58 = .ok (.istore_n 3, 1) := dk_62 (dk_at dksX3_ruleClause_2 12 rfl rfl)
theorem dX3_ruleClause_59 : decode cX3_ruleClause 59 = .ok (.aload_n 0, 1) := dk_42 (dk_at dksX3_ruleClause_2 13 rfl rfl)
theorem dX3_ruleClause_60 : decode cX3_ruleClause 60 = .ok (.getfield 84, 3) := dk_180 0 84 (dk_at dksX3_ruleClause_2 14 rfl rfl)
theorem dX3_ruleClause_63 : decode cX3_ruleClause 63 = .ok (.iload_n 3, 1) := dk_29 (dk_at dksX3_ruleClause_2 17 rfl rfl)
theorem dX3_ruleClause_64 : decode cX3_ruleClause 64 = .ok (.aload_n 0, 1) := dk_42 (dk_at dksX3_ruleClause_2 18 rfl rfl)
theorem dX3_ruleClause_65 : decode cX3_ruleClause 65 = .ok (.getfield 203, 3) := dk_180 0 203 (dk_at dksX3_ruleClause_2 19 rfl rfl)
theorem dX3_ruleClause_68 : decode cX3_ruleClause 68 = .ok (.iastore, 1) := dk_79 (dk_at dksX3_ruleClause_2 22 rfl rfl)
theorem dX3_ruleClause_69 : decode cX3_ruleClause 69 = .ok (.aload_n 0, 1) := dk_42 (dk_at dksX3_ruleClause_2 23 rfl rfl)
theorem dX3_ruleClause_70 : decode cX3_ruleClause 70 = .ok (.invokevirtual 238, 3) := dk_182 0 238 (dk_at dksX3_ruleClause_3 0 rfl rfl)
theorem dX3_ruleClause_73 : decode cX3_ruleClause 73 = .ok (.aload_n 0, 1) := dk_42 (dk_at dksX3_ruleClause_3 3 rfl rfl)
theorem dX3_ruleClause_74 : decode cX3_ruleClause 74 = .ok (.getfield 87, 3) := dk_180 0 87 (dk_at dksX3_ruleClause_3 4 rfl rfl)
theorem dX3_ruleClause_77 : decode cX3_ruleClause 77 = .ok (.iload_n 3, 1) := dk_29 (dk_at dksX3_ruleClause_3 7 rfl rfl)
theorem dX3_ruleClause_78 : decode cX3_ruleClause 78 = .ok (.aload_n 0, 1) := dk_42 (dk_at dksX3_ruleClause_3 8 rfl rfl)
theorem dX3_ruleClause_79 : decode cX3_ruleClause 79 = .ok (.getfield 203, 3) := dk_180 0 203 (dk_at dksX3_ruleClause_3 9 rfl rfl)
theorem dX3_ruleClause_82 : decode cX3_ruleClause 82 = .ok (.iastore, 1) := dk_79 (dk_at dksX3_ruleClause_3 12 rfl rfl)
theorem dX3_ruleClause_83 : decode cX3_ruleClause 83 = .ok (.aload_n 0, 1) := dk_42 (dk_at dksX3_ruleClause_3 13 rfl rfl)
theorem dX3_ruleClause_84 : decode cX3_ruleClause 84 = .ok (.getfield 171, 3) := dk_180 0 171 (dk_at dksX3_ruleClause_3 14 rfl rfl)
theorem dX3_ruleClause_87 : decode cX3_ruleClause 87 = .ok (.ifCond .ne 17, 3) := dk_154 0 17 (dk_at dksX3_ruleClause_3 17 rfl rfl)
theorem dX3_ruleClause_90 : decode cX3_ruleClause 90 = .ok (.aload_n 0, 1) := dk_42 (dk_at dksX3_ruleClause_3 20 rfl rfl)
theorem dX3_ruleClause_91 : decode cX3_ruleClause 91 = .ok (.ldc_w 310, 3) := dk_19 1 54 (dk_at dksX3_ruleClause_3 21 rfl rfl)
theorem dX3_ruleClause_94 : decode cX3_ruleClause 94 = .ok (.invokevirtual 312, 3) := dk_182 1 56 (dk_at dksX3_ruleClause_4 0 rfl rfl)
theorem dX3_ruleClause_97 : decode cX3_ruleClause 97 = .ok (.ifCond .eq 7, 3) := dk_153 0 7 (dk_at dksX3_ruleClause_4 3 rfl rfl)
theorem dX3_ruleClause_100 : decode cX3_ruleClause 100 = .ok (.aload_n 0, 1) := dk_42 (dk_at dksX3_ruleClause_4 6 rfl rfl)
theorem dX3_ruleClause_101 : decode cX3_ruleClause 101 = .ok (.invokevirtual 315, 3) := dk_182 1 59 (dk_at dksX3_ruleClause_4 7 rfl rfl)
theorem dX3_ruleClause_104 : decode cX3_ruleClause 104 = .ok (.aload_n 0, 1) := dk_42 (dk_at dksX3_ruleClause_4 10 rfl rfl)
theorem dX3_ruleClause_105 : decode cX3_ruleClause 105 = .ok (.getfield 90, 3) := dk_180 0 90 (dk_at dksX3_ruleClause_4 11 rfl rfl)
theorem dX3_ruleClause_108 : decode cX3_ruleClause 108 = .ok (.iload_n 3, 1) := dk_29 (dk_at dksX3_ruleClause_4 14 rfl rfl)
theorem dX3_ruleClause_109 : decode cX3_ruleClause 109 = .ok (.aload_n 0, 1) := dk_42 (dk_at dksX3_ruleClause_4 15 rfl rfl)
theorem dX3_ruleClause_110 : decode cX3_ruleClause 110 = .ok (.getfield 203, 3) := dk_180 0 203 (dk_at dksX3_ruleClause_4 16 rfl rfl)
theorem dX3_ruleClause_113 : decode cX3_ruleClause 113 = .ok (.iastore, 1) := dk_79 (dk_at dksX3_ruleClause_4 19 rfl rfl)
theorem dX3_ruleClause_114 : decode cX3_ruleClause 114 = .ok (.return_, 1) := dk_177 (dk_at dksX3_ruleClause_4 20 rfl rfl)
abbrev cX3_sum : ByteArray := prog_17_method_25_code
def yX3_sum : MethodName := ⟨RX3, "sum", "()V"⟩
def dkwX3_sum_2 : List UInt8 := [180, 0, 174, 4, 96, 181, 0, 174, 42, 182, 0, 235, 42, 27, 3, 182, 0, 225, 167, 255, 196, 177]
abbrev dktX3_sum_2 : List UInt8 := dkwX3_sum_2 ++ []
def dkwX3_sum_1 : List UInt8 := [16, 45, 160, 0, 41, 42, 182, 0, 177, 16, 43, 160, 0, 7, 5, 167, 0, 4, 6, 60, 42, 89]
abbrev dktX3_sum_1 : List UInt8 := dkwX3_sum_1 ++ dktX3_sum_2
def dkwX3_sum_0 : List UInt8 := [42, 182, 0, 235, 42, 180, 0, 171, 154, 0, 59, 42, 182, 0, 177, 16, 43, 159, 0, 12, 42, 182, 0, 177]
abbrev dktX3_sum_0 : List UInt8 := dkwX3_sum_0 ++ dktX3_sum_1
theorem dksX3_sum_0 : cX3_sum.data.toList.drop 0 = dktX3_sum_0 := by decide +kernel
theorem dksX3_sum_1 : cX3_sum.data.toList.drop 24 = dktX3_sum_1 := dk_seg dksX3_sum_0 24 rfl rfl
theorem dksX3_sum_2 : cX3_sum.data.toList.drop 46 = dktX3_sum_2 := dk_seg dksX3_sum_1 22 rfl rfl
theorem dX3_sum_0 : decode cX3_sum 0 = .ok (.aload_n 0, 1) := dk_42 (dk_at dksX3_sum_0 0 rfl rfl)
theorem dX3_sum_1 : decode cX3_sum 1 = .ok (.invokevirtual 235, 3) := dk_182 0 235 (dk_at dksX3_sum_0 1 rfl rfl)
theorem dX3_sum_4 : decode cX3_sum 4 = .ok (.aload_n 0, 1) := dk_42 (dk_at dksX3_sum_0 4 rfl rfl)
theorem dX3_sum_5 : decode cX3_sum 5 = .ok (.getfield 171, 3) := dk_180 0 171 (dk_at dksX3_sum_0 5 rfl rfl)
theorem dX3_sum_8 : decode cX3_sum 8 = .ok (.ifCond .ne 59, 3) := dk_154 0 59 (dk_at dksX3_sum_0 8 rfl rfl)
theorem dX3_sum_11 : decode cX3_sum 11 = .ok (.aload_n 0, 1) := dk_42 (dk_at dksX3_sum_0 11 rfl rfl)
theorem dX3_sum_12 : decode cX3_sum 12 = .ok (.invokevirtual 177, 3) := dk_182 0 177 (dk_at dksX3_sum_0 12 rfl rfl)
theorem dX3_sum_15 : decode cX3_sum 15 = .ok (.bipush 43, 2) := dk_16 43 (dk_at dksX3_sum_0 15 rfl rfl)
theorem dX3_sum_17 : decode cX3_sum 17 = .ok (.if_icmp .eq 12, 3) := dk_159 0 12 (dk_at dksX3_sum_0 17 rfl rfl)
theorem dX3_sum_20 : decode cX3_sum 20 = .ok (.aload_n 0, 1) := dk_42 (dk_at dksX3_sum_0 20 rfl rfl)
theorem dX3_sum_21 : decode cX3_sum 21 = .ok (.invokevirtual 177, 3) := dk_182 0 177 (dk_at dksX3_sum_0 21 rfl rfl)
theorem dX3_sum_24 : decode cX3_sum 24 = .ok (.bipush 45, 2) := dk_16 45 (dk_at dksX3_sum_1 0 rfl rfl)
theorem dX3_sum_26 : decode cX3_sum 26 = .ok (.if_icmp .ne 41, 3) := dk_160 0 41 (dk_at dksX3_sum_1 2 rfl rfl)
theorem dX3_sum_29 : decode cX3_sum 29 = .ok (.aload_n 0, 1) := dk_42 (dk_at dksX3_sum_1 5 rfl rfl)
theorem dX3_sum_30 : decode cX3_sum 30 = .ok (.invokevirtual 177, 3) := dk_182 0 177 (dk_at dksX3_sum_1 6 rfl rfl)
theorem dX3_sum_33 : decode cX3_sum 33 = .ok (.bipush 43, 2) := dk_16 43 (dk_at dksX3_sum_1 9 rfl rfl)
theorem dX3_sum_35 : decode cX3_sum 35 = .ok (.if_icmp .ne 7, 3) := dk_160 0 7 (dk_at dksX3_sum_1 11 rfl rfl)
theorem dX3_sum_38 : decode cX3_sum 38 = .ok (.iconst 2, 1) := dk_5 (dk_at dksX3_sum_1 14 rfl rfl)
theorem dX3_sum_39 : decode cX3_sum 39 = .ok (.goto 4, 3) := dk_167 0 4 (dk_at dksX3_sum_1 15 rfl rfl)
theorem dX3_sum_42 : decode cX3_sum 42 = .ok (.iconst 3, 1) := dk_6 (dk_at dksX3_sum_1 18 rfl rfl)
theorem dX3_sum_43 : decode cX3_sum 43 = .ok (.istore_n 1, 1) := dk_60 (dk_at dksX3_sum_1 19 rfl rfl)
theorem dX3_sum_44 : decode cX3_sum 44 = .ok (.aload_n 0, 1) := dk_42 (dk_at dksX3_sum_1 20 rfl rfl)
theorem dX3_sum_45 : decode cX3_sum 45 = .ok (.dup, 1) := dk_89 (dk_at dksX3_sum_1 21 rfl rfl)
theorem dX3_sum_46 : decode cX3_sum 46 = .ok (.getfield 174, 3) := dk_180 0 174 (dk_at dksX3_sum_2 0 rfl rfl)
theorem dX3_sum_49 : decode cX3_sum 49 = .ok (.iconst 1, 1) := dk_4 (dk_at dksX3_sum_2 3 rfl rfl)
theorem dX3_sum_50 : decode cX3_sum 50 = .ok (.iadd, 1) := dk_96 (dk_at dksX3_sum_2 4 rfl rfl)
theorem dX3_sum_51 : decode cX3_sum 51 = .ok (.putfield 174, 3) := dk_181 0 174 (dk_at dksX3_sum_2 5 rfl rfl)
theorem dX3_sum_54 : decode cX3_sum 54 = .ok (.aload_n 0, 1) := dk_42 (dk_at dksX3_sum_2 8 rfl rfl)
theorem dX3_sum_55 : decode cX3_sum 55 = .ok (.invokevirtual 235, 3) := dk_182 0 235 (dk_at dksX3_sum_2 9 rfl rfl)
theorem dX3_sum_58 : decode cX3_sum 58 = .ok (.aload_n 0, 1) := dk_42 (dk_at dksX3_sum_2 12 rfl rfl)
theorem dX3_sum_59 : decode cX3_sum 59 = .ok (.iload_n 1, 1) := dk_27 (dk_at dksX3_sum_2 13 rfl rfl)
theorem dX3_sum_60 : decode cX3_sum 60 = .ok (.iconst 0, 1) := dk_3 (dk_at dksX3_sum_2 14 rfl rfl)
theorem dX3_sum_61 : decode cX3_sum 61 = .ok (.invokevirtual 225, 3) := dk_182 0 225 (dk_at dksX3_sum_2 15 rfl rfl)
theorem dX3_sum_64 : decode cX3_sum 64 = .ok (.goto (-60), 3) := dk_167 255 196 (dk_at dksX3_sum_2 18 rfl rfl)
theorem dX3_sum_67 : decode cX3_sum 67 = .ok (.return_, 1) := dk_177 (dk_at dksX3_sum_2 21 rfl rfl)
abbrev cX3_term : ByteArray := prog_17_method_24_code
def yX3_term : MethodName := ⟨RX3, "term", "()V"⟩
def dkwX3_term_4 : List UInt8 := [182, 0, 193, 167, 255, 167, 177]
abbrev dktX3_term_4 : List UInt8 := dkwX3_term_4 ++ []
def dkwX3_term_3 : List UInt8 := [60, 42, 89, 180, 0, 174, 4, 96, 181, 0, 174, 42, 182, 0, 232, 42, 27, 3, 182, 0, 225, 42]
abbrev dktX3_term_3 : List UInt8 := dkwX3_term_3 ++ dktX3_term_4
def dkwX3_term_2 : List UInt8 := [160, 0, 8, 16, 13, 167, 0, 19, 42, 182, 0, 177, 16, 47, 160, 0, 8, 16, 14, 167, 0, 5, 16, 15]
abbrev dktX3_term_2 : List UInt8 := dkwX3_term_2 ++ dktX3_term_3
def dkwX3_term_1 : List UInt8 := [42, 182, 0, 177, 16, 47, 159, 0, 12, 42, 182, 0, 177, 16, 37, 160, 0, 61, 42, 182, 0, 177, 16, 42]
abbrev dktX3_term_1 : List UInt8 := dkwX3_term_1 ++ dktX3_term_2
def dkwX3_term_0 : List UInt8 := [42, 182, 0, 232, 42, 182, 0, 193, 42, 180, 0, 171, 154, 0, 88, 42, 182, 0, 177, 16, 42, 159, 0, 21]
abbrev dktX3_term_0 : List UInt8 := dkwX3_term_0 ++ dktX3_term_1
theorem dksX3_term_0 : cX3_term.data.toList.drop 0 = dktX3_term_0 := by decide +kernel
theorem dksX3_term_1 : cX3_term.data.toList.drop 24 = dktX3_term_1 := dk_seg dksX3_term_0 24 rfl rfl
theorem dksX3_term_2 : cX3_term.data.toList.drop 48 = dktX3_term_2 := dk_seg dksX3_term_1 24 rfl rfl
theorem dksX3_term_3 : cX3_term.data.toList.drop 72 = dktX3_term_3 := dk_seg dksX3_term_2 24 rfl rfl
theorem dksX3_term_4 : cX3_term.data.toList.drop 94 = dktX3_term_4 := dk_seg dksX3_term_3 22 rfl rfl
theorem dX3_term_0 : decode cX3_term 0 = .ok (.aload_n 0, 1) := dk_42 (dk_at dksX3_term_0 0 rfl rfl)
theorem dX3_term_1 : decode cX3_term 1 = .ok (.invokevirtual 232, 3) := dk_182 0 232 (dk_at dksX3_term_0 1 rfl rfl)
theorem dX3_term_4 : decode cX3_term 4 = .ok (.aload_n 0, 1) := dk_42 (dk_at dksX3_term_0 4 rfl rfl)
theorem dX3_term_5 : decode cX3_term 5 = .ok (.invokevirtual 193, 3) := dk_182 0 193 (dk_at dksX3_term_0 5 rfl rfl)
theorem dX3_term_8 : decode cX3_term 8 = .ok (.aload_n 0, 1) := dk_42 (dk_at dksX3_term_0 8 rfl rfl)
theorem dX3_term_9 : decode cX3_term 9 = .ok (.getfield 171, 3) := dk_180 0 171 (dk_at dksX3_term_0 9 rfl rfl)
theorem dX3_term_12 : decode cX3_term 12 = .ok (.ifCond .ne 88, 3) := dk_154 0 88 (dk_at dksX3_term_0 12 rfl rfl)
theorem dX3_term_15 : decode cX3_term 15 = .ok (.aload_n 0, 1) := dk_42 (dk_at dksX3_term_0 15 rfl rfl)
theorem dX3_term_16 : decode cX3_term 16 = .ok (.invokevirtual 177, 3) := dk_182 0 177 (dk_at dksX3_term_0 16 rfl rfl)
theorem dX3_term_19 : decode cX3_term 19 = .ok (.bipush 42, 2) := dk_16 42 (dk_at dksX3_term_0 19 rfl rfl)
theorem dX3_term_21 : decode cX3_term 21 = .ok (.if_icmp .eq 21, 3) := dk_159 0 21 (dk_at dksX3_term_0 21 rfl rfl)
theorem dX3_term_24 : decode cX3_term 24 = .ok (.aload_n 0, 1) := dk_42 (dk_at dksX3_term_1 0 rfl rfl)
theorem dX3_term_25 : decode cX3_term 25 = .ok (.invokevirtual 177, 3) := dk_182 0 177 (dk_at dksX3_term_1 1 rfl rfl)
theorem dX3_term_28 : decode cX3_term 28 = .ok (.bipush 47, 2) := dk_16 47 (dk_at dksX3_term_1 4 rfl rfl)
theorem dX3_term_30 : decode cX3_term 30 = .ok (.if_icmp .eq 12, 3) := dk_159 0 12 (dk_at dksX3_term_1 6 rfl rfl)
theorem dX3_term_33 : decode cX3_term 33 = .ok (.aload_n 0, 1) := dk_42 (dk_at dksX3_term_1 9 rfl rfl)
theorem dX3_term_34 : decode cX3_term 34 = .ok (.invokevirtual 177, 3) := dk_182 0 177 (dk_at dksX3_term_1 10 rfl rfl)
theorem dX3_term_37 : decode cX3_term 37 = .ok (.bipush 37, 2) := dk_16 37 (dk_at dksX3_term_1 13 rfl rfl)
theorem dX3_term_39 : decode cX3_term 39 = .ok (.if_icmp .ne 61, 3) := dk_160 0 61 (dk_at dksX3_term_1 15 rfl rfl)
theorem dX3_term_42 : decode cX3_term 42 = .ok (.aload_n 0, 1) := dk_42 (dk_at dksX3_term_1 18 rfl rfl)
theorem dX3_term_43 : decode cX3_term 43 = .ok (.invokevirtual 177, 3) := dk_182 0 177 (dk_at dksX3_term_1 19 rfl rfl)
theorem dX3_term_46 : decode cX3_term 46 = .ok (.bipush 42, 2) := dk_16 42 (dk_at dksX3_term_1 22 rfl rfl)
theorem dX3_term_48 : decode cX3_term 48 = .ok (.if_icmp .ne 8, 3) := dk_160 0 8 (dk_at dksX3_term_2 0 rfl rfl)
theorem dX3_term_51 : decode cX3_term 51 = .ok (.bipush 13, 2) := dk_16 13 (dk_at dksX3_term_2 3 rfl rfl)
theorem dX3_term_53 : decode cX3_term 53 = .ok (.goto 19, 3) := dk_167 0 19 (dk_at dksX3_term_2 5 rfl rfl)
theorem dX3_term_56 : decode cX3_term 56 = .ok (.aload_n 0, 1) := dk_42 (dk_at dksX3_term_2 8 rfl rfl)
theorem dX3_term_57 : decode cX3_term 57 = .ok (.invokevirtual 177, 3) := dk_182 0 177 (dk_at dksX3_term_2 9 rfl rfl)
theorem dX3_term_60 : decode cX3_term 60 = .ok (.bipush 47, 2) := dk_16 47 (dk_at dksX3_term_2 12 rfl rfl)
theorem dX3_term_62 : decode cX3_term 62 = .ok (.if_icmp .ne 8, 3) := dk_160 0 8 (dk_at dksX3_term_2 14 rfl rfl)
theorem dX3_term_65 : decode cX3_term 65 = .ok (.bipush 14, 2) := dk_16 14 (dk_at dksX3_term_2 17 rfl rfl)
theorem dX3_term_67 : decode cX3_term 67 = .ok (.goto 5, 3) := dk_167 0 5 (dk_at dksX3_term_2 19 rfl rfl)
theorem dX3_term_70 : decode cX3_term 70 = .ok (.bipush 15, 2) := dk_16 15 (dk_at dksX3_term_2 22 rfl rfl)
theorem dX3_term_72 : decode cX3_term 72 = .ok (.istore_n 1, 1) := dk_60 (dk_at dksX3_term_3 0 rfl rfl)
theorem dX3_term_73 : decode cX3_term 73 = .ok (.aload_n 0, 1) := dk_42 (dk_at dksX3_term_3 1 rfl rfl)
theorem dX3_term_74 : decode cX3_term 74 = .ok (.dup, 1) := dk_89 (dk_at dksX3_term_3 2 rfl rfl)
theorem dX3_term_75 : decode cX3_term 75 = .ok (.getfield 174, 3) := dk_180 0 174 (dk_at dksX3_term_3 3 rfl rfl)
theorem dX3_term_78 : decode cX3_term 78 = .ok (.iconst 1, 1) := dk_4 (dk_at dksX3_term_3 6 rfl rfl)
theorem dX3_term_79 : decode cX3_term 79 = .ok (.iadd, 1) := dk_96 (dk_at dksX3_term_3 7 rfl rfl)
theorem dX3_term_80 : decode cX3_term 80 = .ok (.putfield 174, 3) := dk_181 0 174 (dk_at dksX3_term_3 8 rfl rfl)
theorem dX3_term_83 : decode cX3_term 83 = .ok (.aload_n 0, 1) := dk_42 (dk_at dksX3_term_3 11 rfl rfl)
theorem dX3_term_84 : decode cX3_term 84 = .ok (.invokevirtual 232, 3) := dk_182 0 232 (dk_at dksX3_term_3 12 rfl rfl)
theorem dX3_term_87 : decode cX3_term 87 = .ok (.aload_n 0, 1) := dk_42 (dk_at dksX3_term_3 15 rfl rfl)
theorem dX3_term_88 : decode cX3_term 88 = .ok (.iload_n 1, 1) := dk_27 (dk_at dksX3_term_3 16 rfl rfl)
theorem dX3_term_89 : decode cX3_term 89 = .ok (.iconst 0, 1) := dk_3 (dk_at dksX3_term_3 17 rfl rfl)
theorem dX3_term_90 : decode cX3_term 90 = .ok (.invokevirtual 225, 3) := dk_182 0 225 (dk_at dksX3_term_3 18 rfl rfl)
theorem dX3_term_93 : decode cX3_term 93 = .ok (.aload_n 0, 1) := dk_42 (dk_at dksX3_term_3 21 rfl rfl)
theorem dX3_term_94 : decode cX3_term 94 = .ok (.invokevirtual 193, 3) := dk_182 0 193 (dk_at dksX3_term_4 0 rfl rfl)
theorem dX3_term_97 : decode cX3_term 97 = .ok (.goto (-89), 3) := dk_167 255 167 (dk_at dksX3_term_4 3 rfl rfl)
theorem dX3_term_100 : decode cX3_term 100 = .ok (.return_, 1) := dk_177 (dk_at dksX3_term_4 6 rfl rfl)
abbrev cX3_value : ByteArray := prog_17_method_23_code
def yX3_value : MethodName := ⟨RX3, "value", "()V"⟩
def dkwX3_value_4 : List UInt8 := [181, 0, 174, 42, 4, 28, 182, 0, 225, 177]
abbrev dktX3_value_4 : List UInt8 := dkwX3_value_4 ++ []
def dkwX3_value_3 : List UInt8 := [3, 27, 182, 0, 209, 177, 42, 27, 182, 0, 222, 42, 89, 180, 0, 174, 28, 184, 0, 228, 182, 0, 184, 96]
abbrev dktX3_value_3 : List UInt8 := dkwX3_value_3 ++ dktX3_value_4
def dkwX3_value_2 : List UInt8 := [184, 0, 228, 182, 0, 196, 154, 0, 9, 132, 2, 1, 167, 255, 234, 28, 42, 180, 0, 67, 160, 0, 10, 42]
abbrev dktX3_value_2 : List UInt8 := dkwX3_value_2 ++ dktX3_value_3
def dkwX3_value_1 : List UInt8 := [27, 182, 0, 222, 42, 3, 28, 182, 0, 225, 177, 3, 61, 28, 42, 180, 0, 67, 162, 0, 20, 42, 28]
abbrev dktX3_value_1 : List UInt8 := dkwX3_value_1 ++ dktX3_value_2
def dkwX3_value_0 : List UInt8 := [42, 182, 0, 193, 42, 180, 0, 174, 60, 42, 182, 0, 213, 153, 0, 22, 42, 18, 217, 182, 0, 218, 61, 42]
abbrev dktX3_value_0 : List UInt8 := dkwX3_value_0 ++ dktX3_value_1
theorem dksX3_value_0 : cX3_value.data.toList.drop 0 = dktX3_value_0 := by decide +kernel
theorem dksX3_value_1 : cX3_value.data.toList.drop 24 = dktX3_value_1 := dk_seg dksX3_value_0 24 rfl rfl
theorem dksX3_value_2 : cX3_value.data.toList.drop 47 = dktX3_value_2 := dk_seg dksX3_value_1 23 rfl rfl
theorem dksX3_value_3 : cX3_value.data.toList.drop 71 = dktX3_value_3 := dk_seg dksX3_value_2 24 rfl rfl
theorem dksX3_value_4 : cX3_value.data.toList.drop 95 = dktX3_value_4 := dk_seg dksX3_value_3 24 rfl rfl
theorem dX3_value_0 : decode cX3_value 0 = .ok (.aload_n 0, 1) := dk_42 (dk_at dksX3_value_0 0 rfl rfl)
theorem dX3_value_1 : decode cX3_value 1 = .ok (.invokevirtual 193, 3) := dk_182 0 193 (dk_at dksX3_value_0 1 rfl rfl)
theorem dX3_value_4 : decode cX3_value 4 = .ok (.aload_n 0, 1) := dk_42 (dk_at dksX3_value_0 4 rfl rfl)
theorem dX3_value_5 : decode cX3_value 5 = .ok (.getfield 174, 3) := dk_180 0 174 (dk_at dksX3_value_0 5 rfl rfl)
theorem dX3_value_8 : decode cX3_value 8 = .ok (.istore_n 1, 1) := dk_60 (dk_at dksX3_value_0 8 rfl rfl)
theorem dX3_value_9 : decode cX3_value 9 = .ok (.aload_n 0, 1) := dk_42 (dk_at dksX3_value_0 9 rfl rfl)
theorem dX3_value_10 : decode cX3_value 10 = .ok (.invokevirtual 213, 3) := dk_182 0 213 (dk_at dksX3_value_0 10 rfl rfl)
theorem dX3_value_13 : decode cX3_value 13 = .ok (.ifCond .eq 22, 3) := dk_153 0 22 (dk_at dksX3_value_0 13 rfl rfl)
theorem dX3_value_16 : decode cX3_value 16 = .ok (.aload_n 0, 1) := dk_42 (dk_at dksX3_value_0 16 rfl rfl)
theorem dX3_value_17 : decode cX3_value 17 = .ok (.ldc 217, 2) := dk_18 217 (dk_at dksX3_value_0 17 rfl rfl)
theorem dX3_value_19 : decode cX3_value 19 = .ok (.invokevirtual 218, 3) := dk_182 0 218 (dk_at dksX3_value_0 19 rfl rfl)
theorem dX3_value_22 : decode cX3_value 22 = .ok (.istore_n 2, 1) := dk_61 (dk_at dksX3_value_0 22 rfl rfl)
theorem dX3_value_23 : decode cX3_value 23 = .ok (.aload_n 0, 1) := dk_42 (dk_at dksX3_value_0 23 rfl rfl)
theorem dX3_value_24 : decode cX3_value 24 = .ok (.iload_n 1, 1) := dk_27 (dk_at dksX3_value_1 0 rfl rfl)
theorem dX3_value_25 : decode cX3_value 25 = .ok (.invokevirtual 222, 3) := dk_182 0 222 (dk_at dksX3_value_1 1 rfl rfl)
theorem dX3_value_28 : decode cX3_value 28 = .ok (.aload_n 0, 1) := dk_42 (dk_at dksX3_value_1 4 rfl rfl)
theorem dX3_value_29 : decode cX3_value 29 = .ok (.iconst 0, 1) := dk_3 (dk_at dksX3_value_1 5 rfl rfl)
theorem dX3_value_30 : decode cX3_value 30 = .ok (.iload_n 2, 1) := dk_28 (dk_at dksX3_value_1 6 rfl rfl)
theorem dX3_value_31 : decode cX3_value 31 = .ok (.invokevirtual 225, 3) := dk_182 0 225 (dk_at dksX3_value_1 7 rfl rfl)
theorem dX3_value_34 : decode cX3_value 34 = .ok (.return_, 1) := dk_177 (dk_at dksX3_value_1 10 rfl rfl)
theorem dX3_value_35 : decode cX3_value 35 = .ok (.iconst 0, 1) := dk_3 (dk_at dksX3_value_1 11 rfl rfl)
theorem dX3_value_36 : decode cX3_value 36 = .ok (.istore_n 2, 1) := dk_61 (dk_at dksX3_value_1 12 rfl rfl)
theorem dX3_value_37 : decode cX3_value 37 = .ok (.iload_n 2, 1) := dk_28 (dk_at dksX3_value_1 13 rfl rfl)
theorem dX3_value_38 : decode cX3_value 38 = .ok (.aload_n 0, 1) := dk_42 (dk_at dksX3_value_1 14 rfl rfl)
theorem dX3_value_39 : decode cX3_value 39 = .ok (.getfield 67, 3) := dk_180 0 67 (dk_at dksX3_value_1 15 rfl rfl)
theorem dX3_value_42 : decode cX3_value 42 = .ok (.if_icmp .ge 20, 3) := dk_162 0 20 (dk_at dksX3_value_1 18 rfl rfl)
theorem dX3_value_45 : decode cX3_value 45 = .ok (.aload_n 0, 1) := dk_42 (dk_at dksX3_value_1 21 rfl rfl)
theorem dX3_value_46 : decode cX3_value 46 = .ok (.iload_n 2, 1) := dk_28 (dk_at dksX3_value_1 22 rfl rfl)
theorem dX3_value_47 : decode cX3_value 47 = .ok (.invokestatic 228, 3) := dk_184 0 228 (dk_at dksX3_value_2 0 rfl rfl)
theorem dX3_value_50 : decode cX3_value 50 = .ok (.invokevirtual 196, 3) := dk_182 0 196 (dk_at dksX3_value_2 3 rfl rfl)
theorem dX3_value_53 : decode cX3_value 53 = .ok (.ifCond .ne 9, 3) := dk_154 0 9 (dk_at dksX3_value_2 6 rfl rfl)
theorem dX3_value_56 : decode cX3_value 56 = .ok (.iinc 2 1, 3) := dk_132 2 1 (dk_at dksX3_value_2 9 rfl rfl)
theorem dX3_value_59 : decode cX3_value 59 = .ok (.goto (-22), 3) := dk_167 255 234 (dk_at dksX3_value_2 12 rfl rfl)
theorem dX3_value_62 : decode cX3_value 62 = .ok (.iload_n 2, 1) := dk_28 (dk_at dksX3_value_2 15 rfl rfl)
theorem dX3_value_63 : decode cX3_value 63 = .ok (.aload_n 0, 1) := dk_42 (dk_at dksX3_value_2 16 rfl rfl)
theorem dX3_value_64 : decode cX3_value 64 = .ok (.getfield 67, 3) := dk_180 0 67 (dk_at dksX3_value_2 17 rfl rfl)
theorem dX3_value_67 : decode cX3_value 67 = .ok (.if_icmp .ne 10, 3) := dk_160 0 10 (dk_at dksX3_value_2 20 rfl rfl)
theorem dX3_value_70 : decode cX3_value 70 = .ok (.aload_n 0, 1) := dk_42 (dk_at dksX3_value_2 23 rfl rfl)
theorem dX3_value_71 : decode cX3_value 71 = .ok (.iconst 0, 1) := dk_3 (dk_at dksX3_value_3 0 rfl rfl)
theorem dX3_value_72 : decode cX3_value 72 = .ok (.iload_n 1, 1) := dk_27 (dk_at dksX3_value_3 1 rfl rfl)
theorem dX3_value_73 : decode cX3_value 73 = .ok (.invokevirtual 209, 3) := dk_182 0 209 (dk_at dksX3_value_3 2 rfl rfl)
theorem dX3_value_76 : decode cX3_value 76 = .ok (.return_, 1) := dk_177 (dk_at dksX3_value_3 5 rfl rfl)
theorem dX3_value_77 : decode cX3_value 77 = .ok (.aload_n 0, 1) := dk_42 (dk_at dksX3_value_3 6 rfl rfl)
theorem dX3_value_78 : decode cX3_value 78 = .ok (.iload_n 1, 1) := dk_27 (dk_at dksX3_value_3 7 rfl rfl)
theorem dX3_value_79 : decode cX3_value 79 = .ok (.invokevirtual 222, 3) := dk_182 0 222 (dk_at dksX3_value_3 8 rfl rfl)
theorem dX3_value_82 : decode cX3_value 82 = .ok (.aload_n 0, 1) := dk_42 (dk_at dksX3_value_3 11 rfl rfl)
theorem dX3_value_83 : decode cX3_value 83 = .ok (.dup, 1) := dk_89 (dk_at dksX3_value_3 12 rfl rfl)
theorem dX3_value_84 : decode cX3_value 84 = .ok (.getfield 174, 3) := dk_180 0 174 (dk_at dksX3_value_3 13 rfl rfl)
theorem dX3_value_87 : decode cX3_value 87 = .ok (.iload_n 2, 1) := dk_28 (dk_at dksX3_value_3 16 rfl rfl)
theorem dX3_value_88 : decode cX3_value 88 = .ok (.invokestatic 228, 3) := dk_184 0 228 (dk_at dksX3_value_3 17 rfl rfl)
theorem dX3_value_91 : decode cX3_value 91 = .ok (.invokevirtual 184, 3) := dk_182 0 184 (dk_at dksX3_value_3 20 rfl rfl)
theorem dX3_value_94 : decode cX3_value 94 = .ok (.iadd, 1) := dk_96 (dk_at dksX3_value_3 23 rfl rfl)
theorem dX3_value_95 : decode cX3_value 95 = .ok (.putfield 174, 3) := dk_181 0 174 (dk_at dksX3_value_4 0 rfl rfl)
theorem dX3_value_98 : decode cX3_value 98 = .ok (.aload_n 0, 1) := dk_42 (dk_at dksX3_value_4 3 rfl rfl)
theorem dX3_value_99 : decode cX3_value 99 = .ok (.iconst 1, 1) := dk_4 (dk_at dksX3_value_4 4 rfl rfl)
theorem dX3_value_100 : decode cX3_value 100 = .ok (.iload_n 2, 1) := dk_28 (dk_at dksX3_value_4 5 rfl rfl)
theorem dX3_value_101 : decode cX3_value 101 = .ok (.invokevirtual 225, 3) := dk_182 0 225 (dk_at dksX3_value_4 6 rfl rfl)
theorem dX3_value_104 : decode cX3_value 104 = .ok (.return_, 1) := dk_177 (dk_at dksX3_value_4 9 rfl rfl)
abbrev cX3_isCounted : ByteArray := prog_17_method_21_code
def yX3_isCounted : MethodName := ⟨RX3, "isCounted", "(I)V"⟩
def dkwX3_isCounted_1 : List UInt8 := [181, 0, 206, 177]
abbrev dktX3_isCounted_1 : List UInt8 := dkwX3_isCounted_1 ++ []
def dkwX3_isCounted_0 : List UInt8 := [42, 180, 0, 206, 16, 60, 160, 0, 9, 42, 6, 27, 182, 0, 209, 42, 89, 180, 0, 206, 4, 96]
abbrev dktX3_isCounted_0 : List UInt8 := dkwX3_isCounted_0 ++ dktX3_isCounted_1
theorem dksX3_isCounted_0 : cX3_isCounted.data.toList.drop 0 = dktX3_isCounted_0 := by decide +kernel
theorem dksX3_isCounted_1 : cX3_isCounted.data.toList.drop 22 = dktX3_isCounted_1 := dk_seg dksX3_isCounted_0 22 rfl rfl
theorem dX3_isCounted_0 : decode cX3_isCounted 0 = .ok (.aload_n 0, 1) := dk_42 (dk_at dksX3_isCounted_0 0 rfl rfl)
theorem dX3_isCounted_1 : decode cX3_isCounted 1 = .ok (.getfield 206, 3) := dk_180 0 206 (dk_at dksX3_isCounted_0 1 rfl rfl)
theorem dX3_isCounted_4 : decode cX3_isCounted 4 = .ok (.bipush 60, 2) := dk_16 60 (dk_at dksX3_isCounted_0 4 rfl rfl)
theorem dX3_isCounted_6 : decode cX3_isCounted 6 = .ok (.if_icmp .ne 9, 3) := dk_160 0 9 (dk_at dksX3_isCounted_0 6 rfl rfl)
theorem dX3_isCounted_9 : decode cX3_isCounted 9 = .ok (.aload_n 0, 1) := dk_42 (dk_at dksX3_isCounted_0 9 rfl rfl)
theorem dX3_isCounted_10 : decode cX3_isCounted 10 = .ok (.iconst 3, 1) := dk_6 (dk_at dksX3_isCounted_0 10 rfl rfl)
theorem dX3_isCounted_11 : decode cX3_isCounted 11 = .ok (.iload_n 1, 1) := dk_27 (dk_at dksX3_isCounted_0 11 rfl rfl)
theorem dX3_isCounted_12 : decode cX3_isCounted 12 = .ok (.invokevirtual 209, 3) := dk_182 0 209 (dk_at dksX3_isCounted_0 12 rfl rfl)
theorem dX3_isCounted_15 : decode cX3_isCounted 15 = .ok (.aload_n 0, 1) := dk_42 (dk_at dksX3_isCounted_0 15 rfl rfl)
theorem dX3_isCounted_16 : decode cX3_isCounted 16 = .ok (.dup, 1) := dk_89 (dk_at dksX3_isCounted_0 16 rfl rfl)
theorem dX3_isCounted_17 : decode cX3_isCounted 17 = .ok (.getfield 206, 3) := dk_180 0 206 (dk_at dksX3_isCounted_0 17 rfl rfl)
theorem dX3_isCounted_20 : decode cX3_isCounted 20 = .ok (.iconst 1, 1) := dk_4 (dk_at dksX3_isCounted_0 20 rfl rfl)
theorem dX3_isCounted_21 : decode cX3_isCounted 21 = .ok (.iadd, 1) := dk_96 (dk_at dksX3_isCounted_0 21 rfl rfl)
theorem dX3_isCounted_22 : decode cX3_isCounted 22 = .ok (.putfield 206, 3) := dk_181 0 206 (dk_at dksX3_isCounted_1 0 rfl rfl)
theorem dX3_isCounted_25 : decode cX3_isCounted 25 = .ok (.return_, 1) := dk_177 (dk_at dksX3_isCounted_1 3 rfl rfl)
abbrev cX3_entry : ByteArray := prog_17_method_20_code
def yX3_entry : MethodName := ⟨RX3, "entry", "(II)V"⟩
def dkwX3_entry_2 : List UInt8 := [180, 0, 203, 4, 96, 181, 0, 203, 177]
abbrev dktX3_entry_2 : List UInt8 := dkwX3_entry_2 ++ []
def dkwX3_entry_1 : List UInt8 := [27, 79, 42, 180, 0, 78, 17, 1, 44, 42, 180, 0, 200, 104, 42, 180, 0, 203, 96, 28, 79, 42, 89]
abbrev dktX3_entry_1 : List UInt8 := dkwX3_entry_1 ++ dktX3_entry_2
def dkwX3_entry_0 : List UInt8 := [42, 180, 0, 171, 154, 0, 51, 42, 180, 0, 75, 17, 1, 44, 42, 180, 0, 200, 104, 42, 180, 0, 203, 96]
abbrev dktX3_entry_0 : List UInt8 := dkwX3_entry_0 ++ dktX3_entry_1
theorem dksX3_entry_0 : cX3_entry.data.toList.drop 0 = dktX3_entry_0 := by decide +kernel
theorem dksX3_entry_1 : cX3_entry.data.toList.drop 24 = dktX3_entry_1 := dk_seg dksX3_entry_0 24 rfl rfl
theorem dksX3_entry_2 : cX3_entry.data.toList.drop 47 = dktX3_entry_2 := dk_seg dksX3_entry_1 23 rfl rfl
theorem dX3_entry_0 : decode cX3_entry 0 = .ok (.aload_n 0, 1) := dk_42 (dk_at dksX3_entry_0 0 rfl rfl)
theorem dX3_entry_1 : decode cX3_entry 1 = .ok (.getfield 171, 3) := dk_180 0 171 (dk_at dksX3_entry_0 1 rfl rfl)
theorem dX3_entry_4 : decode cX3_entry 4 = .ok (.ifCond .ne 51, 3) := dk_154 0 51 (dk_at dksX3_entry_0 4 rfl rfl)
theorem dX3_entry_7 : decode cX3_entry 7 = .ok (.aload_n 0, 1) := dk_42 (dk_at dksX3_entry_0 7 rfl rfl)
theorem dX3_entry_8 : decode cX3_entry 8 = .ok (.getfield 75, 3) := dk_180 0 75 (dk_at dksX3_entry_0 8 rfl rfl)
theorem dX3_entry_11 : decode cX3_entry 11 = .ok (.sipush 300, 3) := dk_17 1 44 (dk_at dksX3_entry_0 11 rfl rfl)
theorem dX3_entry_14 : decode cX3_entry 14 = .ok (.aload_n 0, 1) := dk_42 (dk_at dksX3_entry_0 14 rfl rfl)
theorem dX3_entry_15 : decode cX3_entry 15 = .ok (.getfield 200, 3) := dk_180 0 200 (dk_at dksX3_entry_0 15 rfl rfl)
theorem dX3_entry_18 : decode cX3_entry 18 = .ok (.imul, 1) := dk_104 (dk_at dksX3_entry_0 18 rfl rfl)
theorem dX3_entry_19 : decode cX3_entry 19 = .ok (.aload_n 0, 1) := dk_42 (dk_at dksX3_entry_0 19 rfl rfl)
theorem dX3_entry_20 : decode cX3_entry 20 = .ok (.getfield 203, 3) := dk_180 0 203 (dk_at dksX3_entry_0 20 rfl rfl)
theorem dX3_entry_23 : decode cX3_entry 23 = .ok (.iadd, 1) := dk_96 (dk_at dksX3_entry_0 23 rfl rfl)
theorem dX3_entry_24 : decode cX3_entry 24 = .ok (.iload_n 1, 1) := dk_27 (dk_at dksX3_entry_1 0 rfl rfl)
theorem dX3_entry_25 : decode cX3_entry 25 = .ok (.iastore, 1) := dk_79 (dk_at dksX3_entry_1 1 rfl rfl)
theorem dX3_entry_26 : decode cX3_entry 26 = .ok (.aload_n 0, 1) := dk_42 (dk_at dksX3_entry_1 2 rfl rfl)
theorem dX3_entry_27 : decode cX3_entry 27 = .ok (.getfield 78, 3) := dk_180 0 78 (dk_at dksX3_entry_1 3 rfl rfl)
theorem dX3_entry_30 : decode cX3_entry 30 = .ok (.sipush 300, 3) := dk_17 1 44 (dk_at dksX3_entry_1 6 rfl rfl)
theorem dX3_entry_33 : decode cX3_entry 33 = .ok (.aload_n 0, 1) := dk_42 (dk_at dksX3_entry_1 9 rfl rfl)
theorem dX3_entry_34 : decode cX3_entry 34 = .ok (.getfield 200, 3) := dk_180 0 200 (dk_at dksX3_entry_1 10 rfl rfl)
theorem dX3_entry_37 : decode cX3_entry 37 = .ok (.imul, 1) := dk_104 (dk_at dksX3_entry_1 13 rfl rfl)
theorem dX3_entry_38 : decode cX3_entry 38 = .ok (.aload_n 0, 1) := dk_42 (dk_at dksX3_entry_1 14 rfl rfl)
theorem dX3_entry_39 : decode cX3_entry 39 = .ok (.getfield 203, 3) := dk_180 0 203 (dk_at dksX3_entry_1 15 rfl rfl)
theorem dX3_entry_42 : decode cX3_entry 42 = .ok (.iadd, 1) := dk_96 (dk_at dksX3_entry_1 18 rfl rfl)
theorem dX3_entry_43 : decode cX3_entry 43 = .ok (.iload_n 2, 1) := dk_28 (dk_at dksX3_entry_1 19 rfl rfl)
theorem dX3_entry_44 : decode cX3_entry 44 = .ok (.iastore, 1) := dk_79 (dk_at dksX3_entry_1 20 rfl rfl)
theorem dX3_entry_45 : decode cX3_entry 45 = .ok (.aload_n 0, 1) := dk_42 (dk_at dksX3_entry_1 21 rfl rfl)
theorem dX3_entry_46 : decode cX3_entry 46 = .ok (.dup, 1) := dk_89 (dk_at dksX3_entry_1 22 rfl rfl)
theorem dX3_entry_47 : decode cX3_entry 47 = .ok (.getfield 203, 3) := dk_180 0 203 (dk_at dksX3_entry_2 0 rfl rfl)
theorem dX3_entry_50 : decode cX3_entry 50 = .ok (.iconst 1, 1) := dk_4 (dk_at dksX3_entry_2 3 rfl rfl)
theorem dX3_entry_51 : decode cX3_entry 51 = .ok (.iadd, 1) := dk_96 (dk_at dksX3_entry_2 4 rfl rfl)
theorem dX3_entry_52 : decode cX3_entry 52 = .ok (.putfield 203, 3) := dk_181 0 203 (dk_at dksX3_entry_2 5 rfl rfl)
theorem dX3_entry_55 : decode cX3_entry 55 = .ok (.return_, 1) := dk_177 (dk_at dksX3_entry_2 8 rfl rfl)
abbrev cX3_wordOf : ByteArray := prog_17_method_13_code
def yX3_wordOf : MethodName := ⟨RX3, "wordOf", "(I)Ljava/lang/String;"⟩
def dkwX3_wordOf_3 : List UInt8 := [18, 163, 176, 18, 165, 176, 18, 167, 176, 18, 169, 176]
abbrev dktX3_wordOf_3 : List UInt8 := dkwX3_wordOf_3 ++ []
def dkwX3_wordOf_2 : List UInt8 := [18, 149, 176, 18, 151, 176, 18, 153, 176, 18, 155, 176, 18, 156, 176, 18, 157, 176, 18, 159, 176, 18, 161, 176]
abbrev dktX3_wordOf_2 : List UInt8 := dkwX3_wordOf_2 ++ dktX3_wordOf_3
def dkwX3_wordOf_1 : List UInt8 := [170, 0, 0, 0, 0, 0, 92, 0, 0, 0, 0, 0, 0, 0, 10, 0, 0, 0, 59, 0, 0, 0, 62, 0, 0, 0, 65, 0, 0, 0, 68, 0, 0, 0, 71, 0, 0, 0, 74, 0, 0, 0, 77, 0, 0, 0, 80, 0, 0, 0, 83, 0, 0, 0, 86, 0, 0, 0, 89]
abbrev dktX3_wordOf_1 : List UInt8 := dkwX3_wordOf_1 ++ dktX3_wordOf_2
def dkwX3_wordOf_0 : List UInt8 := [26]
abbrev dktX3_wordOf_0 : List UInt8 := dkwX3_wordOf_0 ++ dktX3_wordOf_1
theorem dksX3_wordOf_0 : cX3_wordOf.data.toList.drop 0 = dktX3_wordOf_0 := by decide +kernel
theorem dksX3_wordOf_1 : cX3_wordOf.data.toList.drop 1 = dktX3_wordOf_1 := dk_seg dksX3_wordOf_0 1 rfl rfl
theorem dksX3_wordOf_2 : cX3_wordOf.data.toList.drop 60 = dktX3_wordOf_2 := dk_seg dksX3_wordOf_1 59 rfl rfl
theorem dksX3_wordOf_3 : cX3_wordOf.data.toList.drop 84 = dktX3_wordOf_3 := dk_seg dksX3_wordOf_2 24 rfl rfl
theorem dX3_wordOf_0 : decode cX3_wordOf 0 = .ok (.iload_n 0, 1) := dk_26 (dk_at dksX3_wordOf_0 0 rfl rfl)
theorem dX3_wordOf_1 : decode cX3_wordOf 1 = .ok (.tableswitch 92 0 10 #[59, 62, 65, 68, 71, 74, 77, 80, 83, 86, 89], 59) := by decide +kernel
theorem dX3_wordOf_60 : decode cX3_wordOf 60 = .ok (.ldc 149, 2) := dk_18 149 (dk_at dksX3_wordOf_2 0 rfl rfl)
theorem dX3_wordOf_62 : decode cX3_wordOf 62 = .ok (.areturn, 1) := dk_176 (dk_at dksX3_wordOf_2 2 rfl rfl)
theorem dX3_wordOf_63 : decode cX3_wordOf 63 = .ok (.ldc 151, 2) := dk_18 151 (dk_at dksX3_wordOf_2 3 rfl rfl)
theorem dX3_wordOf_65 : decode cX3_wordOf 65 = .ok (.areturn, 1) := dk_176 (dk_at dksX3_wordOf_2 5 rfl rfl)
theorem dX3_wordOf_66 : decode cX3_wordOf 66 = .ok (.ldc 153, 2) := dk_18 153 (dk_at dksX3_wordOf_2 6 rfl rfl)
theorem dX3_wordOf_68 : decode cX3_wordOf 68 = .ok (.areturn, 1) := dk_176 (dk_at dksX3_wordOf_2 8 rfl rfl)
theorem dX3_wordOf_69 : decode cX3_wordOf 69 = .ok (.ldc 155, 2) := dk_18 155 (dk_at dksX3_wordOf_2 9 rfl rfl)
theorem dX3_wordOf_71 : decode cX3_wordOf 71 = .ok (.areturn, 1) := dk_176 (dk_at dksX3_wordOf_2 11 rfl rfl)
theorem dX3_wordOf_72 : decode cX3_wordOf 72 = .ok (.ldc 156, 2) := dk_18 156 (dk_at dksX3_wordOf_2 12 rfl rfl)
theorem dX3_wordOf_74 : decode cX3_wordOf 74 = .ok (.areturn, 1) := dk_176 (dk_at dksX3_wordOf_2 14 rfl rfl)
theorem dX3_wordOf_75 : decode cX3_wordOf 75 = .ok (.ldc 157, 2) := dk_18 157 (dk_at dksX3_wordOf_2 15 rfl rfl)
theorem dX3_wordOf_77 : decode cX3_wordOf 77 = .ok (.areturn, 1) := dk_176 (dk_at dksX3_wordOf_2 17 rfl rfl)
theorem dX3_wordOf_78 : decode cX3_wordOf 78 = .ok (.ldc 159, 2) := dk_18 159 (dk_at dksX3_wordOf_2 18 rfl rfl)
theorem dX3_wordOf_80 : decode cX3_wordOf 80 = .ok (.areturn, 1) := dk_176 (dk_at dksX3_wordOf_2 20 rfl rfl)
theorem dX3_wordOf_81 : decode cX3_wordOf 81 = .ok (.ldc 161, 2) := dk_18 161 (dk_at dksX3_wordOf_2 21 rfl rfl)
theorem dX3_wordOf_83 : decode cX3_wordOf 83 = .ok (.areturn, 1) := dk_176 (dk_at dksX3_wordOf_2 23 rfl rfl)
theorem dX3_wordOf_84 : decode cX3_wordOf 84 = .ok (.ldc 163, 2) := dk_18 163 (dk_at dksX3_wordOf_3 0 rfl rfl)
theorem dX3_wordOf_86 : decode cX3_wordOf 86 = .ok (.areturn, 1) := dk_176 (dk_at dksX3_wordOf_3 2 rfl rfl)
theorem dX3_wordOf_87 : decode cX3_wordOf 87 = .ok (.ldc 165, 2) := dk_18 165 (dk_at dksX3_wordOf_3 3 rfl rfl)
theorem dX3_wordOf_89 : decode cX3_wordOf 89 = .ok (.areturn, 1) := dk_176 (dk_at dksX3_wordOf_3 5 rfl rfl)
theorem dX3_wordOf_90 : decode cX3_wordOf 90 = .ok (.ldc 167, 2) := dk_18 167 (dk_at dksX3_wordOf_3 6 rfl rfl)
theorem dX3_wordOf_92 : decode cX3_wordOf 92 = .ok (.areturn, 1) := dk_176 (dk_at dksX3_wordOf_3 8 rfl rfl)
theorem dX3_wordOf_93 : decode cX3_wordOf 93 = .ok (.ldc 169, 2) := dk_18 169 (dk_at dksX3_wordOf_3 9 rfl rfl)
theorem dX3_wordOf_95 : decode cX3_wordOf 95 = .ok (.areturn, 1) := dk_176 (dk_at dksX3_wordOf_3 11 rfl rfl)
abbrev cX3_takes : ByteArray := prog_17_method_19_code
def yX3_takes : MethodName := ⟨RX3, "takes", "(Ljava/lang/String;)Z"⟩
def dkwX3_takes_1 : List UInt8 := [167, 0, 4, 3, 96, 181, 0, 174, 28, 172]
abbrev dktX3_takes_1 : List UInt8 := dkwX3_takes_1 ++ []
def dkwX3_takes_0 : List UInt8 := [42, 182, 0, 193, 42, 43, 182, 0, 196, 61, 42, 89, 180, 0, 174, 28, 153, 0, 10, 43, 182, 0, 184]
abbrev dktX3_takes_0 : List UInt8 := dkwX3_takes_0 ++ dktX3_takes_1
theorem dksX3_takes_0 : cX3_takes.data.toList.drop 0 = dktX3_takes_0 := by decide +kernel
theorem dksX3_takes_1 : cX3_takes.data.toList.drop 23 = dktX3_takes_1 := dk_seg dksX3_takes_0 23 rfl rfl
theorem dX3_takes_0 : decode cX3_takes 0 = .ok (.aload_n 0, 1) := dk_42 (dk_at dksX3_takes_0 0 rfl rfl)
theorem dX3_takes_1 : decode cX3_takes 1 = .ok (.invokevirtual 193, 3) := dk_182 0 193 (dk_at dksX3_takes_0 1 rfl rfl)
theorem dX3_takes_4 : decode cX3_takes 4 = .ok (.aload_n 0, 1) := dk_42 (dk_at dksX3_takes_0 4 rfl rfl)
theorem dX3_takes_5 : decode cX3_takes 5 = .ok (.aload_n 1, 1) := dk_43 (dk_at dksX3_takes_0 5 rfl rfl)
theorem dX3_takes_6 : decode cX3_takes 6 = .ok (.invokevirtual 196, 3) := dk_182 0 196 (dk_at dksX3_takes_0 6 rfl rfl)
theorem dX3_takes_9 : decode cX3_takes 9 = .ok (.istore_n 2, 1) := dk_61 (dk_at dksX3_takes_0 9 rfl rfl)
theorem dX3_takes_10 : decode cX3_takes 10 = .ok (.aload_n 0, 1) := dk_42 (dk_at dksX3_takes_0 10 rfl rfl)
theorem dX3_takes_11 : decode cX3_takes 11 = .ok (.dup, 1) := dk_89 (dk_at dksX3_takes_0 11 rfl rfl)
theorem dX3_takes_12 : decode cX3_takes 12 = .ok (.getfield 174, 3) := dk_180 0 174 (dk_at dksX3_takes_0 12 rfl rfl)
theorem dX3_takes_15 : decode cX3_takes 15 = .ok (.iload_n 2, 1) := dk_28 (dk_at dksX3_takes_0 15 rfl rfl)
theorem dX3_takes_16 : decode cX3_takes 16 = .ok (.ifCond .eq 10, 3) := dk_153 0 10 (dk_at dksX3_takes_0 16 rfl rfl)
theorem dX3_takes_19 : decode cX3_takes 19 = .ok (.aload_n 1, 1) := dk_43 (dk_at dksX3_takes_0 19 rfl rfl)
theorem dX3_takes_20 : decode cX3_takes 20 = .ok (.invokevirtual 184, 3) := dk_182 0 184 (dk_at dksX3_takes_0 20 rfl rfl)
theorem dX3_takes_23 : decode cX3_takes 23 = .ok (.goto 4, 3) := dk_167 0 4 (dk_at dksX3_takes_1 0 rfl rfl)
theorem dX3_takes_26 : decode cX3_takes 26 = .ok (.iconst 0, 1) := dk_3 (dk_at dksX3_takes_1 3 rfl rfl)
theorem dX3_takes_27 : decode cX3_takes 27 = .ok (.iadd, 1) := dk_96 (dk_at dksX3_takes_1 4 rfl rfl)
theorem dX3_takes_28 : decode cX3_takes 28 = .ok (.putfield 174, 3) := dk_181 0 174 (dk_at dksX3_takes_1 5 rfl rfl)
theorem dX3_takes_31 : decode cX3_takes 31 = .ok (.iload_n 2, 1) := dk_28 (dk_at dksX3_takes_1 8 rfl rfl)
theorem dX3_takes_32 : decode cX3_takes 32 = .ok (.ireturn, 1) := dk_172 (dk_at dksX3_takes_1 9 rfl rfl)
abbrev cX3_test : ByteArray := prog_17_method_31_code
def yX3_test : MethodName := ⟨RX3, "test", "()V"⟩
def dkwX3_test_8 : List UInt8 := [4, 100, 181, 0, 244, 167, 0, 5, 3, 61, 167, 255, 66, 177]
abbrev dktX3_test_8 : List UInt8 := dkwX3_test_8 ++ []
def dkwX3_test_7 : List UInt8 := [89, 180, 0, 174, 4, 96, 181, 0, 174, 42, 89, 180, 0, 241, 4, 100, 181, 0, 241, 42, 89, 180, 0, 244]
abbrev dktX3_test_7 : List UInt8 := dkwX3_test_7 ++ dktX3_test_8
def dkwX3_test_6 : List UInt8 := [16, 12, 160, 0, 54, 42, 182, 0, 177, 16, 93, 159, 0, 12, 42, 3, 42, 180, 0, 174, 182, 0, 209, 42]
abbrev dktX3_test_6 : List UInt8 := dkwX3_test_6 ++ dktX3_test_7
def dkwX3_test_5 : List UInt8 := [167, 0, 4, 5, 96, 181, 0, 174, 4, 60, 167, 0, 71, 42, 16, 11, 182, 1, 5, 42, 182, 0, 247]
abbrev dktX3_test_5 : List UInt8 := dkwX3_test_5 ++ dktX3_test_6
def dkwX3_test_4 : List UInt8 := [29, 153, 0, 8, 16, 10, 167, 0, 5, 16, 11, 182, 0, 252, 42, 89, 180, 0, 174, 29, 153, 0, 7, 6]
abbrev dktX3_test_4 : List UInt8 := dkwX3_test_4 ++ dktX3_test_5
def dkwX3_test_3 : List UInt8 := [182, 1, 5, 29, 154, 0, 8, 21, 4, 153, 0, 52, 21, 4, 153, 0, 9, 42, 16, 11, 182, 1, 5, 42]
abbrev dktX3_test_3 : List UInt8 := dkwX3_test_3 ++ dktX3_test_4
def dkwX3_test_2 : List UInt8 := [182, 0, 193, 42, 19, 1, 8, 182, 0, 196, 62, 42, 19, 1, 10, 182, 0, 196, 54, 4, 42, 16, 10]
abbrev dktX3_test_2 : List UInt8 := dkwX3_test_2 ++ dktX3_test_3
def dkwX3_test_1 : List UInt8 := [42, 182, 1, 2, 154, 0, 7, 4, 167, 0, 4, 3, 60, 167, 255, 228, 42, 16, 9, 182, 1, 5, 42]
abbrev dktX3_test_1 : List UInt8 := dkwX3_test_1 ++ dktX3_test_2
def dkwX3_test_0 : List UInt8 := [42, 3, 181, 0, 241, 4, 60, 4, 61, 28, 153, 0, 192, 42, 180, 0, 171, 154, 0, 185, 27, 153, 0, 19]
abbrev dktX3_test_0 : List UInt8 := dkwX3_test_0 ++ dktX3_test_1
theorem dksX3_test_0 : cX3_test.data.toList.drop 0 = dktX3_test_0 := by decide +kernel
theorem dksX3_test_1 : cX3_test.data.toList.drop 24 = dktX3_test_1 := dk_seg dksX3_test_0 24 rfl rfl
theorem dksX3_test_2 : cX3_test.data.toList.drop 47 = dktX3_test_2 := dk_seg dksX3_test_1 23 rfl rfl
theorem dksX3_test_3 : cX3_test.data.toList.drop 70 = dktX3_test_3 := dk_seg dksX3_test_2 23 rfl rfl
theorem dksX3_test_4 : cX3_test.data.toList.drop 94 = dktX3_test_4 := dk_seg dksX3_test_3 24 rfl rfl
theorem dksX3_test_5 : cX3_test.data.toList.drop 118 = dktX3_test_5 := dk_seg dksX3_test_4 24 rfl rfl
theorem dksX3_test_6 : cX3_test.data.toList.drop 141 = dktX3_test_6 := dk_seg dksX3_test_5 23 rfl rfl
theorem dksX3_test_7 : cX3_test.data.toList.drop 165 = dktX3_test_7 := dk_seg dksX3_test_6 24 rfl rfl
theorem dksX3_test_8 : cX3_test.data.toList.drop 189 = dktX3_test_8 := dk_seg dksX3_test_7 24 rfl rfl
theorem dX3_test_0 : decode cX3_test 0 = .ok (.aload_n 0, 1) := dk_42 (dk_at dksX3_test_0 0 rfl rfl)
theorem dX3_test_1 : decode cX3_test 1 = .ok (.iconst 0, 1) := dk_3 (dk_at dksX3_test_0 1 rfl rfl)
theorem dX3_test_2 : decode cX3_test 2 = .ok (.putfield 241, 3) := dk_181 0 241 (dk_at dksX3_test_0 2 rfl rfl)
theorem dX3_test_5 : decode cX3_test 5 = .ok (.iconst 1, 1) := dk_4 (dk_at dksX3_test_0 5 rfl rfl)
theorem dX3_test_6 : decode cX3_test 6 = .ok (.istore_n 1, 1) := dk_60 (dk_at dksX3_test_0 6 rfl rfl)
theorem dX3_test_7 : decode cX3_test 7 = .ok (.iconst 1, 1) := dk_4 (dk_at dksX3_test_0 7 rfl rfl)
theorem dX3_test_8 : decode cX3_test 8 = .ok (.istore_n 2, 1) := dk_61 (dk_at dksX3_test_0 8 rfl rfl)
theorem dX3_test_9 : decode cX3_test 9 = .ok (.iload_n 2, 1) := dk_28 (dk_at dksX3_test_0 9 rfl rfl)
theorem dX3_test_10 : decode cX3_test 10 = .ok (.ifCond .eq 192, 3) := dk_153 0 192 (dk_at dksX3_test_0 10 rfl rfl)
theorem dX3_test_13 : decode cX3_test 13 = .ok (.aload_n 0, 1) := dk_42 (dk_at dksX3_test_0 13 rfl rfl)
theorem dX3_test_14 : decode cX3_test 14 = .ok (.getfield 171, 3) := dk_180 0 171 (dk_at dksX3_test_0 14 rfl rfl)
theorem dX3_test_17 : decode cX3_test 17 = .ok (.ifCond .ne 185, 3) := dk_154 0 185 (dk_at dksX3_test_0 17 rfl rfl)
theorem dX3_test_20 : decode cX3_test 20 = .ok (.iload_n 1, 1) := dk_27 (dk_at dksX3_test_0 20 rfl rfl)
theorem dX3_test_21 : decode cX3_test 21 = .ok (.ifCond .eq 19, 3) := dk_153 0 19 (dk_at dksX3_test_0 21 rfl rfl)
theorem dX3_test_24 : decode cX3_test 24 = .ok (.aload_n 0, 1) := dk_42 (dk_at dksX3_test_1 0 rfl rfl)
theorem dX3_test_25 : decode cX3_test 25 = .ok (.invokevirtual 258, 3) := dk_182 1 2 (dk_at dksX3_test_1 1 rfl rfl)
theorem dX3_test_28 : decode cX3_test 28 = .ok (.ifCond .ne 7, 3) := dk_154 0 7 (dk_at dksX3_test_1 4 rfl rfl)
theorem dX3_test_31 : decode cX3_test 31 = .ok (.iconst 1, 1) := dk_4 (dk_at dksX3_test_1 7 rfl rfl)
theorem dX3_test_32 : decode cX3_test 32 = .ok (.goto 4, 3) := dk_167 0 4 (dk_at dksX3_test_1 8 rfl rfl)
theorem dX3_test_35 : decode cX3_test 35 = .ok (.iconst 0, 1) := dk_3 (dk_at dksX3_test_1 11 rfl rfl)
theorem dX3_test_36 : decode cX3_test 36 = .ok (.istore_n 1, 1) := dk_60 (dk_at dksX3_test_1 12 rfl rfl)
theorem dX3_test_37 : decode cX3_test 37 = .ok (.goto (-28), 3) := dk_167 255 228 (dk_at dksX3_test_1 13 rfl rfl)
theorem dX3_test_40 : decode cX3_test 40 = .ok (.aload_n 0, 1) := dk_42 (dk_at dksX3_test_1 16 rfl rfl)
theorem dX3_test_41 : decode cX3_test 41 = .ok (.bipush 9, 2) := dk_16 9 (dk_at dksX3_test_1 17 rfl rfl)
theorem dX3_test_43 : decode cX3_test 43 = .ok (.invokevirtual 261, 3) := dk_182 1 5 (dk_at dksX3_test_1 19 rfl rfl)
theorem dX3_test_46 : decode cX3_test 46 = .ok (.aload_n 0, 1) := dk_42 (dk_at dksX3_test_1 22 rfl rfl)
theorem dX3_test_47 : decode cX3_test 47 = .ok (.invokevirtual 193, 3) := dk_182 0 193 (dk_at dksX3_test_2 0 rfl rfl)
theorem dX3_test_50 : decode cX3_test 50 = .ok (.aload_n 0, 1) := dk_42 (dk_at dksX3_test_2 3 rfl rfl)
theorem dX3_test_51 : decode cX3_test 51 = .ok (.ldc_w 264, 3) := dk_19 1 8 (dk_at dksX3_test_2 4 rfl rfl)
theorem dX3_test_54 : decode cX3_test 54 = .ok (.invokevirtual 196, 3) := dk_182 0 196 (dk_at dksX3_test_2 7 rfl rfl)
theorem dX3_test_57 : decode cX3_test 57 = .ok (.istore_n 3, 1) := dk_62 (dk_at dksX3_test_2 10 rfl rfl)
theorem dX3_test_58 : decode cX3_test 58 = .ok (.aload_n 0, 1) := dk_42 (dk_at dksX3_test_2 11 rfl rfl)
theorem dX3_test_59 : decode cX3_test 59 = .ok (.ldc_w 266, 3) := dk_19 1 10 (dk_at dksX3_test_2 12 rfl rfl)
theorem dX3_test_62 : decode cX3_test 62 = .ok (.invokevirtual 196, 3) := dk_182 0 196 (dk_at dksX3_test_2 15 rfl rfl)
theorem dX3_test_65 : decode cX3_test 65 = .ok (.istore 4, 2) := dk_54 4 (dk_at dksX3_test_2 18 rfl rfl)
theorem dX3_test_67 : decode cX3_test 67 = .ok (.aload_n 0, 1) := dk_42 (dk_at dksX3_test_2 20 rfl rfl)
theorem dX3_test_68 : decode cX3_test 68 = .ok (.bipush 10, 2) := dk_16 10 (dk_at dksX3_test_2 21 rfl rfl)
theorem dX3_test_70 : decode cX3_test 70 = .ok (.invokevirtual 261, 3) := dk_182 1 5 (dk_at dksX3_test_3 0 rfl rfl)
theorem dX3_test_73 : decode cX3_test 73 = .ok (.iload_n 3, 1) := dk_29 (dk_at dksX3_test_3 3 rfl rfl)
theorem dX3_test_74 : decode cX3_test 74 = .ok (.ifCond .ne 8, 3) := dk_154 0 8 (dk_at dksX3_test_3 4 rfl rfl)
theorem dX3_test_77 : decode cX3_test 77 = .ok (.iload 4, 2) := dk_21 4 (dk_at dksX3_test_3 7 rfl rfl)
theorem dX3_test_79 : decode cX3_test 79 = .ok (.ifCond .eq 52, 3) := dk_153 0 52 (dk_at dksX3_test_3 9 rfl rfl)
theorem dX3_test_82 : decode cX3_test 82 = .ok (.iload 4, 2) := dk_21 4 (dk_at dksX3_test_3 12 rfl rfl)
theorem dX3_test_84 : decode cX3_test 84 = .ok (.ifCond .eq 9, 3) := dk_153 0 9 (dk_at dksX3_test_3 14 rfl rfl)
theorem dX3_test_87 : decode cX3_test 87 = .ok (.aload_n 0, 1) := dk_42 (dk_at dksX3_test_3 17 rfl rfl)
theorem dX3_test_88 : decode cX3_test 88 = .ok (.bipush 11, 2) := dk_16 11 (dk_at dksX3_test_3 18 rfl rfl)
theorem dX3_test_90 : decode cX3_test 90 = .ok (.invokevirtual 261, 3) := dk_182 1 5 (dk_at dksX3_test_3 20 rfl rfl)
theorem dX3_test_93 : decode cX3_test 93 = .ok (.aload_n 0, 1) := dk_42 (dk_at dksX3_test_3 23 rfl rfl)
theorem dX3_test_94 : decode cX3_test 94 = .ok (.iload_n 3, 1) := dk_29 (dk_at dksX3_test_4 0 rfl rfl)
theorem dX3_test_95 : decode cX3_test 95 = .ok (.ifCond .eq 8, 3) := dk_153 0 8 (dk_at dksX3_test_4 1 rfl rfl)
theorem dX3_test_98 : decode cX3_test 98 = .ok (.bipush 10, 2) := dk_16 10 (dk_at dksX3_test_4 4 rfl rfl)
theorem dX3_test_100 : decode cX3_test 100 = .ok (.goto 5, 3) := dk_167 0 5 (dk_at dksX3_test_4 6 rfl rfl)
theorem dX3_test_103 : decode cX3_test 103 = .ok (.bipush 11, 2) := dk_16 11 (dk_at dksX3_test_4 9 rfl rfl)
theorem dX3_test_105 : decode cX3_test 105 = .ok (.invokevirtual 252, 3) := dk_182 0 252 (dk_at dksX3_test_4 11 rfl rfl)
theorem dX3_test_108 : decode cX3_test 108 = .ok (.aload_n 0, 1) := dk_42 (dk_at dksX3_test_4 14 rfl rfl)
theorem dX3_test_109 : decode cX3_test 109 = .ok (.dup, 1) := dk_89 (dk_at dksX3_test_4 15 rfl rfl)
theorem dX3_test_110 : decode cX3_test 110 = .ok (.getfield 174, 3) := dk_180 0 174 (dk_at dksX3_test_4 16 rfl rfl)
theorem dX3_test_113 : decode cX3_test 113 = .ok (.iload_n 3, 1) := dk_29 (dk_at dksX3_test_4 19 rfl rfl)
theorem dX3_test_114 : decode cX3_test 114 = .ok (.ifCond .eq 7, 3) := dk_153 0 7 (dk_at dksX3_test_4 20 rfl rfl)
theorem dX3_test_117 : decode cX3_test 117 = .ok (.iconst 3, 1) := dk_6 (dk_at dksX3_test_4 23 rfl rfl)
theorem dX3_test_118 : decode cX3_test 118 = .ok (.goto 4, 3) := dk_167 0 4 (dk_at dksX3_test_5 0 rfl rfl)
theorem dX3_test_121 : decode cX3_test 121 = .ok (.iconst 2, 1) := dk_5 (dk_at dksX3_test_5 3 rfl rfl)
theorem dX3_test_122 : decode cX3_test 122 = .ok (.iadd, 1) := dk_96 (dk_at dksX3_test_5 4 rfl rfl)
theorem dX3_test_123 : decode cX3_test 123 = .ok (.putfield 174, 3) := dk_181 0 174 (dk_at dksX3_test_5 5 rfl rfl)
theorem dX3_test_126 : decode cX3_test 126 = .ok (.iconst 1, 1) := dk_4 (dk_at dksX3_test_5 8 rfl rfl)
theorem dX3_test_127 : decode cX3_test 127 = .ok (.istore_n 1, 1) := dk_60 (dk_at dksX3_test_5 9 rfl rfl)
theorem dX3_test_128 : decode cX3_test 128 = .ok (.goto 71, 3) := dk_167 0 71 (dk_at dksX3_test_5 10 rfl rfl)
theorem dX3_test_131 : decode cX3_test 131 = .ok (.aload_n 0, 1) := dk_42 (dk_at dksX3_test_5 13 rfl rfl)
theorem dX3_test_132 : decode cX3_test 132 = .ok (.bipush 11, 2) := dk_16 11 (dk_at dksX3_test_5 14 rfl rfl)
theorem dX3_test_134 : decode cX3_test 134 = .ok (.invokevirtual 261, 3) := dk_182 1 5 (dk_at dksX3_test_5 16 rfl rfl)
theorem dX3_test_137 : decode cX3_test 137 = .ok (.aload_n 0, 1) := dk_42 (dk_at dksX3_test_5 19 rfl rfl)
theorem dX3_test_138 : decode cX3_test 138 = .ok (.invokevirtual 247, 3) := dk_182 0 247 (dk_at dksX3_test_5 20 rfl rfl)
theorem dX3_test_141 : decode cX3_test 141 = .ok (.bipush 12, 2) := dk_16 12 (dk_at dksX3_test_6 0 rfl rfl)
theorem dX3_test_143 : decode cX3_test 143 = .ok (.if_icmp .ne 54, 3) := dk_160 0 54 (dk_at dksX3_test_6 2 rfl rfl)
theorem dX3_test_146 : decode cX3_test 146 = .ok (.aload_n 0, 1) := dk_42 (dk_at dksX3_test_6 5 rfl rfl)
theorem dX3_test_147 : decode cX3_test 147 = .ok (.invokevirtual 177, 3) := dk_182 0 177 (dk_at dksX3_test_6 6 rfl rfl)
theorem dX3_test_150 : decode cX3_test 150 = .ok (.bipush 93, 2) := dk_16 93 (dk_at dksX3_test_6 9 rfl rfl)
theorem dX3_test_152 : decode cX3_test 152 = .ok (.if_icmp .eq 12, 3) := dk_159 0 12 (dk_at dksX3_test_6 11 rfl rfl)
theorem dX3_test_155 : decode cX3_test 155 = .ok (.aload_n 0, 1) := dk_42 (dk_at dksX3_test_6 14 rfl rfl)
theorem dX3_test_156 : decode cX3_test 156 = .ok (.iconst 0, 1) := dk_3 (dk_at dksX3_test_6 15 rfl rfl)
theorem dX3_test_157 : decode cX3_test 157 = .ok (.aload_n 0, 1) := dk_42 (dk_at dksX3_test_6 16 rfl rfl)
theorem dX3_test_158 : decode cX3_test 158 = .ok (.getfield 174, 3) := dk_180 0 174 (dk_at dksX3_test_6 17 rfl rfl)
theorem dX3_test_161 : decode cX3_test 161 = .ok (.invokevirtual 209, 3) := dk_182 0 209 (dk_at dksX3_test_6 20 rfl rfl)
theorem dX3_test_164 : decode cX3_test 164 = .ok (.aload_n 0, 1) := dk_42 (dk_at dksX3_test_6 23 rfl rfl)
theorem dX3_test_165 : decode cX3_test 165 = .ok (.dup, 1) := dk_89 (dk_at dksX3_test_7 0 rfl rfl)
theorem dX3_test_166 : decode cX3_test 166 = .ok (.getfield 174, 3) := dk_180 0 174 (dk_at dksX3_test_7 1 rfl rfl)
theorem dX3_test_169 : decode cX3_test 169 = .ok (.iconst 1, 1) := dk_4 (dk_at dksX3_test_7 4 rfl rfl)
theorem dX3_test_170 : decode cX3_test 170 = .ok (.iadd, 1) := dk_96 (dk_at dksX3_test_7 5 rfl rfl)
theorem dX3_test_171 : decode cX3_test 171 = .ok (.putfield 174, 3) := dk_181 0 174 (dk_at dksX3_test_7 6 rfl rfl)
theorem dX3_test_174 : decode cX3_test 174 = .ok (.aload_n 0, 1) := dk_42 (dk_at dksX3_test_7 9 rfl rfl)
theorem dX3_test_175 : decode cX3_test 175 = .ok (.dup, 1) := dk_89 (dk_at dksX3_test_7 10 rfl rfl)
theorem dX3_test_176 : decode cX3_test 176 = .ok (.getfield 241, 3) := dk_180 0 241 (dk_at dksX3_test_7 11 rfl rfl)
theorem dX3_test_179 : decode cX3_test 179 = .ok (.iconst 1, 1) := dk_4 (dk_at dksX3_test_7 14 rfl rfl)
theorem dX3_test_180 : decode cX3_test 180 = .ok (.isub, 1) := dk_100 (dk_at dksX3_test_7 15 rfl rfl)
theorem dX3_test_181 : decode cX3_test 181 = .ok (.putfield 241, 3) := dk_181 0 241 (dk_at dksX3_test_7 16 rfl rfl)
theorem dX3_test_184 : decode cX3_test 184 = .ok (.aload_n 0, 1) := dk_42 (dk_at dksX3_test_7 19 rfl rfl)
theorem dX3_test_185 : decode cX3_test 185 = .ok (.dup, 1) := dk_89 (dk_at dksX3_test_7 20 rfl rfl)
theorem dX3_test_186 : decode cX3_test 186 = .ok (.getfield 244, 3) := dk_180 0 244 (dk_at dksX3_test_7 21 rfl rfl)
theorem dX3_test_189 : decode cX3_test 189 = .ok (.iconst 1, 1) := dk_4 (dk_at dksX3_test_8 0 rfl rfl)
theorem dX3_test_190 : decode cX3_test 190 = .ok (.isub, 1) := dk_100 (dk_at dksX3_test_8 1 rfl rfl)
theorem dX3_test_191 : decode cX3_test 191 = .ok (.putfield 244, 3) := dk_181 0 244 (dk_at dksX3_test_8 2 rfl rfl)
theorem dX3_test_194 : decode cX3_test 194 = .ok (.goto 5, 3) := dk_167 0 5 (dk_at dksX3_test_8 5 rfl rfl)
theorem dX3_test_197 : decode cX3_test 197 = .ok (.iconst 0, 1) := dk_3 (dk_at dksX3_test_8 8 rfl rfl)
theorem dX3_test_198 : decode cX3_test 198 = .ok (.istore_n 2, 1) := dk_61 (dk_at dksX3_test_8 9 rfl rfl)
theorem dX3_test_199 : decode cX3_test 199 = .ok (.goto (-190), 3) := dk_167 255 66 (dk_at dksX3_test_8 10 rfl rfl)
theorem dX3_test_202 : decode cX3_test 202 = .ok (.return_, 1) := dk_177 (dk_at dksX3_test_8 13 rfl rfl)
abbrev cX3_fact : ByteArray := prog_17_method_30_code
def yX3_fact : MethodName := ⟨RX3, "fact", "()Z"⟩
def dkwX3_fact_2 : List UInt8 := [180, 0, 174, 4, 96, 181, 0, 174, 3, 172, 42, 182, 0, 255, 4, 172]
abbrev dktX3_fact_2 : List UInt8 := dkwX3_fact_2 ++ []
def dkwX3_fact_1 : List UInt8 := [6, 96, 181, 0, 174, 3, 172, 42, 182, 0, 177, 16, 91, 160, 0, 21, 42, 16, 12, 182, 0, 252, 42, 89]
abbrev dktX3_fact_1 : List UInt8 := dkwX3_fact_1 ++ dktX3_fact_2
def dkwX3_fact_0 : List UInt8 := [42, 182, 0, 193, 42, 18, 250, 182, 0, 196, 153, 0, 21, 42, 16, 9, 182, 0, 252, 42, 89, 180, 0, 174]
abbrev dktX3_fact_0 : List UInt8 := dkwX3_fact_0 ++ dktX3_fact_1
theorem dksX3_fact_0 : cX3_fact.data.toList.drop 0 = dktX3_fact_0 := by decide +kernel
theorem dksX3_fact_1 : cX3_fact.data.toList.drop 24 = dktX3_fact_1 := dk_seg dksX3_fact_0 24 rfl rfl
theorem dksX3_fact_2 : cX3_fact.data.toList.drop 48 = dktX3_fact_2 := dk_seg dksX3_fact_1 24 rfl rfl
theorem dX3_fact_0 : decode cX3_fact 0 = .ok (.aload_n 0, 1) := dk_42 (dk_at dksX3_fact_0 0 rfl rfl)
theorem dX3_fact_1 : decode cX3_fact 1 = .ok (.invokevirtual 193, 3) := dk_182 0 193 (dk_at dksX3_fact_0 1 rfl rfl)
theorem dX3_fact_4 : decode cX3_fact 4 = .ok (.aload_n 0, 1) := dk_42 (dk_at dksX3_fact_0 4 rfl rfl)
theorem dX3_fact_5 : decode cX3_fact 5 = .ok (.ldc 250, 2) := dk_18 250 (dk_at dksX3_fact_0 5 rfl rfl)
theorem dX3_fact_7 : decode cX3_fact 7 = .ok (.invokevirtual 196, 3) := dk_182 0 196 (dk_at dksX3_fact_0 7 rfl rfl)
theorem dX3_fact_10 : decode cX3_fact 10 = .ok (.ifCond .eq 21, 3) := dk_153 0 21 (dk_at dksX3_fact_0 10 rfl rfl)
theorem dX3_fact_13 : decode cX3_fact 13 = .ok (.aload_n 0, 1) := dk_42 (dk_at dksX3_fact_0 13 rfl rfl)
theorem dX3_fact_14 : decode cX3_fact 14 = .ok (.bipush 9, 2) := dk_16 9 (dk_at dksX3_fact_0 14 rfl rfl)
theorem dX3_fact_16 : decode cX3_fact 16 = .ok (.invokevirtual 252, 3) := dk_182 0 252 (dk_at dksX3_fact_0 16 rfl rfl)
theorem dX3_fact_19 : decode cX3_fact 19 = .ok (.aload_n 0, 1) := dk_42 (dk_at dksX3_fact_0 19 rfl rfl)
theorem dX3_fact_20 : decode cX3_fact 20 = .ok (.dup, 1) := dk_89 (dk_at dksX3_fact_0 20 rfl rfl)
theorem dX3_fact_21 : decode cX3_fact 21 = .ok (.getfield 174, 3) := dk_180 0 174 (dk_at dksX3_fact_0 21 rfl rfl)
theorem dX3_fact_24 : decode cX3_fact 24 = .ok (.iconst 3, 1) := dk_6 (dk_at dksX3_fact_1 0 rfl rfl)
theorem dX3_fact_25 : decode cX3_fact 25 = .ok (.iadd, 1) := dk_96 (dk_at dksX3_fact_1 1 rfl rfl)
theorem dX3_fact_26 : decode cX3_fact 26 = .ok (.putfield 174, 3) := dk_181 0 174 (dk_at dksX3_fact_1 2 rfl rfl)
theorem dX3_fact_29 : decode cX3_fact 29 = .ok (.iconst 0, 1) := dk_3 (dk_at dksX3_fact_1 5 rfl rfl)
theorem dX3_fact_30 : decode cX3_fact 30 = .ok (.ireturn, 1) := dk_172 (dk_at dksX3_fact_1 6 rfl rfl)
theorem dX3_fact_31 : decode cX3_fact 31 = .ok (.aload_n 0, 1) := dk_42 (dk_at dksX3_fact_1 7 rfl rfl)
theorem dX3_fact_32 : decode cX3_fact 32 = .ok (.invokevirtual 177, 3) := dk_182 0 177 (dk_at dksX3_fact_1 8 rfl rfl)
theorem dX3_fact_35 : decode cX3_fact 35 = .ok (.bipush 91, 2) := dk_16 91 (dk_at dksX3_fact_1 11 rfl rfl)
theorem dX3_fact_37 : decode cX3_fact 37 = .ok (.if_icmp .ne 21, 3) := dk_160 0 21 (dk_at dksX3_fact_1 13 rfl rfl)
theorem dX3_fact_40 : decode cX3_fact 40 = .ok (.aload_n 0, 1) := dk_42 (dk_at dksX3_fact_1 16 rfl rfl)
theorem dX3_fact_41 : decode cX3_fact 41 = .ok (.bipush 12, 2) := dk_16 12 (dk_at dksX3_fact_1 17 rfl rfl)
theorem dX3_fact_43 : decode cX3_fact 43 = .ok (.invokevirtual 252, 3) := dk_182 0 252 (dk_at dksX3_fact_1 19 rfl rfl)
theorem dX3_fact_46 : decode cX3_fact 46 = .ok (.aload_n 0, 1) := dk_42 (dk_at dksX3_fact_1 22 rfl rfl)
theorem dX3_fact_47 : decode cX3_fact 47 = .ok (.dup, 1) := dk_89 (dk_at dksX3_fact_1 23 rfl rfl)
theorem dX3_fact_48 : decode cX3_fact 48 = .ok (.getfield 174, 3) := dk_180 0 174 (dk_at dksX3_fact_2 0 rfl rfl)
theorem dX3_fact_51 : decode cX3_fact 51 = .ok (.iconst 1, 1) := dk_4 (dk_at dksX3_fact_2 3 rfl rfl)
theorem dX3_fact_52 : decode cX3_fact 52 = .ok (.iadd, 1) := dk_96 (dk_at dksX3_fact_2 4 rfl rfl)
theorem dX3_fact_53 : decode cX3_fact 53 = .ok (.putfield 174, 3) := dk_181 0 174 (dk_at dksX3_fact_2 5 rfl rfl)
theorem dX3_fact_56 : decode cX3_fact 56 = .ok (.iconst 0, 1) := dk_3 (dk_at dksX3_fact_2 8 rfl rfl)
theorem dX3_fact_57 : decode cX3_fact 57 = .ok (.ireturn, 1) := dk_172 (dk_at dksX3_fact_2 9 rfl rfl)
theorem dX3_fact_58 : decode cX3_fact 58 = .ok (.aload_n 0, 1) := dk_42 (dk_at dksX3_fact_2 10 rfl rfl)
theorem dX3_fact_59 : decode cX3_fact 59 = .ok (.invokevirtual 255, 3) := dk_182 0 255 (dk_at dksX3_fact_2 11 rfl rfl)
theorem dX3_fact_62 : decode cX3_fact 62 = .ok (.iconst 1, 1) := dk_4 (dk_at dksX3_fact_2 14 rfl rfl)
theorem dX3_fact_63 : decode cX3_fact 63 = .ok (.ireturn, 1) := dk_172 (dk_at dksX3_fact_2 15 rfl rfl)
abbrev cX3_opens : ByteArray := prog_17_method_28_code
def yX3_opens : MethodName := ⟨RX3, "opens", "(I)V"⟩
def dkwX3_opens_2 : List UInt8 := [27, 79, 42, 89, 180, 0, 241, 4, 96, 181, 0, 241, 177]
abbrev dktX3_opens_2 : List UInt8 := dkwX3_opens_2 ++ []
def dkwX3_opens_1 : List UInt8 := [180, 0, 174, 182, 0, 209, 42, 89, 180, 0, 244, 4, 96, 181, 0, 244, 42, 180, 0, 93, 42, 180, 0, 241]
abbrev dktX3_opens_1 : List UInt8 := dkwX3_opens_1 ++ dktX3_opens_2
def dkwX3_opens_0 : List UInt8 := [27, 16, 9, 159, 0, 9, 27, 16, 12, 160, 0, 31, 42, 180, 0, 244, 16, 10, 160, 0, 12, 42, 5, 42]
abbrev dktX3_opens_0 : List UInt8 := dkwX3_opens_0 ++ dktX3_opens_1
theorem dksX3_opens_0 : cX3_opens.data.toList.drop 0 = dktX3_opens_0 := by decide +kernel
theorem dksX3_opens_1 : cX3_opens.data.toList.drop 24 = dktX3_opens_1 := dk_seg dksX3_opens_0 24 rfl rfl
theorem dksX3_opens_2 : cX3_opens.data.toList.drop 48 = dktX3_opens_2 := dk_seg dksX3_opens_1 24 rfl rfl
theorem dX3_opens_0 : decode cX3_opens 0 = .ok (.iload_n 1, 1) := dk_27 (dk_at dksX3_opens_0 0 rfl rfl)
theorem dX3_opens_1 : decode cX3_opens 1 = .ok (.bipush 9, 2) := dk_16 9 (dk_at dksX3_opens_0 1 rfl rfl)
theorem dX3_opens_3 : decode cX3_opens 3 = .ok (.if_icmp .eq 9, 3) := dk_159 0 9 (dk_at dksX3_opens_0 3 rfl rfl)
theorem dX3_opens_6 : decode cX3_opens 6 = .ok (.iload_n 1, 1) := dk_27 (dk_at dksX3_opens_0 6 rfl rfl)
theorem dX3_opens_7 : decode cX3_opens 7 = .ok (.bipush 12, 2) := dk_16 12 (dk_at dksX3_opens_0 7 rfl rfl)
theorem dX3_opens_9 : decode cX3_opens 9 = .ok (.if_icmp .ne 31, 3) := dk_160 0 31 (dk_at dksX3_opens_0 9 rfl rfl)
theorem dX3_opens_12 : decode cX3_opens 12 = .ok (.aload_n 0, 1) := dk_42 (dk_at dksX3_opens_0 12 rfl rfl)
theorem dX3_opens_13 : decode cX3_opens 13 = .ok (.getfield 244, 3) := dk_180 0 244 (dk_at dksX3_opens_0 13 rfl rfl)
theorem dX3_opens_16 : decode cX3_opens 16 = .ok (.bipush 10, 2) := dk_16 10 (dk_at dksX3_opens_0 16 rfl rfl)
theorem dX3_opens_18 : decode cX3_opens 18 = .ok (.if_icmp .ne 12, 3) := dk_160 0 12 (dk_at dksX3_opens_0 18 rfl rfl)
theorem dX3_opens_21 : decode cX3_opens 21 = .ok (.aload_n 0, 1) := dk_42 (dk_at dksX3_opens_0 21 rfl rfl)
theorem dX3_opens_22 : decode cX3_opens 22 = .ok (.iconst 2, 1) := dk_5 (dk_at dksX3_opens_0 22 rfl rfl)
theorem dX3_opens_23 : decode cX3_opens 23 = .ok (.aload_n 0, 1) := dk_42 (dk_at dksX3_opens_0 23 rfl rfl)
theorem dX3_opens_24 : decode cX3_opens 24 = .ok (.getfield 174, 3) := dk_180 0 174 (dk_at dksX3_opens_1 0 rfl rfl)
theorem dX3_opens_27 : decode cX3_opens 27 = .ok (.invokevirtual 209, 3) := dk_182 0 209 (dk_at dksX3_opens_1 3 rfl rfl)
theorem dX3_opens_30 : decode cX3_opens 30 = .ok (.aload_n 0, 1) := dk_42 (dk_at dksX3_opens_1 6 rfl rfl)
theorem dX3_opens_31 : decode cX3_opens 31 = .ok (.dup, 1) := dk_89 (dk_at dksX3_opens_1 7 rfl rfl)
theorem dX3_opens_32 : decode cX3_opens 32 = .ok (.getfield 244, 3) := dk_180 0 244 (dk_at dksX3_opens_1 8 rfl rfl)
theorem dX3_opens_35 : decode cX3_opens 35 = .ok (.iconst 1, 1) := dk_4 (dk_at dksX3_opens_1 11 rfl rfl)
theorem dX3_opens_36 : decode cX3_opens 36 = .ok (.iadd, 1) := dk_96 (dk_at dksX3_opens_1 12 rfl rfl)
theorem dX3_opens_37 : decode cX3_opens 37 = .ok (.putfield 244, 3) := dk_181 0 244 (dk_at dksX3_opens_1 13 rfl rfl)
theorem dX3_opens_40 : decode cX3_opens 40 = .ok (.aload_n 0, 1) := dk_42 (dk_at dksX3_opens_1 16 rfl rfl)
theorem dX3_opens_41 : decode cX3_opens 41 = .ok (.getfield 93, 3) := dk_180 0 93 (dk_at dksX3_opens_1 17 rfl rfl)
theorem dX3_opens_44 : decode cX3_opens 44 = .ok (.aload_n 0, 1) := dk_42 (dk_at dksX3_opens_1 20 rfl rfl)
theorem dX3_opens_45 : decode cX3_opens 45 = .ok (.getfield 241, 3) := dk_180 0 241 (dk_at dksX3_opens_1 21 rfl rfl)
theorem dX3_opens_48 : decode cX3_opens 48 = .ok (.iload_n 1, 1) := dk_27 (dk_at dksX3_opens_2 0 rfl rfl)
theorem dX3_opens_49 : decode cX3_opens 49 = .ok (.iastore, 1) := dk_79 (dk_at dksX3_opens_2 1 rfl rfl)
theorem dX3_opens_50 : decode cX3_opens 50 = .ok (.aload_n 0, 1) := dk_42 (dk_at dksX3_opens_2 2 rfl rfl)
theorem dX3_opens_51 : decode cX3_opens 51 = .ok (.dup, 1) := dk_89 (dk_at dksX3_opens_2 3 rfl rfl)
theorem dX3_opens_52 : decode cX3_opens 52 = .ok (.getfield 241, 3) := dk_180 0 241 (dk_at dksX3_opens_2 4 rfl rfl)
theorem dX3_opens_55 : decode cX3_opens 55 = .ok (.iconst 1, 1) := dk_4 (dk_at dksX3_opens_2 7 rfl rfl)
theorem dX3_opens_56 : decode cX3_opens 56 = .ok (.iadd, 1) := dk_96 (dk_at dksX3_opens_2 8 rfl rfl)
theorem dX3_opens_57 : decode cX3_opens 57 = .ok (.putfield 241, 3) := dk_181 0 241 (dk_at dksX3_opens_2 9 rfl rfl)
theorem dX3_opens_60 : decode cX3_opens 60 = .ok (.return_, 1) := dk_177 (dk_at dksX3_opens_2 12 rfl rfl)
abbrev cX3_compared : ByteArray := prog_17_method_26_code
def yX3_compared : MethodName := ⟨RX3, "compared", "()V"⟩
def dkwX3_compared_6 : List UInt8 := [182, 0, 225, 177]
abbrev dktX3_compared_6 : List UInt8 := dkwX3_compared_6 ++ []
def dkwX3_compared_5 : List UInt8 := [153, 0, 7, 8, 167, 0, 18, 7, 167, 0, 14, 28, 153, 0, 8, 16, 7, 167, 0, 5, 16, 8, 3]
abbrev dktX3_compared_5 : List UInt8 := dkwX3_compared_5 ++ dktX3_compared_6
def dkwX3_compared_4 : List UInt8 := [182, 0, 238, 42, 27, 16, 61, 160, 0, 8, 16, 6, 167, 0, 32, 27, 16, 60, 160, 0, 15, 28]
abbrev dktX3_compared_4 : List UInt8 := dkwX3_compared_4 ++ dktX3_compared_5
def dkwX3_compared_3 : List UInt8 := [167, 0, 4, 3, 61, 42, 89, 180, 0, 174, 28, 153, 0, 7, 4, 167, 0, 4, 3, 96, 181, 0, 174, 42]
abbrev dktX3_compared_3 : List UInt8 := dkwX3_compared_3 ++ dktX3_compared_4
def dkwX3_compared_2 : List UInt8 := [180, 0, 174, 4, 96, 181, 0, 174, 27, 16, 61, 159, 0, 16, 42, 182, 0, 177, 16, 61, 160, 0, 7, 4]
abbrev dktX3_compared_2 : List UInt8 := dkwX3_compared_2 ++ dktX3_compared_3
def dkwX3_compared_1 : List UInt8 := [159, 0, 13, 42, 3, 42, 180, 0, 174, 182, 0, 209, 177, 42, 42, 180, 0, 174, 182, 0, 222, 42, 89]
abbrev dktX3_compared_1 : List UInt8 := dkwX3_compared_1 ++ dktX3_compared_2
def dkwX3_compared_0 : List UInt8 := [42, 182, 0, 238, 42, 182, 0, 177, 60, 27, 16, 60, 159, 0, 25, 27, 16, 61, 159, 0, 19, 27, 16, 62]
abbrev dktX3_compared_0 : List UInt8 := dkwX3_compared_0 ++ dktX3_compared_1
theorem dksX3_compared_0 : cX3_compared.data.toList.drop 0 = dktX3_compared_0 := by decide +kernel
theorem dksX3_compared_1 : cX3_compared.data.toList.drop 24 = dktX3_compared_1 := dk_seg dksX3_compared_0 24 rfl rfl
theorem dksX3_compared_2 : cX3_compared.data.toList.drop 47 = dktX3_compared_2 := dk_seg dksX3_compared_1 23 rfl rfl
theorem dksX3_compared_3 : cX3_compared.data.toList.drop 71 = dktX3_compared_3 := dk_seg dksX3_compared_2 24 rfl rfl
theorem dksX3_compared_4 : cX3_compared.data.toList.drop 95 = dktX3_compared_4 := dk_seg dksX3_compared_3 24 rfl rfl
theorem dksX3_compared_5 : cX3_compared.data.toList.drop 117 = dktX3_compared_5 := dk_seg dksX3_compared_4 22 rfl rfl
theorem dksX3_compared_6 : cX3_compared.data.toList.drop 140 = dktX3_compared_6 := dk_seg dksX3_compared_5 23 rfl rfl
theorem dX3_compared_0 : decode cX3_compared 0 = .ok (.aload_n 0, 1) := dk_42 (dk_at dksX3_compared_0 0 rfl rfl)
theorem dX3_compared_1 : decode cX3_compared 1 = .ok (.invokevirtual 238, 3) := dk_182 0 238 (dk_at dksX3_compared_0 1 rfl rfl)
theorem dX3_compared_4 : decode cX3_compared 4 = .ok (.aload_n 0, 1) := dk_42 (dk_at dksX3_compared_0 4 rfl rfl)
theorem dX3_compared_5 : decode cX3_compared 5 = .ok (.invokevirtual 177, 3) := dk_182 0 177 (dk_at dksX3_compared_0 5 rfl rfl)
theorem dX3_compared_8 : decode cX3_compared 8 = .ok (.istore_n 1, 1) := dk_60 (dk_at dksX3_compared_0 8 rfl rfl)
theorem dX3_compared_9 : decode cX3_compared 9 = .ok (.iload_n 1, 1) := dk_27 (dk_at dksX3_compared_0 9 rfl rfl)
theorem dX3_compared_10 : decode cX3_compared 10 = .ok (.bipush 60, 2) := dk_16 60 (dk_at dksX3_compared_0 10 rfl rfl)
theorem dX3_compared_12 : decode cX3_compared 12 = .ok (.if_icmp .eq 25, 3) := dk_159 0 25 (dk_at dksX3_compared_0 12 rfl rfl)
theorem dX3_compared_15 : decode cX3_compared 15 = .ok (.iload_n 1, 1) := dk_27 (dk_at dksX3_compared_0 15 rfl rfl)
theorem dX3_compared_16 : decode cX3_compared 16 = .ok (.bipush 61, 2) := dk_16 61 (dk_at dksX3_compared_0 16 rfl rfl)
theorem dX3_compared_18 : decode cX3_compared 18 = .ok (.if_icmp .eq 19, 3) := dk_159 0 19 (dk_at dksX3_compared_0 18 rfl rfl)
theorem dX3_compared_21 : decode cX3_compared 21 = .ok (.iload_n 1, 1) := dk_27 (dk_at dksX3_compared_0 21 rfl rfl)
theorem dX3_compared_22 : decode cX3_compared 22 = .ok (.bipush 62, 2) := dk_16 62 (dk_at dksX3_compared_0 22 rfl rfl)
theorem dX3_compared_24 : decode cX3_compared 24 = .ok (.if_icmp .eq 13, 3) := dk_159 0 13 (dk_at dksX3_compared_1 0 rfl rfl)
theorem dX3_compared_27 : decode cX3_compared 27 = .ok (.aload_n 0, 1) := dk_42 (dk_at dksX3_compared_1 3 rfl rfl)
theorem dX3_compared_28 : decode cX3_compared 28 = .ok (.iconst 0, 1) := dk_3 (dk_at dksX3_compared_1 4 rfl rfl)
theorem dX3_compared_29 : decode cX3_compared 29 = .ok (.aload_n 0, 1) := dk_42 (dk_at dksX3_compared_1 5 rfl rfl)
theorem dX3_compared_30 : decode cX3_compared 30 = .ok (.getfield 174, 3) := dk_180 0 174 (dk_at dksX3_compared_1 6 rfl rfl)
theorem dX3_compared_33 : decode cX3_compared 33 = .ok (.invokevirtual 209, 3) := dk_182 0 209 (dk_at dksX3_compared_1 9 rfl rfl)
theorem dX3_compared_36 : decode cX3_compared 36 = .ok (.return_, 1) := dk_177 (dk_at dksX3_compared_1 12 rfl rfl)
theorem dX3_compared_37 : decode cX3_compared 37 = .ok (.aload_n 0, 1) := dk_42 (dk_at dksX3_compared_1 13 rfl rfl)
theorem dX3_compared_38 : decode cX3_compared 38 = .ok (.aload_n 0, 1) := dk_42 (dk_at dksX3_compared_1 14 rfl rfl)
theorem dX3_compared_39 : decode cX3_compared 39 = .ok (.getfield 174, 3) := dk_180 0 174 (dk_at dksX3_compared_1 15 rfl rfl)
theorem dX3_compared_42 : decode cX3_compared 42 = .ok (.invokevirtual 222, 3) := dk_182 0 222 (dk_at dksX3_compared_1 18 rfl rfl)
theorem dX3_compared_45 : decode cX3_compared 45 = .ok (.aload_n 0, 1) := dk_42 (dk_at dksX3_compared_1 21 rfl rfl)
theorem dX3_compared_46 : decode cX3_compared 46 = .ok (.dup, 1) := dk_89 (dk_at dksX3_compared_1 22 rfl rfl)
theorem dX3_compared_47 : decode cX3_compared 47 = .ok (.getfield 174, 3) := dk_180 0 174 (dk_at dksX3_compared_2 0 rfl rfl)
theorem dX3_compared_50 : decode cX3_compared 50 = .ok (.iconst 1, 1) := dk_4 (dk_at dksX3_compared_2 3 rfl rfl)
theorem dX3_compared_51 : decode cX3_compared 51 = .ok (.iadd, 1) := dk_96 (dk_at dksX3_compared_2 4 rfl rfl)
theorem dX3_compared_52 : decode cX3_compared 52 = .ok (.putfield 174, 3) := dk_181 0 174 (dk_at dksX3_compared_2 5 rfl rfl)
theorem dX3_compared_55 : decode cX3_compared 55 = .ok (.iload_n 1, 1) := dk_27 (dk_at dksX3_compared_2 8 rfl rfl)
theorem dX3_compared_56 : decode cX3_compared 56 = .ok (.bipush 61, 2) := dk_16 61 (dk_at dksX3_compared_2 9 rfl rfl)
theorem dX3_compared_58 : decode cX3_compared 58 = .ok (.if_icmp .eq 16, 3) := dk_159 0 16 (dk_at dksX3_compared_2 11 rfl rfl)
theorem dX3_compared_61 : decode cX3_compared 61 = .ok (.aload_n 0, 1) := dk_42 (dk_at dksX3_compared_2 14 rfl rfl)
theorem dX3_compared_62 : decode cX3_compared 62 = .ok (.invokevirtual 177, 3) := dk_182 0 177 (dk_at dksX3_compared_2 15 rfl rfl)
theorem dX3_compared_65 : decode cX3_compared 65 = .ok (.bipush 61, 2) := dk_16 61 (dk_at dksX3_compared_2 18 rfl rfl)
theorem dX3_compared_67 : decode cX3_compared 67 = .ok (.if_icmp .ne 7, 3) := dk_160 0 7 (dk_at dksX3_compared_2 20 rfl rfl)
theorem dX3_compared_70 : decode cX3_compared 70 = .ok (.iconst 1, 1) := dk_4 (dk_at dksX3_compared_2 23 rfl rfl)
theorem dX3_compared_71 : decode cX3_compared 71 = .ok (.goto 4, 3) := dk_167 0 4 (dk_at dksX3_compared_3 0 rfl rfl)
theorem dX3_compared_74 : decode cX3_compared 74 = .ok (.iconst 0, 1) := dk_3 (dk_at dksX3_compared_3 3 rfl rfl)
theorem dX3_compared_75 : decode cX3_compared 75 = .ok (.istore_n 2, 1) := dk_61 (dk_at dksX3_compared_3 4 rfl rfl)
theorem dX3_compared_76 : decode cX3_compared 76 = .ok (.aload_n 0, 1) := dk_42 (dk_at dksX3_compared_3 5 rfl rfl)
theorem dX3_compared_77 : decode cX3_compared 77 = .ok (.dup, 1) := dk_89 (dk_at dksX3_compared_3 6 rfl rfl)
theorem dX3_compared_78 : decode cX3_compared 78 = .ok (.getfield 174, 3) := dk_180 0 174 (dk_at dksX3_compared_3 7 rfl rfl)
theorem dX3_compared_81 : decode cX3_compared 81 = .ok (.iload_n 2, 1) := dk_28 (dk_at dksX3_compared_3 10 rfl rfl)
theorem dX3_compared_82 : decode cX3_compared 82 = .ok (.ifCond .eq 7, 3) := dk_153 0 7 (dk_at dksX3_compared_3 11 rfl rfl)
theorem dX3_compared_85 : decode cX3_compared 85 = .ok (.iconst 1, 1) := dk_4 (dk_at dksX3_compared_3 14 rfl rfl)
theorem dX3_compared_86 : decode cX3_compared 86 = .ok (.goto 4, 3) := dk_167 0 4 (dk_at dksX3_compared_3 15 rfl rfl)
theorem dX3_compared_89 : decode cX3_compared 89 = .ok (.iconst 0, 1) := dk_3 (dk_at dksX3_compared_3 18 rfl rfl)
theorem dX3_compared_90 : decode cX3_compared 90 = .ok (.iadd, 1) := dk_96 (dk_at dksX3_compared_3 19 rfl rfl)
theorem dX3_compared_91 : decode cX3_compared 91 = .ok (.putfield 174, 3) := dk_181 0 174 (dk_at dksX3_compared_3 20 rfl rfl)
theorem dX3_compared_94 : decode cX3_compared 94 = .ok (.aload_n 0, 1) := dk_42 (dk_at dksX3_compared_3 23 rfl rfl)
theorem dX3_compared_95 : decode cX3_compared 95 = .ok (.invokevirtual 238, 3) := dk_182 0 238 (dk_at dksX3_compared_4 0 rfl rfl)
theorem dX3_compared_98 : decode cX3_compared 98 = .ok (.aload_n 0, 1) := dk_42 (dk_at dksX3_compared_4 3 rfl rfl)
theorem dX3_compared_99 : decode cX3_compared 99 = .ok (.iload_n 1, 1) := dk_27 (dk_at dksX3_compared_4 4 rfl rfl)
theorem dX3_compared_100 : decode cX3_compared 100 = .ok (.bipush 61, 2) := dk_16 61 (dk_at dksX3_compared_4 5 rfl rfl)
theorem dX3_compared_102 : decode cX3_compared 102 = .ok (.if_icmp .ne 8, 3) := dk_160 0 8 (dk_at dksX3_compared_4 7 rfl rfl)
theorem dX3_compared_105 : decode cX3_compared 105 = .ok (.bipush 6, 2) := dk_16 6 (dk_at dksX3_compared_4 10 rfl rfl)
theorem dX3_compared_107 : decode cX3_compared 107 = .ok (.goto 32, 3) := dk_167 0 32 (dk_at dksX3_compared_4 12 rfl rfl)
theorem dX3_compared_110 : decode cX3_compared 110 = .ok (.iload_n 1, 1) := dk_27 (dk_at dksX3_compared_4 15 rfl rfl)
theorem dX3_compared_111 : decode cX3_compared 111 = .ok (.bipush 60, 2) := dk_16 60 (dk_at dksX3_compared_4 16 rfl rfl)
theorem dX3_compared_113 : decode cX3_compared 113 = .ok (.if_icmp .ne 15, 3) := dk_160 0 15 (dk_at dksX3_compared_4 18 rfl rfl)
theorem dX3_compared_116 : decode cX3_compared 116 = .ok (.iload_n 2, 1) := dk_28 (dk_at dksX3_compared_4 21 rfl rfl)
theorem dX3_compared_117 : decode cX3_compared 117 = .ok (.ifCond .eq 7, 3) := dk_153 0 7 (dk_at dksX3_compared_5 0 rfl rfl)
theorem dX3_compared_120 : decode cX3_compared 120 = .ok (.iconst 5, 1) := dk_8 (dk_at dksX3_compared_5 3 rfl rfl)
theorem dX3_compared_121 : decode cX3_compared 121 = .ok (.goto 18, 3) := dk_167 0 18 (dk_at dksX3_compared_5 4 rfl rfl)
theorem dX3_compared_124 : decode cX3_compared 124 = .ok (.iconst 4, 1) := dk_7 (dk_at dksX3_compared_5 7 rfl rfl)
theorem dX3_compared_125 : decode cX3_compared 125 = .ok (.goto 14, 3) := dk_167 0 14 (dk_at dksX3_compared_5 8 rfl rfl)
theorem dX3_compared_128 : decode cX3_compared 128 = .ok (.iload_n 2, 1) := dk_28 (dk_at dksX3_compared_5 11 rfl rfl)
theorem dX3_compared_129 : decode cX3_compared 129 = .ok (.ifCond .eq 8, 3) := dk_153 0 8 (dk_at dksX3_compared_5 12 rfl rfl)
theorem dX3_compared_132 : decode cX3_compared 132 = .ok (.bipush 7, 2) := dk_16 7 (dk_at dksX3_compared_5 15 rfl rfl)
theorem dX3_compared_134 : decode cX3_compared 134 = .ok (.goto 5, 3) := dk_167 0 5 (dk_at dksX3_compared_5 17 rfl rfl)
theorem dX3_compared_137 : decode cX3_compared 137 = .ok (.bipush 8, 2) := dk_16 8 (dk_at dksX3_compared_5 20 rfl rfl)
theorem dX3_compared_139 : decode cX3_compared 139 = .ok (.iconst 0, 1) := dk_3 (dk_at dksX3_compared_5 22 rfl rfl)
theorem dX3_compared_140 : decode cX3_compared 140 = .ok (.invokevirtual 225, 3) := dk_182 0 225 (dk_at dksX3_compared_6 0 rfl rfl)
theorem dX3_compared_143 : decode cX3_compared 143 = .ok (.return_, 1) := dk_177 (dk_at dksX3_compared_6 3 rfl rfl)
abbrev cX3_answers : ByteArray := prog_17_method_29_code
def yX3_answers : MethodName := ⟨RX3, "answers", "(I)V"⟩
def dkwX3_answers_2 : List UInt8 := [100, 181, 0, 244, 167, 255, 205, 177]
abbrev dktX3_answers_2 : List UInt8 := dkwX3_answers_2 ++ []
def dkwX3_answers_1 : List UInt8 := [180, 0, 241, 4, 100, 181, 0, 241, 42, 89, 180, 0, 244, 27, 16, 9, 160, 0, 7, 4, 167, 0, 4, 3]
abbrev dktX3_answers_1 : List UInt8 := dkwX3_answers_1 ++ dktX3_answers_2
def dkwX3_answers_0 : List UInt8 := [42, 182, 0, 247, 27, 160, 0, 49, 42, 180, 0, 171, 154, 0, 42, 42, 27, 3, 182, 0, 225, 42, 89]
abbrev dktX3_answers_0 : List UInt8 := dkwX3_answers_0 ++ dktX3_answers_1
theorem dksX3_answers_0 : cX3_answers.data.toList.drop 0 = dktX3_answers_0 := by decide +kernel
theorem dksX3_answers_1 : cX3_answers.data.toList.drop 23 = dktX3_answers_1 := dk_seg dksX3_answers_0 23 rfl rfl
theorem dksX3_answers_2 : cX3_answers.data.toList.drop 47 = dktX3_answers_2 := dk_seg dksX3_answers_1 24 rfl rfl
theorem dX3_answers_0 : decode cX3_answers 0 = .ok (.aload_n 0, 1) := dk_42 (dk_at dksX3_answers_0 0 rfl rfl)
theorem dX3_answers_1 : decode cX3_answers 1 = .ok (.invokevirtual 247, 3) := dk_182 0 247 (dk_at dksX3_answers_0 1 rfl rfl)
theorem dX3_answers_4 : decode cX3_answers 4 = .ok (.iload_n 1, 1) := dk_27 (dk_at dksX3_answers_0 4 rfl rfl)
theorem dX3_answers_5 : decode cX3_answers 5 = .ok (.if_icmp .ne 49, 3) := dk_160 0 49 (dk_at dksX3_answers_0 5 rfl rfl)
theorem dX3_answers_8 : decode cX3_answers 8 = .ok (.aload_n 0, 1) := dk_42 (dk_at dksX3_answers_0 8 rfl rfl)
theorem dX3_answers_9 : decode cX3_answers 9 = .ok (.getfield 171, 3) := dk_180 0 171 (dk_at dksX3_answers_0 9 rfl rfl)
theorem dX3_answers_12 : decode cX3_answers 12 = .ok (.ifCond .ne 42, 3) := dk_154 0 42 (dk_at dksX3_answers_0 12 rfl rfl)
theorem dX3_answers_15 : decode cX3_answers 15 = .ok (.aload_n 0, 1) := dk_42 (dk_at dksX3_answers_0 15 rfl rfl)
theorem dX3_answers_16 : decode cX3_answers 16 = .ok (.iload_n 1, 1) := dk_27 (dk_at dksX3_answers_0 16 rfl rfl)
theorem dX3_answers_17 : decode cX3_answers 17 = .ok (.iconst 0, 1) := dk_3 (dk_at dksX3_answers_0 17 rfl rfl)
theorem dX3_answers_18 : decode cX3_answers 18 = .ok (.invokevirtual 225, 3) := dk_182 0 225 (dk_at dksX3_answers_0 18 rfl rfl)
theorem dX3_answers_21 : decode cX3_answers 21 = .ok (.aload_n 0, 1) := dk_42 (dk_at dksX3_answers_0 21 rfl rfl)
theorem dX3_answers_22 : decode cX3_answers 22 = .ok (.dup, 1) := dk_89 (dk_at dksX3_answers_0 22 rfl rfl)
theorem dX3_answers_23 : decode cX3_answers 23 = .ok (.getfield 241, 3) := dk_180 0 241 (dk_at dksX3_answers_1 0 rfl rfl)
theorem dX3_answers_26 : decode cX3_answers 26 = .ok (.iconst 1, 1) := dk_4 (dk_at dksX3_answers_1 3 rfl rfl)
theorem dX3_answers_27 : decode cX3_answers 27 = .ok (.isub, 1) := dk_100 (dk_at dksX3_answers_1 4 rfl rfl)
theorem dX3_answers_28 : decode cX3_answers 28 = .ok (.putfield 241, 3) := dk_181 0 241 (dk_at dksX3_answers_1 5 rfl rfl)
theorem dX3_answers_31 : decode cX3_answers 31 = .ok (.aload_n 0, 1) := dk_42 (dk_at dksX3_answers_1 8 rfl rfl)
theorem dX3_answers_32 : decode cX3_answers 32 = .ok (.dup, 1) := dk_89 (dk_at dksX3_answers_1 9 rfl rfl)
theorem dX3_answers_33 : decode cX3_answers 33 = .ok (.getfield 244, 3) := dk_180 0 244 (dk_at dksX3_answers_1 10 rfl rfl)
theorem dX3_answers_36 : decode cX3_answers 36 = .ok (.iload_n 1, 1) := dk_27 (dk_at dksX3_answers_1 13 rfl rfl)
theorem dX3_answers_37 : decode cX3_answers 37 = .ok (.bipush 9, 2) := dk_16 9 (dk_at dksX3_answers_1 14 rfl rfl)
theorem dX3_answers_39 : decode cX3_answers 39 = .ok (.if_icmp .ne 7, 3) := dk_160 0 7 (dk_at dksX3_answers_1 16 rfl rfl)
theorem dX3_answers_42 : decode cX3_answers 42 = .ok (.iconst 1, 1) := dk_4 (dk_at dksX3_answers_1 19 rfl rfl)
theorem dX3_answers_43 : decode cX3_answers 43 = .ok (.goto 4, 3) := dk_167 0 4 (dk_at dksX3_answers_1 20 rfl rfl)
theorem dX3_answers_46 : decode cX3_answers 46 = .ok (.iconst 0, 1) := dk_3 (dk_at dksX3_answers_1 23 rfl rfl)
theorem dX3_answers_47 : decode cX3_answers 47 = .ok (.isub, 1) := dk_100 (dk_at dksX3_answers_2 0 rfl rfl)
theorem dX3_answers_48 : decode cX3_answers 48 = .ok (.putfield 244, 3) := dk_181 0 244 (dk_at dksX3_answers_2 1 rfl rfl)
theorem dX3_answers_51 : decode cX3_answers 51 = .ok (.goto (-51), 3) := dk_167 255 205 (dk_at dksX3_answers_2 4 rfl rfl)
theorem dX3_answers_54 : decode cX3_answers 54 = .ok (.return_, 1) := dk_177 (dk_at dksX3_answers_2 7 rfl rfl)
abbrev cX3_top : ByteArray := prog_17_method_27_code
def yX3_top : MethodName := ⟨RX3, "top", "()I"⟩
def dkwX3_top_0 : List UInt8 := [42, 180, 0, 241, 154, 0, 7, 2, 167, 0, 14, 42, 180, 0, 93, 42, 180, 0, 241, 4, 100, 46, 172]
abbrev dktX3_top_0 : List UInt8 := dkwX3_top_0 ++ []
theorem dksX3_top_0 : cX3_top.data.toList.drop 0 = dktX3_top_0 := by decide +kernel
theorem dX3_top_0 : decode cX3_top 0 = .ok (.aload_n 0, 1) := dk_42 (dk_at dksX3_top_0 0 rfl rfl)
theorem dX3_top_1 : decode cX3_top 1 = .ok (.getfield 241, 3) := dk_180 0 241 (dk_at dksX3_top_0 1 rfl rfl)
theorem dX3_top_4 : decode cX3_top 4 = .ok (.ifCond .ne 7, 3) := dk_154 0 7 (dk_at dksX3_top_0 4 rfl rfl)
theorem dX3_top_7 : decode cX3_top 7 = .ok (.iconst (-1), 1) := dk_2 (dk_at dksX3_top_0 7 rfl rfl)
theorem dX3_top_8 : decode cX3_top 8 = .ok (.goto 14, 3) := dk_167 0 14 (dk_at dksX3_top_0 8 rfl rfl)
theorem dX3_top_11 : decode cX3_top 11 = .ok (.aload_n 0, 1) := dk_42 (dk_at dksX3_top_0 11 rfl rfl)
theorem dX3_top_12 : decode cX3_top 12 = .ok (.getfield 93, 3) := dk_180 0 93 (dk_at dksX3_top_0 12 rfl rfl)
theorem dX3_top_15 : decode cX3_top 15 = .ok (.aload_n 0, 1) := dk_42 (dk_at dksX3_top_0 15 rfl rfl)
theorem dX3_top_16 : decode cX3_top 16 = .ok (.getfield 241, 3) := dk_180 0 241 (dk_at dksX3_top_0 16 rfl rfl)
theorem dX3_top_19 : decode cX3_top 19 = .ok (.iconst 1, 1) := dk_4 (dk_at dksX3_top_0 19 rfl rfl)
theorem dX3_top_20 : decode cX3_top 20 = .ok (.isub, 1) := dk_100 (dk_at dksX3_top_0 20 rfl rfl)
theorem dX3_top_21 : decode cX3_top 21 = .ok (.iaload, 1) := dk_46 (dk_at dksX3_top_0 21 rfl rfl)
theorem dX3_top_22 : decode cX3_top 22 = .ok (.ireturn, 1) := dk_172 (dk_at dksX3_top_0 22 rfl rfl)
abbrev cX3_force : ByteArray := prog_17_method_45_code
def yX3_force : MethodName := ⟨RX3, "force", "(I)I"⟩
def dkwX3_force_1 : List UInt8 := [180, 0, 9, 16, 9, 46, 61, 42, 180, 0, 9, 16, 9, 27, 79, 28, 172]
abbrev dktX3_force_1 : List UInt8 := dkwX3_force_1 ++ []
def dkwX3_force_0 : List UInt8 := [27, 133, 20, 1, 68, 42, 180, 1, 62, 4, 100, 133, 184, 0, 138, 154, 0, 6, 16, 254, 172, 42]
abbrev dktX3_force_0 : List UInt8 := dkwX3_force_0 ++ dktX3_force_1
theorem dksX3_force_0 : cX3_force.data.toList.drop 0 = dktX3_force_0 := by decide +kernel
theorem dksX3_force_1 : cX3_force.data.toList.drop 22 = dktX3_force_1 := dk_seg dksX3_force_0 22 rfl rfl
theorem dX3_force_0 : decode cX3_force 0 = .ok (.iload_n 1, 1) := dk_27 (dk_at dksX3_force_0 0 rfl rfl)
theorem dX3_force_1 : decode cX3_force 1 = .ok (.i2l, 1) := dk_133 (dk_at dksX3_force_0 1 rfl rfl)
theorem dX3_force_2 : decode cX3_force 2 = .ok (.ldc2_w 324, 3) := dk_20 1 68 (dk_at dksX3_force_0 2 rfl rfl)
theorem dX3_force_5 : decode cX3_force 5 = .ok (.aload_n 0, 1) := dk_42 (dk_at dksX3_force_0 5 rfl rfl)
theorem dX3_force_6 : decode cX3_force 6 = .ok (.getfield 318, 3) := dk_180 1 62 (dk_at dksX3_force_0 6 rfl rfl)
theorem dX3_force_9 : decode cX3_force 9 = .ok (.iconst 1, 1) := dk_4 (dk_at dksX3_force_0 9 rfl rfl)
theorem dX3_force_10 : decode cX3_force 10 = .ok (.isub, 1) := dk_100 (dk_at dksX3_force_0 10 rfl rfl)
theorem dX3_force_11 : decode cX3_force 11 = .ok (.i2l, 1) := dk_133 (dk_at dksX3_force_0 11 rfl rfl)
theorem dX3_force_12 : decode cX3_force 12 = .ok (.invokestatic 138, 3) := dk_184 0 138 (dk_at dksX3_force_0 12 rfl rfl)
theorem dX3_force_15 : decode cX3_force 15 = .ok (.ifCond .ne 6, 3) := dk_154 0 6 (dk_at dksX3_force_0 15 rfl rfl)
theorem dX3_force_18 : decode cX3_force 18 = .ok (.bipush (-2), 2) := dk_16 254 (dk_at dksX3_force_0 18 rfl rfl)
theorem dX3_force_20 : decode cX3_force 20 = .ok (.ireturn, 1) := dk_172 (dk_at dksX3_force_0 20 rfl rfl)
theorem dX3_force_21 : decode cX3_force 21 = .ok (.aload_n 0, 1) := dk_42 (dk_at dksX3_force_0 21 rfl rfl)
theorem dX3_force_22 : decode cX3_force 22 = .ok (.getfield 9, 3) := dk_180 0 9 (dk_at dksX3_force_1 0 rfl rfl)
theorem dX3_force_25 : decode cX3_force 25 = .ok (.bipush 9, 2) := dk_16 9 (dk_at dksX3_force_1 3 rfl rfl)
theorem dX3_force_27 : decode cX3_force 27 = .ok (.iaload, 1) := dk_46 (dk_at dksX3_force_1 5 rfl rfl)
theorem dX3_force_28 : decode cX3_force 28 = .ok (.istore_n 2, 1) := dk_61 (dk_at dksX3_force_1 6 rfl rfl)
theorem dX3_force_29 : decode cX3_force 29 = .ok (.aload_n 0, 1) := dk_42 (dk_at dksX3_force_1 7 rfl rfl)
theorem dX3_force_30 : decode cX3_force 30 = .ok (.getfield 9, 3) := dk_180 0 9 (dk_at dksX3_force_1 8 rfl rfl)
theorem dX3_force_33 : decode cX3_force 33 = .ok (.bipush 9, 2) := dk_16 9 (dk_at dksX3_force_1 11 rfl rfl)
theorem dX3_force_35 : decode cX3_force 35 = .ok (.iload_n 1, 1) := dk_27 (dk_at dksX3_force_1 13 rfl rfl)
theorem dX3_force_36 : decode cX3_force 36 = .ok (.iastore, 1) := dk_79 (dk_at dksX3_force_1 14 rfl rfl)
theorem dX3_force_37 : decode cX3_force 37 = .ok (.iload_n 2, 1) := dk_28 (dk_at dksX3_force_1 15 rfl rfl)
theorem dX3_force_38 : decode cX3_force 38 = .ok (.ireturn, 1) := dk_172 (dk_at dksX3_force_1 16 rfl rfl)
abbrev cX3_pen : ByteArray := prog_17_method_53_code
def yX3_pen : MethodName := ⟨RX3, "pen", "(II)I"⟩
def dkwX3_pen_3 : List UInt8 := [172, 42, 27, 182, 1, 82, 172, 2, 172]
abbrev dktX3_pen_3 : List UInt8 := dkwX3_pen_3 ++ []
def dkwX3_pen_2 : List UInt8 := [42, 180, 0, 13, 27, 46, 172, 42, 180, 0, 16, 27, 46, 172, 42, 180, 0, 9, 8, 46, 27, 122, 4, 126]
abbrev dktX3_pen_2 : List UInt8 := dkwX3_pen_2 ++ dktX3_pen_3
def dkwX3_pen_1 : List UInt8 := [170, 0, 0, 0, 60, 0, 0, 0, 0, 0, 0, 0, 3, 0, 0, 0, 29, 0, 0, 0, 36, 0, 0, 0, 43, 0, 0, 0, 54]
abbrev dktX3_pen_1 : List UInt8 := dkwX3_pen_1 ++ dktX3_pen_2
def dkwX3_pen_0 : List UInt8 := [42, 27, 182, 1, 85, 154, 0, 5, 2, 172, 28]
abbrev dktX3_pen_0 : List UInt8 := dkwX3_pen_0 ++ dktX3_pen_1
theorem dksX3_pen_0 : cX3_pen.data.toList.drop 0 = dktX3_pen_0 := by decide +kernel
theorem dksX3_pen_1 : cX3_pen.data.toList.drop 11 = dktX3_pen_1 := dk_seg dksX3_pen_0 11 rfl rfl
theorem dksX3_pen_2 : cX3_pen.data.toList.drop 40 = dktX3_pen_2 := dk_seg dksX3_pen_1 29 rfl rfl
theorem dksX3_pen_3 : cX3_pen.data.toList.drop 64 = dktX3_pen_3 := dk_seg dksX3_pen_2 24 rfl rfl
theorem dX3_pen_0 : decode cX3_pen 0 = .ok (.aload_n 0, 1) := dk_42 (dk_at dksX3_pen_0 0 rfl rfl)
theorem dX3_pen_1 : decode cX3_pen 1 = .ok (.iload_n 1, 1) := dk_27 (dk_at dksX3_pen_0 1 rfl rfl)
theorem dX3_pen_2 : decode cX3_pen 2 = .ok (.invokevirtual 341, 3) := dk_182 1 85 (dk_at dksX3_pen_0 2 rfl rfl)
theorem dX3_pen_5 : decode cX3_pen 5 = .ok (.ifCond .ne 5, 3) := dk_154 0 5 (dk_at dksX3_pen_0 5 rfl rfl)
theorem dX3_pen_8 : decode cX3_pen 8 = .ok (.iconst (-1), 1) := dk_2 (dk_at dksX3_pen_0 8 rfl rfl)
theorem dX3_pen_9 : decode cX3_pen 9 = .ok (.ireturn, 1) := dk_172 (dk_at dksX3_pen_0 9 rfl rfl)
theorem dX3_pen_10 : decode cX3_pen 10 = .ok (.iload_n 2, 1) := dk_28 (dk_at dksX3_pen_0 10 rfl rfl)
theorem dX3_pen_11 : decode cX3_pen 11 = .ok (.tableswitch 60 0 3 #[29, 36, 43, 54], 29) := by decide +kernel
theorem dX3_pen_40 : decode cX3_pen 40 = .ok (.aload_n 0, 1) := dk_42 (dk_at dksX3_pen_2 0 rfl rfl)
theorem dX3_pen_41 : decode cX3_pen 41 = .ok (.getfield 13, 3) := dk_180 0 13 (dk_at dksX3_pen_2 1 rfl rfl)
theorem dX3_pen_44 : decode cX3_pen 44 = .ok (.iload_n 1, 1) := dk_27 (dk_at dksX3_pen_2 4 rfl rfl)
theorem dX3_pen_45 : decode cX3_pen 45 = .ok (.iaload, 1) := dk_46 (dk_at dksX3_pen_2 5 rfl rfl)
theorem dX3_pen_46 : decode cX3_pen 46 = .ok (.ireturn, 1) := dk_172 (dk_at dksX3_pen_2 6 rfl rfl)
theorem dX3_pen_47 : decode cX3_pen 47 = .ok (.aload_n 0, 1) := dk_42 (dk_at dksX3_pen_2 7 rfl rfl)
theorem dX3_pen_48 : decode cX3_pen 48 = .ok (.getfield 16, 3) := dk_180 0 16 (dk_at dksX3_pen_2 8 rfl rfl)
theorem dX3_pen_51 : decode cX3_pen 51 = .ok (.iload_n 1, 1) := dk_27 (dk_at dksX3_pen_2 11 rfl rfl)
theorem dX3_pen_52 : decode cX3_pen 52 = .ok (.iaload, 1) := dk_46 (dk_at dksX3_pen_2 12 rfl rfl)
theorem dX3_pen_53 : decode cX3_pen 53 = .ok (.ireturn, 1) := dk_172 (dk_at dksX3_pen_2 13 rfl rfl)
theorem dX3_pen_54 : decode cX3_pen 54 = .ok (.aload_n 0, 1) := dk_42 (dk_at dksX3_pen_2 14 rfl rfl)
theorem dX3_pen_55 : decode cX3_pen 55 = .ok (.getfield 9, 3) := dk_180 0 9 (dk_at dksX3_pen_2 15 rfl rfl)
theorem dX3_pen_58 : decode cX3_pen 58 = .ok (.iconst 5, 1) := dk_8 (dk_at dksX3_pen_2 18 rfl rfl)
theorem dX3_pen_59 : decode cX3_pen 59 = .ok (.iaload, 1) := dk_46 (dk_at dksX3_pen_2 19 rfl rfl)
theorem dX3_pen_60 : decode cX3_pen 60 = .ok (.iload_n 1, 1) := dk_27 (dk_at dksX3_pen_2 20 rfl rfl)
theorem dX3_pen_61 : decode cX3_pen 61 = .ok (.ishr, 1) := dk_122 (dk_at dksX3_pen_2 21 rfl rfl)
theorem dX3_pen_62 : decode cX3_pen 62 = .ok (.iconst 1, 1) := dk_4 (dk_at dksX3_pen_2 22 rfl rfl)
theorem dX3_pen_63 : decode cX3_pen 63 = .ok (.iand, 1) := dk_126 (dk_at dksX3_pen_2 23 rfl rfl)
theorem dX3_pen_64 : decode cX3_pen 64 = .ok (.ireturn, 1) := dk_172 (dk_at dksX3_pen_3 0 rfl rfl)
theorem dX3_pen_65 : decode cX3_pen 65 = .ok (.aload_n 0, 1) := dk_42 (dk_at dksX3_pen_3 1 rfl rfl)
theorem dX3_pen_66 : decode cX3_pen 66 = .ok (.iload_n 1, 1) := dk_27 (dk_at dksX3_pen_3 2 rfl rfl)
theorem dX3_pen_67 : decode cX3_pen 67 = .ok (.invokevirtual 338, 3) := dk_182 1 82 (dk_at dksX3_pen_3 3 rfl rfl)
theorem dX3_pen_70 : decode cX3_pen 70 = .ok (.ireturn, 1) := dk_172 (dk_at dksX3_pen_3 6 rfl rfl)
theorem dX3_pen_71 : decode cX3_pen 71 = .ok (.iconst (-1), 1) := dk_2 (dk_at dksX3_pen_3 7 rfl rfl)
theorem dX3_pen_72 : decode cX3_pen 72 = .ok (.ireturn, 1) := dk_172 (dk_at dksX3_pen_3 8 rfl rfl)
abbrev cX3_isPen : ByteArray := prog_17_method_9_code
def yX3_isPen : MethodName := ⟨RX3, "isPen", "(I)Z"⟩
def dkwX3_isPen_0 : List UInt8 := [27, 133, 9, 42, 180, 0, 9, 5, 46, 4, 100, 133, 184, 0, 138, 172]
abbrev dktX3_isPen_0 : List UInt8 := dkwX3_isPen_0 ++ []
theorem dksX3_isPen_0 : cX3_isPen.data.toList.drop 0 = dktX3_isPen_0 := by decide +kernel
theorem dX3_isPen_0 : decode cX3_isPen 0 = .ok (.iload_n 1, 1) := dk_27 (dk_at dksX3_isPen_0 0 rfl rfl)
theorem dX3_isPen_1 : decode cX3_isPen 1 = .ok (.i2l, 1) := dk_133 (dk_at dksX3_isPen_0 1 rfl rfl)
theorem dX3_isPen_2 : decode cX3_isPen 2 = .ok (.lconst 0, 1) := dk_9 (dk_at dksX3_isPen_0 2 rfl rfl)
theorem dX3_isPen_3 : decode cX3_isPen 3 = .ok (.aload_n 0, 1) := dk_42 (dk_at dksX3_isPen_0 3 rfl rfl)
theorem dX3_isPen_4 : decode cX3_isPen 4 = .ok (.getfield 9, 3) := dk_180 0 9 (dk_at dksX3_isPen_0 4 rfl rfl)
theorem dX3_isPen_7 : decode cX3_isPen 7 = .ok (.iconst 2, 1) := dk_5 (dk_at dksX3_isPen_0 7 rfl rfl)
theorem dX3_isPen_8 : decode cX3_isPen 8 = .ok (.iaload, 1) := dk_46 (dk_at dksX3_isPen_0 8 rfl rfl)
theorem dX3_isPen_9 : decode cX3_isPen 9 = .ok (.iconst 1, 1) := dk_4 (dk_at dksX3_isPen_0 9 rfl rfl)
theorem dX3_isPen_10 : decode cX3_isPen 10 = .ok (.isub, 1) := dk_100 (dk_at dksX3_isPen_0 10 rfl rfl)
theorem dX3_isPen_11 : decode cX3_isPen 11 = .ok (.i2l, 1) := dk_133 (dk_at dksX3_isPen_0 11 rfl rfl)
theorem dX3_isPen_12 : decode cX3_isPen 12 = .ok (.invokestatic 138, 3) := dk_184 0 138 (dk_at dksX3_isPen_0 12 rfl rfl)
theorem dX3_isPen_15 : decode cX3_isPen 15 = .ok (.ireturn, 1) := dk_172 (dk_at dksX3_isPen_0 15 rfl rfl)
abbrev cX3_strokesOf : ByteArray := prog_17_method_50_code
def yX3_strokesOf : MethodName := ⟨RX3, "strokesOf", "(I)I"⟩
def dkwX3_strokesOf_1 : List UInt8 := [167, 0, 4, 3, 96, 61, 132, 3, 1, 167, 255, 227, 28, 172]
abbrev dktX3_strokesOf_1 : List UInt8 := dkwX3_strokesOf_1 ++ []
def dkwX3_strokesOf_0 : List UInt8 := [3, 61, 3, 62, 29, 42, 182, 0, 134, 162, 0, 27, 28, 42, 180, 0, 19, 29, 46, 27, 160, 0, 7, 4]
abbrev dktX3_strokesOf_0 : List UInt8 := dkwX3_strokesOf_0 ++ dktX3_strokesOf_1
theorem dksX3_strokesOf_0 : cX3_strokesOf.data.toList.drop 0 = dktX3_strokesOf_0 := by decide +kernel
theorem dksX3_strokesOf_1 : cX3_strokesOf.data.toList.drop 24 = dktX3_strokesOf_1 := dk_seg dksX3_strokesOf_0 24 rfl rfl
theorem dX3_strokesOf_0 : decode cX3_strokesOf 0 = .ok (.iconst 0, 1) := dk_3 (dk_at dksX3_strokesOf_0 0 rfl rfl)
theorem dX3_strokesOf_1 : decode cX3_strokesOf 1 = .ok (.istore_n 2, 1) := dk_61 (dk_at dksX3_strokesOf_0 1 rfl rfl)
theorem dX3_strokesOf_2 : decode cX3_strokesOf 2 = .ok (.iconst 0, 1) := dk_3 (dk_at dksX3_strokesOf_0 2 rfl rfl)
theorem dX3_strokesOf_3 : decode cX3_strokesOf 3 = .ok (.istore_n 3, 1) := dk_62 (dk_at dksX3_strokesOf_0 3 rfl rfl)
theorem dX3_strokesOf_4 : decode cX3_strokesOf 4 = .ok (.iload_n 3, 1) := dk_29 (dk_at dksX3_strokesOf_0 4 rfl rfl)
theorem dX3_strokesOf_5 : decode cX3_strokesOf 5 = .ok (.aload_n 0, 1) := dk_42 (dk_at dksX3_strokesOf_0 5 rfl rfl)
theorem dX3_strokesOf_6 : decode cX3_strokesOf 6 = .ok (.invokevirtual 134, 3) := dk_182 0 134 (dk_at dksX3_strokesOf_0 6 rfl rfl)
theorem dX3_strokesOf_9 : decode cX3_strokesOf 9 = .ok (.if_icmp .ge 27, 3) := dk_162 0 27 (dk_at dksX3_strokesOf_0 9 rfl rfl)
theorem dX3_strokesOf_12 : decode cX3_strokesOf 12 = .ok (.iload_n 2, 1) := dk_28 (dk_at dksX3_strokesOf_0 12 rfl rfl)
theorem dX3_strokesOf_13 : decode cX3_strokesOf 13 = .ok (.aload_n 0, 1) := dk_42 (dk_at dksX3_strokesOf_0 13 rfl rfl)
theorem dX3_strokesOf_14 : decode cX3_strokesOf 14 = .ok (.getfield 19, 3) := dk_180 0 19 (dk_at dksX3_strokesOf_0 14 rfl rfl)
theorem dX3_strokesOf_17 : decode cX3_strokesOf 17 = .ok (.iload_n 3, 1) := dk_29 (dk_at dksX3_strokesOf_0 17 rfl rfl)
theorem dX3_strokesOf_18 : decode cX3_strokesOf 18 = .ok (.iaload, 1) := dk_46 (dk_at dksX3_strokesOf_0 18 rfl rfl)
theorem dX3_strokesOf_19 : decode cX3_strokesOf 19 = .ok (.iload_n 1, 1) := dk_27 (dk_at dksX3_strokesOf_0 19 rfl rfl)
theorem dX3_strokesOf_20 : decode cX3_strokesOf 20 = .ok (.if_icmp .ne 7, 3) := dk_160 0 7 (dk_at dksX3_strokesOf_0 20 rfl rfl)
theorem dX3_strokesOf_23 : decode cX3_strokesOf 23 = .ok (.iconst 1, 1) := dk_4 (dk_at dksX3_strokesOf_0 23 rfl rfl)
theorem dX3_strokesOf_24 : decode cX3_strokesOf 24 = .ok (.goto 4, 3) := dk_167 0 4 (dk_at dksX3_strokesOf_1 0 rfl rfl)
theorem dX3_strokesOf_27 : decode cX3_strokesOf 27 = .ok (.iconst 0, 1) := dk_3 (dk_at dksX3_strokesOf_1 3 rfl rfl)
theorem dX3_strokesOf_28 : decode cX3_strokesOf 28 = .ok (.iadd, 1) := dk_96 (dk_at dksX3_strokesOf_1 4 rfl rfl)
theorem dX3_strokesOf_29 : decode cX3_strokesOf 29 = .ok (.istore_n 2, 1) := dk_61 (dk_at dksX3_strokesOf_1 5 rfl rfl)
theorem dX3_strokesOf_30 : decode cX3_strokesOf 30 = .ok (.iinc 3 1, 3) := dk_132 3 1 (dk_at dksX3_strokesOf_1 6 rfl rfl)
theorem dX3_strokesOf_33 : decode cX3_strokesOf 33 = .ok (.goto (-29), 3) := dk_167 255 227 (dk_at dksX3_strokesOf_1 9 rfl rfl)
theorem dX3_strokesOf_36 : decode cX3_strokesOf 36 = .ok (.iload_n 2, 1) := dk_28 (dk_at dksX3_strokesOf_1 12 rfl rfl)
theorem dX3_strokesOf_37 : decode cX3_strokesOf 37 = .ok (.ireturn, 1) := dk_172 (dk_at dksX3_strokesOf_1 13 rfl rfl)
abbrev cX3_cells : ByteArray := prog_17_method_7_code
def yX3_cells : MethodName := ⟨RX3, "cells", "()I"⟩
def dkwX3_cells_0 : List UInt8 := [42, 180, 0, 9, 3, 46, 42, 180, 0, 9, 3, 46, 104, 172]
abbrev dktX3_cells_0 : List UInt8 := dkwX3_cells_0 ++ []
theorem dksX3_cells_0 : cX3_cells.data.toList.drop 0 = dktX3_cells_0 := by decide +kernel
theorem dX3_cells_0 : decode cX3_cells 0 = .ok (.aload_n 0, 1) := dk_42 (dk_at dksX3_cells_0 0 rfl rfl)
theorem dX3_cells_1 : decode cX3_cells 1 = .ok (.getfield 9, 3) := dk_180 0 9 (dk_at dksX3_cells_0 1 rfl rfl)
theorem dX3_cells_4 : decode cX3_cells 4 = .ok (.iconst 0, 1) := dk_3 (dk_at dksX3_cells_0 4 rfl rfl)
theorem dX3_cells_5 : decode cX3_cells 5 = .ok (.iaload, 1) := dk_46 (dk_at dksX3_cells_0 5 rfl rfl)
theorem dX3_cells_6 : decode cX3_cells 6 = .ok (.aload_n 0, 1) := dk_42 (dk_at dksX3_cells_0 6 rfl rfl)
theorem dX3_cells_7 : decode cX3_cells 7 = .ok (.getfield 9, 3) := dk_180 0 9 (dk_at dksX3_cells_0 7 rfl rfl)
theorem dX3_cells_10 : decode cX3_cells 10 = .ok (.iconst 0, 1) := dk_3 (dk_at dksX3_cells_0 10 rfl rfl)
theorem dX3_cells_11 : decode cX3_cells 11 = .ok (.iaload, 1) := dk_46 (dk_at dksX3_cells_0 11 rfl rfl)
theorem dX3_cells_12 : decode cX3_cells 12 = .ok (.imul, 1) := dk_104 (dk_at dksX3_cells_0 12 rfl rfl)
theorem dX3_cells_13 : decode cX3_cells 13 = .ok (.ireturn, 1) := dk_172 (dk_at dksX3_cells_0 13 rfl rfl)
abbrev cX3_cell : ByteArray := prog_17_method_54_code
def yX3_cell : MethodName := ⟨RX3, "cell", "(II)I"⟩
def dkwX3_cell_2 : List UInt8 := [167, 0, 9, 42, 180, 0, 31, 27, 46, 172]
abbrev dktX3_cell_2 : List UInt8 := dkwX3_cell_2 ++ []
def dkwX3_cell_1 : List UInt8 := [154, 0, 12, 42, 180, 0, 19, 27, 46, 167, 0, 23, 28, 4, 160, 0, 12, 42, 180, 0, 22, 27, 46]
abbrev dktX3_cell_1 : List UInt8 := dkwX3_cell_1 ++ dktX3_cell_2
def dkwX3_cell_0 : List UInt8 := [42, 27, 182, 1, 89, 153, 0, 15, 28, 133, 9, 20, 1, 92, 184, 0, 138, 154, 0, 6, 16, 254, 172, 28]
abbrev dktX3_cell_0 : List UInt8 := dkwX3_cell_0 ++ dktX3_cell_1
theorem dksX3_cell_0 : cX3_cell.data.toList.drop 0 = dktX3_cell_0 := by decide +kernel
theorem dksX3_cell_1 : cX3_cell.data.toList.drop 24 = dktX3_cell_1 := dk_seg dksX3_cell_0 24 rfl rfl
theorem dksX3_cell_2 : cX3_cell.data.toList.drop 47 = dktX3_cell_2 := dk_seg dksX3_cell_1 23 rfl rfl
theorem dX3_cell_0 : decode cX3_cell 0 = .ok (.aload_n 0, 1) := dk_42 (dk_at dksX3_cell_0 0 rfl rfl)
theorem dX3_cell_1 : decode cX3_cell 1 = .ok (.iload_n 1, 1) := dk_27 (dk_at dksX3_cell_0 1 rfl rfl)
theorem dX3_cell_2 : decode cX3_cell 2 = .ok (.invokevirtual 345, 3) := dk_182 1 89 (dk_at dksX3_cell_0 2 rfl rfl)
theorem dX3_cell_5 : decode cX3_cell 5 = .ok (.ifCond .eq 15, 3) := dk_153 0 15 (dk_at dksX3_cell_0 5 rfl rfl)
theorem dX3_cell_8 : decode cX3_cell 8 = .ok (.iload_n 2, 1) := dk_28 (dk_at dksX3_cell_0 8 rfl rfl)
theorem dX3_cell_9 : decode cX3_cell 9 = .ok (.i2l, 1) := dk_133 (dk_at dksX3_cell_0 9 rfl rfl)
theorem dX3_cell_10 : decode cX3_cell 10 = .ok (.lconst 0, 1) := dk_9 (dk_at dksX3_cell_0 10 rfl rfl)
theorem dX3_cell_11 : decode cX3_cell 11 = .ok (.ldc2_w 348, 3) := dk_20 1 92 (dk_at dksX3_cell_0 11 rfl rfl)
theorem dX3_cell_14 : decode cX3_cell 14 = .ok (.invokestatic 138, 3) := dk_184 0 138 (dk_at dksX3_cell_0 14 rfl rfl)
theorem dX3_cell_17 : decode cX3_cell 17 = .ok (.ifCond .ne 6, 3) := dk_154 0 6 (dk_at dksX3_cell_0 17 rfl rfl)
theorem dX3_cell_20 : decode cX3_cell 20 = .ok (.bipush (-2), 2) := dk_16 254 (dk_at dksX3_cell_0 20 rfl rfl)
theorem dX3_cell_22 : decode cX3_cell 22 = .ok (.ireturn, 1) := dk_172 (dk_at dksX3_cell_0 22 rfl rfl)
theorem dX3_cell_23 : decode cX3_cell 23 = .ok (.iload_n 2, 1) := dk_28 (dk_at dksX3_cell_0 23 rfl rfl)
theorem dX3_cell_24 : decode cX3_cell 24 = .ok (.ifCond .ne 12, 3) := dk_154 0 12 (dk_at dksX3_cell_1 0 rfl rfl)
theorem dX3_cell_27 : decode cX3_cell 27 = .ok (.aload_n 0, 1) := dk_42 (dk_at dksX3_cell_1 3 rfl rfl)
theorem dX3_cell_28 : decode cX3_cell 28 = .ok (.getfield 19, 3) := dk_180 0 19 (dk_at dksX3_cell_1 4 rfl rfl)
theorem dX3_cell_31 : decode cX3_cell 31 = .ok (.iload_n 1, 1) := dk_27 (dk_at dksX3_cell_1 7 rfl rfl)
theorem dX3_cell_32 : decode cX3_cell 32 = .ok (.iaload, 1) := dk_46 (dk_at dksX3_cell_1 8 rfl rfl)
theorem dX3_cell_33 : decode cX3_cell 33 = .ok (.goto 23, 3) := dk_167 0 23 (dk_at dksX3_cell_1 9 rfl rfl)
theorem dX3_cell_36 : decode cX3_cell 36 = .ok (.iload_n 2, 1) := dk_28 (dk_at dksX3_cell_1 12 rfl rfl)
theorem dX3_cell_37 : decode cX3_cell 37 = .ok (.iconst 1, 1) := dk_4 (dk_at dksX3_cell_1 13 rfl rfl)
theorem dX3_cell_38 : decode cX3_cell 38 = .ok (.if_icmp .ne 12, 3) := dk_160 0 12 (dk_at dksX3_cell_1 14 rfl rfl)
theorem dX3_cell_41 : decode cX3_cell 41 = .ok (.aload_n 0, 1) := dk_42 (dk_at dksX3_cell_1 17 rfl rfl)
theorem dX3_cell_42 : decode cX3_cell 42 = .ok (.getfield 22, 3) := dk_180 0 22 (dk_at dksX3_cell_1 18 rfl rfl)
theorem dX3_cell_45 : decode cX3_cell 45 = .ok (.iload_n 1, 1) := dk_27 (dk_at dksX3_cell_1 21 rfl rfl)
theorem dX3_cell_46 : decode cX3_cell 46 = .ok (.iaload, 1) := dk_46 (dk_at dksX3_cell_1 22 rfl rfl)
theorem dX3_cell_47 : decode cX3_cell 47 = .ok (.goto 9, 3) := dk_167 0 9 (dk_at dksX3_cell_2 0 rfl rfl)
theorem dX3_cell_50 : decode cX3_cell 50 = .ok (.aload_n 0, 1) := dk_42 (dk_at dksX3_cell_2 3 rfl rfl)
theorem dX3_cell_51 : decode cX3_cell 51 = .ok (.getfield 31, 3) := dk_180 0 31 (dk_at dksX3_cell_2 4 rfl rfl)
theorem dX3_cell_54 : decode cX3_cell 54 = .ok (.iload_n 1, 1) := dk_27 (dk_at dksX3_cell_2 7 rfl rfl)
theorem dX3_cell_55 : decode cX3_cell 55 = .ok (.iaload, 1) := dk_46 (dk_at dksX3_cell_2 8 rfl rfl)
theorem dX3_cell_56 : decode cX3_cell 56 = .ok (.ireturn, 1) := dk_172 (dk_at dksX3_cell_2 9 rfl rfl)
abbrev cX3_isCell : ByteArray := prog_17_method_8_code
def yX3_isCell : MethodName := ⟨RX3, "isCell", "(I)Z"⟩
def dkwX3_isCell_0 : List UInt8 := [27, 133, 9, 42, 182, 0, 134, 4, 100, 133, 184, 0, 138, 172]
abbrev dktX3_isCell_0 : List UInt8 := dkwX3_isCell_0 ++ []
theorem dksX3_isCell_0 : cX3_isCell.data.toList.drop 0 = dktX3_isCell_0 := by decide +kernel
theorem dX3_isCell_0 : decode cX3_isCell 0 = .ok (.iload_n 1, 1) := dk_27 (dk_at dksX3_isCell_0 0 rfl rfl)
theorem dX3_isCell_1 : decode cX3_isCell 1 = .ok (.i2l, 1) := dk_133 (dk_at dksX3_isCell_0 1 rfl rfl)
theorem dX3_isCell_2 : decode cX3_isCell 2 = .ok (.lconst 0, 1) := dk_9 (dk_at dksX3_isCell_0 2 rfl rfl)
theorem dX3_isCell_3 : decode cX3_isCell 3 = .ok (.aload_n 0, 1) := dk_42 (dk_at dksX3_isCell_0 3 rfl rfl)
theorem dX3_isCell_4 : decode cX3_isCell 4 = .ok (.invokevirtual 134, 3) := dk_182 0 134 (dk_at dksX3_isCell_0 4 rfl rfl)
theorem dX3_isCell_7 : decode cX3_isCell 7 = .ok (.iconst 1, 1) := dk_4 (dk_at dksX3_isCell_0 7 rfl rfl)
theorem dX3_isCell_8 : decode cX3_isCell 8 = .ok (.isub, 1) := dk_100 (dk_at dksX3_isCell_0 8 rfl rfl)
theorem dX3_isCell_9 : decode cX3_isCell 9 = .ok (.i2l, 1) := dk_133 (dk_at dksX3_isCell_0 9 rfl rfl)
theorem dX3_isCell_10 : decode cX3_isCell 10 = .ok (.invokestatic 138, 3) := dk_184 0 138 (dk_at dksX3_isCell_0 10 rfl rfl)
theorem dX3_isCell_13 : decode cX3_isCell 13 = .ok (.ireturn, 1) := dk_172 (dk_at dksX3_isCell_0 13 rfl rfl)
abbrev cX3_undo : ByteArray := prog_17_method_69_code
def yX3_undo : MethodName := ⟨RX3, "undo", "()I"⟩
def dkwX3_undo_1 : List UInt8 := [180, 1, 49, 4, 182, 1, 142, 42, 180, 1, 49, 172]
abbrev dktX3_undo_1 : List UInt8 := dkwX3_undo_1 ++ []
def dkwX3_undo_0 : List UInt8 := [42, 180, 1, 49, 154, 0, 6, 16, 254, 172, 42, 89, 180, 1, 49, 4, 100, 181, 1, 49, 42, 42]
abbrev dktX3_undo_0 : List UInt8 := dkwX3_undo_0 ++ dktX3_undo_1
theorem dksX3_undo_0 : cX3_undo.data.toList.drop 0 = dktX3_undo_0 := by decide +kernel
theorem dksX3_undo_1 : cX3_undo.data.toList.drop 22 = dktX3_undo_1 := dk_seg dksX3_undo_0 22 rfl rfl
theorem dX3_undo_0 : decode cX3_undo 0 = .ok (.aload_n 0, 1) := dk_42 (dk_at dksX3_undo_0 0 rfl rfl)
theorem dX3_undo_1 : decode cX3_undo 1 = .ok (.getfield 305, 3) := dk_180 1 49 (dk_at dksX3_undo_0 1 rfl rfl)
theorem dX3_undo_4 : decode cX3_undo 4 = .ok (.ifCond .ne 6, 3) := dk_154 0 6 (dk_at dksX3_undo_0 4 rfl rfl)
theorem dX3_undo_7 : decode cX3_undo 7 = .ok (.bipush (-2), 2) := dk_16 254 (dk_at dksX3_undo_0 7 rfl rfl)
theorem dX3_undo_9 : decode cX3_undo 9 = .ok (.ireturn, 1) := dk_172 (dk_at dksX3_undo_0 9 rfl rfl)
theorem dX3_undo_10 : decode cX3_undo 10 = .ok (.aload_n 0, 1) := dk_42 (dk_at dksX3_undo_0 10 rfl rfl)
theorem dX3_undo_11 : decode cX3_undo 11 = .ok (.dup, 1) := dk_89 (dk_at dksX3_undo_0 11 rfl rfl)
theorem dX3_undo_12 : decode cX3_undo 12 = .ok (.getfield 305, 3) := dk_180 1 49 (dk_at dksX3_undo_0 12 rfl rfl)
theorem dX3_undo_15 : decode cX3_undo 15 = .ok (.iconst 1, 1) := dk_4 (dk_at dksX3_undo_0 15 rfl rfl)
theorem dX3_undo_16 : decode cX3_undo 16 = .ok (.isub, 1) := dk_100 (dk_at dksX3_undo_0 16 rfl rfl)
theorem dX3_undo_17 : decode cX3_undo 17 = .ok (.putfield 305, 3) := dk_181 1 49 (dk_at dksX3_undo_0 17 rfl rfl)
theorem dX3_undo_20 : decode cX3_undo 20 = .ok (.aload_n 0, 1) := dk_42 (dk_at dksX3_undo_0 20 rfl rfl)
theorem dX3_undo_21 : decode cX3_undo 21 = .ok (.aload_n 0, 1) := dk_42 (dk_at dksX3_undo_0 21 rfl rfl)
theorem dX3_undo_22 : decode cX3_undo 22 = .ok (.getfield 305, 3) := dk_180 1 49 (dk_at dksX3_undo_1 0 rfl rfl)
theorem dX3_undo_25 : decode cX3_undo 25 = .ok (.iconst 1, 1) := dk_4 (dk_at dksX3_undo_1 3 rfl rfl)
theorem dX3_undo_26 : decode cX3_undo 26 = .ok (.invokevirtual 398, 3) := dk_182 1 142 (dk_at dksX3_undo_1 4 rfl rfl)
theorem dX3_undo_29 : decode cX3_undo 29 = .ok (.aload_n 0, 1) := dk_42 (dk_at dksX3_undo_1 7 rfl rfl)
theorem dX3_undo_30 : decode cX3_undo 30 = .ok (.getfield 305, 3) := dk_180 1 49 (dk_at dksX3_undo_1 8 rfl rfl)
theorem dX3_undo_33 : decode cX3_undo 33 = .ok (.ireturn, 1) := dk_172 (dk_at dksX3_undo_1 11 rfl rfl)
abbrev cX3_movesAll : ByteArray := prog_17_method_67_code
def yX3_movesAll : MethodName := ⟨RX3, "movesAll", "(IZ)V"⟩
def dkwX3_movesAll_3 : List UInt8 := [180, 0, 22, 182, 1, 138, 177]
abbrev dktX3_movesAll_3 : List UInt8 := dkwX3_movesAll_3 ++ []
def dkwX3_movesAll_2 : List UInt8 := [180, 0, 13, 182, 1, 138, 42, 42, 180, 0, 16, 182, 1, 138, 42, 42, 180, 0, 19, 182, 1, 138, 42, 42]
abbrev dktX3_movesAll_2 : List UInt8 := dkwX3_movesAll_2 ++ dktX3_movesAll_3
def dkwX3_movesAll_1 : List UInt8 := [180, 0, 9, 29, 42, 42, 180, 0, 9, 29, 46, 182, 1, 135, 79, 132, 3, 1, 167, 255, 231, 42, 42]
abbrev dktX3_movesAll_1 : List UInt8 := dkwX3_movesAll_1 ++ dktX3_movesAll_2
def dkwX3_movesAll_0 : List UInt8 := [42, 16, 85, 27, 104, 181, 1, 132, 42, 28, 181, 1, 128, 7, 62, 29, 16, 7, 162, 0, 25, 42]
abbrev dktX3_movesAll_0 : List UInt8 := dkwX3_movesAll_0 ++ dktX3_movesAll_1
theorem dksX3_movesAll_0 : cX3_movesAll.data.toList.drop 0 = dktX3_movesAll_0 := by decide +kernel
theorem dksX3_movesAll_1 : cX3_movesAll.data.toList.drop 22 = dktX3_movesAll_1 := dk_seg dksX3_movesAll_0 22 rfl rfl
theorem dksX3_movesAll_2 : cX3_movesAll.data.toList.drop 45 = dktX3_movesAll_2 := dk_seg dksX3_movesAll_1 23 rfl rfl
theorem dksX3_movesAll_3 : cX3_movesAll.data.toList.drop 69 = dktX3_movesAll_3 := dk_seg dksX3_movesAll_2 24 rfl rfl
theorem dX3_movesAll_0 : decode cX3_movesAll 0 = .ok (.aload_n 0, 1) := dk_42 (dk_at dksX3_movesAll_0 0 rfl rfl)
theorem dX3_movesAll_1 : decode cX3_movesAll 1 = .ok (.bipush 85, 2) := dk_16 85 (dk_at dksX3_movesAll_0 1 rfl rfl)
theorem dX3_movesAll_3 : decode cX3_movesAll 3 = .ok (.iload_n 1, 1) := dk_27 (dk_at dksX3_movesAll_0 3 rfl rfl)
theorem dX3_movesAll_4 : decode cX3_movesAll 4 = .ok (.imul, 1) := dk_104 (dk_at dksX3_movesAll_0 4 rfl rfl)
theorem dX3_movesAll_5 : decode cX3_movesAll 5 = .ok (.putfield 388, 3) := dk_181 1 132 (dk_at dksX3_movesAll_0 5 rfl rfl)
theorem dX3_movesAll_8 : decode cX3_movesAll 8 = .ok (.aload_n 0, 1) := dk_42 (dk_at dksX3_movesAll_0 8 rfl rfl)
theorem dX3_movesAll_9 : decode cX3_movesAll 9 = .ok (.iload_n 2, 1) := dk_28 (dk_at dksX3_movesAll_0 9 rfl rfl)
theorem dX3_movesAll_10 : decode cX3_movesAll 10 = .ok (.putfield 384, 3) := dk_181 1 128 (dk_at dksX3_movesAll_0 10 rfl rfl)
theorem dX3_movesAll_13 : decode cX3_movesAll 13 = .ok (.iconst 4, 1) := dk_7 (dk_at dksX3_movesAll_0 13 rfl rfl)
theorem dX3_movesAll_14 : decode cX3_movesAll 14 = .ok (.istore_n 3, 1) := dk_62 (dk_at dksX3_movesAll_0 14 rfl rfl)
theorem dX3_movesAll_15 : decode cX3_movesAll 15 = .ok (.iload_n 3, 1) := dk_29 (dk_at dksX3_movesAll_0 15 rfl rfl)
theorem dX3_movesAll_16 : decode cX3_movesAll 16 = .ok (.bipush 7, 2) := dk_16 7 (dk_at dksX3_movesAll_0 16 rfl rfl)
theorem dX3_movesAll_18 : decode cX3_movesAll 18 = .ok (.if_icmp .ge 25, 3) := dk_162 0 25 (dk_at dksX3_movesAll_0 18 rfl rfl)
theorem dX3_movesAll_21 : decode cX3_movesAll 21 = .ok (.aload_n 0, 1) := dk_42 (dk_at dksX3_movesAll_0 21 rfl rfl)
theorem dX3_movesAll_22 : decode cX3_movesAll 22 = .ok (.getfield 9, 3) := dk_180 0 9 (dk_at dksX3_movesAll_1 0 rfl rfl)
theorem dX3_movesAll_25 : decode cX3_movesAll 25 = .ok (.iload_n 3, 1) := dk_29 (dk_at dksX3_movesAll_1 3 rfl rfl)
theorem dX3_movesAll_26 : decode cX3_movesAll 26 = .ok (.aload_n 0, 1) := dk_42 (dk_at dksX3_movesAll_1 4 rfl rfl)
theorem dX3_movesAll_27 : decode cX3_movesAll 27 = .ok (.aload_n 0, 1) := dk_42 (dk_at dksX3_movesAll_1 5 rfl rfl)
theorem dX3_movesAll_28 : decode cX3_movesAll 28 = .ok (.getfield 9, 3) := dk_180 0 9 (dk_at dksX3_movesAll_1 6 rfl rfl)
theorem dX3_movesAll_31 : decode cX3_movesAll 31 = .ok (.iload_n 3, 1) := dk_29 (dk_at dksX3_movesAll_1 9 rfl rfl)
theorem dX3_movesAll_32 : decode cX3_movesAll 32 = .ok (.iaload, 1) := dk_46 (dk_at dksX3_movesAll_1 10 rfl rfl)
theorem dX3_movesAll_33 : decode cX3_movesAll 33 = .ok (.invokevirtual 391, 3) := dk_182 1 135 (dk_at dksX3_movesAll_1 11 rfl rfl)
theorem dX3_movesAll_36 : decode cX3_movesAll 36 = .ok (.iastore, 1) := dk_79 (dk_at dksX3_movesAll_1 14 rfl rfl)
theorem dX3_movesAll_37 : decode cX3_movesAll 37 = .ok (.iinc 3 1, 3) := dk_132 3 1 (dk_at dksX3_movesAll_1 15 rfl rfl)
theorem dX3_movesAll_40 : decode cX3_movesAll 40 = .ok (.goto (-25), 3) := dk_167 255 231 (dk_at dksX3_movesAll_1 18 rfl rfl)
theorem dX3_movesAll_43 : decode cX3_movesAll 43 = .ok (.aload_n 0, 1) := dk_42 (dk_at dksX3_movesAll_1 21 rfl rfl)
theorem dX3_movesAll_44 : decode cX3_movesAll 44 = .ok (.aload_n 0, 1) := dk_42 (dk_at dksX3_movesAll_1 22 rfl rfl)
theorem dX3_movesAll_45 : decode cX3_movesAll 45 = .ok (.getfield 13, 3) := dk_180 0 13 (dk_at dksX3_movesAll_2 0 rfl rfl)
theorem dX3_movesAll_48 : decode cX3_movesAll 48 = .ok (.invokevirtual 394, 3) := dk_182 1 138 (dk_at dksX3_movesAll_2 3 rfl rfl)
theorem dX3_movesAll_51 : decode cX3_movesAll 51 = .ok (.aload_n 0, 1) := dk_42 (dk_at dksX3_movesAll_2 6 rfl rfl)
theorem dX3_movesAll_52 : decode cX3_movesAll 52 = .ok (.aload_n 0, 1) := dk_42 (dk_at dksX3_movesAll_2 7 rfl rfl)
theorem dX3_movesAll_53 : decode cX3_movesAll 53 = .ok (.getfield 16, 3) := dk_180 0 16 (dk_at dksX3_movesAll_2 8 rfl rfl)
theorem dX3_movesAll_56 : decode cX3_movesAll 56 = .ok (.invokevirtual 394, 3) := dk_182 1 138 (dk_at dksX3_movesAll_2 11 rfl rfl)
theorem dX3_movesAll_59 : decode cX3_movesAll 59 = .ok (.aload_n 0, 1) := dk_42 (dk_at dksX3_movesAll_2 14 rfl rfl)
theorem dX3_movesAll_60 : decode cX3_movesAll 60 = .ok (.aload_n 0, 1) := dk_42 (dk_at dksX3_movesAll_2 15 rfl rfl)
theorem dX3_movesAll_61 : decode cX3_movesAll 61 = .ok (.getfield 19, 3) := dk_180 0 19 (dk_at dksX3_movesAll_2 16 rfl rfl)
theorem dX3_movesAll_64 : decode cX3_movesAll 64 = .ok (.invokevirtual 394, 3) := dk_182 1 138 (dk_at dksX3_movesAll_2 19 rfl rfl)
theorem dX3_movesAll_67 : decode cX3_movesAll 67 = .ok (.aload_n 0, 1) := dk_42 (dk_at dksX3_movesAll_2 22 rfl rfl)
theorem dX3_movesAll_68 : decode cX3_movesAll 68 = .ok (.aload_n 0, 1) := dk_42 (dk_at dksX3_movesAll_2 23 rfl rfl)
theorem dX3_movesAll_69 : decode cX3_movesAll 69 = .ok (.getfield 22, 3) := dk_180 0 22 (dk_at dksX3_movesAll_3 0 rfl rfl)
theorem dX3_movesAll_72 : decode cX3_movesAll 72 = .ok (.invokevirtual 394, 3) := dk_182 1 138 (dk_at dksX3_movesAll_3 3 rfl rfl)
theorem dX3_movesAll_75 : decode cX3_movesAll 75 = .ok (.return_, 1) := dk_177 (dk_at dksX3_movesAll_3 6 rfl rfl)
abbrev cX3_moves : ByteArray := prog_17_method_65_code
def yX3_moves : MethodName := ⟨RX3, "moves", "(I)I"⟩
def dkwX3_moves_1 : List UInt8 := [180, 0, 103, 42, 180, 1, 132, 28, 79, 42, 89, 180, 1, 132, 4, 96, 181, 1, 132, 28, 172]
abbrev dktX3_moves_1 : List UInt8 := dkwX3_moves_1 ++ []
def dkwX3_moves_0 : List UInt8 := [42, 180, 1, 128, 153, 0, 15, 42, 180, 0, 103, 42, 180, 1, 132, 46, 167, 0, 4, 27, 61, 42]
abbrev dktX3_moves_0 : List UInt8 := dkwX3_moves_0 ++ dktX3_moves_1
theorem dksX3_moves_0 : cX3_moves.data.toList.drop 0 = dktX3_moves_0 := by decide +kernel
theorem dksX3_moves_1 : cX3_moves.data.toList.drop 22 = dktX3_moves_1 := dk_seg dksX3_moves_0 22 rfl rfl
theorem dX3_moves_0 : decode cX3_moves 0 = .ok (.aload_n 0, 1) := dk_42 (dk_at dksX3_moves_0 0 rfl rfl)
theorem dX3_moves_1 : decode cX3_moves 1 = .ok (.getfield 384, 3) := dk_180 1 128 (dk_at dksX3_moves_0 1 rfl rfl)
theorem dX3_moves_4 : decode cX3_moves 4 = .ok (.ifCond .eq 15, 3) := dk_153 0 15 (dk_at dksX3_moves_0 4 rfl rfl)
theorem dX3_moves_7 : decode cX3_moves 7 = .ok (.aload_n 0, 1) := dk_42 (dk_at dksX3_moves_0 7 rfl rfl)
theorem dX3_moves_8 : decode cX3_moves 8 = .ok (.getfield 103, 3) := dk_180 0 103 (dk_at dksX3_moves_0 8 rfl rfl)
theorem dX3_moves_11 : decode cX3_moves 11 = .ok (.aload_n 0, 1) := dk_42 (dk_at dksX3_moves_0 11 rfl rfl)
theorem dX3_moves_12 : decode cX3_moves 12 = .ok (.getfield 388, 3) := dk_180 1 132 (dk_at dksX3_moves_0 12 rfl rfl)
theorem dX3_moves_15 : decode cX3_moves 15 = .ok (.iaload, 1) := dk_46 (dk_at dksX3_moves_0 15 rfl rfl)
theorem dX3_moves_16 : decode cX3_moves 16 = .ok (.goto 4, 3) := dk_167 0 4 (dk_at dksX3_moves_0 16 rfl rfl)
theorem dX3_moves_19 : decode cX3_moves 19 = .ok (.iload_n 1, 1) := dk_27 (dk_at dksX3_moves_0 19 rfl rfl)
theorem dX3_moves_20 : decode cX3_moves 20 = .ok (.istore_n 2, 1) := dk_61 (dk_at dksX3_moves_0 20 rfl rfl)
theorem dX3_moves_21 : decode cX3_moves 21 = .ok (.aload_n 0, 1) := dk_42 (dk_at dksX3_moves_0 21 rfl rfl)
theorem dX3_moves_22 : decode cX3_moves 22 = .ok (.getfield 103, 3) := dk_180 0 103 (dk_at dksX3_moves_1 0 rfl rfl)
theorem dX3_moves_25 : decode cX3_moves 25 = .ok (.aload_n 0, 1) := dk_42 (dk_at dksX3_moves_1 3 rfl rfl)
theorem dX3_moves_26 : decode cX3_moves 26 = .ok (.getfield 388, 3) := dk_180 1 132 (dk_at dksX3_moves_1 4 rfl rfl)
theorem dX3_moves_29 : decode cX3_moves 29 = .ok (.iload_n 2, 1) := dk_28 (dk_at dksX3_moves_1 7 rfl rfl)
theorem dX3_moves_30 : decode cX3_moves 30 = .ok (.iastore, 1) := dk_79 (dk_at dksX3_moves_1 8 rfl rfl)
theorem dX3_moves_31 : decode cX3_moves 31 = .ok (.aload_n 0, 1) := dk_42 (dk_at dksX3_moves_1 9 rfl rfl)
theorem dX3_moves_32 : decode cX3_moves 32 = .ok (.dup, 1) := dk_89 (dk_at dksX3_moves_1 10 rfl rfl)
theorem dX3_moves_33 : decode cX3_moves 33 = .ok (.getfield 388, 3) := dk_180 1 132 (dk_at dksX3_moves_1 11 rfl rfl)
theorem dX3_moves_36 : decode cX3_moves 36 = .ok (.iconst 1, 1) := dk_4 (dk_at dksX3_moves_1 14 rfl rfl)
theorem dX3_moves_37 : decode cX3_moves 37 = .ok (.iadd, 1) := dk_96 (dk_at dksX3_moves_1 15 rfl rfl)
theorem dX3_moves_38 : decode cX3_moves 38 = .ok (.putfield 388, 3) := dk_181 1 132 (dk_at dksX3_moves_1 16 rfl rfl)
theorem dX3_moves_41 : decode cX3_moves 41 = .ok (.iload_n 2, 1) := dk_28 (dk_at dksX3_moves_1 19 rfl rfl)
theorem dX3_moves_42 : decode cX3_moves 42 = .ok (.ireturn, 1) := dk_172 (dk_at dksX3_moves_1 20 rfl rfl)
abbrev cX3_movesRow : ByteArray := prog_17_method_66_code
def yX3_movesRow : MethodName := ⟨RX3, "movesRow", "([I)V"⟩
def dkwX3_movesRow_1 : List UInt8 := [177]
abbrev dktX3_movesRow_1 : List UInt8 := dkwX3_movesRow_1 ++ []
def dkwX3_movesRow_0 : List UInt8 := [3, 61, 28, 43, 190, 162, 0, 19, 43, 28, 42, 43, 28, 46, 182, 1, 135, 79, 132, 2, 1, 167, 255, 237]
abbrev dktX3_movesRow_0 : List UInt8 := dkwX3_movesRow_0 ++ dktX3_movesRow_1
theorem dksX3_movesRow_0 : cX3_movesRow.data.toList.drop 0 = dktX3_movesRow_0 := by decide +kernel
theorem dksX3_movesRow_1 : cX3_movesRow.data.toList.drop 24 = dktX3_movesRow_1 := dk_seg dksX3_movesRow_0 24 rfl rfl
theorem dX3_movesRow_0 : decode cX3_movesRow 0 = .ok (.iconst 0, 1) := dk_3 (dk_at dksX3_movesRow_0 0 rfl rfl)
theorem dX3_movesRow_1 : decode cX3_movesRow 1 = .ok (.istore_n 2, 1) := dk_61 (dk_at dksX3_movesRow_0 1 rfl rfl)
theorem dX3_movesRow_2 : decode cX3_movesRow 2 = .ok (.iload_n 2, 1) := dk_28 (dk_at dksX3_movesRow_0 2 rfl rfl)
theorem dX3_movesRow_3 : decode cX3_movesRow 3 = .ok (.aload_n 1, 1) := dk_43 (dk_at dksX3_movesRow_0 3 rfl rfl)
theorem dX3_movesRow_4 : decode cX3_movesRow 4 = .ok (.arraylength, 1) := dk_190 (dk_at dksX3_movesRow_0 4 rfl rfl)
theorem dX3_movesRow_5 : decode cX3_movesRow 5 = .ok (.if_icmp .ge 19, 3) := dk_162 0 19 (dk_at dksX3_movesRow_0 5 rfl rfl)
theorem dX3_movesRow_8 : decode cX3_movesRow 8 = .ok (.aload_n 1, 1) := dk_43 (dk_at dksX3_movesRow_0 8 rfl rfl)
theorem dX3_movesRow_9 : decode cX3_movesRow 9 = .ok (.iload_n 2, 1) := dk_28 (dk_at dksX3_movesRow_0 9 rfl rfl)
theorem dX3_movesRow_10 : decode cX3_movesRow 10 = .ok (.aload_n 0, 1) := dk_42 (dk_at dksX3_movesRow_0 10 rfl rfl)
theorem dX3_movesRow_11 : decode cX3_movesRow 11 = .ok (.aload_n 1, 1) := dk_43 (dk_at dksX3_movesRow_0 11 rfl rfl)
theorem dX3_movesRow_12 : decode cX3_movesRow 12 = .ok (.iload_n 2, 1) := dk_28 (dk_at dksX3_movesRow_0 12 rfl rfl)
theorem dX3_movesRow_13 : decode cX3_movesRow 13 = .ok (.iaload, 1) := dk_46 (dk_at dksX3_movesRow_0 13 rfl rfl)
theorem dX3_movesRow_14 : decode cX3_movesRow 14 = .ok (.invokevirtual 391, 3) := dk_182 1 135 (dk_at dksX3_movesRow_0 14 rfl rfl)
theorem dX3_movesRow_17 : decode cX3_movesRow 17 = .ok (.iastore, 1) := dk_79 (dk_at dksX3_movesRow_0 17 rfl rfl)
theorem dX3_movesRow_18 : decode cX3_movesRow 18 = .ok (.iinc 2 1, 3) := dk_132 2 1 (dk_at dksX3_movesRow_0 18 rfl rfl)
theorem dX3_movesRow_21 : decode cX3_movesRow 21 = .ok (.goto (-19), 3) := dk_167 255 237 (dk_at dksX3_movesRow_0 21 rfl rfl)
theorem dX3_movesRow_24 : decode cX3_movesRow 24 = .ok (.return_, 1) := dk_177 (dk_at dksX3_movesRow_1 0 rfl rfl)
abbrev cX3_day : ByteArray := prog_17_method_70_code
def yX3_day : MethodName := ⟨RX3, "day", "()I"⟩
def dkwX3_day_1 : List UInt8 := [182, 1, 149, 42, 182, 1, 125, 172]
abbrev dktX3_day_1 : List UInt8 := dkwX3_day_1 ++ []
def dkwX3_day_0 : List UInt8 := [42, 182, 1, 146, 153, 0, 15, 42, 180, 0, 9, 7, 46, 17, 3, 231, 160, 0, 5, 2, 172, 42]
abbrev dktX3_day_0 : List UInt8 := dkwX3_day_0 ++ dktX3_day_1
theorem dksX3_day_0 : cX3_day.data.toList.drop 0 = dktX3_day_0 := by decide +kernel
theorem dksX3_day_1 : cX3_day.data.toList.drop 22 = dktX3_day_1 := dk_seg dksX3_day_0 22 rfl rfl
theorem dX3_day_0 : decode cX3_day 0 = .ok (.aload_n 0, 1) := dk_42 (dk_at dksX3_day_0 0 rfl rfl)
theorem dX3_day_1 : decode cX3_day 1 = .ok (.invokevirtual 402, 3) := dk_182 1 146 (dk_at dksX3_day_0 1 rfl rfl)
theorem dX3_day_4 : decode cX3_day 4 = .ok (.ifCond .eq 15, 3) := dk_153 0 15 (dk_at dksX3_day_0 4 rfl rfl)
theorem dX3_day_7 : decode cX3_day 7 = .ok (.aload_n 0, 1) := dk_42 (dk_at dksX3_day_0 7 rfl rfl)
theorem dX3_day_8 : decode cX3_day 8 = .ok (.getfield 9, 3) := dk_180 0 9 (dk_at dksX3_day_0 8 rfl rfl)
theorem dX3_day_11 : decode cX3_day 11 = .ok (.iconst 4, 1) := dk_7 (dk_at dksX3_day_0 11 rfl rfl)
theorem dX3_day_12 : decode cX3_day 12 = .ok (.iaload, 1) := dk_46 (dk_at dksX3_day_0 12 rfl rfl)
theorem dX3_day_13 : decode cX3_day 13 = .ok (.sipush 999, 3) := dk_17 3 231 (dk_at dksX3_day_0 13 rfl rfl)
theorem dX3_day_16 : decode cX3_day 16 = .ok (.if_icmp .ne 5, 3) := dk_160 0 5 (dk_at dksX3_day_0 16 rfl rfl)
theorem dX3_day_19 : decode cX3_day 19 = .ok (.iconst (-1), 1) := dk_2 (dk_at dksX3_day_0 19 rfl rfl)
theorem dX3_day_20 : decode cX3_day 20 = .ok (.ireturn, 1) := dk_172 (dk_at dksX3_day_0 20 rfl rfl)
theorem dX3_day_21 : decode cX3_day 21 = .ok (.aload_n 0, 1) := dk_42 (dk_at dksX3_day_0 21 rfl rfl)
theorem dX3_day_22 : decode cX3_day 22 = .ok (.invokevirtual 405, 3) := dk_182 1 149 (dk_at dksX3_day_1 0 rfl rfl)
theorem dX3_day_25 : decode cX3_day 25 = .ok (.aload_n 0, 1) := dk_42 (dk_at dksX3_day_1 3 rfl rfl)
theorem dX3_day_26 : decode cX3_day 26 = .ok (.invokevirtual 381, 3) := dk_182 1 125 (dk_at dksX3_day_1 4 rfl rfl)
theorem dX3_day_29 : decode cX3_day 29 = .ok (.ireturn, 1) := dk_172 (dk_at dksX3_day_1 7 rfl rfl)
abbrev cX3_isSky : ByteArray := prog_17_method_6_code
def yX3_isSky : MethodName := ⟨RX3, "isSky", "()Z"⟩
def dkwX3_isSky_0 : List UInt8 := [42, 180, 0, 9, 3, 46, 158, 0, 7, 4, 167, 0, 4, 3, 172]
abbrev dktX3_isSky_0 : List UInt8 := dkwX3_isSky_0 ++ []
theorem dksX3_isSky_0 : cX3_isSky.data.toList.drop 0 = dktX3_isSky_0 := by decide +kernel
theorem dX3_isSky_0 : decode cX3_isSky 0 = .ok (.aload_n 0, 1) := dk_42 (dk_at dksX3_isSky_0 0 rfl rfl)
theorem dX3_isSky_1 : decode cX3_isSky 1 = .ok (.getfield 9, 3) := dk_180 0 9 (dk_at dksX3_isSky_0 1 rfl rfl)
theorem dX3_isSky_4 : decode cX3_isSky 4 = .ok (.iconst 0, 1) := dk_3 (dk_at dksX3_isSky_0 4 rfl rfl)
theorem dX3_isSky_5 : decode cX3_isSky 5 = .ok (.iaload, 1) := dk_46 (dk_at dksX3_isSky_0 5 rfl rfl)
theorem dX3_isSky_6 : decode cX3_isSky 6 = .ok (.ifCond .le 7, 3) := dk_158 0 7 (dk_at dksX3_isSky_0 6 rfl rfl)
theorem dX3_isSky_9 : decode cX3_isSky 9 = .ok (.iconst 1, 1) := dk_4 (dk_at dksX3_isSky_0 9 rfl rfl)
theorem dX3_isSky_10 : decode cX3_isSky 10 = .ok (.goto 4, 3) := dk_167 0 4 (dk_at dksX3_isSky_0 10 rfl rfl)
theorem dX3_isSky_13 : decode cX3_isSky 13 = .ok (.iconst 0, 1) := dk_3 (dk_at dksX3_isSky_0 13 rfl rfl)
theorem dX3_isSky_14 : decode cX3_isSky 14 = .ok (.ireturn, 1) := dk_172 (dk_at dksX3_isSky_0 14 rfl rfl)
abbrev cX3_keepsAct : ByteArray := prog_17_method_68_code
def yX3_keepsAct : MethodName := ⟨RX3, "keepsAct", "()V"⟩
def dkwX3_keepsAct_2 : List UInt8 := [181, 1, 49, 42, 42, 180, 1, 49, 3, 182, 1, 142, 42, 89, 180, 1, 49, 4, 96, 181, 1, 49, 177]
abbrev dktX3_keepsAct_2 : List UInt8 := dkwX3_keepsAct_2 ++ []
def dkwX3_keepsAct_1 : List UInt8 := [16, 85, 100, 42, 180, 0, 103, 27, 46, 79, 132, 1, 1, 167, 255, 231, 42, 89, 180, 1, 49, 4, 100]
abbrev dktX3_keepsAct_1 : List UInt8 := dkwX3_keepsAct_1 ++ dktX3_keepsAct_2
def dkwX3_keepsAct_0 : List UInt8 := [42, 180, 1, 49, 16, 20, 160, 0, 44, 16, 85, 60, 27, 17, 6, 164, 162, 0, 24, 42, 180, 0, 103, 27]
abbrev dktX3_keepsAct_0 : List UInt8 := dkwX3_keepsAct_0 ++ dktX3_keepsAct_1
theorem dksX3_keepsAct_0 : cX3_keepsAct.data.toList.drop 0 = dktX3_keepsAct_0 := by decide +kernel
theorem dksX3_keepsAct_1 : cX3_keepsAct.data.toList.drop 24 = dktX3_keepsAct_1 := dk_seg dksX3_keepsAct_0 24 rfl rfl
theorem dksX3_keepsAct_2 : cX3_keepsAct.data.toList.drop 47 = dktX3_keepsAct_2 := dk_seg dksX3_keepsAct_1 23 rfl rfl
theorem dX3_keepsAct_0 : decode cX3_keepsAct 0 = .ok (.aload_n 0, 1) := dk_42 (dk_at dksX3_keepsAct_0 0 rfl rfl)
theorem dX3_keepsAct_1 : decode cX3_keepsAct 1 = .ok (.getfield 305, 3) := dk_180 1 49 (dk_at dksX3_keepsAct_0 1 rfl rfl)
theorem dX3_keepsAct_4 : decode cX3_keepsAct 4 = .ok (.bipush 20, 2) := dk_16 20 (dk_at dksX3_keepsAct_0 4 rfl rfl)
theorem dX3_keepsAct_6 : decode cX3_keepsAct 6 = .ok (.if_icmp .ne 44, 3) := dk_160 0 44 (dk_at dksX3_keepsAct_0 6 rfl rfl)
theorem dX3_keepsAct_9 : decode cX3_keepsAct 9 = .ok (.bipush 85, 2) := dk_16 85 (dk_at dksX3_keepsAct_0 9 rfl rfl)
theorem dX3_keepsAct_11 : decode cX3_keepsAct 11 = .ok (.istore_n 1, 1) := dk_60 (dk_at dksX3_keepsAct_0 11 rfl rfl)
theorem dX3_keepsAct_12 : decode cX3_keepsAct 12 = .ok (.iload_n 1, 1) := dk_27 (dk_at dksX3_keepsAct_0 12 rfl rfl)
theorem dX3_keepsAct_13 : decode cX3_keepsAct 13 = .ok (.sipush 1700, 3) := dk_17 6 164 (dk_at dksX3_keepsAct_0 13 rfl rfl)
theorem dX3_keepsAct_16 : decode cX3_keepsAct 16 = .ok (.if_icmp .ge 24, 3) := dk_162 0 24 (dk_at dksX3_keepsAct_0 16 rfl rfl)
theorem dX3_keepsAct_19 : decode cX3_keepsAct 19 = .ok (.aload_n 0, 1) := dk_42 (dk_at dksX3_keepsAct_0 19 rfl rfl)
theorem dX3_keepsAct_20 : decode cX3_keepsAct 20 = .ok (.getfield 103, 3) := dk_180 0 103 (dk_at dksX3_keepsAct_0 20 rfl rfl)
theorem dX3_keepsAct_23 : decode cX3_keepsAct 23 = .ok (.iload_n 1, 1) := dk_27 (dk_at dksX3_keepsAct_0 23 rfl rfl)
theorem dX3_keepsAct_24 : decode cX3_keepsAct 24 = .ok (.bipush 85, 2) := dk_16 85 (dk_at dksX3_keepsAct_1 0 rfl rfl)
theorem dX3_keepsAct_26 : decode cX3_keepsAct 26 = .ok (.isub, 1) := dk_100 (dk_at dksX3_keepsAct_1 2 rfl rfl)
theorem dX3_keepsAct_27 : decode cX3_keepsAct 27 = .ok (.aload_n 0, 1) := dk_42 (dk_at dksX3_keepsAct_1 3 rfl rfl)
theorem dX3_keepsAct_28 : decode cX3_keepsAct 28 = .ok (.getfield 103, 3) := dk_180 0 103 (dk_at dksX3_keepsAct_1 4 rfl rfl)
theorem dX3_keepsAct_31 : decode cX3_keepsAct 31 = .ok (.iload_n 1, 1) := dk_27 (dk_at dksX3_keepsAct_1 7 rfl rfl)
theorem dX3_keepsAct_32 : decode cX3_keepsAct 32 = .ok (.iaload, 1) := dk_46 (dk_at dksX3_keepsAct_1 8 rfl rfl)
theorem dX3_keepsAct_33 : decode cX3_keepsAct 33 = .ok (.iastore, 1) := dk_79 (dk_at dksX3_keepsAct_1 9 rfl rfl)
theorem dX3_keepsAct_34 : decode cX3_keepsAct 34 = .ok (.iinc 1 1, 3) := dk_132 1 1 (dk_at dksX3_keepsAct_1 10 rfl rfl)
theorem dX3_keepsAct_37 : decode cX3_keepsAct 37 = .ok (.goto (-25), 3) := dk_167 255 231 (dk_at dksX3_keepsAct_1 13 rfl rfl)
theorem dX3_keepsAct_40 : decode cX3_keepsAct 40 = .ok (.aload_n 0, 1) := dk_42 (dk_at dksX3_keepsAct_1 16 rfl rfl)
theorem dX3_keepsAct_41 : decode cX3_keepsAct 41 = .ok (.dup, 1) := dk_89 (dk_at dksX3_keepsAct_1 17 rfl rfl)
theorem dX3_keepsAct_42 : decode cX3_keepsAct 42 = .ok (.getfield 305, 3) := dk_180 1 49 (dk_at dksX3_keepsAct_1 18 rfl rfl)
theorem dX3_keepsAct_45 : decode cX3_keepsAct 45 = .ok (.iconst 1, 1) := dk_4 (dk_at dksX3_keepsAct_1 21 rfl rfl)
theorem dX3_keepsAct_46 : decode cX3_keepsAct 46 = .ok (.isub, 1) := dk_100 (dk_at dksX3_keepsAct_1 22 rfl rfl)
theorem dX3_keepsAct_47 : decode cX3_keepsAct 47 = .ok (.putfield 305, 3) := dk_181 1 49 (dk_at dksX3_keepsAct_2 0 rfl rfl)
theorem dX3_keepsAct_50 : decode cX3_keepsAct 50 = .ok (.aload_n 0, 1) := dk_42 (dk_at dksX3_keepsAct_2 3 rfl rfl)
theorem dX3_keepsAct_51 : decode cX3_keepsAct 51 = .ok (.aload_n 0, 1) := dk_42 (dk_at dksX3_keepsAct_2 4 rfl rfl)
theorem dX3_keepsAct_52 : decode cX3_keepsAct 52 = .ok (.getfield 305, 3) := dk_180 1 49 (dk_at dksX3_keepsAct_2 5 rfl rfl)
theorem dX3_keepsAct_55 : decode cX3_keepsAct 55 = .ok (.iconst 0, 1) := dk_3 (dk_at dksX3_keepsAct_2 8 rfl rfl)
theorem dX3_keepsAct_56 : decode cX3_keepsAct 56 = .ok (.invokevirtual 398, 3) := dk_182 1 142 (dk_at dksX3_keepsAct_2 9 rfl rfl)
theorem dX3_keepsAct_59 : decode cX3_keepsAct 59 = .ok (.aload_n 0, 1) := dk_42 (dk_at dksX3_keepsAct_2 12 rfl rfl)
theorem dX3_keepsAct_60 : decode cX3_keepsAct 60 = .ok (.dup, 1) := dk_89 (dk_at dksX3_keepsAct_2 13 rfl rfl)
theorem dX3_keepsAct_61 : decode cX3_keepsAct 61 = .ok (.getfield 305, 3) := dk_180 1 49 (dk_at dksX3_keepsAct_2 14 rfl rfl)
theorem dX3_keepsAct_64 : decode cX3_keepsAct 64 = .ok (.iconst 1, 1) := dk_4 (dk_at dksX3_keepsAct_2 17 rfl rfl)
theorem dX3_keepsAct_65 : decode cX3_keepsAct 65 = .ok (.iadd, 1) := dk_96 (dk_at dksX3_keepsAct_2 18 rfl rfl)
theorem dX3_keepsAct_66 : decode cX3_keepsAct 66 = .ok (.putfield 305, 3) := dk_181 1 49 (dk_at dksX3_keepsAct_2 19 rfl rfl)
theorem dX3_keepsAct_69 : decode cX3_keepsAct 69 = .ok (.return_, 1) := dk_177 (dk_at dksX3_keepsAct_2 22 rfl rfl)
abbrev cX3_goes : ByteArray := prog_17_method_63_code
def yX3_goes : MethodName := ⟨RX3, "goes", "()I"⟩
def dkwX3_goes_2 : List UInt8 := [180, 0, 9, 7, 92, 46, 4, 96, 79, 42, 182, 1, 122, 27, 172]
abbrev dktX3_goes_2 : List UInt8 := dkwX3_goes_2 ++ []
def dkwX3_goes_1 : List UInt8 := [28, 120, 167, 0, 4, 3, 128, 60, 132, 2, 1, 167, 255, 225, 42, 182, 1, 116, 42, 27, 182, 1, 119, 42]
abbrev dktX3_goes_1 : List UInt8 := dkwX3_goes_1 ++ dktX3_goes_2
def dkwX3_goes_0 : List UInt8 := [3, 60, 3, 61, 28, 42, 180, 0, 9, 5, 46, 162, 0, 27, 27, 42, 28, 182, 1, 113, 153, 0, 9, 4]
abbrev dktX3_goes_0 : List UInt8 := dkwX3_goes_0 ++ dktX3_goes_1
theorem dksX3_goes_0 : cX3_goes.data.toList.drop 0 = dktX3_goes_0 := by decide +kernel
theorem dksX3_goes_1 : cX3_goes.data.toList.drop 24 = dktX3_goes_1 := dk_seg dksX3_goes_0 24 rfl rfl
theorem dksX3_goes_2 : cX3_goes.data.toList.drop 48 = dktX3_goes_2 := dk_seg dksX3_goes_1 24 rfl rfl
theorem dX3_goes_0 : decode cX3_goes 0 = .ok (.iconst 0, 1) := dk_3 (dk_at dksX3_goes_0 0 rfl rfl)
theorem dX3_goes_1 : decode cX3_goes 1 = .ok (.istore_n 1, 1) := dk_60 (dk_at dksX3_goes_0 1 rfl rfl)
theorem dX3_goes_2 : decode cX3_goes 2 = .ok (.iconst 0, 1) := dk_3 (dk_at dksX3_goes_0 2 rfl rfl)
theorem dX3_goes_3 : decode cX3_goes 3 = .ok (.istore_n 2, 1) := dk_61 (dk_at dksX3_goes_0 3 rfl rfl)
theorem dX3_goes_4 : decode cX3_goes 4 = .ok (.iload_n 2, 1) := dk_28 (dk_at dksX3_goes_0 4 rfl rfl)
theorem dX3_goes_5 : decode cX3_goes 5 = .ok (.aload_n 0, 1) := dk_42 (dk_at dksX3_goes_0 5 rfl rfl)
theorem dX3_goes_6 : decode cX3_goes 6 = .ok (.getfield 9, 3) := dk_180 0 9 (dk_at dksX3_goes_0 6 rfl rfl)
theorem dX3_goes_9 : decode cX3_goes 9 = .ok (.iconst 2, 1) := dk_5 (dk_at dksX3_goes_0 9 rfl rfl)
theorem dX3_goes_10 : decode cX3_goes 10 = .ok (.iaload, 1) := dk_46 (dk_at dksX3_goes_0 10 rfl rfl)
theorem dX3_goes_11 : decode cX3_goes 11 = .ok (.if_icmp .ge 27, 3) := dk_162 0 27 (dk_at dksX3_goes_0 11 rfl rfl)
theorem dX3_goes_14 : decode cX3_goes 14 = .ok (.iload_n 1, 1) := dk_27 (dk_at dksX3_goes_0 14 rfl rfl)
theorem dX3_goes_15 : decode cX3_goes 15 = .ok (.aload_n 0, 1) := dk_42 (dk_at dksX3_goes_0 15 rfl rfl)
theorem dX3_goes_16 : decode cX3_goes 16 = .ok (.iload_n 2, 1) := dk_28 (dk_at dksX3_goes_0 16 rfl rfl)
theorem dX3_goes_17 : decode cX3_goes 17 = .ok (.invokevirtual 369, 3) := dk_182 1 113 (dk_at dksX3_goes_0 17 rfl rfl)
theorem dX3_goes_20 : decode cX3_goes 20 = .ok (.ifCond .eq 9, 3) := dk_153 0 9 (dk_at dksX3_goes_0 20 rfl rfl)
theorem dX3_goes_23 : decode cX3_goes 23 = .ok (.iconst 1, 1) := dk_4 (dk_at dksX3_goes_0 23 rfl rfl)
theorem dX3_goes_24 : decode cX3_goes 24 = .ok (.iload_n 2, 1) := dk_28 (dk_at dksX3_goes_1 0 rfl rfl)
theorem dX3_goes_25 : decode cX3_goes 25 = .ok (.ishl, 1) := dk_120 (dk_at dksX3_goes_1 1 rfl rfl)
theorem dX3_goes_26 : decode cX3_goes 26 = .ok (.goto 4, 3) := dk_167 0 4 (dk_at dksX3_goes_1 2 rfl rfl)
theorem dX3_goes_29 : decode cX3_goes 29 = .ok (.iconst 0, 1) := dk_3 (dk_at dksX3_goes_1 5 rfl rfl)
theorem dX3_goes_30 : decode cX3_goes 30 = .ok (.ior, 1) := dk_128 (dk_at dksX3_goes_1 6 rfl rfl)
theorem dX3_goes_31 : decode cX3_goes 31 = .ok (.istore_n 1, 1) := dk_60 (dk_at dksX3_goes_1 7 rfl rfl)
theorem dX3_goes_32 : decode cX3_goes 32 = .ok (.iinc 2 1, 3) := dk_132 2 1 (dk_at dksX3_goes_1 8 rfl rfl)
theorem dX3_goes_35 : decode cX3_goes 35 = .ok (.goto (-31), 3) := dk_167 255 225 (dk_at dksX3_goes_1 11 rfl rfl)
theorem dX3_goes_38 : decode cX3_goes 38 = .ok (.aload_n 0, 1) := dk_42 (dk_at dksX3_goes_1 14 rfl rfl)
theorem dX3_goes_39 : decode cX3_goes 39 = .ok (.invokevirtual 372, 3) := dk_182 1 116 (dk_at dksX3_goes_1 15 rfl rfl)
theorem dX3_goes_42 : decode cX3_goes 42 = .ok (.aload_n 0, 1) := dk_42 (dk_at dksX3_goes_1 18 rfl rfl)
theorem dX3_goes_43 : decode cX3_goes 43 = .ok (.iload_n 1, 1) := dk_27 (dk_at dksX3_goes_1 19 rfl rfl)
theorem dX3_goes_44 : decode cX3_goes 44 = .ok (.invokevirtual 375, 3) := dk_182 1 119 (dk_at dksX3_goes_1 20 rfl rfl)
theorem dX3_goes_47 : decode cX3_goes 47 = .ok (.aload_n 0, 1) := dk_42 (dk_at dksX3_goes_1 23 rfl rfl)
theorem dX3_goes_48 : decode cX3_goes 48 = .ok (.getfield 9, 3) := dk_180 0 9 (dk_at dksX3_goes_2 0 rfl rfl)
theorem dX3_goes_51 : decode cX3_goes 51 = .ok (.iconst 4, 1) := dk_7 (dk_at dksX3_goes_2 3 rfl rfl)
theorem dX3_goes_52 : decode cX3_goes 52 = .ok (.dup2, 1) := dk_92 (dk_at dksX3_goes_2 4 rfl rfl)
theorem dX3_goes_53 : decode cX3_goes 53 = .ok (.iaload, 1) := dk_46 (dk_at dksX3_goes_2 5 rfl rfl)
theorem dX3_goes_54 : decode cX3_goes 54 = .ok (.iconst 1, 1) := dk_4 (dk_at dksX3_goes_2 6 rfl rfl)
theorem dX3_goes_55 : decode cX3_goes 55 = .ok (.iadd, 1) := dk_96 (dk_at dksX3_goes_2 7 rfl rfl)
theorem dX3_goes_56 : decode cX3_goes 56 = .ok (.iastore, 1) := dk_79 (dk_at dksX3_goes_2 8 rfl rfl)
theorem dX3_goes_57 : decode cX3_goes 57 = .ok (.aload_n 0, 1) := dk_42 (dk_at dksX3_goes_2 9 rfl rfl)
theorem dX3_goes_58 : decode cX3_goes 58 = .ok (.invokevirtual 378, 3) := dk_182 1 122 (dk_at dksX3_goes_2 10 rfl rfl)
theorem dX3_goes_61 : decode cX3_goes 61 = .ok (.iload_n 1, 1) := dk_27 (dk_at dksX3_goes_2 13 rfl rfl)
theorem dX3_goes_62 : decode cX3_goes 62 = .ok (.ireturn, 1) := dk_172 (dk_at dksX3_goes_2 14 rfl rfl)
abbrev cX3_writes : ByteArray := prog_17_method_58_code
def yX3_writes : MethodName := ⟨RX3, "writes", "(I)Z"⟩
def dkwX3_writes_11 : List UInt8 := [172]
abbrev dktX3_writes_11 : List UInt8 := dkwX3_writes_11 ++ []
def dkwX3_writes_10 : List UInt8 := [16, 11, 42, 180, 0, 9, 7, 46, 133, 80, 42, 182, 1, 103, 9, 148, 158, 0, 7, 4, 167, 0, 4, 3]
abbrev dktX3_writes_10 : List UInt8 := dkwX3_writes_10 ++ dktX3_writes_11
def dkwX3_writes_9 : List UInt8 := [180, 0, 96, 16, 10, 42, 42, 180, 0, 9, 7, 46, 4, 96, 182, 1, 100, 133, 80, 42, 180, 0, 96]
abbrev dktX3_writes_9 : List UInt8 := dkwX3_writes_9 ++ dktX3_writes_10
def dkwX3_writes_8 : List UInt8 := [9, 80, 42, 180, 0, 96, 16, 9, 42, 180, 0, 31, 42, 180, 0, 13, 27, 46, 46, 133, 80, 42]
abbrev dktX3_writes_8 : List UInt8 := dkwX3_writes_8 ++ dktX3_writes_9
def dkwX3_writes_7 : List UInt8 := [180, 0, 96, 16, 8, 42, 180, 0, 19, 42, 180, 0, 13, 27, 46, 46, 27, 160, 0, 7, 10, 167, 0, 4]
abbrev dktX3_writes_7 : List UInt8 := dkwX3_writes_7 ++ dktX3_writes_8
def dkwX3_writes_6 : List UInt8 := [42, 180, 0, 19, 42, 180, 0, 13, 27, 46, 46, 2, 159, 0, 7, 10, 167, 0, 4, 9, 80, 42]
abbrev dktX3_writes_6 : List UInt8 := dkwX3_writes_6 ++ dktX3_writes_7
def dkwX3_writes_5 : List UInt8 := [182, 1, 100, 133, 80, 42, 180, 0, 96, 16, 6, 42, 27, 182, 1, 82, 133, 80, 42, 180, 0, 96, 16, 7]
abbrev dktX3_writes_5 : List UInt8 := dkwX3_writes_5 ++ dktX3_writes_6
def dkwX3_writes_4 : List UInt8 := [42, 180, 0, 9, 7, 46, 182, 1, 97, 133, 80, 42, 180, 0, 96, 8, 42, 42, 180, 0, 9, 7, 46]
abbrev dktX3_writes_4 : List UInt8 := dkwX3_writes_4 ++ dktX3_writes_5
def dkwX3_writes_3 : List UInt8 := [3, 46, 112, 133, 80, 42, 180, 0, 96, 6, 42, 180, 0, 16, 27, 46, 133, 80, 42, 180, 0, 96, 7, 42]
abbrev dktX3_writes_3 : List UInt8 := dkwX3_writes_3 ++ dktX3_writes_4
def dkwX3_writes_2 : List UInt8 := [42, 180, 0, 9, 3, 46, 108, 133, 80, 42, 180, 0, 96, 5, 42, 180, 0, 13, 27, 46, 42, 180, 0, 9]
abbrev dktX3_writes_2 : List UInt8 := dkwX3_writes_2 ++ dktX3_writes_3
def dkwX3_writes_1 : List UInt8 := [160, 0, 5, 4, 172, 42, 180, 0, 96, 3, 27, 133, 80, 42, 180, 0, 96, 4, 42, 180, 0, 13, 27, 46]
abbrev dktX3_writes_1 : List UInt8 := dkwX3_writes_1 ++ dktX3_writes_2
def dkwX3_writes_0 : List UInt8 := [42, 180, 0, 9, 8, 46, 27, 184, 1, 94, 153, 0, 5, 3, 172, 42, 180, 0, 9, 16, 9, 46, 2]
abbrev dktX3_writes_0 : List UInt8 := dkwX3_writes_0 ++ dktX3_writes_1
theorem dksX3_writes_0 : cX3_writes.data.toList.drop 0 = dktX3_writes_0 := by decide +kernel
theorem dksX3_writes_1 : cX3_writes.data.toList.drop 23 = dktX3_writes_1 := dk_seg dksX3_writes_0 23 rfl rfl
theorem dksX3_writes_2 : cX3_writes.data.toList.drop 47 = dktX3_writes_2 := dk_seg dksX3_writes_1 24 rfl rfl
theorem dksX3_writes_3 : cX3_writes.data.toList.drop 71 = dktX3_writes_3 := dk_seg dksX3_writes_2 24 rfl rfl
theorem dksX3_writes_4 : cX3_writes.data.toList.drop 95 = dktX3_writes_4 := dk_seg dksX3_writes_3 24 rfl rfl
theorem dksX3_writes_5 : cX3_writes.data.toList.drop 118 = dktX3_writes_5 := dk_seg dksX3_writes_4 23 rfl rfl
theorem dksX3_writes_6 : cX3_writes.data.toList.drop 142 = dktX3_writes_6 := dk_seg dksX3_writes_5 24 rfl rfl
theorem dksX3_writes_7 : cX3_writes.data.toList.drop 164 = dktX3_writes_7 := dk_seg dksX3_writes_6 22 rfl rfl
theorem dksX3_writes_8 : cX3_writes.data.toList.drop 188 = dktX3_writes_8 := dk_seg dksX3_writes_7 24 rfl rfl
theorem dksX3_writes_9 : cX3_writes.data.toList.drop 210 = dktX3_writes_9 := dk_seg dksX3_writes_8 22 rfl rfl
theorem dksX3_writes_10 : cX3_writes.data.toList.drop 233 = dktX3_writes_10 := dk_seg dksX3_writes_9 23 rfl rfl
theorem dksX3_writes_11 : cX3_writes.data.toList.drop 257 = dktX3_writes_11 := dk_seg dksX3_writes_10 24 rfl rfl
theorem dX3_writes_0 : decode cX3_writes 0 = .ok (.aload_n 0, 1) := dk_42 (dk_at dksX3_writes_0 0 rfl rfl)
theorem dX3_writes_1 : decode cX3_writes 1 = .ok (.getfield 9, 3) := dk_180 0 9 (dk_at dksX3_writes_0 1 rfl rfl)
theorem dX3_writes_4 : decode cX3_writes 4 = .ok (.iconst 5, 1) := dk_8 (dk_at dksX3_writes_0 4 rfl rfl)
theorem dX3_writes_5 : decode cX3_writes 5 = .ok (.iaload, 1) := dk_46 (dk_at dksX3_writes_0 5 rfl rfl)
theorem dX3_writes_6 : decode cX3_writes 6 = .ok (.iload_n 1, 1) := dk_27 (dk_at dksX3_writes_0 6 rfl rfl)
theorem dX3_writes_7 : decode cX3_writes 7 = .ok (.invokestatic 350, 3) := dk_184 1 94 (dk_at dksX3_writes_0 7 rfl rfl)
theorem dX3_writes_10 : decode cX3_writes 10 = .ok (.ifCond .eq 5, 3) := dk_153 0 5 (dk_at dksX3_writes_0 10 rfl rfl)
theorem dX3_writes_13 : decode cX3_writes 13 = .ok (.iconst 0, 1) := dk_3 (dk_at dksX3_writes_0 13 rfl rfl)
theorem dX3_writes_14 : decode cX3_writes 14 = .ok (.ireturn, 1) := dk_172 (dk_at dksX3_writes_0 14 rfl rfl)
theorem dX3_writes_15 : decode cX3_writes 15 = .ok (.aload_n 0, 1) := dk_42 (dk_at dksX3_writes_0 15 rfl rfl)
theorem dX3_writes_16 : decode cX3_writes 16 = .ok (.getfield 9, 3) := dk_180 0 9 (dk_at dksX3_writes_0 16 rfl rfl)
theorem dX3_writes_19 : decode cX3_writes 19 = .ok (.bipush 9, 2) := dk_16 9 (dk_at dksX3_writes_0 19 rfl rfl)
theorem dX3_writes_21 : decode cX3_writes 21 = .ok (.iaload, 1) := dk_46 (dk_at dksX3_writes_0 21 rfl rfl)
theorem dX3_writes_22 : decode cX3_writes 22 = .ok (.iconst (-1), 1) := dk_2 (dk_at dksX3_writes_0 22 rfl rfl)
theorem dX3_writes_23 : decode cX3_writes 23 = .ok (.if_icmp .ne 5, 3) := dk_160 0 5 (dk_at dksX3_writes_1 0 rfl rfl)
theorem dX3_writes_26 : decode cX3_writes 26 = .ok (.iconst 1, 1) := dk_4 (dk_at dksX3_writes_1 3 rfl rfl)
theorem dX3_writes_27 : decode cX3_writes 27 = .ok (.ireturn, 1) := dk_172 (dk_at dksX3_writes_1 4 rfl rfl)
theorem dX3_writes_28 : decode cX3_writes 28 = .ok (.aload_n 0, 1) := dk_42 (dk_at dksX3_writes_1 5 rfl rfl)
theorem dX3_writes_29 : decode cX3_writes 29 = .ok (.getfield 96, 3) := dk_180 0 96 (dk_at dksX3_writes_1 6 rfl rfl)
theorem dX3_writes_32 : decode cX3_writes 32 = .ok (.iconst 0, 1) := dk_3 (dk_at dksX3_writes_1 9 rfl rfl)
theorem dX3_writes_33 : decode cX3_writes 33 = .ok (.iload_n 1, 1) := dk_27 (dk_at dksX3_writes_1 10 rfl rfl)
theorem dX3_writes_34 : decode cX3_writes 34 = .ok (.i2l, 1) := dk_133 (dk_at dksX3_writes_1 11 rfl rfl)
theorem dX3_writes_35 : decode cX3_writes 35 = .ok (.lastore, 1) := dk_80 (dk_at dksX3_writes_1 12 rfl rfl)
theorem dX3_writes_36 : decode cX3_writes 36 = .ok (.aload_n 0, 1) := dk_42 (dk_at dksX3_writes_1 13 rfl rfl)
theorem dX3_writes_37 : decode cX3_writes 37 = .ok (.getfield 96, 3) := dk_180 0 96 (dk_at dksX3_writes_1 14 rfl rfl)
theorem dX3_writes_40 : decode cX3_writes 40 = .ok (.iconst 1, 1) := dk_4 (dk_at dksX3_writes_1 17 rfl rfl)
theorem dX3_writes_41 : decode cX3_writes 41 = .ok (.aload_n 0, 1) := dk_42 (dk_at dksX3_writes_1 18 rfl rfl)
theorem dX3_writes_42 : decode cX3_writes 42 = .ok (.getfield 13, 3) := dk_180 0 13 (dk_at dksX3_writes_1 19 rfl rfl)
theorem dX3_writes_45 : decode cX3_writes 45 = .ok (.iload_n 1, 1) := dk_27 (dk_at dksX3_writes_1 22 rfl rfl)
theorem dX3_writes_46 : decode cX3_writes 46 = .ok (.iaload, 1) := dk_46 (dk_at dksX3_writes_1 23 rfl rfl)
theorem dX3_writes_47 : decode cX3_writes 47 = .ok (.aload_n 0, 1) := dk_42 (dk_at dksX3_writes_2 0 rfl rfl)
theorem dX3_writes_48 : decode cX3_writes 48 = .ok (.getfield 9, 3) := dk_180 0 9 (dk_at dksX3_writes_2 1 rfl rfl)
theorem dX3_writes_51 : decode cX3_writes 51 = .ok (.iconst 0, 1) := dk_3 (dk_at dksX3_writes_2 4 rfl rfl)
theorem dX3_writes_52 : decode cX3_writes 52 = .ok (.iaload, 1) := dk_46 (dk_at dksX3_writes_2 5 rfl rfl)
theorem dX3_writes_53 : decode cX3_writes 53 = .ok (.idiv, 1) := dk_108 (dk_at dksX3_writes_2 6 rfl rfl)
theorem dX3_writes_54 : decode cX3_writes 54 = .ok (.i2l, 1) := dk_133 (dk_at dksX3_writes_2 7 rfl rfl)
theorem dX3_writes_55 : decode cX3_writes 55 = .ok (.lastore, 1) := dk_80 (dk_at dksX3_writes_2 8 rfl rfl)
theorem dX3_writes_56 : decode cX3_writes 56 = .ok (.aload_n 0, 1) := dk_42 (dk_at dksX3_writes_2 9 rfl rfl)
theorem dX3_writes_57 : decode cX3_writes 57 = .ok (.getfield 96, 3) := dk_180 0 96 (dk_at dksX3_writes_2 10 rfl rfl)
theorem dX3_writes_60 : decode cX3_writes 60 = .ok (.iconst 2, 1) := dk_5 (dk_at dksX3_writes_2 13 rfl rfl)
theorem dX3_writes_61 : decode cX3_writes 61 = .ok (.aload_n 0, 1) := dk_42 (dk_at dksX3_writes_2 14 rfl rfl)
theorem dX3_writes_62 : decode cX3_writes 62 = .ok (.getfield 13, 3) := dk_180 0 13 (dk_at dksX3_writes_2 15 rfl rfl)
theorem dX3_writes_65 : decode cX3_writes 65 = .ok (.iload_n 1, 1) := dk_27 (dk_at dksX3_writes_2 18 rfl rfl)
theorem dX3_writes_66 : decode cX3_writes 66 = .ok (.iaload, 1) := dk_46 (dk_at dksX3_writes_2 19 rfl rfl)
theorem dX3_writes_67 : decode cX3_writes 67 = .ok (.aload_n 0, 1) := dk_42 (dk_at dksX3_writes_2 20 rfl rfl)
theorem dX3_writes_68 : decode cX3_writes 68 = .ok (.getfield 9, 3) := dk_180 0 9 (dk_at dksX3_writes_2 21 rfl rfl)
theorem dX3_writes_71 : decode cX3_writes 71 = .ok (.iconst 0, 1) := dk_3 (dk_at dksX3_writes_3 0 rfl rfl)
theorem dX3_writes_72 : decode cX3_writes 72 = .ok (.iaload, 1) := dk_46 (dk_at dksX3_writes_3 1 rfl rfl)
theorem dX3_writes_73 : decode cX3_writes 73 = .ok (.irem, 1) := dk_112 (dk_at dksX3_writes_3 2 rfl rfl)
theorem dX3_writes_74 : decode cX3_writes 74 = .ok (.i2l, 1) := dk_133 (dk_at dksX3_writes_3 3 rfl rfl)
theorem dX3_writes_75 : decode cX3_writes 75 = .ok (.lastore, 1) := dk_80 (dk_at dksX3_writes_3 4 rfl rfl)
theorem dX3_writes_76 : decode cX3_writes 76 = .ok (.aload_n 0, 1) := dk_42 (dk_at dksX3_writes_3 5 rfl rfl)
theorem dX3_writes_77 : decode cX3_writes 77 = .ok (.getfield 96, 3) := dk_180 0 96 (dk_at dksX3_writes_3 6 rfl rfl)
theorem dX3_writes_80 : decode cX3_writes 80 = .ok (.iconst 3, 1) := dk_6 (dk_at dksX3_writes_3 9 rfl rfl)
theorem dX3_writes_81 : decode cX3_writes 81 = .ok (.aload_n 0, 1) := dk_42 (dk_at dksX3_writes_3 10 rfl rfl)
theorem dX3_writes_82 : decode cX3_writes 82 = .ok (.getfield 16, 3) := dk_180 0 16 (dk_at dksX3_writes_3 11 rfl rfl)
theorem dX3_writes_85 : decode cX3_writes 85 = .ok (.iload_n 1, 1) := dk_27 (dk_at dksX3_writes_3 14 rfl rfl)
theorem dX3_writes_86 : decode cX3_writes 86 = .ok (.iaload, 1) := dk_46 (dk_at dksX3_writes_3 15 rfl rfl)
theorem dX3_writes_87 : decode cX3_writes 87 = .ok (.i2l, 1) := dk_133 (dk_at dksX3_writes_3 16 rfl rfl)
theorem dX3_writes_88 : decode cX3_writes 88 = .ok (.lastore, 1) := dk_80 (dk_at dksX3_writes_3 17 rfl rfl)
theorem dX3_writes_89 : decode cX3_writes 89 = .ok (.aload_n 0, 1) := dk_42 (dk_at dksX3_writes_3 18 rfl rfl)
theorem dX3_writes_90 : decode cX3_writes 90 = .ok (.getfield 96, 3) := dk_180 0 96 (dk_at dksX3_writes_3 19 rfl rfl)
theorem dX3_writes_93 : decode cX3_writes 93 = .ok (.iconst 4, 1) := dk_7 (dk_at dksX3_writes_3 22 rfl rfl)
theorem dX3_writes_94 : decode cX3_writes 94 = .ok (.aload_n 0, 1) := dk_42 (dk_at dksX3_writes_3 23 rfl rfl)
theorem dX3_writes_95 : decode cX3_writes 95 = .ok (.aload_n 0, 1) := dk_42 (dk_at dksX3_writes_4 0 rfl rfl)
theorem dX3_writes_96 : decode cX3_writes 96 = .ok (.getfield 9, 3) := dk_180 0 9 (dk_at dksX3_writes_4 1 rfl rfl)
theorem dX3_writes_99 : decode cX3_writes 99 = .ok (.iconst 4, 1) := dk_7 (dk_at dksX3_writes_4 4 rfl rfl)
theorem dX3_writes_100 : decode cX3_writes 100 = .ok (.iaload, 1) := dk_46 (dk_at dksX3_writes_4 5 rfl rfl)
theorem dX3_writes_101 : decode cX3_writes 101 = .ok (.invokevirtual 353, 3) := dk_182 1 97 (dk_at dksX3_writes_4 6 rfl rfl)
theorem dX3_writes_104 : decode cX3_writes 104 = .ok (.i2l, 1) := dk_133 (dk_at dksX3_writes_4 9 rfl rfl)
theorem dX3_writes_105 : decode cX3_writes 105 = .ok (.lastore, 1) := dk_80 (dk_at dksX3_writes_4 10 rfl rfl)
theorem dX3_writes_106 : decode cX3_writes 106 = .ok (.aload_n 0, 1) := dk_42 (dk_at dksX3_writes_4 11 rfl rfl)
theorem dX3_writes_107 : decode cX3_writes 107 = .ok (.getfield 96, 3) := dk_180 0 96 (dk_at dksX3_writes_4 12 rfl rfl)
theorem dX3_writes_110 : decode cX3_writes 110 = .ok (.iconst 5, 1) := dk_8 (dk_at dksX3_writes_4 15 rfl rfl)
theorem dX3_writes_111 : decode cX3_writes 111 = .ok (.aload_n 0, 1) := dk_42 (dk_at dksX3_writes_4 16 rfl rfl)
theorem dX3_writes_112 : decode cX3_writes 112 = .ok (.aload_n 0, 1) := dk_42 (dk_at dksX3_writes_4 17 rfl rfl)
theorem dX3_writes_113 : decode cX3_writes 113 = .ok (.getfield 9, 3) := dk_180 0 9 (dk_at dksX3_writes_4 18 rfl rfl)
theorem dX3_writes_116 : decode cX3_writes 116 = .ok (.iconst 4, 1) := dk_7 (dk_at dksX3_writes_4 21 rfl rfl)
theorem dX3_writes_117 : decode cX3_writes 117 = .ok (.iaload, 1) := dk_46 (dk_at dksX3_writes_4 22 rfl rfl)
theorem dX3_writes_118 : decode cX3_writes 118 = .ok (.invokevirtual 356, 3) := dk_182 1 100 (dk_at dksX3_writes_5 0 rfl rfl)
theorem dX3_writes_121 : decode cX3_writes 121 = .ok (.i2l, 1) := dk_133 (dk_at dksX3_writes_5 3 rfl rfl)
theorem dX3_writes_122 : decode cX3_writes 122 = .ok (.lastore, 1) := dk_80 (dk_at dksX3_writes_5 4 rfl rfl)
theorem dX3_writes_123 : decode cX3_writes 123 = .ok (.aload_n 0, 1) := dk_42 (dk_at dksX3_writes_5 5 rfl rfl)
theorem dX3_writes_124 : decode cX3_writes 124 = .ok (.getfield 96, 3) := dk_180 0 96 (dk_at dksX3_writes_5 6 rfl rfl)
theorem dX3_writes_127 : decode cX3_writes 127 = .ok (.bipush 6, 2) := dk_16 6 (dk_at dksX3_writes_5 9 rfl rfl)
theorem dX3_writes_129 : decode cX3_writes 129 = .ok (.aload_n 0, 1) := dk_42 (dk_at dksX3_writes_5 11 rfl rfl)
theorem dX3_writes_130 : decode cX3_writes 130 = .ok (.iload_n 1, 1) := dk_27 (dk_at dksX3_writes_5 12 rfl rfl)
theorem dX3_writes_131 : decode cX3_writes 131 = .ok (.invokevirtual 338, 3) := dk_182 1 82 (dk_at dksX3_writes_5 13 rfl rfl)
theorem dX3_writes_134 : decode cX3_writes 134 = .ok (.i2l, 1) := dk_133 (dk_at dksX3_writes_5 16 rfl rfl)
theorem dX3_writes_135 : decode cX3_writes 135 = .ok (.lastore, 1) := dk_80 (dk_at dksX3_writes_5 17 rfl rfl)
theorem dX3_writes_136 : decode cX3_writes 136 = .ok (.aload_n 0, 1) := dk_42 (dk_at dksX3_writes_5 18 rfl rfl)
theorem dX3_writes_137 : decode cX3_writes 137 = .ok (.getfield 96, 3) := dk_180 0 96 (dk_at dksX3_writes_5 19 rfl rfl)
theorem dX3_writes_140 : decode cX3_writes 140 = .ok (.bipush 7, 2) := dk_16 7 (dk_at dksX3_writes_5 22 rfl rfl)
theorem dX3_writes_142 : decode cX3_writes 142 = .ok (.aload_n 0, 1) := dk_42 (dk_at dksX3_writes_6 0 rfl rfl)
theorem dX3_writes_143 : decode cX3_writes 143 = .ok (.getfield 19, 3) := dk_180 0 19 (dk_at dksX3_writes_6 1 rfl rfl)
theorem dX3_writes_146 : decode cX3_writes 146 = .ok (.aload_n 0, 1) := dk_42 (dk_at dksX3_writes_6 4 rfl rfl)
theorem dX3_writes_147 : decode cX3_writes 147 = .ok (.getfield 13, 3) := dk_180 0 13 (dk_at dksX3_writes_6 5 rfl rfl)
theorem dX3_writes_150 : decode cX3_writes 150 = .ok (.iload_n 1, 1) := dk_27 (dk_at dksX3_writes_6 8 rfl rfl)
theorem dX3_writes_151 : decode cX3_writes 151 = .ok (.iaload, 1) := dk_46 (dk_at dksX3_writes_6 9 rfl rfl)
theorem dX3_writes_152 : decode cX3_writes 152 = .ok (.iaload, 1) := dk_46 (dk_at dksX3_writes_6 10 rfl rfl)
theorem dX3_writes_153 : decode cX3_writes 153 = .ok (.iconst (-1), 1) := dk_2 (dk_at dksX3_writes_6 11 rfl rfl)
theorem dX3_writes_154 : decode cX3_writes 154 = .ok (.if_icmp .eq 7, 3) := dk_159 0 7 (dk_at dksX3_writes_6 12 rfl rfl)
theorem dX3_writes_157 : decode cX3_writes 157 = .ok (.lconst 1, 1) := dk_10 (dk_at dksX3_writes_6 15 rfl rfl)
theorem dX3_writes_158 : decode cX3_writes 158 = .ok (.goto 4, 3) := dk_167 0 4 (dk_at dksX3_writes_6 16 rfl rfl)
theorem dX3_writes_161 : decode cX3_writes 161 = .ok (.lconst 0, 1) := dk_9 (dk_at dksX3_writes_6 19 rfl rfl)
theorem dX3_writes_162 : decode cX3_writes 162 = .ok (.lastore, 1) := dk_80 (dk_at dksX3_writes_6 20 rfl rfl)
theorem dX3_writes_163 : decode cX3_writes 163 = .ok (.aload_n 0, 1) := dk_42 (dk_at dksX3_writes_6 21 rfl rfl)
theorem dX3_writes_164 : decode cX3_writes 164 = .ok (.getfield 96, 3) := dk_180 0 96 (dk_at dksX3_writes_7 0 rfl rfl)
theorem dX3_writes_167 : decode cX3_writes 167 = .ok (.bipush 8, 2) := dk_16 8 (dk_at dksX3_writes_7 3 rfl rfl)
theorem dX3_writes_169 : decode cX3_writes 169 = .ok (.aload_n 0, 1) := dk_42 (dk_at dksX3_writes_7 5 rfl rfl)
theorem dX3_writes_170 : decode cX3_writes 170 = .ok (.getfield 19, 3) := dk_180 0 19 (dk_at dksX3_writes_7 6 rfl rfl)
theorem dX3_writes_173 : decode cX3_writes 173 = .ok (.aload_n 0, 1) := dk_42 (dk_at dksX3_writes_7 9 rfl rfl)
theorem dX3_writes_174 : decode cX3_writes 174 = .ok (.getfield 13, 3) := dk_180 0 13 (dk_at dksX3_writes_7 10 rfl rfl)
theorem dX3_writes_177 : decode cX3_writes 177 = .ok (.iload_n 1, 1) := dk_27 (dk_at dksX3_writes_7 13 rfl rfl)
theorem dX3_writes_178 : decode cX3_writes 178 = .ok (.iaload, 1) := dk_46 (dk_at dksX3_writes_7 14 rfl rfl)
theorem dX3_writes_179 : decode cX3_writes 179 = .ok (.iaload, 1) := dk_46 (dk_at dksX3_writes_7 15 rfl rfl)
theorem dX3_writes_180 : decode cX3_writes 180 = .ok (.iload_n 1, 1) := dk_27 (dk_at dksX3_writes_7 16 rfl rfl)
theorem dX3_writes_181 : decode cX3_writes 181 = .ok (.if_icmp .ne 7, 3) := dk_160 0 7 (dk_at dksX3_writes_7 17 rfl rfl)
theorem dX3_writes_184 : decode cX3_writes 184 = .ok (.lconst 1, 1) := dk_10 (dk_at dksX3_writes_7 20 rfl rfl)
theorem dX3_writes_185 : decode cX3_writes 185 = .ok (.goto 4, 3) := dk_167 0 4 (dk_at dksX3_writes_7 21 rfl rfl)
theorem dX3_writes_188 : decode cX3_writes 188 = .ok (.lconst 0, 1) := dk_9 (dk_at dksX3_writes_8 0 rfl rfl)
theorem dX3_writes_189 : decode cX3_writes 189 = .ok (.lastore, 1) := dk_80 (dk_at dksX3_writes_8 1 rfl rfl)
theorem dX3_writes_190 : decode cX3_writes 190 = .ok (.aload_n 0, 1) := dk_42 (dk_at dksX3_writes_8 2 rfl rfl)
theorem dX3_writes_191 : decode cX3_writes 191 = .ok (.getfield 96, 3) := dk_180 0 96 (dk_at dksX3_writes_8 3 rfl rfl)
theorem dX3_writes_194 : decode cX3_writes 194 = .ok (.bipush 9, 2) := dk_16 9 (dk_at dksX3_writes_8 6 rfl rfl)
theorem dX3_writes_196 : decode cX3_writes 196 = .ok (.aload_n 0, 1) := dk_42 (dk_at dksX3_writes_8 8 rfl rfl)
theorem dX3_writes_197 : decode cX3_writes 197 = .ok (.getfield 31, 3) := dk_180 0 31 (dk_at dksX3_writes_8 9 rfl rfl)
theorem dX3_writes_200 : decode cX3_writes 200 = .ok (.aload_n 0, 1) := dk_42 (dk_at dksX3_writes_8 12 rfl rfl)
theorem dX3_writes_201 : decode cX3_writes 201 = .ok (.getfield 13, 3) := dk_180 0 13 (dk_at dksX3_writes_8 13 rfl rfl)
theorem dX3_writes_204 : decode cX3_writes 204 = .ok (.iload_n 1, 1) := dk_27 (dk_at dksX3_writes_8 16 rfl rfl)
theorem dX3_writes_205 : decode cX3_writes 205 = .ok (.iaload, 1) := dk_46 (dk_at dksX3_writes_8 17 rfl rfl)
theorem dX3_writes_206 : decode cX3_writes 206 = .ok (.iaload, 1) := dk_46 (dk_at dksX3_writes_8 18 rfl rfl)
theorem dX3_writes_207 : decode cX3_writes 207 = .ok (.i2l, 1) := dk_133 (dk_at dksX3_writes_8 19 rfl rfl)
theorem dX3_writes_208 : decode cX3_writes 208 = .ok (.lastore, 1) := dk_80 (dk_at dksX3_writes_8 20 rfl rfl)
theorem dX3_writes_209 : decode cX3_writes 209 = .ok (.aload_n 0, 1) := dk_42 (dk_at dksX3_writes_8 21 rfl rfl)
theorem dX3_writes_210 : decode cX3_writes 210 = .ok (.getfield 96, 3) := dk_180 0 96 (dk_at dksX3_writes_9 0 rfl rfl)
theorem dX3_writes_213 : decode cX3_writes 213 = .ok (.bipush 10, 2) := dk_16 10 (dk_at dksX3_writes_9 3 rfl rfl)
theorem dX3_writes_215 : decode cX3_writes 215 = .ok (.aload_n 0, 1) := dk_42 (dk_at dksX3_writes_9 5 rfl rfl)
theorem dX3_writes_216 : decode cX3_writes 216 = .ok (.aload_n 0, 1) := dk_42 (dk_at dksX3_writes_9 6 rfl rfl)
theorem dX3_writes_217 : decode cX3_writes 217 = .ok (.getfield 9, 3) := dk_180 0 9 (dk_at dksX3_writes_9 7 rfl rfl)
theorem dX3_writes_220 : decode cX3_writes 220 = .ok (.iconst 4, 1) := dk_7 (dk_at dksX3_writes_9 10 rfl rfl)
theorem dX3_writes_221 : decode cX3_writes 221 = .ok (.iaload, 1) := dk_46 (dk_at dksX3_writes_9 11 rfl rfl)
theorem dX3_writes_222 : decode cX3_writes 222 = .ok (.iconst 1, 1) := dk_4 (dk_at dksX3_writes_9 12 rfl rfl)
theorem dX3_writes_223 : decode cX3_writes 223 = .ok (.iadd, 1) := dk_96 (dk_at dksX3_writes_9 13 rfl rfl)
theorem dX3_writes_224 : decode cX3_writes 224 = .ok (.invokevirtual 356, 3) := dk_182 1 100 (dk_at dksX3_writes_9 14 rfl rfl)
theorem dX3_writes_227 : decode cX3_writes 227 = .ok (.i2l, 1) := dk_133 (dk_at dksX3_writes_9 17 rfl rfl)
theorem dX3_writes_228 : decode cX3_writes 228 = .ok (.lastore, 1) := dk_80 (dk_at dksX3_writes_9 18 rfl rfl)
theorem dX3_writes_229 : decode cX3_writes 229 = .ok (.aload_n 0, 1) := dk_42 (dk_at dksX3_writes_9 19 rfl rfl)
theorem dX3_writes_230 : decode cX3_writes 230 = .ok (.getfield 96, 3) := dk_180 0 96 (dk_at dksX3_writes_9 20 rfl rfl)
theorem dX3_writes_233 : decode cX3_writes 233 = .ok (.bipush 11, 2) := dk_16 11 (dk_at dksX3_writes_10 0 rfl rfl)
theorem dX3_writes_235 : decode cX3_writes 235 = .ok (.aload_n 0, 1) := dk_42 (dk_at dksX3_writes_10 2 rfl rfl)
theorem dX3_writes_236 : decode cX3_writes 236 = .ok (.getfield 9, 3) := dk_180 0 9 (dk_at dksX3_writes_10 3 rfl rfl)
theorem dX3_writes_239 : decode cX3_writes 239 = .ok (.iconst 4, 1) := dk_7 (dk_at dksX3_writes_10 6 rfl rfl)
theorem dX3_writes_240 : decode cX3_writes 240 = .ok (.iaload, 1) := dk_46 (dk_at dksX3_writes_10 7 rfl rfl)
theorem dX3_writes_241 : decode cX3_writes 241 = .ok (.i2l, 1) := dk_133 (dk_at dksX3_writes_10 8 rfl rfl)
theorem dX3_writes_242 : decode cX3_writes 242 = .ok (.lastore, 1) := dk_80 (dk_at dksX3_writes_10 9 rfl rfl)
theorem dX3_writes_243 : decode cX3_writes 243 = .ok (.aload_n 0, 1) := dk_42 (dk_at dksX3_writes_10 10 rfl rfl)
theorem dX3_writes_244 : decode cX3_writes 244 = .ok (.invokevirtual 359, 3) := dk_182 1 103 (dk_at dksX3_writes_10 11 rfl rfl)
theorem dX3_writes_247 : decode cX3_writes 247 = .ok (.lconst 0, 1) := dk_9 (dk_at dksX3_writes_10 14 rfl rfl)
theorem dX3_writes_248 : decode cX3_writes 248 = .ok (.lcmp, 1) := dk_148 (dk_at dksX3_writes_10 15 rfl rfl)
theorem dX3_writes_249 : decode cX3_writes 249 = .ok (.ifCond .le 7, 3) := dk_158 0 7 (dk_at dksX3_writes_10 16 rfl rfl)
theorem dX3_writes_252 : decode cX3_writes 252 = .ok (.iconst 1, 1) := dk_4 (dk_at dksX3_writes_10 19 rfl rfl)
theorem dX3_writes_253 : decode cX3_writes 253 = .ok (.goto 4, 3) := dk_167 0 4 (dk_at dksX3_writes_10 20 rfl rfl)
theorem dX3_writes_256 : decode cX3_writes 256 = .ok (.iconst 0, 1) := dk_3 (dk_at dksX3_writes_10 23 rfl rfl)
theorem dX3_writes_257 : decode cX3_writes 257 = .ok (.ireturn, 1) := dk_172 (dk_at dksX3_writes_11 0 rfl rfl)
abbrev cX3_has : ByteArray := prog_17_method_5_code
def yX3_has : MethodName := ⟨RX3, "has", "(II)Z"⟩
def dkwX3_has_0 : List UInt8 := [26, 27, 122, 4, 126, 4, 160, 0, 7, 4, 167, 0, 4, 3, 172]
abbrev dktX3_has_0 : List UInt8 := dkwX3_has_0 ++ []
theorem dksX3_has_0 : cX3_has.data.toList.drop 0 = dktX3_has_0 := by decide +kernel
theorem dX3_has_0 : decode cX3_has 0 = .ok (.iload_n 0, 1) := dk_26 (dk_at dksX3_has_0 0 rfl rfl)
theorem dX3_has_1 : decode cX3_has 1 = .ok (.iload_n 1, 1) := dk_27 (dk_at dksX3_has_0 1 rfl rfl)
theorem dX3_has_2 : decode cX3_has 2 = .ok (.ishr, 1) := dk_122 (dk_at dksX3_has_0 2 rfl rfl)
theorem dX3_has_3 : decode cX3_has 3 = .ok (.iconst 1, 1) := dk_4 (dk_at dksX3_has_0 3 rfl rfl)
theorem dX3_has_4 : decode cX3_has 4 = .ok (.iand, 1) := dk_126 (dk_at dksX3_has_0 4 rfl rfl)
theorem dX3_has_5 : decode cX3_has 5 = .ok (.iconst 1, 1) := dk_4 (dk_at dksX3_has_0 5 rfl rfl)
theorem dX3_has_6 : decode cX3_has 6 = .ok (.if_icmp .ne 7, 3) := dk_160 0 7 (dk_at dksX3_has_0 6 rfl rfl)
theorem dX3_has_9 : decode cX3_has 9 = .ok (.iconst 1, 1) := dk_4 (dk_at dksX3_has_0 9 rfl rfl)
theorem dX3_has_10 : decode cX3_has 10 = .ok (.goto 4, 3) := dk_167 0 4 (dk_at dksX3_has_0 10 rfl rfl)
theorem dX3_has_13 : decode cX3_has 13 = .ok (.iconst 0, 1) := dk_3 (dk_at dksX3_has_0 13 rfl rfl)
theorem dX3_has_14 : decode cX3_has 14 = .ok (.ireturn, 1) := dk_172 (dk_at dksX3_has_0 14 rfl rfl)
abbrev cX3_wayOf : ByteArray := prog_17_method_55_code
def yX3_wayOf : MethodName := ⟨RX3, "wayOf", "(I)I"⟩
def dkwX3_wayOf_1 : List UInt8 := [112, 46, 172]
abbrev dktX3_wayOf_1 : List UInt8 := dkwX3_wayOf_1 ++ []
def dkwX3_wayOf_0 : List UInt8 := [42, 180, 0, 9, 6, 46, 154, 0, 7, 3, 167, 0, 16, 42, 180, 0, 25, 27, 42, 180, 0, 9, 6, 46]
abbrev dktX3_wayOf_0 : List UInt8 := dkwX3_wayOf_0 ++ dktX3_wayOf_1
theorem dksX3_wayOf_0 : cX3_wayOf.data.toList.drop 0 = dktX3_wayOf_0 := by decide +kernel
theorem dksX3_wayOf_1 : cX3_wayOf.data.toList.drop 24 = dktX3_wayOf_1 := dk_seg dksX3_wayOf_0 24 rfl rfl
theorem dX3_wayOf_0 : decode cX3_wayOf 0 = .ok (.aload_n 0, 1) := dk_42 (dk_at dksX3_wayOf_0 0 rfl rfl)
theorem dX3_wayOf_1 : decode cX3_wayOf 1 = .ok (.getfield 9, 3) := dk_180 0 9 (dk_at dksX3_wayOf_0 1 rfl rfl)
theorem dX3_wayOf_4 : decode cX3_wayOf 4 = .ok (.iconst 3, 1) := dk_6 (dk_at dksX3_wayOf_0 4 rfl rfl)
theorem dX3_wayOf_5 : decode cX3_wayOf 5 = .ok (.iaload, 1) := dk_46 (dk_at dksX3_wayOf_0 5 rfl rfl)
theorem dX3_wayOf_6 : decode cX3_wayOf 6 = .ok (.ifCond .ne 7, 3) := dk_154 0 7 (dk_at dksX3_wayOf_0 6 rfl rfl)
theorem dX3_wayOf_9 : decode cX3_wayOf 9 = .ok (.iconst 0, 1) := dk_3 (dk_at dksX3_wayOf_0 9 rfl rfl)
theorem dX3_wayOf_10 : decode cX3_wayOf 10 = .ok (.goto 16, 3) := dk_167 0 16 (dk_at dksX3_wayOf_0 10 rfl rfl)
theorem dX3_wayOf_13 : decode cX3_wayOf 13 = .ok (.aload_n 0, 1) := dk_42 (dk_at dksX3_wayOf_0 13 rfl rfl)
theorem dX3_wayOf_14 : decode cX3_wayOf 14 = .ok (.getfield 25, 3) := dk_180 0 25 (dk_at dksX3_wayOf_0 14 rfl rfl)
theorem dX3_wayOf_17 : decode cX3_wayOf 17 = .ok (.iload_n 1, 1) := dk_27 (dk_at dksX3_wayOf_0 17 rfl rfl)
theorem dX3_wayOf_18 : decode cX3_wayOf 18 = .ok (.aload_n 0, 1) := dk_42 (dk_at dksX3_wayOf_0 18 rfl rfl)
theorem dX3_wayOf_19 : decode cX3_wayOf 19 = .ok (.getfield 9, 3) := dk_180 0 9 (dk_at dksX3_wayOf_0 19 rfl rfl)
theorem dX3_wayOf_22 : decode cX3_wayOf 22 = .ok (.iconst 3, 1) := dk_6 (dk_at dksX3_wayOf_0 22 rfl rfl)
theorem dX3_wayOf_23 : decode cX3_wayOf 23 = .ok (.iaload, 1) := dk_46 (dk_at dksX3_wayOf_0 23 rfl rfl)
theorem dX3_wayOf_24 : decode cX3_wayOf 24 = .ok (.irem, 1) := dk_112 (dk_at dksX3_wayOf_1 0 rfl rfl)
theorem dX3_wayOf_25 : decode cX3_wayOf 25 = .ok (.iaload, 1) := dk_46 (dk_at dksX3_wayOf_1 1 rfl rfl)
theorem dX3_wayOf_26 : decode cX3_wayOf 26 = .ok (.ireturn, 1) := dk_172 (dk_at dksX3_wayOf_1 2 rfl rfl)
abbrev cX3_forceOf : ByteArray := prog_17_method_56_code
def yX3_forceOf : MethodName := ⟨RX3, "forceOf", "(I)I"⟩
def dkwX3_forceOf_1 : List UInt8 := [112, 46, 172]
abbrev dktX3_forceOf_1 : List UInt8 := dkwX3_forceOf_1 ++ []
def dkwX3_forceOf_0 : List UInt8 := [42, 180, 0, 9, 6, 46, 154, 0, 7, 3, 167, 0, 16, 42, 180, 0, 28, 27, 42, 180, 0, 9, 6, 46]
abbrev dktX3_forceOf_0 : List UInt8 := dkwX3_forceOf_0 ++ dktX3_forceOf_1
theorem dksX3_forceOf_0 : cX3_forceOf.data.toList.drop 0 = dktX3_forceOf_0 := by decide +kernel
theorem dksX3_forceOf_1 : cX3_forceOf.data.toList.drop 24 = dktX3_forceOf_1 := dk_seg dksX3_forceOf_0 24 rfl rfl
theorem dX3_forceOf_0 : decode cX3_forceOf 0 = .ok (.aload_n 0, 1) := dk_42 (dk_at dksX3_forceOf_0 0 rfl rfl)
theorem dX3_forceOf_1 : decode cX3_forceOf 1 = .ok (.getfield 9, 3) := dk_180 0 9 (dk_at dksX3_forceOf_0 1 rfl rfl)
theorem dX3_forceOf_4 : decode cX3_forceOf 4 = .ok (.iconst 3, 1) := dk_6 (dk_at dksX3_forceOf_0 4 rfl rfl)
theorem dX3_forceOf_5 : decode cX3_forceOf 5 = .ok (.iaload, 1) := dk_46 (dk_at dksX3_forceOf_0 5 rfl rfl)
theorem dX3_forceOf_6 : decode cX3_forceOf 6 = .ok (.ifCond .ne 7, 3) := dk_154 0 7 (dk_at dksX3_forceOf_0 6 rfl rfl)
theorem dX3_forceOf_9 : decode cX3_forceOf 9 = .ok (.iconst 0, 1) := dk_3 (dk_at dksX3_forceOf_0 9 rfl rfl)
theorem dX3_forceOf_10 : decode cX3_forceOf 10 = .ok (.goto 16, 3) := dk_167 0 16 (dk_at dksX3_forceOf_0 10 rfl rfl)
theorem dX3_forceOf_13 : decode cX3_forceOf 13 = .ok (.aload_n 0, 1) := dk_42 (dk_at dksX3_forceOf_0 13 rfl rfl)
theorem dX3_forceOf_14 : decode cX3_forceOf 14 = .ok (.getfield 28, 3) := dk_180 0 28 (dk_at dksX3_forceOf_0 14 rfl rfl)
theorem dX3_forceOf_17 : decode cX3_forceOf 17 = .ok (.iload_n 1, 1) := dk_27 (dk_at dksX3_forceOf_0 17 rfl rfl)
theorem dX3_forceOf_18 : decode cX3_forceOf 18 = .ok (.aload_n 0, 1) := dk_42 (dk_at dksX3_forceOf_0 18 rfl rfl)
theorem dX3_forceOf_19 : decode cX3_forceOf 19 = .ok (.getfield 9, 3) := dk_180 0 9 (dk_at dksX3_forceOf_0 19 rfl rfl)
theorem dX3_forceOf_22 : decode cX3_forceOf 22 = .ok (.iconst 3, 1) := dk_6 (dk_at dksX3_forceOf_0 22 rfl rfl)
theorem dX3_forceOf_23 : decode cX3_forceOf 23 = .ok (.iaload, 1) := dk_46 (dk_at dksX3_forceOf_0 23 rfl rfl)
theorem dX3_forceOf_24 : decode cX3_forceOf 24 = .ok (.irem, 1) := dk_112 (dk_at dksX3_forceOf_1 0 rfl rfl)
theorem dX3_forceOf_25 : decode cX3_forceOf 25 = .ok (.iaload, 1) := dk_46 (dk_at dksX3_forceOf_1 1 rfl rfl)
theorem dX3_forceOf_26 : decode cX3_forceOf 26 = .ok (.ireturn, 1) := dk_172 (dk_at dksX3_forceOf_1 2 rfl rfl)
abbrev cX3_wanted : ByteArray := prog_17_method_46_code
def yX3_wanted : MethodName := ⟨RX3, "wanted", "()J"⟩
def dkwX3_wanted_3 : List UInt8 := [180, 0, 84, 28, 46, 42, 180, 0, 87, 28, 46, 182, 1, 70, 173, 132, 2, 1, 167, 255, 183, 9, 173]
abbrev dktX3_wanted_3 : List UInt8 := dkwX3_wanted_3 ++ []
def dkwX3_wanted_2 : List UInt8 := [180, 0, 87, 28, 46, 42, 180, 0, 90, 28, 46, 182, 1, 70, 10, 148, 154, 0, 21, 42, 27, 42]
abbrev dktX3_wanted_2 : List UInt8 := dkwX3_wanted_2 ++ dktX3_wanted_3
def dkwX3_wanted_1 : List UInt8 := [96, 162, 0, 64, 42, 180, 0, 87, 28, 46, 42, 180, 0, 90, 28, 46, 159, 0, 25, 42, 27, 42]
abbrev dktX3_wanted_1 : List UInt8 := dkwX3_wanted_1 ++ dktX3_wanted_2
def dkwX3_wanted_0 : List UInt8 := [42, 180, 0, 9, 16, 9, 46, 60, 16, 12, 27, 104, 61, 28, 16, 12, 27, 104, 42, 180, 0, 81, 27, 46]
abbrev dktX3_wanted_0 : List UInt8 := dkwX3_wanted_0 ++ dktX3_wanted_1
theorem dksX3_wanted_0 : cX3_wanted.data.toList.drop 0 = dktX3_wanted_0 := by decide +kernel
theorem dksX3_wanted_1 : cX3_wanted.data.toList.drop 24 = dktX3_wanted_1 := dk_seg dksX3_wanted_0 24 rfl rfl
theorem dksX3_wanted_2 : cX3_wanted.data.toList.drop 46 = dktX3_wanted_2 := dk_seg dksX3_wanted_1 22 rfl rfl
theorem dksX3_wanted_3 : cX3_wanted.data.toList.drop 68 = dktX3_wanted_3 := dk_seg dksX3_wanted_2 22 rfl rfl
theorem dX3_wanted_0 : decode cX3_wanted 0 = .ok (.aload_n 0, 1) := dk_42 (dk_at dksX3_wanted_0 0 rfl rfl)
theorem dX3_wanted_1 : decode cX3_wanted 1 = .ok (.getfield 9, 3) := dk_180 0 9 (dk_at dksX3_wanted_0 1 rfl rfl)
theorem dX3_wanted_4 : decode cX3_wanted 4 = .ok (.bipush 9, 2) := dk_16 9 (dk_at dksX3_wanted_0 4 rfl rfl)
theorem dX3_wanted_6 : decode cX3_wanted 6 = .ok (.iaload, 1) := dk_46 (dk_at dksX3_wanted_0 6 rfl rfl)
theorem dX3_wanted_7 : decode cX3_wanted 7 = .ok (.istore_n 1, 1) := dk_60 (dk_at dksX3_wanted_0 7 rfl rfl)
theorem dX3_wanted_8 : decode cX3_wanted 8 = .ok (.bipush 12, 2) := dk_16 12 (dk_at dksX3_wanted_0 8 rfl rfl)
theorem dX3_wanted_10 : decode cX3_wanted 10 = .ok (.iload_n 1, 1) := dk_27 (dk_at dksX3_wanted_0 10 rfl rfl)
theorem dX3_wanted_11 : decode cX3_wanted 11 = .ok (.imul, 1) := dk_104 (dk_at dksX3_wanted_0 11 rfl rfl)
theorem dX3_wanted_12 : decode cX3_wanted 12 = .ok (.istore_n 2, 1) := dk_61 (dk_at dksX3_wanted_0 12 rfl rfl)
theorem dX3_wanted_13 : decode cX3_wanted 13 = .ok (.iload_n 2, 1) := dk_28 (dk_at dksX3_wanted_0 13 rfl rfl)
theorem dX3_wanted_14 : decode cX3_wanted 14 = .ok (.bipush 12, 2) := dk_16 12 (dk_at dksX3_wanted_0 14 rfl rfl)
theorem dX3_wanted_16 : decode cX3_wanted 16 = .ok (.iload_n 1, 1) := dk_27 (dk_at dksX3_wanted_0 16 rfl rfl)
theorem dX3_wanted_17 : decode cX3_wanted 17 = .ok (.imul, 1) := dk_104 (dk_at dksX3_wanted_0 17 rfl rfl)
theorem dX3_wanted_18 : decode cX3_wanted 18 = .ok (.aload_n 0, 1) := dk_42 (dk_at dksX3_wanted_0 18 rfl rfl)
theorem dX3_wanted_19 : decode cX3_wanted 19 = .ok (.getfield 81, 3) := dk_180 0 81 (dk_at dksX3_wanted_0 19 rfl rfl)
theorem dX3_wanted_22 : decode cX3_wanted 22 = .ok (.iload_n 1, 1) := dk_27 (dk_at dksX3_wanted_0 22 rfl rfl)
theorem dX3_wanted_23 : decode cX3_wanted 23 = .ok (.iaload, 1) := dk_46 (dk_at dksX3_wanted_0 23 rfl rfl)
theorem dX3_wanted_24 : decode cX3_wanted 24 = .ok (.iadd, 1) := dk_96 (dk_at dksX3_wanted_1 0 rfl rfl)
theorem dX3_wanted_25 : decode cX3_wanted 25 = .ok (.if_icmp .ge 64, 3) := dk_162 0 64 (dk_at dksX3_wanted_1 1 rfl rfl)
theorem dX3_wanted_28 : decode cX3_wanted 28 = .ok (.aload_n 0, 1) := dk_42 (dk_at dksX3_wanted_1 4 rfl rfl)
theorem dX3_wanted_29 : decode cX3_wanted 29 = .ok (.getfield 87, 3) := dk_180 0 87 (dk_at dksX3_wanted_1 5 rfl rfl)
theorem dX3_wanted_32 : decode cX3_wanted 32 = .ok (.iload_n 2, 1) := dk_28 (dk_at dksX3_wanted_1 8 rfl rfl)
theorem dX3_wanted_33 : decode cX3_wanted 33 = .ok (.iaload, 1) := dk_46 (dk_at dksX3_wanted_1 9 rfl rfl)
theorem dX3_wanted_34 : decode cX3_wanted 34 = .ok (.aload_n 0, 1) := dk_42 (dk_at dksX3_wanted_1 10 rfl rfl)
theorem dX3_wanted_35 : decode cX3_wanted 35 = .ok (.getfield 90, 3) := dk_180 0 90 (dk_at dksX3_wanted_1 11 rfl rfl)
theorem dX3_wanted_38 : decode cX3_wanted 38 = .ok (.iload_n 2, 1) := dk_28 (dk_at dksX3_wanted_1 14 rfl rfl)
theorem dX3_wanted_39 : decode cX3_wanted 39 = .ok (.iaload, 1) := dk_46 (dk_at dksX3_wanted_1 15 rfl rfl)
theorem dX3_wanted_40 : decode cX3_wanted 40 = .ok (.if_icmp .eq 25, 3) := dk_159 0 25 (dk_at dksX3_wanted_1 16 rfl rfl)
theorem dX3_wanted_43 : decode cX3_wanted 43 = .ok (.aload_n 0, 1) := dk_42 (dk_at dksX3_wanted_1 19 rfl rfl)
theorem dX3_wanted_44 : decode cX3_wanted 44 = .ok (.iload_n 1, 1) := dk_27 (dk_at dksX3_wanted_1 20 rfl rfl)
theorem dX3_wanted_45 : decode cX3_wanted 45 = .ok (.aload_n 0, 1) := dk_42 (dk_at dksX3_wanted_1 21 rfl rfl)
theorem dX3_wanted_46 : decode cX3_wanted 46 = .ok (.getfield 87, 3) := dk_180 0 87 (dk_at dksX3_wanted_2 0 rfl rfl)
theorem dX3_wanted_49 : decode cX3_wanted 49 = .ok (.iload_n 2, 1) := dk_28 (dk_at dksX3_wanted_2 3 rfl rfl)
theorem dX3_wanted_50 : decode cX3_wanted 50 = .ok (.iaload, 1) := dk_46 (dk_at dksX3_wanted_2 4 rfl rfl)
theorem dX3_wanted_51 : decode cX3_wanted 51 = .ok (.aload_n 0, 1) := dk_42 (dk_at dksX3_wanted_2 5 rfl rfl)
theorem dX3_wanted_52 : decode cX3_wanted 52 = .ok (.getfield 90, 3) := dk_180 0 90 (dk_at dksX3_wanted_2 6 rfl rfl)
theorem dX3_wanted_55 : decode cX3_wanted 55 = .ok (.iload_n 2, 1) := dk_28 (dk_at dksX3_wanted_2 9 rfl rfl)
theorem dX3_wanted_56 : decode cX3_wanted 56 = .ok (.iaload, 1) := dk_46 (dk_at dksX3_wanted_2 10 rfl rfl)
theorem dX3_wanted_57 : decode cX3_wanted 57 = .ok (.invokevirtual 326, 3) := dk_182 1 70 (dk_at dksX3_wanted_2 11 rfl rfl)
theorem dX3_wanted_60 : decode cX3_wanted 60 = .ok (.lconst 1, 1) := dk_10 (dk_at dksX3_wanted_2 14 rfl rfl)
theorem dX3_wanted_61 : decode cX3_wanted 61 = .ok (.lcmp, 1) := dk_148 (dk_at dksX3_wanted_2 15 rfl rfl)
theorem dX3_wanted_62 : decode cX3_wanted 62 = .ok (.ifCond .ne 21, 3) := dk_154 0 21 (dk_at dksX3_wanted_2 16 rfl rfl)
theorem dX3_wanted_65 : decode cX3_wanted 65 = .ok (.aload_n 0, 1) := dk_42 (dk_at dksX3_wanted_2 19 rfl rfl)
theorem dX3_wanted_66 : decode cX3_wanted 66 = .ok (.iload_n 1, 1) := dk_27 (dk_at dksX3_wanted_2 20 rfl rfl)
theorem dX3_wanted_67 : decode cX3_wanted 67 = .ok (.aload_n 0, 1) := dk_42 (dk_at dksX3_wanted_2 21 rfl rfl)
theorem dX3_wanted_68 : decode cX3_wanted 68 = .ok (.getfield 84, 3) := dk_180 0 84 (dk_at dksX3_wanted_3 0 rfl rfl)
theorem dX3_wanted_71 : decode cX3_wanted 71 = .ok (.iload_n 2, 1) := dk_28 (dk_at dksX3_wanted_3 3 rfl rfl)
theorem dX3_wanted_72 : decode cX3_wanted 72 = .ok (.iaload, 1) := dk_46 (dk_at dksX3_wanted_3 4 rfl rfl)
theorem dX3_wanted_73 : decode cX3_wanted 73 = .ok (.aload_n 0, 1) := dk_42 (dk_at dksX3_wanted_3 5 rfl rfl)
theorem dX3_wanted_74 : decode cX3_wanted 74 = .ok (.getfield 87, 3) := dk_180 0 87 (dk_at dksX3_wanted_3 6 rfl rfl)
theorem dX3_wanted_77 : decode cX3_wanted 77 = .ok (.iload_n 2, 1) := dk_28 (dk_at dksX3_wanted_3 9 rfl rfl)
theorem dX3_wanted_78 : decode cX3_wanted 78 = .ok (.iaload, 1) := dk_46 (dk_at dksX3_wanted_3 10 rfl rfl)
theorem dX3_wanted_79 : decode cX3_wanted 79 = .ok (.invokevirtual 326, 3) := dk_182 1 70 (dk_at dksX3_wanted_3 11 rfl rfl)
theorem dX3_wanted_82 : decode cX3_wanted 82 = .ok (.lreturn, 1) := dk_173 (dk_at dksX3_wanted_3 14 rfl rfl)
theorem dX3_wanted_83 : decode cX3_wanted 83 = .ok (.iinc 2 1, 3) := dk_132 2 1 (dk_at dksX3_wanted_3 15 rfl rfl)
theorem dX3_wanted_86 : decode cX3_wanted 86 = .ok (.goto (-73), 3) := dk_167 255 183 (dk_at dksX3_wanted_3 18 rfl rfl)
theorem dX3_wanted_89 : decode cX3_wanted 89 = .ok (.lconst 0, 1) := dk_9 (dk_at dksX3_wanted_3 21 rfl rfl)
theorem dX3_wanted_90 : decode cX3_wanted 90 = .ok (.lreturn, 1) := dk_173 (dk_at dksX3_wanted_3 22 rfl rfl)
abbrev cX3_answer : ByteArray := prog_17_method_49_code
def yX3_answer : MethodName := ⟨RX3, "answer", "(III)J"⟩
def dkwX3_answer_6 : List UInt8 := [47, 184, 1, 78, 80, 132, 5, 1, 167, 255, 112, 42, 180, 0, 100, 3, 47, 173]
abbrev dktX3_answer_6 : List UInt8 := dkwX3_answer_6 ++ []
def dkwX3_answer_5 : List UInt8 := [180, 0, 100, 21, 4, 4, 100, 21, 6, 42, 180, 0, 100, 21, 4, 4, 100, 47, 42, 180, 0, 100, 21, 4]
abbrev dktX3_answer_5 : List UInt8 := dkwX3_answer_5 ++ dktX3_answer_6
def dkwX3_answer_4 : List UInt8 := [21, 4, 4, 100, 10, 42, 180, 0, 100, 21, 4, 4, 100, 47, 101, 80, 167, 0, 36, 132, 4, 255, 42]
abbrev dktX3_answer_4 : List UInt8 := dkwX3_answer_4 ++ dktX3_answer_5
def dkwX3_answer_3 : List UInt8 := [180, 0, 96, 21, 7, 47, 80, 132, 4, 1, 167, 0, 66, 21, 6, 16, 9, 160, 0, 26, 42, 180, 0, 100]
abbrev dktX3_answer_3 : List UInt8 := dkwX3_answer_3 ++ dktX3_answer_4
def dkwX3_answer_2 : List UInt8 := [21, 6, 4, 160, 0, 34, 42, 180, 0, 100, 21, 4, 21, 6, 154, 0, 9, 21, 7, 133, 167, 0, 10, 42]
abbrev dktX3_answer_2 : List UInt8 := dkwX3_answer_2 ++ dktX3_answer_3
def dkwX3_answer_1 : List UInt8 := [46, 54, 6, 42, 180, 0, 78, 17, 1, 44, 27, 104, 21, 5, 96, 46, 54, 7, 21, 6, 153, 0, 9]
abbrev dktX3_answer_1 : List UInt8 := dkwX3_answer_1 ++ dktX3_answer_2
def dkwX3_answer_0 : List UInt8 := [3, 54, 4, 28, 54, 5, 21, 5, 29, 162, 0, 144, 42, 180, 0, 75, 17, 1, 44, 27, 104, 21, 5, 96]
abbrev dktX3_answer_0 : List UInt8 := dkwX3_answer_0 ++ dktX3_answer_1
theorem dksX3_answer_0 : cX3_answer.data.toList.drop 0 = dktX3_answer_0 := by decide +kernel
theorem dksX3_answer_1 : cX3_answer.data.toList.drop 24 = dktX3_answer_1 := dk_seg dksX3_answer_0 24 rfl rfl
theorem dksX3_answer_2 : cX3_answer.data.toList.drop 47 = dktX3_answer_2 := dk_seg dksX3_answer_1 23 rfl rfl
theorem dksX3_answer_3 : cX3_answer.data.toList.drop 71 = dktX3_answer_3 := dk_seg dksX3_answer_2 24 rfl rfl
theorem dksX3_answer_4 : cX3_answer.data.toList.drop 95 = dktX3_answer_4 := dk_seg dksX3_answer_3 24 rfl rfl
theorem dksX3_answer_5 : cX3_answer.data.toList.drop 118 = dktX3_answer_5 := dk_seg dksX3_answer_4 23 rfl rfl
theorem dksX3_answer_6 : cX3_answer.data.toList.drop 142 = dktX3_answer_6 := dk_seg dksX3_answer_5 24 rfl rfl
theorem dX3_answer_0 : decode cX3_answer 0 = .ok (.iconst 0, 1) := dk_3 (dk_at dksX3_answer_0 0 rfl rfl)
theorem dX3_answer_1 : decode cX3_answer 1 = .ok (.istore 4, 2) := dk_54 4 (dk_at dksX3_answer_0 1 rfl rfl)
theorem dX3_answer_3 : decode cX3_answer 3 = .ok (.iload_n 2, 1) := dk_28 (dk_at dksX3_answer_0 3 rfl rfl)
theorem dX3_answer_4 : decode cX3_answer 4 = .ok (.istore 5, 2) := dk_54 5 (dk_at dksX3_answer_0 4 rfl rfl)
theorem dX3_answer_6 : decode cX3_answer 6 = .ok (.iload 5, 2) := dk_21 5 (dk_at dksX3_answer_0 6 rfl rfl)
theorem dX3_answer_8 : decode cX3_answer 8 = .ok (.iload_n 3, 1) := dk_29 (dk_at dksX3_answer_0 8 rfl rfl)
theorem dX3_answer_9 : decode cX3_answer 9 = .ok (.if_icmp .ge 144, 3) := dk_162 0 144 (dk_at dksX3_answer_0 9 rfl rfl)
theorem dX3_answer_12 : decode cX3_answer 12 = .ok (.aload_n 0, 1) := dk_42 (dk_at dksX3_answer_0 12 rfl rfl)
theorem dX3_answer_13 : decode cX3_answer 13 = .ok (.getfield 75, 3) := dk_180 0 75 (dk_at dksX3_answer_0 13 rfl rfl)
theorem dX3_answer_16 : decode cX3_answer 16 = .ok (.sipush 300, 3) := dk_17 1 44 (dk_at dksX3_answer_0 16 rfl rfl)
theorem dX3_answer_19 : decode cX3_answer 19 = .ok (.iload_n 1, 1) := dk_27 (dk_at dksX3_answer_0 19 rfl rfl)
theorem dX3_answer_20 : decode cX3_answer 20 = .ok (.imul, 1) := dk_104 (dk_at dksX3_answer_0 20 rfl rfl)
theorem dX3_answer_21 : decode cX3_answer 21 = .ok (.iload 5, 2) := dk_21 5 (dk_at dksX3_answer_0 21 rfl rfl)
theorem dX3_answer_23 : decode cX3_answer 23 = .ok (.iadd, 1) := dk_96 (dk_at dksX3_answer_0 23 rfl rfl)
theorem dX3_answer_24 : decode cX3_answer 24 = .ok (.iaload, 1) := dk_46 (dk_at dksX3_answer_1 0 rfl rfl)
theorem dX3_answer_25 : decode cX3_answer 25 = .ok (.istore 6, 2) := dk_54 6 (dk_at dksX3_answer_1 1 rfl rfl)
theorem dX3_answer_27 : decode cX3_answer 27 = .ok (.aload_n 0, 1) := dk_42 (dk_at dksX3_answer_1 3 rfl rfl)
theorem dX3_answer_28 : decode cX3_answer 28 = .ok (.getfield 78, 3) := dk_180 0 78 (dk_at dksX3_answer_1 4 rfl rfl)
theorem dX3_answer_31 : decode cX3_answer 31 = .ok (.sipush 300, 3) := dk_17 1 44 (dk_at dksX3_answer_1 7 rfl rfl)
theorem dX3_answer_34 : decode cX3_answer 34 = .ok (.iload_n 1, 1) := dk_27 (dk_at dksX3_answer_1 10 rfl rfl)
theorem dX3_answer_35 : decode cX3_answer 35 = .ok (.imul, 1) := dk_104 (dk_at dksX3_answer_1 11 rfl rfl)
theorem dX3_answer_36 : decode cX3_answer 36 = .ok (.iload 5, 2) := dk_21 5 (dk_at dksX3_answer_1 12 rfl rfl)
theorem dX3_answer_38 : decode cX3_answer 38 = .ok (.iadd, 1) := dk_96 (dk_at dksX3_answer_1 14 rfl rfl)
theorem dX3_answer_39 : decode cX3_answer 39 = .ok (.iaload, 1) := dk_46 (dk_at dksX3_answer_1 15 rfl rfl)
theorem dX3_answer_40 : decode cX3_answer 40 = .ok (.istore 7, 2) := dk_54 7 (dk_at dksX3_answer_1 16 rfl rfl)
theorem dX3_answer_42 : decode cX3_answer 42 = .ok (.iload 6, 2) := dk_21 6 (dk_at dksX3_answer_1 18 rfl rfl)
theorem dX3_answer_44 : decode cX3_answer 44 = .ok (.ifCond .eq 9, 3) := dk_153 0 9 (dk_at dksX3_answer_1 20 rfl rfl)
theorem dX3_answer_47 : decode cX3_answer 47 = .ok (.iload 6, 2) := dk_21 6 (dk_at dksX3_answer_2 0 rfl rfl)
theorem dX3_answer_49 : decode cX3_answer 49 = .ok (.iconst 1, 1) := dk_4 (dk_at dksX3_answer_2 2 rfl rfl)
theorem dX3_answer_50 : decode cX3_answer 50 = .ok (.if_icmp .ne 34, 3) := dk_160 0 34 (dk_at dksX3_answer_2 3 rfl rfl)
theorem dX3_answer_53 : decode cX3_answer 53 = .ok (.aload_n 0, 1) := dk_42 (dk_at dksX3_answer_2 6 rfl rfl)
theorem dX3_answer_54 : decode cX3_answer 54 = .ok (.getfield 100, 3) := dk_180 0 100 (dk_at dksX3_answer_2 7 rfl rfl)
theorem dX3_answer_57 : decode cX3_answer 57 = .ok (.iload 4, 2) := dk_21 4 (dk_at dksX3_answer_2 10 rfl rfl)
theorem dX3_answer_59 : decode cX3_answer 59 = .ok (.iload 6, 2) := dk_21 6 (dk_at dksX3_answer_2 12 rfl rfl)
theorem dX3_answer_61 : decode cX3_answer 61 = .ok (.ifCond .ne 9, 3) := dk_154 0 9 (dk_at dksX3_answer_2 14 rfl rfl)
theorem dX3_answer_64 : decode cX3_answer 64 = .ok (.iload 7, 2) := dk_21 7 (dk_at dksX3_answer_2 17 rfl rfl)
theorem dX3_answer_66 : decode cX3_answer 66 = .ok (.i2l, 1) := dk_133 (dk_at dksX3_answer_2 19 rfl rfl)
theorem dX3_answer_67 : decode cX3_answer 67 = .ok (.goto 10, 3) := dk_167 0 10 (dk_at dksX3_answer_2 20 rfl rfl)
theorem dX3_answer_70 : decode cX3_answer 70 = .ok (.aload_n 0, 1) := dk_42 (dk_at dksX3_answer_2 23 rfl rfl)
theorem dX3_answer_71 : decode cX3_answer 71 = .ok (.getfield 96, 3) := dk_180 0 96 (dk_at dksX3_answer_3 0 rfl rfl)
theorem dX3_answer_74 : decode cX3_answer 74 = .ok (.iload 7, 2) := dk_21 7 (dk_at dksX3_answer_3 3 rfl rfl)
theorem dX3_answer_76 : decode cX3_answer 76 = .ok (.laload, 1) := dk_47 (dk_at dksX3_answer_3 5 rfl rfl)
theorem dX3_answer_77 : decode cX3_answer 77 = .ok (.lastore, 1) := dk_80 (dk_at dksX3_answer_3 6 rfl rfl)
theorem dX3_answer_78 : decode cX3_answer 78 = .ok (.iinc 4 1, 3) := dk_132 4 1 (dk_at dksX3_answer_3 7 rfl rfl)
theorem dX3_answer_81 : decode cX3_answer 81 = .ok (.goto 66, 3) := dk_167 0 66 (dk_at dksX3_answer_3 10 rfl rfl)
theorem dX3_answer_84 : decode cX3_answer 84 = .ok (.iload 6, 2) := dk_21 6 (dk_at dksX3_answer_3 13 rfl rfl)
theorem dX3_answer_86 : decode cX3_answer 86 = .ok (.bipush 9, 2) := dk_16 9 (dk_at dksX3_answer_3 15 rfl rfl)
theorem dX3_answer_88 : decode cX3_answer 88 = .ok (.if_icmp .ne 26, 3) := dk_160 0 26 (dk_at dksX3_answer_3 17 rfl rfl)
theorem dX3_answer_91 : decode cX3_answer 91 = .ok (.aload_n 0, 1) := dk_42 (dk_at dksX3_answer_3 20 rfl rfl)
theorem dX3_answer_92 : decode cX3_answer 92 = .ok (.getfield 100, 3) := dk_180 0 100 (dk_at dksX3_answer_3 21 rfl rfl)
theorem dX3_answer_95 : decode cX3_answer 95 = .ok (.iload 4, 2) := dk_21 4 (dk_at dksX3_answer_4 0 rfl rfl)
theorem dX3_answer_97 : decode cX3_answer 97 = .ok (.iconst 1, 1) := dk_4 (dk_at dksX3_answer_4 2 rfl rfl)
theorem dX3_answer_98 : decode cX3_answer 98 = .ok (.isub, 1) := dk_100 (dk_at dksX3_answer_4 3 rfl rfl)
theorem dX3_answer_99 : decode cX3_answer 99 = .ok (.lconst 1, 1) := dk_10 (dk_at dksX3_answer_4 4 rfl rfl)
theorem dX3_answer_100 : decode cX3_answer 100 = .ok (.aload_n 0, 1) := dk_42 (dk_at dksX3_answer_4 5 rfl rfl)
theorem dX3_answer_101 : decode cX3_answer 101 = .ok (.getfield 100, 3) := dk_180 0 100 (dk_at dksX3_answer_4 6 rfl rfl)
theorem dX3_answer_104 : decode cX3_answer 104 = .ok (.iload 4, 2) := dk_21 4 (dk_at dksX3_answer_4 9 rfl rfl)
theorem dX3_answer_106 : decode cX3_answer 106 = .ok (.iconst 1, 1) := dk_4 (dk_at dksX3_answer_4 11 rfl rfl)
theorem dX3_answer_107 : decode cX3_answer 107 = .ok (.isub, 1) := dk_100 (dk_at dksX3_answer_4 12 rfl rfl)
theorem dX3_answer_108 : decode cX3_answer 108 = .ok (.laload, 1) := dk_47 (dk_at dksX3_answer_4 13 rfl rfl)
theorem dX3_answer_109 : decode cX3_answer 109 = .ok (.lsub, 1) := dk_101 (dk_at dksX3_answer_4 14 rfl rfl)
theorem dX3_answer_110 : decode cX3_answer 110 = .ok (.lastore, 1) := dk_80 (dk_at dksX3_answer_4 15 rfl rfl)
theorem dX3_answer_111 : decode cX3_answer 111 = .ok (.goto 36, 3) := dk_167 0 36 (dk_at dksX3_answer_4 16 rfl rfl)
theorem dX3_answer_114 : decode cX3_answer 114 = .ok (.iinc 4 (-1), 3) := dk_132 4 255 (dk_at dksX3_answer_4 19 rfl rfl)
theorem dX3_answer_117 : decode cX3_answer 117 = .ok (.aload_n 0, 1) := dk_42 (dk_at dksX3_answer_4 22 rfl rfl)
theorem dX3_answer_118 : decode cX3_answer 118 = .ok (.getfield 100, 3) := dk_180 0 100 (dk_at dksX3_answer_5 0 rfl rfl)
theorem dX3_answer_121 : decode cX3_answer 121 = .ok (.iload 4, 2) := dk_21 4 (dk_at dksX3_answer_5 3 rfl rfl)
theorem dX3_answer_123 : decode cX3_answer 123 = .ok (.iconst 1, 1) := dk_4 (dk_at dksX3_answer_5 5 rfl rfl)
theorem dX3_answer_124 : decode cX3_answer 124 = .ok (.isub, 1) := dk_100 (dk_at dksX3_answer_5 6 rfl rfl)
theorem dX3_answer_125 : decode cX3_answer 125 = .ok (.iload 6, 2) := dk_21 6 (dk_at dksX3_answer_5 7 rfl rfl)
theorem dX3_answer_127 : decode cX3_answer 127 = .ok (.aload_n 0, 1) := dk_42 (dk_at dksX3_answer_5 9 rfl rfl)
theorem dX3_answer_128 : decode cX3_answer 128 = .ok (.getfield 100, 3) := dk_180 0 100 (dk_at dksX3_answer_5 10 rfl rfl)
theorem dX3_answer_131 : decode cX3_answer 131 = .ok (.iload 4, 2) := dk_21 4 (dk_at dksX3_answer_5 13 rfl rfl)
theorem dX3_answer_133 : decode cX3_answer 133 = .ok (.iconst 1, 1) := dk_4 (dk_at dksX3_answer_5 15 rfl rfl)
theorem dX3_answer_134 : decode cX3_answer 134 = .ok (.isub, 1) := dk_100 (dk_at dksX3_answer_5 16 rfl rfl)
theorem dX3_answer_135 : decode cX3_answer 135 = .ok (.laload, 1) := dk_47 (dk_at dksX3_answer_5 17 rfl rfl)
theorem dX3_answer_136 : decode cX3_answer 136 = .ok (.aload_n 0, 1) := dk_42 (dk_at dksX3_answer_5 18 rfl rfl)
theorem dX3_answer_137 : decode cX3_answer 137 = .ok (.getfield 100, 3) := dk_180 0 100 (dk_at dksX3_answer_5 19 rfl rfl)
theorem dX3_answer_140 : decode cX3_answer 140 = .ok (.iload 4, 2) := dk_21 4 (dk_at dksX3_answer_5 22 rfl rfl)
theorem dX3_answer_142 : decode cX3_answer 142 = .ok (.laload, 1) := dk_47 (dk_at dksX3_answer_6 0 rfl rfl)
theorem dX3_answer_143 : decode cX3_answer 143 = .ok (.invokestatic 334, 3) := dk_184 1 78 (dk_at dksX3_answer_6 1 rfl rfl)
theorem dX3_answer_146 : decode cX3_answer 146 = .ok (.lastore, 1) := dk_80 (dk_at dksX3_answer_6 4 rfl rfl)
theorem dX3_answer_147 : decode cX3_answer 147 = .ok (.iinc 5 1, 3) := dk_132 5 1 (dk_at dksX3_answer_6 5 rfl rfl)
theorem dX3_answer_150 : decode cX3_answer 150 = .ok (.goto (-144), 3) := dk_167 255 112 (dk_at dksX3_answer_6 8 rfl rfl)
theorem dX3_answer_153 : decode cX3_answer 153 = .ok (.aload_n 0, 1) := dk_42 (dk_at dksX3_answer_6 11 rfl rfl)
theorem dX3_answer_154 : decode cX3_answer 154 = .ok (.getfield 100, 3) := dk_180 0 100 (dk_at dksX3_answer_6 12 rfl rfl)
theorem dX3_answer_157 : decode cX3_answer 157 = .ok (.iconst 0, 1) := dk_3 (dk_at dksX3_answer_6 15 rfl rfl)
theorem dX3_answer_158 : decode cX3_answer 158 = .ok (.laload, 1) := dk_47 (dk_at dksX3_answer_6 16 rfl rfl)
theorem dX3_answer_159 : decode cX3_answer 159 = .ok (.lreturn, 1) := dk_173 (dk_at dksX3_answer_6 17 rfl rfl)
abbrev cX3_both : ByteArray := prog_17_method_48_code
def yX3_both : MethodName := ⟨RX3, "both", "(IJJ)J"⟩
def dkwX3_both_7 : List UInt8 := [31, 33, 129, 173]
abbrev dktX3_both_7 : List UInt8 := dkwX3_both_7 ++ []
def dkwX3_both_6 : List UInt8 := [3, 184, 1, 74, 173, 31, 33, 148, 158, 0, 7, 4, 167, 0, 4, 3, 184, 1, 74, 173, 31, 33, 127, 173]
abbrev dktX3_both_6 : List UInt8 := dkwX3_both_6 ++ dktX3_both_7
def dkwX3_both_5 : List UInt8 := [33, 148, 154, 0, 7, 4, 167, 0, 4, 3, 184, 1, 74, 173, 31, 33, 148, 155, 0, 7, 4, 167, 0, 4]
abbrev dktX3_both_5 : List UInt8 := dkwX3_both_5 ++ dktX3_both_6
def dkwX3_both_4 : List UInt8 := [167, 0, 4, 3, 184, 1, 74, 173, 31, 33, 148, 157, 0, 7, 4, 167, 0, 4, 3, 184, 1, 74, 173, 31]
abbrev dktX3_both_4 : List UInt8 := dkwX3_both_4 ++ dktX3_both_5
def dkwX3_both_3 : List UInt8 := [109, 173, 33, 9, 148, 154, 0, 7, 9, 167, 0, 6, 31, 33, 113, 173, 31, 33, 148, 156, 0, 7, 4]
abbrev dktX3_both_3 : List UInt8 := dkwX3_both_3 ++ dktX3_both_4
def dkwX3_both_2 : List UInt8 := [31, 33, 97, 173, 31, 33, 101, 173, 31, 33, 105, 173, 33, 9, 148, 154, 0, 7, 9, 167, 0, 6, 31, 33]
abbrev dktX3_both_2 : List UInt8 := dkwX3_both_2 ++ dktX3_both_3
def dkwX3_both_1 : List UInt8 := [170, 0, 0, 0, 0, 0, 190, 0, 0, 0, 2, 0, 0, 0, 15, 0, 0, 0, 71, 0, 0, 0, 75, 0, 0, 0, 111, 0, 0, 0, 126, 0, 0, 0, 141, 0, 0, 0, 156, 0, 0, 0, 171, 0, 0, 0, 190, 0, 0, 0, 186, 0, 0, 0, 190, 0, 0, 0, 190, 0, 0, 0, 79, 0, 0, 0, 83, 0, 0, 0, 97]
abbrev dktX3_both_1 : List UInt8 := dkwX3_both_1 ++ dktX3_both_2
def dkwX3_both_0 : List UInt8 := [26]
abbrev dktX3_both_0 : List UInt8 := dkwX3_both_0 ++ dktX3_both_1
theorem dksX3_both_0 : cX3_both.data.toList.drop 0 = dktX3_both_0 := by decide +kernel
theorem dksX3_both_1 : cX3_both.data.toList.drop 1 = dktX3_both_1 := dk_seg dksX3_both_0 1 rfl rfl
theorem dksX3_both_2 : cX3_both.data.toList.drop 72 = dktX3_both_2 := dk_seg dksX3_both_1 71 rfl rfl
theorem dksX3_both_3 : cX3_both.data.toList.drop 96 = dktX3_both_3 := dk_seg dksX3_both_2 24 rfl rfl
theorem dksX3_both_4 : cX3_both.data.toList.drop 119 = dktX3_both_4 := dk_seg dksX3_both_3 23 rfl rfl
theorem dksX3_both_5 : cX3_both.data.toList.drop 143 = dktX3_both_5 := dk_seg dksX3_both_4 24 rfl rfl
theorem dksX3_both_6 : cX3_both.data.toList.drop 167 = dktX3_both_6 := dk_seg dksX3_both_5 24 rfl rfl
theorem dksX3_both_7 : cX3_both.data.toList.drop 191 = dktX3_both_7 := dk_seg dksX3_both_6 24 rfl rfl
theorem dX3_both_0 : decode cX3_both 0 = .ok (.iload_n 0, 1) := dk_26 (dk_at dksX3_both_0 0 rfl rfl)
theorem dX3_both_1 : decode cX3_both 1 = .ok (.tableswitch 190 2 15 #[71, 75, 111, 126, 141, 156, 171, 190, 186, 190, 190, 79, 83, 97], 71) := by decide +kernel
theorem dX3_both_72 : decode cX3_both 72 = .ok (.lload_n 1, 1) := dk_31 (dk_at dksX3_both_2 0 rfl rfl)
theorem dX3_both_73 : decode cX3_both 73 = .ok (.lload_n 3, 1) := dk_33 (dk_at dksX3_both_2 1 rfl rfl)
theorem dX3_both_74 : decode cX3_both 74 = .ok (.ladd, 1) := dk_97 (dk_at dksX3_both_2 2 rfl rfl)
theorem dX3_both_75 : decode cX3_both 75 = .ok (.lreturn, 1) := dk_173 (dk_at dksX3_both_2 3 rfl rfl)
theorem dX3_both_76 : decode cX3_both 76 = .ok (.lload_n 1, 1) := dk_31 (dk_at dksX3_both_2 4 rfl rfl)
theorem dX3_both_77 : decode cX3_both 77 = .ok (.lload_n 3, 1) := dk_33 (dk_at dksX3_both_2 5 rfl rfl)
theorem dX3_both_78 : decode cX3_both 78 = .ok (.lsub, 1) := dk_101 (dk_at dksX3_both_2 6 rfl rfl)
theorem dX3_both_79 : decode cX3_both 79 = .ok (.lreturn, 1) := dk_173 (dk_at dksX3_both_2 7 rfl rfl)
theorem dX3_both_80 : decode cX3_both 80 = .ok (.lload_n 1, 1) := dk_31 (dk_at dksX3_both_2 8 rfl rfl)
theorem dX3_both_81 : decode cX3_both 81 = .ok (.lload_n 3, 1) := dk_33 (dk_at dksX3_both_2 9 rfl rfl)
theorem dX3_both_82 : decode cX3_both 82 = .ok (.lmul, 1) := dk_105 (dk_at dksX3_both_2 10 rfl rfl)
theorem dX3_both_83 : decode cX3_both 83 = .ok (.lreturn, 1) := dk_173 (dk_at dksX3_both_2 11 rfl rfl)
theorem dX3_both_84 : decode cX3_both 84 = .ok (.lload_n 3, 1) := dk_33 (dk_at dksX3_both_2 12 rfl rfl)
theorem dX3_both_85 : decode cX3_both 85 = .ok (.lconst 0, 1) := dk_9 (dk_at dksX3_both_2 13 rfl rfl)
theorem dX3_both_86 : decode cX3_both 86 = .ok (.lcmp, 1) := dk_148 (dk_at dksX3_both_2 14 rfl rfl)
theorem dX3_both_87 : decode cX3_both 87 = .ok (.ifCond .ne 7, 3) := dk_154 0 7 (dk_at dksX3_both_2 15 rfl rfl)
theorem dX3_both_90 : decode cX3_both 90 = .ok (.lconst 0, 1) := dk_9 (dk_at dksX3_both_2 18 rfl rfl)
theorem dX3_both_91 : decode cX3_both 91 = .ok (.goto 6, 3) := dk_167 0 6 (dk_at dksX3_both_2 19 rfl rfl)
theorem dX3_both_94 : decode cX3_both 94 = .ok (.lload_n 1, 1) := dk_31 (dk_at dksX3_both_2 22 rfl rfl)
theorem dX3_both_95 : decode cX3_both 95 = .ok (.lload_n 3, 1) := dk_33 (dk_at dksX3_both_2 23 rfl rfl)
theorem dX3_both_96 : decode cX3_both 96 = .ok (.ldiv, 1) := dk_109 (dk_at dksX3_both_3 0 rfl rfl)
theorem dX3_both_97 : decode cX3_both 97 = .ok (.lreturn, 1) := dk_173 (dk_at dksX3_both_3 1 rfl rfl)
theorem dX3_both_98 : decode cX3_both 98 = .ok (.lload_n 3, 1) := dk_33 (dk_at dksX3_both_3 2 rfl rfl)
theorem dX3_both_99 : decode cX3_both 99 = .ok (.lconst 0, 1) := dk_9 (dk_at dksX3_both_3 3 rfl rfl)
theorem dX3_both_100 : decode cX3_both 100 = .ok (.lcmp, 1) := dk_148 (dk_at dksX3_both_3 4 rfl rfl)
theorem dX3_both_101 : decode cX3_both 101 = .ok (.ifCond .ne 7, 3) := dk_154 0 7 (dk_at dksX3_both_3 5 rfl rfl)
theorem dX3_both_104 : decode cX3_both 104 = .ok (.lconst 0, 1) := dk_9 (dk_at dksX3_both_3 8 rfl rfl)
theorem dX3_both_105 : decode cX3_both 105 = .ok (.goto 6, 3) := dk_167 0 6 (dk_at dksX3_both_3 9 rfl rfl)
theorem dX3_both_108 : decode cX3_both 108 = .ok (.lload_n 1, 1) := dk_31 (dk_at dksX3_both_3 12 rfl rfl)
theorem dX3_both_109 : decode cX3_both 109 = .ok (.lload_n 3, 1) := dk_33 (dk_at dksX3_both_3 13 rfl rfl)
theorem dX3_both_110 : decode cX3_both 110 = .ok (.lrem, 1) := dk_113 (dk_at dksX3_both_3 14 rfl rfl)
theorem dX3_both_111 : decode cX3_both 111 = .ok (.lreturn, 1) := dk_173 (dk_at dksX3_both_3 15 rfl rfl)
theorem dX3_both_112 : decode cX3_both 112 = .ok (.lload_n 1, 1) := dk_31 (dk_at dksX3_both_3 16 rfl rfl)
theorem dX3_both_113 : decode cX3_both 113 = .ok (.lload_n 3, 1) := dk_33 (dk_at dksX3_both_3 17 rfl rfl)
theorem dX3_both_114 : decode cX3_both 114 = .ok (.lcmp, 1) := dk_148 (dk_at dksX3_both_3 18 rfl rfl)
theorem dX3_both_115 : decode cX3_both 115 = .ok (.ifCond .ge 7, 3) := dk_156 0 7 (dk_at dksX3_both_3 19 rfl rfl)
theorem dX3_both_118 : decode cX3_both 118 = .ok (.iconst 1, 1) := dk_4 (dk_at dksX3_both_3 22 rfl rfl)
theorem dX3_both_119 : decode cX3_both 119 = .ok (.goto 4, 3) := dk_167 0 4 (dk_at dksX3_both_4 0 rfl rfl)
theorem dX3_both_122 : decode cX3_both 122 = .ok (.iconst 0, 1) := dk_3 (dk_at dksX3_both_4 3 rfl rfl)
theorem dX3_both_123 : decode cX3_both 123 = .ok (.invokestatic 330, 3) := dk_184 1 74 (dk_at dksX3_both_4 4 rfl rfl)
theorem dX3_both_126 : decode cX3_both 126 = .ok (.lreturn, 1) := dk_173 (dk_at dksX3_both_4 7 rfl rfl)
theorem dX3_both_127 : decode cX3_both 127 = .ok (.lload_n 1, 1) := dk_31 (dk_at dksX3_both_4 8 rfl rfl)
theorem dX3_both_128 : decode cX3_both 128 = .ok (.lload_n 3, 1) := dk_33 (dk_at dksX3_both_4 9 rfl rfl)
theorem dX3_both_129 : decode cX3_both 129 = .ok (.lcmp, 1) := dk_148 (dk_at dksX3_both_4 10 rfl rfl)
theorem dX3_both_130 : decode cX3_both 130 = .ok (.ifCond .gt 7, 3) := dk_157 0 7 (dk_at dksX3_both_4 11 rfl rfl)
theorem dX3_both_133 : decode cX3_both 133 = .ok (.iconst 1, 1) := dk_4 (dk_at dksX3_both_4 14 rfl rfl)
theorem dX3_both_134 : decode cX3_both 134 = .ok (.goto 4, 3) := dk_167 0 4 (dk_at dksX3_both_4 15 rfl rfl)
theorem dX3_both_137 : decode cX3_both 137 = .ok (.iconst 0, 1) := dk_3 (dk_at dksX3_both_4 18 rfl rfl)
theorem dX3_both_138 : decode cX3_both 138 = .ok (.invokestatic 330, 3) := dk_184 1 74 (dk_at dksX3_both_4 19 rfl rfl)
theorem dX3_both_141 : decode cX3_both 141 = .ok (.lreturn, 1) := dk_173 (dk_at dksX3_both_4 22 rfl rfl)
theorem dX3_both_142 : decode cX3_both 142 = .ok (.lload_n 1, 1) := dk_31 (dk_at dksX3_both_4 23 rfl rfl)
theorem dX3_both_143 : decode cX3_both 143 = .ok (.lload_n 3, 1) := dk_33 (dk_at dksX3_both_5 0 rfl rfl)
theorem dX3_both_144 : decode cX3_both 144 = .ok (.lcmp, 1) := dk_148 (dk_at dksX3_both_5 1 rfl rfl)
theorem dX3_both_145 : decode cX3_both 145 = .ok (.ifCond .ne 7, 3) := dk_154 0 7 (dk_at dksX3_both_5 2 rfl rfl)
theorem dX3_both_148 : decode cX3_both 148 = .ok (.iconst 1, 1) := dk_4 (dk_at dksX3_both_5 5 rfl rfl)
theorem dX3_both_149 : decode cX3_both 149 = .ok (.goto 4, 3) := dk_167 0 4 (dk_at dksX3_both_5 6 rfl rfl)
theorem dX3_both_152 : decode cX3_both 152 = .ok (.iconst 0, 1) := dk_3 (dk_at dksX3_both_5 9 rfl rfl)
theorem dX3_both_153 : decode cX3_both 153 = .ok (.invokestatic 330, 3) := dk_184 1 74 (dk_at dksX3_both_5 10 rfl rfl)
theorem dX3_both_156 : decode cX3_both 156 = .ok (.lreturn, 1) := dk_173 (dk_at dksX3_both_5 13 rfl rfl)
theorem dX3_both_157 : decode cX3_both 157 = .ok (.lload_n 1, 1) := dk_31 (dk_at dksX3_both_5 14 rfl rfl)
theorem dX3_both_158 : decode cX3_both 158 = .ok (.lload_n 3, 1) := dk_33 (dk_at dksX3_both_5 15 rfl rfl)
theorem dX3_both_159 : decode cX3_both 159 = .ok (.lcmp, 1) := dk_148 (dk_at dksX3_both_5 16 rfl rfl)
theorem dX3_both_160 : decode cX3_both 160 = .ok (.ifCond .lt 7, 3) := dk_155 0 7 (dk_at dksX3_both_5 17 rfl rfl)
theorem dX3_both_163 : decode cX3_both 163 = .ok (.iconst 1, 1) := dk_4 (dk_at dksX3_both_5 20 rfl rfl)
theorem dX3_both_164 : decode cX3_both 164 = .ok (.goto 4, 3) := dk_167 0 4 (dk_at dksX3_both_5 21 rfl rfl)
theorem dX3_both_167 : decode cX3_both 167 = .ok (.iconst 0, 1) := dk_3 (dk_at dksX3_both_6 0 rfl rfl)
theorem dX3_both_168 : decode cX3_both 168 = .ok (.invokestatic 330, 3) := dk_184 1 74 (dk_at dksX3_both_6 1 rfl rfl)
theorem dX3_both_171 : decode cX3_both 171 = .ok (.lreturn, 1) := dk_173 (dk_at dksX3_both_6 4 rfl rfl)
theorem dX3_both_172 : decode cX3_both 172 = .ok (.lload_n 1, 1) := dk_31 (dk_at dksX3_both_6 5 rfl rfl)
theorem dX3_both_173 : decode cX3_both 173 = .ok (.lload_n 3, 1) := dk_33 (dk_at dksX3_both_6 6 rfl rfl)
theorem dX3_both_174 : decode cX3_both 174 = .ok (.lcmp, 1) := dk_148 (dk_at dksX3_both_6 7 rfl rfl)
theorem dX3_both_175 : decode cX3_both 175 = .ok (.ifCond .le 7, 3) := dk_158 0 7 (dk_at dksX3_both_6 8 rfl rfl)
theorem dX3_both_178 : decode cX3_both 178 = .ok (.iconst 1, 1) := dk_4 (dk_at dksX3_both_6 11 rfl rfl)
theorem dX3_both_179 : decode cX3_both 179 = .ok (.goto 4, 3) := dk_167 0 4 (dk_at dksX3_both_6 12 rfl rfl)
theorem dX3_both_182 : decode cX3_both 182 = .ok (.iconst 0, 1) := dk_3 (dk_at dksX3_both_6 15 rfl rfl)
theorem dX3_both_183 : decode cX3_both 183 = .ok (.invokestatic 330, 3) := dk_184 1 74 (dk_at dksX3_both_6 16 rfl rfl)
theorem dX3_both_186 : decode cX3_both 186 = .ok (.lreturn, 1) := dk_173 (dk_at dksX3_both_6 19 rfl rfl)
theorem dX3_both_187 : decode cX3_both 187 = .ok (.lload_n 1, 1) := dk_31 (dk_at dksX3_both_6 20 rfl rfl)
theorem dX3_both_188 : decode cX3_both 188 = .ok (.lload_n 3, 1) := dk_33 (dk_at dksX3_both_6 21 rfl rfl)
theorem dX3_both_189 : decode cX3_both 189 = .ok (.land, 1) := dk_127 (dk_at dksX3_both_6 22 rfl rfl)
theorem dX3_both_190 : decode cX3_both 190 = .ok (.lreturn, 1) := dk_173 (dk_at dksX3_both_6 23 rfl rfl)
theorem dX3_both_191 : decode cX3_both 191 = .ok (.lload_n 1, 1) := dk_31 (dk_at dksX3_both_7 0 rfl rfl)
theorem dX3_both_192 : decode cX3_both 192 = .ok (.lload_n 3, 1) := dk_33 (dk_at dksX3_both_7 1 rfl rfl)
theorem dX3_both_193 : decode cX3_both 193 = .ok (.lor, 1) := dk_129 (dk_at dksX3_both_7 2 rfl rfl)
theorem dX3_both_194 : decode cX3_both 194 = .ok (.lreturn, 1) := dk_173 (dk_at dksX3_both_7 3 rfl rfl)
abbrev cX3_truth : ByteArray := prog_17_method_47_code
def yX3_truth : MethodName := ⟨RX3, "truth", "(Z)J"⟩
def dkwX3_truth_0 : List UInt8 := [26, 153, 0, 7, 10, 167, 0, 4, 9, 173]
abbrev dktX3_truth_0 : List UInt8 := dkwX3_truth_0 ++ []
theorem dksX3_truth_0 : cX3_truth.data.toList.drop 0 = dktX3_truth_0 := by decide +kernel
theorem dX3_truth_0 : decode cX3_truth 0 = .ok (.iload_n 0, 1) := dk_26 (dk_at dksX3_truth_0 0 rfl rfl)
theorem dX3_truth_1 : decode cX3_truth 1 = .ok (.ifCond .eq 7, 3) := dk_153 0 7 (dk_at dksX3_truth_0 1 rfl rfl)
theorem dX3_truth_4 : decode cX3_truth 4 = .ok (.lconst 1, 1) := dk_10 (dk_at dksX3_truth_0 4 rfl rfl)
theorem dX3_truth_5 : decode cX3_truth 5 = .ok (.goto 4, 3) := dk_167 0 4 (dk_at dksX3_truth_0 5 rfl rfl)
theorem dX3_truth_8 : decode cX3_truth 8 = .ok (.lconst 0, 1) := dk_9 (dk_at dksX3_truth_0 8 rfl rfl)
theorem dX3_truth_9 : decode cX3_truth 9 = .ok (.lreturn, 1) := dk_173 (dk_at dksX3_truth_0 9 rfl rfl)
abbrev cX3_drifts : ByteArray := prog_17_method_60_code
def yX3_drifts : MethodName := ⟨RX3, "drifts", "()V"⟩
def dkwX3_drifts_4 : List UInt8 := [79, 132, 1, 1, 167, 255, 159, 177]
abbrev dktX3_drifts_4 : List UInt8 := dkwX3_drifts_4 ++ []
def dkwX3_drifts_3 : List UInt8 := [167, 0, 4, 3, 62, 42, 180, 0, 13, 27, 29, 153, 0, 7, 28, 167, 0, 9, 42, 180, 0, 13, 27, 46]
abbrev dktX3_drifts_3 : List UInt8 := dkwX3_drifts_3 ++ dktX3_drifts_4
def dkwX3_drifts_2 : List UInt8 := [180, 0, 16, 27, 46, 42, 42, 180, 0, 9, 7, 46, 182, 1, 100, 163, 0, 12, 28, 2, 159, 0, 7, 4]
abbrev dktX3_drifts_2 : List UInt8 := dkwX3_drifts_2 ++ dktX3_drifts_3
def dkwX3_drifts_1 : List UInt8 := [7, 46, 182, 1, 97, 182, 1, 107, 61, 42, 180, 0, 9, 8, 46, 27, 184, 1, 94, 154, 0, 31, 42]
abbrev dktX3_drifts_1 : List UInt8 := dkwX3_drifts_1 ++ dktX3_drifts_2
def dkwX3_drifts_0 : List UInt8 := [3, 60, 27, 42, 180, 0, 9, 5, 46, 162, 0, 93, 42, 42, 180, 0, 13, 27, 46, 42, 42, 180, 0, 9]
abbrev dktX3_drifts_0 : List UInt8 := dkwX3_drifts_0 ++ dktX3_drifts_1
theorem dksX3_drifts_0 : cX3_drifts.data.toList.drop 0 = dktX3_drifts_0 := by decide +kernel
theorem dksX3_drifts_1 : cX3_drifts.data.toList.drop 24 = dktX3_drifts_1 := dk_seg dksX3_drifts_0 24 rfl rfl
theorem dksX3_drifts_2 : cX3_drifts.data.toList.drop 47 = dktX3_drifts_2 := dk_seg dksX3_drifts_1 23 rfl rfl
theorem dksX3_drifts_3 : cX3_drifts.data.toList.drop 71 = dktX3_drifts_3 := dk_seg dksX3_drifts_2 24 rfl rfl
theorem dksX3_drifts_4 : cX3_drifts.data.toList.drop 95 = dktX3_drifts_4 := dk_seg dksX3_drifts_3 24 rfl rfl
theorem dX3_drifts_0 : decode cX3_drifts 0 = .ok (.iconst 0, 1) := dk_3 (dk_at dksX3_drifts_0 0 rfl rfl)
theorem dX3_drifts_1 : decode cX3_drifts 1 = .ok (.istore_n 1, 1) := dk_60 (dk_at dksX3_drifts_0 1 rfl rfl)
theorem dX3_drifts_2 : decode cX3_drifts 2 = .ok (.iload_n 1, 1) := dk_27 (dk_at dksX3_drifts_0 2 rfl rfl)
theorem dX3_drifts_3 : decode cX3_drifts 3 = .ok (.aload_n 0, 1) := dk_42 (dk_at dksX3_drifts_0 3 rfl rfl)
theorem dX3_drifts_4 : decode cX3_drifts 4 = .ok (.getfield 9, 3) := dk_180 0 9 (dk_at dksX3_drifts_0 4 rfl rfl)
theorem dX3_drifts_7 : decode cX3_drifts 7 = .ok (.iconst 2, 1) := dk_5 (dk_at dksX3_drifts_0 7 rfl rfl)
theorem dX3_drifts_8 : decode cX3_drifts 8 = .ok (.iaload, 1) := dk_46 (dk_at dksX3_drifts_0 8 rfl rfl)
theorem dX3_drifts_9 : decode cX3_drifts 9 = .ok (.if_icmp .ge 93, 3) := dk_162 0 93 (dk_at dksX3_drifts_0 9 rfl rfl)
theorem dX3_drifts_12 : decode cX3_drifts 12 = .ok (.aload_n 0, 1) := dk_42 (dk_at dksX3_drifts_0 12 rfl rfl)
theorem dX3_drifts_13 : decode cX3_drifts 13 = .ok (.aload_n 0, 1) := dk_42 (dk_at dksX3_drifts_0 13 rfl rfl)
theorem dX3_drifts_14 : decode cX3_drifts 14 = .ok (.getfield 13, 3) := dk_180 0 13 (dk_at dksX3_drifts_0 14 rfl rfl)
theorem dX3_drifts_17 : decode cX3_drifts 17 = .ok (.iload_n 1, 1) := dk_27 (dk_at dksX3_drifts_0 17 rfl rfl)
theorem dX3_drifts_18 : decode cX3_drifts 18 = .ok (.iaload, 1) := dk_46 (dk_at dksX3_drifts_0 18 rfl rfl)
theorem dX3_drifts_19 : decode cX3_drifts 19 = .ok (.aload_n 0, 1) := dk_42 (dk_at dksX3_drifts_0 19 rfl rfl)
theorem dX3_drifts_20 : decode cX3_drifts 20 = .ok (.aload_n 0, 1) := dk_42 (dk_at dksX3_drifts_0 20 rfl rfl)
theorem dX3_drifts_21 : decode cX3_drifts 21 = .ok (.getfield 9, 3) := dk_180 0 9 (dk_at dksX3_drifts_0 21 rfl rfl)
theorem dX3_drifts_24 : decode cX3_drifts 24 = .ok (.iconst 4, 1) := dk_7 (dk_at dksX3_drifts_1 0 rfl rfl)
theorem dX3_drifts_25 : decode cX3_drifts 25 = .ok (.iaload, 1) := dk_46 (dk_at dksX3_drifts_1 1 rfl rfl)
theorem dX3_drifts_26 : decode cX3_drifts 26 = .ok (.invokevirtual 353, 3) := dk_182 1 97 (dk_at dksX3_drifts_1 2 rfl rfl)
theorem dX3_drifts_29 : decode cX3_drifts 29 = .ok (.invokevirtual 363, 3) := dk_182 1 107 (dk_at dksX3_drifts_1 5 rfl rfl)
theorem dX3_drifts_32 : decode cX3_drifts 32 = .ok (.istore_n 2, 1) := dk_61 (dk_at dksX3_drifts_1 8 rfl rfl)
theorem dX3_drifts_33 : decode cX3_drifts 33 = .ok (.aload_n 0, 1) := dk_42 (dk_at dksX3_drifts_1 9 rfl rfl)
theorem dX3_drifts_34 : decode cX3_drifts 34 = .ok (.getfield 9, 3) := dk_180 0 9 (dk_at dksX3_drifts_1 10 rfl rfl)
theorem dX3_drifts_37 : decode cX3_drifts 37 = .ok (.iconst 5, 1) := dk_8 (dk_at dksX3_drifts_1 13 rfl rfl)
theorem dX3_drifts_38 : decode cX3_drifts 38 = .ok (.iaload, 1) := dk_46 (dk_at dksX3_drifts_1 14 rfl rfl)
theorem dX3_drifts_39 : decode cX3_drifts 39 = .ok (.iload_n 1, 1) := dk_27 (dk_at dksX3_drifts_1 15 rfl rfl)
theorem dX3_drifts_40 : decode cX3_drifts 40 = .ok (.invokestatic 350, 3) := dk_184 1 94 (dk_at dksX3_drifts_1 16 rfl rfl)
theorem dX3_drifts_43 : decode cX3_drifts 43 = .ok (.ifCond .ne 31, 3) := dk_154 0 31 (dk_at dksX3_drifts_1 19 rfl rfl)
theorem dX3_drifts_46 : decode cX3_drifts 46 = .ok (.aload_n 0, 1) := dk_42 (dk_at dksX3_drifts_1 22 rfl rfl)
theorem dX3_drifts_47 : decode cX3_drifts 47 = .ok (.getfield 16, 3) := dk_180 0 16 (dk_at dksX3_drifts_2 0 rfl rfl)
theorem dX3_drifts_50 : decode cX3_drifts 50 = .ok (.iload_n 1, 1) := dk_27 (dk_at dksX3_drifts_2 3 rfl rfl)
theorem dX3_drifts_51 : decode cX3_drifts 51 = .ok (.iaload, 1) := dk_46 (dk_at dksX3_drifts_2 4 rfl rfl)
theorem dX3_drifts_52 : decode cX3_drifts 52 = .ok (.aload_n 0, 1) := dk_42 (dk_at dksX3_drifts_2 5 rfl rfl)
theorem dX3_drifts_53 : decode cX3_drifts 53 = .ok (.aload_n 0, 1) := dk_42 (dk_at dksX3_drifts_2 6 rfl rfl)
theorem dX3_drifts_54 : decode cX3_drifts 54 = .ok (.getfield 9, 3) := dk_180 0 9 (dk_at dksX3_drifts_2 7 rfl rfl)
theorem dX3_drifts_57 : decode cX3_drifts 57 = .ok (.iconst 4, 1) := dk_7 (dk_at dksX3_drifts_2 10 rfl rfl)
theorem dX3_drifts_58 : decode cX3_drifts 58 = .ok (.iaload, 1) := dk_46 (dk_at dksX3_drifts_2 11 rfl rfl)
theorem dX3_drifts_59 : decode cX3_drifts 59 = .ok (.invokevirtual 356, 3) := dk_182 1 100 (dk_at dksX3_drifts_2 12 rfl rfl)
theorem dX3_drifts_62 : decode cX3_drifts 62 = .ok (.if_icmp .gt 12, 3) := dk_163 0 12 (dk_at dksX3_drifts_2 15 rfl rfl)
theorem dX3_drifts_65 : decode cX3_drifts 65 = .ok (.iload_n 2, 1) := dk_28 (dk_at dksX3_drifts_2 18 rfl rfl)
theorem dX3_drifts_66 : decode cX3_drifts 66 = .ok (.iconst (-1), 1) := dk_2 (dk_at dksX3_drifts_2 19 rfl rfl)
theorem dX3_drifts_67 : decode cX3_drifts 67 = .ok (.if_icmp .eq 7, 3) := dk_159 0 7 (dk_at dksX3_drifts_2 20 rfl rfl)
theorem dX3_drifts_70 : decode cX3_drifts 70 = .ok (.iconst 1, 1) := dk_4 (dk_at dksX3_drifts_2 23 rfl rfl)
theorem dX3_drifts_71 : decode cX3_drifts 71 = .ok (.goto 4, 3) := dk_167 0 4 (dk_at dksX3_drifts_3 0 rfl rfl)
theorem dX3_drifts_74 : decode cX3_drifts 74 = .ok (.iconst 0, 1) := dk_3 (dk_at dksX3_drifts_3 3 rfl rfl)
theorem dX3_drifts_75 : decode cX3_drifts 75 = .ok (.istore_n 3, 1) := dk_62 (dk_at dksX3_drifts_3 4 rfl rfl)
theorem dX3_drifts_76 : decode cX3_drifts 76 = .ok (.aload_n 0, 1) := dk_42 (dk_at dksX3_drifts_3 5 rfl rfl)
theorem dX3_drifts_77 : decode cX3_drifts 77 = .ok (.getfield 13, 3) := dk_180 0 13 (dk_at dksX3_drifts_3 6 rfl rfl)
theorem dX3_drifts_80 : decode cX3_drifts 80 = .ok (.iload_n 1, 1) := dk_27 (dk_at dksX3_drifts_3 9 rfl rfl)
theorem dX3_drifts_81 : decode cX3_drifts 81 = .ok (.iload_n 3, 1) := dk_29 (dk_at dksX3_drifts_3 10 rfl rfl)
theorem dX3_drifts_82 : decode cX3_drifts 82 = .ok (.ifCond .eq 7, 3) := dk_153 0 7 (dk_at dksX3_drifts_3 11 rfl rfl)
theorem dX3_drifts_85 : decode cX3_drifts 85 = .ok (.iload_n 2, 1) := dk_28 (dk_at dksX3_drifts_3 14 rfl rfl)
theorem dX3_drifts_86 : decode cX3_drifts 86 = .ok (.goto 9, 3) := dk_167 0 9 (dk_at dksX3_drifts_3 15 rfl rfl)
theorem dX3_drifts_89 : decode cX3_drifts 89 = .ok (.aload_n 0, 1) := dk_42 (dk_at dksX3_drifts_3 18 rfl rfl)
theorem dX3_drifts_90 : decode cX3_drifts 90 = .ok (.getfield 13, 3) := dk_180 0 13 (dk_at dksX3_drifts_3 19 rfl rfl)
theorem dX3_drifts_93 : decode cX3_drifts 93 = .ok (.iload_n 1, 1) := dk_27 (dk_at dksX3_drifts_3 22 rfl rfl)
theorem dX3_drifts_94 : decode cX3_drifts 94 = .ok (.iaload, 1) := dk_46 (dk_at dksX3_drifts_3 23 rfl rfl)
theorem dX3_drifts_95 : decode cX3_drifts 95 = .ok (.iastore, 1) := dk_79 (dk_at dksX3_drifts_4 0 rfl rfl)
theorem dX3_drifts_96 : decode cX3_drifts 96 = .ok (.iinc 1 1, 3) := dk_132 1 1 (dk_at dksX3_drifts_4 1 rfl rfl)
theorem dX3_drifts_99 : decode cX3_drifts 99 = .ok (.goto (-97), 3) := dk_167 255 159 (dk_at dksX3_drifts_4 4 rfl rfl)
theorem dX3_drifts_102 : decode cX3_drifts 102 = .ok (.return_, 1) := dk_177 (dk_at dksX3_drifts_4 7 rfl rfl)
abbrev cX3_beside : ByteArray := prog_17_method_57_code
def yX3_beside : MethodName := ⟨RX3, "beside", "(II)I"⟩
def dkwX3_beside_3 : List UInt8 := [21, 5, 29, 160, 0, 7, 2, 167, 0, 10, 29, 21, 4, 104, 21, 5, 96, 172]
abbrev dktX3_beside_3 : List UInt8 := dkwX3_beside_3 ++ []
def dkwX3_beside_2 : List UInt8 := [2, 167, 0, 4, 3, 96, 54, 5, 21, 4, 155, 0, 20, 21, 5, 155, 0, 15, 21, 4, 29, 159, 0, 9]
abbrev dktX3_beside_2 : List UInt8 := dkwX3_beside_2 ++ dktX3_beside_3
def dkwX3_beside_1 : List UInt8 := [167, 0, 4, 3, 96, 54, 4, 27, 29, 112, 28, 4, 160, 0, 7, 4, 167, 0, 13, 28, 6, 160, 0, 7]
abbrev dktX3_beside_1 : List UInt8 := dkwX3_beside_1 ++ dktX3_beside_2
def dkwX3_beside_0 : List UInt8 := [42, 180, 0, 9, 3, 46, 62, 27, 29, 108, 28, 154, 0, 7, 2, 167, 0, 13, 28, 5, 160, 0, 7, 4]
abbrev dktX3_beside_0 : List UInt8 := dkwX3_beside_0 ++ dktX3_beside_1
theorem dksX3_beside_0 : cX3_beside.data.toList.drop 0 = dktX3_beside_0 := by decide +kernel
theorem dksX3_beside_1 : cX3_beside.data.toList.drop 24 = dktX3_beside_1 := dk_seg dksX3_beside_0 24 rfl rfl
theorem dksX3_beside_2 : cX3_beside.data.toList.drop 48 = dktX3_beside_2 := dk_seg dksX3_beside_1 24 rfl rfl
theorem dksX3_beside_3 : cX3_beside.data.toList.drop 72 = dktX3_beside_3 := dk_seg dksX3_beside_2 24 rfl rfl
theorem dX3_beside_0 : decode cX3_beside 0 = .ok (.aload_n 0, 1) := dk_42 (dk_at dksX3_beside_0 0 rfl rfl)
theorem dX3_beside_1 : decode cX3_beside 1 = .ok (.getfield 9, 3) := dk_180 0 9 (dk_at dksX3_beside_0 1 rfl rfl)
theorem dX3_beside_4 : decode cX3_beside 4 = .ok (.iconst 0, 1) := dk_3 (dk_at dksX3_beside_0 4 rfl rfl)
theorem dX3_beside_5 : decode cX3_beside 5 = .ok (.iaload, 1) := dk_46 (dk_at dksX3_beside_0 5 rfl rfl)
theorem dX3_beside_6 : decode cX3_beside 6 = .ok (.istore_n 3, 1) := dk_62 (dk_at dksX3_beside_0 6 rfl rfl)
theorem dX3_beside_7 : decode cX3_beside 7 = .ok (.iload_n 1, 1) := dk_27 (dk_at dksX3_beside_0 7 rfl rfl)
theorem dX3_beside_8 : decode cX3_beside 8 = .ok (.iload_n 3, 1) := dk_29 (dk_at dksX3_beside_0 8 rfl rfl)
theorem dX3_beside_9 : decode cX3_beside 9 = .ok (.idiv, 1) := dk_108 (dk_at dksX3_beside_0 9 rfl rfl)
theorem dX3_beside_10 : decode cX3_beside 10 = .ok (.iload_n 2, 1) := dk_28 (dk_at dksX3_beside_0 10 rfl rfl)
theorem dX3_beside_11 : decode cX3_beside 11 = .ok (.ifCond .ne 7, 3) := dk_154 0 7 (dk_at dksX3_beside_0 11 rfl rfl)
theorem dX3_beside_14 : decode cX3_beside 14 = .ok (.iconst (-1), 1) := dk_2 (dk_at dksX3_beside_0 14 rfl rfl)
theorem dX3_beside_15 : decode cX3_beside 15 = .ok (.goto 13, 3) := dk_167 0 13 (dk_at dksX3_beside_0 15 rfl rfl)
theorem dX3_beside_18 : decode cX3_beside 18 = .ok (.iload_n 2, 1) := dk_28 (dk_at dksX3_beside_0 18 rfl rfl)
theorem dX3_beside_19 : decode cX3_beside 19 = .ok (.iconst 2, 1) := dk_5 (dk_at dksX3_beside_0 19 rfl rfl)
theorem dX3_beside_20 : decode cX3_beside 20 = .ok (.if_icmp .ne 7, 3) := dk_160 0 7 (dk_at dksX3_beside_0 20 rfl rfl)
theorem dX3_beside_23 : decode cX3_beside 23 = .ok (.iconst 1, 1) := dk_4 (dk_at dksX3_beside_0 23 rfl rfl)
theorem dX3_beside_24 : decode cX3_beside 24 = .ok (.goto 4, 3) := dk_167 0 4 (dk_at dksX3_beside_1 0 rfl rfl)
theorem dX3_beside_27 : decode cX3_beside 27 = .ok (.iconst 0, 1) := dk_3 (dk_at dksX3_beside_1 3 rfl rfl)
theorem dX3_beside_28 : decode cX3_beside 28 = .ok (.iadd, 1) := dk_96 (dk_at dksX3_beside_1 4 rfl rfl)
theorem dX3_beside_29 : decode cX3_beside 29 = .ok (.istore 4, 2) := dk_54 4 (dk_at dksX3_beside_1 5 rfl rfl)
theorem dX3_beside_31 : decode cX3_beside 31 = .ok (.iload_n 1, 1) := dk_27 (dk_at dksX3_beside_1 7 rfl rfl)
theorem dX3_beside_32 : decode cX3_beside 32 = .ok (.iload_n 3, 1) := dk_29 (dk_at dksX3_beside_1 8 rfl rfl)
theorem dX3_beside_33 : decode cX3_beside 33 = .ok (.irem, 1) := dk_112 (dk_at dksX3_beside_1 9 rfl rfl)
theorem dX3_beside_34 : decode cX3_beside 34 = .ok (.iload_n 2, 1) := dk_28 (dk_at dksX3_beside_1 10 rfl rfl)
theorem dX3_beside_35 : decode cX3_beside 35 = .ok (.iconst 1, 1) := dk_4 (dk_at dksX3_beside_1 11 rfl rfl)
theorem dX3_beside_36 : decode cX3_beside 36 = .ok (.if_icmp .ne 7, 3) := dk_160 0 7 (dk_at dksX3_beside_1 12 rfl rfl)
theorem dX3_beside_39 : decode cX3_beside 39 = .ok (.iconst 1, 1) := dk_4 (dk_at dksX3_beside_1 15 rfl rfl)
theorem dX3_beside_40 : decode cX3_beside 40 = .ok (.goto 13, 3) := dk_167 0 13 (dk_at dksX3_beside_1 16 rfl rfl)
theorem dX3_beside_43 : decode cX3_beside 43 = .ok (.iload_n 2, 1) := dk_28 (dk_at dksX3_beside_1 19 rfl rfl)
theorem dX3_beside_44 : decode cX3_beside 44 = .ok (.iconst 3, 1) := dk_6 (dk_at dksX3_beside_1 20 rfl rfl)
theorem dX3_beside_45 : decode cX3_beside 45 = .ok (.if_icmp .ne 7, 3) := dk_160 0 7 (dk_at dksX3_beside_1 21 rfl rfl)
theorem dX3_beside_48 : decode cX3_beside 48 = .ok (.iconst (-1), 1) := dk_2 (dk_at dksX3_beside_2 0 rfl rfl)
theorem dX3_beside_49 : decode cX3_beside 49 = .ok (.goto 4, 3) := dk_167 0 4 (dk_at dksX3_beside_2 1 rfl rfl)
theorem dX3_beside_52 : decode cX3_beside 52 = .ok (.iconst 0, 1) := dk_3 (dk_at dksX3_beside_2 4 rfl rfl)
theorem dX3_beside_53 : decode cX3_beside 53 = .ok (.iadd, 1) := dk_96 (dk_at dksX3_beside_2 5 rfl rfl)
theorem dX3_beside_54 : decode cX3_beside 54 = .ok (.istore 5, 2) := dk_54 5 (dk_at dksX3_beside_2 6 rfl rfl)
theorem dX3_beside_56 : decode cX3_beside 56 = .ok (.iload 4, 2) := dk_21 4 (dk_at dksX3_beside_2 8 rfl rfl)
theorem dX3_beside_58 : decode cX3_beside 58 = .ok (.ifCond .lt 20, 3) := dk_155 0 20 (dk_at dksX3_beside_2 10 rfl rfl)
theorem dX3_beside_61 : decode cX3_beside 61 = .ok (.iload 5, 2) := dk_21 5 (dk_at dksX3_beside_2 13 rfl rfl)
theorem dX3_beside_63 : decode cX3_beside 63 = .ok (.ifCond .lt 15, 3) := dk_155 0 15 (dk_at dksX3_beside_2 15 rfl rfl)
theorem dX3_beside_66 : decode cX3_beside 66 = .ok (.iload 4, 2) := dk_21 4 (dk_at dksX3_beside_2 18 rfl rfl)
theorem dX3_beside_68 : decode cX3_beside 68 = .ok (.iload_n 3, 1) := dk_29 (dk_at dksX3_beside_2 20 rfl rfl)
theorem dX3_beside_69 : decode cX3_beside 69 = .ok (.if_icmp .eq 9, 3) := dk_159 0 9 (dk_at dksX3_beside_2 21 rfl rfl)
theorem dX3_beside_72 : decode cX3_beside 72 = .ok (.iload 5, 2) := dk_21 5 (dk_at dksX3_beside_3 0 rfl rfl)
theorem dX3_beside_74 : decode cX3_beside 74 = .ok (.iload_n 3, 1) := dk_29 (dk_at dksX3_beside_3 2 rfl rfl)
theorem dX3_beside_75 : decode cX3_beside 75 = .ok (.if_icmp .ne 7, 3) := dk_160 0 7 (dk_at dksX3_beside_3 3 rfl rfl)
theorem dX3_beside_78 : decode cX3_beside 78 = .ok (.iconst (-1), 1) := dk_2 (dk_at dksX3_beside_3 6 rfl rfl)
theorem dX3_beside_79 : decode cX3_beside 79 = .ok (.goto 10, 3) := dk_167 0 10 (dk_at dksX3_beside_3 7 rfl rfl)
theorem dX3_beside_82 : decode cX3_beside 82 = .ok (.iload_n 3, 1) := dk_29 (dk_at dksX3_beside_3 10 rfl rfl)
theorem dX3_beside_83 : decode cX3_beside 83 = .ok (.iload 4, 2) := dk_21 4 (dk_at dksX3_beside_3 11 rfl rfl)
theorem dX3_beside_85 : decode cX3_beside 85 = .ok (.imul, 1) := dk_104 (dk_at dksX3_beside_3 13 rfl rfl)
theorem dX3_beside_86 : decode cX3_beside 86 = .ok (.iload 5, 2) := dk_21 5 (dk_at dksX3_beside_3 14 rfl rfl)
theorem dX3_beside_88 : decode cX3_beside 88 = .ok (.iadd, 1) := dk_96 (dk_at dksX3_beside_3 16 rfl rfl)
theorem dX3_beside_89 : decode cX3_beside 89 = .ok (.ireturn, 1) := dk_172 (dk_at dksX3_beside_3 17 rfl rfl)
abbrev cX3_strikes : ByteArray := prog_17_method_61_code
def yX3_strikes : MethodName := ⟨RX3, "strikes", "(I)V"⟩
def dkwX3_strikes_4 : List UInt8 := [164, 0, 7, 4, 167, 0, 4, 3, 96, 79, 132, 2, 1, 167, 255, 153, 177]
abbrev dktX3_strikes_4 : List UInt8 := dkwX3_strikes_4 ++ []
def dkwX3_strikes_3 : List UInt8 := [160, 0, 8, 21, 4, 167, 0, 4, 2, 182, 1, 110, 42, 180, 0, 9, 16, 6, 92, 46, 29, 4]
abbrev dktX3_strikes_3 : List UInt8 := dkwX3_strikes_3 ++ dktX3_strikes_4
def dkwX3_strikes_2 : List UInt8 := [160, 0, 10, 132, 3, 1, 21, 5, 54, 4, 132, 5, 1, 167, 255, 215, 29, 158, 0, 39, 42, 28, 29, 4]
abbrev dktX3_strikes_2 : List UInt8 := dkwX3_strikes_2 ++ dktX3_strikes_3
def dkwX3_strikes_1 : List UInt8 := [5, 46, 162, 0, 36, 27, 21, 5, 184, 1, 94, 153, 0, 21, 42, 180, 0, 13, 21, 5, 46, 28]
abbrev dktX3_strikes_1 : List UInt8 := dkwX3_strikes_1 ++ dktX3_strikes_2
def dkwX3_strikes_0 : List UInt8 := [3, 61, 28, 42, 182, 0, 134, 162, 0, 101, 3, 62, 2, 54, 4, 3, 54, 5, 21, 5, 42, 180, 0, 9]
abbrev dktX3_strikes_0 : List UInt8 := dkwX3_strikes_0 ++ dktX3_strikes_1
theorem dksX3_strikes_0 : cX3_strikes.data.toList.drop 0 = dktX3_strikes_0 := by decide +kernel
theorem dksX3_strikes_1 : cX3_strikes.data.toList.drop 24 = dktX3_strikes_1 := dk_seg dksX3_strikes_0 24 rfl rfl
theorem dksX3_strikes_2 : cX3_strikes.data.toList.drop 46 = dktX3_strikes_2 := dk_seg dksX3_strikes_1 22 rfl rfl
theorem dksX3_strikes_3 : cX3_strikes.data.toList.drop 70 = dktX3_strikes_3 := dk_seg dksX3_strikes_2 24 rfl rfl
theorem dksX3_strikes_4 : cX3_strikes.data.toList.drop 92 = dktX3_strikes_4 := dk_seg dksX3_strikes_3 22 rfl rfl
theorem dX3_strikes_0 : decode cX3_strikes 0 = .ok (.iconst 0, 1) := dk_3 (dk_at dksX3_strikes_0 0 rfl rfl)
theorem dX3_strikes_1 : decode cX3_strikes 1 = .ok (.istore_n 2, 1) := dk_61 (dk_at dksX3_strikes_0 1 rfl rfl)
theorem dX3_strikes_2 : decode cX3_strikes 2 = .ok (.iload_n 2, 1) := dk_28 (dk_at dksX3_strikes_0 2 rfl rfl)
theorem dX3_strikes_3 : decode cX3_strikes 3 = .ok (.aload_n 0, 1) := dk_42 (dk_at dksX3_strikes_0 3 rfl rfl)
theorem dX3_strikes_4 : decode cX3_strikes 4 = .ok (.invokevirtual 134, 3) := dk_182 0 134 (dk_at dksX3_strikes_0 4 rfl rfl)
theorem dX3_strikes_7 : decode cX3_strikes 7 = .ok (.if_icmp .ge 101, 3) := dk_162 0 101 (dk_at dksX3_strikes_0 7 rfl rfl)
theorem dX3_strikes_10 : decode cX3_strikes 10 = .ok (.iconst 0, 1) := dk_3 (dk_at dksX3_strikes_0 10 rfl rfl)
theorem dX3_strikes_11 : decode cX3_strikes 11 = .ok (.istore_n 3, 1) := dk_62 (dk_at dksX3_strikes_0 11 rfl rfl)
theorem dX3_strikes_12 : decode cX3_strikes 12 = .ok (.iconst (-1), 1) := dk_2 (dk_at dksX3_strikes_0 12 rfl rfl)
theorem dX3_strikes_13 : decode cX3_strikes 13 = .ok (.istore 4, 2) := dk_54 4 (dk_at dksX3_strikes_0 13 rfl rfl)
theorem dX3_strikes_15 : decode cX3_strikes 15 = .ok (.iconst 0, 1) := dk_3 (dk_at dksX3_strikes_0 15 rfl rfl)
theorem dX3_strikes_16 : decode cX3_strikes 16 = .ok (.istore 5, 2) := dk_54 5 (dk_at dksX3_strikes_0 16 rfl rfl)
theorem dX3_strikes_18 : decode cX3_strikes 18 = .ok (.iload 5, 2) := dk_21 5 (dk_at dksX3_strikes_0 18 rfl rfl)
theorem dX3_strikes_20 : decode cX3_strikes 20 = .ok (.aload_n 0, 1) := dk_42 (dk_at dksX3_strikes_0 20 rfl rfl)
theorem dX3_strikes_21 : decode cX3_strikes 21 = .ok (.getfield 9, 3) := dk_180 0 9 (dk_at dksX3_strikes_0 21 rfl rfl)
theorem dX3_strikes_24 : decode cX3_strikes 24 = .ok (.iconst 2, 1) := dk_5 (dk_at dksX3_strikes_1 0 rfl rfl)
theorem dX3_strikes_25 : decode cX3_strikes 25 = .ok (.iaload, 1) := dk_46 (dk_at dksX3_strikes_1 1 rfl rfl)
theorem dX3_strikes_26 : decode cX3_strikes 26 = .ok (.if_icmp .ge 36, 3) := dk_162 0 36 (dk_at dksX3_strikes_1 2 rfl rfl)
theorem dX3_strikes_29 : decode cX3_strikes 29 = .ok (.iload_n 1, 1) := dk_27 (dk_at dksX3_strikes_1 5 rfl rfl)
theorem dX3_strikes_30 : decode cX3_strikes 30 = .ok (.iload 5, 2) := dk_21 5 (dk_at dksX3_strikes_1 6 rfl rfl)
theorem dX3_strikes_32 : decode cX3_strikes 32 = .ok (.invokestatic 350, 3) := dk_184 1 94 (dk_at dksX3_strikes_1 8 rfl rfl)
theorem dX3_strikes_35 : decode cX3_strikes 35 = .ok (.ifCond .eq 21, 3) := dk_153 0 21 (dk_at dksX3_strikes_1 11 rfl rfl)
theorem dX3_strikes_38 : decode cX3_strikes 38 = .ok (.aload_n 0, 1) := dk_42 (dk_at dksX3_strikes_1 14 rfl rfl)
theorem dX3_strikes_39 : decode cX3_strikes 39 = .ok (.getfield 13, 3) := dk_180 0 13 (dk_at dksX3_strikes_1 15 rfl rfl)
theorem dX3_strikes_42 : decode cX3_strikes 42 = .ok (.iload 5, 2) := dk_21 5 (dk_at dksX3_strikes_1 18 rfl rfl)
theorem dX3_strikes_44 : decode cX3_strikes 44 = .ok (.iaload, 1) := dk_46 (dk_at dksX3_strikes_1 20 rfl rfl)
theorem dX3_strikes_45 : decode cX3_strikes 45 = .ok (.iload_n 2, 1) := dk_28 (dk_at dksX3_strikes_1 21 rfl rfl)
theorem dX3_strikes_46 : decode cX3_strikes 46 = .ok (.if_icmp .ne 10, 3) := dk_160 0 10 (dk_at dksX3_strikes_2 0 rfl rfl)
theorem dX3_strikes_49 : decode cX3_strikes 49 = .ok (.iinc 3 1, 3) := dk_132 3 1 (dk_at dksX3_strikes_2 3 rfl rfl)
theorem dX3_strikes_52 : decode cX3_strikes 52 = .ok (.iload 5, 2) := dk_21 5 (dk_at dksX3_strikes_2 6 rfl rfl)
theorem dX3_strikes_54 : decode cX3_strikes 54 = .ok (.istore 4, 2) := dk_54 4 (dk_at dksX3_strikes_2 8 rfl rfl)
theorem dX3_strikes_56 : decode cX3_strikes 56 = .ok (.iinc 5 1, 3) := dk_132 5 1 (dk_at dksX3_strikes_2 10 rfl rfl)
theorem dX3_strikes_59 : decode cX3_strikes 59 = .ok (.goto (-41), 3) := dk_167 255 215 (dk_at dksX3_strikes_2 13 rfl rfl)
theorem dX3_strikes_62 : decode cX3_strikes 62 = .ok (.iload_n 3, 1) := dk_29 (dk_at dksX3_strikes_2 16 rfl rfl)
theorem dX3_strikes_63 : decode cX3_strikes 63 = .ok (.ifCond .le 39, 3) := dk_158 0 39 (dk_at dksX3_strikes_2 17 rfl rfl)
theorem dX3_strikes_66 : decode cX3_strikes 66 = .ok (.aload_n 0, 1) := dk_42 (dk_at dksX3_strikes_2 20 rfl rfl)
theorem dX3_strikes_67 : decode cX3_strikes 67 = .ok (.iload_n 2, 1) := dk_28 (dk_at dksX3_strikes_2 21 rfl rfl)
theorem dX3_strikes_68 : decode cX3_strikes 68 = .ok (.iload_n 3, 1) := dk_29 (dk_at dksX3_strikes_2 22 rfl rfl)
theorem dX3_strikes_69 : decode cX3_strikes 69 = .ok (.iconst 1, 1) := dk_4 (dk_at dksX3_strikes_2 23 rfl rfl)
theorem dX3_strikes_70 : decode cX3_strikes 70 = .ok (.if_icmp .ne 8, 3) := dk_160 0 8 (dk_at dksX3_strikes_3 0 rfl rfl)
theorem dX3_strikes_73 : decode cX3_strikes 73 = .ok (.iload 4, 2) := dk_21 4 (dk_at dksX3_strikes_3 3 rfl rfl)
theorem dX3_strikes_75 : decode cX3_strikes 75 = .ok (.goto 4, 3) := dk_167 0 4 (dk_at dksX3_strikes_3 5 rfl rfl)
theorem dX3_strikes_78 : decode cX3_strikes 78 = .ok (.iconst (-1), 1) := dk_2 (dk_at dksX3_strikes_3 8 rfl rfl)
theorem dX3_strikes_79 : decode cX3_strikes 79 = .ok (.invokevirtual 366, 3) := dk_182 1 110 (dk_at dksX3_strikes_3 9 rfl rfl)
theorem dX3_strikes_82 : decode cX3_strikes 82 = .ok (.aload_n 0, 1) := dk_42 (dk_at dksX3_strikes_3 12 rfl rfl)
theorem dX3_strikes_83 : decode cX3_strikes 83 = .ok (.getfield 9, 3) := dk_180 0 9 (dk_at dksX3_strikes_3 13 rfl rfl)
theorem dX3_strikes_86 : decode cX3_strikes 86 = .ok (.bipush 6, 2) := dk_16 6 (dk_at dksX3_strikes_3 16 rfl rfl)
theorem dX3_strikes_88 : decode cX3_strikes 88 = .ok (.dup2, 1) := dk_92 (dk_at dksX3_strikes_3 18 rfl rfl)
theorem dX3_strikes_89 : decode cX3_strikes 89 = .ok (.iaload, 1) := dk_46 (dk_at dksX3_strikes_3 19 rfl rfl)
theorem dX3_strikes_90 : decode cX3_strikes 90 = .ok (.iload_n 3, 1) := dk_29 (dk_at dksX3_strikes_3 20 rfl rfl)
theorem dX3_strikes_91 : decode cX3_strikes 91 = .ok (.iconst 1, 1) := dk_4 (dk_at dksX3_strikes_3 21 rfl rfl)
theorem dX3_strikes_92 : decode cX3_strikes 92 = .ok (.if_icmp .le 7, 3) := dk_164 0 7 (dk_at dksX3_strikes_4 0 rfl rfl)
theorem dX3_strikes_95 : decode cX3_strikes 95 = .ok (.iconst 1, 1) := dk_4 (dk_at dksX3_strikes_4 3 rfl rfl)
theorem dX3_strikes_96 : decode cX3_strikes 96 = .ok (.goto 4, 3) := dk_167 0 4 (dk_at dksX3_strikes_4 4 rfl rfl)
theorem dX3_strikes_99 : decode cX3_strikes 99 = .ok (.iconst 0, 1) := dk_3 (dk_at dksX3_strikes_4 7 rfl rfl)
theorem dX3_strikes_100 : decode cX3_strikes 100 = .ok (.iadd, 1) := dk_96 (dk_at dksX3_strikes_4 8 rfl rfl)
theorem dX3_strikes_101 : decode cX3_strikes 101 = .ok (.iastore, 1) := dk_79 (dk_at dksX3_strikes_4 9 rfl rfl)
theorem dX3_strikes_102 : decode cX3_strikes 102 = .ok (.iinc 2 1, 3) := dk_132 2 1 (dk_at dksX3_strikes_4 10 rfl rfl)
theorem dX3_strikes_105 : decode cX3_strikes 105 = .ok (.goto (-103), 3) := dk_167 255 153 (dk_at dksX3_strikes_4 13 rfl rfl)
theorem dX3_strikes_108 : decode cX3_strikes 108 = .ok (.return_, 1) := dk_177 (dk_at dksX3_strikes_4 16 rfl rfl)
abbrev cX3_lays : ByteArray := prog_17_method_59_code
def yX3_lays : MethodName := ⟨RX3, "lays", "(II)V"⟩
def dkwX3_lays_1 : List UInt8 := [180, 0, 9, 7, 46, 79, 177]
abbrev dktX3_lays_1 : List UInt8 := dkwX3_lays_1 ++ []
def dkwX3_lays_0 : List UInt8 := [42, 180, 0, 19, 27, 28, 79, 42, 180, 0, 22, 27, 28, 2, 160, 0, 7, 2, 167, 0, 9, 42]
abbrev dktX3_lays_0 : List UInt8 := dkwX3_lays_0 ++ dktX3_lays_1
theorem dksX3_lays_0 : cX3_lays.data.toList.drop 0 = dktX3_lays_0 := by decide +kernel
theorem dksX3_lays_1 : cX3_lays.data.toList.drop 22 = dktX3_lays_1 := dk_seg dksX3_lays_0 22 rfl rfl
theorem dX3_lays_0 : decode cX3_lays 0 = .ok (.aload_n 0, 1) := dk_42 (dk_at dksX3_lays_0 0 rfl rfl)
theorem dX3_lays_1 : decode cX3_lays 1 = .ok (.getfield 19, 3) := dk_180 0 19 (dk_at dksX3_lays_0 1 rfl rfl)
theorem dX3_lays_4 : decode cX3_lays 4 = .ok (.iload_n 1, 1) := dk_27 (dk_at dksX3_lays_0 4 rfl rfl)
theorem dX3_lays_5 : decode cX3_lays 5 = .ok (.iload_n 2, 1) := dk_28 (dk_at dksX3_lays_0 5 rfl rfl)
theorem dX3_lays_6 : decode cX3_lays 6 = .ok (.iastore, 1) := dk_79 (dk_at dksX3_lays_0 6 rfl rfl)
theorem dX3_lays_7 : decode cX3_lays 7 = .ok (.aload_n 0, 1) := dk_42 (dk_at dksX3_lays_0 7 rfl rfl)
theorem dX3_lays_8 : decode cX3_lays 8 = .ok (.getfield 22, 3) := dk_180 0 22 (dk_at dksX3_lays_0 8 rfl rfl)
theorem dX3_lays_11 : decode cX3_lays 11 = .ok (.iload_n 1, 1) := dk_27 (dk_at dksX3_lays_0 11 rfl rfl)
theorem dX3_lays_12 : decode cX3_lays 12 = .ok (.iload_n 2, 1) := dk_28 (dk_at dksX3_lays_0 12 rfl rfl)
theorem dX3_lays_13 : decode cX3_lays 13 = .ok (.iconst (-1), 1) := dk_2 (dk_at dksX3_lays_0 13 rfl rfl)
theorem dX3_lays_14 : decode cX3_lays 14 = .ok (.if_icmp .ne 7, 3) := dk_160 0 7 (dk_at dksX3_lays_0 14 rfl rfl)
theorem dX3_lays_17 : decode cX3_lays 17 = .ok (.iconst (-1), 1) := dk_2 (dk_at dksX3_lays_0 17 rfl rfl)
theorem dX3_lays_18 : decode cX3_lays 18 = .ok (.goto 9, 3) := dk_167 0 9 (dk_at dksX3_lays_0 18 rfl rfl)
theorem dX3_lays_21 : decode cX3_lays 21 = .ok (.aload_n 0, 1) := dk_42 (dk_at dksX3_lays_0 21 rfl rfl)
theorem dX3_lays_22 : decode cX3_lays 22 = .ok (.getfield 9, 3) := dk_180 0 9 (dk_at dksX3_lays_1 0 rfl rfl)
theorem dX3_lays_25 : decode cX3_lays 25 = .ok (.iconst 4, 1) := dk_7 (dk_at dksX3_lays_1 3 rfl rfl)
theorem dX3_lays_26 : decode cX3_lays 26 = .ok (.iaload, 1) := dk_46 (dk_at dksX3_lays_1 4 rfl rfl)
theorem dX3_lays_27 : decode cX3_lays 27 = .ok (.iastore, 1) := dk_79 (dk_at dksX3_lays_1 5 rfl rfl)
theorem dX3_lays_28 : decode cX3_lays 28 = .ok (.return_, 1) := dk_177 (dk_at dksX3_lays_1 6 rfl rfl)
abbrev cX3_fades : ByteArray := prog_17_method_62_code
def yX3_fades : MethodName := ⟨RX3, "fades", "()V"⟩
def dkwX3_fades_2 : List UInt8 := [132, 1, 1, 167, 255, 207, 177]
abbrev dktX3_fades_2 : List UInt8 := dkwX3_fades_2 ++ []
def dkwX3_fades_1 : List UInt8 := [7, 46, 42, 180, 0, 22, 27, 46, 100, 42, 180, 0, 9, 4, 46, 164, 0, 9, 42, 27, 2, 182, 1, 110]
abbrev dktX3_fades_1 : List UInt8 := dkwX3_fades_1 ++ dktX3_fades_2
def dkwX3_fades_0 : List UInt8 := [3, 60, 27, 42, 182, 0, 134, 162, 0, 47, 42, 180, 0, 19, 27, 46, 2, 159, 0, 31, 42, 180, 0, 9]
abbrev dktX3_fades_0 : List UInt8 := dkwX3_fades_0 ++ dktX3_fades_1
theorem dksX3_fades_0 : cX3_fades.data.toList.drop 0 = dktX3_fades_0 := by decide +kernel
theorem dksX3_fades_1 : cX3_fades.data.toList.drop 24 = dktX3_fades_1 := dk_seg dksX3_fades_0 24 rfl rfl
theorem dksX3_fades_2 : cX3_fades.data.toList.drop 48 = dktX3_fades_2 := dk_seg dksX3_fades_1 24 rfl rfl
theorem dX3_fades_0 : decode cX3_fades 0 = .ok (.iconst 0, 1) := dk_3 (dk_at dksX3_fades_0 0 rfl rfl)
theorem dX3_fades_1 : decode cX3_fades 1 = .ok (.istore_n 1, 1) := dk_60 (dk_at dksX3_fades_0 1 rfl rfl)
theorem dX3_fades_2 : decode cX3_fades 2 = .ok (.iload_n 1, 1) := dk_27 (dk_at dksX3_fades_0 2 rfl rfl)
theorem dX3_fades_3 : decode cX3_fades 3 = .ok (.aload_n 0, 1) := dk_42 (dk_at dksX3_fades_0 3 rfl rfl)
theorem dX3_fades_4 : decode cX3_fades 4 = .ok (.invokevirtual 134, 3) := dk_182 0 134 (dk_at dksX3_fades_0 4 rfl rfl)
theorem dX3_fades_7 : decode cX3_fades 7 = .ok (.if_icmp .ge 47, 3) := dk_162 0 47 (dk_at dksX3_fades_0 7 rfl rfl)
theorem dX3_fades_10 : decode cX3_fades 10 = .ok (.aload_n 0, 1) := dk_42 (dk_at dksX3_fades_0 10 rfl rfl)
theorem dX3_fades_11 : decode cX3_fades 11 = .ok (.getfield 19, 3) := dk_180 0 19 (dk_at dksX3_fades_0 11 rfl rfl)
theorem dX3_fades_14 : decode cX3_fades 14 = .ok (.iload_n 1, 1) := dk_27 (dk_at dksX3_fades_0 14 rfl rfl)
theorem dX3_fades_15 : decode cX3_fades 15 = .ok (.iaload, 1) := dk_46 (dk_at dksX3_fades_0 15 rfl rfl)
theorem dX3_fades_16 : decode cX3_fades 16 = .ok (.iconst (-1), 1) := dk_2 (dk_at dksX3_fades_0 16 rfl rfl)
theorem dX3_fades_17 : decode cX3_fades 17 = .ok (.if_icmp .eq 31, 3) := dk_159 0 31 (dk_at dksX3_fades_0 17 rfl rfl)
theorem dX3_fades_20 : decode cX3_fades 20 = .ok (.aload_n 0, 1) := dk_42 (dk_at dksX3_fades_0 20 rfl rfl)
theorem dX3_fades_21 : decode cX3_fades 21 = .ok (.getfield 9, 3) := dk_180 0 9 (dk_at dksX3_fades_0 21 rfl rfl)
theorem dX3_fades_24 : decode cX3_fades 24 = .ok (.iconst 4, 1) := dk_7 (dk_at dksX3_fades_1 0 rfl rfl)
theorem dX3_fades_25 : decode cX3_fades 25 = .ok (.iaload, 1) := dk_46 (dk_at dksX3_fades_1 1 rfl rfl)
theorem dX3_fades_26 : decode cX3_fades 26 = .ok (.aload_n 0, 1) := dk_42 (dk_at dksX3_fades_1 2 rfl rfl)
theorem dX3_fades_27 : decode cX3_fades 27 = .ok (.getfield 22, 3) := dk_180 0 22 (dk_at dksX3_fades_1 3 rfl rfl)
theorem dX3_fades_30 : decode cX3_fades 30 = .ok (.iload_n 1, 1) := dk_27 (dk_at dksX3_fades_1 6 rfl rfl)
theorem dX3_fades_31 : decode cX3_fades 31 = .ok (.iaload, 1) := dk_46 (dk_at dksX3_fades_1 7 rfl rfl)
theorem dX3_fades_32 : decode cX3_fades 32 = .ok (.isub, 1) := dk_100 (dk_at dksX3_fades_1 8 rfl rfl)
theorem dX3_fades_33 : decode cX3_fades 33 = .ok (.aload_n 0, 1) := dk_42 (dk_at dksX3_fades_1 9 rfl rfl)
theorem dX3_fades_34 : decode cX3_fades 34 = .ok (.getfield 9, 3) := dk_180 0 9 (dk_at dksX3_fades_1 10 rfl rfl)
theorem dX3_fades_37 : decode cX3_fades 37 = .ok (.iconst 1, 1) := dk_4 (dk_at dksX3_fades_1 13 rfl rfl)
theorem dX3_fades_38 : decode cX3_fades 38 = .ok (.iaload, 1) := dk_46 (dk_at dksX3_fades_1 14 rfl rfl)
theorem dX3_fades_39 : decode cX3_fades 39 = .ok (.if_icmp .le 9, 3) := dk_164 0 9 (dk_at dksX3_fades_1 15 rfl rfl)
theorem dX3_fades_42 : decode cX3_fades 42 = .ok (.aload_n 0, 1) := dk_42 (dk_at dksX3_fades_1 18 rfl rfl)
theorem dX3_fades_43 : decode cX3_fades 43 = .ok (.iload_n 1, 1) := dk_27 (dk_at dksX3_fades_1 19 rfl rfl)
theorem dX3_fades_44 : decode cX3_fades 44 = .ok (.iconst (-1), 1) := dk_2 (dk_at dksX3_fades_1 20 rfl rfl)
theorem dX3_fades_45 : decode cX3_fades 45 = .ok (.invokevirtual 366, 3) := dk_182 1 110 (dk_at dksX3_fades_1 21 rfl rfl)
theorem dX3_fades_48 : decode cX3_fades 48 = .ok (.iinc 1 1, 3) := dk_132 1 1 (dk_at dksX3_fades_2 0 rfl rfl)
theorem dX3_fades_51 : decode cX3_fades 51 = .ok (.goto (-49), 3) := dk_167 255 207 (dk_at dksX3_fades_2 3 rfl rfl)
theorem dX3_fades_54 : decode cX3_fades 54 = .ok (.return_, 1) := dk_177 (dk_at dksX3_fades_2 6 rfl rfl)
abbrev cX3_stay : ByteArray := prog_17_method_71_code
def yX3_stay : MethodName := ⟨RX3, "stay", "(I)I"⟩
def dkwX3_stay_1 : List UInt8 := [130, 79, 42, 180, 0, 9, 8, 46, 172]
abbrev dktX3_stay_1 : List UInt8 := dkwX3_stay_1 ++ []
def dkwX3_stay_0 : List UInt8 := [42, 27, 182, 1, 85, 154, 0, 5, 2, 172, 42, 182, 1, 149, 42, 180, 0, 9, 8, 92, 46, 4, 27, 120]
abbrev dktX3_stay_0 : List UInt8 := dkwX3_stay_0 ++ dktX3_stay_1
theorem dksX3_stay_0 : cX3_stay.data.toList.drop 0 = dktX3_stay_0 := by decide +kernel
theorem dksX3_stay_1 : cX3_stay.data.toList.drop 24 = dktX3_stay_1 := dk_seg dksX3_stay_0 24 rfl rfl
theorem dX3_stay_0 : decode cX3_stay 0 = .ok (.aload_n 0, 1) := dk_42 (dk_at dksX3_stay_0 0 rfl rfl)
theorem dX3_stay_1 : decode cX3_stay 1 = .ok (.iload_n 1, 1) := dk_27 (dk_at dksX3_stay_0 1 rfl rfl)
theorem dX3_stay_2 : decode cX3_stay 2 = .ok (.invokevirtual 341, 3) := dk_182 1 85 (dk_at dksX3_stay_0 2 rfl rfl)
theorem dX3_stay_5 : decode cX3_stay 5 = .ok (.ifCond .ne 5, 3) := dk_154 0 5 (dk_at dksX3_stay_0 5 rfl rfl)
theorem dX3_stay_8 : decode cX3_stay 8 = .ok (.iconst (-1), 1) := dk_2 (dk_at dksX3_stay_0 8 rfl rfl)
theorem dX3_stay_9 : decode cX3_stay 9 = .ok (.ireturn, 1) := dk_172 (dk_at dksX3_stay_0 9 rfl rfl)
theorem dX3_stay_10 : decode cX3_stay 10 = .ok (.aload_n 0, 1) := dk_42 (dk_at dksX3_stay_0 10 rfl rfl)
theorem dX3_stay_11 : decode cX3_stay 11 = .ok (.invokevirtual 405, 3) := dk_182 1 149 (dk_at dksX3_stay_0 11 rfl rfl)
theorem dX3_stay_14 : decode cX3_stay 14 = .ok (.aload_n 0, 1) := dk_42 (dk_at dksX3_stay_0 14 rfl rfl)
theorem dX3_stay_15 : decode cX3_stay 15 = .ok (.getfield 9, 3) := dk_180 0 9 (dk_at dksX3_stay_0 15 rfl rfl)
theorem dX3_stay_18 : decode cX3_stay 18 = .ok (.iconst 5, 1) := dk_8 (dk_at dksX3_stay_0 18 rfl rfl)
theorem dX3_stay_19 : decode cX3_stay 19 = .ok (.dup2, 1) := dk_92 (dk_at dksX3_stay_0 19 rfl rfl)
theorem dX3_stay_20 : decode cX3_stay 20 = .ok (.iaload, 1) := dk_46 (dk_at dksX3_stay_0 20 rfl rfl)
theorem dX3_stay_21 : decode cX3_stay 21 = .ok (.iconst 1, 1) := dk_4 (dk_at dksX3_stay_0 21 rfl rfl)
theorem dX3_stay_22 : decode cX3_stay 22 = .ok (.iload_n 1, 1) := dk_27 (dk_at dksX3_stay_0 22 rfl rfl)
theorem dX3_stay_23 : decode cX3_stay 23 = .ok (.ishl, 1) := dk_120 (dk_at dksX3_stay_0 23 rfl rfl)
theorem dX3_stay_24 : decode cX3_stay 24 = .ok (.ixor, 1) := dk_130 (dk_at dksX3_stay_1 0 rfl rfl)
theorem dX3_stay_25 : decode cX3_stay 25 = .ok (.iastore, 1) := dk_79 (dk_at dksX3_stay_1 1 rfl rfl)
theorem dX3_stay_26 : decode cX3_stay 26 = .ok (.aload_n 0, 1) := dk_42 (dk_at dksX3_stay_1 2 rfl rfl)
theorem dX3_stay_27 : decode cX3_stay 27 = .ok (.getfield 9, 3) := dk_180 0 9 (dk_at dksX3_stay_1 3 rfl rfl)
theorem dX3_stay_30 : decode cX3_stay 30 = .ok (.iconst 5, 1) := dk_8 (dk_at dksX3_stay_1 6 rfl rfl)
theorem dX3_stay_31 : decode cX3_stay 31 = .ok (.iaload, 1) := dk_46 (dk_at dksX3_stay_1 7 rfl rfl)
theorem dX3_stay_32 : decode cX3_stay 32 = .ok (.ireturn, 1) := dk_172 (dk_at dksX3_stay_1 8 rfl rfl)
abbrev cX3_set : ByteArray := prog_17_method_72_code
def yX3_set : MethodName := ⟨RX3, "set", "(II)I"⟩
def dkwX3_set_2 : List UInt8 := [172]
abbrev dktX3_set_2 : List UInt8 := dkwX3_set_2 ++ []
def dkwX3_set_1 : List UInt8 := [160, 0, 5, 2, 172, 42, 182, 1, 149, 42, 180, 0, 13, 27, 46, 62, 42, 180, 0, 13, 27, 28, 79, 29]
abbrev dktX3_set_1 : List UInt8 := dkwX3_set_1 ++ dktX3_set_2
def dkwX3_set_0 : List UInt8 := [42, 27, 182, 1, 85, 153, 0, 21, 42, 28, 182, 1, 89, 153, 0, 13, 42, 180, 0, 13, 27, 46, 28]
abbrev dktX3_set_0 : List UInt8 := dkwX3_set_0 ++ dktX3_set_1
theorem dksX3_set_0 : cX3_set.data.toList.drop 0 = dktX3_set_0 := by decide +kernel
theorem dksX3_set_1 : cX3_set.data.toList.drop 23 = dktX3_set_1 := dk_seg dksX3_set_0 23 rfl rfl
theorem dksX3_set_2 : cX3_set.data.toList.drop 47 = dktX3_set_2 := dk_seg dksX3_set_1 24 rfl rfl
theorem dX3_set_0 : decode cX3_set 0 = .ok (.aload_n 0, 1) := dk_42 (dk_at dksX3_set_0 0 rfl rfl)
theorem dX3_set_1 : decode cX3_set 1 = .ok (.iload_n 1, 1) := dk_27 (dk_at dksX3_set_0 1 rfl rfl)
theorem dX3_set_2 : decode cX3_set 2 = .ok (.invokevirtual 341, 3) := dk_182 1 85 (dk_at dksX3_set_0 2 rfl rfl)
theorem dX3_set_5 : decode cX3_set 5 = .ok (.ifCond .eq 21, 3) := dk_153 0 21 (dk_at dksX3_set_0 5 rfl rfl)
theorem dX3_set_8 : decode cX3_set 8 = .ok (.aload_n 0, 1) := dk_42 (dk_at dksX3_set_0 8 rfl rfl)
theorem dX3_set_9 : decode cX3_set 9 = .ok (.iload_n 2, 1) := dk_28 (dk_at dksX3_set_0 9 rfl rfl)
theorem dX3_set_10 : decode cX3_set 10 = .ok (.invokevirtual 345, 3) := dk_182 1 89 (dk_at dksX3_set_0 10 rfl rfl)
theorem dX3_set_13 : decode cX3_set 13 = .ok (.ifCond .eq 13, 3) := dk_153 0 13 (dk_at dksX3_set_0 13 rfl rfl)
theorem dX3_set_16 : decode cX3_set 16 = .ok (.aload_n 0, 1) := dk_42 (dk_at dksX3_set_0 16 rfl rfl)
theorem dX3_set_17 : decode cX3_set 17 = .ok (.getfield 13, 3) := dk_180 0 13 (dk_at dksX3_set_0 17 rfl rfl)
theorem dX3_set_20 : decode cX3_set 20 = .ok (.iload_n 1, 1) := dk_27 (dk_at dksX3_set_0 20 rfl rfl)
theorem dX3_set_21 : decode cX3_set 21 = .ok (.iaload, 1) := dk_46 (dk_at dksX3_set_0 21 rfl rfl)
theorem dX3_set_22 : decode cX3_set 22 = .ok (.iload_n 2, 1) := dk_28 (dk_at dksX3_set_0 22 rfl rfl)
theorem dX3_set_23 : decode cX3_set 23 = .ok (.if_icmp .ne 5, 3) := dk_160 0 5 (dk_at dksX3_set_1 0 rfl rfl)
theorem dX3_set_26 : decode cX3_set 26 = .ok (.iconst (-1), 1) := dk_2 (dk_at dksX3_set_1 3 rfl rfl)
theorem dX3_set_27 : decode cX3_set 27 = .ok (.ireturn, 1) := dk_172 (dk_at dksX3_set_1 4 rfl rfl)
theorem dX3_set_28 : decode cX3_set 28 = .ok (.aload_n 0, 1) := dk_42 (dk_at dksX3_set_1 5 rfl rfl)
theorem dX3_set_29 : decode cX3_set 29 = .ok (.invokevirtual 405, 3) := dk_182 1 149 (dk_at dksX3_set_1 6 rfl rfl)
theorem dX3_set_32 : decode cX3_set 32 = .ok (.aload_n 0, 1) := dk_42 (dk_at dksX3_set_1 9 rfl rfl)
theorem dX3_set_33 : decode cX3_set 33 = .ok (.getfield 13, 3) := dk_180 0 13 (dk_at dksX3_set_1 10 rfl rfl)
theorem dX3_set_36 : decode cX3_set 36 = .ok (.iload_n 1, 1) := dk_27 (dk_at dksX3_set_1 13 rfl rfl)
theorem dX3_set_37 : decode cX3_set 37 = .ok (.iaload, 1) := dk_46 (dk_at dksX3_set_1 14 rfl rfl)
theorem dX3_set_38 : decode cX3_set 38 = .ok (.istore_n 3, 1) := dk_62 (dk_at dksX3_set_1 15 rfl rfl)
theorem dX3_set_39 : decode cX3_set 39 = .ok (.aload_n 0, 1) := dk_42 (dk_at dksX3_set_1 16 rfl rfl)
theorem dX3_set_40 : decode cX3_set 40 = .ok (.getfield 13, 3) := dk_180 0 13 (dk_at dksX3_set_1 17 rfl rfl)
theorem dX3_set_43 : decode cX3_set 43 = .ok (.iload_n 1, 1) := dk_27 (dk_at dksX3_set_1 20 rfl rfl)
theorem dX3_set_44 : decode cX3_set 44 = .ok (.iload_n 2, 1) := dk_28 (dk_at dksX3_set_1 21 rfl rfl)
theorem dX3_set_45 : decode cX3_set 45 = .ok (.iastore, 1) := dk_79 (dk_at dksX3_set_1 22 rfl rfl)
theorem dX3_set_46 : decode cX3_set 46 = .ok (.iload_n 3, 1) := dk_29 (dk_at dksX3_set_1 23 rfl rfl)
theorem dX3_set_47 : decode cX3_set 47 = .ok (.ireturn, 1) := dk_172 (dk_at dksX3_set_2 0 rfl rfl)
abbrev cX3_bend : ByteArray := prog_17_method_73_code
def yX3_bend : MethodName := ⟨RX3, "bend", "(II)I"⟩
def dkwX3_bend_2 : List UInt8 := [28, 79, 29, 172]
abbrev dktX3_bend_2 : List UInt8 := dkwX3_bend_2 ++ []
def dkwX3_bend_1 : List UInt8 := [27, 46, 28, 160, 0, 5, 2, 172, 42, 182, 1, 149, 42, 180, 0, 16, 27, 46, 62, 42, 180, 0, 16, 27]
abbrev dktX3_bend_1 : List UInt8 := dkwX3_bend_1 ++ dktX3_bend_2
def dkwX3_bend_0 : List UInt8 := [42, 27, 182, 1, 85, 153, 0, 25, 28, 133, 9, 20, 1, 152, 184, 0, 138, 153, 0, 13, 42, 180, 0, 16]
abbrev dktX3_bend_0 : List UInt8 := dkwX3_bend_0 ++ dktX3_bend_1
theorem dksX3_bend_0 : cX3_bend.data.toList.drop 0 = dktX3_bend_0 := by decide +kernel
theorem dksX3_bend_1 : cX3_bend.data.toList.drop 24 = dktX3_bend_1 := dk_seg dksX3_bend_0 24 rfl rfl
theorem dksX3_bend_2 : cX3_bend.data.toList.drop 48 = dktX3_bend_2 := dk_seg dksX3_bend_1 24 rfl rfl
theorem dX3_bend_0 : decode cX3_bend 0 = .ok (.aload_n 0, 1) := dk_42 (dk_at dksX3_bend_0 0 rfl rfl)
theorem dX3_bend_1 : decode cX3_bend 1 = .ok (.iload_n 1, 1) := dk_27 (dk_at dksX3_bend_0 1 rfl rfl)
theorem dX3_bend_2 : decode cX3_bend 2 = .ok (.invokevirtual 341, 3) := dk_182 1 85 (dk_at dksX3_bend_0 2 rfl rfl)
theorem dX3_bend_5 : decode cX3_bend 5 = .ok (.ifCond .eq 25, 3) := dk_153 0 25 (dk_at dksX3_bend_0 5 rfl rfl)
theorem dX3_bend_8 : decode cX3_bend 8 = .ok (.iload_n 2, 1) := dk_28 (dk_at dksX3_bend_0 8 rfl rfl)
theorem dX3_bend_9 : decode cX3_bend 9 = .ok (.i2l, 1) := dk_133 (dk_at dksX3_bend_0 9 rfl rfl)
theorem dX3_bend_10 : decode cX3_bend 10 = .ok (.lconst 0, 1) := dk_9 (dk_at dksX3_bend_0 10 rfl rfl)
theorem dX3_bend_11 : decode cX3_bend 11 = .ok (.ldc2_w 408, 3) := dk_20 1 152 (dk_at dksX3_bend_0 11 rfl rfl)
theorem dX3_bend_14 : decode cX3_bend 14 = .ok (.invokestatic 138, 3) := dk_184 0 138 (dk_at dksX3_bend_0 14 rfl rfl)
theorem dX3_bend_17 : decode cX3_bend 17 = .ok (.ifCond .eq 13, 3) := dk_153 0 13 (dk_at dksX3_bend_0 17 rfl rfl)
theorem dX3_bend_20 : decode cX3_bend 20 = .ok (.aload_n 0, 1) := dk_42 (dk_at dksX3_bend_0 20 rfl rfl)
theorem dX3_bend_21 : decode cX3_bend 21 = .ok (.getfield 16, 3) := dk_180 0 16 (dk_at dksX3_bend_0 21 rfl rfl)
theorem dX3_bend_24 : decode cX3_bend 24 = .ok (.iload_n 1, 1) := dk_27 (dk_at dksX3_bend_1 0 rfl rfl)
theorem dX3_bend_25 : decode cX3_bend 25 = .ok (.iaload, 1) := dk_46 (dk_at dksX3_bend_1 1 rfl rfl)
theorem dX3_bend_26 : decode cX3_bend 26 = .ok (.iload_n 2, 1) := dk_28 (dk_at dksX3_bend_1 2 rfl rfl)
theorem dX3_bend_27 : decode cX3_bend 27 = .ok (.if_icmp .ne 5, 3) := dk_160 0 5 (dk_at dksX3_bend_1 3 rfl rfl)
theorem dX3_bend_30 : decode cX3_bend 30 = .ok (.iconst (-1), 1) := dk_2 (dk_at dksX3_bend_1 6 rfl rfl)
theorem dX3_bend_31 : decode cX3_bend 31 = .ok (.ireturn, 1) := dk_172 (dk_at dksX3_bend_1 7 rfl rfl)
theorem dX3_bend_32 : decode cX3_bend 32 = .ok (.aload_n 0, 1) := dk_42 (dk_at dksX3_bend_1 8 rfl rfl)
theorem dX3_bend_33 : decode cX3_bend 33 = .ok (.invokevirtual 405, 3) := dk_182 1 149 (dk_at dksX3_bend_1 9 rfl rfl)
theorem dX3_bend_36 : decode cX3_bend 36 = .ok (.aload_n 0, 1) := dk_42 (dk_at dksX3_bend_1 12 rfl rfl)
theorem dX3_bend_37 : decode cX3_bend 37 = .ok (.getfield 16, 3) := dk_180 0 16 (dk_at dksX3_bend_1 13 rfl rfl)
theorem dX3_bend_40 : decode cX3_bend 40 = .ok (.iload_n 1, 1) := dk_27 (dk_at dksX3_bend_1 16 rfl rfl)
theorem dX3_bend_41 : decode cX3_bend 41 = .ok (.iaload, 1) := dk_46 (dk_at dksX3_bend_1 17 rfl rfl)
theorem dX3_bend_42 : decode cX3_bend 42 = .ok (.istore_n 3, 1) := dk_62 (dk_at dksX3_bend_1 18 rfl rfl)
theorem dX3_bend_43 : decode cX3_bend 43 = .ok (.aload_n 0, 1) := dk_42 (dk_at dksX3_bend_1 19 rfl rfl)
theorem dX3_bend_44 : decode cX3_bend 44 = .ok (.getfield 16, 3) := dk_180 0 16 (dk_at dksX3_bend_1 20 rfl rfl)
theorem dX3_bend_47 : decode cX3_bend 47 = .ok (.iload_n 1, 1) := dk_27 (dk_at dksX3_bend_1 23 rfl rfl)
theorem dX3_bend_48 : decode cX3_bend 48 = .ok (.iload_n 2, 1) := dk_28 (dk_at dksX3_bend_2 0 rfl rfl)
theorem dX3_bend_49 : decode cX3_bend 49 = .ok (.iastore, 1) := dk_79 (dk_at dksX3_bend_2 1 rfl rfl)
theorem dX3_bend_50 : decode cX3_bend 50 = .ok (.iload_n 3, 1) := dk_29 (dk_at dksX3_bend_2 2 rfl rfl)
theorem dX3_bend_51 : decode cX3_bend 51 = .ok (.ireturn, 1) := dk_172 (dk_at dksX3_bend_2 3 rfl rfl)
abbrev cX3_blot : ByteArray := prog_17_method_74_code
def yX3_blot : MethodName := ⟨RX3, "blot", "(I)I"⟩
def dkwX3_blot_1 : List UInt8 := [42, 180, 0, 19, 27, 46, 61, 42, 27, 2, 182, 1, 110, 28, 172]
abbrev dktX3_blot_1 : List UInt8 := dkwX3_blot_1 ++ []
def dkwX3_blot_0 : List UInt8 := [42, 27, 182, 1, 89, 153, 0, 13, 42, 180, 0, 19, 27, 46, 2, 160, 0, 5, 2, 172, 42, 182, 1, 149]
abbrev dktX3_blot_0 : List UInt8 := dkwX3_blot_0 ++ dktX3_blot_1
theorem dksX3_blot_0 : cX3_blot.data.toList.drop 0 = dktX3_blot_0 := by decide +kernel
theorem dksX3_blot_1 : cX3_blot.data.toList.drop 24 = dktX3_blot_1 := dk_seg dksX3_blot_0 24 rfl rfl
theorem dX3_blot_0 : decode cX3_blot 0 = .ok (.aload_n 0, 1) := dk_42 (dk_at dksX3_blot_0 0 rfl rfl)
theorem dX3_blot_1 : decode cX3_blot 1 = .ok (.iload_n 1, 1) := dk_27 (dk_at dksX3_blot_0 1 rfl rfl)
theorem dX3_blot_2 : decode cX3_blot 2 = .ok (.invokevirtual 345, 3) := dk_182 1 89 (dk_at dksX3_blot_0 2 rfl rfl)
theorem dX3_blot_5 : decode cX3_blot 5 = .ok (.ifCond .eq 13, 3) := dk_153 0 13 (dk_at dksX3_blot_0 5 rfl rfl)
theorem dX3_blot_8 : decode cX3_blot 8 = .ok (.aload_n 0, 1) := dk_42 (dk_at dksX3_blot_0 8 rfl rfl)
theorem dX3_blot_9 : decode cX3_blot 9 = .ok (.getfield 19, 3) := dk_180 0 19 (dk_at dksX3_blot_0 9 rfl rfl)
theorem dX3_blot_12 : decode cX3_blot 12 = .ok (.iload_n 1, 1) := dk_27 (dk_at dksX3_blot_0 12 rfl rfl)
theorem dX3_blot_13 : decode cX3_blot 13 = .ok (.iaload, 1) := dk_46 (dk_at dksX3_blot_0 13 rfl rfl)
theorem dX3_blot_14 : decode cX3_blot 14 = .ok (.iconst (-1), 1) := dk_2 (dk_at dksX3_blot_0 14 rfl rfl)
theorem dX3_blot_15 : decode cX3_blot 15 = .ok (.if_icmp .ne 5, 3) := dk_160 0 5 (dk_at dksX3_blot_0 15 rfl rfl)
theorem dX3_blot_18 : decode cX3_blot 18 = .ok (.iconst (-1), 1) := dk_2 (dk_at dksX3_blot_0 18 rfl rfl)
theorem dX3_blot_19 : decode cX3_blot 19 = .ok (.ireturn, 1) := dk_172 (dk_at dksX3_blot_0 19 rfl rfl)
theorem dX3_blot_20 : decode cX3_blot 20 = .ok (.aload_n 0, 1) := dk_42 (dk_at dksX3_blot_0 20 rfl rfl)
theorem dX3_blot_21 : decode cX3_blot 21 = .ok (.invokevirtual 405, 3) := dk_182 1 149 (dk_at dksX3_blot_0 21 rfl rfl)
theorem dX3_blot_24 : decode cX3_blot 24 = .ok (.aload_n 0, 1) := dk_42 (dk_at dksX3_blot_1 0 rfl rfl)
theorem dX3_blot_25 : decode cX3_blot 25 = .ok (.getfield 19, 3) := dk_180 0 19 (dk_at dksX3_blot_1 1 rfl rfl)
theorem dX3_blot_28 : decode cX3_blot 28 = .ok (.iload_n 1, 1) := dk_27 (dk_at dksX3_blot_1 4 rfl rfl)
theorem dX3_blot_29 : decode cX3_blot 29 = .ok (.iaload, 1) := dk_46 (dk_at dksX3_blot_1 5 rfl rfl)
theorem dX3_blot_30 : decode cX3_blot 30 = .ok (.istore_n 2, 1) := dk_61 (dk_at dksX3_blot_1 6 rfl rfl)
theorem dX3_blot_31 : decode cX3_blot 31 = .ok (.aload_n 0, 1) := dk_42 (dk_at dksX3_blot_1 7 rfl rfl)
theorem dX3_blot_32 : decode cX3_blot 32 = .ok (.iload_n 1, 1) := dk_27 (dk_at dksX3_blot_1 8 rfl rfl)
theorem dX3_blot_33 : decode cX3_blot 33 = .ok (.iconst (-1), 1) := dk_2 (dk_at dksX3_blot_1 9 rfl rfl)
theorem dX3_blot_34 : decode cX3_blot 34 = .ok (.invokevirtual 366, 3) := dk_182 1 110 (dk_at dksX3_blot_1 10 rfl rfl)
theorem dX3_blot_37 : decode cX3_blot 37 = .ok (.iload_n 2, 1) := dk_28 (dk_at dksX3_blot_1 13 rfl rfl)
theorem dX3_blot_38 : decode cX3_blot 38 = .ok (.ireturn, 1) := dk_172 (dk_at dksX3_blot_1 14 rfl rfl)
abbrev cX3_ahead : ByteArray := prog_17_method_78_code
def yX3_ahead : MethodName := ⟨RX3, "ahead", "(III)I"⟩
def dkwX3_ahead_5 : List UInt8 := [182, 1, 173, 167, 0, 7, 42, 182, 1, 160, 54, 5, 42, 182, 1, 163, 21, 5, 172]
abbrev dktX3_ahead_5 : List UInt8 := dkwX3_ahead_5 ++ []
def dkwX3_ahead_4 : List UInt8 := [167, 0, 33, 29, 4, 160, 0, 12, 42, 180, 0, 13, 27, 46, 167, 0, 19, 29, 5, 160, 0, 10, 42]
abbrev dktX3_ahead_4 : List UInt8 := dkwX3_ahead_4 ++ dktX3_ahead_5
def dkwX3_ahead_3 : List UInt8 := [16, 254, 172, 42, 182, 1, 170, 42, 28, 182, 1, 157, 29, 154, 0, 12, 42, 180, 0, 19, 27, 46]
abbrev dktX3_ahead_3 : List UInt8 := dkwX3_ahead_3 ++ dktX3_ahead_4
def dkwX3_ahead_2 : List UInt8 := [42, 182, 1, 146, 153, 0, 20, 21, 4, 153, 0, 15, 28, 133, 9, 20, 1, 168, 184, 0, 138, 154, 0, 6]
abbrev dktX3_ahead_2 : List UInt8 := dkwX3_ahead_2 ++ dktX3_ahead_3
def dkwX3_ahead_1 : List UInt8 := [154, 0, 17, 29, 133, 20, 1, 92, 20, 1, 166, 184, 0, 138, 153, 0, 7, 4, 167, 0, 4, 3, 54, 4]
abbrev dktX3_ahead_1 : List UInt8 := dkwX3_ahead_1 ++ dktX3_ahead_2
def dkwX3_ahead_0 : List UInt8 := [29, 154, 0, 11, 42, 27, 182, 1, 89, 154, 0, 30, 29, 4, 160, 0, 11, 42, 27, 182, 1, 85]
abbrev dktX3_ahead_0 : List UInt8 := dkwX3_ahead_0 ++ dktX3_ahead_1
theorem dksX3_ahead_0 : cX3_ahead.data.toList.drop 0 = dktX3_ahead_0 := by decide +kernel
theorem dksX3_ahead_1 : cX3_ahead.data.toList.drop 22 = dktX3_ahead_1 := dk_seg dksX3_ahead_0 22 rfl rfl
theorem dksX3_ahead_2 : cX3_ahead.data.toList.drop 46 = dktX3_ahead_2 := dk_seg dksX3_ahead_1 24 rfl rfl
theorem dksX3_ahead_3 : cX3_ahead.data.toList.drop 70 = dktX3_ahead_3 := dk_seg dksX3_ahead_2 24 rfl rfl
theorem dksX3_ahead_4 : cX3_ahead.data.toList.drop 92 = dktX3_ahead_4 := dk_seg dksX3_ahead_3 22 rfl rfl
theorem dksX3_ahead_5 : cX3_ahead.data.toList.drop 115 = dktX3_ahead_5 := dk_seg dksX3_ahead_4 23 rfl rfl
theorem dX3_ahead_0 : decode cX3_ahead 0 = .ok (.iload_n 3, 1) := dk_29 (dk_at dksX3_ahead_0 0 rfl rfl)
theorem dX3_ahead_1 : decode cX3_ahead 1 = .ok (.ifCond .ne 11, 3) := dk_154 0 11 (dk_at dksX3_ahead_0 1 rfl rfl)
theorem dX3_ahead_4 : decode cX3_ahead 4 = .ok (.aload_n 0, 1) := dk_42 (dk_at dksX3_ahead_0 4 rfl rfl)
theorem dX3_ahead_5 : decode cX3_ahead 5 = .ok (.iload_n 1, 1) := dk_27 (dk_at dksX3_ahead_0 5 rfl rfl)
theorem dX3_ahead_6 : decode cX3_ahead 6 = .ok (.invokevirtual 345, 3) := dk_182 1 89 (dk_at dksX3_ahead_0 6 rfl rfl)
theorem dX3_ahead_9 : decode cX3_ahead 9 = .ok (.ifCond .ne 30, 3) := dk_154 0 30 (dk_at dksX3_ahead_0 9 rfl rfl)
theorem dX3_ahead_12 : decode cX3_ahead 12 = .ok (.iload_n 3, 1) := dk_29 (dk_at dksX3_ahead_0 12 rfl rfl)
theorem dX3_ahead_13 : decode cX3_ahead 13 = .ok (.iconst 1, 1) := dk_4 (dk_at dksX3_ahead_0 13 rfl rfl)
theorem dX3_ahead_14 : decode cX3_ahead 14 = .ok (.if_icmp .ne 11, 3) := dk_160 0 11 (dk_at dksX3_ahead_0 14 rfl rfl)
theorem dX3_ahead_17 : decode cX3_ahead 17 = .ok (.aload_n 0, 1) := dk_42 (dk_at dksX3_ahead_0 17 rfl rfl)
theorem dX3_ahead_18 : decode cX3_ahead 18 = .ok (.iload_n 1, 1) := dk_27 (dk_at dksX3_ahead_0 18 rfl rfl)
theorem dX3_ahead_19 : decode cX3_ahead 19 = .ok (.invokevirtual 341, 3) := dk_182 1 85 (dk_at dksX3_ahead_0 19 rfl rfl)
theorem dX3_ahead_22 : decode cX3_ahead 22 = .ok (.ifCond .ne 17, 3) := dk_154 0 17 (dk_at dksX3_ahead_1 0 rfl rfl)
theorem dX3_ahead_25 : decode cX3_ahead 25 = .ok (.iload_n 3, 1) := dk_29 (dk_at dksX3_ahead_1 3 rfl rfl)
theorem dX3_ahead_26 : decode cX3_ahead 26 = .ok (.i2l, 1) := dk_133 (dk_at dksX3_ahead_1 4 rfl rfl)
theorem dX3_ahead_27 : decode cX3_ahead 27 = .ok (.ldc2_w 348, 3) := dk_20 1 92 (dk_at dksX3_ahead_1 5 rfl rfl)
theorem dX3_ahead_30 : decode cX3_ahead 30 = .ok (.ldc2_w 422, 3) := dk_20 1 166 (dk_at dksX3_ahead_1 8 rfl rfl)
theorem dX3_ahead_33 : decode cX3_ahead 33 = .ok (.invokestatic 138, 3) := dk_184 0 138 (dk_at dksX3_ahead_1 11 rfl rfl)
theorem dX3_ahead_36 : decode cX3_ahead 36 = .ok (.ifCond .eq 7, 3) := dk_153 0 7 (dk_at dksX3_ahead_1 14 rfl rfl)
theorem dX3_ahead_39 : decode cX3_ahead 39 = .ok (.iconst 1, 1) := dk_4 (dk_at dksX3_ahead_1 17 rfl rfl)
theorem dX3_ahead_40 : decode cX3_ahead 40 = .ok (.goto 4, 3) := dk_167 0 4 (dk_at dksX3_ahead_1 18 rfl rfl)
theorem dX3_ahead_43 : decode cX3_ahead 43 = .ok (.iconst 0, 1) := dk_3 (dk_at dksX3_ahead_1 21 rfl rfl)
theorem dX3_ahead_44 : decode cX3_ahead 44 = .ok (.istore 4, 2) := dk_54 4 (dk_at dksX3_ahead_1 22 rfl rfl)
theorem dX3_ahead_46 : decode cX3_ahead 46 = .ok (.aload_n 0, 1) := dk_42 (dk_at dksX3_ahead_2 0 rfl rfl)
theorem dX3_ahead_47 : decode cX3_ahead 47 = .ok (.invokevirtual 402, 3) := dk_182 1 146 (dk_at dksX3_ahead_2 1 rfl rfl)
theorem dX3_ahead_50 : decode cX3_ahead 50 = .ok (.ifCond .eq 20, 3) := dk_153 0 20 (dk_at dksX3_ahead_2 4 rfl rfl)
theorem dX3_ahead_53 : decode cX3_ahead 53 = .ok (.iload 4, 2) := dk_21 4 (dk_at dksX3_ahead_2 7 rfl rfl)
theorem dX3_ahead_55 : decode cX3_ahead 55 = .ok (.ifCond .eq 15, 3) := dk_153 0 15 (dk_at dksX3_ahead_2 9 rfl rfl)
theorem dX3_ahead_58 : decode cX3_ahead 58 = .ok (.iload_n 2, 1) := dk_28 (dk_at dksX3_ahead_2 12 rfl rfl)
theorem dX3_ahead_59 : decode cX3_ahead 59 = .ok (.i2l, 1) := dk_133 (dk_at dksX3_ahead_2 13 rfl rfl)
theorem dX3_ahead_60 : decode cX3_ahead 60 = .ok (.lconst 0, 1) := dk_9 (dk_at dksX3_ahead_2 14 rfl rfl)
theorem dX3_ahead_61 : decode cX3_ahead 61 = .ok (.ldc2_w 424, 3) := dk_20 1 168 (dk_at dksX3_ahead_2 15 rfl rfl)
theorem dX3_ahead_64 : decode cX3_ahead 64 = .ok (.invokestatic 138, 3) := dk_184 0 138 (dk_at dksX3_ahead_2 18 rfl rfl)
theorem dX3_ahead_67 : decode cX3_ahead 67 = .ok (.ifCond .ne 6, 3) := dk_154 0 6 (dk_at dksX3_ahead_2 21 rfl rfl)
theorem dX3_ahead_70 : decode cX3_ahead 70 = .ok (.bipush (-2), 2) := dk_16 254 (dk_at dksX3_ahead_3 0 rfl rfl)
theorem dX3_ahead_72 : decode cX3_ahead 72 = .ok (.ireturn, 1) := dk_172 (dk_at dksX3_ahead_3 2 rfl rfl)
theorem dX3_ahead_73 : decode cX3_ahead 73 = .ok (.aload_n 0, 1) := dk_42 (dk_at dksX3_ahead_3 3 rfl rfl)
theorem dX3_ahead_74 : decode cX3_ahead 74 = .ok (.invokevirtual 426, 3) := dk_182 1 170 (dk_at dksX3_ahead_3 4 rfl rfl)
theorem dX3_ahead_77 : decode cX3_ahead 77 = .ok (.aload_n 0, 1) := dk_42 (dk_at dksX3_ahead_3 7 rfl rfl)
theorem dX3_ahead_78 : decode cX3_ahead 78 = .ok (.iload_n 2, 1) := dk_28 (dk_at dksX3_ahead_3 8 rfl rfl)
theorem dX3_ahead_79 : decode cX3_ahead 79 = .ok (.invokevirtual 413, 3) := dk_182 1 157 (dk_at dksX3_ahead_3 9 rfl rfl)
theorem dX3_ahead_82 : decode cX3_ahead 82 = .ok (.iload_n 3, 1) := dk_29 (dk_at dksX3_ahead_3 12 rfl rfl)
theorem dX3_ahead_83 : decode cX3_ahead 83 = .ok (.ifCond .ne 12, 3) := dk_154 0 12 (dk_at dksX3_ahead_3 13 rfl rfl)
theorem dX3_ahead_86 : decode cX3_ahead 86 = .ok (.aload_n 0, 1) := dk_42 (dk_at dksX3_ahead_3 16 rfl rfl)
theorem dX3_ahead_87 : decode cX3_ahead 87 = .ok (.getfield 19, 3) := dk_180 0 19 (dk_at dksX3_ahead_3 17 rfl rfl)
theorem dX3_ahead_90 : decode cX3_ahead 90 = .ok (.iload_n 1, 1) := dk_27 (dk_at dksX3_ahead_3 20 rfl rfl)
theorem dX3_ahead_91 : decode cX3_ahead 91 = .ok (.iaload, 1) := dk_46 (dk_at dksX3_ahead_3 21 rfl rfl)
theorem dX3_ahead_92 : decode cX3_ahead 92 = .ok (.goto 33, 3) := dk_167 0 33 (dk_at dksX3_ahead_4 0 rfl rfl)
theorem dX3_ahead_95 : decode cX3_ahead 95 = .ok (.iload_n 3, 1) := dk_29 (dk_at dksX3_ahead_4 3 rfl rfl)
theorem dX3_ahead_96 : decode cX3_ahead 96 = .ok (.iconst 1, 1) := dk_4 (dk_at dksX3_ahead_4 4 rfl rfl)
theorem dX3_ahead_97 : decode cX3_ahead 97 = .ok (.if_icmp .ne 12, 3) := dk_160 0 12 (dk_at dksX3_ahead_4 5 rfl rfl)
theorem dX3_ahead_100 : decode cX3_ahead 100 = .ok (.aload_n 0, 1) := dk_42 (dk_at dksX3_ahead_4 8 rfl rfl)
theorem dX3_ahead_101 : decode cX3_ahead 101 = .ok (.getfield 13, 3) := dk_180 0 13 (dk_at dksX3_ahead_4 9 rfl rfl)
theorem dX3_ahead_104 : decode cX3_ahead 104 = .ok (.iload_n 1, 1) := dk_27 (dk_at dksX3_ahead_4 12 rfl rfl)
theorem dX3_ahead_105 : decode cX3_ahead 105 = .ok (.iaload, 1) := dk_46 (dk_at dksX3_ahead_4 13 rfl rfl)
theorem dX3_ahead_106 : decode cX3_ahead 106 = .ok (.goto 19, 3) := dk_167 0 19 (dk_at dksX3_ahead_4 14 rfl rfl)
theorem dX3_ahead_109 : decode cX3_ahead 109 = .ok (.iload_n 3, 1) := dk_29 (dk_at dksX3_ahead_4 17 rfl rfl)
theorem dX3_ahead_110 : decode cX3_ahead 110 = .ok (.iconst 2, 1) := dk_5 (dk_at dksX3_ahead_4 18 rfl rfl)
theorem dX3_ahead_111 : decode cX3_ahead 111 = .ok (.if_icmp .ne 10, 3) := dk_160 0 10 (dk_at dksX3_ahead_4 19 rfl rfl)
theorem dX3_ahead_114 : decode cX3_ahead 114 = .ok (.aload_n 0, 1) := dk_42 (dk_at dksX3_ahead_4 22 rfl rfl)
theorem dX3_ahead_115 : decode cX3_ahead 115 = .ok (.invokevirtual 429, 3) := dk_182 1 173 (dk_at dksX3_ahead_5 0 rfl rfl)
theorem dX3_ahead_118 : decode cX3_ahead 118 = .ok (.goto 7, 3) := dk_167 0 7 (dk_at dksX3_ahead_5 3 rfl rfl)
theorem dX3_ahead_121 : decode cX3_ahead 121 = .ok (.aload_n 0, 1) := dk_42 (dk_at dksX3_ahead_5 6 rfl rfl)
theorem dX3_ahead_122 : decode cX3_ahead 122 = .ok (.invokevirtual 416, 3) := dk_182 1 160 (dk_at dksX3_ahead_5 7 rfl rfl)
theorem dX3_ahead_125 : decode cX3_ahead 125 = .ok (.istore 5, 2) := dk_54 5 (dk_at dksX3_ahead_5 10 rfl rfl)
theorem dX3_ahead_127 : decode cX3_ahead 127 = .ok (.aload_n 0, 1) := dk_42 (dk_at dksX3_ahead_5 12 rfl rfl)
theorem dX3_ahead_128 : decode cX3_ahead 128 = .ok (.invokevirtual 419, 3) := dk_182 1 163 (dk_at dksX3_ahead_5 13 rfl rfl)
theorem dX3_ahead_131 : decode cX3_ahead 131 = .ok (.iload 5, 2) := dk_21 5 (dk_at dksX3_ahead_5 16 rfl rfl)
theorem dX3_ahead_133 : decode cX3_ahead 133 = .ok (.ireturn, 1) := dk_172 (dk_at dksX3_ahead_5 18 rfl rfl)
abbrev cX3_keepsAll : ByteArray := prog_17_method_75_code
def yX3_keepsAll : MethodName := ⟨RX3, "keepsAll", "()V"⟩
def dkwX3_keepsAll_0 : List UInt8 := [42, 7, 3, 182, 1, 154, 177]
abbrev dktX3_keepsAll_0 : List UInt8 := dkwX3_keepsAll_0 ++ []
theorem dksX3_keepsAll_0 : cX3_keepsAll.data.toList.drop 0 = dktX3_keepsAll_0 := by decide +kernel
theorem dX3_keepsAll_0 : decode cX3_keepsAll 0 = .ok (.aload_n 0, 1) := dk_42 (dk_at dksX3_keepsAll_0 0 rfl rfl)
theorem dX3_keepsAll_1 : decode cX3_keepsAll 1 = .ok (.iconst 4, 1) := dk_7 (dk_at dksX3_keepsAll_0 1 rfl rfl)
theorem dX3_keepsAll_2 : decode cX3_keepsAll 2 = .ok (.iconst 0, 1) := dk_3 (dk_at dksX3_keepsAll_0 2 rfl rfl)
theorem dX3_keepsAll_3 : decode cX3_keepsAll 3 = .ok (.invokevirtual 410, 3) := dk_182 1 154 (dk_at dksX3_keepsAll_0 3 rfl rfl)
theorem dX3_keepsAll_6 : decode cX3_keepsAll 6 = .ok (.return_, 1) := dk_177 (dk_at dksX3_keepsAll_0 6 rfl rfl)
abbrev cX3_carriesAll : ByteArray := prog_17_method_108_code
def yX3_carriesAll : MethodName := ⟨RX3, "carriesAll", "(IZ)V"⟩
def dkwX3_carriesAll_6 : List UInt8 := [42, 42, 180, 0, 46, 182, 1, 248, 42, 42, 180, 0, 103, 182, 1, 248, 177]
abbrev dktX3_carriesAll_6 : List UInt8 := dkwX3_carriesAll_6 ++ []
def dkwX3_carriesAll_5 : List UInt8 := [42, 42, 180, 0, 37, 182, 1, 248, 42, 42, 180, 0, 40, 182, 1, 248, 42, 42, 180, 0, 43, 182, 1, 248]
abbrev dktX3_carriesAll_5 : List UInt8 := dkwX3_carriesAll_5 ++ dktX3_carriesAll_6
def dkwX3_carriesAll_4 : List UInt8 := [180, 0, 106, 3, 46, 181, 1, 49, 42, 42, 180, 0, 31, 182, 1, 248, 42, 42, 180, 0, 34, 182, 1, 248]
abbrev dktX3_carriesAll_4 : List UInt8 := dkwX3_carriesAll_4 ++ dktX3_carriesAll_5
def dkwX3_carriesAll_3 : List UInt8 := [160, 0, 4, 177, 42, 180, 0, 106, 3, 42, 180, 1, 49, 79, 42, 42, 180, 0, 106, 182, 1, 248, 42, 42]
abbrev dktX3_carriesAll_3 : List UInt8 := dkwX3_carriesAll_3 ++ dktX3_carriesAll_4
def dkwX3_carriesAll_2 : List UInt8 := [180, 0, 22, 182, 1, 248, 42, 42, 180, 0, 25, 182, 1, 248, 42, 42, 180, 0, 28, 182, 1, 248, 27, 7]
abbrev dktX3_carriesAll_2 : List UInt8 := dkwX3_carriesAll_2 ++ dktX3_carriesAll_3
def dkwX3_carriesAll_1 : List UInt8 := [180, 0, 13, 182, 1, 248, 42, 42, 180, 0, 16, 182, 1, 248, 42, 42, 180, 0, 19, 182, 1, 248, 42, 42]
abbrev dktX3_carriesAll_1 : List UInt8 := dkwX3_carriesAll_1 ++ dktX3_carriesAll_2
def dkwX3_carriesAll_0 : List UInt8 := [42, 17, 7, 208, 27, 104, 181, 1, 245, 42, 28, 181, 1, 242, 42, 42, 180, 0, 9, 182, 1, 248, 42, 42]
abbrev dktX3_carriesAll_0 : List UInt8 := dkwX3_carriesAll_0 ++ dktX3_carriesAll_1
theorem dksX3_carriesAll_0 : cX3_carriesAll.data.toList.drop 0 = dktX3_carriesAll_0 := by decide +kernel
theorem dksX3_carriesAll_1 : cX3_carriesAll.data.toList.drop 24 = dktX3_carriesAll_1 := dk_seg dksX3_carriesAll_0 24 rfl rfl
theorem dksX3_carriesAll_2 : cX3_carriesAll.data.toList.drop 48 = dktX3_carriesAll_2 := dk_seg dksX3_carriesAll_1 24 rfl rfl
theorem dksX3_carriesAll_3 : cX3_carriesAll.data.toList.drop 72 = dktX3_carriesAll_3 := dk_seg dksX3_carriesAll_2 24 rfl rfl
theorem dksX3_carriesAll_4 : cX3_carriesAll.data.toList.drop 96 = dktX3_carriesAll_4 := dk_seg dksX3_carriesAll_3 24 rfl rfl
theorem dksX3_carriesAll_5 : cX3_carriesAll.data.toList.drop 120 = dktX3_carriesAll_5 := dk_seg dksX3_carriesAll_4 24 rfl rfl
theorem dksX3_carriesAll_6 : cX3_carriesAll.data.toList.drop 144 = dktX3_carriesAll_6 := dk_seg dksX3_carriesAll_5 24 rfl rfl
theorem dX3_carriesAll_0 : decode cX3_carriesAll 0 = .ok (.aload_n 0, 1) := dk_42 (dk_at dksX3_carriesAll_0 0 rfl rfl)
theorem dX3_carriesAll_1 : decode cX3_carriesAll 1 = .ok (.sipush 2000, 3) := dk_17 7 208 (dk_at dksX3_carriesAll_0 1 rfl rfl)
theorem dX3_carriesAll_4 : decode cX3_carriesAll 4 = .ok (.iload_n 1, 1) := dk_27 (dk_at dksX3_carriesAll_0 4 rfl rfl)
theorem dX3_carriesAll_5 : decode cX3_carriesAll 5 = .ok (.imul, 1) := dk_104 (dk_at dksX3_carriesAll_0 5 rfl rfl)
theorem dX3_carriesAll_6 : decode cX3_carriesAll 6 = .ok (.putfield 501, 3) := dk_181 1 245 (dk_at dksX3_carriesAll_0 6 rfl rfl)
theorem dX3_carriesAll_9 : decode cX3_carriesAll 9 = .ok (.aload_n 0, 1) := dk_42 (dk_at dksX3_carriesAll_0 9 rfl rfl)
theorem dX3_carriesAll_10 : decode cX3_carriesAll 10 = .ok (.iload_n 2, 1) := dk_28 (dk_at dksX3_carriesAll_0 10 rfl rfl)
theorem dX3_carriesAll_11 : decode cX3_carriesAll 11 = .ok (.putfield 498, 3) := dk_181 1 242 (dk_at dksX3_carriesAll_0 11 rfl rfl)
theorem dX3_carriesAll_14 : decode cX3_carriesAll 14 = .ok (.aload_n 0, 1) := dk_42 (dk_at dksX3_carriesAll_0 14 rfl rfl)
theorem dX3_carriesAll_15 : decode cX3_carriesAll 15 = .ok (.aload_n 0, 1) := dk_42 (dk_at dksX3_carriesAll_0 15 rfl rfl)
theorem dX3_carriesAll_16 : decode cX3_carriesAll 16 = .ok (.getfield 9, 3) := dk_180 0 9 (dk_at dksX3_carriesAll_0 16 rfl rfl)
theorem dX3_carriesAll_19 : decode cX3_carriesAll 19 = .ok (.invokevirtual 504, 3) := dk_182 1 248 (dk_at dksX3_carriesAll_0 19 rfl rfl)
theorem dX3_carriesAll_22 : decode cX3_carriesAll 22 = .ok (.aload_n 0, 1) := dk_42 (dk_at dksX3_carriesAll_0 22 rfl rfl)
theorem dX3_carriesAll_23 : decode cX3_carriesAll 23 = .ok (.aload_n 0, 1) := dk_42 (dk_at dksX3_carriesAll_0 23 rfl rfl)
theorem dX3_carriesAll_24 : decode cX3_carriesAll 24 = .ok (.getfield 13, 3) := dk_180 0 13 (dk_at dksX3_carriesAll_1 0 rfl rfl)
theorem dX3_carriesAll_27 : decode cX3_carriesAll 27 = .ok (.invokevirtual 504, 3) := dk_182 1 248 (dk_at dksX3_carriesAll_1 3 rfl rfl)
theorem dX3_carriesAll_30 : decode cX3_carriesAll 30 = .ok (.aload_n 0, 1) := dk_42 (dk_at dksX3_carriesAll_1 6 rfl rfl)
theorem dX3_carriesAll_31 : decode cX3_carriesAll 31 = .ok (.aload_n 0, 1) := dk_42 (dk_at dksX3_carriesAll_1 7 rfl rfl)
theorem dX3_carriesAll_32 : decode cX3_carriesAll 32 = .ok (.getfield 16, 3) := dk_180 0 16 (dk_at dksX3_carriesAll_1 8 rfl rfl)
theorem dX3_carriesAll_35 : decode cX3_carriesAll 35 = .ok (.invokevirtual 504, 3) := dk_182 1 248 (dk_at dksX3_carriesAll_1 11 rfl rfl)
theorem dX3_carriesAll_38 : decode cX3_carriesAll 38 = .ok (.aload_n 0, 1) := dk_42 (dk_at dksX3_carriesAll_1 14 rfl rfl)
theorem dX3_carriesAll_39 : decode cX3_carriesAll 39 = .ok (.aload_n 0, 1) := dk_42 (dk_at dksX3_carriesAll_1 15 rfl rfl)
theorem dX3_carriesAll_40 : decode cX3_carriesAll 40 = .ok (.getfield 19, 3) := dk_180 0 19 (dk_at dksX3_carriesAll_1 16 rfl rfl)
theorem dX3_carriesAll_43 : decode cX3_carriesAll 43 = .ok (.invokevirtual 504, 3) := dk_182 1 248 (dk_at dksX3_carriesAll_1 19 rfl rfl)
theorem dX3_carriesAll_46 : decode cX3_carriesAll 46 = .ok (.aload_n 0, 1) := dk_42 (dk_at dksX3_carriesAll_1 22 rfl rfl)
theorem dX3_carriesAll_47 : decode cX3_carriesAll 47 = .ok (.aload_n 0, 1) := dk_42 (dk_at dksX3_carriesAll_1 23 rfl rfl)
theorem dX3_carriesAll_48 : decode cX3_carriesAll 48 = .ok (.getfield 22, 3) := dk_180 0 22 (dk_at dksX3_carriesAll_2 0 rfl rfl)
theorem dX3_carriesAll_51 : decode cX3_carriesAll 51 = .ok (.invokevirtual 504, 3) := dk_182 1 248 (dk_at dksX3_carriesAll_2 3 rfl rfl)
theorem dX3_carriesAll_54 : decode cX3_carriesAll 54 = .ok (.aload_n 0, 1) := dk_42 (dk_at dksX3_carriesAll_2 6 rfl rfl)
theorem dX3_carriesAll_55 : decode cX3_carriesAll 55 = .ok (.aload_n 0, 1) := dk_42 (dk_at dksX3_carriesAll_2 7 rfl rfl)
theorem dX3_carriesAll_56 : decode cX3_carriesAll 56 = .ok (.getfield 25, 3) := dk_180 0 25 (dk_at dksX3_carriesAll_2 8 rfl rfl)
theorem dX3_carriesAll_59 : decode cX3_carriesAll 59 = .ok (.invokevirtual 504, 3) := dk_182 1 248 (dk_at dksX3_carriesAll_2 11 rfl rfl)
theorem dX3_carriesAll_62 : decode cX3_carriesAll 62 = .ok (.aload_n 0, 1) := dk_42 (dk_at dksX3_carriesAll_2 14 rfl rfl)
theorem dX3_carriesAll_63 : decode cX3_carriesAll 63 = .ok (.aload_n 0, 1) := dk_42 (dk_at dksX3_carriesAll_2 15 rfl rfl)
theorem dX3_carriesAll_64 : decode cX3_carriesAll 64 = .ok (.getfield 28, 3) := dk_180 0 28 (dk_at dksX3_carriesAll_2 16 rfl rfl)
theorem dX3_carriesAll_67 : decode cX3_carriesAll 67 = .ok (.invokevirtual 504, 3) := dk_182 1 248 (dk_at dksX3_carriesAll_2 19 rfl rfl)
theorem dX3_carriesAll_70 : decode cX3_carriesAll 70 = .ok (.iload_n 1, 1) := dk_27 (dk_at dksX3_carriesAll_2 22 rfl rfl)
theorem dX3_carriesAll_71 : decode cX3_carriesAll 71 = .ok (.iconst 4, 1) := dk_7 (dk_at dksX3_carriesAll_2 23 rfl rfl)
theorem dX3_carriesAll_72 : decode cX3_carriesAll 72 = .ok (.if_icmp .ne 4, 3) := dk_160 0 4 (dk_at dksX3_carriesAll_3 0 rfl rfl)
theorem dX3_carriesAll_75 : decode cX3_carriesAll 75 = .ok (.return_, 1) := dk_177 (dk_at dksX3_carriesAll_3 3 rfl rfl)
theorem dX3_carriesAll_76 : decode cX3_carriesAll 76 = .ok (.aload_n 0, 1) := dk_42 (dk_at dksX3_carriesAll_3 4 rfl rfl)
theorem dX3_carriesAll_77 : decode cX3_carriesAll 77 = .ok (.getfield 106, 3) := dk_180 0 106 (dk_at dksX3_carriesAll_3 5 rfl rfl)
theorem dX3_carriesAll_80 : decode cX3_carriesAll 80 = .ok (.iconst 0, 1) := dk_3 (dk_at dksX3_carriesAll_3 8 rfl rfl)
theorem dX3_carriesAll_81 : decode cX3_carriesAll 81 = .ok (.aload_n 0, 1) := dk_42 (dk_at dksX3_carriesAll_3 9 rfl rfl)
theorem dX3_carriesAll_82 : decode cX3_carriesAll 82 = .ok (.getfield 305, 3) := dk_180 1 49 (dk_at dksX3_carriesAll_3 10 rfl rfl)
theorem dX3_carriesAll_85 : decode cX3_carriesAll 85 = .ok (.iastore, 1) := dk_79 (dk_at dksX3_carriesAll_3 13 rfl rfl)
theorem dX3_carriesAll_86 : decode cX3_carriesAll 86 = .ok (.aload_n 0, 1) := dk_42 (dk_at dksX3_carriesAll_3 14 rfl rfl)
theorem dX3_carriesAll_87 : decode cX3_carriesAll 87 = .ok (.aload_n 0, 1) := dk_42 (dk_at dksX3_carriesAll_3 15 rfl rfl)
theorem dX3_carriesAll_88 : decode cX3_carriesAll 88 = .ok (.getfield 106, 3) := dk_180 0 106 (dk_at dksX3_carriesAll_3 16 rfl rfl)
theorem dX3_carriesAll_91 : decode cX3_carriesAll 91 = .ok (.invokevirtual 504, 3) := dk_182 1 248 (dk_at dksX3_carriesAll_3 19 rfl rfl)
theorem dX3_carriesAll_94 : decode cX3_carriesAll 94 = .ok (.aload_n 0, 1) := dk_42 (dk_at dksX3_carriesAll_3 22 rfl rfl)
theorem dX3_carriesAll_95 : decode cX3_carriesAll 95 = .ok (.aload_n 0, 1) := dk_42 (dk_at dksX3_carriesAll_3 23 rfl rfl)
theorem dX3_carriesAll_96 : decode cX3_carriesAll 96 = .ok (.getfield 106, 3) := dk_180 0 106 (dk_at dksX3_carriesAll_4 0 rfl rfl)
theorem dX3_carriesAll_99 : decode cX3_carriesAll 99 = .ok (.iconst 0, 1) := dk_3 (dk_at dksX3_carriesAll_4 3 rfl rfl)
theorem dX3_carriesAll_100 : decode cX3_carriesAll 100 = .ok (.iaload, 1) := dk_46 (dk_at dksX3_carriesAll_4 4 rfl rfl)
theorem dX3_carriesAll_101 : decode cX3_carriesAll 101 = .ok (.putfield 305, 3) := dk_181 1 49 (dk_at dksX3_carriesAll_4 5 rfl rfl)
theorem dX3_carriesAll_104 : decode cX3_carriesAll 104 = .ok (.aload_n 0, 1) := dk_42 (dk_at dksX3_carriesAll_4 8 rfl rfl)
theorem dX3_carriesAll_105 : decode cX3_carriesAll 105 = .ok (.aload_n 0, 1) := dk_42 (dk_at dksX3_carriesAll_4 9 rfl rfl)
theorem dX3_carriesAll_106 : decode cX3_carriesAll 106 = .ok (.getfield 31, 3) := dk_180 0 31 (dk_at dksX3_carriesAll_4 10 rfl rfl)
theorem dX3_carriesAll_109 : decode cX3_carriesAll 109 = .ok (.invokevirtual 504, 3) := dk_182 1 248 (dk_at dksX3_carriesAll_4 13 rfl rfl)
theorem dX3_carriesAll_112 : decode cX3_carriesAll 112 = .ok (.aload_n 0, 1) := dk_42 (dk_at dksX3_carriesAll_4 16 rfl rfl)
theorem dX3_carriesAll_113 : decode cX3_carriesAll 113 = .ok (.aload_n 0, 1) := dk_42 (dk_at dksX3_carriesAll_4 17 rfl rfl)
theorem dX3_carriesAll_114 : decode cX3_carriesAll 114 = .ok (.getfield 34, 3) := dk_180 0 34 (dk_at dksX3_carriesAll_4 18 rfl rfl)
theorem dX3_carriesAll_117 : decode cX3_carriesAll 117 = .ok (.invokevirtual 504, 3) := dk_182 1 248 (dk_at dksX3_carriesAll_4 21 rfl rfl)
theorem dX3_carriesAll_120 : decode cX3_carriesAll 120 = .ok (.aload_n 0, 1) := dk_42 (dk_at dksX3_carriesAll_5 0 rfl rfl)
theorem dX3_carriesAll_121 : decode cX3_carriesAll 121 = .ok (.aload_n 0, 1) := dk_42 (dk_at dksX3_carriesAll_5 1 rfl rfl)
theorem dX3_carriesAll_122 : decode cX3_carriesAll 122 = .ok (.getfield 37, 3) := dk_180 0 37 (dk_at dksX3_carriesAll_5 2 rfl rfl)
theorem dX3_carriesAll_125 : decode cX3_carriesAll 125 = .ok (.invokevirtual 504, 3) := dk_182 1 248 (dk_at dksX3_carriesAll_5 5 rfl rfl)
theorem dX3_carriesAll_128 : decode cX3_carriesAll 128 = .ok (.aload_n 0, 1) := dk_42 (dk_at dksX3_carriesAll_5 8 rfl rfl)
theorem dX3_carriesAll_129 : decode cX3_carriesAll 129 = .ok (.aload_n 0, 1) := dk_42 (dk_at dksX3_carriesAll_5 9 rfl rfl)
theorem dX3_carriesAll_130 : decode cX3_carriesAll 130 = .ok (.getfield 40, 3) := dk_180 0 40 (dk_at dksX3_carriesAll_5 10 rfl rfl)
theorem dX3_carriesAll_133 : decode cX3_carriesAll 133 = .ok (.invokevirtual 504, 3) := dk_182 1 248 (dk_at dksX3_carriesAll_5 13 rfl rfl)
theorem dX3_carriesAll_136 : decode cX3_carriesAll 136 = .ok (.aload_n 0, 1) := dk_42 (dk_at dksX3_carriesAll_5 16 rfl rfl)
theorem dX3_carriesAll_137 : decode cX3_carriesAll 137 = .ok (.aload_n 0, 1) := dk_42 (dk_at dksX3_carriesAll_5 17 rfl rfl)
theorem dX3_carriesAll_138 : decode cX3_carriesAll 138 = .ok (.getfield 43, 3) := dk_180 0 43 (dk_at dksX3_carriesAll_5 18 rfl rfl)
theorem dX3_carriesAll_141 : decode cX3_carriesAll 141 = .ok (.invokevirtual 504, 3) := dk_182 1 248 (dk_at dksX3_carriesAll_5 21 rfl rfl)
theorem dX3_carriesAll_144 : decode cX3_carriesAll 144 = .ok (.aload_n 0, 1) := dk_42 (dk_at dksX3_carriesAll_6 0 rfl rfl)
theorem dX3_carriesAll_145 : decode cX3_carriesAll 145 = .ok (.aload_n 0, 1) := dk_42 (dk_at dksX3_carriesAll_6 1 rfl rfl)
theorem dX3_carriesAll_146 : decode cX3_carriesAll 146 = .ok (.getfield 46, 3) := dk_180 0 46 (dk_at dksX3_carriesAll_6 2 rfl rfl)
theorem dX3_carriesAll_149 : decode cX3_carriesAll 149 = .ok (.invokevirtual 504, 3) := dk_182 1 248 (dk_at dksX3_carriesAll_6 5 rfl rfl)
theorem dX3_carriesAll_152 : decode cX3_carriesAll 152 = .ok (.aload_n 0, 1) := dk_42 (dk_at dksX3_carriesAll_6 8 rfl rfl)
theorem dX3_carriesAll_153 : decode cX3_carriesAll 153 = .ok (.aload_n 0, 1) := dk_42 (dk_at dksX3_carriesAll_6 9 rfl rfl)
theorem dX3_carriesAll_154 : decode cX3_carriesAll 154 = .ok (.getfield 103, 3) := dk_180 0 103 (dk_at dksX3_carriesAll_6 10 rfl rfl)
theorem dX3_carriesAll_157 : decode cX3_carriesAll 157 = .ok (.invokevirtual 504, 3) := dk_182 1 248 (dk_at dksX3_carriesAll_6 13 rfl rfl)
theorem dX3_carriesAll_160 : decode cX3_carriesAll 160 = .ok (.return_, 1) := dk_177 (dk_at dksX3_carriesAll_6 16 rfl rfl)
abbrev cX3_carryRow : ByteArray := prog_17_method_107_code
def yX3_carryRow : MethodName := ⟨RX3, "carryRow", "([I)V"⟩
def dkwX3_carryRow_2 : List UInt8 := [180, 1, 245, 4, 96, 181, 1, 245, 132, 2, 1, 167, 255, 203, 177]
abbrev dktX3_carryRow_2 : List UInt8 := dkwX3_carryRow_2 ++ []
def dkwX3_carryRow_1 : List UInt8 := [180, 1, 245, 46, 79, 167, 0, 15, 42, 180, 0, 124, 42, 180, 1, 245, 43, 28, 46, 79, 42, 89]
abbrev dktX3_carryRow_1 : List UInt8 := dkwX3_carryRow_1 ++ dktX3_carryRow_2
def dkwX3_carryRow_0 : List UInt8 := [3, 61, 28, 43, 190, 162, 0, 53, 42, 180, 1, 242, 153, 0, 18, 43, 28, 42, 180, 0, 124, 42]
abbrev dktX3_carryRow_0 : List UInt8 := dkwX3_carryRow_0 ++ dktX3_carryRow_1
theorem dksX3_carryRow_0 : cX3_carryRow.data.toList.drop 0 = dktX3_carryRow_0 := by decide +kernel
theorem dksX3_carryRow_1 : cX3_carryRow.data.toList.drop 22 = dktX3_carryRow_1 := dk_seg dksX3_carryRow_0 22 rfl rfl
theorem dksX3_carryRow_2 : cX3_carryRow.data.toList.drop 44 = dktX3_carryRow_2 := dk_seg dksX3_carryRow_1 22 rfl rfl
theorem dX3_carryRow_0 : decode cX3_carryRow 0 = .ok (.iconst 0, 1) := dk_3 (dk_at dksX3_carryRow_0 0 rfl rfl)
theorem dX3_carryRow_1 : decode cX3_carryRow 1 = .ok (.istore_n 2, 1) := dk_61 (dk_at dksX3_carryRow_0 1 rfl rfl)
theorem dX3_carryRow_2 : decode cX3_carryRow 2 = .ok (.iload_n 2, 1) := dk_28 (dk_at dksX3_carryRow_0 2 rfl rfl)
theorem dX3_carryRow_3 : decode cX3_carryRow 3 = .ok (.aload_n 1, 1) := dk_43 (dk_at dksX3_carryRow_0 3 rfl rfl)
theorem dX3_carryRow_4 : decode cX3_carryRow 4 = .ok (.arraylength, 1) := dk_190 (dk_at dksX3_carryRow_0 4 rfl rfl)
theorem dX3_carryRow_5 : decode cX3_carryRow 5 = .ok (.if_icmp .ge 53, 3) := dk_162 0 53 (dk_at dksX3_carryRow_0 5 rfl rfl)
theorem dX3_carryRow_8 : decode cX3_carryRow 8 = .ok (.aload_n 0, 1) := dk_42 (dk_at dksX3_carryRow_0 8 rfl rfl)
theorem dX3_carryRow_9 : decode cX3_carryRow 9 = .ok (.getfield 498, 3) := dk_180 1 242 (dk_at dksX3_carryRow_0 9 rfl rfl)
theorem dX3_carryRow_12 : decode cX3_carryRow 12 = .ok (.ifCond .eq 18, 3) := dk_153 0 18 (dk_at dksX3_carryRow_0 12 rfl rfl)
theorem dX3_carryRow_15 : decode cX3_carryRow 15 = .ok (.aload_n 1, 1) := dk_43 (dk_at dksX3_carryRow_0 15 rfl rfl)
theorem dX3_carryRow_16 : decode cX3_carryRow 16 = .ok (.iload_n 2, 1) := dk_28 (dk_at dksX3_carryRow_0 16 rfl rfl)
theorem dX3_carryRow_17 : decode cX3_carryRow 17 = .ok (.aload_n 0, 1) := dk_42 (dk_at dksX3_carryRow_0 17 rfl rfl)
theorem dX3_carryRow_18 : decode cX3_carryRow 18 = .ok (.getfield 124, 3) := dk_180 0 124 (dk_at dksX3_carryRow_0 18 rfl rfl)
theorem dX3_carryRow_21 : decode cX3_carryRow 21 = .ok (.aload_n 0, 1) := dk_42 (dk_at dksX3_carryRow_0 21 rfl rfl)
theorem dX3_carryRow_22 : decode cX3_carryRow 22 = .ok (.getfield 501, 3) := dk_180 1 245 (dk_at dksX3_carryRow_1 0 rfl rfl)
theorem dX3_carryRow_25 : decode cX3_carryRow 25 = .ok (.iaload, 1) := dk_46 (dk_at dksX3_carryRow_1 3 rfl rfl)
theorem dX3_carryRow_26 : decode cX3_carryRow 26 = .ok (.iastore, 1) := dk_79 (dk_at dksX3_carryRow_1 4 rfl rfl)
theorem dX3_carryRow_27 : decode cX3_carryRow 27 = .ok (.goto 15, 3) := dk_167 0 15 (dk_at dksX3_carryRow_1 5 rfl rfl)
theorem dX3_carryRow_30 : decode cX3_carryRow 30 = .ok (.aload_n 0, 1) := dk_42 (dk_at dksX3_carryRow_1 8 rfl rfl)
theorem dX3_carryRow_31 : decode cX3_carryRow 31 = .ok (.getfield 124, 3) := dk_180 0 124 (dk_at dksX3_carryRow_1 9 rfl rfl)
theorem dX3_carryRow_34 : decode cX3_carryRow 34 = .ok (.aload_n 0, 1) := dk_42 (dk_at dksX3_carryRow_1 12 rfl rfl)
theorem dX3_carryRow_35 : decode cX3_carryRow 35 = .ok (.getfield 501, 3) := dk_180 1 245 (dk_at dksX3_carryRow_1 13 rfl rfl)
theorem dX3_carryRow_38 : decode cX3_carryRow 38 = .ok (.aload_n 1, 1) := dk_43 (dk_at dksX3_carryRow_1 16 rfl rfl)
theorem dX3_carryRow_39 : decode cX3_carryRow 39 = .ok (.iload_n 2, 1) := dk_28 (dk_at dksX3_carryRow_1 17 rfl rfl)
theorem dX3_carryRow_40 : decode cX3_carryRow 40 = .ok (.iaload, 1) := dk_46 (dk_at dksX3_carryRow_1 18 rfl rfl)
theorem dX3_carryRow_41 : decode cX3_carryRow 41 = .ok (.iastore, 1) := dk_79 (dk_at dksX3_carryRow_1 19 rfl rfl)
theorem dX3_carryRow_42 : decode cX3_carryRow 42 = .ok (.aload_n 0, 1) := dk_42 (dk_at dksX3_carryRow_1 20 rfl rfl)
theorem dX3_carryRow_43 : decode cX3_carryRow 43 = .ok (.dup, 1) := dk_89 (dk_at dksX3_carryRow_1 21 rfl rfl)
theorem dX3_carryRow_44 : decode cX3_carryRow 44 = .ok (.getfield 501, 3) := dk_180 1 245 (dk_at dksX3_carryRow_2 0 rfl rfl)
theorem dX3_carryRow_47 : decode cX3_carryRow 47 = .ok (.iconst 1, 1) := dk_4 (dk_at dksX3_carryRow_2 3 rfl rfl)
theorem dX3_carryRow_48 : decode cX3_carryRow 48 = .ok (.iadd, 1) := dk_96 (dk_at dksX3_carryRow_2 4 rfl rfl)
theorem dX3_carryRow_49 : decode cX3_carryRow 49 = .ok (.putfield 501, 3) := dk_181 1 245 (dk_at dksX3_carryRow_2 5 rfl rfl)
theorem dX3_carryRow_52 : decode cX3_carryRow 52 = .ok (.iinc 2 1, 3) := dk_132 2 1 (dk_at dksX3_carryRow_2 8 rfl rfl)
theorem dX3_carryRow_55 : decode cX3_carryRow 55 = .ok (.goto (-53), 3) := dk_167 255 203 (dk_at dksX3_carryRow_2 11 rfl rfl)
theorem dX3_carryRow_58 : decode cX3_carryRow 58 = .ok (.return_, 1) := dk_177 (dk_at dksX3_carryRow_2 14 rfl rfl)
abbrev cX3_goFor : ByteArray := prog_17_method_64_code
def yX3_goFor : MethodName := ⟨RX3, "goFor", "(I)V"⟩
def dkwX3_goFor_0 : List UInt8 := [3, 61, 28, 27, 162, 0, 14, 42, 182, 1, 125, 87, 132, 2, 1, 167, 255, 243, 177]
abbrev dktX3_goFor_0 : List UInt8 := dkwX3_goFor_0 ++ []
theorem dksX3_goFor_0 : cX3_goFor.data.toList.drop 0 = dktX3_goFor_0 := by decide +kernel
theorem dX3_goFor_0 : decode cX3_goFor 0 = .ok (.iconst 0, 1) := dk_3 (dk_at dksX3_goFor_0 0 rfl rfl)
theorem dX3_goFor_1 : decode cX3_goFor 1 = .ok (.istore_n 2, 1) := dk_61 (dk_at dksX3_goFor_0 1 rfl rfl)
theorem dX3_goFor_2 : decode cX3_goFor 2 = .ok (.iload_n 2, 1) := dk_28 (dk_at dksX3_goFor_0 2 rfl rfl)
theorem dX3_goFor_3 : decode cX3_goFor 3 = .ok (.iload_n 1, 1) := dk_27 (dk_at dksX3_goFor_0 3 rfl rfl)
theorem dX3_goFor_4 : decode cX3_goFor 4 = .ok (.if_icmp .ge 14, 3) := dk_162 0 14 (dk_at dksX3_goFor_0 4 rfl rfl)
theorem dX3_goFor_7 : decode cX3_goFor 7 = .ok (.aload_n 0, 1) := dk_42 (dk_at dksX3_goFor_0 7 rfl rfl)
theorem dX3_goFor_8 : decode cX3_goFor 8 = .ok (.invokevirtual 381, 3) := dk_182 1 125 (dk_at dksX3_goFor_0 8 rfl rfl)
theorem dX3_goFor_11 : decode cX3_goFor 11 = .ok (.pop, 1) := dk_87 (dk_at dksX3_goFor_0 11 rfl rfl)
theorem dX3_goFor_12 : decode cX3_goFor 12 = .ok (.iinc 2 1, 3) := dk_132 2 1 (dk_at dksX3_goFor_0 12 rfl rfl)
theorem dX3_goFor_15 : decode cX3_goFor 15 = .ok (.goto (-13), 3) := dk_167 255 243 (dk_at dksX3_goFor_0 15 rfl rfl)
theorem dX3_goFor_18 : decode cX3_goFor 18 = .ok (.return_, 1) := dk_177 (dk_at dksX3_goFor_0 18 rfl rfl)
abbrev cX3_allStrokes : ByteArray := prog_17_method_51_code
def yX3_allStrokes : MethodName := ⟨RX3, "allStrokes", "()I"⟩
def dkwX3_allStrokes_0 : List UInt8 := [42, 182, 0, 134, 42, 2, 182, 1, 82, 100, 172]
abbrev dktX3_allStrokes_0 : List UInt8 := dkwX3_allStrokes_0 ++ []
theorem dksX3_allStrokes_0 : cX3_allStrokes.data.toList.drop 0 = dktX3_allStrokes_0 := by decide +kernel
theorem dX3_allStrokes_0 : decode cX3_allStrokes 0 = .ok (.aload_n 0, 1) := dk_42 (dk_at dksX3_allStrokes_0 0 rfl rfl)
theorem dX3_allStrokes_1 : decode cX3_allStrokes 1 = .ok (.invokevirtual 134, 3) := dk_182 0 134 (dk_at dksX3_allStrokes_0 1 rfl rfl)
theorem dX3_allStrokes_4 : decode cX3_allStrokes 4 = .ok (.aload_n 0, 1) := dk_42 (dk_at dksX3_allStrokes_0 4 rfl rfl)
theorem dX3_allStrokes_5 : decode cX3_allStrokes 5 = .ok (.iconst (-1), 1) := dk_2 (dk_at dksX3_allStrokes_0 5 rfl rfl)
theorem dX3_allStrokes_6 : decode cX3_allStrokes 6 = .ok (.invokevirtual 338, 3) := dk_182 1 82 (dk_at dksX3_allStrokes_0 6 rfl rfl)
theorem dX3_allStrokes_9 : decode cX3_allStrokes 9 = .ok (.isub, 1) := dk_100 (dk_at dksX3_allStrokes_0 9 rfl rfl)
theorem dX3_allStrokes_10 : decode cX3_allStrokes 10 = .ok (.ireturn, 1) := dk_172 (dk_at dksX3_allStrokes_0 10 rfl rfl)
abbrev cX3_like : ByteArray := prog_17_method_52_code
def yX3_like : MethodName := ⟨RX3, "like", "()I"⟩
def dkwX3_like_2 : List UInt8 := [167, 0, 4, 3, 96, 60, 132, 2, 1, 167, 255, 204, 27, 172]
abbrev dktX3_like_2 : List UInt8 := dkwX3_like_2 ++ []
def dkwX3_like_1 : List UInt8 := [167, 0, 4, 3, 42, 180, 0, 31, 28, 46, 4, 160, 0, 7, 4, 167, 0, 4, 3, 160, 0, 7, 4]
abbrev dktX3_like_1 : List UInt8 := dkwX3_like_1 ++ dktX3_like_2
def dkwX3_like_0 : List UInt8 := [3, 60, 3, 61, 28, 42, 182, 0, 134, 162, 0, 50, 27, 42, 180, 0, 19, 28, 46, 2, 159, 0, 7, 4]
abbrev dktX3_like_0 : List UInt8 := dkwX3_like_0 ++ dktX3_like_1
theorem dksX3_like_0 : cX3_like.data.toList.drop 0 = dktX3_like_0 := by decide +kernel
theorem dksX3_like_1 : cX3_like.data.toList.drop 24 = dktX3_like_1 := dk_seg dksX3_like_0 24 rfl rfl
theorem dksX3_like_2 : cX3_like.data.toList.drop 47 = dktX3_like_2 := dk_seg dksX3_like_1 23 rfl rfl
theorem dX3_like_0 : decode cX3_like 0 = .ok (.iconst 0, 1) := dk_3 (dk_at dksX3_like_0 0 rfl rfl)
theorem dX3_like_1 : decode cX3_like 1 = .ok (.istore_n 1, 1) := dk_60 (dk_at dksX3_like_0 1 rfl rfl)
theorem dX3_like_2 : decode cX3_like 2 = .ok (.iconst 0, 1) := dk_3 (dk_at dksX3_like_0 2 rfl rfl)
theorem dX3_like_3 : decode cX3_like 3 = .ok (.istore_n 2, 1) := dk_61 (dk_at dksX3_like_0 3 rfl rfl)
theorem dX3_like_4 : decode cX3_like 4 = .ok (.iload_n 2, 1) := dk_28 (dk_at dksX3_like_0 4 rfl rfl)
theorem dX3_like_5 : decode cX3_like 5 = .ok (.aload_n 0, 1) := dk_42 (dk_at dksX3_like_0 5 rfl rfl)
theorem dX3_like_6 : decode cX3_like 6 = .ok (.invokevirtual 134, 3) := dk_182 0 134 (dk_at dksX3_like_0 6 rfl rfl)
theorem dX3_like_9 : decode cX3_like 9 = .ok (.if_icmp .ge 50, 3) := dk_162 0 50 (dk_at dksX3_like_0 9 rfl rfl)
theorem dX3_like_12 : decode cX3_like 12 = .ok (.iload_n 1, 1) := dk_27 (dk_at dksX3_like_0 12 rfl rfl)
theorem dX3_like_13 : decode cX3_like 13 = .ok (.aload_n 0, 1) := dk_42 (dk_at dksX3_like_0 13 rfl rfl)
theorem dX3_like_14 : decode cX3_like 14 = .ok (.getfield 19, 3) := dk_180 0 19 (dk_at dksX3_like_0 14 rfl rfl)
theorem dX3_like_17 : decode cX3_like 17 = .ok (.iload_n 2, 1) := dk_28 (dk_at dksX3_like_0 17 rfl rfl)
theorem dX3_like_18 : decode cX3_like 18 = .ok (.iaload, 1) := dk_46 (dk_at dksX3_like_0 18 rfl rfl)
theorem dX3_like_19 : decode cX3_like 19 = .ok (.iconst (-1), 1) := dk_2 (dk_at dksX3_like_0 19 rfl rfl)
theorem dX3_like_20 : decode cX3_like 20 = .ok (.if_icmp .eq 7, 3) := dk_159 0 7 (dk_at dksX3_like_0 20 rfl rfl)
theorem dX3_like_23 : decode cX3_like 23 = .ok (.iconst 1, 1) := dk_4 (dk_at dksX3_like_0 23 rfl rfl)
theorem dX3_like_24 : decode cX3_like 24 = .ok (.goto 4, 3) := dk_167 0 4 (dk_at dksX3_like_1 0 rfl rfl)
theorem dX3_like_27 : decode cX3_like 27 = .ok (.iconst 0, 1) := dk_3 (dk_at dksX3_like_1 3 rfl rfl)
theorem dX3_like_28 : decode cX3_like 28 = .ok (.aload_n 0, 1) := dk_42 (dk_at dksX3_like_1 4 rfl rfl)
theorem dX3_like_29 : decode cX3_like 29 = .ok (.getfield 31, 3) := dk_180 0 31 (dk_at dksX3_like_1 5 rfl rfl)
theorem dX3_like_32 : decode cX3_like 32 = .ok (.iload_n 2, 1) := dk_28 (dk_at dksX3_like_1 8 rfl rfl)
theorem dX3_like_33 : decode cX3_like 33 = .ok (.iaload, 1) := dk_46 (dk_at dksX3_like_1 9 rfl rfl)
theorem dX3_like_34 : decode cX3_like 34 = .ok (.iconst 1, 1) := dk_4 (dk_at dksX3_like_1 10 rfl rfl)
theorem dX3_like_35 : decode cX3_like 35 = .ok (.if_icmp .ne 7, 3) := dk_160 0 7 (dk_at dksX3_like_1 11 rfl rfl)
theorem dX3_like_38 : decode cX3_like 38 = .ok (.iconst 1, 1) := dk_4 (dk_at dksX3_like_1 14 rfl rfl)
theorem dX3_like_39 : decode cX3_like 39 = .ok (.goto 4, 3) := dk_167 0 4 (dk_at dksX3_like_1 15 rfl rfl)
theorem dX3_like_42 : decode cX3_like 42 = .ok (.iconst 0, 1) := dk_3 (dk_at dksX3_like_1 18 rfl rfl)
theorem dX3_like_43 : decode cX3_like 43 = .ok (.if_icmp .ne 7, 3) := dk_160 0 7 (dk_at dksX3_like_1 19 rfl rfl)
theorem dX3_like_46 : decode cX3_like 46 = .ok (.iconst 1, 1) := dk_4 (dk_at dksX3_like_1 22 rfl rfl)
theorem dX3_like_47 : decode cX3_like 47 = .ok (.goto 4, 3) := dk_167 0 4 (dk_at dksX3_like_2 0 rfl rfl)
theorem dX3_like_50 : decode cX3_like 50 = .ok (.iconst 0, 1) := dk_3 (dk_at dksX3_like_2 3 rfl rfl)
theorem dX3_like_51 : decode cX3_like 51 = .ok (.iadd, 1) := dk_96 (dk_at dksX3_like_2 4 rfl rfl)
theorem dX3_like_52 : decode cX3_like 52 = .ok (.istore_n 1, 1) := dk_60 (dk_at dksX3_like_2 5 rfl rfl)
theorem dX3_like_53 : decode cX3_like 53 = .ok (.iinc 2 1, 3) := dk_132 2 1 (dk_at dksX3_like_2 6 rfl rfl)
theorem dX3_like_56 : decode cX3_like 56 = .ok (.goto (-52), 3) := dk_167 255 204 (dk_at dksX3_like_2 9 rfl rfl)
theorem dX3_like_59 : decode cX3_like 59 = .ok (.iload_n 1, 1) := dk_27 (dk_at dksX3_like_2 12 rfl rfl)
theorem dX3_like_60 : decode cX3_like 60 = .ok (.ireturn, 1) := dk_172 (dk_at dksX3_like_2 13 rfl rfl)
abbrev cX3_laysBack : ByteArray := prog_17_method_76_code
def yX3_laysBack : MethodName := ⟨RX3, "laysBack", "()V"⟩
def dkwX3_laysBack_0 : List UInt8 := [42, 7, 4, 182, 1, 154, 177]
abbrev dktX3_laysBack_0 : List UInt8 := dkwX3_laysBack_0 ++ []
theorem dksX3_laysBack_0 : cX3_laysBack.data.toList.drop 0 = dktX3_laysBack_0 := by decide +kernel
theorem dX3_laysBack_0 : decode cX3_laysBack 0 = .ok (.aload_n 0, 1) := dk_42 (dk_at dksX3_laysBack_0 0 rfl rfl)
theorem dX3_laysBack_1 : decode cX3_laysBack 1 = .ok (.iconst 4, 1) := dk_7 (dk_at dksX3_laysBack_0 1 rfl rfl)
theorem dX3_laysBack_2 : decode cX3_laysBack 2 = .ok (.iconst 1, 1) := dk_4 (dk_at dksX3_laysBack_0 2 rfl rfl)
theorem dX3_laysBack_3 : decode cX3_laysBack 3 = .ok (.invokevirtual 410, 3) := dk_182 1 154 (dk_at dksX3_laysBack_0 3 rfl rfl)
theorem dX3_laysBack_6 : decode cX3_laysBack 6 = .ok (.return_, 1) := dk_177 (dk_at dksX3_laysBack_0 6 rfl rfl)
abbrev cX3_sign : ByteArray := prog_17_method_81_code
def yX3_sign : MethodName := ⟨RX3, "sign", "()I"⟩
def dkwX3_sign_0 : List UInt8 := [42, 3, 182, 1, 180, 172]
abbrev dktX3_sign_0 : List UInt8 := dkwX3_sign_0 ++ []
theorem dksX3_sign_0 : cX3_sign.data.toList.drop 0 = dktX3_sign_0 := by decide +kernel
theorem dX3_sign_0 : decode cX3_sign 0 = .ok (.aload_n 0, 1) := dk_42 (dk_at dksX3_sign_0 0 rfl rfl)
theorem dX3_sign_1 : decode cX3_sign 1 = .ok (.iconst 0, 1) := dk_3 (dk_at dksX3_sign_0 1 rfl rfl)
theorem dX3_sign_2 : decode cX3_sign 2 = .ok (.invokevirtual 436, 3) := dk_182 1 180 (dk_at dksX3_sign_0 2 rfl rfl)
theorem dX3_sign_5 : decode cX3_sign 5 = .ok (.ireturn, 1) := dk_172 (dk_at dksX3_sign_0 5 rfl rfl)
abbrev cX3_signedAt : ByteArray := prog_17_method_80_code
def yX3_signedAt : MethodName := ⟨RX3, "signedAt", "(Z)I"⟩
def dkwX3_signedAt_2 : List UInt8 := [16, 254, 61, 42, 182, 1, 125, 87, 132, 3, 1, 167, 255, 216, 42, 182, 1, 163, 28, 172]
abbrev dktX3_signedAt_2 : List UInt8 := dkwX3_signedAt_2 ++ []
def dkwX3_signedAt_1 : List UInt8 := [28, 16, 254, 160, 0, 34, 42, 27, 182, 1, 176, 153, 0, 12, 42, 180, 0, 9, 7, 46, 167, 0, 5]
abbrev dktX3_signedAt_1 : List UInt8 := dkwX3_signedAt_1 ++ dktX3_signedAt_2
def dkwX3_signedAt_0 : List UInt8 := [42, 182, 1, 146, 154, 0, 5, 2, 172, 42, 182, 1, 170, 16, 254, 61, 3, 62, 29, 16, 100, 162, 0, 40]
abbrev dktX3_signedAt_0 : List UInt8 := dkwX3_signedAt_0 ++ dktX3_signedAt_1
theorem dksX3_signedAt_0 : cX3_signedAt.data.toList.drop 0 = dktX3_signedAt_0 := by decide +kernel
theorem dksX3_signedAt_1 : cX3_signedAt.data.toList.drop 24 = dktX3_signedAt_1 := dk_seg dksX3_signedAt_0 24 rfl rfl
theorem dksX3_signedAt_2 : cX3_signedAt.data.toList.drop 47 = dktX3_signedAt_2 := dk_seg dksX3_signedAt_1 23 rfl rfl
theorem dX3_signedAt_0 : decode cX3_signedAt 0 = .ok (.aload_n 0, 1) := dk_42 (dk_at dksX3_signedAt_0 0 rfl rfl)
theorem dX3_signedAt_1 : decode cX3_signedAt 1 = .ok (.invokevirtual 402, 3) := dk_182 1 146 (dk_at dksX3_signedAt_0 1 rfl rfl)
theorem dX3_signedAt_4 : decode cX3_signedAt 4 = .ok (.ifCond .ne 5, 3) := dk_154 0 5 (dk_at dksX3_signedAt_0 4 rfl rfl)
theorem dX3_signedAt_7 : decode cX3_signedAt 7 = .ok (.iconst (-1), 1) := dk_2 (dk_at dksX3_signedAt_0 7 rfl rfl)
theorem dX3_signedAt_8 : decode cX3_signedAt 8 = .ok (.ireturn, 1) := dk_172 (dk_at dksX3_signedAt_0 8 rfl rfl)
theorem dX3_signedAt_9 : decode cX3_signedAt 9 = .ok (.aload_n 0, 1) := dk_42 (dk_at dksX3_signedAt_0 9 rfl rfl)
theorem dX3_signedAt_10 : decode cX3_signedAt 10 = .ok (.invokevirtual 426, 3) := dk_182 1 170 (dk_at dksX3_signedAt_0 10 rfl rfl)
theorem dX3_signedAt_13 : decode cX3_signedAt 13 = .ok (.bipush (-2), 2) := dk_16 254 (dk_at dksX3_signedAt_0 13 rfl rfl)
theorem dX3_signedAt_15 : decode cX3_signedAt 15 = .ok (.istore_n 2, 1) := dk_61 (dk_at dksX3_signedAt_0 15 rfl rfl)
theorem dX3_signedAt_16 : decode cX3_signedAt 16 = .ok (.iconst 0, 1) := dk_3 (dk_at dksX3_signedAt_0 16 rfl rfl)
theorem dX3_signedAt_17 : decode cX3_signedAt 17 = .ok (.istore_n 3, 1) := dk_62 (dk_at dksX3_signedAt_0 17 rfl rfl)
theorem dX3_signedAt_18 : decode cX3_signedAt 18 = .ok (.iload_n 3, 1) := dk_29 (dk_at dksX3_signedAt_0 18 rfl rfl)
theorem dX3_signedAt_19 : decode cX3_signedAt 19 = .ok (.bipush 100, 2) := dk_16 100 (dk_at dksX3_signedAt_0 19 rfl rfl)
theorem dX3_signedAt_21 : decode cX3_signedAt 21 = .ok (.if_icmp .ge 40, 3) := dk_162 0 40 (dk_at dksX3_signedAt_0 21 rfl rfl)
theorem dX3_signedAt_24 : decode cX3_signedAt 24 = .ok (.iload_n 2, 1) := dk_28 (dk_at dksX3_signedAt_1 0 rfl rfl)
theorem dX3_signedAt_25 : decode cX3_signedAt 25 = .ok (.bipush (-2), 2) := dk_16 254 (dk_at dksX3_signedAt_1 1 rfl rfl)
theorem dX3_signedAt_27 : decode cX3_signedAt 27 = .ok (.if_icmp .ne 34, 3) := dk_160 0 34 (dk_at dksX3_signedAt_1 3 rfl rfl)
theorem dX3_signedAt_30 : decode cX3_signedAt 30 = .ok (.aload_n 0, 1) := dk_42 (dk_at dksX3_signedAt_1 6 rfl rfl)
theorem dX3_signedAt_31 : decode cX3_signedAt 31 = .ok (.iload_n 1, 1) := dk_27 (dk_at dksX3_signedAt_1 7 rfl rfl)
theorem dX3_signedAt_32 : decode cX3_signedAt 32 = .ok (.invokevirtual 432, 3) := dk_182 1 176 (dk_at dksX3_signedAt_1 8 rfl rfl)
theorem dX3_signedAt_35 : decode cX3_signedAt 35 = .ok (.ifCond .eq 12, 3) := dk_153 0 12 (dk_at dksX3_signedAt_1 11 rfl rfl)
theorem dX3_signedAt_38 : decode cX3_signedAt 38 = .ok (.aload_n 0, 1) := dk_42 (dk_at dksX3_signedAt_1 14 rfl rfl)
theorem dX3_signedAt_39 : decode cX3_signedAt 39 = .ok (.getfield 9, 3) := dk_180 0 9 (dk_at dksX3_signedAt_1 15 rfl rfl)
theorem dX3_signedAt_42 : decode cX3_signedAt 42 = .ok (.iconst 4, 1) := dk_7 (dk_at dksX3_signedAt_1 18 rfl rfl)
theorem dX3_signedAt_43 : decode cX3_signedAt 43 = .ok (.iaload, 1) := dk_46 (dk_at dksX3_signedAt_1 19 rfl rfl)
theorem dX3_signedAt_44 : decode cX3_signedAt 44 = .ok (.goto 5, 3) := dk_167 0 5 (dk_at dksX3_signedAt_1 20 rfl rfl)
theorem dX3_signedAt_47 : decode cX3_signedAt 47 = .ok (.bipush (-2), 2) := dk_16 254 (dk_at dksX3_signedAt_2 0 rfl rfl)
theorem dX3_signedAt_49 : decode cX3_signedAt 49 = .ok (.istore_n 2, 1) := dk_61 (dk_at dksX3_signedAt_2 2 rfl rfl)
theorem dX3_signedAt_50 : decode cX3_signedAt 50 = .ok (.aload_n 0, 1) := dk_42 (dk_at dksX3_signedAt_2 3 rfl rfl)
theorem dX3_signedAt_51 : decode cX3_signedAt 51 = .ok (.invokevirtual 381, 3) := dk_182 1 125 (dk_at dksX3_signedAt_2 4 rfl rfl)
theorem dX3_signedAt_54 : decode cX3_signedAt 54 = .ok (.pop, 1) := dk_87 (dk_at dksX3_signedAt_2 7 rfl rfl)
theorem dX3_signedAt_55 : decode cX3_signedAt 55 = .ok (.iinc 3 1, 3) := dk_132 3 1 (dk_at dksX3_signedAt_2 8 rfl rfl)
theorem dX3_signedAt_58 : decode cX3_signedAt 58 = .ok (.goto (-40), 3) := dk_167 255 216 (dk_at dksX3_signedAt_2 11 rfl rfl)
theorem dX3_signedAt_61 : decode cX3_signedAt 61 = .ok (.aload_n 0, 1) := dk_42 (dk_at dksX3_signedAt_2 14 rfl rfl)
theorem dX3_signedAt_62 : decode cX3_signedAt 62 = .ok (.invokevirtual 419, 3) := dk_182 1 163 (dk_at dksX3_signedAt_2 15 rfl rfl)
theorem dX3_signedAt_65 : decode cX3_signedAt 65 = .ok (.iload_n 2, 1) := dk_28 (dk_at dksX3_signedAt_2 18 rfl rfl)
theorem dX3_signedAt_66 : decode cX3_signedAt 66 = .ok (.ireturn, 1) := dk_172 (dk_at dksX3_signedAt_2 19 rfl rfl)
abbrev cX3_isSigned : ByteArray := prog_17_method_79_code
def yX3_isSigned : MethodName := ⟨RX3, "isSigned", "(Z)Z"⟩
def dkwX3_isSigned_2 : List UInt8 := [46, 2, 159, 0, 5, 3, 172, 132, 2, 1, 167, 255, 200, 4, 172]
abbrev dktX3_isSigned_2 : List UInt8 := dkwX3_isSigned_2 ++ []
def dkwX3_isSigned_1 : List UInt8 := [28, 46, 2, 159, 0, 26, 27, 153, 0, 24, 42, 180, 0, 31, 28, 46, 154, 0, 15, 42, 180, 0, 19, 28]
abbrev dktX3_isSigned_1 : List UInt8 := dkwX3_isSigned_1 ++ dktX3_isSigned_2
def dkwX3_isSigned_0 : List UInt8 := [3, 61, 28, 42, 182, 0, 134, 162, 0, 54, 42, 180, 0, 31, 28, 46, 4, 160, 0, 13, 42, 180, 0, 19]
abbrev dktX3_isSigned_0 : List UInt8 := dkwX3_isSigned_0 ++ dktX3_isSigned_1
theorem dksX3_isSigned_0 : cX3_isSigned.data.toList.drop 0 = dktX3_isSigned_0 := by decide +kernel
theorem dksX3_isSigned_1 : cX3_isSigned.data.toList.drop 24 = dktX3_isSigned_1 := dk_seg dksX3_isSigned_0 24 rfl rfl
theorem dksX3_isSigned_2 : cX3_isSigned.data.toList.drop 48 = dktX3_isSigned_2 := dk_seg dksX3_isSigned_1 24 rfl rfl
theorem dX3_isSigned_0 : decode cX3_isSigned 0 = .ok (.iconst 0, 1) := dk_3 (dk_at dksX3_isSigned_0 0 rfl rfl)
theorem dX3_isSigned_1 : decode cX3_isSigned 1 = .ok (.istore_n 2, 1) := dk_61 (dk_at dksX3_isSigned_0 1 rfl rfl)
theorem dX3_isSigned_2 : decode cX3_isSigned 2 = .ok (.iload_n 2, 1) := dk_28 (dk_at dksX3_isSigned_0 2 rfl rfl)
theorem dX3_isSigned_3 : decode cX3_isSigned 3 = .ok (.aload_n 0, 1) := dk_42 (dk_at dksX3_isSigned_0 3 rfl rfl)
theorem dX3_isSigned_4 : decode cX3_isSigned 4 = .ok (.invokevirtual 134, 3) := dk_182 0 134 (dk_at dksX3_isSigned_0 4 rfl rfl)
theorem dX3_isSigned_7 : decode cX3_isSigned 7 = .ok (.if_icmp .ge 54, 3) := dk_162 0 54 (dk_at dksX3_isSigned_0 7 rfl rfl)
theorem dX3_isSigned_10 : decode cX3_isSigned 10 = .ok (.aload_n 0, 1) := dk_42 (dk_at dksX3_isSigned_0 10 rfl rfl)
theorem dX3_isSigned_11 : decode cX3_isSigned 11 = .ok (.getfield 31, 3) := dk_180 0 31 (dk_at dksX3_isSigned_0 11 rfl rfl)
theorem dX3_isSigned_14 : decode cX3_isSigned 14 = .ok (.iload_n 2, 1) := dk_28 (dk_at dksX3_isSigned_0 14 rfl rfl)
theorem dX3_isSigned_15 : decode cX3_isSigned 15 = .ok (.iaload, 1) := dk_46 (dk_at dksX3_isSigned_0 15 rfl rfl)
theorem dX3_isSigned_16 : decode cX3_isSigned 16 = .ok (.iconst 1, 1) := dk_4 (dk_at dksX3_isSigned_0 16 rfl rfl)
theorem dX3_isSigned_17 : decode cX3_isSigned 17 = .ok (.if_icmp .ne 13, 3) := dk_160 0 13 (dk_at dksX3_isSigned_0 17 rfl rfl)
theorem dX3_isSigned_20 : decode cX3_isSigned 20 = .ok (.aload_n 0, 1) := dk_42 (dk_at dksX3_isSigned_0 20 rfl rfl)
theorem dX3_isSigned_21 : decode cX3_isSigned 21 = .ok (.getfield 19, 3) := dk_180 0 19 (dk_at dksX3_isSigned_0 21 rfl rfl)
theorem dX3_isSigned_24 : decode cX3_isSigned 24 = .ok (.iload_n 2, 1) := dk_28 (dk_at dksX3_isSigned_1 0 rfl rfl)
theorem dX3_isSigned_25 : decode cX3_isSigned 25 = .ok (.iaload, 1) := dk_46 (dk_at dksX3_isSigned_1 1 rfl rfl)
theorem dX3_isSigned_26 : decode cX3_isSigned 26 = .ok (.iconst (-1), 1) := dk_2 (dk_at dksX3_isSigned_1 2 rfl rfl)
theorem dX3_isSigned_27 : decode cX3_isSigned 27 = .ok (.if_icmp .eq 26, 3) := dk_159 0 26 (dk_at dksX3_isSigned_1 3 rfl rfl)
theorem dX3_isSigned_30 : decode cX3_isSigned 30 = .ok (.iload_n 1, 1) := dk_27 (dk_at dksX3_isSigned_1 6 rfl rfl)
theorem dX3_isSigned_31 : decode cX3_isSigned 31 = .ok (.ifCond .eq 24, 3) := dk_153 0 24 (dk_at dksX3_isSigned_1 7 rfl rfl)
theorem dX3_isSigned_34 : decode cX3_isSigned 34 = .ok (.aload_n 0, 1) := dk_42 (dk_at dksX3_isSigned_1 10 rfl rfl)
theorem dX3_isSigned_35 : decode cX3_isSigned 35 = .ok (.getfield 31, 3) := dk_180 0 31 (dk_at dksX3_isSigned_1 11 rfl rfl)
theorem dX3_isSigned_38 : decode cX3_isSigned 38 = .ok (.iload_n 2, 1) := dk_28 (dk_at dksX3_isSigned_1 14 rfl rfl)
theorem dX3_isSigned_39 : decode cX3_isSigned 39 = .ok (.iaload, 1) := dk_46 (dk_at dksX3_isSigned_1 15 rfl rfl)
theorem dX3_isSigned_40 : decode cX3_isSigned 40 = .ok (.ifCond .ne 15, 3) := dk_154 0 15 (dk_at dksX3_isSigned_1 16 rfl rfl)
theorem dX3_isSigned_43 : decode cX3_isSigned 43 = .ok (.aload_n 0, 1) := dk_42 (dk_at dksX3_isSigned_1 19 rfl rfl)
theorem dX3_isSigned_44 : decode cX3_isSigned 44 = .ok (.getfield 19, 3) := dk_180 0 19 (dk_at dksX3_isSigned_1 20 rfl rfl)
theorem dX3_isSigned_47 : decode cX3_isSigned 47 = .ok (.iload_n 2, 1) := dk_28 (dk_at dksX3_isSigned_1 23 rfl rfl)
theorem dX3_isSigned_48 : decode cX3_isSigned 48 = .ok (.iaload, 1) := dk_46 (dk_at dksX3_isSigned_2 0 rfl rfl)
theorem dX3_isSigned_49 : decode cX3_isSigned 49 = .ok (.iconst (-1), 1) := dk_2 (dk_at dksX3_isSigned_2 1 rfl rfl)
theorem dX3_isSigned_50 : decode cX3_isSigned 50 = .ok (.if_icmp .eq 5, 3) := dk_159 0 5 (dk_at dksX3_isSigned_2 2 rfl rfl)
theorem dX3_isSigned_53 : decode cX3_isSigned 53 = .ok (.iconst 0, 1) := dk_3 (dk_at dksX3_isSigned_2 5 rfl rfl)
theorem dX3_isSigned_54 : decode cX3_isSigned 54 = .ok (.ireturn, 1) := dk_172 (dk_at dksX3_isSigned_2 6 rfl rfl)
theorem dX3_isSigned_55 : decode cX3_isSigned 55 = .ok (.iinc 2 1, 3) := dk_132 2 1 (dk_at dksX3_isSigned_2 7 rfl rfl)
theorem dX3_isSigned_58 : decode cX3_isSigned 58 = .ok (.goto (-56), 3) := dk_167 255 200 (dk_at dksX3_isSigned_2 10 rfl rfl)
theorem dX3_isSigned_61 : decode cX3_isSigned 61 = .ok (.iconst 1, 1) := dk_4 (dk_at dksX3_isSigned_2 13 rfl rfl)
theorem dX3_isSigned_62 : decode cX3_isSigned 62 = .ok (.ireturn, 1) := dk_172 (dk_at dksX3_isSigned_2 14 rfl rfl)
abbrev cX3_clean : ByteArray := prog_17_method_82_code
def yX3_clean : MethodName := ⟨RX3, "clean", "()I"⟩
def dkwX3_clean_0 : List UInt8 := [42, 4, 182, 1, 180, 172]
abbrev dktX3_clean_0 : List UInt8 := dkwX3_clean_0 ++ []
theorem dksX3_clean_0 : cX3_clean.data.toList.drop 0 = dktX3_clean_0 := by decide +kernel
theorem dX3_clean_0 : decode cX3_clean 0 = .ok (.aload_n 0, 1) := dk_42 (dk_at dksX3_clean_0 0 rfl rfl)
theorem dX3_clean_1 : decode cX3_clean 1 = .ok (.iconst 1, 1) := dk_4 (dk_at dksX3_clean_0 1 rfl rfl)
theorem dX3_clean_2 : decode cX3_clean 2 = .ok (.invokevirtual 436, 3) := dk_182 1 180 (dk_at dksX3_clean_0 2 rfl rfl)
theorem dX3_clean_5 : decode cX3_clean 5 = .ok (.ireturn, 1) := dk_172 (dk_at dksX3_clean_0 5 rfl rfl)
abbrev cX3_hold : ByteArray := prog_17_method_83_code
def yX3_hold : MethodName := ⟨RX3, "hold", "(II)I"⟩
def dkwX3_hold_5 : List UInt8 := [21, 4, 172]
abbrev dktX3_hold_5 : List UInt8 := dkwX3_hold_5 ++ []
def dkwX3_hold_4 : List UInt8 := [162, 0, 10, 21, 5, 62, 21, 6, 54, 4, 132, 5, 1, 167, 255, 192, 28, 154, 0, 7, 29, 167, 0, 5]
abbrev dktX3_hold_4 : List UInt8 := dkwX3_hold_4 ++ dktX3_hold_5
def dkwX3_hold_3 : List UInt8 := [21, 6, 21, 4, 163, 0, 22, 21, 6, 21, 4, 160, 0, 22, 21, 5, 184, 1, 189, 29, 184, 1, 189]
abbrev dktX3_hold_3 : List UInt8 := dkwX3_hold_3 ++ dktX3_hold_4
def dkwX3_hold_2 : List UInt8 := [180, 0, 9, 5, 46, 120, 162, 0, 57, 42, 180, 0, 9, 8, 21, 5, 79, 42, 27, 182, 1, 186, 54, 6]
abbrev dktX3_hold_2 : List UInt8 := dkwX3_hold_2 ++ dktX3_hold_3
def dkwX3_hold_1 : List UInt8 := [184, 0, 138, 154, 0, 5, 2, 172, 3, 62, 2, 54, 4, 42, 182, 1, 170, 3, 54, 5, 21, 5, 4, 42]
abbrev dktX3_hold_1 : List UInt8 := dkwX3_hold_1 ++ dktX3_hold_2
def dkwX3_hold_0 : List UInt8 := [42, 182, 1, 146, 153, 0, 25, 27, 133, 10, 20, 1, 184, 184, 0, 138, 153, 0, 13, 28, 133, 9, 10]
abbrev dktX3_hold_0 : List UInt8 := dkwX3_hold_0 ++ dktX3_hold_1
theorem dksX3_hold_0 : cX3_hold.data.toList.drop 0 = dktX3_hold_0 := by decide +kernel
theorem dksX3_hold_1 : cX3_hold.data.toList.drop 23 = dktX3_hold_1 := dk_seg dksX3_hold_0 23 rfl rfl
theorem dksX3_hold_2 : cX3_hold.data.toList.drop 47 = dktX3_hold_2 := dk_seg dksX3_hold_1 24 rfl rfl
theorem dksX3_hold_3 : cX3_hold.data.toList.drop 71 = dktX3_hold_3 := dk_seg dksX3_hold_2 24 rfl rfl
theorem dksX3_hold_4 : cX3_hold.data.toList.drop 94 = dktX3_hold_4 := dk_seg dksX3_hold_3 23 rfl rfl
theorem dksX3_hold_5 : cX3_hold.data.toList.drop 118 = dktX3_hold_5 := dk_seg dksX3_hold_4 24 rfl rfl
theorem dX3_hold_0 : decode cX3_hold 0 = .ok (.aload_n 0, 1) := dk_42 (dk_at dksX3_hold_0 0 rfl rfl)
theorem dX3_hold_1 : decode cX3_hold 1 = .ok (.invokevirtual 402, 3) := dk_182 1 146 (dk_at dksX3_hold_0 1 rfl rfl)
theorem dX3_hold_4 : decode cX3_hold 4 = .ok (.ifCond .eq 25, 3) := dk_153 0 25 (dk_at dksX3_hold_0 4 rfl rfl)
theorem dX3_hold_7 : decode cX3_hold 7 = .ok (.iload_n 1, 1) := dk_27 (dk_at dksX3_hold_0 7 rfl rfl)
theorem dX3_hold_8 : decode cX3_hold 8 = .ok (.i2l, 1) := dk_133 (dk_at dksX3_hold_0 8 rfl rfl)
theorem dX3_hold_9 : decode cX3_hold 9 = .ok (.lconst 1, 1) := dk_10 (dk_at dksX3_hold_0 9 rfl rfl)
theorem dX3_hold_10 : decode cX3_hold 10 = .ok (.ldc2_w 440, 3) := dk_20 1 184 (dk_at dksX3_hold_0 10 rfl rfl)
theorem dX3_hold_13 : decode cX3_hold 13 = .ok (.invokestatic 138, 3) := dk_184 0 138 (dk_at dksX3_hold_0 13 rfl rfl)
theorem dX3_hold_16 : decode cX3_hold 16 = .ok (.ifCond .eq 13, 3) := dk_153 0 13 (dk_at dksX3_hold_0 16 rfl rfl)
theorem dX3_hold_19 : decode cX3_hold 19 = .ok (.iload_n 2, 1) := dk_28 (dk_at dksX3_hold_0 19 rfl rfl)
theorem dX3_hold_20 : decode cX3_hold 20 = .ok (.i2l, 1) := dk_133 (dk_at dksX3_hold_0 20 rfl rfl)
theorem dX3_hold_21 : decode cX3_hold 21 = .ok (.lconst 0, 1) := dk_9 (dk_at dksX3_hold_0 21 rfl rfl)
theorem dX3_hold_22 : decode cX3_hold 22 = .ok (.lconst 1, 1) := dk_10 (dk_at dksX3_hold_0 22 rfl rfl)
theorem dX3_hold_23 : decode cX3_hold 23 = .ok (.invokestatic 138, 3) := dk_184 0 138 (dk_at dksX3_hold_1 0 rfl rfl)
theorem dX3_hold_26 : decode cX3_hold 26 = .ok (.ifCond .ne 5, 3) := dk_154 0 5 (dk_at dksX3_hold_1 3 rfl rfl)
theorem dX3_hold_29 : decode cX3_hold 29 = .ok (.iconst (-1), 1) := dk_2 (dk_at dksX3_hold_1 6 rfl rfl)
theorem dX3_hold_30 : decode cX3_hold 30 = .ok (.ireturn, 1) := dk_172 (dk_at dksX3_hold_1 7 rfl rfl)
theorem dX3_hold_31 : decode cX3_hold 31 = .ok (.iconst 0, 1) := dk_3 (dk_at dksX3_hold_1 8 rfl rfl)
theorem dX3_hold_32 : decode cX3_hold 32 = .ok (.istore_n 3, 1) := dk_62 (dk_at dksX3_hold_1 9 rfl rfl)
theorem dX3_hold_33 : decode cX3_hold 33 = .ok (.iconst (-1), 1) := dk_2 (dk_at dksX3_hold_1 10 rfl rfl)
theorem dX3_hold_34 : decode cX3_hold 34 = .ok (.istore 4, 2) := dk_54 4 (dk_at dksX3_hold_1 11 rfl rfl)
theorem dX3_hold_36 : decode cX3_hold 36 = .ok (.aload_n 0, 1) := dk_42 (dk_at dksX3_hold_1 13 rfl rfl)
theorem dX3_hold_37 : decode cX3_hold 37 = .ok (.invokevirtual 426, 3) := dk_182 1 170 (dk_at dksX3_hold_1 14 rfl rfl)
theorem dX3_hold_40 : decode cX3_hold 40 = .ok (.iconst 0, 1) := dk_3 (dk_at dksX3_hold_1 17 rfl rfl)
theorem dX3_hold_41 : decode cX3_hold 41 = .ok (.istore 5, 2) := dk_54 5 (dk_at dksX3_hold_1 18 rfl rfl)
theorem dX3_hold_43 : decode cX3_hold 43 = .ok (.iload 5, 2) := dk_21 5 (dk_at dksX3_hold_1 20 rfl rfl)
theorem dX3_hold_45 : decode cX3_hold 45 = .ok (.iconst 1, 1) := dk_4 (dk_at dksX3_hold_1 22 rfl rfl)
theorem dX3_hold_46 : decode cX3_hold 46 = .ok (.aload_n 0, 1) := dk_42 (dk_at dksX3_hold_1 23 rfl rfl)
theorem dX3_hold_47 : decode cX3_hold 47 = .ok (.getfield 9, 3) := dk_180 0 9 (dk_at dksX3_hold_2 0 rfl rfl)
theorem dX3_hold_50 : decode cX3_hold 50 = .ok (.iconst 2, 1) := dk_5 (dk_at dksX3_hold_2 3 rfl rfl)
theorem dX3_hold_51 : decode cX3_hold 51 = .ok (.iaload, 1) := dk_46 (dk_at dksX3_hold_2 4 rfl rfl)
theorem dX3_hold_52 : decode cX3_hold 52 = .ok (.ishl, 1) := dk_120 (dk_at dksX3_hold_2 5 rfl rfl)
theorem dX3_hold_53 : decode cX3_hold 53 = .ok (.if_icmp .ge 57, 3) := dk_162 0 57 (dk_at dksX3_hold_2 6 rfl rfl)
theorem dX3_hold_56 : decode cX3_hold 56 = .ok (.aload_n 0, 1) := dk_42 (dk_at dksX3_hold_2 9 rfl rfl)
theorem dX3_hold_57 : decode cX3_hold 57 = .ok (.getfield 9, 3) := dk_180 0 9 (dk_at dksX3_hold_2 10 rfl rfl)
theorem dX3_hold_60 : decode cX3_hold 60 = .ok (.iconst 5, 1) := dk_8 (dk_at dksX3_hold_2 13 rfl rfl)
theorem dX3_hold_61 : decode cX3_hold 61 = .ok (.iload 5, 2) := dk_21 5 (dk_at dksX3_hold_2 14 rfl rfl)
theorem dX3_hold_63 : decode cX3_hold 63 = .ok (.iastore, 1) := dk_79 (dk_at dksX3_hold_2 16 rfl rfl)
theorem dX3_hold_64 : decode cX3_hold 64 = .ok (.aload_n 0, 1) := dk_42 (dk_at dksX3_hold_2 17 rfl rfl)
theorem dX3_hold_65 : decode cX3_hold 65 = .ok (.iload_n 1, 1) := dk_27 (dk_at dksX3_hold_2 18 rfl rfl)
theorem dX3_hold_66 : decode cX3_hold 66 = .ok (.invokevirtual 442, 3) := dk_182 1 186 (dk_at dksX3_hold_2 19 rfl rfl)
theorem dX3_hold_69 : decode cX3_hold 69 = .ok (.istore 6, 2) := dk_54 6 (dk_at dksX3_hold_2 22 rfl rfl)
theorem dX3_hold_71 : decode cX3_hold 71 = .ok (.iload 6, 2) := dk_21 6 (dk_at dksX3_hold_3 0 rfl rfl)
theorem dX3_hold_73 : decode cX3_hold 73 = .ok (.iload 4, 2) := dk_21 4 (dk_at dksX3_hold_3 2 rfl rfl)
theorem dX3_hold_75 : decode cX3_hold 75 = .ok (.if_icmp .gt 22, 3) := dk_163 0 22 (dk_at dksX3_hold_3 4 rfl rfl)
theorem dX3_hold_78 : decode cX3_hold 78 = .ok (.iload 6, 2) := dk_21 6 (dk_at dksX3_hold_3 7 rfl rfl)
theorem dX3_hold_80 : decode cX3_hold 80 = .ok (.iload 4, 2) := dk_21 4 (dk_at dksX3_hold_3 9 rfl rfl)
theorem dX3_hold_82 : decode cX3_hold 82 = .ok (.if_icmp .ne 22, 3) := dk_160 0 22 (dk_at dksX3_hold_3 11 rfl rfl)
theorem dX3_hold_85 : decode cX3_hold 85 = .ok (.iload 5, 2) := dk_21 5 (dk_at dksX3_hold_3 14 rfl rfl)
theorem dX3_hold_87 : decode cX3_hold 87 = .ok (.invokestatic 445, 3) := dk_184 1 189 (dk_at dksX3_hold_3 16 rfl rfl)
theorem dX3_hold_90 : decode cX3_hold 90 = .ok (.iload_n 3, 1) := dk_29 (dk_at dksX3_hold_3 19 rfl rfl)
theorem dX3_hold_91 : decode cX3_hold 91 = .ok (.invokestatic 445, 3) := dk_184 1 189 (dk_at dksX3_hold_3 20 rfl rfl)
theorem dX3_hold_94 : decode cX3_hold 94 = .ok (.if_icmp .ge 10, 3) := dk_162 0 10 (dk_at dksX3_hold_4 0 rfl rfl)
theorem dX3_hold_97 : decode cX3_hold 97 = .ok (.iload 5, 2) := dk_21 5 (dk_at dksX3_hold_4 3 rfl rfl)
theorem dX3_hold_99 : decode cX3_hold 99 = .ok (.istore_n 3, 1) := dk_62 (dk_at dksX3_hold_4 5 rfl rfl)
theorem dX3_hold_100 : decode cX3_hold 100 = .ok (.iload 6, 2) := dk_21 6 (dk_at dksX3_hold_4 6 rfl rfl)
theorem dX3_hold_102 : decode cX3_hold 102 = .ok (.istore 4, 2) := dk_54 4 (dk_at dksX3_hold_4 8 rfl rfl)
theorem dX3_hold_104 : decode cX3_hold 104 = .ok (.iinc 5 1, 3) := dk_132 5 1 (dk_at dksX3_hold_4 10 rfl rfl)
theorem dX3_hold_107 : decode cX3_hold 107 = .ok (.goto (-64), 3) := dk_167 255 192 (dk_at dksX3_hold_4 13 rfl rfl)
theorem dX3_hold_110 : decode cX3_hold 110 = .ok (.iload_n 2, 1) := dk_28 (dk_at dksX3_hold_4 16 rfl rfl)
theorem dX3_hold_111 : decode cX3_hold 111 = .ok (.ifCond .ne 7, 3) := dk_154 0 7 (dk_at dksX3_hold_4 17 rfl rfl)
theorem dX3_hold_114 : decode cX3_hold 114 = .ok (.iload_n 3, 1) := dk_29 (dk_at dksX3_hold_4 20 rfl rfl)
theorem dX3_hold_115 : decode cX3_hold 115 = .ok (.goto 5, 3) := dk_167 0 5 (dk_at dksX3_hold_4 21 rfl rfl)
theorem dX3_hold_118 : decode cX3_hold 118 = .ok (.iload 4, 2) := dk_21 4 (dk_at dksX3_hold_5 0 rfl rfl)
theorem dX3_hold_120 : decode cX3_hold 120 = .ok (.ireturn, 1) := dk_172 (dk_at dksX3_hold_5 2 rfl rfl)
abbrev cX3_likeIn : ByteArray := prog_17_method_77_code
def yX3_likeIn : MethodName := ⟨RX3, "likeIn", "(I)I"⟩
def dkwX3_likeIn_0 : List UInt8 := [42, 27, 182, 1, 157, 42, 182, 1, 160, 61, 42, 182, 1, 163, 28, 172]
abbrev dktX3_likeIn_0 : List UInt8 := dkwX3_likeIn_0 ++ []
theorem dksX3_likeIn_0 : cX3_likeIn.data.toList.drop 0 = dktX3_likeIn_0 := by decide +kernel
theorem dX3_likeIn_0 : decode cX3_likeIn 0 = .ok (.aload_n 0, 1) := dk_42 (dk_at dksX3_likeIn_0 0 rfl rfl)
theorem dX3_likeIn_1 : decode cX3_likeIn 1 = .ok (.iload_n 1, 1) := dk_27 (dk_at dksX3_likeIn_0 1 rfl rfl)
theorem dX3_likeIn_2 : decode cX3_likeIn 2 = .ok (.invokevirtual 413, 3) := dk_182 1 157 (dk_at dksX3_likeIn_0 2 rfl rfl)
theorem dX3_likeIn_5 : decode cX3_likeIn 5 = .ok (.aload_n 0, 1) := dk_42 (dk_at dksX3_likeIn_0 5 rfl rfl)
theorem dX3_likeIn_6 : decode cX3_likeIn 6 = .ok (.invokevirtual 416, 3) := dk_182 1 160 (dk_at dksX3_likeIn_0 6 rfl rfl)
theorem dX3_likeIn_9 : decode cX3_likeIn 9 = .ok (.istore_n 2, 1) := dk_61 (dk_at dksX3_likeIn_0 9 rfl rfl)
theorem dX3_likeIn_10 : decode cX3_likeIn 10 = .ok (.aload_n 0, 1) := dk_42 (dk_at dksX3_likeIn_0 10 rfl rfl)
theorem dX3_likeIn_11 : decode cX3_likeIn 11 = .ok (.invokevirtual 419, 3) := dk_182 1 163 (dk_at dksX3_likeIn_0 11 rfl rfl)
theorem dX3_likeIn_14 : decode cX3_likeIn 14 = .ok (.iload_n 2, 1) := dk_28 (dk_at dksX3_likeIn_0 14 rfl rfl)
theorem dX3_likeIn_15 : decode cX3_likeIn 15 = .ok (.ireturn, 1) := dk_172 (dk_at dksX3_likeIn_0 15 rfl rfl)
abbrev cX3_bits : ByteArray := prog_17_method_4_code
def yX3_bits : MethodName := ⟨RX3, "bits", "(I)I"⟩
def dkwX3_bits_1 : List UInt8 := [27, 172]
abbrev dktX3_bits_1 : List UInt8 := dkwX3_bits_1 ++ []
def dkwX3_bits_0 : List UInt8 := [3, 60, 3, 61, 28, 16, 16, 162, 0, 17, 27, 26, 28, 122, 4, 126, 96, 60, 132, 2, 1, 167, 255, 239]
abbrev dktX3_bits_0 : List UInt8 := dkwX3_bits_0 ++ dktX3_bits_1
theorem dksX3_bits_0 : cX3_bits.data.toList.drop 0 = dktX3_bits_0 := by decide +kernel
theorem dksX3_bits_1 : cX3_bits.data.toList.drop 24 = dktX3_bits_1 := dk_seg dksX3_bits_0 24 rfl rfl
theorem dX3_bits_0 : decode cX3_bits 0 = .ok (.iconst 0, 1) := dk_3 (dk_at dksX3_bits_0 0 rfl rfl)
theorem dX3_bits_1 : decode cX3_bits 1 = .ok (.istore_n 1, 1) := dk_60 (dk_at dksX3_bits_0 1 rfl rfl)
theorem dX3_bits_2 : decode cX3_bits 2 = .ok (.iconst 0, 1) := dk_3 (dk_at dksX3_bits_0 2 rfl rfl)
theorem dX3_bits_3 : decode cX3_bits 3 = .ok (.istore_n 2, 1) := dk_61 (dk_at dksX3_bits_0 3 rfl rfl)
theorem dX3_bits_4 : decode cX3_bits 4 = .ok (.iload_n 2, 1) := dk_28 (dk_at dksX3_bits_0 4 rfl rfl)
theorem dX3_bits_5 : decode cX3_bits 5 = .ok (.bipush 16, 2) := dk_16 16 (dk_at dksX3_bits_0 5 rfl rfl)
theorem dX3_bits_7 : decode cX3_bits 7 = .ok (.if_icmp .ge 17, 3) := dk_162 0 17 (dk_at dksX3_bits_0 7 rfl rfl)
theorem dX3_bits_10 : decode cX3_bits 10 = .ok (.iload_n 1, 1) := dk_27 (dk_at dksX3_bits_0 10 rfl rfl)
theorem dX3_bits_11 : decode cX3_bits 11 = .ok (.iload_n 0, 1) := dk_26 (dk_at dksX3_bits_0 11 rfl rfl)
theorem dX3_bits_12 : decode cX3_bits 12 = .ok (.iload_n 2, 1) := dk_28 (dk_at dksX3_bits_0 12 rfl rfl)
theorem dX3_bits_13 : decode cX3_bits 13 = .ok (.ishr, 1) := dk_122 (dk_at dksX3_bits_0 13 rfl rfl)
theorem dX3_bits_14 : decode cX3_bits 14 = .ok (.iconst 1, 1) := dk_4 (dk_at dksX3_bits_0 14 rfl rfl)
theorem dX3_bits_15 : decode cX3_bits 15 = .ok (.iand, 1) := dk_126 (dk_at dksX3_bits_0 15 rfl rfl)
theorem dX3_bits_16 : decode cX3_bits 16 = .ok (.iadd, 1) := dk_96 (dk_at dksX3_bits_0 16 rfl rfl)
theorem dX3_bits_17 : decode cX3_bits 17 = .ok (.istore_n 1, 1) := dk_60 (dk_at dksX3_bits_0 17 rfl rfl)
theorem dX3_bits_18 : decode cX3_bits 18 = .ok (.iinc 2 1, 3) := dk_132 2 1 (dk_at dksX3_bits_0 18 rfl rfl)
theorem dX3_bits_21 : decode cX3_bits 21 = .ok (.goto (-17), 3) := dk_167 255 239 (dk_at dksX3_bits_0 21 rfl rfl)
theorem dX3_bits_24 : decode cX3_bits 24 = .ok (.iload_n 1, 1) := dk_27 (dk_at dksX3_bits_1 0 rfl rfl)
theorem dX3_bits_25 : decode cX3_bits 25 = .ok (.ireturn, 1) := dk_172 (dk_at dksX3_bits_1 1 rfl rfl)
abbrev cX3_wrote : ByteArray := prog_17_method_85_code
def yX3_wrote : MethodName := ⟨RX3, "wrote", "(II)I"⟩
def dkwX3_wrote_2 : List UInt8 := [182, 1, 192, 153, 0, 10, 4, 21, 4, 120, 167, 0, 4, 3, 128, 62, 132, 4, 1, 167, 255, 220, 29, 172]
abbrev dktX3_wrote_2 : List UInt8 := dkwX3_wrote_2 ++ []
def dkwX3_wrote_1 : List UInt8 := [42, 182, 1, 170, 3, 54, 4, 21, 4, 42, 180, 0, 9, 5, 46, 162, 0, 31, 29, 42, 21, 4, 27, 28]
abbrev dktX3_wrote_1 : List UInt8 := dkwX3_wrote_1 ++ dktX3_wrote_2
def dkwX3_wrote_0 : List UInt8 := [42, 27, 182, 1, 89, 153, 0, 15, 28, 133, 10, 20, 1, 184, 184, 0, 138, 154, 0, 5, 2, 172, 3, 62]
abbrev dktX3_wrote_0 : List UInt8 := dkwX3_wrote_0 ++ dktX3_wrote_1
theorem dksX3_wrote_0 : cX3_wrote.data.toList.drop 0 = dktX3_wrote_0 := by decide +kernel
theorem dksX3_wrote_1 : cX3_wrote.data.toList.drop 24 = dktX3_wrote_1 := dk_seg dksX3_wrote_0 24 rfl rfl
theorem dksX3_wrote_2 : cX3_wrote.data.toList.drop 48 = dktX3_wrote_2 := dk_seg dksX3_wrote_1 24 rfl rfl
theorem dX3_wrote_0 : decode cX3_wrote 0 = .ok (.aload_n 0, 1) := dk_42 (dk_at dksX3_wrote_0 0 rfl rfl)
theorem dX3_wrote_1 : decode cX3_wrote 1 = .ok (.iload_n 1, 1) := dk_27 (dk_at dksX3_wrote_0 1 rfl rfl)
theorem dX3_wrote_2 : decode cX3_wrote 2 = .ok (.invokevirtual 345, 3) := dk_182 1 89 (dk_at dksX3_wrote_0 2 rfl rfl)
theorem dX3_wrote_5 : decode cX3_wrote 5 = .ok (.ifCond .eq 15, 3) := dk_153 0 15 (dk_at dksX3_wrote_0 5 rfl rfl)
theorem dX3_wrote_8 : decode cX3_wrote 8 = .ok (.iload_n 2, 1) := dk_28 (dk_at dksX3_wrote_0 8 rfl rfl)
theorem dX3_wrote_9 : decode cX3_wrote 9 = .ok (.i2l, 1) := dk_133 (dk_at dksX3_wrote_0 9 rfl rfl)
theorem dX3_wrote_10 : decode cX3_wrote 10 = .ok (.lconst 1, 1) := dk_10 (dk_at dksX3_wrote_0 10 rfl rfl)
theorem dX3_wrote_11 : decode cX3_wrote 11 = .ok (.ldc2_w 440, 3) := dk_20 1 184 (dk_at dksX3_wrote_0 11 rfl rfl)
theorem dX3_wrote_14 : decode cX3_wrote 14 = .ok (.invokestatic 138, 3) := dk_184 0 138 (dk_at dksX3_wrote_0 14 rfl rfl)
theorem dX3_wrote_17 : decode cX3_wrote 17 = .ok (.ifCond .ne 5, 3) := dk_154 0 5 (dk_at dksX3_wrote_0 17 rfl rfl)
theorem dX3_wrote_20 : decode cX3_wrote 20 = .ok (.iconst (-1), 1) := dk_2 (dk_at dksX3_wrote_0 20 rfl rfl)
theorem dX3_wrote_21 : decode cX3_wrote 21 = .ok (.ireturn, 1) := dk_172 (dk_at dksX3_wrote_0 21 rfl rfl)
theorem dX3_wrote_22 : decode cX3_wrote 22 = .ok (.iconst 0, 1) := dk_3 (dk_at dksX3_wrote_0 22 rfl rfl)
theorem dX3_wrote_23 : decode cX3_wrote 23 = .ok (.istore_n 3, 1) := dk_62 (dk_at dksX3_wrote_0 23 rfl rfl)
theorem dX3_wrote_24 : decode cX3_wrote 24 = .ok (.aload_n 0, 1) := dk_42 (dk_at dksX3_wrote_1 0 rfl rfl)
theorem dX3_wrote_25 : decode cX3_wrote 25 = .ok (.invokevirtual 426, 3) := dk_182 1 170 (dk_at dksX3_wrote_1 1 rfl rfl)
theorem dX3_wrote_28 : decode cX3_wrote 28 = .ok (.iconst 0, 1) := dk_3 (dk_at dksX3_wrote_1 4 rfl rfl)
theorem dX3_wrote_29 : decode cX3_wrote 29 = .ok (.istore 4, 2) := dk_54 4 (dk_at dksX3_wrote_1 5 rfl rfl)
theorem dX3_wrote_31 : decode cX3_wrote 31 = .ok (.iload 4, 2) := dk_21 4 (dk_at dksX3_wrote_1 7 rfl rfl)
theorem dX3_wrote_33 : decode cX3_wrote 33 = .ok (.aload_n 0, 1) := dk_42 (dk_at dksX3_wrote_1 9 rfl rfl)
theorem dX3_wrote_34 : decode cX3_wrote 34 = .ok (.getfield 9, 3) := dk_180 0 9 (dk_at dksX3_wrote_1 10 rfl rfl)
theorem dX3_wrote_37 : decode cX3_wrote 37 = .ok (.iconst 2, 1) := dk_5 (dk_at dksX3_wrote_1 13 rfl rfl)
theorem dX3_wrote_38 : decode cX3_wrote 38 = .ok (.iaload, 1) := dk_46 (dk_at dksX3_wrote_1 14 rfl rfl)
theorem dX3_wrote_39 : decode cX3_wrote 39 = .ok (.if_icmp .ge 31, 3) := dk_162 0 31 (dk_at dksX3_wrote_1 15 rfl rfl)
theorem dX3_wrote_42 : decode cX3_wrote 42 = .ok (.iload_n 3, 1) := dk_29 (dk_at dksX3_wrote_1 18 rfl rfl)
theorem dX3_wrote_43 : decode cX3_wrote 43 = .ok (.aload_n 0, 1) := dk_42 (dk_at dksX3_wrote_1 19 rfl rfl)
theorem dX3_wrote_44 : decode cX3_wrote 44 = .ok (.iload 4, 2) := dk_21 4 (dk_at dksX3_wrote_1 20 rfl rfl)
theorem dX3_wrote_46 : decode cX3_wrote 46 = .ok (.iload_n 1, 1) := dk_27 (dk_at dksX3_wrote_1 22 rfl rfl)
theorem dX3_wrote_47 : decode cX3_wrote 47 = .ok (.iload_n 2, 1) := dk_28 (dk_at dksX3_wrote_1 23 rfl rfl)
theorem dX3_wrote_48 : decode cX3_wrote 48 = .ok (.invokevirtual 448, 3) := dk_182 1 192 (dk_at dksX3_wrote_2 0 rfl rfl)
theorem dX3_wrote_51 : decode cX3_wrote 51 = .ok (.ifCond .eq 10, 3) := dk_153 0 10 (dk_at dksX3_wrote_2 3 rfl rfl)
theorem dX3_wrote_54 : decode cX3_wrote 54 = .ok (.iconst 1, 1) := dk_4 (dk_at dksX3_wrote_2 6 rfl rfl)
theorem dX3_wrote_55 : decode cX3_wrote 55 = .ok (.iload 4, 2) := dk_21 4 (dk_at dksX3_wrote_2 7 rfl rfl)
theorem dX3_wrote_57 : decode cX3_wrote 57 = .ok (.ishl, 1) := dk_120 (dk_at dksX3_wrote_2 9 rfl rfl)
theorem dX3_wrote_58 : decode cX3_wrote 58 = .ok (.goto 4, 3) := dk_167 0 4 (dk_at dksX3_wrote_2 10 rfl rfl)
theorem dX3_wrote_61 : decode cX3_wrote 61 = .ok (.iconst 0, 1) := dk_3 (dk_at dksX3_wrote_2 13 rfl rfl)
theorem dX3_wrote_62 : decode cX3_wrote 62 = .ok (.ior, 1) := dk_128 (dk_at dksX3_wrote_2 14 rfl rfl)
theorem dX3_wrote_63 : decode cX3_wrote 63 = .ok (.istore_n 3, 1) := dk_62 (dk_at dksX3_wrote_2 15 rfl rfl)
theorem dX3_wrote_64 : decode cX3_wrote 64 = .ok (.iinc 4 1, 3) := dk_132 4 1 (dk_at dksX3_wrote_2 16 rfl rfl)
theorem dX3_wrote_67 : decode cX3_wrote 67 = .ok (.goto (-36), 3) := dk_167 255 220 (dk_at dksX3_wrote_2 19 rfl rfl)
theorem dX3_wrote_70 : decode cX3_wrote 70 = .ok (.iload_n 3, 1) := dk_29 (dk_at dksX3_wrote_2 22 rfl rfl)
theorem dX3_wrote_71 : decode cX3_wrote 71 = .ok (.ireturn, 1) := dk_172 (dk_at dksX3_wrote_2 23 rfl rfl)
abbrev cX3_leaves : ByteArray := prog_17_method_84_code
def yX3_leaves : MethodName := ⟨RX3, "leaves", "(III)Z"⟩
def dkwX3_leaves_4 : List UInt8 := [172]
abbrev dktX3_leaves_4 : List UInt8 := dkwX3_leaves_4 ++ []
def dkwX3_leaves_3 : List UInt8 := [21, 4, 161, 0, 7, 4, 167, 0, 4, 3, 54, 5, 132, 6, 1, 167, 255, 209, 42, 182, 1, 163, 21, 5]
abbrev dktX3_leaves_3 : List UInt8 := dkwX3_leaves_3 ++ dktX3_leaves_4
def dkwX3_leaves_2 : List UInt8 := [154, 0, 42, 42, 182, 1, 125, 87, 42, 180, 0, 19, 28, 46, 27, 160, 0, 18, 42, 180, 0, 22, 28, 46]
abbrev dktX3_leaves_2 : List UInt8 := dkwX3_leaves_2 ++ dktX3_leaves_3
def dkwX3_leaves_1 : List UInt8 := [46, 120, 4, 100, 4, 27, 120, 2, 130, 126, 128, 79, 3, 54, 6, 21, 6, 29, 162, 0, 47, 21, 5]
abbrev dktX3_leaves_1 : List UInt8 := dkwX3_leaves_1 ++ dktX3_leaves_2
def dkwX3_leaves_0 : List UInt8 := [42, 180, 0, 9, 7, 46, 54, 4, 3, 54, 5, 42, 180, 0, 9, 8, 92, 46, 4, 42, 180, 0, 9, 5]
abbrev dktX3_leaves_0 : List UInt8 := dkwX3_leaves_0 ++ dktX3_leaves_1
theorem dksX3_leaves_0 : cX3_leaves.data.toList.drop 0 = dktX3_leaves_0 := by decide +kernel
theorem dksX3_leaves_1 : cX3_leaves.data.toList.drop 24 = dktX3_leaves_1 := dk_seg dksX3_leaves_0 24 rfl rfl
theorem dksX3_leaves_2 : cX3_leaves.data.toList.drop 47 = dktX3_leaves_2 := dk_seg dksX3_leaves_1 23 rfl rfl
theorem dksX3_leaves_3 : cX3_leaves.data.toList.drop 71 = dktX3_leaves_3 := dk_seg dksX3_leaves_2 24 rfl rfl
theorem dksX3_leaves_4 : cX3_leaves.data.toList.drop 95 = dktX3_leaves_4 := dk_seg dksX3_leaves_3 24 rfl rfl
theorem dX3_leaves_0 : decode cX3_leaves 0 = .ok (.aload_n 0, 1) := dk_42 (dk_at dksX3_leaves_0 0 rfl rfl)
theorem dX3_leaves_1 : decode cX3_leaves 1 = .ok (.getfield 9, 3) := dk_180 0 9 (dk_at dksX3_leaves_0 1 rfl rfl)
theorem dX3_leaves_4 : decode cX3_leaves 4 = .ok (.iconst 4, 1) := dk_7 (dk_at dksX3_leaves_0 4 rfl rfl)
theorem dX3_leaves_5 : decode cX3_leaves 5 = .ok (.iaload, 1) := dk_46 (dk_at dksX3_leaves_0 5 rfl rfl)
theorem dX3_leaves_6 : decode cX3_leaves 6 = .ok (.istore 4, 2) := dk_54 4 (dk_at dksX3_leaves_0 6 rfl rfl)
theorem dX3_leaves_8 : decode cX3_leaves 8 = .ok (.iconst 0, 1) := dk_3 (dk_at dksX3_leaves_0 8 rfl rfl)
theorem dX3_leaves_9 : decode cX3_leaves 9 = .ok (.istore 5, 2) := dk_54 5 (dk_at dksX3_leaves_0 9 rfl rfl)
theorem dX3_leaves_11 : decode cX3_leaves 11 = .ok (.aload_n 0, 1) := dk_42 (dk_at dksX3_leaves_0 11 rfl rfl)
theorem dX3_leaves_12 : decode cX3_leaves 12 = .ok (.getfield 9, 3) := dk_180 0 9 (dk_at dksX3_leaves_0 12 rfl rfl)
theorem dX3_leaves_15 : decode cX3_leaves 15 = .ok (.iconst 5, 1) := dk_8 (dk_at dksX3_leaves_0 15 rfl rfl)
theorem dX3_leaves_16 : decode cX3_leaves 16 = .ok (.dup2, 1) := dk_92 (dk_at dksX3_leaves_0 16 rfl rfl)
theorem dX3_leaves_17 : decode cX3_leaves 17 = .ok (.iaload, 1) := dk_46 (dk_at dksX3_leaves_0 17 rfl rfl)
theorem dX3_leaves_18 : decode cX3_leaves 18 = .ok (.iconst 1, 1) := dk_4 (dk_at dksX3_leaves_0 18 rfl rfl)
theorem dX3_leaves_19 : decode cX3_leaves 19 = .ok (.aload_n 0, 1) := dk_42 (dk_at dksX3_leaves_0 19 rfl rfl)
theorem dX3_leaves_20 : decode cX3_leaves 20 = .ok (.getfield 9, 3) := dk_180 0 9 (dk_at dksX3_leaves_0 20 rfl rfl)
theorem dX3_leaves_23 : decode cX3_leaves 23 = .ok (.iconst 2, 1) := dk_5 (dk_at dksX3_leaves_0 23 rfl rfl)
theorem dX3_leaves_24 : decode cX3_leaves 24 = .ok (.iaload, 1) := dk_46 (dk_at dksX3_leaves_1 0 rfl rfl)
theorem dX3_leaves_25 : decode cX3_leaves 25 = .ok (.ishl, 1) := dk_120 (dk_at dksX3_leaves_1 1 rfl rfl)
theorem dX3_leaves_26 : decode cX3_leaves 26 = .ok (.iconst 1, 1) := dk_4 (dk_at dksX3_leaves_1 2 rfl rfl)
theorem dX3_leaves_27 : decode cX3_leaves 27 = .ok (.isub, 1) := dk_100 (dk_at dksX3_leaves_1 3 rfl rfl)
theorem dX3_leaves_28 : decode cX3_leaves 28 = .ok (.iconst 1, 1) := dk_4 (dk_at dksX3_leaves_1 4 rfl rfl)
theorem dX3_leaves_29 : decode cX3_leaves 29 = .ok (.iload_n 1, 1) := dk_27 (dk_at dksX3_leaves_1 5 rfl rfl)
theorem dX3_leaves_30 : decode cX3_leaves 30 = .ok (.ishl, 1) := dk_120 (dk_at dksX3_leaves_1 6 rfl rfl)
theorem dX3_leaves_31 : decode cX3_leaves 31 = .ok (.iconst (-1), 1) := dk_2 (dk_at dksX3_leaves_1 7 rfl rfl)
theorem dX3_leaves_32 : decode cX3_leaves 32 = .ok (.ixor, 1) := dk_130 (dk_at dksX3_leaves_1 8 rfl rfl)
theorem dX3_leaves_33 : decode cX3_leaves 33 = .ok (.iand, 1) := dk_126 (dk_at dksX3_leaves_1 9 rfl rfl)
theorem dX3_leaves_34 : decode cX3_leaves 34 = .ok (.ior, 1) := dk_128 (dk_at dksX3_leaves_1 10 rfl rfl)
theorem dX3_leaves_35 : decode cX3_leaves 35 = .ok (.iastore, 1) := dk_79 (dk_at dksX3_leaves_1 11 rfl rfl)
theorem dX3_leaves_36 : decode cX3_leaves 36 = .ok (.iconst 0, 1) := dk_3 (dk_at dksX3_leaves_1 12 rfl rfl)
theorem dX3_leaves_37 : decode cX3_leaves 37 = .ok (.istore 6, 2) := dk_54 6 (dk_at dksX3_leaves_1 13 rfl rfl)
theorem dX3_leaves_39 : decode cX3_leaves 39 = .ok (.iload 6, 2) := dk_21 6 (dk_at dksX3_leaves_1 15 rfl rfl)
theorem dX3_leaves_41 : decode cX3_leaves 41 = .ok (.iload_n 3, 1) := dk_29 (dk_at dksX3_leaves_1 17 rfl rfl)
theorem dX3_leaves_42 : decode cX3_leaves 42 = .ok (.if_icmp .ge 47, 3) := dk_162 0 47 (dk_at dksX3_leaves_1 18 rfl rfl)
theorem dX3_leaves_45 : decode cX3_leaves 45 = .ok (.iload 5, 2) := dk_21 5 (dk_at dksX3_leaves_1 21 rfl rfl)
theorem dX3_leaves_47 : decode cX3_leaves 47 = .ok (.ifCond .ne 42, 3) := dk_154 0 42 (dk_at dksX3_leaves_2 0 rfl rfl)
theorem dX3_leaves_50 : decode cX3_leaves 50 = .ok (.aload_n 0, 1) := dk_42 (dk_at dksX3_leaves_2 3 rfl rfl)
theorem dX3_leaves_51 : decode cX3_leaves 51 = .ok (.invokevirtual 381, 3) := dk_182 1 125 (dk_at dksX3_leaves_2 4 rfl rfl)
theorem dX3_leaves_54 : decode cX3_leaves 54 = .ok (.pop, 1) := dk_87 (dk_at dksX3_leaves_2 7 rfl rfl)
theorem dX3_leaves_55 : decode cX3_leaves 55 = .ok (.aload_n 0, 1) := dk_42 (dk_at dksX3_leaves_2 8 rfl rfl)
theorem dX3_leaves_56 : decode cX3_leaves 56 = .ok (.getfield 19, 3) := dk_180 0 19 (dk_at dksX3_leaves_2 9 rfl rfl)
theorem dX3_leaves_59 : decode cX3_leaves 59 = .ok (.iload_n 2, 1) := dk_28 (dk_at dksX3_leaves_2 12 rfl rfl)
theorem dX3_leaves_60 : decode cX3_leaves 60 = .ok (.iaload, 1) := dk_46 (dk_at dksX3_leaves_2 13 rfl rfl)
theorem dX3_leaves_61 : decode cX3_leaves 61 = .ok (.iload_n 1, 1) := dk_27 (dk_at dksX3_leaves_2 14 rfl rfl)
theorem dX3_leaves_62 : decode cX3_leaves 62 = .ok (.if_icmp .ne 18, 3) := dk_160 0 18 (dk_at dksX3_leaves_2 15 rfl rfl)
theorem dX3_leaves_65 : decode cX3_leaves 65 = .ok (.aload_n 0, 1) := dk_42 (dk_at dksX3_leaves_2 18 rfl rfl)
theorem dX3_leaves_66 : decode cX3_leaves 66 = .ok (.getfield 22, 3) := dk_180 0 22 (dk_at dksX3_leaves_2 19 rfl rfl)
theorem dX3_leaves_69 : decode cX3_leaves 69 = .ok (.iload_n 2, 1) := dk_28 (dk_at dksX3_leaves_2 22 rfl rfl)
theorem dX3_leaves_70 : decode cX3_leaves 70 = .ok (.iaload, 1) := dk_46 (dk_at dksX3_leaves_2 23 rfl rfl)
theorem dX3_leaves_71 : decode cX3_leaves 71 = .ok (.iload 4, 2) := dk_21 4 (dk_at dksX3_leaves_3 0 rfl rfl)
theorem dX3_leaves_73 : decode cX3_leaves 73 = .ok (.if_icmp .lt 7, 3) := dk_161 0 7 (dk_at dksX3_leaves_3 2 rfl rfl)
theorem dX3_leaves_76 : decode cX3_leaves 76 = .ok (.iconst 1, 1) := dk_4 (dk_at dksX3_leaves_3 5 rfl rfl)
theorem dX3_leaves_77 : decode cX3_leaves 77 = .ok (.goto 4, 3) := dk_167 0 4 (dk_at dksX3_leaves_3 6 rfl rfl)
theorem dX3_leaves_80 : decode cX3_leaves 80 = .ok (.iconst 0, 1) := dk_3 (dk_at dksX3_leaves_3 9 rfl rfl)
theorem dX3_leaves_81 : decode cX3_leaves 81 = .ok (.istore 5, 2) := dk_54 5 (dk_at dksX3_leaves_3 10 rfl rfl)
theorem dX3_leaves_83 : decode cX3_leaves 83 = .ok (.iinc 6 1, 3) := dk_132 6 1 (dk_at dksX3_leaves_3 12 rfl rfl)
theorem dX3_leaves_86 : decode cX3_leaves 86 = .ok (.goto (-47), 3) := dk_167 255 209 (dk_at dksX3_leaves_3 15 rfl rfl)
theorem dX3_leaves_89 : decode cX3_leaves 89 = .ok (.aload_n 0, 1) := dk_42 (dk_at dksX3_leaves_3 18 rfl rfl)
theorem dX3_leaves_90 : decode cX3_leaves 90 = .ok (.invokevirtual 419, 3) := dk_182 1 163 (dk_at dksX3_leaves_3 19 rfl rfl)
theorem dX3_leaves_93 : decode cX3_leaves 93 = .ok (.iload 5, 2) := dk_21 5 (dk_at dksX3_leaves_3 22 rfl rfl)
theorem dX3_leaves_95 : decode cX3_leaves 95 = .ok (.ireturn, 1) := dk_172 (dk_at dksX3_leaves_4 0 rfl rfl)
abbrev cX3_came : ByteArray := prog_17_method_86_code
def yX3_came : MethodName := ⟨RX3, "came", "(IIII)I"⟩
def dkwX3_came_6 : List UInt8 := [21, 4, 154, 0, 8, 21, 5, 167, 0, 5, 21, 6, 172]
abbrev dktX3_came_6 : List UInt8 := dkwX3_came_6 ++ []
def dkwX3_came_5 : List UInt8 := [54, 6, 21, 5, 21, 8, 153, 0, 7, 4, 167, 0, 4, 3, 96, 54, 5, 132, 7, 1, 167, 255, 176]
abbrev dktX3_came_5 : List UInt8 := dkwX3_came_5 ++ dktX3_came_6
def dkwX3_came_4 : List UInt8 := [54, 8, 42, 182, 1, 163, 21, 8, 153, 0, 13, 21, 5, 154, 0, 8, 21, 7, 167, 0, 5, 21, 6]
abbrev dktX3_came_4 : List UInt8 := dkwX3_came_4 ++ dktX3_came_5
def dkwX3_came_3 : List UInt8 := [21, 7, 79, 42, 29, 182, 1, 157, 42, 180, 0, 13, 27, 46, 28, 160, 0, 7, 4, 167, 0, 4, 3]
abbrev dktX3_came_3 : List UInt8 := dkwX3_came_3 ++ dktX3_came_4
def dkwX3_came_2 : List UInt8 := [54, 6, 42, 182, 1, 170, 3, 54, 7, 21, 7, 42, 182, 0, 134, 162, 0, 77, 42, 180, 0, 13, 27]
abbrev dktX3_came_2 : List UInt8 := dkwX3_came_2 ++ dktX3_came_3
def dkwX3_came_1 : List UInt8 := [184, 0, 138, 153, 0, 14, 21, 4, 133, 9, 10, 184, 0, 138, 154, 0, 5, 2, 172, 3, 54, 5, 16, 254]
abbrev dktX3_came_1 : List UInt8 := dkwX3_came_1 ++ dktX3_came_2
def dkwX3_came_0 : List UInt8 := [42, 27, 182, 1, 85, 153, 0, 34, 42, 28, 182, 1, 89, 153, 0, 26, 29, 133, 10, 20, 1, 184]
abbrev dktX3_came_0 : List UInt8 := dkwX3_came_0 ++ dktX3_came_1
theorem dksX3_came_0 : cX3_came.data.toList.drop 0 = dktX3_came_0 := by decide +kernel
theorem dksX3_came_1 : cX3_came.data.toList.drop 22 = dktX3_came_1 := dk_seg dksX3_came_0 22 rfl rfl
theorem dksX3_came_2 : cX3_came.data.toList.drop 46 = dktX3_came_2 := dk_seg dksX3_came_1 24 rfl rfl
theorem dksX3_came_3 : cX3_came.data.toList.drop 69 = dktX3_came_3 := dk_seg dksX3_came_2 23 rfl rfl
theorem dksX3_came_4 : cX3_came.data.toList.drop 92 = dktX3_came_4 := dk_seg dksX3_came_3 23 rfl rfl
theorem dksX3_came_5 : cX3_came.data.toList.drop 115 = dktX3_came_5 := dk_seg dksX3_came_4 23 rfl rfl
theorem dksX3_came_6 : cX3_came.data.toList.drop 138 = dktX3_came_6 := dk_seg dksX3_came_5 23 rfl rfl
theorem dX3_came_0 : decode cX3_came 0 = .ok (.aload_n 0, 1) := dk_42 (dk_at dksX3_came_0 0 rfl rfl)
theorem dX3_came_1 : decode cX3_came 1 = .ok (.iload_n 1, 1) := dk_27 (dk_at dksX3_came_0 1 rfl rfl)
theorem dX3_came_2 : decode cX3_came 2 = .ok (.invokevirtual 341, 3) := dk_182 1 85 (dk_at dksX3_came_0 2 rfl rfl)
theorem dX3_came_5 : decode cX3_came 5 = .ok (.ifCond .eq 34, 3) := dk_153 0 34 (dk_at dksX3_came_0 5 rfl rfl)
theorem dX3_came_8 : decode cX3_came 8 = .ok (.aload_n 0, 1) := dk_42 (dk_at dksX3_came_0 8 rfl rfl)
theorem dX3_came_9 : decode cX3_came 9 = .ok (.iload_n 2, 1) := dk_28 (dk_at dksX3_came_0 9 rfl rfl)
theorem dX3_came_10 : decode cX3_came 10 = .ok (.invokevirtual 345, 3) := dk_182 1 89 (dk_at dksX3_came_0 10 rfl rfl)
theorem dX3_came_13 : decode cX3_came 13 = .ok (.ifCond .eq 26, 3) := dk_153 0 26 (dk_at dksX3_came_0 13 rfl rfl)
theorem dX3_came_16 : decode cX3_came 16 = .ok (.iload_n 3, 1) := dk_29 (dk_at dksX3_came_0 16 rfl rfl)
theorem dX3_came_17 : decode cX3_came 17 = .ok (.i2l, 1) := dk_133 (dk_at dksX3_came_0 17 rfl rfl)
theorem dX3_came_18 : decode cX3_came 18 = .ok (.lconst 1, 1) := dk_10 (dk_at dksX3_came_0 18 rfl rfl)
theorem dX3_came_19 : decode cX3_came 19 = .ok (.ldc2_w 440, 3) := dk_20 1 184 (dk_at dksX3_came_0 19 rfl rfl)
theorem dX3_came_22 : decode cX3_came 22 = .ok (.invokestatic 138, 3) := dk_184 0 138 (dk_at dksX3_came_1 0 rfl rfl)
theorem dX3_came_25 : decode cX3_came 25 = .ok (.ifCond .eq 14, 3) := dk_153 0 14 (dk_at dksX3_came_1 3 rfl rfl)
theorem dX3_came_28 : decode cX3_came 28 = .ok (.iload 4, 2) := dk_21 4 (dk_at dksX3_came_1 6 rfl rfl)
theorem dX3_came_30 : decode cX3_came 30 = .ok (.i2l, 1) := dk_133 (dk_at dksX3_came_1 8 rfl rfl)
theorem dX3_came_31 : decode cX3_came 31 = .ok (.lconst 0, 1) := dk_9 (dk_at dksX3_came_1 9 rfl rfl)
theorem dX3_came_32 : decode cX3_came 32 = .ok (.lconst 1, 1) := dk_10 (dk_at dksX3_came_1 10 rfl rfl)
theorem dX3_came_33 : decode cX3_came 33 = .ok (.invokestatic 138, 3) := dk_184 0 138 (dk_at dksX3_came_1 11 rfl rfl)
theorem dX3_came_36 : decode cX3_came 36 = .ok (.ifCond .ne 5, 3) := dk_154 0 5 (dk_at dksX3_came_1 14 rfl rfl)
theorem dX3_came_39 : decode cX3_came 39 = .ok (.iconst (-1), 1) := dk_2 (dk_at dksX3_came_1 17 rfl rfl)
theorem dX3_came_40 : decode cX3_came 40 = .ok (.ireturn, 1) := dk_172 (dk_at dksX3_came_1 18 rfl rfl)
theorem dX3_came_41 : decode cX3_came 41 = .ok (.iconst 0, 1) := dk_3 (dk_at dksX3_came_1 19 rfl rfl)
theorem dX3_came_42 : decode cX3_came 42 = .ok (.istore 5, 2) := dk_54 5 (dk_at dksX3_came_1 20 rfl rfl)
theorem dX3_came_44 : decode cX3_came 44 = .ok (.bipush (-2), 2) := dk_16 254 (dk_at dksX3_came_1 22 rfl rfl)
theorem dX3_came_46 : decode cX3_came 46 = .ok (.istore 6, 2) := dk_54 6 (dk_at dksX3_came_2 0 rfl rfl)
theorem dX3_came_48 : decode cX3_came 48 = .ok (.aload_n 0, 1) := dk_42 (dk_at dksX3_came_2 2 rfl rfl)
theorem dX3_came_49 : decode cX3_came 49 = .ok (.invokevirtual 426, 3) := dk_182 1 170 (dk_at dksX3_came_2 3 rfl rfl)
theorem dX3_came_52 : decode cX3_came 52 = .ok (.iconst 0, 1) := dk_3 (dk_at dksX3_came_2 6 rfl rfl)
theorem dX3_came_53 : decode cX3_came 53 = .ok (.istore 7, 2) := dk_54 7 (dk_at dksX3_came_2 7 rfl rfl)
theorem dX3_came_55 : decode cX3_came 55 = .ok (.iload 7, 2) := dk_21 7 (dk_at dksX3_came_2 9 rfl rfl)
theorem dX3_came_57 : decode cX3_came 57 = .ok (.aload_n 0, 1) := dk_42 (dk_at dksX3_came_2 11 rfl rfl)
theorem dX3_came_58 : decode cX3_came 58 = .ok (.invokevirtual 134, 3) := dk_182 0 134 (dk_at dksX3_came_2 12 rfl rfl)
theorem dX3_came_61 : decode cX3_came 61 = .ok (.if_icmp .ge 77, 3) := dk_162 0 77 (dk_at dksX3_came_2 15 rfl rfl)
theorem dX3_came_64 : decode cX3_came 64 = .ok (.aload_n 0, 1) := dk_42 (dk_at dksX3_came_2 18 rfl rfl)
theorem dX3_came_65 : decode cX3_came 65 = .ok (.getfield 13, 3) := dk_180 0 13 (dk_at dksX3_came_2 19 rfl rfl)
theorem dX3_came_68 : decode cX3_came 68 = .ok (.iload_n 1, 1) := dk_27 (dk_at dksX3_came_2 22 rfl rfl)
theorem dX3_came_69 : decode cX3_came 69 = .ok (.iload 7, 2) := dk_21 7 (dk_at dksX3_came_3 0 rfl rfl)
theorem dX3_came_71 : decode cX3_came 71 = .ok (.iastore, 1) := dk_79 (dk_at dksX3_came_3 2 rfl rfl)
theorem dX3_came_72 : decode cX3_came 72 = .ok (.aload_n 0, 1) := dk_42 (dk_at dksX3_came_3 3 rfl rfl)
theorem dX3_came_73 : decode cX3_came 73 = .ok (.iload_n 3, 1) := dk_29 (dk_at dksX3_came_3 4 rfl rfl)
theorem dX3_came_74 : decode cX3_came 74 = .ok (.invokevirtual 413, 3) := dk_182 1 157 (dk_at dksX3_came_3 5 rfl rfl)
theorem dX3_came_77 : decode cX3_came 77 = .ok (.aload_n 0, 1) := dk_42 (dk_at dksX3_came_3 8 rfl rfl)
theorem dX3_came_78 : decode cX3_came 78 = .ok (.getfield 13, 3) := dk_180 0 13 (dk_at dksX3_came_3 9 rfl rfl)
theorem dX3_came_81 : decode cX3_came 81 = .ok (.iload_n 1, 1) := dk_27 (dk_at dksX3_came_3 12 rfl rfl)
theorem dX3_came_82 : decode cX3_came 82 = .ok (.iaload, 1) := dk_46 (dk_at dksX3_came_3 13 rfl rfl)
theorem dX3_came_83 : decode cX3_came 83 = .ok (.iload_n 2, 1) := dk_28 (dk_at dksX3_came_3 14 rfl rfl)
theorem dX3_came_84 : decode cX3_came 84 = .ok (.if_icmp .ne 7, 3) := dk_160 0 7 (dk_at dksX3_came_3 15 rfl rfl)
theorem dX3_came_87 : decode cX3_came 87 = .ok (.iconst 1, 1) := dk_4 (dk_at dksX3_came_3 18 rfl rfl)
theorem dX3_came_88 : decode cX3_came 88 = .ok (.goto 4, 3) := dk_167 0 4 (dk_at dksX3_came_3 19 rfl rfl)
theorem dX3_came_91 : decode cX3_came 91 = .ok (.iconst 0, 1) := dk_3 (dk_at dksX3_came_3 22 rfl rfl)
theorem dX3_came_92 : decode cX3_came 92 = .ok (.istore 8, 2) := dk_54 8 (dk_at dksX3_came_4 0 rfl rfl)
theorem dX3_came_94 : decode cX3_came 94 = .ok (.aload_n 0, 1) := dk_42 (dk_at dksX3_came_4 2 rfl rfl)
theorem dX3_came_95 : decode cX3_came 95 = .ok (.invokevirtual 419, 3) := dk_182 1 163 (dk_at dksX3_came_4 3 rfl rfl)
theorem dX3_came_98 : decode cX3_came 98 = .ok (.iload 8, 2) := dk_21 8 (dk_at dksX3_came_4 6 rfl rfl)
theorem dX3_came_100 : decode cX3_came 100 = .ok (.ifCond .eq 13, 3) := dk_153 0 13 (dk_at dksX3_came_4 8 rfl rfl)
theorem dX3_came_103 : decode cX3_came 103 = .ok (.iload 5, 2) := dk_21 5 (dk_at dksX3_came_4 11 rfl rfl)
theorem dX3_came_105 : decode cX3_came 105 = .ok (.ifCond .ne 8, 3) := dk_154 0 8 (dk_at dksX3_came_4 13 rfl rfl)
theorem dX3_came_108 : decode cX3_came 108 = .ok (.iload 7, 2) := dk_21 7 (dk_at dksX3_came_4 16 rfl rfl)
theorem dX3_came_110 : decode cX3_came 110 = .ok (.goto 5, 3) := dk_167 0 5 (dk_at dksX3_came_4 18 rfl rfl)
theorem dX3_came_113 : decode cX3_came 113 = .ok (.iload 6, 2) := dk_21 6 (dk_at dksX3_came_4 21 rfl rfl)
theorem dX3_came_115 : decode cX3_came 115 = .ok (.istore 6, 2) := dk_54 6 (dk_at dksX3_came_5 0 rfl rfl)
theorem dX3_came_117 : decode cX3_came 117 = .ok (.iload 5, 2) := dk_21 5 (dk_at dksX3_came_5 2 rfl rfl)
theorem dX3_came_119 : decode cX3_came 119 = .ok (.iload 8, 2) := dk_21 8 (dk_at dksX3_came_5 4 rfl rfl)
theorem dX3_came_121 : decode cX3_came 121 = .ok (.ifCond .eq 7, 3) := dk_153 0 7 (dk_at dksX3_came_5 6 rfl rfl)
theorem dX3_came_124 : decode cX3_came 124 = .ok (.iconst 1, 1) := dk_4 (dk_at dksX3_came_5 9 rfl rfl)
theorem dX3_came_125 : decode cX3_came 125 = .ok (.goto 4, 3) := dk_167 0 4 (dk_at dksX3_came_5 10 rfl rfl)
theorem dX3_came_128 : decode cX3_came 128 = .ok (.iconst 0, 1) := dk_3 (dk_at dksX3_came_5 13 rfl rfl)
theorem dX3_came_129 : decode cX3_came 129 = .ok (.iadd, 1) := dk_96 (dk_at dksX3_came_5 14 rfl rfl)
theorem dX3_came_130 : decode cX3_came 130 = .ok (.istore 5, 2) := dk_54 5 (dk_at dksX3_came_5 15 rfl rfl)
theorem dX3_came_132 : decode cX3_came 132 = .ok (.iinc 7 1, 3) := dk_132 7 1 (dk_at dksX3_came_5 17 rfl rfl)
theorem dX3_came_135 : decode cX3_came 135 = .ok (.goto (-80), 3) := dk_167 255 176 (dk_at dksX3_came_5 20 rfl rfl)
theorem dX3_came_138 : decode cX3_came 138 = .ok (.iload 4, 2) := dk_21 4 (dk_at dksX3_came_6 0 rfl rfl)
theorem dX3_came_140 : decode cX3_came 140 = .ok (.ifCond .ne 8, 3) := dk_154 0 8 (dk_at dksX3_came_6 2 rfl rfl)
theorem dX3_came_143 : decode cX3_came 143 = .ok (.iload 5, 2) := dk_21 5 (dk_at dksX3_came_6 5 rfl rfl)
theorem dX3_came_145 : decode cX3_came 145 = .ok (.goto 5, 3) := dk_167 0 5 (dk_at dksX3_came_6 7 rfl rfl)
theorem dX3_came_148 : decode cX3_came 148 = .ok (.iload 6, 2) := dk_21 6 (dk_at dksX3_came_6 10 rfl rfl)
theorem dX3_came_150 : decode cX3_came 150 = .ok (.ireturn, 1) := dk_172 (dk_at dksX3_came_6 12 rfl rfl)
abbrev cX3_change : ByteArray := prog_17_method_88_code
def yX3_change : MethodName := ⟨RX3, "change", "(II)I"⟩
def dkwX3_change_6 : List UInt8 := [160, 0, 8, 21, 4, 167, 0, 5, 21, 5, 172]
abbrev dktX3_change_6 : List UInt8 := dkwX3_change_6 ++ []
def dkwX3_change_5 : List UInt8 := [132, 7, 1, 167, 255, 210, 132, 6, 1, 167, 255, 187, 28, 154, 0, 7, 29, 167, 0, 15, 28, 4]
abbrev dktX3_change_5 : List UInt8 := dkwX3_change_5 ++ dktX3_change_6
def dkwX3_change_4 : List UInt8 := [182, 1, 186, 54, 8, 21, 8, 29, 164, 0, 14, 21, 8, 62, 21, 6, 54, 4, 21, 7, 54, 5]
abbrev dktX3_change_4 : List UInt8 := dkwX3_change_4 ++ dktX3_change_5
def dkwX3_change_3 : List UInt8 := [54, 7, 21, 7, 42, 180, 0, 9, 6, 46, 162, 0, 41, 42, 21, 6, 21, 7, 182, 1, 196, 42, 27]
abbrev dktX3_change_3 : List UInt8 := dkwX3_change_3 ++ dktX3_change_4
def dkwX3_change_2 : List UInt8 := [54, 4, 2, 54, 5, 3, 54, 6, 21, 6, 42, 180, 0, 9, 6, 46, 162, 0, 64, 21, 6, 4, 96]
abbrev dktX3_change_2 : List UInt8 := dkwX3_change_2 ++ dktX3_change_3
def dkwX3_change_1 : List UInt8 := [20, 1, 92, 184, 0, 138, 154, 0, 6, 16, 254, 172, 42, 182, 1, 170, 42, 27, 182, 1, 186, 62, 2]
abbrev dktX3_change_1 : List UInt8 := dkwX3_change_1 ++ dktX3_change_2
def dkwX3_change_0 : List UInt8 := [42, 182, 1, 146, 153, 0, 27, 27, 133, 10, 20, 1, 184, 184, 0, 138, 153, 0, 15, 28, 133, 9]
abbrev dktX3_change_0 : List UInt8 := dkwX3_change_0 ++ dktX3_change_1
theorem dksX3_change_0 : cX3_change.data.toList.drop 0 = dktX3_change_0 := by decide +kernel
theorem dksX3_change_1 : cX3_change.data.toList.drop 22 = dktX3_change_1 := dk_seg dksX3_change_0 22 rfl rfl
theorem dksX3_change_2 : cX3_change.data.toList.drop 45 = dktX3_change_2 := dk_seg dksX3_change_1 23 rfl rfl
theorem dksX3_change_3 : cX3_change.data.toList.drop 68 = dktX3_change_3 := dk_seg dksX3_change_2 23 rfl rfl
theorem dksX3_change_4 : cX3_change.data.toList.drop 91 = dktX3_change_4 := dk_seg dksX3_change_3 23 rfl rfl
theorem dksX3_change_5 : cX3_change.data.toList.drop 113 = dktX3_change_5 := dk_seg dksX3_change_4 22 rfl rfl
theorem dksX3_change_6 : cX3_change.data.toList.drop 135 = dktX3_change_6 := dk_seg dksX3_change_5 22 rfl rfl
theorem dX3_change_0 : decode cX3_change 0 = .ok (.aload_n 0, 1) := dk_42 (dk_at dksX3_change_0 0 rfl rfl)
theorem dX3_change_1 : decode cX3_change 1 = .ok (.invokevirtual 402, 3) := dk_182 1 146 (dk_at dksX3_change_0 1 rfl rfl)
theorem dX3_change_4 : decode cX3_change 4 = .ok (.ifCond .eq 27, 3) := dk_153 0 27 (dk_at dksX3_change_0 4 rfl rfl)
theorem dX3_change_7 : decode cX3_change 7 = .ok (.iload_n 1, 1) := dk_27 (dk_at dksX3_change_0 7 rfl rfl)
theorem dX3_change_8 : decode cX3_change 8 = .ok (.i2l, 1) := dk_133 (dk_at dksX3_change_0 8 rfl rfl)
theorem dX3_change_9 : decode cX3_change 9 = .ok (.lconst 1, 1) := dk_10 (dk_at dksX3_change_0 9 rfl rfl)
theorem dX3_change_10 : decode cX3_change 10 = .ok (.ldc2_w 440, 3) := dk_20 1 184 (dk_at dksX3_change_0 10 rfl rfl)
theorem dX3_change_13 : decode cX3_change 13 = .ok (.invokestatic 138, 3) := dk_184 0 138 (dk_at dksX3_change_0 13 rfl rfl)
theorem dX3_change_16 : decode cX3_change 16 = .ok (.ifCond .eq 15, 3) := dk_153 0 15 (dk_at dksX3_change_0 16 rfl rfl)
theorem dX3_change_19 : decode cX3_change 19 = .ok (.iload_n 2, 1) := dk_28 (dk_at dksX3_change_0 19 rfl rfl)
theorem dX3_change_20 : decode cX3_change 20 = .ok (.i2l, 1) := dk_133 (dk_at dksX3_change_0 20 rfl rfl)
theorem dX3_change_21 : decode cX3_change 21 = .ok (.lconst 0, 1) := dk_9 (dk_at dksX3_change_0 21 rfl rfl)
theorem dX3_change_22 : decode cX3_change 22 = .ok (.ldc2_w 348, 3) := dk_20 1 92 (dk_at dksX3_change_1 0 rfl rfl)
theorem dX3_change_25 : decode cX3_change 25 = .ok (.invokestatic 138, 3) := dk_184 0 138 (dk_at dksX3_change_1 3 rfl rfl)
theorem dX3_change_28 : decode cX3_change 28 = .ok (.ifCond .ne 6, 3) := dk_154 0 6 (dk_at dksX3_change_1 6 rfl rfl)
theorem dX3_change_31 : decode cX3_change 31 = .ok (.bipush (-2), 2) := dk_16 254 (dk_at dksX3_change_1 9 rfl rfl)
theorem dX3_change_33 : decode cX3_change 33 = .ok (.ireturn, 1) := dk_172 (dk_at dksX3_change_1 11 rfl rfl)
theorem dX3_change_34 : decode cX3_change 34 = .ok (.aload_n 0, 1) := dk_42 (dk_at dksX3_change_1 12 rfl rfl)
theorem dX3_change_35 : decode cX3_change 35 = .ok (.invokevirtual 426, 3) := dk_182 1 170 (dk_at dksX3_change_1 13 rfl rfl)
theorem dX3_change_38 : decode cX3_change 38 = .ok (.aload_n 0, 1) := dk_42 (dk_at dksX3_change_1 16 rfl rfl)
theorem dX3_change_39 : decode cX3_change 39 = .ok (.iload_n 1, 1) := dk_27 (dk_at dksX3_change_1 17 rfl rfl)
theorem dX3_change_40 : decode cX3_change 40 = .ok (.invokevirtual 442, 3) := dk_182 1 186 (dk_at dksX3_change_1 18 rfl rfl)
theorem dX3_change_43 : decode cX3_change 43 = .ok (.istore_n 3, 1) := dk_62 (dk_at dksX3_change_1 21 rfl rfl)
theorem dX3_change_44 : decode cX3_change 44 = .ok (.iconst (-1), 1) := dk_2 (dk_at dksX3_change_1 22 rfl rfl)
theorem dX3_change_45 : decode cX3_change 45 = .ok (.istore 4, 2) := dk_54 4 (dk_at dksX3_change_2 0 rfl rfl)
theorem dX3_change_47 : decode cX3_change 47 = .ok (.iconst (-1), 1) := dk_2 (dk_at dksX3_change_2 2 rfl rfl)
theorem dX3_change_48 : decode cX3_change 48 = .ok (.istore 5, 2) := dk_54 5 (dk_at dksX3_change_2 3 rfl rfl)
theorem dX3_change_50 : decode cX3_change 50 = .ok (.iconst 0, 1) := dk_3 (dk_at dksX3_change_2 5 rfl rfl)
theorem dX3_change_51 : decode cX3_change 51 = .ok (.istore 6, 2) := dk_54 6 (dk_at dksX3_change_2 6 rfl rfl)
theorem dX3_change_53 : decode cX3_change 53 = .ok (.iload 6, 2) := dk_21 6 (dk_at dksX3_change_2 8 rfl rfl)
theorem dX3_change_55 : decode cX3_change 55 = .ok (.aload_n 0, 1) := dk_42 (dk_at dksX3_change_2 10 rfl rfl)
theorem dX3_change_56 : decode cX3_change 56 = .ok (.getfield 9, 3) := dk_180 0 9 (dk_at dksX3_change_2 11 rfl rfl)
theorem dX3_change_59 : decode cX3_change 59 = .ok (.iconst 3, 1) := dk_6 (dk_at dksX3_change_2 14 rfl rfl)
theorem dX3_change_60 : decode cX3_change 60 = .ok (.iaload, 1) := dk_46 (dk_at dksX3_change_2 15 rfl rfl)
theorem dX3_change_61 : decode cX3_change 61 = .ok (.if_icmp .ge 64, 3) := dk_162 0 64 (dk_at dksX3_change_2 16 rfl rfl)
theorem dX3_change_64 : decode cX3_change 64 = .ok (.iload 6, 2) := dk_21 6 (dk_at dksX3_change_2 19 rfl rfl)
theorem dX3_change_66 : decode cX3_change 66 = .ok (.iconst 1, 1) := dk_4 (dk_at dksX3_change_2 21 rfl rfl)
theorem dX3_change_67 : decode cX3_change 67 = .ok (.iadd, 1) := dk_96 (dk_at dksX3_change_2 22 rfl rfl)
theorem dX3_change_68 : decode cX3_change 68 = .ok (.istore 7, 2) := dk_54 7 (dk_at dksX3_change_3 0 rfl rfl)
theorem dX3_change_70 : decode cX3_change 70 = .ok (.iload 7, 2) := dk_21 7 (dk_at dksX3_change_3 2 rfl rfl)
theorem dX3_change_72 : decode cX3_change 72 = .ok (.aload_n 0, 1) := dk_42 (dk_at dksX3_change_3 4 rfl rfl)
theorem dX3_change_73 : decode cX3_change 73 = .ok (.getfield 9, 3) := dk_180 0 9 (dk_at dksX3_change_3 5 rfl rfl)
theorem dX3_change_76 : decode cX3_change 76 = .ok (.iconst 3, 1) := dk_6 (dk_at dksX3_change_3 8 rfl rfl)
theorem dX3_change_77 : decode cX3_change 77 = .ok (.iaload, 1) := dk_46 (dk_at dksX3_change_3 9 rfl rfl)
theorem dX3_change_78 : decode cX3_change 78 = .ok (.if_icmp .ge 41, 3) := dk_162 0 41 (dk_at dksX3_change_3 10 rfl rfl)
theorem dX3_change_81 : decode cX3_change 81 = .ok (.aload_n 0, 1) := dk_42 (dk_at dksX3_change_3 13 rfl rfl)
theorem dX3_change_82 : decode cX3_change 82 = .ok (.iload 6, 2) := dk_21 6 (dk_at dksX3_change_3 14 rfl rfl)
theorem dX3_change_84 : decode cX3_change 84 = .ok (.iload 7, 2) := dk_21 7 (dk_at dksX3_change_3 16 rfl rfl)
theorem dX3_change_86 : decode cX3_change 86 = .ok (.invokevirtual 452, 3) := dk_182 1 196 (dk_at dksX3_change_3 18 rfl rfl)
theorem dX3_change_89 : decode cX3_change 89 = .ok (.aload_n 0, 1) := dk_42 (dk_at dksX3_change_3 21 rfl rfl)
theorem dX3_change_90 : decode cX3_change 90 = .ok (.iload_n 1, 1) := dk_27 (dk_at dksX3_change_3 22 rfl rfl)
theorem dX3_change_91 : decode cX3_change 91 = .ok (.invokevirtual 442, 3) := dk_182 1 186 (dk_at dksX3_change_4 0 rfl rfl)
theorem dX3_change_94 : decode cX3_change 94 = .ok (.istore 8, 2) := dk_54 8 (dk_at dksX3_change_4 3 rfl rfl)
theorem dX3_change_96 : decode cX3_change 96 = .ok (.iload 8, 2) := dk_21 8 (dk_at dksX3_change_4 5 rfl rfl)
theorem dX3_change_98 : decode cX3_change 98 = .ok (.iload_n 3, 1) := dk_29 (dk_at dksX3_change_4 7 rfl rfl)
theorem dX3_change_99 : decode cX3_change 99 = .ok (.if_icmp .le 14, 3) := dk_164 0 14 (dk_at dksX3_change_4 8 rfl rfl)
theorem dX3_change_102 : decode cX3_change 102 = .ok (.iload 8, 2) := dk_21 8 (dk_at dksX3_change_4 11 rfl rfl)
theorem dX3_change_104 : decode cX3_change 104 = .ok (.istore_n 3, 1) := dk_62 (dk_at dksX3_change_4 13 rfl rfl)
theorem dX3_change_105 : decode cX3_change 105 = .ok (.iload 6, 2) := dk_21 6 (dk_at dksX3_change_4 14 rfl rfl)
theorem dX3_change_107 : decode cX3_change 107 = .ok (.istore 4, 2) := dk_54 4 (dk_at dksX3_change_4 16 rfl rfl)
theorem dX3_change_109 : decode cX3_change 109 = .ok (.iload 7, 2) := dk_21 7 (dk_at dksX3_change_4 18 rfl rfl)
theorem dX3_change_111 : decode cX3_change 111 = .ok (.istore 5, 2) := dk_54 5 (dk_at dksX3_change_4 20 rfl rfl)
theorem dX3_change_113 : decode cX3_change 113 = .ok (.iinc 7 1, 3) := dk_132 7 1 (dk_at dksX3_change_5 0 rfl rfl)
theorem dX3_change_116 : decode cX3_change 116 = .ok (.goto (-46), 3) := dk_167 255 210 (dk_at dksX3_change_5 3 rfl rfl)
theorem dX3_change_119 : decode cX3_change 119 = .ok (.iinc 6 1, 3) := dk_132 6 1 (dk_at dksX3_change_5 6 rfl rfl)
theorem dX3_change_122 : decode cX3_change 122 = .ok (.goto (-69), 3) := dk_167 255 187 (dk_at dksX3_change_5 9 rfl rfl)
theorem dX3_change_125 : decode cX3_change 125 = .ok (.iload_n 2, 1) := dk_28 (dk_at dksX3_change_5 12 rfl rfl)
theorem dX3_change_126 : decode cX3_change 126 = .ok (.ifCond .ne 7, 3) := dk_154 0 7 (dk_at dksX3_change_5 13 rfl rfl)
theorem dX3_change_129 : decode cX3_change 129 = .ok (.iload_n 3, 1) := dk_29 (dk_at dksX3_change_5 16 rfl rfl)
theorem dX3_change_130 : decode cX3_change 130 = .ok (.goto 15, 3) := dk_167 0 15 (dk_at dksX3_change_5 17 rfl rfl)
theorem dX3_change_133 : decode cX3_change 133 = .ok (.iload_n 2, 1) := dk_28 (dk_at dksX3_change_5 20 rfl rfl)
theorem dX3_change_134 : decode cX3_change 134 = .ok (.iconst 1, 1) := dk_4 (dk_at dksX3_change_5 21 rfl rfl)
theorem dX3_change_135 : decode cX3_change 135 = .ok (.if_icmp .ne 8, 3) := dk_160 0 8 (dk_at dksX3_change_6 0 rfl rfl)
theorem dX3_change_138 : decode cX3_change 138 = .ok (.iload 4, 2) := dk_21 4 (dk_at dksX3_change_6 3 rfl rfl)
theorem dX3_change_140 : decode cX3_change 140 = .ok (.goto 5, 3) := dk_167 0 5 (dk_at dksX3_change_6 5 rfl rfl)
theorem dX3_change_143 : decode cX3_change 143 = .ok (.iload 5, 2) := dk_21 5 (dk_at dksX3_change_6 8 rfl rfl)
theorem dX3_change_145 : decode cX3_change 145 = .ok (.ireturn, 1) := dk_172 (dk_at dksX3_change_6 10 rfl rfl)
abbrev cX3_swaps : ByteArray := prog_17_method_87_code
def yX3_swaps : MethodName := ⟨RX3, "swaps", "(II)V"⟩
def dkwX3_swaps_2 : List UInt8 := [180, 0, 28, 28, 21, 4, 79, 177]
abbrev dktX3_swaps_2 : List UInt8 := dkwX3_swaps_2 ++ []
def dkwX3_swaps_1 : List UInt8 := [28, 46, 79, 42, 180, 0, 28, 27, 42, 180, 0, 28, 28, 46, 79, 42, 180, 0, 25, 28, 29, 79, 42]
abbrev dktX3_swaps_1 : List UInt8 := dkwX3_swaps_1 ++ dktX3_swaps_2
def dkwX3_swaps_0 : List UInt8 := [42, 180, 0, 25, 27, 46, 62, 42, 180, 0, 28, 27, 46, 54, 4, 42, 180, 0, 25, 27, 42, 180, 0, 25]
abbrev dktX3_swaps_0 : List UInt8 := dkwX3_swaps_0 ++ dktX3_swaps_1
theorem dksX3_swaps_0 : cX3_swaps.data.toList.drop 0 = dktX3_swaps_0 := by decide +kernel
theorem dksX3_swaps_1 : cX3_swaps.data.toList.drop 24 = dktX3_swaps_1 := dk_seg dksX3_swaps_0 24 rfl rfl
theorem dksX3_swaps_2 : cX3_swaps.data.toList.drop 47 = dktX3_swaps_2 := dk_seg dksX3_swaps_1 23 rfl rfl
theorem dX3_swaps_0 : decode cX3_swaps 0 = .ok (.aload_n 0, 1) := dk_42 (dk_at dksX3_swaps_0 0 rfl rfl)
theorem dX3_swaps_1 : decode cX3_swaps 1 = .ok (.getfield 25, 3) := dk_180 0 25 (dk_at dksX3_swaps_0 1 rfl rfl)
theorem dX3_swaps_4 : decode cX3_swaps 4 = .ok (.iload_n 1, 1) := dk_27 (dk_at dksX3_swaps_0 4 rfl rfl)
theorem dX3_swaps_5 : decode cX3_swaps 5 = .ok (.iaload, 1) := dk_46 (dk_at dksX3_swaps_0 5 rfl rfl)
theorem dX3_swaps_6 : decode cX3_swaps 6 = .ok (.istore_n 3, 1) := dk_62 (dk_at dksX3_swaps_0 6 rfl rfl)
theorem dX3_swaps_7 : decode cX3_swaps 7 = .ok (.aload_n 0, 1) := dk_42 (dk_at dksX3_swaps_0 7 rfl rfl)
theorem dX3_swaps_8 : decode cX3_swaps 8 = .ok (.getfield 28, 3) := dk_180 0 28 (dk_at dksX3_swaps_0 8 rfl rfl)
theorem dX3_swaps_11 : decode cX3_swaps 11 = .ok (.iload_n 1, 1) := dk_27 (dk_at dksX3_swaps_0 11 rfl rfl)
theorem dX3_swaps_12 : decode cX3_swaps 12 = .ok (.iaload, 1) := dk_46 (dk_at dksX3_swaps_0 12 rfl rfl)
theorem dX3_swaps_13 : decode cX3_swaps 13 = .ok (.istore 4, 2) := dk_54 4 (dk_at dksX3_swaps_0 13 rfl rfl)
theorem dX3_swaps_15 : decode cX3_swaps 15 = .ok (.aload_n 0, 1) := dk_42 (dk_at dksX3_swaps_0 15 rfl rfl)
theorem dX3_swaps_16 : decode cX3_swaps 16 = .ok (.getfield 25, 3) := dk_180 0 25 (dk_at dksX3_swaps_0 16 rfl rfl)
theorem dX3_swaps_19 : decode cX3_swaps 19 = .ok (.iload_n 1, 1) := dk_27 (dk_at dksX3_swaps_0 19 rfl rfl)
theorem dX3_swaps_20 : decode cX3_swaps 20 = .ok (.aload_n 0, 1) := dk_42 (dk_at dksX3_swaps_0 20 rfl rfl)
theorem dX3_swaps_21 : decode cX3_swaps 21 = .ok (.getfield 25, 3) := dk_180 0 25 (dk_at dksX3_swaps_0 21 rfl rfl)
theorem dX3_swaps_24 : decode cX3_swaps 24 = .ok (.iload_n 2, 1) := dk_28 (dk_at dksX3_swaps_1 0 rfl rfl)
theorem dX3_swaps_25 : decode cX3_swaps 25 = .ok (.iaload, 1) := dk_46 (dk_at dksX3_swaps_1 1 rfl rfl)
theorem dX3_swaps_26 : decode cX3_swaps 26 = .ok (.iastore, 1) := dk_79 (dk_at dksX3_swaps_1 2 rfl rfl)
theorem dX3_swaps_27 : decode cX3_swaps 27 = .ok (.aload_n 0, 1) := dk_42 (dk_at dksX3_swaps_1 3 rfl rfl)
theorem dX3_swaps_28 : decode cX3_swaps 28 = .ok (.getfield 28, 3) := dk_180 0 28 (dk_at dksX3_swaps_1 4 rfl rfl)
theorem dX3_swaps_31 : decode cX3_swaps 31 = .ok (.iload_n 1, 1) := dk_27 (dk_at dksX3_swaps_1 7 rfl rfl)
theorem dX3_swaps_32 : decode cX3_swaps 32 = .ok (.aload_n 0, 1) := dk_42 (dk_at dksX3_swaps_1 8 rfl rfl)
theorem dX3_swaps_33 : decode cX3_swaps 33 = .ok (.getfield 28, 3) := dk_180 0 28 (dk_at dksX3_swaps_1 9 rfl rfl)
theorem dX3_swaps_36 : decode cX3_swaps 36 = .ok (.iload_n 2, 1) := dk_28 (dk_at dksX3_swaps_1 12 rfl rfl)
theorem dX3_swaps_37 : decode cX3_swaps 37 = .ok (.iaload, 1) := dk_46 (dk_at dksX3_swaps_1 13 rfl rfl)
theorem dX3_swaps_38 : decode cX3_swaps 38 = .ok (.iastore, 1) := dk_79 (dk_at dksX3_swaps_1 14 rfl rfl)
theorem dX3_swaps_39 : decode cX3_swaps 39 = .ok (.aload_n 0, 1) := dk_42 (dk_at dksX3_swaps_1 15 rfl rfl)
theorem dX3_swaps_40 : decode cX3_swaps 40 = .ok (.getfield 25, 3) := dk_180 0 25 (dk_at dksX3_swaps_1 16 rfl rfl)
theorem dX3_swaps_43 : decode cX3_swaps 43 = .ok (.iload_n 2, 1) := dk_28 (dk_at dksX3_swaps_1 19 rfl rfl)
theorem dX3_swaps_44 : decode cX3_swaps 44 = .ok (.iload_n 3, 1) := dk_29 (dk_at dksX3_swaps_1 20 rfl rfl)
theorem dX3_swaps_45 : decode cX3_swaps 45 = .ok (.iastore, 1) := dk_79 (dk_at dksX3_swaps_1 21 rfl rfl)
theorem dX3_swaps_46 : decode cX3_swaps 46 = .ok (.aload_n 0, 1) := dk_42 (dk_at dksX3_swaps_1 22 rfl rfl)
theorem dX3_swaps_47 : decode cX3_swaps 47 = .ok (.getfield 28, 3) := dk_180 0 28 (dk_at dksX3_swaps_2 0 rfl rfl)
theorem dX3_swaps_50 : decode cX3_swaps 50 = .ok (.iload_n 2, 1) := dk_28 (dk_at dksX3_swaps_2 3 rfl rfl)
theorem dX3_swaps_51 : decode cX3_swaps 51 = .ok (.iload 4, 2) := dk_21 4 (dk_at dksX3_swaps_2 4 rfl rfl)
theorem dX3_swaps_53 : decode cX3_swaps 53 = .ok (.iastore, 1) := dk_79 (dk_at dksX3_swaps_2 6 rfl rfl)
theorem dX3_swaps_54 : decode cX3_swaps 54 = .ok (.return_, 1) := dk_177 (dk_at dksX3_swaps_2 7 rfl rfl)
abbrev cX3_game : ByteArray := prog_17_method_91_code
def yX3_game : MethodName := ⟨RX3, "game", "(IIII)I"⟩
def dkwX3_game_8 : List UInt8 := [154, 0, 13, 42, 180, 0, 109, 21, 6, 46, 167, 0, 7, 21, 6, 4, 100, 172]
abbrev dktX3_game_8 : List UInt8 := dkwX3_game_8 ++ []
def dkwX3_game_7 : List UInt8 := [79, 132, 7, 1, 167, 255, 214, 132, 6, 255, 167, 255, 194, 42, 3, 4, 182, 1, 206, 54, 6, 21, 4]
abbrev dktX3_game_7 : List UInt8 := dkwX3_game_7 ++ dktX3_game_8
def dkwX3_game_6 : List UInt8 := [180, 0, 109, 42, 8, 21, 7, 104, 21, 6, 5, 112, 154, 0, 7, 4, 167, 0, 4, 3, 182, 1, 206, 46]
abbrev dktX3_game_6 : List UInt8 := dkwX3_game_6 ++ dktX3_game_7
def dkwX3_game_5 : List UInt8 := [21, 5, 8, 108, 54, 5, 3, 54, 7, 21, 7, 21, 5, 162, 0, 41, 42, 180, 0, 109, 21, 7, 42]
abbrev dktX3_game_5 : List UInt8 := dkwX3_game_5 ++ dktX3_game_6
def dkwX3_game_4 : List UInt8 := [21, 6, 21, 5, 182, 1, 202, 79, 132, 6, 1, 167, 255, 228, 29, 4, 100, 54, 6, 21, 6, 158, 0, 63]
abbrev dktX3_game_4 : List UInt8 := dkwX3_game_4 ++ dktX3_game_5
def dkwX3_game_3 : List UInt8 := [42, 182, 1, 170, 3, 54, 6, 21, 6, 21, 5, 162, 0, 27, 42, 180, 0, 109, 21, 6, 42, 27, 28, 29]
abbrev dktX3_game_3 : List UInt8 := dkwX3_game_3 ++ dktX3_game_4
def dkwX3_game_2 : List UInt8 := [4, 54, 5, 3, 54, 6, 21, 6, 29, 162, 0, 15, 21, 5, 8, 104, 54, 5, 132, 6, 1, 167, 255, 241]
abbrev dktX3_game_2 : List UInt8 := dkwX3_game_2 ++ dktX3_game_3
def dkwX3_game_1 : List UInt8 := [20, 1, 200, 184, 0, 138, 153, 0, 14, 21, 4, 133, 9, 10, 184, 0, 138, 154, 0, 7, 17, 252, 24, 172]
abbrev dktX3_game_1 : List UInt8 := dkwX3_game_1 ++ dktX3_game_2
def dkwX3_game_0 : List UInt8 := [42, 27, 182, 1, 85, 153, 0, 39, 42, 28, 182, 1, 85, 153, 0, 31, 27, 28, 159, 0, 26, 29, 133, 10]
abbrev dktX3_game_0 : List UInt8 := dkwX3_game_0 ++ dktX3_game_1
theorem dksX3_game_0 : cX3_game.data.toList.drop 0 = dktX3_game_0 := by decide +kernel
theorem dksX3_game_1 : cX3_game.data.toList.drop 24 = dktX3_game_1 := dk_seg dksX3_game_0 24 rfl rfl
theorem dksX3_game_2 : cX3_game.data.toList.drop 48 = dktX3_game_2 := dk_seg dksX3_game_1 24 rfl rfl
theorem dksX3_game_3 : cX3_game.data.toList.drop 72 = dktX3_game_3 := dk_seg dksX3_game_2 24 rfl rfl
theorem dksX3_game_4 : cX3_game.data.toList.drop 96 = dktX3_game_4 := dk_seg dksX3_game_3 24 rfl rfl
theorem dksX3_game_5 : cX3_game.data.toList.drop 120 = dktX3_game_5 := dk_seg dksX3_game_4 24 rfl rfl
theorem dksX3_game_6 : cX3_game.data.toList.drop 143 = dktX3_game_6 := dk_seg dksX3_game_5 23 rfl rfl
theorem dksX3_game_7 : cX3_game.data.toList.drop 167 = dktX3_game_7 := dk_seg dksX3_game_6 24 rfl rfl
theorem dksX3_game_8 : cX3_game.data.toList.drop 190 = dktX3_game_8 := dk_seg dksX3_game_7 23 rfl rfl
theorem dX3_game_0 : decode cX3_game 0 = .ok (.aload_n 0, 1) := dk_42 (dk_at dksX3_game_0 0 rfl rfl)
theorem dX3_game_1 : decode cX3_game 1 = .ok (.iload_n 1, 1) := dk_27 (dk_at dksX3_game_0 1 rfl rfl)
theorem dX3_game_2 : decode cX3_game 2 = .ok (.invokevirtual 341, 3) := dk_182 1 85 (dk_at dksX3_game_0 2 rfl rfl)
theorem dX3_game_5 : decode cX3_game 5 = .ok (.ifCond .eq 39, 3) := dk_153 0 39 (dk_at dksX3_game_0 5 rfl rfl)
theorem dX3_game_8 : decode cX3_game 8 = .ok (.aload_n 0, 1) := dk_42 (dk_at dksX3_game_0 8 rfl rfl)
theorem dX3_game_9 : decode cX3_game 9 = .ok (.iload_n 2, 1) := dk_28 (dk_at dksX3_game_0 9 rfl rfl)
theorem dX3_game_10 : decode cX3_game 10 = .ok (.invokevirtual 341, 3) := dk_182 1 85 (dk_at dksX3_game_0 10 rfl rfl)
theorem dX3_game_13 : decode cX3_game 13 = .ok (.ifCond .eq 31, 3) := dk_153 0 31 (dk_at dksX3_game_0 13 rfl rfl)
theorem dX3_game_16 : decode cX3_game 16 = .ok (.iload_n 1, 1) := dk_27 (dk_at dksX3_game_0 16 rfl rfl)
theorem dX3_game_17 : decode cX3_game 17 = .ok (.iload_n 2, 1) := dk_28 (dk_at dksX3_game_0 17 rfl rfl)
theorem dX3_game_18 : decode cX3_game 18 = .ok (.if_icmp .eq 26, 3) := dk_159 0 26 (dk_at dksX3_game_0 18 rfl rfl)
theorem dX3_game_21 : decode cX3_game 21 = .ok (.iload_n 3, 1) := dk_29 (dk_at dksX3_game_0 21 rfl rfl)
theorem dX3_game_22 : decode cX3_game 22 = .ok (.i2l, 1) := dk_133 (dk_at dksX3_game_0 22 rfl rfl)
theorem dX3_game_23 : decode cX3_game 23 = .ok (.lconst 1, 1) := dk_10 (dk_at dksX3_game_0 23 rfl rfl)
theorem dX3_game_24 : decode cX3_game 24 = .ok (.ldc2_w 456, 3) := dk_20 1 200 (dk_at dksX3_game_1 0 rfl rfl)
theorem dX3_game_27 : decode cX3_game 27 = .ok (.invokestatic 138, 3) := dk_184 0 138 (dk_at dksX3_game_1 3 rfl rfl)
theorem dX3_game_30 : decode cX3_game 30 = .ok (.ifCond .eq 14, 3) := dk_153 0 14 (dk_at dksX3_game_1 6 rfl rfl)
theorem dX3_game_33 : decode cX3_game 33 = .ok (.iload 4, 2) := dk_21 4 (dk_at dksX3_game_1 9 rfl rfl)
theorem dX3_game_35 : decode cX3_game 35 = .ok (.i2l, 1) := dk_133 (dk_at dksX3_game_1 11 rfl rfl)
theorem dX3_game_36 : decode cX3_game 36 = .ok (.lconst 0, 1) := dk_9 (dk_at dksX3_game_1 12 rfl rfl)
theorem dX3_game_37 : decode cX3_game 37 = .ok (.lconst 1, 1) := dk_10 (dk_at dksX3_game_1 13 rfl rfl)
theorem dX3_game_38 : decode cX3_game 38 = .ok (.invokestatic 138, 3) := dk_184 0 138 (dk_at dksX3_game_1 14 rfl rfl)
theorem dX3_game_41 : decode cX3_game 41 = .ok (.ifCond .ne 7, 3) := dk_154 0 7 (dk_at dksX3_game_1 17 rfl rfl)
theorem dX3_game_44 : decode cX3_game 44 = .ok (.sipush (-1000), 3) := dk_17 252 24 (dk_at dksX3_game_1 20 rfl rfl)
theorem dX3_game_47 : decode cX3_game 47 = .ok (.ireturn, 1) := dk_172 (dk_at dksX3_game_1 23 rfl rfl)
theorem dX3_game_48 : decode cX3_game 48 = .ok (.iconst 1, 1) := dk_4 (dk_at dksX3_game_2 0 rfl rfl)
theorem dX3_game_49 : decode cX3_game 49 = .ok (.istore 5, 2) := dk_54 5 (dk_at dksX3_game_2 1 rfl rfl)
theorem dX3_game_51 : decode cX3_game 51 = .ok (.iconst 0, 1) := dk_3 (dk_at dksX3_game_2 3 rfl rfl)
theorem dX3_game_52 : decode cX3_game 52 = .ok (.istore 6, 2) := dk_54 6 (dk_at dksX3_game_2 4 rfl rfl)
theorem dX3_game_54 : decode cX3_game 54 = .ok (.iload 6, 2) := dk_21 6 (dk_at dksX3_game_2 6 rfl rfl)
theorem dX3_game_56 : decode cX3_game 56 = .ok (.iload_n 3, 1) := dk_29 (dk_at dksX3_game_2 8 rfl rfl)
theorem dX3_game_57 : decode cX3_game 57 = .ok (.if_icmp .ge 15, 3) := dk_162 0 15 (dk_at dksX3_game_2 9 rfl rfl)
theorem dX3_game_60 : decode cX3_game 60 = .ok (.iload 5, 2) := dk_21 5 (dk_at dksX3_game_2 12 rfl rfl)
theorem dX3_game_62 : decode cX3_game 62 = .ok (.iconst 5, 1) := dk_8 (dk_at dksX3_game_2 14 rfl rfl)
theorem dX3_game_63 : decode cX3_game 63 = .ok (.imul, 1) := dk_104 (dk_at dksX3_game_2 15 rfl rfl)
theorem dX3_game_64 : decode cX3_game 64 = .ok (.istore 5, 2) := dk_54 5 (dk_at dksX3_game_2 16 rfl rfl)
theorem dX3_game_66 : decode cX3_game 66 = .ok (.iinc 6 1, 3) := dk_132 6 1 (dk_at dksX3_game_2 18 rfl rfl)
theorem dX3_game_69 : decode cX3_game 69 = .ok (.goto (-15), 3) := dk_167 255 241 (dk_at dksX3_game_2 21 rfl rfl)
theorem dX3_game_72 : decode cX3_game 72 = .ok (.aload_n 0, 1) := dk_42 (dk_at dksX3_game_3 0 rfl rfl)
theorem dX3_game_73 : decode cX3_game 73 = .ok (.invokevirtual 426, 3) := dk_182 1 170 (dk_at dksX3_game_3 1 rfl rfl)
theorem dX3_game_76 : decode cX3_game 76 = .ok (.iconst 0, 1) := dk_3 (dk_at dksX3_game_3 4 rfl rfl)
theorem dX3_game_77 : decode cX3_game 77 = .ok (.istore 6, 2) := dk_54 6 (dk_at dksX3_game_3 5 rfl rfl)
theorem dX3_game_79 : decode cX3_game 79 = .ok (.iload 6, 2) := dk_21 6 (dk_at dksX3_game_3 7 rfl rfl)
theorem dX3_game_81 : decode cX3_game 81 = .ok (.iload 5, 2) := dk_21 5 (dk_at dksX3_game_3 9 rfl rfl)
theorem dX3_game_83 : decode cX3_game 83 = .ok (.if_icmp .ge 27, 3) := dk_162 0 27 (dk_at dksX3_game_3 11 rfl rfl)
theorem dX3_game_86 : decode cX3_game 86 = .ok (.aload_n 0, 1) := dk_42 (dk_at dksX3_game_3 14 rfl rfl)
theorem dX3_game_87 : decode cX3_game 87 = .ok (.getfield 109, 3) := dk_180 0 109 (dk_at dksX3_game_3 15 rfl rfl)
theorem dX3_game_90 : decode cX3_game 90 = .ok (.iload 6, 2) := dk_21 6 (dk_at dksX3_game_3 18 rfl rfl)
theorem dX3_game_92 : decode cX3_game 92 = .ok (.aload_n 0, 1) := dk_42 (dk_at dksX3_game_3 20 rfl rfl)
theorem dX3_game_93 : decode cX3_game 93 = .ok (.iload_n 1, 1) := dk_27 (dk_at dksX3_game_3 21 rfl rfl)
theorem dX3_game_94 : decode cX3_game 94 = .ok (.iload_n 2, 1) := dk_28 (dk_at dksX3_game_3 22 rfl rfl)
theorem dX3_game_95 : decode cX3_game 95 = .ok (.iload_n 3, 1) := dk_29 (dk_at dksX3_game_3 23 rfl rfl)
theorem dX3_game_96 : decode cX3_game 96 = .ok (.iload 6, 2) := dk_21 6 (dk_at dksX3_game_4 0 rfl rfl)
theorem dX3_game_98 : decode cX3_game 98 = .ok (.iload 5, 2) := dk_21 5 (dk_at dksX3_game_4 2 rfl rfl)
theorem dX3_game_100 : decode cX3_game 100 = .ok (.invokevirtual 458, 3) := dk_182 1 202 (dk_at dksX3_game_4 4 rfl rfl)
theorem dX3_game_103 : decode cX3_game 103 = .ok (.iastore, 1) := dk_79 (dk_at dksX3_game_4 7 rfl rfl)
theorem dX3_game_104 : decode cX3_game 104 = .ok (.iinc 6 1, 3) := dk_132 6 1 (dk_at dksX3_game_4 8 rfl rfl)
theorem dX3_game_107 : decode cX3_game 107 = .ok (.goto (-28), 3) := dk_167 255 228 (dk_at dksX3_game_4 11 rfl rfl)
theorem dX3_game_110 : decode cX3_game 110 = .ok (.iload_n 3, 1) := dk_29 (dk_at dksX3_game_4 14 rfl rfl)
theorem dX3_game_111 : decode cX3_game 111 = .ok (.iconst 1, 1) := dk_4 (dk_at dksX3_game_4 15 rfl rfl)
theorem dX3_game_112 : decode cX3_game 112 = .ok (.isub, 1) := dk_100 (dk_at dksX3_game_4 16 rfl rfl)
theorem dX3_game_113 : decode cX3_game 113 = .ok (.istore 6, 2) := dk_54 6 (dk_at dksX3_game_4 17 rfl rfl)
theorem dX3_game_115 : decode cX3_game 115 = .ok (.iload 6, 2) := dk_21 6 (dk_at dksX3_game_4 19 rfl rfl)
theorem dX3_game_117 : decode cX3_game 117 = .ok (.ifCond .le 63, 3) := dk_158 0 63 (dk_at dksX3_game_4 21 rfl rfl)
theorem dX3_game_120 : decode cX3_game 120 = .ok (.iload 5, 2) := dk_21 5 (dk_at dksX3_game_5 0 rfl rfl)
theorem dX3_game_122 : decode cX3_game 122 = .ok (.iconst 5, 1) := dk_8 (dk_at dksX3_game_5 2 rfl rfl)
theorem dX3_game_123 : decode cX3_game 123 = .ok (.idiv, 1) := dk_108 (dk_at dksX3_game_5 3 rfl rfl)
theorem dX3_game_124 : decode cX3_game 124 = .ok (.istore 5, 2) := dk_54 5 (dk_at dksX3_game_5 4 rfl rfl)
theorem dX3_game_126 : decode cX3_game 126 = .ok (.iconst 0, 1) := dk_3 (dk_at dksX3_game_5 6 rfl rfl)
theorem dX3_game_127 : decode cX3_game 127 = .ok (.istore 7, 2) := dk_54 7 (dk_at dksX3_game_5 7 rfl rfl)
theorem dX3_game_129 : decode cX3_game 129 = .ok (.iload 7, 2) := dk_21 7 (dk_at dksX3_game_5 9 rfl rfl)
theorem dX3_game_131 : decode cX3_game 131 = .ok (.iload 5, 2) := dk_21 5 (dk_at dksX3_game_5 11 rfl rfl)
theorem dX3_game_133 : decode cX3_game 133 = .ok (.if_icmp .ge 41, 3) := dk_162 0 41 (dk_at dksX3_game_5 13 rfl rfl)
theorem dX3_game_136 : decode cX3_game 136 = .ok (.aload_n 0, 1) := dk_42 (dk_at dksX3_game_5 16 rfl rfl)
theorem dX3_game_137 : decode cX3_game 137 = .ok (.getfield 109, 3) := dk_180 0 109 (dk_at dksX3_game_5 17 rfl rfl)
theorem dX3_game_140 : decode cX3_game 140 = .ok (.iload 7, 2) := dk_21 7 (dk_at dksX3_game_5 20 rfl rfl)
theorem dX3_game_142 : decode cX3_game 142 = .ok (.aload_n 0, 1) := dk_42 (dk_at dksX3_game_5 22 rfl rfl)
theorem dX3_game_143 : decode cX3_game 143 = .ok (.getfield 109, 3) := dk_180 0 109 (dk_at dksX3_game_6 0 rfl rfl)
theorem dX3_game_146 : decode cX3_game 146 = .ok (.aload_n 0, 1) := dk_42 (dk_at dksX3_game_6 3 rfl rfl)
theorem dX3_game_147 : decode cX3_game 147 = .ok (.iconst 5, 1) := dk_8 (dk_at dksX3_game_6 4 rfl rfl)
theorem dX3_game_148 : decode cX3_game 148 = .ok (.iload 7, 2) := dk_21 7 (dk_at dksX3_game_6 5 rfl rfl)
theorem dX3_game_150 : decode cX3_game 150 = .ok (.imul, 1) := dk_104 (dk_at dksX3_game_6 7 rfl rfl)
theorem dX3_game_151 : decode cX3_game 151 = .ok (.iload 6, 2) := dk_21 6 (dk_at dksX3_game_6 8 rfl rfl)
theorem dX3_game_153 : decode cX3_game 153 = .ok (.iconst 2, 1) := dk_5 (dk_at dksX3_game_6 10 rfl rfl)
theorem dX3_game_154 : decode cX3_game 154 = .ok (.irem, 1) := dk_112 (dk_at dksX3_game_6 11 rfl rfl)
theorem dX3_game_155 : decode cX3_game 155 = .ok (.ifCond .ne 7, 3) := dk_154 0 7 (dk_at dksX3_game_6 12 rfl rfl)
theorem dX3_game_158 : decode cX3_game 158 = .ok (.iconst 1, 1) := dk_4 (dk_at dksX3_game_6 15 rfl rfl)
theorem dX3_game_159 : decode cX3_game 159 = .ok (.goto 4, 3) := dk_167 0 4 (dk_at dksX3_game_6 16 rfl rfl)
theorem dX3_game_162 : decode cX3_game 162 = .ok (.iconst 0, 1) := dk_3 (dk_at dksX3_game_6 19 rfl rfl)
theorem dX3_game_163 : decode cX3_game 163 = .ok (.invokevirtual 462, 3) := dk_182 1 206 (dk_at dksX3_game_6 20 rfl rfl)
theorem dX3_game_166 : decode cX3_game 166 = .ok (.iaload, 1) := dk_46 (dk_at dksX3_game_6 23 rfl rfl)
theorem dX3_game_167 : decode cX3_game 167 = .ok (.iastore, 1) := dk_79 (dk_at dksX3_game_7 0 rfl rfl)
theorem dX3_game_168 : decode cX3_game 168 = .ok (.iinc 7 1, 3) := dk_132 7 1 (dk_at dksX3_game_7 1 rfl rfl)
theorem dX3_game_171 : decode cX3_game 171 = .ok (.goto (-42), 3) := dk_167 255 214 (dk_at dksX3_game_7 4 rfl rfl)
theorem dX3_game_174 : decode cX3_game 174 = .ok (.iinc 6 (-1), 3) := dk_132 6 255 (dk_at dksX3_game_7 7 rfl rfl)
theorem dX3_game_177 : decode cX3_game 177 = .ok (.goto (-62), 3) := dk_167 255 194 (dk_at dksX3_game_7 10 rfl rfl)
theorem dX3_game_180 : decode cX3_game 180 = .ok (.aload_n 0, 1) := dk_42 (dk_at dksX3_game_7 13 rfl rfl)
theorem dX3_game_181 : decode cX3_game 181 = .ok (.iconst 0, 1) := dk_3 (dk_at dksX3_game_7 14 rfl rfl)
theorem dX3_game_182 : decode cX3_game 182 = .ok (.iconst 1, 1) := dk_4 (dk_at dksX3_game_7 15 rfl rfl)
theorem dX3_game_183 : decode cX3_game 183 = .ok (.invokevirtual 462, 3) := dk_182 1 206 (dk_at dksX3_game_7 16 rfl rfl)
theorem dX3_game_186 : decode cX3_game 186 = .ok (.istore 6, 2) := dk_54 6 (dk_at dksX3_game_7 19 rfl rfl)
theorem dX3_game_188 : decode cX3_game 188 = .ok (.iload 4, 2) := dk_21 4 (dk_at dksX3_game_7 21 rfl rfl)
theorem dX3_game_190 : decode cX3_game 190 = .ok (.ifCond .ne 13, 3) := dk_154 0 13 (dk_at dksX3_game_8 0 rfl rfl)
theorem dX3_game_193 : decode cX3_game 193 = .ok (.aload_n 0, 1) := dk_42 (dk_at dksX3_game_8 3 rfl rfl)
theorem dX3_game_194 : decode cX3_game 194 = .ok (.getfield 109, 3) := dk_180 0 109 (dk_at dksX3_game_8 4 rfl rfl)
theorem dX3_game_197 : decode cX3_game 197 = .ok (.iload 6, 2) := dk_21 6 (dk_at dksX3_game_8 7 rfl rfl)
theorem dX3_game_199 : decode cX3_game 199 = .ok (.iaload, 1) := dk_46 (dk_at dksX3_game_8 9 rfl rfl)
theorem dX3_game_200 : decode cX3_game 200 = .ok (.goto 7, 3) := dk_167 0 7 (dk_at dksX3_game_8 10 rfl rfl)
theorem dX3_game_203 : decode cX3_game 203 = .ok (.iload 6, 2) := dk_21 6 (dk_at dksX3_game_8 13 rfl rfl)
theorem dX3_game_205 : decode cX3_game 205 = .ok (.iconst 1, 1) := dk_4 (dk_at dksX3_game_8 15 rfl rfl)
theorem dX3_game_206 : decode cX3_game 206 = .ok (.isub, 1) := dk_100 (dk_at dksX3_game_8 16 rfl rfl)
theorem dX3_game_207 : decode cX3_game 207 = .ok (.ireturn, 1) := dk_172 (dk_at dksX3_game_8 17 rfl rfl)
abbrev cX3_playOf : ByteArray := prog_17_method_89_code
def yX3_playOf : MethodName := ⟨RX3, "playOf", "(IIIII)I"⟩
def dkwX3_playOf_6 : List UInt8 := [167, 0, 6, 19, 1, 199, 54, 8, 42, 182, 1, 163, 21, 8, 172]
abbrev dktX3_playOf_6 : List UInt8 := dkwX3_playOf_6 ++ []
def dkwX3_playOf_5 : List UInt8 := [132, 8, 1, 167, 255, 145, 21, 7, 153, 0, 17, 42, 27, 182, 1, 82, 42, 28, 182, 1, 82, 100]
abbrev dktX3_playOf_5 : List UInt8 := dkwX3_playOf_5 ++ dktX3_playOf_6
def dkwX3_playOf_4 : List UInt8 := [21, 7, 153, 0, 21, 42, 180, 0, 13, 21, 9, 21, 11, 79, 42, 180, 0, 19, 21, 11, 21, 9, 79]
abbrev dktX3_playOf_4 : List UInt8 := dkwX3_playOf_4 ++ dktX3_playOf_5
def dkwX3_playOf_3 : List UInt8 := [46, 21, 10, 4, 100, 182, 1, 107, 54, 11, 21, 11, 2, 159, 0, 7, 4, 167, 0, 4, 3, 54, 7]
abbrev dktX3_playOf_3 : List UInt8 := dkwX3_playOf_3 ++ dktX3_playOf_4
def dkwX3_playOf_2 : List UInt8 := [54, 10, 21, 10, 154, 0, 13, 42, 180, 0, 13, 21, 9, 46, 167, 0, 18, 42, 42, 180, 0, 13, 21, 9]
abbrev dktX3_playOf_2 : List UInt8 := dkwX3_playOf_2 ++ dktX3_playOf_3
def dkwX3_playOf_1 : List UInt8 := [112, 154, 0, 7, 27, 167, 0, 4, 28, 54, 9, 21, 6, 8, 108, 54, 6, 21, 4, 21, 6, 108, 8, 112]
abbrev dktX3_playOf_1 : List UInt8 := dkwX3_playOf_1 ++ dktX3_playOf_2
def dkwX3_playOf_0 : List UInt8 := [21, 5, 54, 6, 4, 54, 7, 3, 54, 8, 21, 8, 29, 162, 0, 111, 21, 7, 153, 0, 106, 21, 8, 5]
abbrev dktX3_playOf_0 : List UInt8 := dkwX3_playOf_0 ++ dktX3_playOf_1
theorem dksX3_playOf_0 : cX3_playOf.data.toList.drop 0 = dktX3_playOf_0 := by decide +kernel
theorem dksX3_playOf_1 : cX3_playOf.data.toList.drop 24 = dktX3_playOf_1 := dk_seg dksX3_playOf_0 24 rfl rfl
theorem dksX3_playOf_2 : cX3_playOf.data.toList.drop 48 = dktX3_playOf_2 := dk_seg dksX3_playOf_1 24 rfl rfl
theorem dksX3_playOf_3 : cX3_playOf.data.toList.drop 72 = dktX3_playOf_3 := dk_seg dksX3_playOf_2 24 rfl rfl
theorem dksX3_playOf_4 : cX3_playOf.data.toList.drop 95 = dktX3_playOf_4 := dk_seg dksX3_playOf_3 23 rfl rfl
theorem dksX3_playOf_5 : cX3_playOf.data.toList.drop 118 = dktX3_playOf_5 := dk_seg dksX3_playOf_4 23 rfl rfl
theorem dksX3_playOf_6 : cX3_playOf.data.toList.drop 140 = dktX3_playOf_6 := dk_seg dksX3_playOf_5 22 rfl rfl
theorem dX3_playOf_0 : decode cX3_playOf 0 = .ok (.iload 5, 2) := dk_21 5 (dk_at dksX3_playOf_0 0 rfl rfl)
theorem dX3_playOf_2 : decode cX3_playOf 2 = .ok (.istore 6, 2) := dk_54 6 (dk_at dksX3_playOf_0 2 rfl rfl)
theorem dX3_playOf_4 : decode cX3_playOf 4 = .ok (.iconst 1, 1) := dk_4 (dk_at dksX3_playOf_0 4 rfl rfl)
theorem dX3_playOf_5 : decode cX3_playOf 5 = .ok (.istore 7, 2) := dk_54 7 (dk_at dksX3_playOf_0 5 rfl rfl)
theorem dX3_playOf_7 : decode cX3_playOf 7 = .ok (.iconst 0, 1) := dk_3 (dk_at dksX3_playOf_0 7 rfl rfl)
theorem dX3_playOf_8 : decode cX3_playOf 8 = .ok (.istore 8, 2) := dk_54 8 (dk_at dksX3_playOf_0 8 rfl rfl)
theorem dX3_playOf_10 : decode cX3_playOf 10 = .ok (.iload 8, 2) := dk_21 8 (dk_at dksX3_playOf_0 10 rfl rfl)
theorem dX3_playOf_12 : decode cX3_playOf 12 = .ok (.iload_n 3, 1) := dk_29 (dk_at dksX3_playOf_0 12 rfl rfl)
theorem dX3_playOf_13 : decode cX3_playOf 13 = .ok (.if_icmp .ge 111, 3) := dk_162 0 111 (dk_at dksX3_playOf_0 13 rfl rfl)
theorem dX3_playOf_16 : decode cX3_playOf 16 = .ok (.iload 7, 2) := dk_21 7 (dk_at dksX3_playOf_0 16 rfl rfl)
theorem dX3_playOf_18 : decode cX3_playOf 18 = .ok (.ifCond .eq 106, 3) := dk_153 0 106 (dk_at dksX3_playOf_0 18 rfl rfl)
theorem dX3_playOf_21 : decode cX3_playOf 21 = .ok (.iload 8, 2) := dk_21 8 (dk_at dksX3_playOf_0 21 rfl rfl)
theorem dX3_playOf_23 : decode cX3_playOf 23 = .ok (.iconst 2, 1) := dk_5 (dk_at dksX3_playOf_0 23 rfl rfl)
theorem dX3_playOf_24 : decode cX3_playOf 24 = .ok (.irem, 1) := dk_112 (dk_at dksX3_playOf_1 0 rfl rfl)
theorem dX3_playOf_25 : decode cX3_playOf 25 = .ok (.ifCond .ne 7, 3) := dk_154 0 7 (dk_at dksX3_playOf_1 1 rfl rfl)
theorem dX3_playOf_28 : decode cX3_playOf 28 = .ok (.iload_n 1, 1) := dk_27 (dk_at dksX3_playOf_1 4 rfl rfl)
theorem dX3_playOf_29 : decode cX3_playOf 29 = .ok (.goto 4, 3) := dk_167 0 4 (dk_at dksX3_playOf_1 5 rfl rfl)
theorem dX3_playOf_32 : decode cX3_playOf 32 = .ok (.iload_n 2, 1) := dk_28 (dk_at dksX3_playOf_1 8 rfl rfl)
theorem dX3_playOf_33 : decode cX3_playOf 33 = .ok (.istore 9, 2) := dk_54 9 (dk_at dksX3_playOf_1 9 rfl rfl)
theorem dX3_playOf_35 : decode cX3_playOf 35 = .ok (.iload 6, 2) := dk_21 6 (dk_at dksX3_playOf_1 11 rfl rfl)
theorem dX3_playOf_37 : decode cX3_playOf 37 = .ok (.iconst 5, 1) := dk_8 (dk_at dksX3_playOf_1 13 rfl rfl)
theorem dX3_playOf_38 : decode cX3_playOf 38 = .ok (.idiv, 1) := dk_108 (dk_at dksX3_playOf_1 14 rfl rfl)
theorem dX3_playOf_39 : decode cX3_playOf 39 = .ok (.istore 6, 2) := dk_54 6 (dk_at dksX3_playOf_1 15 rfl rfl)
theorem dX3_playOf_41 : decode cX3_playOf 41 = .ok (.iload 4, 2) := dk_21 4 (dk_at dksX3_playOf_1 17 rfl rfl)
theorem dX3_playOf_43 : decode cX3_playOf 43 = .ok (.iload 6, 2) := dk_21 6 (dk_at dksX3_playOf_1 19 rfl rfl)
theorem dX3_playOf_45 : decode cX3_playOf 45 = .ok (.idiv, 1) := dk_108 (dk_at dksX3_playOf_1 21 rfl rfl)
theorem dX3_playOf_46 : decode cX3_playOf 46 = .ok (.iconst 5, 1) := dk_8 (dk_at dksX3_playOf_1 22 rfl rfl)
theorem dX3_playOf_47 : decode cX3_playOf 47 = .ok (.irem, 1) := dk_112 (dk_at dksX3_playOf_1 23 rfl rfl)
theorem dX3_playOf_48 : decode cX3_playOf 48 = .ok (.istore 10, 2) := dk_54 10 (dk_at dksX3_playOf_2 0 rfl rfl)
theorem dX3_playOf_50 : decode cX3_playOf 50 = .ok (.iload 10, 2) := dk_21 10 (dk_at dksX3_playOf_2 2 rfl rfl)
theorem dX3_playOf_52 : decode cX3_playOf 52 = .ok (.ifCond .ne 13, 3) := dk_154 0 13 (dk_at dksX3_playOf_2 4 rfl rfl)
theorem dX3_playOf_55 : decode cX3_playOf 55 = .ok (.aload_n 0, 1) := dk_42 (dk_at dksX3_playOf_2 7 rfl rfl)
theorem dX3_playOf_56 : decode cX3_playOf 56 = .ok (.getfield 13, 3) := dk_180 0 13 (dk_at dksX3_playOf_2 8 rfl rfl)
theorem dX3_playOf_59 : decode cX3_playOf 59 = .ok (.iload 9, 2) := dk_21 9 (dk_at dksX3_playOf_2 11 rfl rfl)
theorem dX3_playOf_61 : decode cX3_playOf 61 = .ok (.iaload, 1) := dk_46 (dk_at dksX3_playOf_2 13 rfl rfl)
theorem dX3_playOf_62 : decode cX3_playOf 62 = .ok (.goto 18, 3) := dk_167 0 18 (dk_at dksX3_playOf_2 14 rfl rfl)
theorem dX3_playOf_65 : decode cX3_playOf 65 = .ok (.aload_n 0, 1) := dk_42 (dk_at dksX3_playOf_2 17 rfl rfl)
theorem dX3_playOf_66 : decode cX3_playOf 66 = .ok (.aload_n 0, 1) := dk_42 (dk_at dksX3_playOf_2 18 rfl rfl)
theorem dX3_playOf_67 : decode cX3_playOf 67 = .ok (.getfield 13, 3) := dk_180 0 13 (dk_at dksX3_playOf_2 19 rfl rfl)
theorem dX3_playOf_70 : decode cX3_playOf 70 = .ok (.iload 9, 2) := dk_21 9 (dk_at dksX3_playOf_2 22 rfl rfl)
theorem dX3_playOf_72 : decode cX3_playOf 72 = .ok (.iaload, 1) := dk_46 (dk_at dksX3_playOf_3 0 rfl rfl)
theorem dX3_playOf_73 : decode cX3_playOf 73 = .ok (.iload 10, 2) := dk_21 10 (dk_at dksX3_playOf_3 1 rfl rfl)
theorem dX3_playOf_75 : decode cX3_playOf 75 = .ok (.iconst 1, 1) := dk_4 (dk_at dksX3_playOf_3 3 rfl rfl)
theorem dX3_playOf_76 : decode cX3_playOf 76 = .ok (.isub, 1) := dk_100 (dk_at dksX3_playOf_3 4 rfl rfl)
theorem dX3_playOf_77 : decode cX3_playOf 77 = .ok (.invokevirtual 363, 3) := dk_182 1 107 (dk_at dksX3_playOf_3 5 rfl rfl)
theorem dX3_playOf_80 : decode cX3_playOf 80 = .ok (.istore 11, 2) := dk_54 11 (dk_at dksX3_playOf_3 8 rfl rfl)
theorem dX3_playOf_82 : decode cX3_playOf 82 = .ok (.iload 11, 2) := dk_21 11 (dk_at dksX3_playOf_3 10 rfl rfl)
theorem dX3_playOf_84 : decode cX3_playOf 84 = .ok (.iconst (-1), 1) := dk_2 (dk_at dksX3_playOf_3 12 rfl rfl)
theorem dX3_playOf_85 : decode cX3_playOf 85 = .ok (.if_icmp .eq 7, 3) := dk_159 0 7 (dk_at dksX3_playOf_3 13 rfl rfl)
theorem dX3_playOf_88 : decode cX3_playOf 88 = .ok (.iconst 1, 1) := dk_4 (dk_at dksX3_playOf_3 16 rfl rfl)
theorem dX3_playOf_89 : decode cX3_playOf 89 = .ok (.goto 4, 3) := dk_167 0 4 (dk_at dksX3_playOf_3 17 rfl rfl)
theorem dX3_playOf_92 : decode cX3_playOf 92 = .ok (.iconst 0, 1) := dk_3 (dk_at dksX3_playOf_3 20 rfl rfl)
theorem dX3_playOf_93 : decode cX3_playOf 93 = .ok (.istore 7, 2) := dk_54 7 (dk_at dksX3_playOf_3 21 rfl rfl)
theorem dX3_playOf_95 : decode cX3_playOf 95 = .ok (.iload 7, 2) := dk_21 7 (dk_at dksX3_playOf_4 0 rfl rfl)
theorem dX3_playOf_97 : decode cX3_playOf 97 = .ok (.ifCond .eq 21, 3) := dk_153 0 21 (dk_at dksX3_playOf_4 2 rfl rfl)
theorem dX3_playOf_100 : decode cX3_playOf 100 = .ok (.aload_n 0, 1) := dk_42 (dk_at dksX3_playOf_4 5 rfl rfl)
theorem dX3_playOf_101 : decode cX3_playOf 101 = .ok (.getfield 13, 3) := dk_180 0 13 (dk_at dksX3_playOf_4 6 rfl rfl)
theorem dX3_playOf_104 : decode cX3_playOf 104 = .ok (.iload 9, 2) := dk_21 9 (dk_at dksX3_playOf_4 9 rfl rfl)
theorem dX3_playOf_106 : decode cX3_playOf 106 = .ok (.iload 11, 2) := dk_21 11 (dk_at dksX3_playOf_4 11 rfl rfl)
theorem dX3_playOf_108 : decode cX3_playOf 108 = .ok (.iastore, 1) := dk_79 (dk_at dksX3_playOf_4 13 rfl rfl)
theorem dX3_playOf_109 : decode cX3_playOf 109 = .ok (.aload_n 0, 1) := dk_42 (dk_at dksX3_playOf_4 14 rfl rfl)
theorem dX3_playOf_110 : decode cX3_playOf 110 = .ok (.getfield 19, 3) := dk_180 0 19 (dk_at dksX3_playOf_4 15 rfl rfl)
theorem dX3_playOf_113 : decode cX3_playOf 113 = .ok (.iload 11, 2) := dk_21 11 (dk_at dksX3_playOf_4 18 rfl rfl)
theorem dX3_playOf_115 : decode cX3_playOf 115 = .ok (.iload 9, 2) := dk_21 9 (dk_at dksX3_playOf_4 20 rfl rfl)
theorem dX3_playOf_117 : decode cX3_playOf 117 = .ok (.iastore, 1) := dk_79 (dk_at dksX3_playOf_4 22 rfl rfl)
theorem dX3_playOf_118 : decode cX3_playOf 118 = .ok (.iinc 8 1, 3) := dk_132 8 1 (dk_at dksX3_playOf_5 0 rfl rfl)
theorem dX3_playOf_121 : decode cX3_playOf 121 = .ok (.goto (-111), 3) := dk_167 255 145 (dk_at dksX3_playOf_5 3 rfl rfl)
theorem dX3_playOf_124 : decode cX3_playOf 124 = .ok (.iload 7, 2) := dk_21 7 (dk_at dksX3_playOf_5 6 rfl rfl)
theorem dX3_playOf_126 : decode cX3_playOf 126 = .ok (.ifCond .eq 17, 3) := dk_153 0 17 (dk_at dksX3_playOf_5 8 rfl rfl)
theorem dX3_playOf_129 : decode cX3_playOf 129 = .ok (.aload_n 0, 1) := dk_42 (dk_at dksX3_playOf_5 11 rfl rfl)
theorem dX3_playOf_130 : decode cX3_playOf 130 = .ok (.iload_n 1, 1) := dk_27 (dk_at dksX3_playOf_5 12 rfl rfl)
theorem dX3_playOf_131 : decode cX3_playOf 131 = .ok (.invokevirtual 338, 3) := dk_182 1 82 (dk_at dksX3_playOf_5 13 rfl rfl)
theorem dX3_playOf_134 : decode cX3_playOf 134 = .ok (.aload_n 0, 1) := dk_42 (dk_at dksX3_playOf_5 16 rfl rfl)
theorem dX3_playOf_135 : decode cX3_playOf 135 = .ok (.iload_n 2, 1) := dk_28 (dk_at dksX3_playOf_5 17 rfl rfl)
theorem dX3_playOf_136 : decode cX3_playOf 136 = .ok (.invokevirtual 338, 3) := dk_182 1 82 (dk_at dksX3_playOf_5 18 rfl rfl)
theorem dX3_playOf_139 : decode cX3_playOf 139 = .ok (.isub, 1) := dk_100 (dk_at dksX3_playOf_5 21 rfl rfl)
theorem dX3_playOf_140 : decode cX3_playOf 140 = .ok (.goto 6, 3) := dk_167 0 6 (dk_at dksX3_playOf_6 0 rfl rfl)
theorem dX3_playOf_143 : decode cX3_playOf 143 = .ok (.ldc_w 455, 3) := dk_19 1 199 (dk_at dksX3_playOf_6 3 rfl rfl)
theorem dX3_playOf_146 : decode cX3_playOf 146 = .ok (.istore 8, 2) := dk_54 8 (dk_at dksX3_playOf_6 6 rfl rfl)
theorem dX3_playOf_148 : decode cX3_playOf 148 = .ok (.aload_n 0, 1) := dk_42 (dk_at dksX3_playOf_6 8 rfl rfl)
theorem dX3_playOf_149 : decode cX3_playOf 149 = .ok (.invokevirtual 419, 3) := dk_182 1 163 (dk_at dksX3_playOf_6 9 rfl rfl)
theorem dX3_playOf_152 : decode cX3_playOf 152 = .ok (.iload 8, 2) := dk_21 8 (dk_at dksX3_playOf_6 12 rfl rfl)
theorem dX3_playOf_154 : decode cX3_playOf 154 = .ok (.ireturn, 1) := dk_172 (dk_at dksX3_playOf_6 14 rfl rfl)
abbrev cX3_bestAt : ByteArray := prog_17_method_90_code
def yX3_bestAt : MethodName := ⟨RX3, "bestAt", "(IZ)I"⟩
def dkwX3_bestAt_3 : List UInt8 := [62, 132, 4, 1, 167, 255, 190, 29, 172]
abbrev dktX3_bestAt_3 : List UInt8 := dkwX3_bestAt_3 ++ []
def dkwX3_bestAt_2 : List UInt8 := [164, 0, 25, 167, 0, 19, 42, 180, 0, 109, 21, 4, 46, 42, 180, 0, 109, 29, 46, 162, 0, 6, 21, 4]
abbrev dktX3_bestAt_2 : List UInt8 := dkwX3_bestAt_2 ++ dktX3_bestAt_3
def dkwX3_bestAt_1 : List UInt8 := [19, 1, 199, 159, 0, 45, 28, 153, 0, 22, 42, 180, 0, 109, 21, 4, 46, 42, 180, 0, 109, 29, 46]
abbrev dktX3_bestAt_1 : List UInt8 := dkwX3_bestAt_1 ++ dktX3_bestAt_2
def dkwX3_bestAt_0 : List UInt8 := [27, 62, 27, 4, 96, 54, 4, 21, 4, 27, 8, 96, 162, 0, 64, 42, 180, 0, 109, 21, 4, 46]
abbrev dktX3_bestAt_0 : List UInt8 := dkwX3_bestAt_0 ++ dktX3_bestAt_1
theorem dksX3_bestAt_0 : cX3_bestAt.data.toList.drop 0 = dktX3_bestAt_0 := by decide +kernel
theorem dksX3_bestAt_1 : cX3_bestAt.data.toList.drop 22 = dktX3_bestAt_1 := dk_seg dksX3_bestAt_0 22 rfl rfl
theorem dksX3_bestAt_2 : cX3_bestAt.data.toList.drop 45 = dktX3_bestAt_2 := dk_seg dksX3_bestAt_1 23 rfl rfl
theorem dksX3_bestAt_3 : cX3_bestAt.data.toList.drop 69 = dktX3_bestAt_3 := dk_seg dksX3_bestAt_2 24 rfl rfl
theorem dX3_bestAt_0 : decode cX3_bestAt 0 = .ok (.iload_n 1, 1) := dk_27 (dk_at dksX3_bestAt_0 0 rfl rfl)
theorem dX3_bestAt_1 : decode cX3_bestAt 1 = .ok (.istore_n 3, 1) := dk_62 (dk_at dksX3_bestAt_0 1 rfl rfl)
theorem dX3_bestAt_2 : decode cX3_bestAt 2 = .ok (.iload_n 1, 1) := dk_27 (dk_at dksX3_bestAt_0 2 rfl rfl)
theorem dX3_bestAt_3 : decode cX3_bestAt 3 = .ok (.iconst 1, 1) := dk_4 (dk_at dksX3_bestAt_0 3 rfl rfl)
theorem dX3_bestAt_4 : decode cX3_bestAt 4 = .ok (.iadd, 1) := dk_96 (dk_at dksX3_bestAt_0 4 rfl rfl)
theorem dX3_bestAt_5 : decode cX3_bestAt 5 = .ok (.istore 4, 2) := dk_54 4 (dk_at dksX3_bestAt_0 5 rfl rfl)
theorem dX3_bestAt_7 : decode cX3_bestAt 7 = .ok (.iload 4, 2) := dk_21 4 (dk_at dksX3_bestAt_0 7 rfl rfl)
theorem dX3_bestAt_9 : decode cX3_bestAt 9 = .ok (.iload_n 1, 1) := dk_27 (dk_at dksX3_bestAt_0 9 rfl rfl)
theorem dX3_bestAt_10 : decode cX3_bestAt 10 = .ok (.iconst 5, 1) := dk_8 (dk_at dksX3_bestAt_0 10 rfl rfl)
theorem dX3_bestAt_11 : decode cX3_bestAt 11 = .ok (.iadd, 1) := dk_96 (dk_at dksX3_bestAt_0 11 rfl rfl)
theorem dX3_bestAt_12 : decode cX3_bestAt 12 = .ok (.if_icmp .ge 64, 3) := dk_162 0 64 (dk_at dksX3_bestAt_0 12 rfl rfl)
theorem dX3_bestAt_15 : decode cX3_bestAt 15 = .ok (.aload_n 0, 1) := dk_42 (dk_at dksX3_bestAt_0 15 rfl rfl)
theorem dX3_bestAt_16 : decode cX3_bestAt 16 = .ok (.getfield 109, 3) := dk_180 0 109 (dk_at dksX3_bestAt_0 16 rfl rfl)
theorem dX3_bestAt_19 : decode cX3_bestAt 19 = .ok (.iload 4, 2) := dk_21 4 (dk_at dksX3_bestAt_0 19 rfl rfl)
theorem dX3_bestAt_21 : decode cX3_bestAt 21 = .ok (.iaload, 1) := dk_46 (dk_at dksX3_bestAt_0 21 rfl rfl)
theorem dX3_bestAt_22 : decode cX3_bestAt 22 = .ok (.ldc_w 455, 3) := dk_19 1 199 (dk_at dksX3_bestAt_1 0 rfl rfl)
theorem dX3_bestAt_25 : decode cX3_bestAt 25 = .ok (.if_icmp .eq 45, 3) := dk_159 0 45 (dk_at dksX3_bestAt_1 3 rfl rfl)
theorem dX3_bestAt_28 : decode cX3_bestAt 28 = .ok (.iload_n 2, 1) := dk_28 (dk_at dksX3_bestAt_1 6 rfl rfl)
theorem dX3_bestAt_29 : decode cX3_bestAt 29 = .ok (.ifCond .eq 22, 3) := dk_153 0 22 (dk_at dksX3_bestAt_1 7 rfl rfl)
theorem dX3_bestAt_32 : decode cX3_bestAt 32 = .ok (.aload_n 0, 1) := dk_42 (dk_at dksX3_bestAt_1 10 rfl rfl)
theorem dX3_bestAt_33 : decode cX3_bestAt 33 = .ok (.getfield 109, 3) := dk_180 0 109 (dk_at dksX3_bestAt_1 11 rfl rfl)
theorem dX3_bestAt_36 : decode cX3_bestAt 36 = .ok (.iload 4, 2) := dk_21 4 (dk_at dksX3_bestAt_1 14 rfl rfl)
theorem dX3_bestAt_38 : decode cX3_bestAt 38 = .ok (.iaload, 1) := dk_46 (dk_at dksX3_bestAt_1 16 rfl rfl)
theorem dX3_bestAt_39 : decode cX3_bestAt 39 = .ok (.aload_n 0, 1) := dk_42 (dk_at dksX3_bestAt_1 17 rfl rfl)
theorem dX3_bestAt_40 : decode cX3_bestAt 40 = .ok (.getfield 109, 3) := dk_180 0 109 (dk_at dksX3_bestAt_1 18 rfl rfl)
theorem dX3_bestAt_43 : decode cX3_bestAt 43 = .ok (.iload_n 3, 1) := dk_29 (dk_at dksX3_bestAt_1 21 rfl rfl)
theorem dX3_bestAt_44 : decode cX3_bestAt 44 = .ok (.iaload, 1) := dk_46 (dk_at dksX3_bestAt_1 22 rfl rfl)
theorem dX3_bestAt_45 : decode cX3_bestAt 45 = .ok (.if_icmp .le 25, 3) := dk_164 0 25 (dk_at dksX3_bestAt_2 0 rfl rfl)
theorem dX3_bestAt_48 : decode cX3_bestAt 48 = .ok (.goto 19, 3) := dk_167 0 19 (dk_at dksX3_bestAt_2 3 rfl rfl)
theorem dX3_bestAt_51 : decode cX3_bestAt 51 = .ok (.aload_n 0, 1) := dk_42 (dk_at dksX3_bestAt_2 6 rfl rfl)
theorem dX3_bestAt_52 : decode cX3_bestAt 52 = .ok (.getfield 109, 3) := dk_180 0 109 (dk_at dksX3_bestAt_2 7 rfl rfl)
theorem dX3_bestAt_55 : decode cX3_bestAt 55 = .ok (.iload 4, 2) := dk_21 4 (dk_at dksX3_bestAt_2 10 rfl rfl)
theorem dX3_bestAt_57 : decode cX3_bestAt 57 = .ok (.iaload, 1) := dk_46 (dk_at dksX3_bestAt_2 12 rfl rfl)
theorem dX3_bestAt_58 : decode cX3_bestAt 58 = .ok (.aload_n 0, 1) := dk_42 (dk_at dksX3_bestAt_2 13 rfl rfl)
theorem dX3_bestAt_59 : decode cX3_bestAt 59 = .ok (.getfield 109, 3) := dk_180 0 109 (dk_at dksX3_bestAt_2 14 rfl rfl)
theorem dX3_bestAt_62 : decode cX3_bestAt 62 = .ok (.iload_n 3, 1) := dk_29 (dk_at dksX3_bestAt_2 17 rfl rfl)
theorem dX3_bestAt_63 : decode cX3_bestAt 63 = .ok (.iaload, 1) := dk_46 (dk_at dksX3_bestAt_2 18 rfl rfl)
theorem dX3_bestAt_64 : decode cX3_bestAt 64 = .ok (.if_icmp .ge 6, 3) := dk_162 0 6 (dk_at dksX3_bestAt_2 19 rfl rfl)
theorem dX3_bestAt_67 : decode cX3_bestAt 67 = .ok (.iload 4, 2) := dk_21 4 (dk_at dksX3_bestAt_2 22 rfl rfl)
theorem dX3_bestAt_69 : decode cX3_bestAt 69 = .ok (.istore_n 3, 1) := dk_62 (dk_at dksX3_bestAt_3 0 rfl rfl)
theorem dX3_bestAt_70 : decode cX3_bestAt 70 = .ok (.iinc 4 1, 3) := dk_132 4 1 (dk_at dksX3_bestAt_3 1 rfl rfl)
theorem dX3_bestAt_73 : decode cX3_bestAt 73 = .ok (.goto (-66), 3) := dk_167 255 190 (dk_at dksX3_bestAt_3 4 rfl rfl)
theorem dX3_bestAt_76 : decode cX3_bestAt 76 = .ok (.iload_n 3, 1) := dk_29 (dk_at dksX3_bestAt_3 7 rfl rfl)
theorem dX3_bestAt_77 : decode cX3_bestAt 77 = .ok (.ireturn, 1) := dk_172 (dk_at dksX3_bestAt_3 8 rfl rfl)
abbrev cX3_rests : ByteArray := prog_17_method_94_code
def yX3_rests : MethodName := ⟨RX3, "rests", "(IIII)I"⟩
def dkwX3_rests_6 : List UInt8 := [172]
abbrev dktX3_rests_6 : List UInt8 := dkwX3_rests_6 ++ []
def dkwX3_rests_5 : List UInt8 := [16, 254, 167, 0, 22, 6, 21, 4, 4, 160, 0, 10, 21, 6, 7, 108, 167, 0, 7, 21, 6, 7, 112, 104]
abbrev dktX3_rests_5 : List UInt8 := dkwX3_rests_5 ++ dktX3_rests_6
def dkwX3_rests_4 : List UInt8 := [132, 5, 1, 132, 7, 1, 167, 255, 220, 21, 4, 154, 0, 6, 21, 5, 172, 21, 6, 2, 160, 0, 8]
abbrev dktX3_rests_4 : List UInt8 := dkwX3_rests_4 ++ dktX3_rests_5
def dkwX3_rests_3 : List UInt8 := [21, 7, 182, 1, 216, 153, 0, 20, 21, 5, 154, 0, 8, 21, 7, 167, 0, 5, 21, 6, 54, 6]
abbrev dktX3_rests_3 : List UInt8 := dkwX3_rests_3 ++ dktX3_rests_4
def dkwX3_rests_2 : List UInt8 := [42, 27, 28, 29, 182, 1, 212, 3, 54, 5, 2, 54, 6, 3, 54, 7, 21, 7, 16, 16, 162, 0, 35, 42]
abbrev dktX3_rests_2 : List UInt8 := dkwX3_rests_2 ++ dktX3_rests_3
def dkwX3_rests_1 : List UInt8 := [20, 1, 210, 184, 0, 138, 153, 0, 16, 21, 4, 133, 9, 20, 1, 92, 184, 0, 138, 154, 0, 5, 2, 172]
abbrev dktX3_rests_1 : List UInt8 := dkwX3_rests_1 ++ dktX3_rests_2
def dkwX3_rests_0 : List UInt8 := [42, 27, 182, 1, 85, 153, 0, 41, 42, 28, 182, 1, 85, 153, 0, 33, 27, 28, 159, 0, 28, 29, 133, 10]
abbrev dktX3_rests_0 : List UInt8 := dkwX3_rests_0 ++ dktX3_rests_1
theorem dksX3_rests_0 : cX3_rests.data.toList.drop 0 = dktX3_rests_0 := by decide +kernel
theorem dksX3_rests_1 : cX3_rests.data.toList.drop 24 = dktX3_rests_1 := dk_seg dksX3_rests_0 24 rfl rfl
theorem dksX3_rests_2 : cX3_rests.data.toList.drop 48 = dktX3_rests_2 := dk_seg dksX3_rests_1 24 rfl rfl
theorem dksX3_rests_3 : cX3_rests.data.toList.drop 72 = dktX3_rests_3 := dk_seg dksX3_rests_2 24 rfl rfl
theorem dksX3_rests_4 : cX3_rests.data.toList.drop 94 = dktX3_rests_4 := dk_seg dksX3_rests_3 22 rfl rfl
theorem dksX3_rests_5 : cX3_rests.data.toList.drop 117 = dktX3_rests_5 := dk_seg dksX3_rests_4 23 rfl rfl
theorem dksX3_rests_6 : cX3_rests.data.toList.drop 141 = dktX3_rests_6 := dk_seg dksX3_rests_5 24 rfl rfl
theorem dX3_rests_0 : decode cX3_rests 0 = .ok (.aload_n 0, 1) := dk_42 (dk_at dksX3_rests_0 0 rfl rfl)
theorem dX3_rests_1 : decode cX3_rests 1 = .ok (.iload_n 1, 1) := dk_27 (dk_at dksX3_rests_0 1 rfl rfl)
theorem dX3_rests_2 : decode cX3_rests 2 = .ok (.invokevirtual 341, 3) := dk_182 1 85 (dk_at dksX3_rests_0 2 rfl rfl)
theorem dX3_rests_5 : decode cX3_rests 5 = .ok (.ifCond .eq 41, 3) := dk_153 0 41 (dk_at dksX3_rests_0 5 rfl rfl)
theorem dX3_rests_8 : decode cX3_rests 8 = .ok (.aload_n 0, 1) := dk_42 (dk_at dksX3_rests_0 8 rfl rfl)
theorem dX3_rests_9 : decode cX3_rests 9 = .ok (.iload_n 2, 1) := dk_28 (dk_at dksX3_rests_0 9 rfl rfl)
theorem dX3_rests_10 : decode cX3_rests 10 = .ok (.invokevirtual 341, 3) := dk_182 1 85 (dk_at dksX3_rests_0 10 rfl rfl)
theorem dX3_rests_13 : decode cX3_rests 13 = .ok (.ifCond .eq 33, 3) := dk_153 0 33 (dk_at dksX3_rests_0 13 rfl rfl)
theorem dX3_rests_16 : decode cX3_rests 16 = .ok (.iload_n 1, 1) := dk_27 (dk_at dksX3_rests_0 16 rfl rfl)
theorem dX3_rests_17 : decode cX3_rests 17 = .ok (.iload_n 2, 1) := dk_28 (dk_at dksX3_rests_0 17 rfl rfl)
theorem dX3_rests_18 : decode cX3_rests 18 = .ok (.if_icmp .eq 28, 3) := dk_159 0 28 (dk_at dksX3_rests_0 18 rfl rfl)
theorem dX3_rests_21 : decode cX3_rests 21 = .ok (.iload_n 3, 1) := dk_29 (dk_at dksX3_rests_0 21 rfl rfl)
theorem dX3_rests_22 : decode cX3_rests 22 = .ok (.i2l, 1) := dk_133 (dk_at dksX3_rests_0 22 rfl rfl)
theorem dX3_rests_23 : decode cX3_rests 23 = .ok (.lconst 1, 1) := dk_10 (dk_at dksX3_rests_0 23 rfl rfl)
theorem dX3_rests_24 : decode cX3_rests 24 = .ok (.ldc2_w 466, 3) := dk_20 1 210 (dk_at dksX3_rests_1 0 rfl rfl)
theorem dX3_rests_27 : decode cX3_rests 27 = .ok (.invokestatic 138, 3) := dk_184 0 138 (dk_at dksX3_rests_1 3 rfl rfl)
theorem dX3_rests_30 : decode cX3_rests 30 = .ok (.ifCond .eq 16, 3) := dk_153 0 16 (dk_at dksX3_rests_1 6 rfl rfl)
theorem dX3_rests_33 : decode cX3_rests 33 = .ok (.iload 4, 2) := dk_21 4 (dk_at dksX3_rests_1 9 rfl rfl)
theorem dX3_rests_35 : decode cX3_rests 35 = .ok (.i2l, 1) := dk_133 (dk_at dksX3_rests_1 11 rfl rfl)
theorem dX3_rests_36 : decode cX3_rests 36 = .ok (.lconst 0, 1) := dk_9 (dk_at dksX3_rests_1 12 rfl rfl)
theorem dX3_rests_37 : decode cX3_rests 37 = .ok (.ldc2_w 348, 3) := dk_20 1 92 (dk_at dksX3_rests_1 13 rfl rfl)
theorem dX3_rests_40 : decode cX3_rests 40 = .ok (.invokestatic 138, 3) := dk_184 0 138 (dk_at dksX3_rests_1 16 rfl rfl)
theorem dX3_rests_43 : decode cX3_rests 43 = .ok (.ifCond .ne 5, 3) := dk_154 0 5 (dk_at dksX3_rests_1 19 rfl rfl)
theorem dX3_rests_46 : decode cX3_rests 46 = .ok (.iconst (-1), 1) := dk_2 (dk_at dksX3_rests_1 22 rfl rfl)
theorem dX3_rests_47 : decode cX3_rests 47 = .ok (.ireturn, 1) := dk_172 (dk_at dksX3_rests_1 23 rfl rfl)
theorem dX3_rests_48 : decode cX3_rests 48 = .ok (.aload_n 0, 1) := dk_42 (dk_at dksX3_rests_2 0 rfl rfl)
theorem dX3_rests_49 : decode cX3_rests 49 = .ok (.iload_n 1, 1) := dk_27 (dk_at dksX3_rests_2 1 rfl rfl)
theorem dX3_rests_50 : decode cX3_rests 50 = .ok (.iload_n 2, 1) := dk_28 (dk_at dksX3_rests_2 2 rfl rfl)
theorem dX3_rests_51 : decode cX3_rests 51 = .ok (.iload_n 3, 1) := dk_29 (dk_at dksX3_rests_2 3 rfl rfl)
theorem dX3_rests_52 : decode cX3_rests 52 = .ok (.invokevirtual 468, 3) := dk_182 1 212 (dk_at dksX3_rests_2 4 rfl rfl)
theorem dX3_rests_55 : decode cX3_rests 55 = .ok (.iconst 0, 1) := dk_3 (dk_at dksX3_rests_2 7 rfl rfl)
theorem dX3_rests_56 : decode cX3_rests 56 = .ok (.istore 5, 2) := dk_54 5 (dk_at dksX3_rests_2 8 rfl rfl)
theorem dX3_rests_58 : decode cX3_rests 58 = .ok (.iconst (-1), 1) := dk_2 (dk_at dksX3_rests_2 10 rfl rfl)
theorem dX3_rests_59 : decode cX3_rests 59 = .ok (.istore 6, 2) := dk_54 6 (dk_at dksX3_rests_2 11 rfl rfl)
theorem dX3_rests_61 : decode cX3_rests 61 = .ok (.iconst 0, 1) := dk_3 (dk_at dksX3_rests_2 13 rfl rfl)
theorem dX3_rests_62 : decode cX3_rests 62 = .ok (.istore 7, 2) := dk_54 7 (dk_at dksX3_rests_2 14 rfl rfl)
theorem dX3_rests_64 : decode cX3_rests 64 = .ok (.iload 7, 2) := dk_21 7 (dk_at dksX3_rests_2 16 rfl rfl)
theorem dX3_rests_66 : decode cX3_rests 66 = .ok (.bipush 16, 2) := dk_16 16 (dk_at dksX3_rests_2 18 rfl rfl)
theorem dX3_rests_68 : decode cX3_rests 68 = .ok (.if_icmp .ge 35, 3) := dk_162 0 35 (dk_at dksX3_rests_2 20 rfl rfl)
theorem dX3_rests_71 : decode cX3_rests 71 = .ok (.aload_n 0, 1) := dk_42 (dk_at dksX3_rests_2 23 rfl rfl)
theorem dX3_rests_72 : decode cX3_rests 72 = .ok (.iload 7, 2) := dk_21 7 (dk_at dksX3_rests_3 0 rfl rfl)
theorem dX3_rests_74 : decode cX3_rests 74 = .ok (.invokevirtual 472, 3) := dk_182 1 216 (dk_at dksX3_rests_3 2 rfl rfl)
theorem dX3_rests_77 : decode cX3_rests 77 = .ok (.ifCond .eq 20, 3) := dk_153 0 20 (dk_at dksX3_rests_3 5 rfl rfl)
theorem dX3_rests_80 : decode cX3_rests 80 = .ok (.iload 5, 2) := dk_21 5 (dk_at dksX3_rests_3 8 rfl rfl)
theorem dX3_rests_82 : decode cX3_rests 82 = .ok (.ifCond .ne 8, 3) := dk_154 0 8 (dk_at dksX3_rests_3 10 rfl rfl)
theorem dX3_rests_85 : decode cX3_rests 85 = .ok (.iload 7, 2) := dk_21 7 (dk_at dksX3_rests_3 13 rfl rfl)
theorem dX3_rests_87 : decode cX3_rests 87 = .ok (.goto 5, 3) := dk_167 0 5 (dk_at dksX3_rests_3 15 rfl rfl)
theorem dX3_rests_90 : decode cX3_rests 90 = .ok (.iload 6, 2) := dk_21 6 (dk_at dksX3_rests_3 18 rfl rfl)
theorem dX3_rests_92 : decode cX3_rests 92 = .ok (.istore 6, 2) := dk_54 6 (dk_at dksX3_rests_3 20 rfl rfl)
theorem dX3_rests_94 : decode cX3_rests 94 = .ok (.iinc 5 1, 3) := dk_132 5 1 (dk_at dksX3_rests_4 0 rfl rfl)
theorem dX3_rests_97 : decode cX3_rests 97 = .ok (.iinc 7 1, 3) := dk_132 7 1 (dk_at dksX3_rests_4 3 rfl rfl)
theorem dX3_rests_100 : decode cX3_rests 100 = .ok (.goto (-36), 3) := dk_167 255 220 (dk_at dksX3_rests_4 6 rfl rfl)
theorem dX3_rests_103 : decode cX3_rests 103 = .ok (.iload 4, 2) := dk_21 4 (dk_at dksX3_rests_4 9 rfl rfl)
theorem dX3_rests_105 : decode cX3_rests 105 = .ok (.ifCond .ne 6, 3) := dk_154 0 6 (dk_at dksX3_rests_4 11 rfl rfl)
theorem dX3_rests_108 : decode cX3_rests 108 = .ok (.iload 5, 2) := dk_21 5 (dk_at dksX3_rests_4 14 rfl rfl)
theorem dX3_rests_110 : decode cX3_rests 110 = .ok (.ireturn, 1) := dk_172 (dk_at dksX3_rests_4 16 rfl rfl)
theorem dX3_rests_111 : decode cX3_rests 111 = .ok (.iload 6, 2) := dk_21 6 (dk_at dksX3_rests_4 17 rfl rfl)
theorem dX3_rests_113 : decode cX3_rests 113 = .ok (.iconst (-1), 1) := dk_2 (dk_at dksX3_rests_4 19 rfl rfl)
theorem dX3_rests_114 : decode cX3_rests 114 = .ok (.if_icmp .ne 8, 3) := dk_160 0 8 (dk_at dksX3_rests_4 20 rfl rfl)
theorem dX3_rests_117 : decode cX3_rests 117 = .ok (.bipush (-2), 2) := dk_16 254 (dk_at dksX3_rests_5 0 rfl rfl)
theorem dX3_rests_119 : decode cX3_rests 119 = .ok (.goto 22, 3) := dk_167 0 22 (dk_at dksX3_rests_5 2 rfl rfl)
theorem dX3_rests_122 : decode cX3_rests 122 = .ok (.iconst 3, 1) := dk_6 (dk_at dksX3_rests_5 5 rfl rfl)
theorem dX3_rests_123 : decode cX3_rests 123 = .ok (.iload 4, 2) := dk_21 4 (dk_at dksX3_rests_5 6 rfl rfl)
theorem dX3_rests_125 : decode cX3_rests 125 = .ok (.iconst 1, 1) := dk_4 (dk_at dksX3_rests_5 8 rfl rfl)
theorem dX3_rests_126 : decode cX3_rests 126 = .ok (.if_icmp .ne 10, 3) := dk_160 0 10 (dk_at dksX3_rests_5 9 rfl rfl)
theorem dX3_rests_129 : decode cX3_rests 129 = .ok (.iload 6, 2) := dk_21 6 (dk_at dksX3_rests_5 12 rfl rfl)
theorem dX3_rests_131 : decode cX3_rests 131 = .ok (.iconst 4, 1) := dk_7 (dk_at dksX3_rests_5 14 rfl rfl)
theorem dX3_rests_132 : decode cX3_rests 132 = .ok (.idiv, 1) := dk_108 (dk_at dksX3_rests_5 15 rfl rfl)
theorem dX3_rests_133 : decode cX3_rests 133 = .ok (.goto 7, 3) := dk_167 0 7 (dk_at dksX3_rests_5 16 rfl rfl)
theorem dX3_rests_136 : decode cX3_rests 136 = .ok (.iload 6, 2) := dk_21 6 (dk_at dksX3_rests_5 19 rfl rfl)
theorem dX3_rests_138 : decode cX3_rests 138 = .ok (.iconst 4, 1) := dk_7 (dk_at dksX3_rests_5 21 rfl rfl)
theorem dX3_rests_139 : decode cX3_rests 139 = .ok (.irem, 1) := dk_112 (dk_at dksX3_rests_5 22 rfl rfl)
theorem dX3_rests_140 : decode cX3_rests 140 = .ok (.imul, 1) := dk_104 (dk_at dksX3_rests_5 23 rfl rfl)
theorem dX3_rests_141 : decode cX3_rests 141 = .ok (.ireturn, 1) := dk_172 (dk_at dksX3_rests_6 0 rfl rfl)
abbrev cX3_laysStiffs : ByteArray := prog_17_method_92_code
def yX3_laysStiffs : MethodName := ⟨RX3, "laysStiffs", "(III)V"⟩
def dkwX3_laysStiffs_3 : List UInt8 := [132, 4, 1, 167, 255, 189, 177]
abbrev dktX3_laysStiffs_3 : List UInt8 := dkwX3_laysStiffs_3 ++ []
def dkwX3_laysStiffs_2 : List UInt8 := [21, 4, 42, 27, 182, 1, 82, 79, 42, 180, 0, 115, 21, 4, 42, 28, 182, 1, 82, 79, 42, 182, 1, 163]
abbrev dktX3_laysStiffs_2 : List UInt8 := dkwX3_laysStiffs_2 ++ dktX3_laysStiffs_3
def dkwX3_laysStiffs_1 : List UInt8 := [104, 79, 42, 180, 0, 16, 28, 6, 21, 4, 7, 112, 104, 79, 42, 29, 182, 1, 157, 42, 180, 0, 112]
abbrev dktX3_laysStiffs_1 : List UInt8 := dkwX3_laysStiffs_1 ++ dktX3_laysStiffs_2
def dkwX3_laysStiffs_0 : List UInt8 := [42, 182, 1, 170, 3, 54, 4, 21, 4, 16, 16, 162, 0, 66, 42, 180, 0, 16, 27, 6, 21, 4, 7, 108]
abbrev dktX3_laysStiffs_0 : List UInt8 := dkwX3_laysStiffs_0 ++ dktX3_laysStiffs_1
theorem dksX3_laysStiffs_0 : cX3_laysStiffs.data.toList.drop 0 = dktX3_laysStiffs_0 := by decide +kernel
theorem dksX3_laysStiffs_1 : cX3_laysStiffs.data.toList.drop 24 = dktX3_laysStiffs_1 := dk_seg dksX3_laysStiffs_0 24 rfl rfl
theorem dksX3_laysStiffs_2 : cX3_laysStiffs.data.toList.drop 47 = dktX3_laysStiffs_2 := dk_seg dksX3_laysStiffs_1 23 rfl rfl
theorem dksX3_laysStiffs_3 : cX3_laysStiffs.data.toList.drop 71 = dktX3_laysStiffs_3 := dk_seg dksX3_laysStiffs_2 24 rfl rfl
theorem dX3_laysStiffs_0 : decode cX3_laysStiffs 0 = .ok (.aload_n 0, 1) := dk_42 (dk_at dksX3_laysStiffs_0 0 rfl rfl)
theorem dX3_laysStiffs_1 : decode cX3_laysStiffs 1 = .ok (.invokevirtual 426, 3) := dk_182 1 170 (dk_at dksX3_laysStiffs_0 1 rfl rfl)
theorem dX3_laysStiffs_4 : decode cX3_laysStiffs 4 = .ok (.iconst 0, 1) := dk_3 (dk_at dksX3_laysStiffs_0 4 rfl rfl)
theorem dX3_laysStiffs_5 : decode cX3_laysStiffs 5 = .ok (.istore 4, 2) := dk_54 4 (dk_at dksX3_laysStiffs_0 5 rfl rfl)
theorem dX3_laysStiffs_7 : decode cX3_laysStiffs 7 = .ok (.iload 4, 2) := dk_21 4 (dk_at dksX3_laysStiffs_0 7 rfl rfl)
theorem dX3_laysStiffs_9 : decode cX3_laysStiffs 9 = .ok (.bipush 16, 2) := dk_16 16 (dk_at dksX3_laysStiffs_0 9 rfl rfl)
theorem dX3_laysStiffs_11 : decode cX3_laysStiffs 11 = .ok (.if_icmp .ge 66, 3) := dk_162 0 66 (dk_at dksX3_laysStiffs_0 11 rfl rfl)
theorem dX3_laysStiffs_14 : decode cX3_laysStiffs 14 = .ok (.aload_n 0, 1) := dk_42 (dk_at dksX3_laysStiffs_0 14 rfl rfl)
theorem dX3_laysStiffs_15 : decode cX3_laysStiffs 15 = .ok (.getfield 16, 3) := dk_180 0 16 (dk_at dksX3_laysStiffs_0 15 rfl rfl)
theorem dX3_laysStiffs_18 : decode cX3_laysStiffs 18 = .ok (.iload_n 1, 1) := dk_27 (dk_at dksX3_laysStiffs_0 18 rfl rfl)
theorem dX3_laysStiffs_19 : decode cX3_laysStiffs 19 = .ok (.iconst 3, 1) := dk_6 (dk_at dksX3_laysStiffs_0 19 rfl rfl)
theorem dX3_laysStiffs_20 : decode cX3_laysStiffs 20 = .ok (.iload 4, 2) := dk_21 4 (dk_at dksX3_laysStiffs_0 20 rfl rfl)
theorem dX3_laysStiffs_22 : decode cX3_laysStiffs 22 = .ok (.iconst 4, 1) := dk_7 (dk_at dksX3_laysStiffs_0 22 rfl rfl)
theorem dX3_laysStiffs_23 : decode cX3_laysStiffs 23 = .ok (.idiv, 1) := dk_108 (dk_at dksX3_laysStiffs_0 23 rfl rfl)
theorem dX3_laysStiffs_24 : decode cX3_laysStiffs 24 = .ok (.imul, 1) := dk_104 (dk_at dksX3_laysStiffs_1 0 rfl rfl)
theorem dX3_laysStiffs_25 : decode cX3_laysStiffs 25 = .ok (.iastore, 1) := dk_79 (dk_at dksX3_laysStiffs_1 1 rfl rfl)
theorem dX3_laysStiffs_26 : decode cX3_laysStiffs 26 = .ok (.aload_n 0, 1) := dk_42 (dk_at dksX3_laysStiffs_1 2 rfl rfl)
theorem dX3_laysStiffs_27 : decode cX3_laysStiffs 27 = .ok (.getfield 16, 3) := dk_180 0 16 (dk_at dksX3_laysStiffs_1 3 rfl rfl)
theorem dX3_laysStiffs_30 : decode cX3_laysStiffs 30 = .ok (.iload_n 2, 1) := dk_28 (dk_at dksX3_laysStiffs_1 6 rfl rfl)
theorem dX3_laysStiffs_31 : decode cX3_laysStiffs 31 = .ok (.iconst 3, 1) := dk_6 (dk_at dksX3_laysStiffs_1 7 rfl rfl)
theorem dX3_laysStiffs_32 : decode cX3_laysStiffs 32 = .ok (.iload 4, 2) := dk_21 4 (dk_at dksX3_laysStiffs_1 8 rfl rfl)
theorem dX3_laysStiffs_34 : decode cX3_laysStiffs 34 = .ok (.iconst 4, 1) := dk_7 (dk_at dksX3_laysStiffs_1 10 rfl rfl)
theorem dX3_laysStiffs_35 : decode cX3_laysStiffs 35 = .ok (.irem, 1) := dk_112 (dk_at dksX3_laysStiffs_1 11 rfl rfl)
theorem dX3_laysStiffs_36 : decode cX3_laysStiffs 36 = .ok (.imul, 1) := dk_104 (dk_at dksX3_laysStiffs_1 12 rfl rfl)
theorem dX3_laysStiffs_37 : decode cX3_laysStiffs 37 = .ok (.iastore, 1) := dk_79 (dk_at dksX3_laysStiffs_1 13 rfl rfl)
theorem dX3_laysStiffs_38 : decode cX3_laysStiffs 38 = .ok (.aload_n 0, 1) := dk_42 (dk_at dksX3_laysStiffs_1 14 rfl rfl)
theorem dX3_laysStiffs_39 : decode cX3_laysStiffs 39 = .ok (.iload_n 3, 1) := dk_29 (dk_at dksX3_laysStiffs_1 15 rfl rfl)
theorem dX3_laysStiffs_40 : decode cX3_laysStiffs 40 = .ok (.invokevirtual 413, 3) := dk_182 1 157 (dk_at dksX3_laysStiffs_1 16 rfl rfl)
theorem dX3_laysStiffs_43 : decode cX3_laysStiffs 43 = .ok (.aload_n 0, 1) := dk_42 (dk_at dksX3_laysStiffs_1 19 rfl rfl)
theorem dX3_laysStiffs_44 : decode cX3_laysStiffs 44 = .ok (.getfield 112, 3) := dk_180 0 112 (dk_at dksX3_laysStiffs_1 20 rfl rfl)
theorem dX3_laysStiffs_47 : decode cX3_laysStiffs 47 = .ok (.iload 4, 2) := dk_21 4 (dk_at dksX3_laysStiffs_2 0 rfl rfl)
theorem dX3_laysStiffs_49 : decode cX3_laysStiffs 49 = .ok (.aload_n 0, 1) := dk_42 (dk_at dksX3_laysStiffs_2 2 rfl rfl)
theorem dX3_laysStiffs_50 : decode cX3_laysStiffs 50 = .ok (.iload_n 1, 1) := dk_27 (dk_at dksX3_laysStiffs_2 3 rfl rfl)
theorem dX3_laysStiffs_51 : decode cX3_laysStiffs 51 = .ok (.invokevirtual 338, 3) := dk_182 1 82 (dk_at dksX3_laysStiffs_2 4 rfl rfl)
theorem dX3_laysStiffs_54 : decode cX3_laysStiffs 54 = .ok (.iastore, 1) := dk_79 (dk_at dksX3_laysStiffs_2 7 rfl rfl)
theorem dX3_laysStiffs_55 : decode cX3_laysStiffs 55 = .ok (.aload_n 0, 1) := dk_42 (dk_at dksX3_laysStiffs_2 8 rfl rfl)
theorem dX3_laysStiffs_56 : decode cX3_laysStiffs 56 = .ok (.getfield 115, 3) := dk_180 0 115 (dk_at dksX3_laysStiffs_2 9 rfl rfl)
theorem dX3_laysStiffs_59 : decode cX3_laysStiffs 59 = .ok (.iload 4, 2) := dk_21 4 (dk_at dksX3_laysStiffs_2 12 rfl rfl)
theorem dX3_laysStiffs_61 : decode cX3_laysStiffs 61 = .ok (.aload_n 0, 1) := dk_42 (dk_at dksX3_laysStiffs_2 14 rfl rfl)
theorem dX3_laysStiffs_62 : decode cX3_laysStiffs 62 = .ok (.iload_n 2, 1) := dk_28 (dk_at dksX3_laysStiffs_2 15 rfl rfl)
theorem dX3_laysStiffs_63 : decode cX3_laysStiffs 63 = .ok (.invokevirtual 338, 3) := dk_182 1 82 (dk_at dksX3_laysStiffs_2 16 rfl rfl)
theorem dX3_laysStiffs_66 : decode cX3_laysStiffs 66 = .ok (.iastore, 1) := dk_79 (dk_at dksX3_laysStiffs_2 19 rfl rfl)
theorem dX3_laysStiffs_67 : decode cX3_laysStiffs 67 = .ok (.aload_n 0, 1) := dk_42 (dk_at dksX3_laysStiffs_2 20 rfl rfl)
theorem dX3_laysStiffs_68 : decode cX3_laysStiffs 68 = .ok (.invokevirtual 419, 3) := dk_182 1 163 (dk_at dksX3_laysStiffs_2 21 rfl rfl)
theorem dX3_laysStiffs_71 : decode cX3_laysStiffs 71 = .ok (.iinc 4 1, 3) := dk_132 4 1 (dk_at dksX3_laysStiffs_3 0 rfl rfl)
theorem dX3_laysStiffs_74 : decode cX3_laysStiffs 74 = .ok (.goto (-67), 3) := dk_167 255 189 (dk_at dksX3_laysStiffs_3 3 rfl rfl)
theorem dX3_laysStiffs_77 : decode cX3_laysStiffs 77 = .ok (.return_, 1) := dk_177 (dk_at dksX3_laysStiffs_3 6 rfl rfl)
abbrev cX3_isRest : ByteArray := prog_17_method_93_code
def yX3_isRest : MethodName := ⟨RX3, "isRest", "(I)Z"⟩
def dkwX3_isRest_2 : List UInt8 := [164, 0, 5, 3, 172, 132, 2, 1, 167, 255, 204, 4, 172]
abbrev dktX3_isRest_2 : List UInt8 := dkwX3_isRest_2 ++ []
def dkwX3_isRest_1 : List UInt8 := [46, 163, 0, 24, 42, 180, 0, 115, 27, 27, 7, 112, 100, 28, 96, 46, 42, 180, 0, 115, 27, 46]
abbrev dktX3_isRest_1 : List UInt8 := dkwX3_isRest_1 ++ dktX3_isRest_2
def dkwX3_isRest_0 : List UInt8 := [3, 61, 28, 7, 162, 0, 53, 42, 180, 0, 112, 7, 28, 104, 27, 7, 112, 96, 46, 42, 180, 0, 112, 27]
abbrev dktX3_isRest_0 : List UInt8 := dkwX3_isRest_0 ++ dktX3_isRest_1
theorem dksX3_isRest_0 : cX3_isRest.data.toList.drop 0 = dktX3_isRest_0 := by decide +kernel
theorem dksX3_isRest_1 : cX3_isRest.data.toList.drop 24 = dktX3_isRest_1 := dk_seg dksX3_isRest_0 24 rfl rfl
theorem dksX3_isRest_2 : cX3_isRest.data.toList.drop 46 = dktX3_isRest_2 := dk_seg dksX3_isRest_1 22 rfl rfl
theorem dX3_isRest_0 : decode cX3_isRest 0 = .ok (.iconst 0, 1) := dk_3 (dk_at dksX3_isRest_0 0 rfl rfl)
theorem dX3_isRest_1 : decode cX3_isRest 1 = .ok (.istore_n 2, 1) := dk_61 (dk_at dksX3_isRest_0 1 rfl rfl)
theorem dX3_isRest_2 : decode cX3_isRest 2 = .ok (.iload_n 2, 1) := dk_28 (dk_at dksX3_isRest_0 2 rfl rfl)
theorem dX3_isRest_3 : decode cX3_isRest 3 = .ok (.iconst 4, 1) := dk_7 (dk_at dksX3_isRest_0 3 rfl rfl)
theorem dX3_isRest_4 : decode cX3_isRest 4 = .ok (.if_icmp .ge 53, 3) := dk_162 0 53 (dk_at dksX3_isRest_0 4 rfl rfl)
theorem dX3_isRest_7 : decode cX3_isRest 7 = .ok (.aload_n 0, 1) := dk_42 (dk_at dksX3_isRest_0 7 rfl rfl)
theorem dX3_isRest_8 : decode cX3_isRest 8 = .ok (.getfield 112, 3) := dk_180 0 112 (dk_at dksX3_isRest_0 8 rfl rfl)
theorem dX3_isRest_11 : decode cX3_isRest 11 = .ok (.iconst 4, 1) := dk_7 (dk_at dksX3_isRest_0 11 rfl rfl)
theorem dX3_isRest_12 : decode cX3_isRest 12 = .ok (.iload_n 2, 1) := dk_28 (dk_at dksX3_isRest_0 12 rfl rfl)
theorem dX3_isRest_13 : decode cX3_isRest 13 = .ok (.imul, 1) := dk_104 (dk_at dksX3_isRest_0 13 rfl rfl)
theorem dX3_isRest_14 : decode cX3_isRest 14 = .ok (.iload_n 1, 1) := dk_27 (dk_at dksX3_isRest_0 14 rfl rfl)
theorem dX3_isRest_15 : decode cX3_isRest 15 = .ok (.iconst 4, 1) := dk_7 (dk_at dksX3_isRest_0 15 rfl rfl)
theorem dX3_isRest_16 : decode cX3_isRest 16 = .ok (.irem, 1) := dk_112 (dk_at dksX3_isRest_0 16 rfl rfl)
theorem dX3_isRest_17 : decode cX3_isRest 17 = .ok (.iadd, 1) := dk_96 (dk_at dksX3_isRest_0 17 rfl rfl)
theorem dX3_isRest_18 : decode cX3_isRest 18 = .ok (.iaload, 1) := dk_46 (dk_at dksX3_isRest_0 18 rfl rfl)
theorem dX3_isRest_19 : decode cX3_isRest 19 = .ok (.aload_n 0, 1) := dk_42 (dk_at dksX3_isRest_0 19 rfl rfl)
theorem dX3_isRest_20 : decode cX3_isRest 20 = .ok (.getfield 112, 3) := dk_180 0 112 (dk_at dksX3_isRest_0 20 rfl rfl)
theorem dX3_isRest_23 : decode cX3_isRest 23 = .ok (.iload_n 1, 1) := dk_27 (dk_at dksX3_isRest_0 23 rfl rfl)
theorem dX3_isRest_24 : decode cX3_isRest 24 = .ok (.iaload, 1) := dk_46 (dk_at dksX3_isRest_1 0 rfl rfl)
theorem dX3_isRest_25 : decode cX3_isRest 25 = .ok (.if_icmp .gt 24, 3) := dk_163 0 24 (dk_at dksX3_isRest_1 1 rfl rfl)
theorem dX3_isRest_28 : decode cX3_isRest 28 = .ok (.aload_n 0, 1) := dk_42 (dk_at dksX3_isRest_1 4 rfl rfl)
theorem dX3_isRest_29 : decode cX3_isRest 29 = .ok (.getfield 115, 3) := dk_180 0 115 (dk_at dksX3_isRest_1 5 rfl rfl)
theorem dX3_isRest_32 : decode cX3_isRest 32 = .ok (.iload_n 1, 1) := dk_27 (dk_at dksX3_isRest_1 8 rfl rfl)
theorem dX3_isRest_33 : decode cX3_isRest 33 = .ok (.iload_n 1, 1) := dk_27 (dk_at dksX3_isRest_1 9 rfl rfl)
theorem dX3_isRest_34 : decode cX3_isRest 34 = .ok (.iconst 4, 1) := dk_7 (dk_at dksX3_isRest_1 10 rfl rfl)
theorem dX3_isRest_35 : decode cX3_isRest 35 = .ok (.irem, 1) := dk_112 (dk_at dksX3_isRest_1 11 rfl rfl)
theorem dX3_isRest_36 : decode cX3_isRest 36 = .ok (.isub, 1) := dk_100 (dk_at dksX3_isRest_1 12 rfl rfl)
theorem dX3_isRest_37 : decode cX3_isRest 37 = .ok (.iload_n 2, 1) := dk_28 (dk_at dksX3_isRest_1 13 rfl rfl)
theorem dX3_isRest_38 : decode cX3_isRest 38 = .ok (.iadd, 1) := dk_96 (dk_at dksX3_isRest_1 14 rfl rfl)
theorem dX3_isRest_39 : decode cX3_isRest 39 = .ok (.iaload, 1) := dk_46 (dk_at dksX3_isRest_1 15 rfl rfl)
theorem dX3_isRest_40 : decode cX3_isRest 40 = .ok (.aload_n 0, 1) := dk_42 (dk_at dksX3_isRest_1 16 rfl rfl)
theorem dX3_isRest_41 : decode cX3_isRest 41 = .ok (.getfield 115, 3) := dk_180 0 115 (dk_at dksX3_isRest_1 17 rfl rfl)
theorem dX3_isRest_44 : decode cX3_isRest 44 = .ok (.iload_n 1, 1) := dk_27 (dk_at dksX3_isRest_1 20 rfl rfl)
theorem dX3_isRest_45 : decode cX3_isRest 45 = .ok (.iaload, 1) := dk_46 (dk_at dksX3_isRest_1 21 rfl rfl)
theorem dX3_isRest_46 : decode cX3_isRest 46 = .ok (.if_icmp .le 5, 3) := dk_164 0 5 (dk_at dksX3_isRest_2 0 rfl rfl)
theorem dX3_isRest_49 : decode cX3_isRest 49 = .ok (.iconst 0, 1) := dk_3 (dk_at dksX3_isRest_2 3 rfl rfl)
theorem dX3_isRest_50 : decode cX3_isRest 50 = .ok (.ireturn, 1) := dk_172 (dk_at dksX3_isRest_2 4 rfl rfl)
theorem dX3_isRest_51 : decode cX3_isRest 51 = .ok (.iinc 2 1, 3) := dk_132 2 1 (dk_at dksX3_isRest_2 5 rfl rfl)
theorem dX3_isRest_54 : decode cX3_isRest 54 = .ok (.goto (-52), 3) := dk_167 255 204 (dk_at dksX3_isRest_2 8 rfl rfl)
theorem dX3_isRest_57 : decode cX3_isRest 57 = .ok (.iconst 1, 1) := dk_4 (dk_at dksX3_isRest_2 11 rfl rfl)
theorem dX3_isRest_58 : decode cX3_isRest 58 = .ok (.ireturn, 1) := dk_172 (dk_at dksX3_isRest_2 12 rfl rfl)
abbrev cX3_pence : ByteArray := prog_17_method_95_code
def yX3_pence : MethodName := ⟨RX3, "pence", "(II)I"⟩
def dkwX3_pence_6 : List UInt8 := [167, 0, 4, 3, 96, 172]
abbrev dktX3_pence_6 : List UInt8 := dkwX3_pence_6 ++ []
def dkwX3_pence_5 : List UInt8 := [132, 6, 1, 167, 255, 179, 27, 42, 28, 182, 1, 82, 104, 29, 108, 21, 5, 21, 4, 162, 0, 7, 4]
abbrev dktX3_pence_5 : List UInt8 := dkwX3_pence_5 ++ dktX3_pence_6
def dkwX3_pence_4 : List UInt8 := [21, 7, 157, 0, 14, 21, 7, 154, 0, 13, 21, 6, 28, 162, 0, 7, 4, 167, 0, 4, 3, 96, 54, 5]
abbrev dktX3_pence_4 : List UInt8 := dkwX3_pence_4 ++ dktX3_pence_5
def dkwX3_pence_3 : List UInt8 := [42, 21, 6, 182, 1, 82, 104, 29, 112, 27, 42, 28, 182, 1, 82, 104, 29, 112, 100, 54, 7, 21, 5]
abbrev dktX3_pence_3 : List UInt8 := dkwX3_pence_3 ++ dktX3_pence_4
def dkwX3_pence_2 : List UInt8 := [180, 0, 9, 5, 46, 162, 0, 72, 21, 4, 27, 42, 21, 6, 182, 1, 82, 104, 29, 108, 100, 54, 4, 27]
abbrev dktX3_pence_2 : List UInt8 := dkwX3_pence_2 ++ dktX3_pence_3
def dkwX3_pence_1 : List UInt8 := [182, 1, 173, 62, 29, 154, 0, 5, 3, 172, 27, 54, 4, 3, 54, 5, 3, 54, 6, 21, 6, 42]
abbrev dktX3_pence_1 : List UInt8 := dkwX3_pence_1 ++ dktX3_pence_2
def dkwX3_pence_0 : List UInt8 := [42, 28, 182, 1, 85, 153, 0, 15, 27, 133, 9, 20, 1, 219, 184, 0, 138, 154, 0, 5, 2, 172, 42]
abbrev dktX3_pence_0 : List UInt8 := dkwX3_pence_0 ++ dktX3_pence_1
theorem dksX3_pence_0 : cX3_pence.data.toList.drop 0 = dktX3_pence_0 := by decide +kernel
theorem dksX3_pence_1 : cX3_pence.data.toList.drop 23 = dktX3_pence_1 := dk_seg dksX3_pence_0 23 rfl rfl
theorem dksX3_pence_2 : cX3_pence.data.toList.drop 45 = dktX3_pence_2 := dk_seg dksX3_pence_1 22 rfl rfl
theorem dksX3_pence_3 : cX3_pence.data.toList.drop 69 = dktX3_pence_3 := dk_seg dksX3_pence_2 24 rfl rfl
theorem dksX3_pence_4 : cX3_pence.data.toList.drop 92 = dktX3_pence_4 := dk_seg dksX3_pence_3 23 rfl rfl
theorem dksX3_pence_5 : cX3_pence.data.toList.drop 116 = dktX3_pence_5 := dk_seg dksX3_pence_4 24 rfl rfl
theorem dksX3_pence_6 : cX3_pence.data.toList.drop 139 = dktX3_pence_6 := dk_seg dksX3_pence_5 23 rfl rfl
theorem dX3_pence_0 : decode cX3_pence 0 = .ok (.aload_n 0, 1) := dk_42 (dk_at dksX3_pence_0 0 rfl rfl)
theorem dX3_pence_1 : decode cX3_pence 1 = .ok (.iload_n 2, 1) := dk_28 (dk_at dksX3_pence_0 1 rfl rfl)
theorem dX3_pence_2 : decode cX3_pence 2 = .ok (.invokevirtual 341, 3) := dk_182 1 85 (dk_at dksX3_pence_0 2 rfl rfl)
theorem dX3_pence_5 : decode cX3_pence 5 = .ok (.ifCond .eq 15, 3) := dk_153 0 15 (dk_at dksX3_pence_0 5 rfl rfl)
theorem dX3_pence_8 : decode cX3_pence 8 = .ok (.iload_n 1, 1) := dk_27 (dk_at dksX3_pence_0 8 rfl rfl)
theorem dX3_pence_9 : decode cX3_pence 9 = .ok (.i2l, 1) := dk_133 (dk_at dksX3_pence_0 9 rfl rfl)
theorem dX3_pence_10 : decode cX3_pence 10 = .ok (.lconst 0, 1) := dk_9 (dk_at dksX3_pence_0 10 rfl rfl)
theorem dX3_pence_11 : decode cX3_pence 11 = .ok (.ldc2_w 475, 3) := dk_20 1 219 (dk_at dksX3_pence_0 11 rfl rfl)
theorem dX3_pence_14 : decode cX3_pence 14 = .ok (.invokestatic 138, 3) := dk_184 0 138 (dk_at dksX3_pence_0 14 rfl rfl)
theorem dX3_pence_17 : decode cX3_pence 17 = .ok (.ifCond .ne 5, 3) := dk_154 0 5 (dk_at dksX3_pence_0 17 rfl rfl)
theorem dX3_pence_20 : decode cX3_pence 20 = .ok (.iconst (-1), 1) := dk_2 (dk_at dksX3_pence_0 20 rfl rfl)
theorem dX3_pence_21 : decode cX3_pence 21 = .ok (.ireturn, 1) := dk_172 (dk_at dksX3_pence_0 21 rfl rfl)
theorem dX3_pence_22 : decode cX3_pence 22 = .ok (.aload_n 0, 1) := dk_42 (dk_at dksX3_pence_0 22 rfl rfl)
theorem dX3_pence_23 : decode cX3_pence 23 = .ok (.invokevirtual 429, 3) := dk_182 1 173 (dk_at dksX3_pence_1 0 rfl rfl)
theorem dX3_pence_26 : decode cX3_pence 26 = .ok (.istore_n 3, 1) := dk_62 (dk_at dksX3_pence_1 3 rfl rfl)
theorem dX3_pence_27 : decode cX3_pence 27 = .ok (.iload_n 3, 1) := dk_29 (dk_at dksX3_pence_1 4 rfl rfl)
theorem dX3_pence_28 : decode cX3_pence 28 = .ok (.ifCond .ne 5, 3) := dk_154 0 5 (dk_at dksX3_pence_1 5 rfl rfl)
theorem dX3_pence_31 : decode cX3_pence 31 = .ok (.iconst 0, 1) := dk_3 (dk_at dksX3_pence_1 8 rfl rfl)
theorem dX3_pence_32 : decode cX3_pence 32 = .ok (.ireturn, 1) := dk_172 (dk_at dksX3_pence_1 9 rfl rfl)
theorem dX3_pence_33 : decode cX3_pence 33 = .ok (.iload_n 1, 1) := dk_27 (dk_at dksX3_pence_1 10 rfl rfl)
theorem dX3_pence_34 : decode cX3_pence 34 = .ok (.istore 4, 2) := dk_54 4 (dk_at dksX3_pence_1 11 rfl rfl)
theorem dX3_pence_36 : decode cX3_pence 36 = .ok (.iconst 0, 1) := dk_3 (dk_at dksX3_pence_1 13 rfl rfl)
theorem dX3_pence_37 : decode cX3_pence 37 = .ok (.istore 5, 2) := dk_54 5 (dk_at dksX3_pence_1 14 rfl rfl)
theorem dX3_pence_39 : decode cX3_pence 39 = .ok (.iconst 0, 1) := dk_3 (dk_at dksX3_pence_1 16 rfl rfl)
theorem dX3_pence_40 : decode cX3_pence 40 = .ok (.istore 6, 2) := dk_54 6 (dk_at dksX3_pence_1 17 rfl rfl)
theorem dX3_pence_42 : decode cX3_pence 42 = .ok (.iload 6, 2) := dk_21 6 (dk_at dksX3_pence_1 19 rfl rfl)
theorem dX3_pence_44 : decode cX3_pence 44 = .ok (.aload_n 0, 1) := dk_42 (dk_at dksX3_pence_1 21 rfl rfl)
theorem dX3_pence_45 : decode cX3_pence 45 = .ok (.getfield 9, 3) := dk_180 0 9 (dk_at dksX3_pence_2 0 rfl rfl)
theorem dX3_pence_48 : decode cX3_pence 48 = .ok (.iconst 2, 1) := dk_5 (dk_at dksX3_pence_2 3 rfl rfl)
theorem dX3_pence_49 : decode cX3_pence 49 = .ok (.iaload, 1) := dk_46 (dk_at dksX3_pence_2 4 rfl rfl)
theorem dX3_pence_50 : decode cX3_pence 50 = .ok (.if_icmp .ge 72, 3) := dk_162 0 72 (dk_at dksX3_pence_2 5 rfl rfl)
theorem dX3_pence_53 : decode cX3_pence 53 = .ok (.iload 4, 2) := dk_21 4 (dk_at dksX3_pence_2 8 rfl rfl)
theorem dX3_pence_55 : decode cX3_pence 55 = .ok (.iload_n 1, 1) := dk_27 (dk_at dksX3_pence_2 10 rfl rfl)
theorem dX3_pence_56 : decode cX3_pence 56 = .ok (.aload_n 0, 1) := dk_42 (dk_at dksX3_pence_2 11 rfl rfl)
theorem dX3_pence_57 : decode cX3_pence 57 = .ok (.iload 6, 2) := dk_21 6 (dk_at dksX3_pence_2 12 rfl rfl)
theorem dX3_pence_59 : decode cX3_pence 59 = .ok (.invokevirtual 338, 3) := dk_182 1 82 (dk_at dksX3_pence_2 14 rfl rfl)
theorem dX3_pence_62 : decode cX3_pence 62 = .ok (.imul, 1) := dk_104 (dk_at dksX3_pence_2 17 rfl rfl)
theorem dX3_pence_63 : decode cX3_pence 63 = .ok (.iload_n 3, 1) := dk_29 (dk_at dksX3_pence_2 18 rfl rfl)
theorem dX3_pence_64 : decode cX3_pence 64 = .ok (.idiv, 1) := dk_108 (dk_at dksX3_pence_2 19 rfl rfl)
theorem dX3_pence_65 : decode cX3_pence 65 = .ok (.isub, 1) := dk_100 (dk_at dksX3_pence_2 20 rfl rfl)
theorem dX3_pence_66 : decode cX3_pence 66 = .ok (.istore 4, 2) := dk_54 4 (dk_at dksX3_pence_2 21 rfl rfl)
theorem dX3_pence_68 : decode cX3_pence 68 = .ok (.iload_n 1, 1) := dk_27 (dk_at dksX3_pence_2 23 rfl rfl)
theorem dX3_pence_69 : decode cX3_pence 69 = .ok (.aload_n 0, 1) := dk_42 (dk_at dksX3_pence_3 0 rfl rfl)
theorem dX3_pence_70 : decode cX3_pence 70 = .ok (.iload 6, 2) := dk_21 6 (dk_at dksX3_pence_3 1 rfl rfl)
theorem dX3_pence_72 : decode cX3_pence 72 = .ok (.invokevirtual 338, 3) := dk_182 1 82 (dk_at dksX3_pence_3 3 rfl rfl)
theorem dX3_pence_75 : decode cX3_pence 75 = .ok (.imul, 1) := dk_104 (dk_at dksX3_pence_3 6 rfl rfl)
theorem dX3_pence_76 : decode cX3_pence 76 = .ok (.iload_n 3, 1) := dk_29 (dk_at dksX3_pence_3 7 rfl rfl)
theorem dX3_pence_77 : decode cX3_pence 77 = .ok (.irem, 1) := dk_112 (dk_at dksX3_pence_3 8 rfl rfl)
theorem dX3_pence_78 : decode cX3_pence 78 = .ok (.iload_n 1, 1) := dk_27 (dk_at dksX3_pence_3 9 rfl rfl)
theorem dX3_pence_79 : decode cX3_pence 79 = .ok (.aload_n 0, 1) := dk_42 (dk_at dksX3_pence_3 10 rfl rfl)
theorem dX3_pence_80 : decode cX3_pence 80 = .ok (.iload_n 2, 1) := dk_28 (dk_at dksX3_pence_3 11 rfl rfl)
theorem dX3_pence_81 : decode cX3_pence 81 = .ok (.invokevirtual 338, 3) := dk_182 1 82 (dk_at dksX3_pence_3 12 rfl rfl)
theorem dX3_pence_84 : decode cX3_pence 84 = .ok (.imul, 1) := dk_104 (dk_at dksX3_pence_3 15 rfl rfl)
theorem dX3_pence_85 : decode cX3_pence 85 = .ok (.iload_n 3, 1) := dk_29 (dk_at dksX3_pence_3 16 rfl rfl)
theorem dX3_pence_86 : decode cX3_pence 86 = .ok (.irem, 1) := dk_112 (dk_at dksX3_pence_3 17 rfl rfl)
theorem dX3_pence_87 : decode cX3_pence 87 = .ok (.isub, 1) := dk_100 (dk_at dksX3_pence_3 18 rfl rfl)
theorem dX3_pence_88 : decode cX3_pence 88 = .ok (.istore 7, 2) := dk_54 7 (dk_at dksX3_pence_3 19 rfl rfl)
theorem dX3_pence_90 : decode cX3_pence 90 = .ok (.iload 5, 2) := dk_21 5 (dk_at dksX3_pence_3 21 rfl rfl)
theorem dX3_pence_92 : decode cX3_pence 92 = .ok (.iload 7, 2) := dk_21 7 (dk_at dksX3_pence_4 0 rfl rfl)
theorem dX3_pence_94 : decode cX3_pence 94 = .ok (.ifCond .gt 14, 3) := dk_157 0 14 (dk_at dksX3_pence_4 2 rfl rfl)
theorem dX3_pence_97 : decode cX3_pence 97 = .ok (.iload 7, 2) := dk_21 7 (dk_at dksX3_pence_4 5 rfl rfl)
theorem dX3_pence_99 : decode cX3_pence 99 = .ok (.ifCond .ne 13, 3) := dk_154 0 13 (dk_at dksX3_pence_4 7 rfl rfl)
theorem dX3_pence_102 : decode cX3_pence 102 = .ok (.iload 6, 2) := dk_21 6 (dk_at dksX3_pence_4 10 rfl rfl)
theorem dX3_pence_104 : decode cX3_pence 104 = .ok (.iload_n 2, 1) := dk_28 (dk_at dksX3_pence_4 12 rfl rfl)
theorem dX3_pence_105 : decode cX3_pence 105 = .ok (.if_icmp .ge 7, 3) := dk_162 0 7 (dk_at dksX3_pence_4 13 rfl rfl)
theorem dX3_pence_108 : decode cX3_pence 108 = .ok (.iconst 1, 1) := dk_4 (dk_at dksX3_pence_4 16 rfl rfl)
theorem dX3_pence_109 : decode cX3_pence 109 = .ok (.goto 4, 3) := dk_167 0 4 (dk_at dksX3_pence_4 17 rfl rfl)
theorem dX3_pence_112 : decode cX3_pence 112 = .ok (.iconst 0, 1) := dk_3 (dk_at dksX3_pence_4 20 rfl rfl)
theorem dX3_pence_113 : decode cX3_pence 113 = .ok (.iadd, 1) := dk_96 (dk_at dksX3_pence_4 21 rfl rfl)
theorem dX3_pence_114 : decode cX3_pence 114 = .ok (.istore 5, 2) := dk_54 5 (dk_at dksX3_pence_4 22 rfl rfl)
theorem dX3_pence_116 : decode cX3_pence 116 = .ok (.iinc 6 1, 3) := dk_132 6 1 (dk_at dksX3_pence_5 0 rfl rfl)
theorem dX3_pence_119 : decode cX3_pence 119 = .ok (.goto (-77), 3) := dk_167 255 179 (dk_at dksX3_pence_5 3 rfl rfl)
theorem dX3_pence_122 : decode cX3_pence 122 = .ok (.iload_n 1, 1) := dk_27 (dk_at dksX3_pence_5 6 rfl rfl)
theorem dX3_pence_123 : decode cX3_pence 123 = .ok (.aload_n 0, 1) := dk_42 (dk_at dksX3_pence_5 7 rfl rfl)
theorem dX3_pence_124 : decode cX3_pence 124 = .ok (.iload_n 2, 1) := dk_28 (dk_at dksX3_pence_5 8 rfl rfl)
theorem dX3_pence_125 : decode cX3_pence 125 = .ok (.invokevirtual 338, 3) := dk_182 1 82 (dk_at dksX3_pence_5 9 rfl rfl)
theorem dX3_pence_128 : decode cX3_pence 128 = .ok (.imul, 1) := dk_104 (dk_at dksX3_pence_5 12 rfl rfl)
theorem dX3_pence_129 : decode cX3_pence 129 = .ok (.iload_n 3, 1) := dk_29 (dk_at dksX3_pence_5 13 rfl rfl)
theorem dX3_pence_130 : decode cX3_pence 130 = .ok (.idiv, 1) := dk_108 (dk_at dksX3_pence_5 14 rfl rfl)
theorem dX3_pence_131 : decode cX3_pence 131 = .ok (.iload 5, 2) := dk_21 5 (dk_at dksX3_pence_5 15 rfl rfl)
theorem dX3_pence_133 : decode cX3_pence 133 = .ok (.iload 4, 2) := dk_21 4 (dk_at dksX3_pence_5 17 rfl rfl)
theorem dX3_pence_135 : decode cX3_pence 135 = .ok (.if_icmp .ge 7, 3) := dk_162 0 7 (dk_at dksX3_pence_5 19 rfl rfl)
theorem dX3_pence_138 : decode cX3_pence 138 = .ok (.iconst 1, 1) := dk_4 (dk_at dksX3_pence_5 22 rfl rfl)
theorem dX3_pence_139 : decode cX3_pence 139 = .ok (.goto 4, 3) := dk_167 0 4 (dk_at dksX3_pence_6 0 rfl rfl)
theorem dX3_pence_142 : decode cX3_pence 142 = .ok (.iconst 0, 1) := dk_3 (dk_at dksX3_pence_6 3 rfl rfl)
theorem dX3_pence_143 : decode cX3_pence 143 = .ok (.iadd, 1) := dk_96 (dk_at dksX3_pence_6 4 rfl rfl)
theorem dX3_pence_144 : decode cX3_pence 144 = .ok (.ireturn, 1) := dk_172 (dk_at dksX3_pence_6 5 rfl rfl)
abbrev cX3_read : ByteArray := prog_17_method_98_code
def yX3_read : MethodName := ⟨RX3, "read", "(II)I"⟩
def dkwX3_read_5 : List UInt8 := [28, 154, 0, 7, 29, 167, 0, 14, 42, 29, 42, 180, 1, 62, 4, 96, 182, 1, 221, 172]
abbrev dktX3_read_5 : List UInt8 := dkwX3_read_5 ++ []
def dkwX3_read_4 : List UInt8 := [167, 255, 225, 42, 182, 1, 163, 132, 3, 1, 167, 255, 191, 42, 42, 180, 1, 62, 4, 96, 182, 1, 224, 62]
abbrev dktX3_read_4 : List UInt8 := dkwX3_read_4 ++ dktX3_read_5
def dkwX3_read_3 : List UInt8 := [180, 0, 118, 16, 36, 29, 4, 96, 104, 21, 4, 96, 42, 180, 0, 19, 21, 4, 46, 79, 132, 4, 1]
abbrev dktX3_read_3 : List UInt8 := dkwX3_read_3 ++ dktX3_read_4
def dkwX3_read_2 : List UInt8 := [180, 0, 9, 16, 9, 29, 79, 42, 27, 182, 1, 157, 3, 54, 4, 21, 4, 16, 36, 162, 0, 30, 42]
abbrev dktX3_read_2 : List UInt8 := dkwX3_read_2 ++ dktX3_read_3
def dkwX3_read_1 : List UInt8 := [184, 0, 138, 154, 0, 5, 2, 172, 42, 182, 1, 170, 2, 62, 29, 42, 180, 1, 62, 162, 0, 63, 42]
abbrev dktX3_read_1 : List UInt8 := dkwX3_read_1 ++ dktX3_read_2
def dkwX3_read_0 : List UInt8 := [42, 182, 1, 146, 153, 0, 25, 27, 133, 10, 20, 1, 184, 184, 0, 138, 153, 0, 13, 28, 133, 9, 10]
abbrev dktX3_read_0 : List UInt8 := dkwX3_read_0 ++ dktX3_read_1
theorem dksX3_read_0 : cX3_read.data.toList.drop 0 = dktX3_read_0 := by decide +kernel
theorem dksX3_read_1 : cX3_read.data.toList.drop 23 = dktX3_read_1 := dk_seg dksX3_read_0 23 rfl rfl
theorem dksX3_read_2 : cX3_read.data.toList.drop 46 = dktX3_read_2 := dk_seg dksX3_read_1 23 rfl rfl
theorem dksX3_read_3 : cX3_read.data.toList.drop 69 = dktX3_read_3 := dk_seg dksX3_read_2 23 rfl rfl
theorem dksX3_read_4 : cX3_read.data.toList.drop 92 = dktX3_read_4 := dk_seg dksX3_read_3 23 rfl rfl
theorem dksX3_read_5 : cX3_read.data.toList.drop 116 = dktX3_read_5 := dk_seg dksX3_read_4 24 rfl rfl
theorem dX3_read_0 : decode cX3_read 0 = .ok (.aload_n 0, 1) := dk_42 (dk_at dksX3_read_0 0 rfl rfl)
theorem dX3_read_1 : decode cX3_read 1 = .ok (.invokevirtual 402, 3) := dk_182 1 146 (dk_at dksX3_read_0 1 rfl rfl)
theorem dX3_read_4 : decode cX3_read 4 = .ok (.ifCond .eq 25, 3) := dk_153 0 25 (dk_at dksX3_read_0 4 rfl rfl)
theorem dX3_read_7 : decode cX3_read 7 = .ok (.iload_n 1, 1) := dk_27 (dk_at dksX3_read_0 7 rfl rfl)
theorem dX3_read_8 : decode cX3_read 8 = .ok (.i2l, 1) := dk_133 (dk_at dksX3_read_0 8 rfl rfl)
theorem dX3_read_9 : decode cX3_read 9 = .ok (.lconst 1, 1) := dk_10 (dk_at dksX3_read_0 9 rfl rfl)
theorem dX3_read_10 : decode cX3_read 10 = .ok (.ldc2_w 440, 3) := dk_20 1 184 (dk_at dksX3_read_0 10 rfl rfl)
theorem dX3_read_13 : decode cX3_read 13 = .ok (.invokestatic 138, 3) := dk_184 0 138 (dk_at dksX3_read_0 13 rfl rfl)
theorem dX3_read_16 : decode cX3_read 16 = .ok (.ifCond .eq 13, 3) := dk_153 0 13 (dk_at dksX3_read_0 16 rfl rfl)
theorem dX3_read_19 : decode cX3_read 19 = .ok (.iload_n 2, 1) := dk_28 (dk_at dksX3_read_0 19 rfl rfl)
theorem dX3_read_20 : decode cX3_read 20 = .ok (.i2l, 1) := dk_133 (dk_at dksX3_read_0 20 rfl rfl)
theorem dX3_read_21 : decode cX3_read 21 = .ok (.lconst 0, 1) := dk_9 (dk_at dksX3_read_0 21 rfl rfl)
theorem dX3_read_22 : decode cX3_read 22 = .ok (.lconst 1, 1) := dk_10 (dk_at dksX3_read_0 22 rfl rfl)
theorem dX3_read_23 : decode cX3_read 23 = .ok (.invokestatic 138, 3) := dk_184 0 138 (dk_at dksX3_read_1 0 rfl rfl)
theorem dX3_read_26 : decode cX3_read 26 = .ok (.ifCond .ne 5, 3) := dk_154 0 5 (dk_at dksX3_read_1 3 rfl rfl)
theorem dX3_read_29 : decode cX3_read 29 = .ok (.iconst (-1), 1) := dk_2 (dk_at dksX3_read_1 6 rfl rfl)
theorem dX3_read_30 : decode cX3_read 30 = .ok (.ireturn, 1) := dk_172 (dk_at dksX3_read_1 7 rfl rfl)
theorem dX3_read_31 : decode cX3_read 31 = .ok (.aload_n 0, 1) := dk_42 (dk_at dksX3_read_1 8 rfl rfl)
theorem dX3_read_32 : decode cX3_read 32 = .ok (.invokevirtual 426, 3) := dk_182 1 170 (dk_at dksX3_read_1 9 rfl rfl)
theorem dX3_read_35 : decode cX3_read 35 = .ok (.iconst (-1), 1) := dk_2 (dk_at dksX3_read_1 12 rfl rfl)
theorem dX3_read_36 : decode cX3_read 36 = .ok (.istore_n 3, 1) := dk_62 (dk_at dksX3_read_1 13 rfl rfl)
theorem dX3_read_37 : decode cX3_read 37 = .ok (.iload_n 3, 1) := dk_29 (dk_at dksX3_read_1 14 rfl rfl)
theorem dX3_read_38 : decode cX3_read 38 = .ok (.aload_n 0, 1) := dk_42 (dk_at dksX3_read_1 15 rfl rfl)
theorem dX3_read_39 : decode cX3_read 39 = .ok (.getfield 318, 3) := dk_180 1 62 (dk_at dksX3_read_1 16 rfl rfl)
theorem dX3_read_42 : decode cX3_read 42 = .ok (.if_icmp .ge 63, 3) := dk_162 0 63 (dk_at dksX3_read_1 19 rfl rfl)
theorem dX3_read_45 : decode cX3_read 45 = .ok (.aload_n 0, 1) := dk_42 (dk_at dksX3_read_1 22 rfl rfl)
theorem dX3_read_46 : decode cX3_read 46 = .ok (.getfield 9, 3) := dk_180 0 9 (dk_at dksX3_read_2 0 rfl rfl)
theorem dX3_read_49 : decode cX3_read 49 = .ok (.bipush 9, 2) := dk_16 9 (dk_at dksX3_read_2 3 rfl rfl)
theorem dX3_read_51 : decode cX3_read 51 = .ok (.iload_n 3, 1) := dk_29 (dk_at dksX3_read_2 5 rfl rfl)
theorem dX3_read_52 : decode cX3_read 52 = .ok (.iastore, 1) := dk_79 (dk_at dksX3_read_2 6 rfl rfl)
theorem dX3_read_53 : decode cX3_read 53 = .ok (.aload_n 0, 1) := dk_42 (dk_at dksX3_read_2 7 rfl rfl)
theorem dX3_read_54 : decode cX3_read 54 = .ok (.iload_n 1, 1) := dk_27 (dk_at dksX3_read_2 8 rfl rfl)
theorem dX3_read_55 : decode cX3_read 55 = .ok (.invokevirtual 413, 3) := dk_182 1 157 (dk_at dksX3_read_2 9 rfl rfl)
theorem dX3_read_58 : decode cX3_read 58 = .ok (.iconst 0, 1) := dk_3 (dk_at dksX3_read_2 12 rfl rfl)
theorem dX3_read_59 : decode cX3_read 59 = .ok (.istore 4, 2) := dk_54 4 (dk_at dksX3_read_2 13 rfl rfl)
theorem dX3_read_61 : decode cX3_read 61 = .ok (.iload 4, 2) := dk_21 4 (dk_at dksX3_read_2 15 rfl rfl)
theorem dX3_read_63 : decode cX3_read 63 = .ok (.bipush 36, 2) := dk_16 36 (dk_at dksX3_read_2 17 rfl rfl)
theorem dX3_read_65 : decode cX3_read 65 = .ok (.if_icmp .ge 30, 3) := dk_162 0 30 (dk_at dksX3_read_2 19 rfl rfl)
theorem dX3_read_68 : decode cX3_read 68 = .ok (.aload_n 0, 1) := dk_42 (dk_at dksX3_read_2 22 rfl rfl)
theorem dX3_read_69 : decode cX3_read 69 = .ok (.getfield 118, 3) := dk_180 0 118 (dk_at dksX3_read_3 0 rfl rfl)
theorem dX3_read_72 : decode cX3_read 72 = .ok (.bipush 36, 2) := dk_16 36 (dk_at dksX3_read_3 3 rfl rfl)
theorem dX3_read_74 : decode cX3_read 74 = .ok (.iload_n 3, 1) := dk_29 (dk_at dksX3_read_3 5 rfl rfl)
theorem dX3_read_75 : decode cX3_read 75 = .ok (.iconst 1, 1) := dk_4 (dk_at dksX3_read_3 6 rfl rfl)
theorem dX3_read_76 : decode cX3_read 76 = .ok (.iadd, 1) := dk_96 (dk_at dksX3_read_3 7 rfl rfl)
theorem dX3_read_77 : decode cX3_read 77 = .ok (.imul, 1) := dk_104 (dk_at dksX3_read_3 8 rfl rfl)
theorem dX3_read_78 : decode cX3_read 78 = .ok (.iload 4, 2) := dk_21 4 (dk_at dksX3_read_3 9 rfl rfl)
theorem dX3_read_80 : decode cX3_read 80 = .ok (.iadd, 1) := dk_96 (dk_at dksX3_read_3 11 rfl rfl)
theorem dX3_read_81 : decode cX3_read 81 = .ok (.aload_n 0, 1) := dk_42 (dk_at dksX3_read_3 12 rfl rfl)
theorem dX3_read_82 : decode cX3_read 82 = .ok (.getfield 19, 3) := dk_180 0 19 (dk_at dksX3_read_3 13 rfl rfl)
theorem dX3_read_85 : decode cX3_read 85 = .ok (.iload 4, 2) := dk_21 4 (dk_at dksX3_read_3 16 rfl rfl)
theorem dX3_read_87 : decode cX3_read 87 = .ok (.iaload, 1) := dk_46 (dk_at dksX3_read_3 18 rfl rfl)
theorem dX3_read_88 : decode cX3_read 88 = .ok (.iastore, 1) := dk_79 (dk_at dksX3_read_3 19 rfl rfl)
theorem dX3_read_89 : decode cX3_read 89 = .ok (.iinc 4 1, 3) := dk_132 4 1 (dk_at dksX3_read_3 20 rfl rfl)
theorem dX3_read_92 : decode cX3_read 92 = .ok (.goto (-31), 3) := dk_167 255 225 (dk_at dksX3_read_4 0 rfl rfl)
theorem dX3_read_95 : decode cX3_read 95 = .ok (.aload_n 0, 1) := dk_42 (dk_at dksX3_read_4 3 rfl rfl)
theorem dX3_read_96 : decode cX3_read 96 = .ok (.invokevirtual 419, 3) := dk_182 1 163 (dk_at dksX3_read_4 4 rfl rfl)
theorem dX3_read_99 : decode cX3_read 99 = .ok (.iinc 3 1, 3) := dk_132 3 1 (dk_at dksX3_read_4 7 rfl rfl)
theorem dX3_read_102 : decode cX3_read 102 = .ok (.goto (-65), 3) := dk_167 255 191 (dk_at dksX3_read_4 10 rfl rfl)
theorem dX3_read_105 : decode cX3_read 105 = .ok (.aload_n 0, 1) := dk_42 (dk_at dksX3_read_4 13 rfl rfl)
theorem dX3_read_106 : decode cX3_read 106 = .ok (.aload_n 0, 1) := dk_42 (dk_at dksX3_read_4 14 rfl rfl)
theorem dX3_read_107 : decode cX3_read 107 = .ok (.getfield 318, 3) := dk_180 1 62 (dk_at dksX3_read_4 15 rfl rfl)
theorem dX3_read_110 : decode cX3_read 110 = .ok (.iconst 1, 1) := dk_4 (dk_at dksX3_read_4 18 rfl rfl)
theorem dX3_read_111 : decode cX3_read 111 = .ok (.iadd, 1) := dk_96 (dk_at dksX3_read_4 19 rfl rfl)
theorem dX3_read_112 : decode cX3_read 112 = .ok (.invokevirtual 480, 3) := dk_182 1 224 (dk_at dksX3_read_4 20 rfl rfl)
theorem dX3_read_115 : decode cX3_read 115 = .ok (.istore_n 3, 1) := dk_62 (dk_at dksX3_read_4 23 rfl rfl)
theorem dX3_read_116 : decode cX3_read 116 = .ok (.iload_n 2, 1) := dk_28 (dk_at dksX3_read_5 0 rfl rfl)
theorem dX3_read_117 : decode cX3_read 117 = .ok (.ifCond .ne 7, 3) := dk_154 0 7 (dk_at dksX3_read_5 1 rfl rfl)
theorem dX3_read_120 : decode cX3_read 120 = .ok (.iload_n 3, 1) := dk_29 (dk_at dksX3_read_5 4 rfl rfl)
theorem dX3_read_121 : decode cX3_read 121 = .ok (.goto 14, 3) := dk_167 0 14 (dk_at dksX3_read_5 5 rfl rfl)
theorem dX3_read_124 : decode cX3_read 124 = .ok (.aload_n 0, 1) := dk_42 (dk_at dksX3_read_5 8 rfl rfl)
theorem dX3_read_125 : decode cX3_read 125 = .ok (.iload_n 3, 1) := dk_29 (dk_at dksX3_read_5 9 rfl rfl)
theorem dX3_read_126 : decode cX3_read 126 = .ok (.aload_n 0, 1) := dk_42 (dk_at dksX3_read_5 10 rfl rfl)
theorem dX3_read_127 : decode cX3_read 127 = .ok (.getfield 318, 3) := dk_180 1 62 (dk_at dksX3_read_5 11 rfl rfl)
theorem dX3_read_130 : decode cX3_read 130 = .ok (.iconst 1, 1) := dk_4 (dk_at dksX3_read_5 14 rfl rfl)
theorem dX3_read_131 : decode cX3_read 131 = .ok (.iadd, 1) := dk_96 (dk_at dksX3_read_5 15 rfl rfl)
theorem dX3_read_132 : decode cX3_read 132 = .ok (.invokevirtual 477, 3) := dk_182 1 221 (dk_at dksX3_read_5 16 rfl rfl)
theorem dX3_read_135 : decode cX3_read 135 = .ok (.ireturn, 1) := dk_172 (dk_at dksX3_read_5 19 rfl rfl)
abbrev cX3_parting : ByteArray := prog_17_method_97_code
def yX3_parting : MethodName := ⟨RX3, "parting", "(I)I"⟩
def dkwX3_parting_1 : List UInt8 := [162, 0, 7, 29, 167, 0, 4, 28, 61, 132, 3, 1, 167, 255, 224, 28, 172]
abbrev dktX3_parting_1 : List UInt8 := dkwX3_parting_1 ++ []
def dkwX3_parting_0 : List UInt8 := [3, 61, 4, 62, 29, 42, 182, 0, 134, 162, 0, 30, 42, 29, 27, 182, 1, 221, 42, 28, 27, 182, 1, 221]
abbrev dktX3_parting_0 : List UInt8 := dkwX3_parting_0 ++ dktX3_parting_1
theorem dksX3_parting_0 : cX3_parting.data.toList.drop 0 = dktX3_parting_0 := by decide +kernel
theorem dksX3_parting_1 : cX3_parting.data.toList.drop 24 = dktX3_parting_1 := dk_seg dksX3_parting_0 24 rfl rfl
theorem dX3_parting_0 : decode cX3_parting 0 = .ok (.iconst 0, 1) := dk_3 (dk_at dksX3_parting_0 0 rfl rfl)
theorem dX3_parting_1 : decode cX3_parting 1 = .ok (.istore_n 2, 1) := dk_61 (dk_at dksX3_parting_0 1 rfl rfl)
theorem dX3_parting_2 : decode cX3_parting 2 = .ok (.iconst 1, 1) := dk_4 (dk_at dksX3_parting_0 2 rfl rfl)
theorem dX3_parting_3 : decode cX3_parting 3 = .ok (.istore_n 3, 1) := dk_62 (dk_at dksX3_parting_0 3 rfl rfl)
theorem dX3_parting_4 : decode cX3_parting 4 = .ok (.iload_n 3, 1) := dk_29 (dk_at dksX3_parting_0 4 rfl rfl)
theorem dX3_parting_5 : decode cX3_parting 5 = .ok (.aload_n 0, 1) := dk_42 (dk_at dksX3_parting_0 5 rfl rfl)
theorem dX3_parting_6 : decode cX3_parting 6 = .ok (.invokevirtual 134, 3) := dk_182 0 134 (dk_at dksX3_parting_0 6 rfl rfl)
theorem dX3_parting_9 : decode cX3_parting 9 = .ok (.if_icmp .ge 30, 3) := dk_162 0 30 (dk_at dksX3_parting_0 9 rfl rfl)
theorem dX3_parting_12 : decode cX3_parting 12 = .ok (.aload_n 0, 1) := dk_42 (dk_at dksX3_parting_0 12 rfl rfl)
theorem dX3_parting_13 : decode cX3_parting 13 = .ok (.iload_n 3, 1) := dk_29 (dk_at dksX3_parting_0 13 rfl rfl)
theorem dX3_parting_14 : decode cX3_parting 14 = .ok (.iload_n 1, 1) := dk_27 (dk_at dksX3_parting_0 14 rfl rfl)
theorem dX3_parting_15 : decode cX3_parting 15 = .ok (.invokevirtual 477, 3) := dk_182 1 221 (dk_at dksX3_parting_0 15 rfl rfl)
theorem dX3_parting_18 : decode cX3_parting 18 = .ok (.aload_n 0, 1) := dk_42 (dk_at dksX3_parting_0 18 rfl rfl)
theorem dX3_parting_19 : decode cX3_parting 19 = .ok (.iload_n 2, 1) := dk_28 (dk_at dksX3_parting_0 19 rfl rfl)
theorem dX3_parting_20 : decode cX3_parting 20 = .ok (.iload_n 1, 1) := dk_27 (dk_at dksX3_parting_0 20 rfl rfl)
theorem dX3_parting_21 : decode cX3_parting 21 = .ok (.invokevirtual 477, 3) := dk_182 1 221 (dk_at dksX3_parting_0 21 rfl rfl)
theorem dX3_parting_24 : decode cX3_parting 24 = .ok (.if_icmp .ge 7, 3) := dk_162 0 7 (dk_at dksX3_parting_1 0 rfl rfl)
theorem dX3_parting_27 : decode cX3_parting 27 = .ok (.iload_n 3, 1) := dk_29 (dk_at dksX3_parting_1 3 rfl rfl)
theorem dX3_parting_28 : decode cX3_parting 28 = .ok (.goto 4, 3) := dk_167 0 4 (dk_at dksX3_parting_1 4 rfl rfl)
theorem dX3_parting_31 : decode cX3_parting 31 = .ok (.iload_n 2, 1) := dk_28 (dk_at dksX3_parting_1 7 rfl rfl)
theorem dX3_parting_32 : decode cX3_parting 32 = .ok (.istore_n 2, 1) := dk_61 (dk_at dksX3_parting_1 8 rfl rfl)
theorem dX3_parting_33 : decode cX3_parting 33 = .ok (.iinc 3 1, 3) := dk_132 3 1 (dk_at dksX3_parting_1 9 rfl rfl)
theorem dX3_parting_36 : decode cX3_parting 36 = .ok (.goto (-32), 3) := dk_167 255 224 (dk_at dksX3_parting_1 12 rfl rfl)
theorem dX3_parting_39 : decode cX3_parting 39 = .ok (.iload_n 2, 1) := dk_28 (dk_at dksX3_parting_1 15 rfl rfl)
theorem dX3_parting_40 : decode cX3_parting 40 = .ok (.ireturn, 1) := dk_172 (dk_at dksX3_parting_1 16 rfl rfl)
abbrev cX3_mostAlike : ByteArray := prog_17_method_96_code
def yX3_mostAlike : MethodName := ⟨RX3, "mostAlike", "(II)I"⟩
def dkwX3_mostAlike_3 : List UInt8 := [164, 0, 8, 21, 5, 167, 0, 4, 29, 62, 132, 4, 1, 167, 255, 179, 29, 172]
abbrev dktX3_mostAlike_3 : List UInt8 := dkwX3_mostAlike_3 ++ []
def dkwX3_mostAlike_2 : List UInt8 := [96, 46, 160, 0, 7, 4, 167, 0, 4, 3, 96, 54, 5, 132, 6, 1, 167, 255, 210, 21, 5, 29]
abbrev dktX3_mostAlike_2 : List UInt8 := dkwX3_mostAlike_2 ++ dktX3_mostAlike_3
def dkwX3_mostAlike_1 : List UInt8 := [21, 5, 42, 180, 0, 118, 16, 36, 21, 6, 104, 27, 96, 46, 42, 180, 0, 118, 16, 36, 21, 4, 104, 27]
abbrev dktX3_mostAlike_1 : List UInt8 := dkwX3_mostAlike_1 ++ dktX3_mostAlike_2
def dkwX3_mostAlike_0 : List UInt8 := [3, 62, 3, 54, 4, 21, 4, 28, 162, 0, 77, 3, 54, 5, 3, 54, 6, 21, 6, 28, 162, 0, 46]
abbrev dktX3_mostAlike_0 : List UInt8 := dkwX3_mostAlike_0 ++ dktX3_mostAlike_1
theorem dksX3_mostAlike_0 : cX3_mostAlike.data.toList.drop 0 = dktX3_mostAlike_0 := by decide +kernel
theorem dksX3_mostAlike_1 : cX3_mostAlike.data.toList.drop 23 = dktX3_mostAlike_1 := dk_seg dksX3_mostAlike_0 23 rfl rfl
theorem dksX3_mostAlike_2 : cX3_mostAlike.data.toList.drop 47 = dktX3_mostAlike_2 := dk_seg dksX3_mostAlike_1 24 rfl rfl
theorem dksX3_mostAlike_3 : cX3_mostAlike.data.toList.drop 69 = dktX3_mostAlike_3 := dk_seg dksX3_mostAlike_2 22 rfl rfl
theorem dX3_mostAlike_0 : decode cX3_mostAlike 0 = .ok (.iconst 0, 1) := dk_3 (dk_at dksX3_mostAlike_0 0 rfl rfl)
theorem dX3_mostAlike_1 : decode cX3_mostAlike 1 = .ok (.istore_n 3, 1) := dk_62 (dk_at dksX3_mostAlike_0 1 rfl rfl)
theorem dX3_mostAlike_2 : decode cX3_mostAlike 2 = .ok (.iconst 0, 1) := dk_3 (dk_at dksX3_mostAlike_0 2 rfl rfl)
theorem dX3_mostAlike_3 : decode cX3_mostAlike 3 = .ok (.istore 4, 2) := dk_54 4 (dk_at dksX3_mostAlike_0 3 rfl rfl)
theorem dX3_mostAlike_5 : decode cX3_mostAlike 5 = .ok (.iload 4, 2) := dk_21 4 (dk_at dksX3_mostAlike_0 5 rfl rfl)
theorem dX3_mostAlike_7 : decode cX3_mostAlike 7 = .ok (.iload_n 2, 1) := dk_28 (dk_at dksX3_mostAlike_0 7 rfl rfl)
theorem dX3_mostAlike_8 : decode cX3_mostAlike 8 = .ok (.if_icmp .ge 77, 3) := dk_162 0 77 (dk_at dksX3_mostAlike_0 8 rfl rfl)
theorem dX3_mostAlike_11 : decode cX3_mostAlike 11 = .ok (.iconst 0, 1) := dk_3 (dk_at dksX3_mostAlike_0 11 rfl rfl)
theorem dX3_mostAlike_12 : decode cX3_mostAlike 12 = .ok (.istore 5, 2) := dk_54 5 (dk_at dksX3_mostAlike_0 12 rfl rfl)
theorem dX3_mostAlike_14 : decode cX3_mostAlike 14 = .ok (.iconst 0, 1) := dk_3 (dk_at dksX3_mostAlike_0 14 rfl rfl)
theorem dX3_mostAlike_15 : decode cX3_mostAlike 15 = .ok (.istore 6, 2) := dk_54 6 (dk_at dksX3_mostAlike_0 15 rfl rfl)
theorem dX3_mostAlike_17 : decode cX3_mostAlike 17 = .ok (.iload 6, 2) := dk_21 6 (dk_at dksX3_mostAlike_0 17 rfl rfl)
theorem dX3_mostAlike_19 : decode cX3_mostAlike 19 = .ok (.iload_n 2, 1) := dk_28 (dk_at dksX3_mostAlike_0 19 rfl rfl)
theorem dX3_mostAlike_20 : decode cX3_mostAlike 20 = .ok (.if_icmp .ge 46, 3) := dk_162 0 46 (dk_at dksX3_mostAlike_0 20 rfl rfl)
theorem dX3_mostAlike_23 : decode cX3_mostAlike 23 = .ok (.iload 5, 2) := dk_21 5 (dk_at dksX3_mostAlike_1 0 rfl rfl)
theorem dX3_mostAlike_25 : decode cX3_mostAlike 25 = .ok (.aload_n 0, 1) := dk_42 (dk_at dksX3_mostAlike_1 2 rfl rfl)
theorem dX3_mostAlike_26 : decode cX3_mostAlike 26 = .ok (.getfield 118, 3) := dk_180 0 118 (dk_at dksX3_mostAlike_1 3 rfl rfl)
theorem dX3_mostAlike_29 : decode cX3_mostAlike 29 = .ok (.bipush 36, 2) := dk_16 36 (dk_at dksX3_mostAlike_1 6 rfl rfl)
theorem dX3_mostAlike_31 : decode cX3_mostAlike 31 = .ok (.iload 6, 2) := dk_21 6 (dk_at dksX3_mostAlike_1 8 rfl rfl)
theorem dX3_mostAlike_33 : decode cX3_mostAlike 33 = .ok (.imul, 1) := dk_104 (dk_at dksX3_mostAlike_1 10 rfl rfl)
theorem dX3_mostAlike_34 : decode cX3_mostAlike 34 = .ok (.iload_n 1, 1) := dk_27 (dk_at dksX3_mostAlike_1 11 rfl rfl)
theorem dX3_mostAlike_35 : decode cX3_mostAlike 35 = .ok (.iadd, 1) := dk_96 (dk_at dksX3_mostAlike_1 12 rfl rfl)
theorem dX3_mostAlike_36 : decode cX3_mostAlike 36 = .ok (.iaload, 1) := dk_46 (dk_at dksX3_mostAlike_1 13 rfl rfl)
theorem dX3_mostAlike_37 : decode cX3_mostAlike 37 = .ok (.aload_n 0, 1) := dk_42 (dk_at dksX3_mostAlike_1 14 rfl rfl)
theorem dX3_mostAlike_38 : decode cX3_mostAlike 38 = .ok (.getfield 118, 3) := dk_180 0 118 (dk_at dksX3_mostAlike_1 15 rfl rfl)
theorem dX3_mostAlike_41 : decode cX3_mostAlike 41 = .ok (.bipush 36, 2) := dk_16 36 (dk_at dksX3_mostAlike_1 18 rfl rfl)
theorem dX3_mostAlike_43 : decode cX3_mostAlike 43 = .ok (.iload 4, 2) := dk_21 4 (dk_at dksX3_mostAlike_1 20 rfl rfl)
theorem dX3_mostAlike_45 : decode cX3_mostAlike 45 = .ok (.imul, 1) := dk_104 (dk_at dksX3_mostAlike_1 22 rfl rfl)
theorem dX3_mostAlike_46 : decode cX3_mostAlike 46 = .ok (.iload_n 1, 1) := dk_27 (dk_at dksX3_mostAlike_1 23 rfl rfl)
theorem dX3_mostAlike_47 : decode cX3_mostAlike 47 = .ok (.iadd, 1) := dk_96 (dk_at dksX3_mostAlike_2 0 rfl rfl)
theorem dX3_mostAlike_48 : decode cX3_mostAlike 48 = .ok (.iaload, 1) := dk_46 (dk_at dksX3_mostAlike_2 1 rfl rfl)
theorem dX3_mostAlike_49 : decode cX3_mostAlike 49 = .ok (.if_icmp .ne 7, 3) := dk_160 0 7 (dk_at dksX3_mostAlike_2 2 rfl rfl)
theorem dX3_mostAlike_52 : decode cX3_mostAlike 52 = .ok (.iconst 1, 1) := dk_4 (dk_at dksX3_mostAlike_2 5 rfl rfl)
theorem dX3_mostAlike_53 : decode cX3_mostAlike 53 = .ok (.goto 4, 3) := dk_167 0 4 (dk_at dksX3_mostAlike_2 6 rfl rfl)
theorem dX3_mostAlike_56 : decode cX3_mostAlike 56 = .ok (.iconst 0, 1) := dk_3 (dk_at dksX3_mostAlike_2 9 rfl rfl)
theorem dX3_mostAlike_57 : decode cX3_mostAlike 57 = .ok (.iadd, 1) := dk_96 (dk_at dksX3_mostAlike_2 10 rfl rfl)
theorem dX3_mostAlike_58 : decode cX3_mostAlike 58 = .ok (.istore 5, 2) := dk_54 5 (dk_at dksX3_mostAlike_2 11 rfl rfl)
theorem dX3_mostAlike_60 : decode cX3_mostAlike 60 = .ok (.iinc 6 1, 3) := dk_132 6 1 (dk_at dksX3_mostAlike_2 13 rfl rfl)
theorem dX3_mostAlike_63 : decode cX3_mostAlike 63 = .ok (.goto (-46), 3) := dk_167 255 210 (dk_at dksX3_mostAlike_2 16 rfl rfl)
theorem dX3_mostAlike_66 : decode cX3_mostAlike 66 = .ok (.iload 5, 2) := dk_21 5 (dk_at dksX3_mostAlike_2 19 rfl rfl)
theorem dX3_mostAlike_68 : decode cX3_mostAlike 68 = .ok (.iload_n 3, 1) := dk_29 (dk_at dksX3_mostAlike_2 21 rfl rfl)
theorem dX3_mostAlike_69 : decode cX3_mostAlike 69 = .ok (.if_icmp .le 8, 3) := dk_164 0 8 (dk_at dksX3_mostAlike_3 0 rfl rfl)
theorem dX3_mostAlike_72 : decode cX3_mostAlike 72 = .ok (.iload 5, 2) := dk_21 5 (dk_at dksX3_mostAlike_3 3 rfl rfl)
theorem dX3_mostAlike_74 : decode cX3_mostAlike 74 = .ok (.goto 4, 3) := dk_167 0 4 (dk_at dksX3_mostAlike_3 5 rfl rfl)
theorem dX3_mostAlike_77 : decode cX3_mostAlike 77 = .ok (.iload_n 3, 1) := dk_29 (dk_at dksX3_mostAlike_3 8 rfl rfl)
theorem dX3_mostAlike_78 : decode cX3_mostAlike 78 = .ok (.istore_n 3, 1) := dk_62 (dk_at dksX3_mostAlike_3 9 rfl rfl)
theorem dX3_mostAlike_79 : decode cX3_mostAlike 79 = .ok (.iinc 4 1, 3) := dk_132 4 1 (dk_at dksX3_mostAlike_3 10 rfl rfl)
theorem dX3_mostAlike_82 : decode cX3_mostAlike 82 = .ok (.goto (-77), 3) := dk_167 255 179 (dk_at dksX3_mostAlike_3 13 rfl rfl)
theorem dX3_mostAlike_85 : decode cX3_mostAlike 85 = .ok (.iload_n 3, 1) := dk_29 (dk_at dksX3_mostAlike_3 16 rfl rfl)
theorem dX3_mostAlike_86 : decode cX3_mostAlike 86 = .ok (.ireturn, 1) := dk_172 (dk_at dksX3_mostAlike_3 17 rfl rfl)
abbrev cX3_note : ByteArray := prog_17_method_99_code
def yX3_note : MethodName := ⟨RX3, "note", "(III)I"⟩
def dkwX3_note_4 : List UInt8 := [180, 0, 9, 16, 7, 92, 46, 4, 96, 79, 21, 4, 4, 96, 172]
abbrev dktX3_note_4 : List UInt8 := dkwX3_note_4 ++ []
def dkwX3_note_3 : List UInt8 := [180, 0, 34, 21, 4, 27, 79, 42, 180, 0, 37, 21, 4, 28, 79, 42, 180, 0, 40, 21, 4, 29, 79, 42]
abbrev dktX3_note_3 : List UInt8 := dkwX3_note_3 ++ dktX3_note_4
def dkwX3_note_2 : List UInt8 := [159, 0, 11, 42, 29, 182, 1, 85, 153, 0, 10, 21, 4, 16, 10, 160, 0, 6, 16, 254, 172, 42]
abbrev dktX3_note_2 : List UInt8 := dkwX3_note_2 ++ dktX3_note_3
def dkwX3_note_1 : List UInt8 := [27, 133, 9, 20, 1, 184, 184, 0, 138, 153, 0, 31, 42, 28, 182, 1, 89, 153, 0, 23, 29, 2]
abbrev dktX3_note_1 : List UInt8 := dkwX3_note_1 ++ dktX3_note_2
def dkwX3_note_0 : List UInt8 := [27, 2, 160, 0, 13, 42, 180, 0, 9, 16, 7, 3, 79, 3, 172, 42, 180, 0, 9, 16, 7, 46, 54, 4]
abbrev dktX3_note_0 : List UInt8 := dkwX3_note_0 ++ dktX3_note_1
theorem dksX3_note_0 : cX3_note.data.toList.drop 0 = dktX3_note_0 := by decide +kernel
theorem dksX3_note_1 : cX3_note.data.toList.drop 24 = dktX3_note_1 := dk_seg dksX3_note_0 24 rfl rfl
theorem dksX3_note_2 : cX3_note.data.toList.drop 46 = dktX3_note_2 := dk_seg dksX3_note_1 22 rfl rfl
theorem dksX3_note_3 : cX3_note.data.toList.drop 68 = dktX3_note_3 := dk_seg dksX3_note_2 22 rfl rfl
theorem dksX3_note_4 : cX3_note.data.toList.drop 92 = dktX3_note_4 := dk_seg dksX3_note_3 24 rfl rfl
theorem dX3_note_0 : decode cX3_note 0 = .ok (.iload_n 1, 1) := dk_27 (dk_at dksX3_note_0 0 rfl rfl)
theorem dX3_note_1 : decode cX3_note 1 = .ok (.iconst (-1), 1) := dk_2 (dk_at dksX3_note_0 1 rfl rfl)
theorem dX3_note_2 : decode cX3_note 2 = .ok (.if_icmp .ne 13, 3) := dk_160 0 13 (dk_at dksX3_note_0 2 rfl rfl)
theorem dX3_note_5 : decode cX3_note 5 = .ok (.aload_n 0, 1) := dk_42 (dk_at dksX3_note_0 5 rfl rfl)
theorem dX3_note_6 : decode cX3_note 6 = .ok (.getfield 9, 3) := dk_180 0 9 (dk_at dksX3_note_0 6 rfl rfl)
theorem dX3_note_9 : decode cX3_note 9 = .ok (.bipush 7, 2) := dk_16 7 (dk_at dksX3_note_0 9 rfl rfl)
theorem dX3_note_11 : decode cX3_note 11 = .ok (.iconst 0, 1) := dk_3 (dk_at dksX3_note_0 11 rfl rfl)
theorem dX3_note_12 : decode cX3_note 12 = .ok (.iastore, 1) := dk_79 (dk_at dksX3_note_0 12 rfl rfl)
theorem dX3_note_13 : decode cX3_note 13 = .ok (.iconst 0, 1) := dk_3 (dk_at dksX3_note_0 13 rfl rfl)
theorem dX3_note_14 : decode cX3_note 14 = .ok (.ireturn, 1) := dk_172 (dk_at dksX3_note_0 14 rfl rfl)
theorem dX3_note_15 : decode cX3_note 15 = .ok (.aload_n 0, 1) := dk_42 (dk_at dksX3_note_0 15 rfl rfl)
theorem dX3_note_16 : decode cX3_note 16 = .ok (.getfield 9, 3) := dk_180 0 9 (dk_at dksX3_note_0 16 rfl rfl)
theorem dX3_note_19 : decode cX3_note 19 = .ok (.bipush 7, 2) := dk_16 7 (dk_at dksX3_note_0 19 rfl rfl)
theorem dX3_note_21 : decode cX3_note 21 = .ok (.iaload, 1) := dk_46 (dk_at dksX3_note_0 21 rfl rfl)
theorem dX3_note_22 : decode cX3_note 22 = .ok (.istore 4, 2) := dk_54 4 (dk_at dksX3_note_0 22 rfl rfl)
theorem dX3_note_24 : decode cX3_note 24 = .ok (.iload_n 1, 1) := dk_27 (dk_at dksX3_note_1 0 rfl rfl)
theorem dX3_note_25 : decode cX3_note 25 = .ok (.i2l, 1) := dk_133 (dk_at dksX3_note_1 1 rfl rfl)
theorem dX3_note_26 : decode cX3_note 26 = .ok (.lconst 0, 1) := dk_9 (dk_at dksX3_note_1 2 rfl rfl)
theorem dX3_note_27 : decode cX3_note 27 = .ok (.ldc2_w 440, 3) := dk_20 1 184 (dk_at dksX3_note_1 3 rfl rfl)
theorem dX3_note_30 : decode cX3_note 30 = .ok (.invokestatic 138, 3) := dk_184 0 138 (dk_at dksX3_note_1 6 rfl rfl)
theorem dX3_note_33 : decode cX3_note 33 = .ok (.ifCond .eq 31, 3) := dk_153 0 31 (dk_at dksX3_note_1 9 rfl rfl)
theorem dX3_note_36 : decode cX3_note 36 = .ok (.aload_n 0, 1) := dk_42 (dk_at dksX3_note_1 12 rfl rfl)
theorem dX3_note_37 : decode cX3_note 37 = .ok (.iload_n 2, 1) := dk_28 (dk_at dksX3_note_1 13 rfl rfl)
theorem dX3_note_38 : decode cX3_note 38 = .ok (.invokevirtual 345, 3) := dk_182 1 89 (dk_at dksX3_note_1 14 rfl rfl)
theorem dX3_note_41 : decode cX3_note 41 = .ok (.ifCond .eq 23, 3) := dk_153 0 23 (dk_at dksX3_note_1 17 rfl rfl)
theorem dX3_note_44 : decode cX3_note 44 = .ok (.iload_n 3, 1) := dk_29 (dk_at dksX3_note_1 20 rfl rfl)
theorem dX3_note_45 : decode cX3_note 45 = .ok (.iconst (-1), 1) := dk_2 (dk_at dksX3_note_1 21 rfl rfl)
theorem dX3_note_46 : decode cX3_note 46 = .ok (.if_icmp .eq 11, 3) := dk_159 0 11 (dk_at dksX3_note_2 0 rfl rfl)
theorem dX3_note_49 : decode cX3_note 49 = .ok (.aload_n 0, 1) := dk_42 (dk_at dksX3_note_2 3 rfl rfl)
theorem dX3_note_50 : decode cX3_note 50 = .ok (.iload_n 3, 1) := dk_29 (dk_at dksX3_note_2 4 rfl rfl)
theorem dX3_note_51 : decode cX3_note 51 = .ok (.invokevirtual 341, 3) := dk_182 1 85 (dk_at dksX3_note_2 5 rfl rfl)
theorem dX3_note_54 : decode cX3_note 54 = .ok (.ifCond .eq 10, 3) := dk_153 0 10 (dk_at dksX3_note_2 8 rfl rfl)
theorem dX3_note_57 : decode cX3_note 57 = .ok (.iload 4, 2) := dk_21 4 (dk_at dksX3_note_2 11 rfl rfl)
theorem dX3_note_59 : decode cX3_note 59 = .ok (.bipush 10, 2) := dk_16 10 (dk_at dksX3_note_2 13 rfl rfl)
theorem dX3_note_61 : decode cX3_note 61 = .ok (.if_icmp .ne 6, 3) := dk_160 0 6 (dk_at dksX3_note_2 15 rfl rfl)
theorem dX3_note_64 : decode cX3_note 64 = .ok (.bipush (-2), 2) := dk_16 254 (dk_at dksX3_note_2 18 rfl rfl)
theorem dX3_note_66 : decode cX3_note 66 = .ok (.ireturn, 1) := dk_172 (dk_at dksX3_note_2 20 rfl rfl)
theorem dX3_note_67 : decode cX3_note 67 = .ok (.aload_n 0, 1) := dk_42 (dk_at dksX3_note_2 21 rfl rfl)
theorem dX3_note_68 : decode cX3_note 68 = .ok (.getfield 34, 3) := dk_180 0 34 (dk_at dksX3_note_3 0 rfl rfl)
theorem dX3_note_71 : decode cX3_note 71 = .ok (.iload 4, 2) := dk_21 4 (dk_at dksX3_note_3 3 rfl rfl)
theorem dX3_note_73 : decode cX3_note 73 = .ok (.iload_n 1, 1) := dk_27 (dk_at dksX3_note_3 5 rfl rfl)
theorem dX3_note_74 : decode cX3_note 74 = .ok (.iastore, 1) := dk_79 (dk_at dksX3_note_3 6 rfl rfl)
theorem dX3_note_75 : decode cX3_note 75 = .ok (.aload_n 0, 1) := dk_42 (dk_at dksX3_note_3 7 rfl rfl)
theorem dX3_note_76 : decode cX3_note 76 = .ok (.getfield 37, 3) := dk_180 0 37 (dk_at dksX3_note_3 8 rfl rfl)
theorem dX3_note_79 : decode cX3_note 79 = .ok (.iload 4, 2) := dk_21 4 (dk_at dksX3_note_3 11 rfl rfl)
theorem dX3_note_81 : decode cX3_note 81 = .ok (.iload_n 2, 1) := dk_28 (dk_at dksX3_note_3 13 rfl rfl)
theorem dX3_note_82 : decode cX3_note 82 = .ok (.iastore, 1) := dk_79 (dk_at dksX3_note_3 14 rfl rfl)
theorem dX3_note_83 : decode cX3_note 83 = .ok (.aload_n 0, 1) := dk_42 (dk_at dksX3_note_3 15 rfl rfl)
theorem dX3_note_84 : decode cX3_note 84 = .ok (.getfield 40, 3) := dk_180 0 40 (dk_at dksX3_note_3 16 rfl rfl)
theorem dX3_note_87 : decode cX3_note 87 = .ok (.iload 4, 2) := dk_21 4 (dk_at dksX3_note_3 19 rfl rfl)
theorem dX3_note_89 : decode cX3_note 89 = .ok (.iload_n 3, 1) := dk_29 (dk_at dksX3_note_3 21 rfl rfl)
theorem dX3_note_90 : decode cX3_note 90 = .ok (.iastore, 1) := dk_79 (dk_at dksX3_note_3 22 rfl rfl)
theorem dX3_note_91 : decode cX3_note 91 = .ok (.aload_n 0, 1) := dk_42 (dk_at dksX3_note_3 23 rfl rfl)
theorem dX3_note_92 : decode cX3_note 92 = .ok (.getfield 9, 3) := dk_180 0 9 (dk_at dksX3_note_4 0 rfl rfl)
theorem dX3_note_95 : decode cX3_note 95 = .ok (.bipush 7, 2) := dk_16 7 (dk_at dksX3_note_4 3 rfl rfl)
theorem dX3_note_97 : decode cX3_note 97 = .ok (.dup2, 1) := dk_92 (dk_at dksX3_note_4 5 rfl rfl)
theorem dX3_note_98 : decode cX3_note 98 = .ok (.iaload, 1) := dk_46 (dk_at dksX3_note_4 6 rfl rfl)
theorem dX3_note_99 : decode cX3_note 99 = .ok (.iconst 1, 1) := dk_4 (dk_at dksX3_note_4 7 rfl rfl)
theorem dX3_note_100 : decode cX3_note 100 = .ok (.iadd, 1) := dk_96 (dk_at dksX3_note_4 8 rfl rfl)
theorem dX3_note_101 : decode cX3_note 101 = .ok (.iastore, 1) := dk_79 (dk_at dksX3_note_4 9 rfl rfl)
theorem dX3_note_102 : decode cX3_note 102 = .ok (.iload 4, 2) := dk_21 4 (dk_at dksX3_note_4 10 rfl rfl)
theorem dX3_note_104 : decode cX3_note 104 = .ok (.iconst 1, 1) := dk_4 (dk_at dksX3_note_4 12 rfl rfl)
theorem dX3_note_105 : decode cX3_note 105 = .ok (.iadd, 1) := dk_96 (dk_at dksX3_note_4 13 rfl rfl)
theorem dX3_note_106 : decode cX3_note 106 = .ok (.ireturn, 1) := dk_172 (dk_at dksX3_note_4 14 rfl rfl)
abbrev cX3_ruled : ByteArray := prog_17_method_101_code
def yX3_ruled : MethodName := ⟨RX3, "ruled", "(I)I"⟩
def dkwX3_ruled_3 : List UInt8 := [154, 0, 7, 28, 167, 0, 4, 29, 172]
abbrev dktX3_ruled_3 : List UInt8 := dkwX3_ruled_3 ++ []
def dkwX3_ruled_2 : List UInt8 := [153, 0, 17, 28, 154, 0, 8, 21, 4, 167, 0, 4, 29, 62, 132, 2, 1, 132, 4, 1, 167, 255, 221, 27]
abbrev dktX3_ruled_2 : List UInt8 := dkwX3_ruled_2 ++ dktX3_ruled_3
def dkwX3_ruled_1 : List UInt8 := [3, 61, 16, 254, 62, 2, 54, 4, 21, 4, 42, 180, 1, 62, 162, 0, 32, 42, 21, 4, 182, 1, 227]
abbrev dktX3_ruled_1 : List UInt8 := dkwX3_ruled_1 ++ dktX3_ruled_2
def dkwX3_ruled_0 : List UInt8 := [42, 182, 1, 146, 153, 0, 13, 27, 133, 9, 10, 184, 0, 138, 154, 0, 6, 16, 253, 172, 42, 182, 1, 170]
abbrev dktX3_ruled_0 : List UInt8 := dkwX3_ruled_0 ++ dktX3_ruled_1
theorem dksX3_ruled_0 : cX3_ruled.data.toList.drop 0 = dktX3_ruled_0 := by decide +kernel
theorem dksX3_ruled_1 : cX3_ruled.data.toList.drop 24 = dktX3_ruled_1 := dk_seg dksX3_ruled_0 24 rfl rfl
theorem dksX3_ruled_2 : cX3_ruled.data.toList.drop 47 = dktX3_ruled_2 := dk_seg dksX3_ruled_1 23 rfl rfl
theorem dksX3_ruled_3 : cX3_ruled.data.toList.drop 71 = dktX3_ruled_3 := dk_seg dksX3_ruled_2 24 rfl rfl
theorem dX3_ruled_0 : decode cX3_ruled 0 = .ok (.aload_n 0, 1) := dk_42 (dk_at dksX3_ruled_0 0 rfl rfl)
theorem dX3_ruled_1 : decode cX3_ruled 1 = .ok (.invokevirtual 402, 3) := dk_182 1 146 (dk_at dksX3_ruled_0 1 rfl rfl)
theorem dX3_ruled_4 : decode cX3_ruled 4 = .ok (.ifCond .eq 13, 3) := dk_153 0 13 (dk_at dksX3_ruled_0 4 rfl rfl)
theorem dX3_ruled_7 : decode cX3_ruled 7 = .ok (.iload_n 1, 1) := dk_27 (dk_at dksX3_ruled_0 7 rfl rfl)
theorem dX3_ruled_8 : decode cX3_ruled 8 = .ok (.i2l, 1) := dk_133 (dk_at dksX3_ruled_0 8 rfl rfl)
theorem dX3_ruled_9 : decode cX3_ruled 9 = .ok (.lconst 0, 1) := dk_9 (dk_at dksX3_ruled_0 9 rfl rfl)
theorem dX3_ruled_10 : decode cX3_ruled 10 = .ok (.lconst 1, 1) := dk_10 (dk_at dksX3_ruled_0 10 rfl rfl)
theorem dX3_ruled_11 : decode cX3_ruled 11 = .ok (.invokestatic 138, 3) := dk_184 0 138 (dk_at dksX3_ruled_0 11 rfl rfl)
theorem dX3_ruled_14 : decode cX3_ruled 14 = .ok (.ifCond .ne 6, 3) := dk_154 0 6 (dk_at dksX3_ruled_0 14 rfl rfl)
theorem dX3_ruled_17 : decode cX3_ruled 17 = .ok (.bipush (-3), 2) := dk_16 253 (dk_at dksX3_ruled_0 17 rfl rfl)
theorem dX3_ruled_19 : decode cX3_ruled 19 = .ok (.ireturn, 1) := dk_172 (dk_at dksX3_ruled_0 19 rfl rfl)
theorem dX3_ruled_20 : decode cX3_ruled 20 = .ok (.aload_n 0, 1) := dk_42 (dk_at dksX3_ruled_0 20 rfl rfl)
theorem dX3_ruled_21 : decode cX3_ruled 21 = .ok (.invokevirtual 426, 3) := dk_182 1 170 (dk_at dksX3_ruled_0 21 rfl rfl)
theorem dX3_ruled_24 : decode cX3_ruled 24 = .ok (.iconst 0, 1) := dk_3 (dk_at dksX3_ruled_1 0 rfl rfl)
theorem dX3_ruled_25 : decode cX3_ruled 25 = .ok (.istore_n 2, 1) := dk_61 (dk_at dksX3_ruled_1 1 rfl rfl)
theorem dX3_ruled_26 : decode cX3_ruled 26 = .ok (.bipush (-2), 2) := dk_16 254 (dk_at dksX3_ruled_1 2 rfl rfl)
theorem dX3_ruled_28 : decode cX3_ruled 28 = .ok (.istore_n 3, 1) := dk_62 (dk_at dksX3_ruled_1 4 rfl rfl)
theorem dX3_ruled_29 : decode cX3_ruled 29 = .ok (.iconst (-1), 1) := dk_2 (dk_at dksX3_ruled_1 5 rfl rfl)
theorem dX3_ruled_30 : decode cX3_ruled 30 = .ok (.istore 4, 2) := dk_54 4 (dk_at dksX3_ruled_1 6 rfl rfl)
theorem dX3_ruled_32 : decode cX3_ruled 32 = .ok (.iload 4, 2) := dk_21 4 (dk_at dksX3_ruled_1 8 rfl rfl)
theorem dX3_ruled_34 : decode cX3_ruled 34 = .ok (.aload_n 0, 1) := dk_42 (dk_at dksX3_ruled_1 10 rfl rfl)
theorem dX3_ruled_35 : decode cX3_ruled 35 = .ok (.getfield 318, 3) := dk_180 1 62 (dk_at dksX3_ruled_1 11 rfl rfl)
theorem dX3_ruled_38 : decode cX3_ruled 38 = .ok (.if_icmp .ge 32, 3) := dk_162 0 32 (dk_at dksX3_ruled_1 14 rfl rfl)
theorem dX3_ruled_41 : decode cX3_ruled 41 = .ok (.aload_n 0, 1) := dk_42 (dk_at dksX3_ruled_1 17 rfl rfl)
theorem dX3_ruled_42 : decode cX3_ruled 42 = .ok (.iload 4, 2) := dk_21 4 (dk_at dksX3_ruled_1 18 rfl rfl)
theorem dX3_ruled_44 : decode cX3_ruled 44 = .ok (.invokevirtual 483, 3) := dk_182 1 227 (dk_at dksX3_ruled_1 20 rfl rfl)
theorem dX3_ruled_47 : decode cX3_ruled 47 = .ok (.ifCond .eq 17, 3) := dk_153 0 17 (dk_at dksX3_ruled_2 0 rfl rfl)
theorem dX3_ruled_50 : decode cX3_ruled 50 = .ok (.iload_n 2, 1) := dk_28 (dk_at dksX3_ruled_2 3 rfl rfl)
theorem dX3_ruled_51 : decode cX3_ruled 51 = .ok (.ifCond .ne 8, 3) := dk_154 0 8 (dk_at dksX3_ruled_2 4 rfl rfl)
theorem dX3_ruled_54 : decode cX3_ruled 54 = .ok (.iload 4, 2) := dk_21 4 (dk_at dksX3_ruled_2 7 rfl rfl)
theorem dX3_ruled_56 : decode cX3_ruled 56 = .ok (.goto 4, 3) := dk_167 0 4 (dk_at dksX3_ruled_2 9 rfl rfl)
theorem dX3_ruled_59 : decode cX3_ruled 59 = .ok (.iload_n 3, 1) := dk_29 (dk_at dksX3_ruled_2 12 rfl rfl)
theorem dX3_ruled_60 : decode cX3_ruled 60 = .ok (.istore_n 3, 1) := dk_62 (dk_at dksX3_ruled_2 13 rfl rfl)
theorem dX3_ruled_61 : decode cX3_ruled 61 = .ok (.iinc 2 1, 3) := dk_132 2 1 (dk_at dksX3_ruled_2 14 rfl rfl)
theorem dX3_ruled_64 : decode cX3_ruled 64 = .ok (.iinc 4 1, 3) := dk_132 4 1 (dk_at dksX3_ruled_2 17 rfl rfl)
theorem dX3_ruled_67 : decode cX3_ruled 67 = .ok (.goto (-35), 3) := dk_167 255 221 (dk_at dksX3_ruled_2 20 rfl rfl)
theorem dX3_ruled_70 : decode cX3_ruled 70 = .ok (.iload_n 1, 1) := dk_27 (dk_at dksX3_ruled_2 23 rfl rfl)
theorem dX3_ruled_71 : decode cX3_ruled 71 = .ok (.ifCond .ne 7, 3) := dk_154 0 7 (dk_at dksX3_ruled_3 0 rfl rfl)
theorem dX3_ruled_74 : decode cX3_ruled 74 = .ok (.iload_n 2, 1) := dk_28 (dk_at dksX3_ruled_3 3 rfl rfl)
theorem dX3_ruled_75 : decode cX3_ruled 75 = .ok (.goto 4, 3) := dk_167 0 4 (dk_at dksX3_ruled_3 4 rfl rfl)
theorem dX3_ruled_78 : decode cX3_ruled 78 = .ok (.iload_n 3, 1) := dk_29 (dk_at dksX3_ruled_3 7 rfl rfl)
theorem dX3_ruled_79 : decode cX3_ruled 79 = .ok (.ireturn, 1) := dk_172 (dk_at dksX3_ruled_3 8 rfl rfl)
abbrev cX3_couldRule : ByteArray := prog_17_method_100_code
def yX3_couldRule : MethodName := ⟨RX3, "couldRule", "(I)Z"⟩
def dkwX3_couldRule_5 : List UInt8 := [4, 172]
abbrev dktX3_couldRule_5 : List UInt8 := dkwX3_couldRule_5 ++ []
def dkwX3_couldRule_4 : List UInt8 := [180, 0, 37, 28, 46, 96, 46, 42, 180, 0, 40, 28, 46, 159, 0, 5, 3, 172, 132, 2, 1, 167, 255, 210]
abbrev dktX3_couldRule_4 : List UInt8 := dkwX3_couldRule_4 ++ dktX3_couldRule_5
def dkwX3_couldRule_3 : List UInt8 := [42, 180, 0, 9, 16, 7, 46, 162, 0, 41, 42, 180, 0, 121, 16, 36, 42, 180, 0, 34, 28, 46, 104, 42]
abbrev dktX3_couldRule_3 : List UInt8 := dkwX3_couldRule_3 ++ dktX3_couldRule_4
def dkwX3_couldRule_2 : List UInt8 := [132, 3, 1, 167, 255, 230, 42, 182, 1, 125, 87, 132, 2, 1, 167, 255, 211, 42, 182, 1, 163, 3, 61, 28]
abbrev dktX3_couldRule_2 : List UInt8 := dkwX3_couldRule_2 ++ dktX3_couldRule_3
def dkwX3_couldRule_1 : List UInt8 := [16, 36, 162, 0, 26, 42, 180, 0, 121, 16, 36, 28, 104, 29, 96, 42, 180, 0, 19, 29, 46, 79]
abbrev dktX3_couldRule_1 : List UInt8 := dkwX3_couldRule_1 ++ dktX3_couldRule_2
def dkwX3_couldRule_0 : List UInt8 := [42, 180, 0, 9, 16, 9, 27, 79, 42, 182, 1, 46, 3, 61, 28, 16, 60, 163, 0, 45, 3, 62, 29]
abbrev dktX3_couldRule_0 : List UInt8 := dkwX3_couldRule_0 ++ dktX3_couldRule_1
theorem dksX3_couldRule_0 : cX3_couldRule.data.toList.drop 0 = dktX3_couldRule_0 := by decide +kernel
theorem dksX3_couldRule_1 : cX3_couldRule.data.toList.drop 23 = dktX3_couldRule_1 := dk_seg dksX3_couldRule_0 23 rfl rfl
theorem dksX3_couldRule_2 : cX3_couldRule.data.toList.drop 45 = dktX3_couldRule_2 := dk_seg dksX3_couldRule_1 22 rfl rfl
theorem dksX3_couldRule_3 : cX3_couldRule.data.toList.drop 69 = dktX3_couldRule_3 := dk_seg dksX3_couldRule_2 24 rfl rfl
theorem dksX3_couldRule_4 : cX3_couldRule.data.toList.drop 93 = dktX3_couldRule_4 := dk_seg dksX3_couldRule_3 24 rfl rfl
theorem dksX3_couldRule_5 : cX3_couldRule.data.toList.drop 117 = dktX3_couldRule_5 := dk_seg dksX3_couldRule_4 24 rfl rfl
theorem dX3_couldRule_0 : decode cX3_couldRule 0 = .ok (.aload_n 0, 1) := dk_42 (dk_at dksX3_couldRule_0 0 rfl rfl)
theorem dX3_couldRule_1 : decode cX3_couldRule 1 = .ok (.getfield 9, 3) := dk_180 0 9 (dk_at dksX3_couldRule_0 1 rfl rfl)
theorem dX3_couldRule_4 : decode cX3_couldRule 4 = .ok (.bipush 9, 2) := dk_16 9 (dk_at dksX3_couldRule_0 4 rfl rfl)
theorem dX3_couldRule_6 : decode cX3_couldRule 6 = .ok (.iload_n 1, 1) := dk_27 (dk_at dksX3_couldRule_0 6 rfl rfl)
theorem dX3_couldRule_7 : decode cX3_couldRule 7 = .ok (.iastore, 1) := dk_79 (dk_at dksX3_couldRule_0 7 rfl rfl)
theorem dX3_couldRule_8 : decode cX3_couldRule 8 = .ok (.aload_n 0, 1) := dk_42 (dk_at dksX3_couldRule_0 8 rfl rfl)
theorem dX3_couldRule_9 : decode cX3_couldRule 9 = .ok (.invokevirtual 302, 3) := dk_182 1 46 (dk_at dksX3_couldRule_0 9 rfl rfl)
theorem dX3_couldRule_12 : decode cX3_couldRule 12 = .ok (.iconst 0, 1) := dk_3 (dk_at dksX3_couldRule_0 12 rfl rfl)
theorem dX3_couldRule_13 : decode cX3_couldRule 13 = .ok (.istore_n 2, 1) := dk_61 (dk_at dksX3_couldRule_0 13 rfl rfl)
theorem dX3_couldRule_14 : decode cX3_couldRule 14 = .ok (.iload_n 2, 1) := dk_28 (dk_at dksX3_couldRule_0 14 rfl rfl)
theorem dX3_couldRule_15 : decode cX3_couldRule 15 = .ok (.bipush 60, 2) := dk_16 60 (dk_at dksX3_couldRule_0 15 rfl rfl)
theorem dX3_couldRule_17 : decode cX3_couldRule 17 = .ok (.if_icmp .gt 45, 3) := dk_163 0 45 (dk_at dksX3_couldRule_0 17 rfl rfl)
theorem dX3_couldRule_20 : decode cX3_couldRule 20 = .ok (.iconst 0, 1) := dk_3 (dk_at dksX3_couldRule_0 20 rfl rfl)
theorem dX3_couldRule_21 : decode cX3_couldRule 21 = .ok (.istore_n 3, 1) := dk_62 (dk_at dksX3_couldRule_0 21 rfl rfl)
theorem dX3_couldRule_22 : decode cX3_couldRule 22 = .ok (.iload_n 3, 1) := dk_29 (dk_at dksX3_couldRule_0 22 rfl rfl)
theorem dX3_couldRule_23 : decode cX3_couldRule 23 = .ok (.bipush 36, 2) := dk_16 36 (dk_at dksX3_couldRule_1 0 rfl rfl)
theorem dX3_couldRule_25 : decode cX3_couldRule 25 = .ok (.if_icmp .ge 26, 3) := dk_162 0 26 (dk_at dksX3_couldRule_1 2 rfl rfl)
theorem dX3_couldRule_28 : decode cX3_couldRule 28 = .ok (.aload_n 0, 1) := dk_42 (dk_at dksX3_couldRule_1 5 rfl rfl)
theorem dX3_couldRule_29 : decode cX3_couldRule 29 = .ok (.getfield 121, 3) := dk_180 0 121 (dk_at dksX3_couldRule_1 6 rfl rfl)
theorem dX3_couldRule_32 : decode cX3_couldRule 32 = .ok (.bipush 36, 2) := dk_16 36 (dk_at dksX3_couldRule_1 9 rfl rfl)
theorem dX3_couldRule_34 : decode cX3_couldRule 34 = .ok (.iload_n 2, 1) := dk_28 (dk_at dksX3_couldRule_1 11 rfl rfl)
theorem dX3_couldRule_35 : decode cX3_couldRule 35 = .ok (.imul, 1) := dk_104 (dk_at dksX3_couldRule_1 12 rfl rfl)
theorem dX3_couldRule_36 : decode cX3_couldRule 36 = .ok (.iload_n 3, 1) := dk_29 (dk_at dksX3_couldRule_1 13 rfl rfl)
theorem dX3_couldRule_37 : decode cX3_couldRule 37 = .ok (.iadd, 1) := dk_96 (dk_at dksX3_couldRule_1 14 rfl rfl)
theorem dX3_couldRule_38 : decode cX3_couldRule 38 = .ok (.aload_n 0, 1) := dk_42 (dk_at dksX3_couldRule_1 15 rfl rfl)
theorem dX3_couldRule_39 : decode cX3_couldRule 39 = .ok (.getfield 19, 3) := dk_180 0 19 (dk_at dksX3_couldRule_1 16 rfl rfl)
theorem dX3_couldRule_42 : decode cX3_couldRule 42 = .ok (.iload_n 3, 1) := dk_29 (dk_at dksX3_couldRule_1 19 rfl rfl)
theorem dX3_couldRule_43 : decode cX3_couldRule 43 = .ok (.iaload, 1) := dk_46 (dk_at dksX3_couldRule_1 20 rfl rfl)
theorem dX3_couldRule_44 : decode cX3_couldRule 44 = .ok (.iastore, 1) := dk_79 (dk_at dksX3_couldRule_1 21 rfl rfl)
theorem dX3_couldRule_45 : decode cX3_couldRule 45 = .ok (.iinc 3 1, 3) := dk_132 3 1 (dk_at dksX3_couldRule_2 0 rfl rfl)
theorem dX3_couldRule_48 : decode cX3_couldRule 48 = .ok (.goto (-26), 3) := dk_167 255 230 (dk_at dksX3_couldRule_2 3 rfl rfl)
theorem dX3_couldRule_51 : decode cX3_couldRule 51 = .ok (.aload_n 0, 1) := dk_42 (dk_at dksX3_couldRule_2 6 rfl rfl)
theorem dX3_couldRule_52 : decode cX3_couldRule 52 = .ok (.invokevirtual 381, 3) := dk_182 1 125 (dk_at dksX3_couldRule_2 7 rfl rfl)
theorem dX3_couldRule_55 : decode cX3_couldRule 55 = .ok (.pop, 1) := dk_87 (dk_at dksX3_couldRule_2 10 rfl rfl)
theorem dX3_couldRule_56 : decode cX3_couldRule 56 = .ok (.iinc 2 1, 3) := dk_132 2 1 (dk_at dksX3_couldRule_2 11 rfl rfl)
theorem dX3_couldRule_59 : decode cX3_couldRule 59 = .ok (.goto (-45), 3) := dk_167 255 211 (dk_at dksX3_couldRule_2 14 rfl rfl)
theorem dX3_couldRule_62 : decode cX3_couldRule 62 = .ok (.aload_n 0, 1) := dk_42 (dk_at dksX3_couldRule_2 17 rfl rfl)
theorem dX3_couldRule_63 : decode cX3_couldRule 63 = .ok (.invokevirtual 419, 3) := dk_182 1 163 (dk_at dksX3_couldRule_2 18 rfl rfl)
theorem dX3_couldRule_66 : decode cX3_couldRule 66 = .ok (.iconst 0, 1) := dk_3 (dk_at dksX3_couldRule_2 21 rfl rfl)
theorem dX3_couldRule_67 : decode cX3_couldRule 67 = .ok (.istore_n 2, 1) := dk_61 (dk_at dksX3_couldRule_2 22 rfl rfl)
theorem dX3_couldRule_68 : decode cX3_couldRule 68 = .ok (.iload_n 2, 1) := dk_28 (dk_at dksX3_couldRule_2 23 rfl rfl)
theorem dX3_couldRule_69 : decode cX3_couldRule 69 = .ok (.aload_n 0, 1) := dk_42 (dk_at dksX3_couldRule_3 0 rfl rfl)
theorem dX3_couldRule_70 : decode cX3_couldRule 70 = .ok (.getfield 9, 3) := dk_180 0 9 (dk_at dksX3_couldRule_3 1 rfl rfl)
theorem dX3_couldRule_73 : decode cX3_couldRule 73 = .ok (.bipush 7, 2) := dk_16 7 (dk_at dksX3_couldRule_3 4 rfl rfl)
theorem dX3_couldRule_75 : decode cX3_couldRule 75 = .ok (.iaload, 1) := dk_46 (dk_at dksX3_couldRule_3 6 rfl rfl)
theorem dX3_couldRule_76 : decode cX3_couldRule 76 = .ok (.if_icmp .ge 41, 3) := dk_162 0 41 (dk_at dksX3_couldRule_3 7 rfl rfl)
theorem dX3_couldRule_79 : decode cX3_couldRule 79 = .ok (.aload_n 0, 1) := dk_42 (dk_at dksX3_couldRule_3 10 rfl rfl)
theorem dX3_couldRule_80 : decode cX3_couldRule 80 = .ok (.getfield 121, 3) := dk_180 0 121 (dk_at dksX3_couldRule_3 11 rfl rfl)
theorem dX3_couldRule_83 : decode cX3_couldRule 83 = .ok (.bipush 36, 2) := dk_16 36 (dk_at dksX3_couldRule_3 14 rfl rfl)
theorem dX3_couldRule_85 : decode cX3_couldRule 85 = .ok (.aload_n 0, 1) := dk_42 (dk_at dksX3_couldRule_3 16 rfl rfl)
theorem dX3_couldRule_86 : decode cX3_couldRule 86 = .ok (.getfield 34, 3) := dk_180 0 34 (dk_at dksX3_couldRule_3 17 rfl rfl)
theorem dX3_couldRule_89 : decode cX3_couldRule 89 = .ok (.iload_n 2, 1) := dk_28 (dk_at dksX3_couldRule_3 20 rfl rfl)
theorem dX3_couldRule_90 : decode cX3_couldRule 90 = .ok (.iaload, 1) := dk_46 (dk_at dksX3_couldRule_3 21 rfl rfl)
theorem dX3_couldRule_91 : decode cX3_couldRule 91 = .ok (.imul, 1) := dk_104 (dk_at dksX3_couldRule_3 22 rfl rfl)
theorem dX3_couldRule_92 : decode cX3_couldRule 92 = .ok (.aload_n 0, 1) := dk_42 (dk_at dksX3_couldRule_3 23 rfl rfl)
theorem dX3_couldRule_93 : decode cX3_couldRule 93 = .ok (.getfield 37, 3) := dk_180 0 37 (dk_at dksX3_couldRule_4 0 rfl rfl)
theorem dX3_couldRule_96 : decode cX3_couldRule 96 = .ok (.iload_n 2, 1) := dk_28 (dk_at dksX3_couldRule_4 3 rfl rfl)
theorem dX3_couldRule_97 : decode cX3_couldRule 97 = .ok (.iaload, 1) := dk_46 (dk_at dksX3_couldRule_4 4 rfl rfl)
theorem dX3_couldRule_98 : decode cX3_couldRule 98 = .ok (.iadd, 1) := dk_96 (dk_at dksX3_couldRule_4 5 rfl rfl)
theorem dX3_couldRule_99 : decode cX3_couldRule 99 = .ok (.iaload, 1) := dk_46 (dk_at dksX3_couldRule_4 6 rfl rfl)
theorem dX3_couldRule_100 : decode cX3_couldRule 100 = .ok (.aload_n 0, 1) := dk_42 (dk_at dksX3_couldRule_4 7 rfl rfl)
theorem dX3_couldRule_101 : decode cX3_couldRule 101 = .ok (.getfield 40, 3) := dk_180 0 40 (dk_at dksX3_couldRule_4 8 rfl rfl)
theorem dX3_couldRule_104 : decode cX3_couldRule 104 = .ok (.iload_n 2, 1) := dk_28 (dk_at dksX3_couldRule_4 11 rfl rfl)
theorem dX3_couldRule_105 : decode cX3_couldRule 105 = .ok (.iaload, 1) := dk_46 (dk_at dksX3_couldRule_4 12 rfl rfl)
theorem dX3_couldRule_106 : decode cX3_couldRule 106 = .ok (.if_icmp .eq 5, 3) := dk_159 0 5 (dk_at dksX3_couldRule_4 13 rfl rfl)
theorem dX3_couldRule_109 : decode cX3_couldRule 109 = .ok (.iconst 0, 1) := dk_3 (dk_at dksX3_couldRule_4 16 rfl rfl)
theorem dX3_couldRule_110 : decode cX3_couldRule 110 = .ok (.ireturn, 1) := dk_172 (dk_at dksX3_couldRule_4 17 rfl rfl)
theorem dX3_couldRule_111 : decode cX3_couldRule 111 = .ok (.iinc 2 1, 3) := dk_132 2 1 (dk_at dksX3_couldRule_4 18 rfl rfl)
theorem dX3_couldRule_114 : decode cX3_couldRule 114 = .ok (.goto (-46), 3) := dk_167 255 210 (dk_at dksX3_couldRule_4 21 rfl rfl)
theorem dX3_couldRule_117 : decode cX3_couldRule 117 = .ok (.iconst 1, 1) := dk_4 (dk_at dksX3_couldRule_5 0 rfl rfl)
theorem dX3_couldRule_118 : decode cX3_couldRule 118 = .ok (.ireturn, 1) := dk_172 (dk_at dksX3_couldRule_5 1 rfl rfl)
abbrev cX3_look : ByteArray := prog_17_method_102_code
def yX3_look : MethodName := ⟨RX3, "look", "(II)I"⟩
def dkwX3_look_5 : List UInt8 := [182, 1, 224, 54, 4, 28, 154, 0, 8, 21, 4, 167, 0, 10, 42, 21, 4, 29, 182, 1, 221, 172]
abbrev dktX3_look_5 : List UInt8 := dkwX3_look_5 ++ []
def dkwX3_look_4 : List UInt8 := [132, 5, 1, 167, 255, 222, 132, 3, 1, 132, 4, 1, 167, 255, 192, 29, 154, 0, 6, 16, 254, 172, 42, 29]
abbrev dktX3_look_4 : List UInt8 := dkwX3_look_4 ++ dktX3_look_5
def dkwX3_look_3 : List UInt8 := [180, 0, 118, 16, 36, 29, 104, 21, 5, 96, 42, 180, 0, 121, 16, 36, 27, 104, 21, 5, 96, 46, 79]
abbrev dktX3_look_3 : List UInt8 := dkwX3_look_3 ++ dktX3_look_4
def dkwX3_look_2 : List UInt8 := [162, 0, 61, 42, 21, 4, 182, 1, 227, 153, 0, 46, 3, 54, 5, 21, 5, 16, 36, 162, 0, 33, 42]
abbrev dktX3_look_2 : List UInt8 := dkwX3_look_2 ++ dktX3_look_3
def dkwX3_look_1 : List UInt8 := [184, 0, 138, 154, 0, 5, 2, 172, 42, 182, 1, 170, 3, 62, 2, 54, 4, 21, 4, 42, 180, 1, 62]
abbrev dktX3_look_1 : List UInt8 := dkwX3_look_1 ++ dktX3_look_2
def dkwX3_look_0 : List UInt8 := [42, 182, 1, 146, 153, 0, 25, 27, 133, 9, 20, 1, 184, 184, 0, 138, 153, 0, 13, 28, 133, 9, 10]
abbrev dktX3_look_0 : List UInt8 := dkwX3_look_0 ++ dktX3_look_1
theorem dksX3_look_0 : cX3_look.data.toList.drop 0 = dktX3_look_0 := by decide +kernel
theorem dksX3_look_1 : cX3_look.data.toList.drop 23 = dktX3_look_1 := dk_seg dksX3_look_0 23 rfl rfl
theorem dksX3_look_2 : cX3_look.data.toList.drop 46 = dktX3_look_2 := dk_seg dksX3_look_1 23 rfl rfl
theorem dksX3_look_3 : cX3_look.data.toList.drop 69 = dktX3_look_3 := dk_seg dksX3_look_2 23 rfl rfl
theorem dksX3_look_4 : cX3_look.data.toList.drop 92 = dktX3_look_4 := dk_seg dksX3_look_3 23 rfl rfl
theorem dksX3_look_5 : cX3_look.data.toList.drop 116 = dktX3_look_5 := dk_seg dksX3_look_4 24 rfl rfl
theorem dX3_look_0 : decode cX3_look 0 = .ok (.aload_n 0, 1) := dk_42 (dk_at dksX3_look_0 0 rfl rfl)
theorem dX3_look_1 : decode cX3_look 1 = .ok (.invokevirtual 402, 3) := dk_182 1 146 (dk_at dksX3_look_0 1 rfl rfl)
theorem dX3_look_4 : decode cX3_look 4 = .ok (.ifCond .eq 25, 3) := dk_153 0 25 (dk_at dksX3_look_0 4 rfl rfl)
theorem dX3_look_7 : decode cX3_look 7 = .ok (.iload_n 1, 1) := dk_27 (dk_at dksX3_look_0 7 rfl rfl)
theorem dX3_look_8 : decode cX3_look 8 = .ok (.i2l, 1) := dk_133 (dk_at dksX3_look_0 8 rfl rfl)
theorem dX3_look_9 : decode cX3_look 9 = .ok (.lconst 0, 1) := dk_9 (dk_at dksX3_look_0 9 rfl rfl)
theorem dX3_look_10 : decode cX3_look 10 = .ok (.ldc2_w 440, 3) := dk_20 1 184 (dk_at dksX3_look_0 10 rfl rfl)
theorem dX3_look_13 : decode cX3_look 13 = .ok (.invokestatic 138, 3) := dk_184 0 138 (dk_at dksX3_look_0 13 rfl rfl)
theorem dX3_look_16 : decode cX3_look 16 = .ok (.ifCond .eq 13, 3) := dk_153 0 13 (dk_at dksX3_look_0 16 rfl rfl)
theorem dX3_look_19 : decode cX3_look 19 = .ok (.iload_n 2, 1) := dk_28 (dk_at dksX3_look_0 19 rfl rfl)
theorem dX3_look_20 : decode cX3_look 20 = .ok (.i2l, 1) := dk_133 (dk_at dksX3_look_0 20 rfl rfl)
theorem dX3_look_21 : decode cX3_look 21 = .ok (.lconst 0, 1) := dk_9 (dk_at dksX3_look_0 21 rfl rfl)
theorem dX3_look_22 : decode cX3_look 22 = .ok (.lconst 1, 1) := dk_10 (dk_at dksX3_look_0 22 rfl rfl)
theorem dX3_look_23 : decode cX3_look 23 = .ok (.invokestatic 138, 3) := dk_184 0 138 (dk_at dksX3_look_1 0 rfl rfl)
theorem dX3_look_26 : decode cX3_look 26 = .ok (.ifCond .ne 5, 3) := dk_154 0 5 (dk_at dksX3_look_1 3 rfl rfl)
theorem dX3_look_29 : decode cX3_look 29 = .ok (.iconst (-1), 1) := dk_2 (dk_at dksX3_look_1 6 rfl rfl)
theorem dX3_look_30 : decode cX3_look 30 = .ok (.ireturn, 1) := dk_172 (dk_at dksX3_look_1 7 rfl rfl)
theorem dX3_look_31 : decode cX3_look 31 = .ok (.aload_n 0, 1) := dk_42 (dk_at dksX3_look_1 8 rfl rfl)
theorem dX3_look_32 : decode cX3_look 32 = .ok (.invokevirtual 426, 3) := dk_182 1 170 (dk_at dksX3_look_1 9 rfl rfl)
theorem dX3_look_35 : decode cX3_look 35 = .ok (.iconst 0, 1) := dk_3 (dk_at dksX3_look_1 12 rfl rfl)
theorem dX3_look_36 : decode cX3_look 36 = .ok (.istore_n 3, 1) := dk_62 (dk_at dksX3_look_1 13 rfl rfl)
theorem dX3_look_37 : decode cX3_look 37 = .ok (.iconst (-1), 1) := dk_2 (dk_at dksX3_look_1 14 rfl rfl)
theorem dX3_look_38 : decode cX3_look 38 = .ok (.istore 4, 2) := dk_54 4 (dk_at dksX3_look_1 15 rfl rfl)
theorem dX3_look_40 : decode cX3_look 40 = .ok (.iload 4, 2) := dk_21 4 (dk_at dksX3_look_1 17 rfl rfl)
theorem dX3_look_42 : decode cX3_look 42 = .ok (.aload_n 0, 1) := dk_42 (dk_at dksX3_look_1 19 rfl rfl)
theorem dX3_look_43 : decode cX3_look 43 = .ok (.getfield 318, 3) := dk_180 1 62 (dk_at dksX3_look_1 20 rfl rfl)
theorem dX3_look_46 : decode cX3_look 46 = .ok (.if_icmp .ge 61, 3) := dk_162 0 61 (dk_at dksX3_look_2 0 rfl rfl)
theorem dX3_look_49 : decode cX3_look 49 = .ok (.aload_n 0, 1) := dk_42 (dk_at dksX3_look_2 3 rfl rfl)
theorem dX3_look_50 : decode cX3_look 50 = .ok (.iload 4, 2) := dk_21 4 (dk_at dksX3_look_2 4 rfl rfl)
theorem dX3_look_52 : decode cX3_look 52 = .ok (.invokevirtual 483, 3) := dk_182 1 227 (dk_at dksX3_look_2 6 rfl rfl)
theorem dX3_look_55 : decode cX3_look 55 = .ok (.ifCond .eq 46, 3) := dk_153 0 46 (dk_at dksX3_look_2 9 rfl rfl)
theorem dX3_look_58 : decode cX3_look 58 = .ok (.iconst 0, 1) := dk_3 (dk_at dksX3_look_2 12 rfl rfl)
theorem dX3_look_59 : decode cX3_look 59 = .ok (.istore 5, 2) := dk_54 5 (dk_at dksX3_look_2 13 rfl rfl)
theorem dX3_look_61 : decode cX3_look 61 = .ok (.iload 5, 2) := dk_21 5 (dk_at dksX3_look_2 15 rfl rfl)
theorem dX3_look_63 : decode cX3_look 63 = .ok (.bipush 36, 2) := dk_16 36 (dk_at dksX3_look_2 17 rfl rfl)
theorem dX3_look_65 : decode cX3_look 65 = .ok (.if_icmp .ge 33, 3) := dk_162 0 33 (dk_at dksX3_look_2 19 rfl rfl)
theorem dX3_look_68 : decode cX3_look 68 = .ok (.aload_n 0, 1) := dk_42 (dk_at dksX3_look_2 22 rfl rfl)
theorem dX3_look_69 : decode cX3_look 69 = .ok (.getfield 118, 3) := dk_180 0 118 (dk_at dksX3_look_3 0 rfl rfl)
theorem dX3_look_72 : decode cX3_look 72 = .ok (.bipush 36, 2) := dk_16 36 (dk_at dksX3_look_3 3 rfl rfl)
theorem dX3_look_74 : decode cX3_look 74 = .ok (.iload_n 3, 1) := dk_29 (dk_at dksX3_look_3 5 rfl rfl)
theorem dX3_look_75 : decode cX3_look 75 = .ok (.imul, 1) := dk_104 (dk_at dksX3_look_3 6 rfl rfl)
theorem dX3_look_76 : decode cX3_look 76 = .ok (.iload 5, 2) := dk_21 5 (dk_at dksX3_look_3 7 rfl rfl)
theorem dX3_look_78 : decode cX3_look 78 = .ok (.iadd, 1) := dk_96 (dk_at dksX3_look_3 9 rfl rfl)
theorem dX3_look_79 : decode cX3_look 79 = .ok (.aload_n 0, 1) := dk_42 (dk_at dksX3_look_3 10 rfl rfl)
theorem dX3_look_80 : decode cX3_look 80 = .ok (.getfield 121, 3) := dk_180 0 121 (dk_at dksX3_look_3 11 rfl rfl)
theorem dX3_look_83 : decode cX3_look 83 = .ok (.bipush 36, 2) := dk_16 36 (dk_at dksX3_look_3 14 rfl rfl)
theorem dX3_look_85 : decode cX3_look 85 = .ok (.iload_n 1, 1) := dk_27 (dk_at dksX3_look_3 16 rfl rfl)
theorem dX3_look_86 : decode cX3_look 86 = .ok (.imul, 1) := dk_104 (dk_at dksX3_look_3 17 rfl rfl)
theorem dX3_look_87 : decode cX3_look 87 = .ok (.iload 5, 2) := dk_21 5 (dk_at dksX3_look_3 18 rfl rfl)
theorem dX3_look_89 : decode cX3_look 89 = .ok (.iadd, 1) := dk_96 (dk_at dksX3_look_3 20 rfl rfl)
theorem dX3_look_90 : decode cX3_look 90 = .ok (.iaload, 1) := dk_46 (dk_at dksX3_look_3 21 rfl rfl)
theorem dX3_look_91 : decode cX3_look 91 = .ok (.iastore, 1) := dk_79 (dk_at dksX3_look_3 22 rfl rfl)
theorem dX3_look_92 : decode cX3_look 92 = .ok (.iinc 5 1, 3) := dk_132 5 1 (dk_at dksX3_look_4 0 rfl rfl)
theorem dX3_look_95 : decode cX3_look 95 = .ok (.goto (-34), 3) := dk_167 255 222 (dk_at dksX3_look_4 3 rfl rfl)
theorem dX3_look_98 : decode cX3_look 98 = .ok (.iinc 3 1, 3) := dk_132 3 1 (dk_at dksX3_look_4 6 rfl rfl)
theorem dX3_look_101 : decode cX3_look 101 = .ok (.iinc 4 1, 3) := dk_132 4 1 (dk_at dksX3_look_4 9 rfl rfl)
theorem dX3_look_104 : decode cX3_look 104 = .ok (.goto (-64), 3) := dk_167 255 192 (dk_at dksX3_look_4 12 rfl rfl)
theorem dX3_look_107 : decode cX3_look 107 = .ok (.iload_n 3, 1) := dk_29 (dk_at dksX3_look_4 15 rfl rfl)
theorem dX3_look_108 : decode cX3_look 108 = .ok (.ifCond .ne 6, 3) := dk_154 0 6 (dk_at dksX3_look_4 16 rfl rfl)
theorem dX3_look_111 : decode cX3_look 111 = .ok (.bipush (-2), 2) := dk_16 254 (dk_at dksX3_look_4 19 rfl rfl)
theorem dX3_look_113 : decode cX3_look 113 = .ok (.ireturn, 1) := dk_172 (dk_at dksX3_look_4 21 rfl rfl)
theorem dX3_look_114 : decode cX3_look 114 = .ok (.aload_n 0, 1) := dk_42 (dk_at dksX3_look_4 22 rfl rfl)
theorem dX3_look_115 : decode cX3_look 115 = .ok (.iload_n 3, 1) := dk_29 (dk_at dksX3_look_4 23 rfl rfl)
theorem dX3_look_116 : decode cX3_look 116 = .ok (.invokevirtual 480, 3) := dk_182 1 224 (dk_at dksX3_look_5 0 rfl rfl)
theorem dX3_look_119 : decode cX3_look 119 = .ok (.istore 4, 2) := dk_54 4 (dk_at dksX3_look_5 3 rfl rfl)
theorem dX3_look_121 : decode cX3_look 121 = .ok (.iload_n 2, 1) := dk_28 (dk_at dksX3_look_5 5 rfl rfl)
theorem dX3_look_122 : decode cX3_look 122 = .ok (.ifCond .ne 8, 3) := dk_154 0 8 (dk_at dksX3_look_5 6 rfl rfl)
theorem dX3_look_125 : decode cX3_look 125 = .ok (.iload 4, 2) := dk_21 4 (dk_at dksX3_look_5 9 rfl rfl)
theorem dX3_look_127 : decode cX3_look 127 = .ok (.goto 10, 3) := dk_167 0 10 (dk_at dksX3_look_5 11 rfl rfl)
theorem dX3_look_130 : decode cX3_look 130 = .ok (.aload_n 0, 1) := dk_42 (dk_at dksX3_look_5 14 rfl rfl)
theorem dX3_look_131 : decode cX3_look 131 = .ok (.iload 4, 2) := dk_21 4 (dk_at dksX3_look_5 15 rfl rfl)
theorem dX3_look_133 : decode cX3_look 133 = .ok (.iload_n 3, 1) := dk_29 (dk_at dksX3_look_5 17 rfl rfl)
theorem dX3_look_134 : decode cX3_look 134 = .ok (.invokevirtual 477, 3) := dk_182 1 221 (dk_at dksX3_look_5 18 rfl rfl)
theorem dX3_look_137 : decode cX3_look 137 = .ok (.ireturn, 1) := dk_172 (dk_at dksX3_look_5 21 rfl rfl)
abbrev cX3_seed : ByteArray := prog_17_method_103_code
def yX3_seed : MethodName := ⟨RX3, "seed", "(I)I"⟩
def dkwX3_seed_0 : List UInt8 := [27, 156, 0, 5, 2, 172, 42, 180, 0, 9, 16, 8, 46, 61, 42, 180, 0, 9, 16, 8, 27, 79, 28, 172]
abbrev dktX3_seed_0 : List UInt8 := dkwX3_seed_0 ++ []
theorem dksX3_seed_0 : cX3_seed.data.toList.drop 0 = dktX3_seed_0 := by decide +kernel
theorem dX3_seed_0 : decode cX3_seed 0 = .ok (.iload_n 1, 1) := dk_27 (dk_at dksX3_seed_0 0 rfl rfl)
theorem dX3_seed_1 : decode cX3_seed 1 = .ok (.ifCond .ge 5, 3) := dk_156 0 5 (dk_at dksX3_seed_0 1 rfl rfl)
theorem dX3_seed_4 : decode cX3_seed 4 = .ok (.iconst (-1), 1) := dk_2 (dk_at dksX3_seed_0 4 rfl rfl)
theorem dX3_seed_5 : decode cX3_seed 5 = .ok (.ireturn, 1) := dk_172 (dk_at dksX3_seed_0 5 rfl rfl)
theorem dX3_seed_6 : decode cX3_seed 6 = .ok (.aload_n 0, 1) := dk_42 (dk_at dksX3_seed_0 6 rfl rfl)
theorem dX3_seed_7 : decode cX3_seed 7 = .ok (.getfield 9, 3) := dk_180 0 9 (dk_at dksX3_seed_0 7 rfl rfl)
theorem dX3_seed_10 : decode cX3_seed 10 = .ok (.bipush 8, 2) := dk_16 8 (dk_at dksX3_seed_0 10 rfl rfl)
theorem dX3_seed_12 : decode cX3_seed 12 = .ok (.iaload, 1) := dk_46 (dk_at dksX3_seed_0 12 rfl rfl)
theorem dX3_seed_13 : decode cX3_seed 13 = .ok (.istore_n 2, 1) := dk_61 (dk_at dksX3_seed_0 13 rfl rfl)
theorem dX3_seed_14 : decode cX3_seed 14 = .ok (.aload_n 0, 1) := dk_42 (dk_at dksX3_seed_0 14 rfl rfl)
theorem dX3_seed_15 : decode cX3_seed 15 = .ok (.getfield 9, 3) := dk_180 0 9 (dk_at dksX3_seed_0 15 rfl rfl)
theorem dX3_seed_18 : decode cX3_seed 18 = .ok (.bipush 8, 2) := dk_16 8 (dk_at dksX3_seed_0 18 rfl rfl)
theorem dX3_seed_20 : decode cX3_seed 20 = .ok (.iload_n 1, 1) := dk_27 (dk_at dksX3_seed_0 20 rfl rfl)
theorem dX3_seed_21 : decode cX3_seed 21 = .ok (.iastore, 1) := dk_79 (dk_at dksX3_seed_0 21 rfl rfl)
theorem dX3_seed_22 : decode cX3_seed 22 = .ok (.iload_n 2, 1) := dk_28 (dk_at dksX3_seed_0 22 rfl rfl)
theorem dX3_seed_23 : decode cX3_seed 23 = .ok (.ireturn, 1) := dk_172 (dk_at dksX3_seed_0 23 rfl rfl)
abbrev cX3_rains : ByteArray := prog_17_method_105_code
def yX3_rains : MethodName := ⟨RX3, "rains", "(IIII)I"⟩
def dkwX3_rains_8 : List UInt8 := [132, 9, 1, 167, 255, 155, 42, 180, 0, 9, 16, 8, 21, 5, 79, 21, 8, 172]
abbrev dktX3_rains_8 : List UInt8 := dkwX3_rains_8 ++ []
def dkwX3_rains_7 : List UInt8 := [16, 6, 46, 21, 7, 100, 96, 54, 8, 42, 180, 0, 9, 16, 8, 46, 54, 6, 42, 182, 1, 163]
abbrev dktX3_rains_7 : List UInt8 := dkwX3_rains_7 ++ dktX3_rains_8
def dkwX3_rains_6 : List UInt8 := [132, 10, 1, 167, 255, 219, 21, 8, 21, 4, 154, 0, 10, 42, 182, 1, 160, 167, 0, 13, 42, 180, 0, 9]
abbrev dktX3_rains_6 : List UInt8 := dkwX3_rains_6 ++ dktX3_rains_7
def dkwX3_rains_5 : List UInt8 := [29, 162, 0, 16, 42, 42, 42, 182, 0, 134, 182, 1, 239, 2, 182, 1, 110, 42, 182, 1, 125, 87]
abbrev dktX3_rains_5 : List UInt8 := dkwX3_rains_5 ++ dktX3_rains_6
def dkwX3_rains_4 : List UInt8 := [42, 180, 0, 9, 16, 8, 21, 6, 79, 3, 54, 10, 21, 10, 28, 162, 0, 37, 42, 16, 100, 182, 1, 239]
abbrev dktX3_rains_4 : List UInt8 := dkwX3_rains_4 ++ dktX3_rains_5
def dkwX3_rains_3 : List UInt8 := [180, 0, 9, 16, 6, 46, 54, 7, 3, 54, 8, 42, 182, 1, 170, 3, 54, 9, 21, 9, 27, 162, 0, 101]
abbrev dktX3_rains_3 : List UInt8 := dkwX3_rains_3 ++ dktX3_rains_4
def dkwX3_rains_2 : List UInt8 := [9, 10, 184, 0, 138, 154, 0, 5, 2, 172, 42, 180, 0, 9, 16, 8, 46, 54, 5, 21, 5, 54, 6, 42]
abbrev dktX3_rains_2 : List UInt8 := dkwX3_rains_2 ++ dktX3_rains_3
def dkwX3_rains_1 : List UInt8 := [20, 1, 184, 184, 0, 138, 153, 0, 26, 29, 133, 9, 20, 1, 168, 184, 0, 138, 153, 0, 14, 21, 4, 133]
abbrev dktX3_rains_1 : List UInt8 := dkwX3_rains_1 ++ dktX3_rains_2
def dkwX3_rains_0 : List UInt8 := [42, 182, 1, 146, 153, 0, 50, 27, 133, 10, 20, 1, 237, 184, 0, 138, 153, 0, 38, 28, 133, 10]
abbrev dktX3_rains_0 : List UInt8 := dkwX3_rains_0 ++ dktX3_rains_1
theorem dksX3_rains_0 : cX3_rains.data.toList.drop 0 = dktX3_rains_0 := by decide +kernel
theorem dksX3_rains_1 : cX3_rains.data.toList.drop 22 = dktX3_rains_1 := dk_seg dksX3_rains_0 22 rfl rfl
theorem dksX3_rains_2 : cX3_rains.data.toList.drop 46 = dktX3_rains_2 := dk_seg dksX3_rains_1 24 rfl rfl
theorem dksX3_rains_3 : cX3_rains.data.toList.drop 70 = dktX3_rains_3 := dk_seg dksX3_rains_2 24 rfl rfl
theorem dksX3_rains_4 : cX3_rains.data.toList.drop 94 = dktX3_rains_4 := dk_seg dksX3_rains_3 24 rfl rfl
theorem dksX3_rains_5 : cX3_rains.data.toList.drop 118 = dktX3_rains_5 := dk_seg dksX3_rains_4 24 rfl rfl
theorem dksX3_rains_6 : cX3_rains.data.toList.drop 140 = dktX3_rains_6 := dk_seg dksX3_rains_5 22 rfl rfl
theorem dksX3_rains_7 : cX3_rains.data.toList.drop 164 = dktX3_rains_7 := dk_seg dksX3_rains_6 24 rfl rfl
theorem dksX3_rains_8 : cX3_rains.data.toList.drop 186 = dktX3_rains_8 := dk_seg dksX3_rains_7 22 rfl rfl
theorem dX3_rains_0 : decode cX3_rains 0 = .ok (.aload_n 0, 1) := dk_42 (dk_at dksX3_rains_0 0 rfl rfl)
theorem dX3_rains_1 : decode cX3_rains 1 = .ok (.invokevirtual 402, 3) := dk_182 1 146 (dk_at dksX3_rains_0 1 rfl rfl)
theorem dX3_rains_4 : decode cX3_rains 4 = .ok (.ifCond .eq 50, 3) := dk_153 0 50 (dk_at dksX3_rains_0 4 rfl rfl)
theorem dX3_rains_7 : decode cX3_rains 7 = .ok (.iload_n 1, 1) := dk_27 (dk_at dksX3_rains_0 7 rfl rfl)
theorem dX3_rains_8 : decode cX3_rains 8 = .ok (.i2l, 1) := dk_133 (dk_at dksX3_rains_0 8 rfl rfl)
theorem dX3_rains_9 : decode cX3_rains 9 = .ok (.lconst 1, 1) := dk_10 (dk_at dksX3_rains_0 9 rfl rfl)
theorem dX3_rains_10 : decode cX3_rains 10 = .ok (.ldc2_w 493, 3) := dk_20 1 237 (dk_at dksX3_rains_0 10 rfl rfl)
theorem dX3_rains_13 : decode cX3_rains 13 = .ok (.invokestatic 138, 3) := dk_184 0 138 (dk_at dksX3_rains_0 13 rfl rfl)
theorem dX3_rains_16 : decode cX3_rains 16 = .ok (.ifCond .eq 38, 3) := dk_153 0 38 (dk_at dksX3_rains_0 16 rfl rfl)
theorem dX3_rains_19 : decode cX3_rains 19 = .ok (.iload_n 2, 1) := dk_28 (dk_at dksX3_rains_0 19 rfl rfl)
theorem dX3_rains_20 : decode cX3_rains 20 = .ok (.i2l, 1) := dk_133 (dk_at dksX3_rains_0 20 rfl rfl)
theorem dX3_rains_21 : decode cX3_rains 21 = .ok (.lconst 1, 1) := dk_10 (dk_at dksX3_rains_0 21 rfl rfl)
theorem dX3_rains_22 : decode cX3_rains 22 = .ok (.ldc2_w 440, 3) := dk_20 1 184 (dk_at dksX3_rains_1 0 rfl rfl)
theorem dX3_rains_25 : decode cX3_rains 25 = .ok (.invokestatic 138, 3) := dk_184 0 138 (dk_at dksX3_rains_1 3 rfl rfl)
theorem dX3_rains_28 : decode cX3_rains 28 = .ok (.ifCond .eq 26, 3) := dk_153 0 26 (dk_at dksX3_rains_1 6 rfl rfl)
theorem dX3_rains_31 : decode cX3_rains 31 = .ok (.iload_n 3, 1) := dk_29 (dk_at dksX3_rains_1 9 rfl rfl)
theorem dX3_rains_32 : decode cX3_rains 32 = .ok (.i2l, 1) := dk_133 (dk_at dksX3_rains_1 10 rfl rfl)
theorem dX3_rains_33 : decode cX3_rains 33 = .ok (.lconst 0, 1) := dk_9 (dk_at dksX3_rains_1 11 rfl rfl)
theorem dX3_rains_34 : decode cX3_rains 34 = .ok (.ldc2_w 424, 3) := dk_20 1 168 (dk_at dksX3_rains_1 12 rfl rfl)
theorem dX3_rains_37 : decode cX3_rains 37 = .ok (.invokestatic 138, 3) := dk_184 0 138 (dk_at dksX3_rains_1 15 rfl rfl)
theorem dX3_rains_40 : decode cX3_rains 40 = .ok (.ifCond .eq 14, 3) := dk_153 0 14 (dk_at dksX3_rains_1 18 rfl rfl)
theorem dX3_rains_43 : decode cX3_rains 43 = .ok (.iload 4, 2) := dk_21 4 (dk_at dksX3_rains_1 21 rfl rfl)
theorem dX3_rains_45 : decode cX3_rains 45 = .ok (.i2l, 1) := dk_133 (dk_at dksX3_rains_1 23 rfl rfl)
theorem dX3_rains_46 : decode cX3_rains 46 = .ok (.lconst 0, 1) := dk_9 (dk_at dksX3_rains_2 0 rfl rfl)
theorem dX3_rains_47 : decode cX3_rains 47 = .ok (.lconst 1, 1) := dk_10 (dk_at dksX3_rains_2 1 rfl rfl)
theorem dX3_rains_48 : decode cX3_rains 48 = .ok (.invokestatic 138, 3) := dk_184 0 138 (dk_at dksX3_rains_2 2 rfl rfl)
theorem dX3_rains_51 : decode cX3_rains 51 = .ok (.ifCond .ne 5, 3) := dk_154 0 5 (dk_at dksX3_rains_2 5 rfl rfl)
theorem dX3_rains_54 : decode cX3_rains 54 = .ok (.iconst (-1), 1) := dk_2 (dk_at dksX3_rains_2 8 rfl rfl)
theorem dX3_rains_55 : decode cX3_rains 55 = .ok (.ireturn, 1) := dk_172 (dk_at dksX3_rains_2 9 rfl rfl)
theorem dX3_rains_56 : decode cX3_rains 56 = .ok (.aload_n 0, 1) := dk_42 (dk_at dksX3_rains_2 10 rfl rfl)
theorem dX3_rains_57 : decode cX3_rains 57 = .ok (.getfield 9, 3) := dk_180 0 9 (dk_at dksX3_rains_2 11 rfl rfl)
theorem dX3_rains_60 : decode cX3_rains 60 = .ok (.bipush 8, 2) := dk_16 8 (dk_at dksX3_rains_2 14 rfl rfl)
theorem dX3_rains_62 : decode cX3_rains 62 = .ok (.iaload, 1) := dk_46 (dk_at dksX3_rains_2 16 rfl rfl)
theorem dX3_rains_63 : decode cX3_rains 63 = .ok (.istore 5, 2) := dk_54 5 (dk_at dksX3_rains_2 17 rfl rfl)
theorem dX3_rains_65 : decode cX3_rains 65 = .ok (.iload 5, 2) := dk_21 5 (dk_at dksX3_rains_2 19 rfl rfl)
theorem dX3_rains_67 : decode cX3_rains 67 = .ok (.istore 6, 2) := dk_54 6 (dk_at dksX3_rains_2 21 rfl rfl)
theorem dX3_rains_69 : decode cX3_rains 69 = .ok (.aload_n 0, 1) := dk_42 (dk_at dksX3_rains_2 23 rfl rfl)
theorem dX3_rains_70 : decode cX3_rains 70 = .ok (.getfield 9, 3) := dk_180 0 9 (dk_at dksX3_rains_3 0 rfl rfl)
theorem dX3_rains_73 : decode cX3_rains 73 = .ok (.bipush 6, 2) := dk_16 6 (dk_at dksX3_rains_3 3 rfl rfl)
theorem dX3_rains_75 : decode cX3_rains 75 = .ok (.iaload, 1) := dk_46 (dk_at dksX3_rains_3 5 rfl rfl)
theorem dX3_rains_76 : decode cX3_rains 76 = .ok (.istore 7, 2) := dk_54 7 (dk_at dksX3_rains_3 6 rfl rfl)
theorem dX3_rains_78 : decode cX3_rains 78 = .ok (.iconst 0, 1) := dk_3 (dk_at dksX3_rains_3 8 rfl rfl)
theorem dX3_rains_79 : decode cX3_rains 79 = .ok (.istore 8, 2) := dk_54 8 (dk_at dksX3_rains_3 9 rfl rfl)
theorem dX3_rains_81 : decode cX3_rains 81 = .ok (.aload_n 0, 1) := dk_42 (dk_at dksX3_rains_3 11 rfl rfl)
theorem dX3_rains_82 : decode cX3_rains 82 = .ok (.invokevirtual 426, 3) := dk_182 1 170 (dk_at dksX3_rains_3 12 rfl rfl)
theorem dX3_rains_85 : decode cX3_rains 85 = .ok (.iconst 0, 1) := dk_3 (dk_at dksX3_rains_3 15 rfl rfl)
theorem dX3_rains_86 : decode cX3_rains 86 = .ok (.istore 9, 2) := dk_54 9 (dk_at dksX3_rains_3 16 rfl rfl)
theorem dX3_rains_88 : decode cX3_rains 88 = .ok (.iload 9, 2) := dk_21 9 (dk_at dksX3_rains_3 18 rfl rfl)
theorem dX3_rains_90 : decode cX3_rains 90 = .ok (.iload_n 1, 1) := dk_27 (dk_at dksX3_rains_3 20 rfl rfl)
theorem dX3_rains_91 : decode cX3_rains 91 = .ok (.if_icmp .ge 101, 3) := dk_162 0 101 (dk_at dksX3_rains_3 21 rfl rfl)
theorem dX3_rains_94 : decode cX3_rains 94 = .ok (.aload_n 0, 1) := dk_42 (dk_at dksX3_rains_4 0 rfl rfl)
theorem dX3_rains_95 : decode cX3_rains 95 = .ok (.getfield 9, 3) := dk_180 0 9 (dk_at dksX3_rains_4 1 rfl rfl)
theorem dX3_rains_98 : decode cX3_rains 98 = .ok (.bipush 8, 2) := dk_16 8 (dk_at dksX3_rains_4 4 rfl rfl)
theorem dX3_rains_100 : decode cX3_rains 100 = .ok (.iload 6, 2) := dk_21 6 (dk_at dksX3_rains_4 6 rfl rfl)
theorem dX3_rains_102 : decode cX3_rains 102 = .ok (.iastore, 1) := dk_79 (dk_at dksX3_rains_4 8 rfl rfl)
theorem dX3_rains_103 : decode cX3_rains 103 = .ok (.iconst 0, 1) := dk_3 (dk_at dksX3_rains_4 9 rfl rfl)
theorem dX3_rains_104 : decode cX3_rains 104 = .ok (.istore 10, 2) := dk_54 10 (dk_at dksX3_rains_4 10 rfl rfl)
theorem dX3_rains_106 : decode cX3_rains 106 = .ok (.iload 10, 2) := dk_21 10 (dk_at dksX3_rains_4 12 rfl rfl)
theorem dX3_rains_108 : decode cX3_rains 108 = .ok (.iload_n 2, 1) := dk_28 (dk_at dksX3_rains_4 14 rfl rfl)
theorem dX3_rains_109 : decode cX3_rains 109 = .ok (.if_icmp .ge 37, 3) := dk_162 0 37 (dk_at dksX3_rains_4 15 rfl rfl)
theorem dX3_rains_112 : decode cX3_rains 112 = .ok (.aload_n 0, 1) := dk_42 (dk_at dksX3_rains_4 18 rfl rfl)
theorem dX3_rains_113 : decode cX3_rains 113 = .ok (.bipush 100, 2) := dk_16 100 (dk_at dksX3_rains_4 19 rfl rfl)
theorem dX3_rains_115 : decode cX3_rains 115 = .ok (.invokevirtual 495, 3) := dk_182 1 239 (dk_at dksX3_rains_4 21 rfl rfl)
theorem dX3_rains_118 : decode cX3_rains 118 = .ok (.iload_n 3, 1) := dk_29 (dk_at dksX3_rains_5 0 rfl rfl)
theorem dX3_rains_119 : decode cX3_rains 119 = .ok (.if_icmp .ge 16, 3) := dk_162 0 16 (dk_at dksX3_rains_5 1 rfl rfl)
theorem dX3_rains_122 : decode cX3_rains 122 = .ok (.aload_n 0, 1) := dk_42 (dk_at dksX3_rains_5 4 rfl rfl)
theorem dX3_rains_123 : decode cX3_rains 123 = .ok (.aload_n 0, 1) := dk_42 (dk_at dksX3_rains_5 5 rfl rfl)
theorem dX3_rains_124 : decode cX3_rains 124 = .ok (.aload_n 0, 1) := dk_42 (dk_at dksX3_rains_5 6 rfl rfl)
theorem dX3_rains_125 : decode cX3_rains 125 = .ok (.invokevirtual 134, 3) := dk_182 0 134 (dk_at dksX3_rains_5 7 rfl rfl)
theorem dX3_rains_128 : decode cX3_rains 128 = .ok (.invokevirtual 495, 3) := dk_182 1 239 (dk_at dksX3_rains_5 10 rfl rfl)
theorem dX3_rains_131 : decode cX3_rains 131 = .ok (.iconst (-1), 1) := dk_2 (dk_at dksX3_rains_5 13 rfl rfl)
theorem dX3_rains_132 : decode cX3_rains 132 = .ok (.invokevirtual 366, 3) := dk_182 1 110 (dk_at dksX3_rains_5 14 rfl rfl)
theorem dX3_rains_135 : decode cX3_rains 135 = .ok (.aload_n 0, 1) := dk_42 (dk_at dksX3_rains_5 17 rfl rfl)
theorem dX3_rains_136 : decode cX3_rains 136 = .ok (.invokevirtual 381, 3) := dk_182 1 125 (dk_at dksX3_rains_5 18 rfl rfl)
theorem dX3_rains_139 : decode cX3_rains 139 = .ok (.pop, 1) := dk_87 (dk_at dksX3_rains_5 21 rfl rfl)
theorem dX3_rains_140 : decode cX3_rains 140 = .ok (.iinc 10 1, 3) := dk_132 10 1 (dk_at dksX3_rains_6 0 rfl rfl)
theorem dX3_rains_143 : decode cX3_rains 143 = .ok (.goto (-37), 3) := dk_167 255 219 (dk_at dksX3_rains_6 3 rfl rfl)
theorem dX3_rains_146 : decode cX3_rains 146 = .ok (.iload 8, 2) := dk_21 8 (dk_at dksX3_rains_6 6 rfl rfl)
theorem dX3_rains_148 : decode cX3_rains 148 = .ok (.iload 4, 2) := dk_21 4 (dk_at dksX3_rains_6 8 rfl rfl)
theorem dX3_rains_150 : decode cX3_rains 150 = .ok (.ifCond .ne 10, 3) := dk_154 0 10 (dk_at dksX3_rains_6 10 rfl rfl)
theorem dX3_rains_153 : decode cX3_rains 153 = .ok (.aload_n 0, 1) := dk_42 (dk_at dksX3_rains_6 13 rfl rfl)
theorem dX3_rains_154 : decode cX3_rains 154 = .ok (.invokevirtual 416, 3) := dk_182 1 160 (dk_at dksX3_rains_6 14 rfl rfl)
theorem dX3_rains_157 : decode cX3_rains 157 = .ok (.goto 13, 3) := dk_167 0 13 (dk_at dksX3_rains_6 17 rfl rfl)
theorem dX3_rains_160 : decode cX3_rains 160 = .ok (.aload_n 0, 1) := dk_42 (dk_at dksX3_rains_6 20 rfl rfl)
theorem dX3_rains_161 : decode cX3_rains 161 = .ok (.getfield 9, 3) := dk_180 0 9 (dk_at dksX3_rains_6 21 rfl rfl)
theorem dX3_rains_164 : decode cX3_rains 164 = .ok (.bipush 6, 2) := dk_16 6 (dk_at dksX3_rains_7 0 rfl rfl)
theorem dX3_rains_166 : decode cX3_rains 166 = .ok (.iaload, 1) := dk_46 (dk_at dksX3_rains_7 2 rfl rfl)
theorem dX3_rains_167 : decode cX3_rains 167 = .ok (.iload 7, 2) := dk_21 7 (dk_at dksX3_rains_7 3 rfl rfl)
theorem dX3_rains_169 : decode cX3_rains 169 = .ok (.isub, 1) := dk_100 (dk_at dksX3_rains_7 5 rfl rfl)
theorem dX3_rains_170 : decode cX3_rains 170 = .ok (.iadd, 1) := dk_96 (dk_at dksX3_rains_7 6 rfl rfl)
theorem dX3_rains_171 : decode cX3_rains 171 = .ok (.istore 8, 2) := dk_54 8 (dk_at dksX3_rains_7 7 rfl rfl)
theorem dX3_rains_173 : decode cX3_rains 173 = .ok (.aload_n 0, 1) := dk_42 (dk_at dksX3_rains_7 9 rfl rfl)
theorem dX3_rains_174 : decode cX3_rains 174 = .ok (.getfield 9, 3) := dk_180 0 9 (dk_at dksX3_rains_7 10 rfl rfl)
theorem dX3_rains_177 : decode cX3_rains 177 = .ok (.bipush 8, 2) := dk_16 8 (dk_at dksX3_rains_7 13 rfl rfl)
theorem dX3_rains_179 : decode cX3_rains 179 = .ok (.iaload, 1) := dk_46 (dk_at dksX3_rains_7 15 rfl rfl)
theorem dX3_rains_180 : decode cX3_rains 180 = .ok (.istore 6, 2) := dk_54 6 (dk_at dksX3_rains_7 16 rfl rfl)
theorem dX3_rains_182 : decode cX3_rains 182 = .ok (.aload_n 0, 1) := dk_42 (dk_at dksX3_rains_7 18 rfl rfl)
theorem dX3_rains_183 : decode cX3_rains 183 = .ok (.invokevirtual 419, 3) := dk_182 1 163 (dk_at dksX3_rains_7 19 rfl rfl)
theorem dX3_rains_186 : decode cX3_rains 186 = .ok (.iinc 9 1, 3) := dk_132 9 1 (dk_at dksX3_rains_8 0 rfl rfl)
theorem dX3_rains_189 : decode cX3_rains 189 = .ok (.goto (-101), 3) := dk_167 255 155 (dk_at dksX3_rains_8 3 rfl rfl)
theorem dX3_rains_192 : decode cX3_rains 192 = .ok (.aload_n 0, 1) := dk_42 (dk_at dksX3_rains_8 6 rfl rfl)
theorem dX3_rains_193 : decode cX3_rains 193 = .ok (.getfield 9, 3) := dk_180 0 9 (dk_at dksX3_rains_8 7 rfl rfl)
theorem dX3_rains_196 : decode cX3_rains 196 = .ok (.bipush 8, 2) := dk_16 8 (dk_at dksX3_rains_8 10 rfl rfl)
theorem dX3_rains_198 : decode cX3_rains 198 = .ok (.iload 5, 2) := dk_21 5 (dk_at dksX3_rains_8 12 rfl rfl)
theorem dX3_rains_200 : decode cX3_rains 200 = .ok (.iastore, 1) := dk_79 (dk_at dksX3_rains_8 14 rfl rfl)
theorem dX3_rains_201 : decode cX3_rains 201 = .ok (.iload 8, 2) := dk_21 8 (dk_at dksX3_rains_8 15 rfl rfl)
theorem dX3_rains_203 : decode cX3_rains 203 = .ok (.ireturn, 1) := dk_172 (dk_at dksX3_rains_8 17 rfl rfl)
abbrev cX3_draws : ByteArray := prog_17_method_104_code
def yX3_draws : MethodName := ⟨RX3, "draws", "(I)I"⟩
def dkwX3_draws_1 : List UInt8 := [20, 1, 234, 113, 136, 79, 42, 180, 0, 9, 16, 8, 46, 19, 1, 236, 108, 27, 112, 172]
abbrev dktX3_draws_1 : List UInt8 := dkwX3_draws_1 ++ []
def dkwX3_draws_0 : List UInt8 := [42, 180, 0, 9, 16, 8, 42, 180, 0, 9, 16, 8, 46, 133, 20, 1, 230, 105, 20, 1, 232, 97]
abbrev dktX3_draws_0 : List UInt8 := dkwX3_draws_0 ++ dktX3_draws_1
theorem dksX3_draws_0 : cX3_draws.data.toList.drop 0 = dktX3_draws_0 := by decide +kernel
theorem dksX3_draws_1 : cX3_draws.data.toList.drop 22 = dktX3_draws_1 := dk_seg dksX3_draws_0 22 rfl rfl
theorem dX3_draws_0 : decode cX3_draws 0 = .ok (.aload_n 0, 1) := dk_42 (dk_at dksX3_draws_0 0 rfl rfl)
theorem dX3_draws_1 : decode cX3_draws 1 = .ok (.getfield 9, 3) := dk_180 0 9 (dk_at dksX3_draws_0 1 rfl rfl)
theorem dX3_draws_4 : decode cX3_draws 4 = .ok (.bipush 8, 2) := dk_16 8 (dk_at dksX3_draws_0 4 rfl rfl)
theorem dX3_draws_6 : decode cX3_draws 6 = .ok (.aload_n 0, 1) := dk_42 (dk_at dksX3_draws_0 6 rfl rfl)
theorem dX3_draws_7 : decode cX3_draws 7 = .ok (.getfield 9, 3) := dk_180 0 9 (dk_at dksX3_draws_0 7 rfl rfl)
theorem dX3_draws_10 : decode cX3_draws 10 = .ok (.bipush 8, 2) := dk_16 8 (dk_at dksX3_draws_0 10 rfl rfl)
theorem dX3_draws_12 : decode cX3_draws 12 = .ok (.iaload, 1) := dk_46 (dk_at dksX3_draws_0 12 rfl rfl)
theorem dX3_draws_13 : decode cX3_draws 13 = .ok (.i2l, 1) := dk_133 (dk_at dksX3_draws_0 13 rfl rfl)
theorem dX3_draws_14 : decode cX3_draws 14 = .ok (.ldc2_w 486, 3) := dk_20 1 230 (dk_at dksX3_draws_0 14 rfl rfl)
theorem dX3_draws_17 : decode cX3_draws 17 = .ok (.lmul, 1) := dk_105 (dk_at dksX3_draws_0 17 rfl rfl)
theorem dX3_draws_18 : decode cX3_draws 18 = .ok (.ldc2_w 488, 3) := dk_20 1 232 (dk_at dksX3_draws_0 18 rfl rfl)
theorem dX3_draws_21 : decode cX3_draws 21 = .ok (.ladd, 1) := dk_97 (dk_at dksX3_draws_0 21 rfl rfl)
theorem dX3_draws_22 : decode cX3_draws 22 = .ok (.ldc2_w 490, 3) := dk_20 1 234 (dk_at dksX3_draws_1 0 rfl rfl)
theorem dX3_draws_25 : decode cX3_draws 25 = .ok (.lrem, 1) := dk_113 (dk_at dksX3_draws_1 3 rfl rfl)
theorem dX3_draws_26 : decode cX3_draws 26 = .ok (.l2i, 1) := dk_136 (dk_at dksX3_draws_1 4 rfl rfl)
theorem dX3_draws_27 : decode cX3_draws 27 = .ok (.iastore, 1) := dk_79 (dk_at dksX3_draws_1 5 rfl rfl)
theorem dX3_draws_28 : decode cX3_draws 28 = .ok (.aload_n 0, 1) := dk_42 (dk_at dksX3_draws_1 6 rfl rfl)
theorem dX3_draws_29 : decode cX3_draws 29 = .ok (.getfield 9, 3) := dk_180 0 9 (dk_at dksX3_draws_1 7 rfl rfl)
theorem dX3_draws_32 : decode cX3_draws 32 = .ok (.bipush 8, 2) := dk_16 8 (dk_at dksX3_draws_1 10 rfl rfl)
theorem dX3_draws_34 : decode cX3_draws 34 = .ok (.iaload, 1) := dk_46 (dk_at dksX3_draws_1 12 rfl rfl)
theorem dX3_draws_35 : decode cX3_draws 35 = .ok (.ldc_w 492, 3) := dk_19 1 236 (dk_at dksX3_draws_1 13 rfl rfl)
theorem dX3_draws_38 : decode cX3_draws 38 = .ok (.idiv, 1) := dk_108 (dk_at dksX3_draws_1 16 rfl rfl)
theorem dX3_draws_39 : decode cX3_draws 39 = .ok (.iload_n 1, 1) := dk_27 (dk_at dksX3_draws_1 17 rfl rfl)
theorem dX3_draws_40 : decode cX3_draws 40 = .ok (.irem, 1) := dk_112 (dk_at dksX3_draws_1 18 rfl rfl)
theorem dX3_draws_41 : decode cX3_draws 41 = .ok (.ireturn, 1) := dk_172 (dk_at dksX3_draws_1 19 rfl rfl)
abbrev cX3_count : ByteArray := prog_17_method_106_code
def yX3_count : MethodName := ⟨RX3, "count", "(I)I"⟩
def dkwX3_count_6 : List UInt8 := [42, 180, 0, 142, 172, 2, 172]
abbrev dktX3_count_6 : List UInt8 := dkwX3_count_6 ++ []
def dkwX3_count_5 : List UInt8 := [8, 46, 172, 42, 180, 0, 9, 16, 7, 46, 172, 42, 180, 1, 49, 172, 42, 180, 0, 9, 16, 8, 46, 172]
abbrev dktX3_count_5 : List UInt8 := dkwX3_count_5 ++ dktX3_count_6
def dkwX3_count_4 : List UInt8 := [46, 172, 42, 182, 1, 173, 172, 42, 182, 1, 160, 172, 42, 180, 0, 9, 16, 6, 46, 172, 42, 180, 0, 9]
abbrev dktX3_count_4 : List UInt8 := dkwX3_count_4 ++ dktX3_count_5
def dkwX3_count_3 : List UInt8 := [180, 0, 9, 6, 46, 172, 42, 180, 1, 62, 172, 42, 180, 0, 9, 16, 9, 46, 172, 42, 180, 0, 9, 7]
abbrev dktX3_count_3 : List UInt8 := dkwX3_count_3 ++ dktX3_count_4
def dkwX3_count_2 : List UInt8 := [42, 180, 0, 9, 3, 46, 172, 42, 180, 0, 9, 4, 46, 172, 42, 180, 0, 9, 5, 46, 172, 42]
abbrev dktX3_count_2 : List UInt8 := dkwX3_count_2 ++ dktX3_count_3
def dkwX3_count_1 : List UInt8 := [170, 0, 0, 0, 0, 0, 174, 0, 0, 0, 0, 0, 0, 0, 14, 0, 0, 0, 75, 0, 0, 0, 82, 0, 0, 0, 89, 0, 0, 0, 96, 0, 0, 0, 103, 0, 0, 0, 108, 0, 0, 0, 116, 0, 0, 0, 123, 0, 0, 0, 128, 0, 0, 0, 133, 0, 0, 0, 141, 0, 0, 0, 148, 0, 0, 0, 156, 0, 0, 0, 161, 0, 0, 0, 169]
abbrev dktX3_count_1 : List UInt8 := dkwX3_count_1 ++ dktX3_count_2
def dkwX3_count_0 : List UInt8 := [27]
abbrev dktX3_count_0 : List UInt8 := dkwX3_count_0 ++ dktX3_count_1
theorem dksX3_count_0 : cX3_count.data.toList.drop 0 = dktX3_count_0 := by decide +kernel
theorem dksX3_count_1 : cX3_count.data.toList.drop 1 = dktX3_count_1 := dk_seg dksX3_count_0 1 rfl rfl
theorem dksX3_count_2 : cX3_count.data.toList.drop 76 = dktX3_count_2 := dk_seg dksX3_count_1 75 rfl rfl
theorem dksX3_count_3 : cX3_count.data.toList.drop 98 = dktX3_count_3 := dk_seg dksX3_count_2 22 rfl rfl
theorem dksX3_count_4 : cX3_count.data.toList.drop 122 = dktX3_count_4 := dk_seg dksX3_count_3 24 rfl rfl
theorem dksX3_count_5 : cX3_count.data.toList.drop 146 = dktX3_count_5 := dk_seg dksX3_count_4 24 rfl rfl
theorem dksX3_count_6 : cX3_count.data.toList.drop 170 = dktX3_count_6 := dk_seg dksX3_count_5 24 rfl rfl
theorem dX3_count_0 : decode cX3_count 0 = .ok (.iload_n 1, 1) := dk_27 (dk_at dksX3_count_0 0 rfl rfl)
theorem dX3_count_1 : decode cX3_count 1 = .ok (.tableswitch 174 0 14 #[75, 82, 89, 96, 103, 108, 116, 123, 128, 133, 141, 148, 156, 161, 169], 75) := by decide +kernel
theorem dX3_count_76 : decode cX3_count 76 = .ok (.aload_n 0, 1) := dk_42 (dk_at dksX3_count_2 0 rfl rfl)
theorem dX3_count_77 : decode cX3_count 77 = .ok (.getfield 9, 3) := dk_180 0 9 (dk_at dksX3_count_2 1 rfl rfl)
theorem dX3_count_80 : decode cX3_count 80 = .ok (.iconst 0, 1) := dk_3 (dk_at dksX3_count_2 4 rfl rfl)
theorem dX3_count_81 : decode cX3_count 81 = .ok (.iaload, 1) := dk_46 (dk_at dksX3_count_2 5 rfl rfl)
theorem dX3_count_82 : decode cX3_count 82 = .ok (.ireturn, 1) := dk_172 (dk_at dksX3_count_2 6 rfl rfl)
theorem dX3_count_83 : decode cX3_count 83 = .ok (.aload_n 0, 1) := dk_42 (dk_at dksX3_count_2 7 rfl rfl)
theorem dX3_count_84 : decode cX3_count 84 = .ok (.getfield 9, 3) := dk_180 0 9 (dk_at dksX3_count_2 8 rfl rfl)
theorem dX3_count_87 : decode cX3_count 87 = .ok (.iconst 1, 1) := dk_4 (dk_at dksX3_count_2 11 rfl rfl)
theorem dX3_count_88 : decode cX3_count 88 = .ok (.iaload, 1) := dk_46 (dk_at dksX3_count_2 12 rfl rfl)
theorem dX3_count_89 : decode cX3_count 89 = .ok (.ireturn, 1) := dk_172 (dk_at dksX3_count_2 13 rfl rfl)
theorem dX3_count_90 : decode cX3_count 90 = .ok (.aload_n 0, 1) := dk_42 (dk_at dksX3_count_2 14 rfl rfl)
theorem dX3_count_91 : decode cX3_count 91 = .ok (.getfield 9, 3) := dk_180 0 9 (dk_at dksX3_count_2 15 rfl rfl)
theorem dX3_count_94 : decode cX3_count 94 = .ok (.iconst 2, 1) := dk_5 (dk_at dksX3_count_2 18 rfl rfl)
theorem dX3_count_95 : decode cX3_count 95 = .ok (.iaload, 1) := dk_46 (dk_at dksX3_count_2 19 rfl rfl)
theorem dX3_count_96 : decode cX3_count 96 = .ok (.ireturn, 1) := dk_172 (dk_at dksX3_count_2 20 rfl rfl)
theorem dX3_count_97 : decode cX3_count 97 = .ok (.aload_n 0, 1) := dk_42 (dk_at dksX3_count_2 21 rfl rfl)
theorem dX3_count_98 : decode cX3_count 98 = .ok (.getfield 9, 3) := dk_180 0 9 (dk_at dksX3_count_3 0 rfl rfl)
theorem dX3_count_101 : decode cX3_count 101 = .ok (.iconst 3, 1) := dk_6 (dk_at dksX3_count_3 3 rfl rfl)
theorem dX3_count_102 : decode cX3_count 102 = .ok (.iaload, 1) := dk_46 (dk_at dksX3_count_3 4 rfl rfl)
theorem dX3_count_103 : decode cX3_count 103 = .ok (.ireturn, 1) := dk_172 (dk_at dksX3_count_3 5 rfl rfl)
theorem dX3_count_104 : decode cX3_count 104 = .ok (.aload_n 0, 1) := dk_42 (dk_at dksX3_count_3 6 rfl rfl)
theorem dX3_count_105 : decode cX3_count 105 = .ok (.getfield 318, 3) := dk_180 1 62 (dk_at dksX3_count_3 7 rfl rfl)
theorem dX3_count_108 : decode cX3_count 108 = .ok (.ireturn, 1) := dk_172 (dk_at dksX3_count_3 10 rfl rfl)
theorem dX3_count_109 : decode cX3_count 109 = .ok (.aload_n 0, 1) := dk_42 (dk_at dksX3_count_3 11 rfl rfl)
theorem dX3_count_110 : decode cX3_count 110 = .ok (.getfield 9, 3) := dk_180 0 9 (dk_at dksX3_count_3 12 rfl rfl)
theorem dX3_count_113 : decode cX3_count 113 = .ok (.bipush 9, 2) := dk_16 9 (dk_at dksX3_count_3 15 rfl rfl)
theorem dX3_count_115 : decode cX3_count 115 = .ok (.iaload, 1) := dk_46 (dk_at dksX3_count_3 17 rfl rfl)
theorem dX3_count_116 : decode cX3_count 116 = .ok (.ireturn, 1) := dk_172 (dk_at dksX3_count_3 18 rfl rfl)
theorem dX3_count_117 : decode cX3_count 117 = .ok (.aload_n 0, 1) := dk_42 (dk_at dksX3_count_3 19 rfl rfl)
theorem dX3_count_118 : decode cX3_count 118 = .ok (.getfield 9, 3) := dk_180 0 9 (dk_at dksX3_count_3 20 rfl rfl)
theorem dX3_count_121 : decode cX3_count 121 = .ok (.iconst 4, 1) := dk_7 (dk_at dksX3_count_3 23 rfl rfl)
theorem dX3_count_122 : decode cX3_count 122 = .ok (.iaload, 1) := dk_46 (dk_at dksX3_count_4 0 rfl rfl)
theorem dX3_count_123 : decode cX3_count 123 = .ok (.ireturn, 1) := dk_172 (dk_at dksX3_count_4 1 rfl rfl)
theorem dX3_count_124 : decode cX3_count 124 = .ok (.aload_n 0, 1) := dk_42 (dk_at dksX3_count_4 2 rfl rfl)
theorem dX3_count_125 : decode cX3_count 125 = .ok (.invokevirtual 429, 3) := dk_182 1 173 (dk_at dksX3_count_4 3 rfl rfl)
theorem dX3_count_128 : decode cX3_count 128 = .ok (.ireturn, 1) := dk_172 (dk_at dksX3_count_4 6 rfl rfl)
theorem dX3_count_129 : decode cX3_count 129 = .ok (.aload_n 0, 1) := dk_42 (dk_at dksX3_count_4 7 rfl rfl)
theorem dX3_count_130 : decode cX3_count 130 = .ok (.invokevirtual 416, 3) := dk_182 1 160 (dk_at dksX3_count_4 8 rfl rfl)
theorem dX3_count_133 : decode cX3_count 133 = .ok (.ireturn, 1) := dk_172 (dk_at dksX3_count_4 11 rfl rfl)
theorem dX3_count_134 : decode cX3_count 134 = .ok (.aload_n 0, 1) := dk_42 (dk_at dksX3_count_4 12 rfl rfl)
theorem dX3_count_135 : decode cX3_count 135 = .ok (.getfield 9, 3) := dk_180 0 9 (dk_at dksX3_count_4 13 rfl rfl)
theorem dX3_count_138 : decode cX3_count 138 = .ok (.bipush 6, 2) := dk_16 6 (dk_at dksX3_count_4 16 rfl rfl)
theorem dX3_count_140 : decode cX3_count 140 = .ok (.iaload, 1) := dk_46 (dk_at dksX3_count_4 18 rfl rfl)
theorem dX3_count_141 : decode cX3_count 141 = .ok (.ireturn, 1) := dk_172 (dk_at dksX3_count_4 19 rfl rfl)
theorem dX3_count_142 : decode cX3_count 142 = .ok (.aload_n 0, 1) := dk_42 (dk_at dksX3_count_4 20 rfl rfl)
theorem dX3_count_143 : decode cX3_count 143 = .ok (.getfield 9, 3) := dk_180 0 9 (dk_at dksX3_count_4 21 rfl rfl)
theorem dX3_count_146 : decode cX3_count 146 = .ok (.iconst 5, 1) := dk_8 (dk_at dksX3_count_5 0 rfl rfl)
theorem dX3_count_147 : decode cX3_count 147 = .ok (.iaload, 1) := dk_46 (dk_at dksX3_count_5 1 rfl rfl)
theorem dX3_count_148 : decode cX3_count 148 = .ok (.ireturn, 1) := dk_172 (dk_at dksX3_count_5 2 rfl rfl)
theorem dX3_count_149 : decode cX3_count 149 = .ok (.aload_n 0, 1) := dk_42 (dk_at dksX3_count_5 3 rfl rfl)
theorem dX3_count_150 : decode cX3_count 150 = .ok (.getfield 9, 3) := dk_180 0 9 (dk_at dksX3_count_5 4 rfl rfl)
theorem dX3_count_153 : decode cX3_count 153 = .ok (.bipush 7, 2) := dk_16 7 (dk_at dksX3_count_5 7 rfl rfl)
theorem dX3_count_155 : decode cX3_count 155 = .ok (.iaload, 1) := dk_46 (dk_at dksX3_count_5 9 rfl rfl)
theorem dX3_count_156 : decode cX3_count 156 = .ok (.ireturn, 1) := dk_172 (dk_at dksX3_count_5 10 rfl rfl)
theorem dX3_count_157 : decode cX3_count 157 = .ok (.aload_n 0, 1) := dk_42 (dk_at dksX3_count_5 11 rfl rfl)
theorem dX3_count_158 : decode cX3_count 158 = .ok (.getfield 305, 3) := dk_180 1 49 (dk_at dksX3_count_5 12 rfl rfl)
theorem dX3_count_161 : decode cX3_count 161 = .ok (.ireturn, 1) := dk_172 (dk_at dksX3_count_5 15 rfl rfl)
theorem dX3_count_162 : decode cX3_count 162 = .ok (.aload_n 0, 1) := dk_42 (dk_at dksX3_count_5 16 rfl rfl)
theorem dX3_count_163 : decode cX3_count 163 = .ok (.getfield 9, 3) := dk_180 0 9 (dk_at dksX3_count_5 17 rfl rfl)
theorem dX3_count_166 : decode cX3_count 166 = .ok (.bipush 8, 2) := dk_16 8 (dk_at dksX3_count_5 20 rfl rfl)
theorem dX3_count_168 : decode cX3_count 168 = .ok (.iaload, 1) := dk_46 (dk_at dksX3_count_5 22 rfl rfl)
theorem dX3_count_169 : decode cX3_count 169 = .ok (.ireturn, 1) := dk_172 (dk_at dksX3_count_5 23 rfl rfl)
theorem dX3_count_170 : decode cX3_count 170 = .ok (.aload_n 0, 1) := dk_42 (dk_at dksX3_count_6 0 rfl rfl)
theorem dX3_count_171 : decode cX3_count 171 = .ok (.getfield 142, 3) := dk_180 0 142 (dk_at dksX3_count_6 1 rfl rfl)
theorem dX3_count_174 : decode cX3_count 174 = .ok (.ireturn, 1) := dk_172 (dk_at dksX3_count_6 4 rfl rfl)
theorem dX3_count_175 : decode cX3_count 175 = .ok (.iconst (-1), 1) := dk_2 (dk_at dksX3_count_6 5 rfl rfl)
theorem dX3_count_176 : decode cX3_count 176 = .ok (.ireturn, 1) := dk_172 (dk_at dksX3_count_6 6 rfl rfl)
abbrev cX3_image : ByteArray := prog_17_method_109_code
def yX3_image : MethodName := ⟨RX3, "image", "(I)I"⟩
def dkwX3_image_1 : List UInt8 := [182, 1, 154, 42, 180, 0, 9, 7, 46, 172]
abbrev dktX3_image_1 : List UInt8 := dkwX3_image_1 ++ []
def dkwX3_image_0 : List UInt8 := [27, 133, 9, 20, 1, 166, 184, 0, 138, 154, 0, 5, 2, 172, 42, 180, 0, 127, 27, 4, 84, 42, 27, 3]
abbrev dktX3_image_0 : List UInt8 := dkwX3_image_0 ++ dktX3_image_1
theorem dksX3_image_0 : cX3_image.data.toList.drop 0 = dktX3_image_0 := by decide +kernel
theorem dksX3_image_1 : cX3_image.data.toList.drop 24 = dktX3_image_1 := dk_seg dksX3_image_0 24 rfl rfl
theorem dX3_image_0 : decode cX3_image 0 = .ok (.iload_n 1, 1) := dk_27 (dk_at dksX3_image_0 0 rfl rfl)
theorem dX3_image_1 : decode cX3_image 1 = .ok (.i2l, 1) := dk_133 (dk_at dksX3_image_0 1 rfl rfl)
theorem dX3_image_2 : decode cX3_image 2 = .ok (.lconst 0, 1) := dk_9 (dk_at dksX3_image_0 2 rfl rfl)
theorem dX3_image_3 : decode cX3_image 3 = .ok (.ldc2_w 422, 3) := dk_20 1 166 (dk_at dksX3_image_0 3 rfl rfl)
theorem dX3_image_6 : decode cX3_image 6 = .ok (.invokestatic 138, 3) := dk_184 0 138 (dk_at dksX3_image_0 6 rfl rfl)
theorem dX3_image_9 : decode cX3_image 9 = .ok (.ifCond .ne 5, 3) := dk_154 0 5 (dk_at dksX3_image_0 9 rfl rfl)
theorem dX3_image_12 : decode cX3_image 12 = .ok (.iconst (-1), 1) := dk_2 (dk_at dksX3_image_0 12 rfl rfl)
theorem dX3_image_13 : decode cX3_image 13 = .ok (.ireturn, 1) := dk_172 (dk_at dksX3_image_0 13 rfl rfl)
theorem dX3_image_14 : decode cX3_image 14 = .ok (.aload_n 0, 1) := dk_42 (dk_at dksX3_image_0 14 rfl rfl)
theorem dX3_image_15 : decode cX3_image 15 = .ok (.getfield 127, 3) := dk_180 0 127 (dk_at dksX3_image_0 15 rfl rfl)
theorem dX3_image_18 : decode cX3_image 18 = .ok (.iload_n 1, 1) := dk_27 (dk_at dksX3_image_0 18 rfl rfl)
theorem dX3_image_19 : decode cX3_image 19 = .ok (.iconst 1, 1) := dk_4 (dk_at dksX3_image_0 19 rfl rfl)
theorem dX3_image_20 : decode cX3_image 20 = .ok (.bastore, 1) := dk_84 (dk_at dksX3_image_0 20 rfl rfl)
theorem dX3_image_21 : decode cX3_image 21 = .ok (.aload_n 0, 1) := dk_42 (dk_at dksX3_image_0 21 rfl rfl)
theorem dX3_image_22 : decode cX3_image 22 = .ok (.iload_n 1, 1) := dk_27 (dk_at dksX3_image_0 22 rfl rfl)
theorem dX3_image_23 : decode cX3_image 23 = .ok (.iconst 0, 1) := dk_3 (dk_at dksX3_image_0 23 rfl rfl)
theorem dX3_image_24 : decode cX3_image 24 = .ok (.invokevirtual 410, 3) := dk_182 1 154 (dk_at dksX3_image_1 0 rfl rfl)
theorem dX3_image_27 : decode cX3_image 27 = .ok (.aload_n 0, 1) := dk_42 (dk_at dksX3_image_1 3 rfl rfl)
theorem dX3_image_28 : decode cX3_image 28 = .ok (.getfield 9, 3) := dk_180 0 9 (dk_at dksX3_image_1 4 rfl rfl)
theorem dX3_image_31 : decode cX3_image 31 = .ok (.iconst 4, 1) := dk_7 (dk_at dksX3_image_1 7 rfl rfl)
theorem dX3_image_32 : decode cX3_image 32 = .ok (.iaload, 1) := dk_46 (dk_at dksX3_image_1 8 rfl rfl)
theorem dX3_image_33 : decode cX3_image 33 = .ok (.ireturn, 1) := dk_172 (dk_at dksX3_image_1 9 rfl rfl)
abbrev cX3_back : ByteArray := prog_17_method_110_code
def yX3_back : MethodName := ⟨RX3, "back", "(I)I"⟩
def dkwX3_back_1 : List UInt8 := [27, 4, 182, 1, 154, 42, 180, 0, 9, 7, 46, 172]
abbrev dktX3_back_1 : List UInt8 := dkwX3_back_1 ++ []
def dkwX3_back_0 : List UInt8 := [27, 133, 9, 20, 1, 166, 184, 0, 138, 153, 0, 12, 42, 180, 0, 127, 27, 51, 154, 0, 5, 2, 172, 42]
abbrev dktX3_back_0 : List UInt8 := dkwX3_back_0 ++ dktX3_back_1
theorem dksX3_back_0 : cX3_back.data.toList.drop 0 = dktX3_back_0 := by decide +kernel
theorem dksX3_back_1 : cX3_back.data.toList.drop 24 = dktX3_back_1 := dk_seg dksX3_back_0 24 rfl rfl
theorem dX3_back_0 : decode cX3_back 0 = .ok (.iload_n 1, 1) := dk_27 (dk_at dksX3_back_0 0 rfl rfl)
theorem dX3_back_1 : decode cX3_back 1 = .ok (.i2l, 1) := dk_133 (dk_at dksX3_back_0 1 rfl rfl)
theorem dX3_back_2 : decode cX3_back 2 = .ok (.lconst 0, 1) := dk_9 (dk_at dksX3_back_0 2 rfl rfl)
theorem dX3_back_3 : decode cX3_back 3 = .ok (.ldc2_w 422, 3) := dk_20 1 166 (dk_at dksX3_back_0 3 rfl rfl)
theorem dX3_back_6 : decode cX3_back 6 = .ok (.invokestatic 138, 3) := dk_184 0 138 (dk_at dksX3_back_0 6 rfl rfl)
theorem dX3_back_9 : decode cX3_back 9 = .ok (.ifCond .eq 12, 3) := dk_153 0 12 (dk_at dksX3_back_0 9 rfl rfl)
theorem dX3_back_12 : decode cX3_back 12 = .ok (.aload_n 0, 1) := dk_42 (dk_at dksX3_back_0 12 rfl rfl)
theorem dX3_back_13 : decode cX3_back 13 = .ok (.getfield 127, 3) := dk_180 0 127 (dk_at dksX3_back_0 13 rfl rfl)
theorem dX3_back_16 : decode cX3_back 16 = .ok (.iload_n 1, 1) := dk_27 (dk_at dksX3_back_0 16 rfl rfl)
theorem dX3_back_17 : decode cX3_back 17 = .ok (.baload, 1) := dk_51 (dk_at dksX3_back_0 17 rfl rfl)
theorem dX3_back_18 : decode cX3_back 18 = .ok (.ifCond .ne 5, 3) := dk_154 0 5 (dk_at dksX3_back_0 18 rfl rfl)
theorem dX3_back_21 : decode cX3_back 21 = .ok (.iconst (-1), 1) := dk_2 (dk_at dksX3_back_0 21 rfl rfl)
theorem dX3_back_22 : decode cX3_back 22 = .ok (.ireturn, 1) := dk_172 (dk_at dksX3_back_0 22 rfl rfl)
theorem dX3_back_23 : decode cX3_back 23 = .ok (.aload_n 0, 1) := dk_42 (dk_at dksX3_back_0 23 rfl rfl)
theorem dX3_back_24 : decode cX3_back 24 = .ok (.iload_n 1, 1) := dk_27 (dk_at dksX3_back_1 0 rfl rfl)
theorem dX3_back_25 : decode cX3_back 25 = .ok (.iconst 1, 1) := dk_4 (dk_at dksX3_back_1 1 rfl rfl)
theorem dX3_back_26 : decode cX3_back 26 = .ok (.invokevirtual 410, 3) := dk_182 1 154 (dk_at dksX3_back_1 2 rfl rfl)
theorem dX3_back_29 : decode cX3_back 29 = .ok (.aload_n 0, 1) := dk_42 (dk_at dksX3_back_1 5 rfl rfl)
theorem dX3_back_30 : decode cX3_back 30 = .ok (.getfield 9, 3) := dk_180 0 9 (dk_at dksX3_back_1 6 rfl rfl)
theorem dX3_back_33 : decode cX3_back 33 = .ok (.iconst 4, 1) := dk_7 (dk_at dksX3_back_1 9 rfl rfl)
theorem dX3_back_34 : decode cX3_back 34 = .ok (.iaload, 1) := dk_46 (dk_at dksX3_back_1 10 rfl rfl)
theorem dX3_back_35 : decode cX3_back 35 = .ok (.ireturn, 1) := dk_172 (dk_at dksX3_back_1 11 rfl rfl)
theorem q122 : (Jvm.Cond.initialized "SkySpireModel") ∈ lw_all := lw_g (lw_at lw_m1 7 rfl) rfl
theorem q1106 : (Jvm.Cond.instantiable "SkySpireModel" (54 : Nat)) ∈ lw_all := lw_g (lw_at lw_m5 31 rfl) rfl
theorem q1108 : (Jvm.Cond.instanceMethod ({ cls := "SkySpireModel", name := "<init>", desc := "()V" } : Jvm.MethodName)) ∈ lw_all := lw_g (lw_at lw_m5 33 rfl) rfl
theorem q1109 : (Jvm.Cond.code ({ cls := "SkySpireModel", name := "<init>", desc := "()V" } : Jvm.MethodName) prog_17_method_1_code (1 : Nat) (Option.none : Option Jvm.ClassFile.FieldType)) ∈ lw_all := lw_g (lw_at lw_m5 34 rfl) rfl
theorem q1110 : (Jvm.Cond.methodLink "SkySpireModel" (3 : Nat) ({ cls := "java/lang/Object", name := "<init>", desc := "()V" } : Jvm.MethodName)) ∈ lw_all := lw_g (lw_at lw_m5 35 rfl) rfl
theorem q1111 : (Jvm.Cond.fieldLink "SkySpireModel" (9 : Nat) "SkySpireModel" "scalar" "[I") ∈ lw_all := lw_g (lw_at lw_m5 36 rfl) rfl
theorem q1112 : (Jvm.Cond.fieldLink "SkySpireModel" (13 : Nat) "SkySpireModel" "at" "[I") ∈ lw_all := lw_g (lw_at lw_m5 37 rfl) rfl
theorem q1113 : (Jvm.Cond.fieldLink "SkySpireModel" (16 : Nat) "SkySpireModel" "stiff" "[I") ∈ lw_all := lw_g (lw_at lw_m5 38 rfl) rfl
theorem q1114 : (Jvm.Cond.fieldLink "SkySpireModel" (19 : Nat) "SkySpireModel" "who" "[I") ∈ lw_all := lw_g (lw_at lw_m5 39 rfl) rfl
theorem q1115 : (Jvm.Cond.fieldLink "SkySpireModel" (22 : Nat) "SkySpireModel" "since" "[I") ∈ lw_all := lw_g (lw_at lw_m5 40 rfl) rfl
theorem q1116 : (Jvm.Cond.fieldLink "SkySpireModel" (25 : Nat) "SkySpireModel" "way" "[I") ∈ lw_all := lw_g (lw_at lw_m5 41 rfl) rfl
theorem q1117 : (Jvm.Cond.fieldLink "SkySpireModel" (28 : Nat) "SkySpireModel" "strong" "[I") ∈ lw_all := lw_g (lw_at lw_m5 42 rfl) rfl
theorem q1118 : (Jvm.Cond.fieldLink "SkySpireModel" (31 : Nat) "SkySpireModel" "marks" "[I") ∈ lw_all := lw_g (lw_at lw_m5 43 rfl) rfl
theorem q1119 : (Jvm.Cond.fieldLink "SkySpireModel" (34 : Nat) "SkySpireModel" "noteDay" "[I") ∈ lw_all := lw_g (lw_at lw_m5 44 rfl) rfl
theorem q1120 : (Jvm.Cond.fieldLink "SkySpireModel" (37 : Nat) "SkySpireModel" "noteCell" "[I") ∈ lw_all := lw_g (lw_at lw_m5 45 rfl) rfl
theorem q1121 : (Jvm.Cond.fieldLink "SkySpireModel" (40 : Nat) "SkySpireModel" "notePen" "[I") ∈ lw_all := lw_g (lw_at lw_m5 46 rfl) rfl
theorem q1122 : (Jvm.Cond.fieldLink "SkySpireModel" (43 : Nat) "SkySpireModel" "toldAt" "[I") ∈ lw_all := lw_g (lw_at lw_m5 47 rfl) rfl
theorem q1123 : (Jvm.Cond.fieldLink "SkySpireModel" (46 : Nat) "SkySpireModel" "toldStiff" "[I") ∈ lw_all := lw_g (lw_at lw_m5 48 rfl) rfl
theorem q1124 : (Jvm.Cond.fieldLink "SkySpireModel" (49 : Nat) "SkySpireModel" "newScalar" "[I") ∈ lw_all := lw_g (lw_at lw_m5 49 rfl) rfl
theorem q1125 : (Jvm.Cond.fieldLink "SkySpireModel" (52 : Nat) "SkySpireModel" "newAt" "[I") ∈ lw_all := lw_g (lw_at lw_m5 50 rfl) rfl
theorem q1126 : (Jvm.Cond.fieldLink "SkySpireModel" (55 : Nat) "SkySpireModel" "newStiff" "[I") ∈ lw_all := lw_g (lw_at lw_m5 51 rfl) rfl
theorem q1127 : (Jvm.Cond.fieldLink "SkySpireModel" (58 : Nat) "SkySpireModel" "newWay" "[I") ∈ lw_all := lw_g (lw_at lw_m5 52 rfl) rfl
theorem q1128 : (Jvm.Cond.fieldLink "SkySpireModel" (61 : Nat) "SkySpireModel" "newStrong" "[I") ∈ lw_all := lw_g (lw_at lw_m5 53 rfl) rfl
theorem q1129 : (Jvm.Cond.fieldLink "SkySpireModel" (64 : Nat) "SkySpireModel" "newMarks" "[I") ∈ lw_all := lw_g (lw_at lw_m5 54 rfl) rfl
theorem q1130 : (Jvm.Cond.fieldLink "SkySpireModel" (142 : Nat) "SkySpireModel" "taped" "I") ∈ lw_all := lw_g (lw_at lw_m5 55 rfl) rfl
theorem q1131 : (Jvm.Cond.fieldLink "SkySpireModel" (174 : Nat) "SkySpireModel" "p" "I") ∈ lw_all := lw_g (lw_at lw_m5 56 rfl) rfl
theorem q1132 : (Jvm.Cond.fieldLink "SkySpireModel" (171 : Nat) "SkySpireModel" "fault" "I") ∈ lw_all := lw_g (lw_at lw_m5 57 rfl) rfl
theorem q1133 : (Jvm.Cond.fieldLink "SkySpireModel" (200 : Nat) "SkySpireModel" "slot" "I") ∈ lw_all := lw_g (lw_at lw_m5 58 rfl) rfl
theorem q1134 : (Jvm.Cond.fieldLink "SkySpireModel" (318 : Nat) "SkySpireModel" "rules" "I") ∈ lw_all := lw_g (lw_at lw_m5 59 rfl) rfl
theorem q1135 : (Jvm.Cond.fieldLink "SkySpireModel" (203 : Nat) "SkySpireModel" "entries" "I") ∈ lw_all := lw_g (lw_at lw_m5 60 rfl) rfl
theorem q1136 : (Jvm.Cond.fieldLink "SkySpireModel" (244 : Nat) "SkySpireModel" "deep" "I") ∈ lw_all := lw_g (lw_at lw_m5 61 rfl) rfl
theorem q1137 : (Jvm.Cond.fieldLink "SkySpireModel" (206 : Nat) "SkySpireModel" "counted" "I") ∈ lw_all := lw_g (lw_at lw_m5 62 rfl) rfl
theorem q1138 : (Jvm.Cond.fieldLink "SkySpireModel" (241 : Nat) "SkySpireModel" "opened" "I") ∈ lw_all := lw_g (lw_at lw_m5 63 rfl) rfl
theorem q1139 : (Jvm.Cond.fieldLink "SkySpireModel" (67 : Nat) "SkySpireModel" "words" "I") ∈ lw_all := lw_g (lw_at lw_m5 64 rfl) rfl
theorem q1140 : (Jvm.Cond.fieldLink "SkySpireModel" (71 : Nat) "SkySpireModel" "tape" "[B") ∈ lw_all := lw_g (lw_at lw_m5 65 rfl) rfl
theorem q1141 : (Jvm.Cond.fieldLink "SkySpireModel" (75 : Nat) "SkySpireModel" "sort" "[I") ∈ lw_all := lw_g (lw_at lw_m5 66 rfl) rfl
theorem q1142 : (Jvm.Cond.fieldLink "SkySpireModel" (78 : Nat) "SkySpireModel" "number" "[I") ∈ lw_all := lw_g (lw_at lw_m5 67 rfl) rfl
theorem q1143 : (Jvm.Cond.fieldLink "SkySpireModel" (81 : Nat) "SkySpireModel" "clauses" "[I") ∈ lw_all := lw_g (lw_at lw_m5 68 rfl) rfl
theorem q1144 : (Jvm.Cond.fieldLink "SkySpireModel" (84 : Nat) "SkySpireModel" "sumAt" "[I") ∈ lw_all := lw_g (lw_at lw_m5 69 rfl) rfl
theorem q1145 : (Jvm.Cond.fieldLink "SkySpireModel" (87 : Nat) "SkySpireModel" "testAt" "[I") ∈ lw_all := lw_g (lw_at lw_m5 70 rfl) rfl
theorem q1146 : (Jvm.Cond.fieldLink "SkySpireModel" (90 : Nat) "SkySpireModel" "endAt" "[I") ∈ lw_all := lw_g (lw_at lw_m5 71 rfl) rfl
theorem q1147 : (Jvm.Cond.fieldLink "SkySpireModel" (93 : Nat) "SkySpireModel" "open" "[I") ∈ lw_all := lw_g (lw_at lw_m5 72 rfl) rfl
theorem q1148 : (Jvm.Cond.fieldLink "SkySpireModel" (96 : Nat) "SkySpireModel" "asked" "[J") ∈ lw_all := lw_g (lw_at lw_m5 73 rfl) rfl
theorem q1149 : (Jvm.Cond.fieldLink "SkySpireModel" (100 : Nat) "SkySpireModel" "stack" "[J") ∈ lw_all := lw_g (lw_at lw_m5 74 rfl) rfl
theorem q1150 : (Jvm.Cond.fieldLink "SkySpireModel" (103 : Nat) "SkySpireModel" "past" "[I") ∈ lw_all := lw_g (lw_at lw_m5 75 rfl) rfl
theorem q1151 : (Jvm.Cond.fieldLink "SkySpireModel" (106 : Nat) "SkySpireModel" "pastOf" "[I") ∈ lw_all := lw_g (lw_at lw_m5 76 rfl) rfl
theorem q1152 : (Jvm.Cond.fieldLink "SkySpireModel" (305 : Nat) "SkySpireModel" "pastMany" "I") ∈ lw_all := lw_g (lw_at lw_m5 77 rfl) rfl
theorem q1153 : (Jvm.Cond.fieldLink "SkySpireModel" (388 : Nat) "SkySpireModel" "pastAt" "I") ∈ lw_all := lw_g (lw_at lw_m5 78 rfl) rfl
theorem q1154 : (Jvm.Cond.fieldLink "SkySpireModel" (384 : Nat) "SkySpireModel" "takesBack" "Z") ∈ lw_all := lw_g (lw_at lw_m5 79 rfl) rfl
theorem q1155 : (Jvm.Cond.fieldLink "SkySpireModel" (109 : Nat) "SkySpireModel" "plays" "[I") ∈ lw_all := lw_g (lw_at lw_m5 80 rfl) rfl
theorem q1156 : (Jvm.Cond.fieldLink "SkySpireModel" (112 : Nat) "SkySpireModel" "firstHas" "[I") ∈ lw_all := lw_g (lw_at lw_m5 81 rfl) rfl
theorem q1157 : (Jvm.Cond.fieldLink "SkySpireModel" (115 : Nat) "SkySpireModel" "secondHas" "[I") ∈ lw_all := lw_g (lw_at lw_m5 82 rfl) rfl
theorem q1158 : (Jvm.Cond.fieldLink "SkySpireModel" (118 : Nat) "SkySpireModel" "shows" "[I") ∈ lw_all := lw_g (lw_at lw_m5 83 rfl) rfl
theorem q1159 : (Jvm.Cond.fieldLink "SkySpireModel" (121 : Nat) "SkySpireModel" "lay" "[I") ∈ lw_all := lw_g (lw_at lw_m5 84 rfl) rfl
theorem q1160 : (Jvm.Cond.fieldLink "SkySpireModel" (124 : Nat) "SkySpireModel" "images" "[I") ∈ lw_all := lw_g (lw_at lw_m5 85 rfl) rfl
theorem q1161 : (Jvm.Cond.fieldLink "SkySpireModel" (127 : Nat) "SkySpireModel" "isMade" "[Z") ∈ lw_all := lw_g (lw_at lw_m5 86 rfl) rfl
theorem q1162 : (Jvm.Cond.fieldLink "SkySpireModel" (501 : Nat) "SkySpireModel" "imageAt" "I") ∈ lw_all := lw_g (lw_at lw_m5 87 rfl) rfl
theorem q1163 : (Jvm.Cond.fieldLink "SkySpireModel" (498 : Nat) "SkySpireModel" "goesBack" "Z") ∈ lw_all := lw_g (lw_at lw_m5 88 rfl) rfl
theorem q1164 : (Jvm.Cond.lays "SkySpireModel" "SkySpireModel" "thrown" "I") ∈ lw_all := lw_g (lw_at lw_m5 89 rfl) rfl
theorem q1165 : (Jvm.Cond.soleField "SkySpireModel" "thrown") ∈ lw_all := lw_g (lw_at lw_m5 90 rfl) rfl
theorem q1166 : (Jvm.Cond.laysFinal "SkySpireModel" "SkySpireModel" "scalar" "[I") ∈ lw_all := lw_g (lw_at lw_m5 91 rfl) rfl
theorem q1167 : (Jvm.Cond.soleField "SkySpireModel" "scalar") ∈ lw_all := lw_g (lw_at lw_m5 92 rfl) rfl
theorem q1168 : (Jvm.Cond.laysFinal "SkySpireModel" "SkySpireModel" "at" "[I") ∈ lw_all := lw_g (lw_at lw_m5 93 rfl) rfl
theorem q1169 : (Jvm.Cond.soleField "SkySpireModel" "at") ∈ lw_all := lw_g (lw_at lw_m5 94 rfl) rfl
theorem q1170 : (Jvm.Cond.laysFinal "SkySpireModel" "SkySpireModel" "stiff" "[I") ∈ lw_all := lw_g (lw_at lw_m5 95 rfl) rfl
theorem q1171 : (Jvm.Cond.soleField "SkySpireModel" "stiff") ∈ lw_all := lw_g (lw_at lw_m5 96 rfl) rfl
theorem q1172 : (Jvm.Cond.laysFinal "SkySpireModel" "SkySpireModel" "who" "[I") ∈ lw_all := lw_g (lw_at lw_m5 97 rfl) rfl
theorem q1173 : (Jvm.Cond.soleField "SkySpireModel" "who") ∈ lw_all := lw_g (lw_at lw_m5 98 rfl) rfl
theorem q1174 : (Jvm.Cond.laysFinal "SkySpireModel" "SkySpireModel" "since" "[I") ∈ lw_all := lw_g (lw_at lw_m5 99 rfl) rfl
theorem q1175 : (Jvm.Cond.soleField "SkySpireModel" "since") ∈ lw_all := lw_g (lw_at lw_m5 100 rfl) rfl
theorem q1176 : (Jvm.Cond.laysFinal "SkySpireModel" "SkySpireModel" "way" "[I") ∈ lw_all := lw_g (lw_at lw_m5 101 rfl) rfl
theorem q1177 : (Jvm.Cond.soleField "SkySpireModel" "way") ∈ lw_all := lw_g (lw_at lw_m5 102 rfl) rfl
theorem q1178 : (Jvm.Cond.laysFinal "SkySpireModel" "SkySpireModel" "strong" "[I") ∈ lw_all := lw_g (lw_at lw_m5 103 rfl) rfl
theorem q1179 : (Jvm.Cond.soleField "SkySpireModel" "strong") ∈ lw_all := lw_g (lw_at lw_m5 104 rfl) rfl
theorem q1180 : (Jvm.Cond.laysFinal "SkySpireModel" "SkySpireModel" "marks" "[I") ∈ lw_all := lw_g (lw_at lw_m5 105 rfl) rfl
theorem q1181 : (Jvm.Cond.soleField "SkySpireModel" "marks") ∈ lw_all := lw_g (lw_at lw_m5 106 rfl) rfl
theorem q1182 : (Jvm.Cond.laysFinal "SkySpireModel" "SkySpireModel" "noteDay" "[I") ∈ lw_all := lw_g (lw_at lw_m5 107 rfl) rfl
theorem q1183 : (Jvm.Cond.soleField "SkySpireModel" "noteDay") ∈ lw_all := lw_g (lw_at lw_m5 108 rfl) rfl
theorem q1184 : (Jvm.Cond.laysFinal "SkySpireModel" "SkySpireModel" "noteCell" "[I") ∈ lw_all := lw_g (lw_at lw_m5 109 rfl) rfl
theorem q1185 : (Jvm.Cond.soleField "SkySpireModel" "noteCell") ∈ lw_all := lw_g (lw_at lw_m5 110 rfl) rfl
theorem q1186 : (Jvm.Cond.laysFinal "SkySpireModel" "SkySpireModel" "notePen" "[I") ∈ lw_all := lw_g (lw_at lw_m5 111 rfl) rfl
theorem q1187 : (Jvm.Cond.soleField "SkySpireModel" "notePen") ∈ lw_all := lw_g (lw_at lw_m5 112 rfl) rfl
theorem q1188 : (Jvm.Cond.laysFinal "SkySpireModel" "SkySpireModel" "toldAt" "[I") ∈ lw_all := lw_g (lw_at lw_m5 113 rfl) rfl
theorem q1189 : (Jvm.Cond.soleField "SkySpireModel" "toldAt") ∈ lw_all := lw_g (lw_at lw_m5 114 rfl) rfl
theorem q1190 : (Jvm.Cond.laysFinal "SkySpireModel" "SkySpireModel" "toldStiff" "[I") ∈ lw_all := lw_g (lw_at lw_m5 115 rfl) rfl
theorem q1191 : (Jvm.Cond.soleField "SkySpireModel" "toldStiff") ∈ lw_all := lw_g (lw_at lw_m5 116 rfl) rfl
theorem q1192 : (Jvm.Cond.laysFinal "SkySpireModel" "SkySpireModel" "newScalar" "[I") ∈ lw_all := lw_g (lw_at lw_m5 117 rfl) rfl
theorem q1193 : (Jvm.Cond.soleField "SkySpireModel" "newScalar") ∈ lw_all := lw_g (lw_at lw_m5 118 rfl) rfl
theorem q1194 : (Jvm.Cond.laysFinal "SkySpireModel" "SkySpireModel" "newAt" "[I") ∈ lw_all := lw_g (lw_at lw_m5 119 rfl) rfl
theorem q1195 : (Jvm.Cond.soleField "SkySpireModel" "newAt") ∈ lw_all := lw_g (lw_at lw_m5 120 rfl) rfl
theorem q1196 : (Jvm.Cond.laysFinal "SkySpireModel" "SkySpireModel" "newStiff" "[I") ∈ lw_all := lw_g (lw_at lw_m5 121 rfl) rfl
theorem q1197 : (Jvm.Cond.soleField "SkySpireModel" "newStiff") ∈ lw_all := lw_g (lw_at lw_m5 122 rfl) rfl
theorem q1198 : (Jvm.Cond.laysFinal "SkySpireModel" "SkySpireModel" "newWay" "[I") ∈ lw_all := lw_g (lw_at lw_m5 123 rfl) rfl
theorem q1199 : (Jvm.Cond.soleField "SkySpireModel" "newWay") ∈ lw_all := lw_g (lw_at lw_m5 124 rfl) rfl
theorem q1200 : (Jvm.Cond.laysFinal "SkySpireModel" "SkySpireModel" "newStrong" "[I") ∈ lw_all := lw_g (lw_at lw_m5 125 rfl) rfl
theorem q1201 : (Jvm.Cond.soleField "SkySpireModel" "newStrong") ∈ lw_all := lw_g (lw_at lw_m5 126 rfl) rfl
theorem q1202 : (Jvm.Cond.laysFinal "SkySpireModel" "SkySpireModel" "newMarks" "[I") ∈ lw_all := lw_g (lw_at lw_m5 127 rfl) rfl
theorem q1203 : (Jvm.Cond.soleField "SkySpireModel" "newMarks") ∈ lw_all := lw_g (lw_at lw_m5 128 rfl) rfl
theorem q1204 : (Jvm.Cond.lays "SkySpireModel" "SkySpireModel" "taped" "I") ∈ lw_all := lw_g (lw_at lw_m5 129 rfl) rfl
theorem q1205 : (Jvm.Cond.soleField "SkySpireModel" "taped") ∈ lw_all := lw_g (lw_at lw_m5 130 rfl) rfl
theorem q1206 : (Jvm.Cond.lays "SkySpireModel" "SkySpireModel" "p" "I") ∈ lw_all := lw_g (lw_at lw_m5 131 rfl) rfl
theorem q1207 : (Jvm.Cond.soleField "SkySpireModel" "p") ∈ lw_all := lw_g (lw_at lw_m5 132 rfl) rfl
theorem q1208 : (Jvm.Cond.lays "SkySpireModel" "SkySpireModel" "fault" "I") ∈ lw_all := lw_g (lw_at lw_m5 133 rfl) rfl
theorem q1209 : (Jvm.Cond.soleField "SkySpireModel" "fault") ∈ lw_all := lw_g (lw_at lw_m5 134 rfl) rfl
theorem q1210 : (Jvm.Cond.lays "SkySpireModel" "SkySpireModel" "slot" "I") ∈ lw_all := lw_g (lw_at lw_m5 135 rfl) rfl
theorem q1211 : (Jvm.Cond.soleField "SkySpireModel" "slot") ∈ lw_all := lw_g (lw_at lw_m5 136 rfl) rfl
theorem q1212 : (Jvm.Cond.lays "SkySpireModel" "SkySpireModel" "rules" "I") ∈ lw_all := lw_g (lw_at lw_m5 137 rfl) rfl
theorem q1213 : (Jvm.Cond.soleField "SkySpireModel" "rules") ∈ lw_all := lw_g (lw_at lw_m5 138 rfl) rfl
theorem q1214 : (Jvm.Cond.lays "SkySpireModel" "SkySpireModel" "entries" "I") ∈ lw_all := lw_g (lw_at lw_m5 139 rfl) rfl
theorem q1215 : (Jvm.Cond.soleField "SkySpireModel" "entries") ∈ lw_all := lw_g (lw_at lw_m5 140 rfl) rfl
theorem q1216 : (Jvm.Cond.lays "SkySpireModel" "SkySpireModel" "deep" "I") ∈ lw_all := lw_g (lw_at lw_m5 141 rfl) rfl
theorem q1217 : (Jvm.Cond.soleField "SkySpireModel" "deep") ∈ lw_all := lw_g (lw_at lw_m5 142 rfl) rfl
theorem q1218 : (Jvm.Cond.lays "SkySpireModel" "SkySpireModel" "counted" "I") ∈ lw_all := lw_g (lw_at lw_m5 143 rfl) rfl
theorem q1219 : (Jvm.Cond.soleField "SkySpireModel" "counted") ∈ lw_all := lw_g (lw_at lw_m5 144 rfl) rfl
theorem q1220 : (Jvm.Cond.lays "SkySpireModel" "SkySpireModel" "opened" "I") ∈ lw_all := lw_g (lw_at lw_m5 145 rfl) rfl
theorem q1221 : (Jvm.Cond.soleField "SkySpireModel" "opened") ∈ lw_all := lw_g (lw_at lw_m5 146 rfl) rfl
theorem q1222 : (Jvm.Cond.lays "SkySpireModel" "SkySpireModel" "words" "I") ∈ lw_all := lw_g (lw_at lw_m5 147 rfl) rfl
theorem q1223 : (Jvm.Cond.soleField "SkySpireModel" "words") ∈ lw_all := lw_g (lw_at lw_m5 148 rfl) rfl
theorem q1224 : (Jvm.Cond.laysFinal "SkySpireModel" "SkySpireModel" "tape" "[B") ∈ lw_all := lw_g (lw_at lw_m5 149 rfl) rfl
theorem q1225 : (Jvm.Cond.soleField "SkySpireModel" "tape") ∈ lw_all := lw_g (lw_at lw_m5 150 rfl) rfl
theorem q1226 : (Jvm.Cond.laysFinal "SkySpireModel" "SkySpireModel" "sort" "[I") ∈ lw_all := lw_g (lw_at lw_m5 151 rfl) rfl
theorem q1227 : (Jvm.Cond.soleField "SkySpireModel" "sort") ∈ lw_all := lw_g (lw_at lw_m5 152 rfl) rfl
theorem q1228 : (Jvm.Cond.laysFinal "SkySpireModel" "SkySpireModel" "number" "[I") ∈ lw_all := lw_g (lw_at lw_m5 153 rfl) rfl
theorem q1229 : (Jvm.Cond.soleField "SkySpireModel" "number") ∈ lw_all := lw_g (lw_at lw_m5 154 rfl) rfl
theorem q1230 : (Jvm.Cond.laysFinal "SkySpireModel" "SkySpireModel" "clauses" "[I") ∈ lw_all := lw_g (lw_at lw_m5 155 rfl) rfl
theorem q1231 : (Jvm.Cond.soleField "SkySpireModel" "clauses") ∈ lw_all := lw_g (lw_at lw_m5 156 rfl) rfl
theorem q1232 : (Jvm.Cond.laysFinal "SkySpireModel" "SkySpireModel" "sumAt" "[I") ∈ lw_all := lw_g (lw_at lw_m5 157 rfl) rfl
theorem q1233 : (Jvm.Cond.soleField "SkySpireModel" "sumAt") ∈ lw_all := lw_g (lw_at lw_m5 158 rfl) rfl
theorem q1234 : (Jvm.Cond.laysFinal "SkySpireModel" "SkySpireModel" "testAt" "[I") ∈ lw_all := lw_g (lw_at lw_m5 159 rfl) rfl
theorem q1235 : (Jvm.Cond.soleField "SkySpireModel" "testAt") ∈ lw_all := lw_g (lw_at lw_m5 160 rfl) rfl
theorem q1236 : (Jvm.Cond.laysFinal "SkySpireModel" "SkySpireModel" "endAt" "[I") ∈ lw_all := lw_g (lw_at lw_m5 161 rfl) rfl
theorem q1237 : (Jvm.Cond.soleField "SkySpireModel" "endAt") ∈ lw_all := lw_g (lw_at lw_m5 162 rfl) rfl
theorem q1238 : (Jvm.Cond.laysFinal "SkySpireModel" "SkySpireModel" "open" "[I") ∈ lw_all := lw_g (lw_at lw_m5 163 rfl) rfl
theorem q1239 : (Jvm.Cond.soleField "SkySpireModel" "open") ∈ lw_all := lw_g (lw_at lw_m5 164 rfl) rfl
theorem q1240 : (Jvm.Cond.laysFinal "SkySpireModel" "SkySpireModel" "asked" "[J") ∈ lw_all := lw_g (lw_at lw_m5 165 rfl) rfl
theorem q1241 : (Jvm.Cond.soleField "SkySpireModel" "asked") ∈ lw_all := lw_g (lw_at lw_m5 166 rfl) rfl
theorem q1242 : (Jvm.Cond.laysFinal "SkySpireModel" "SkySpireModel" "stack" "[J") ∈ lw_all := lw_g (lw_at lw_m5 167 rfl) rfl
theorem q1243 : (Jvm.Cond.soleField "SkySpireModel" "stack") ∈ lw_all := lw_g (lw_at lw_m5 168 rfl) rfl
theorem q1244 : (Jvm.Cond.laysFinal "SkySpireModel" "SkySpireModel" "past" "[I") ∈ lw_all := lw_g (lw_at lw_m5 169 rfl) rfl
theorem q1245 : (Jvm.Cond.soleField "SkySpireModel" "past") ∈ lw_all := lw_g (lw_at lw_m5 170 rfl) rfl
theorem q1246 : (Jvm.Cond.laysFinal "SkySpireModel" "SkySpireModel" "pastOf" "[I") ∈ lw_all := lw_g (lw_at lw_m5 171 rfl) rfl
theorem q1247 : (Jvm.Cond.soleField "SkySpireModel" "pastOf") ∈ lw_all := lw_g (lw_at lw_m5 172 rfl) rfl
theorem q1248 : (Jvm.Cond.lays "SkySpireModel" "SkySpireModel" "pastMany" "I") ∈ lw_all := lw_g (lw_at lw_m5 173 rfl) rfl
theorem q1249 : (Jvm.Cond.soleField "SkySpireModel" "pastMany") ∈ lw_all := lw_g (lw_at lw_m5 174 rfl) rfl
theorem q1250 : (Jvm.Cond.lays "SkySpireModel" "SkySpireModel" "pastAt" "I") ∈ lw_all := lw_g (lw_at lw_m5 175 rfl) rfl
theorem q1251 : (Jvm.Cond.soleField "SkySpireModel" "pastAt") ∈ lw_all := lw_g (lw_at lw_m5 176 rfl) rfl
theorem q1252 : (Jvm.Cond.lays "SkySpireModel" "SkySpireModel" "takesBack" "Z") ∈ lw_all := lw_g (lw_at lw_m5 177 rfl) rfl
theorem q1253 : (Jvm.Cond.soleField "SkySpireModel" "takesBack") ∈ lw_all := lw_g (lw_at lw_m5 178 rfl) rfl
theorem q1254 : (Jvm.Cond.laysFinal "SkySpireModel" "SkySpireModel" "plays" "[I") ∈ lw_all := lw_g (lw_at lw_m5 179 rfl) rfl
theorem q1255 : (Jvm.Cond.soleField "SkySpireModel" "plays") ∈ lw_all := lw_g (lw_at lw_m5 180 rfl) rfl
theorem q1256 : (Jvm.Cond.laysFinal "SkySpireModel" "SkySpireModel" "firstHas" "[I") ∈ lw_all := lw_g (lw_at lw_m5 181 rfl) rfl
theorem q1257 : (Jvm.Cond.soleField "SkySpireModel" "firstHas") ∈ lw_all := lw_g (lw_at lw_m5 182 rfl) rfl
theorem q1258 : (Jvm.Cond.laysFinal "SkySpireModel" "SkySpireModel" "secondHas" "[I") ∈ lw_all := lw_g (lw_at lw_m5 183 rfl) rfl
theorem q1259 : (Jvm.Cond.soleField "SkySpireModel" "secondHas") ∈ lw_all := lw_g (lw_at lw_m5 184 rfl) rfl
theorem q1260 : (Jvm.Cond.laysFinal "SkySpireModel" "SkySpireModel" "shows" "[I") ∈ lw_all := lw_g (lw_at lw_m5 185 rfl) rfl
theorem q1261 : (Jvm.Cond.soleField "SkySpireModel" "shows") ∈ lw_all := lw_g (lw_at lw_m5 186 rfl) rfl
theorem q1262 : (Jvm.Cond.laysFinal "SkySpireModel" "SkySpireModel" "lay" "[I") ∈ lw_all := lw_g (lw_at lw_m5 187 rfl) rfl
theorem q1263 : (Jvm.Cond.soleField "SkySpireModel" "lay") ∈ lw_all := lw_g (lw_at lw_m5 188 rfl) rfl
theorem q1264 : (Jvm.Cond.laysFinal "SkySpireModel" "SkySpireModel" "images" "[I") ∈ lw_all := lw_g (lw_at lw_m5 189 rfl) rfl
theorem q1265 : (Jvm.Cond.soleField "SkySpireModel" "images") ∈ lw_all := lw_g (lw_at lw_m5 190 rfl) rfl
theorem q1266 : (Jvm.Cond.laysFinal "SkySpireModel" "SkySpireModel" "isMade" "[Z") ∈ lw_all := lw_g (lw_at lw_m5 191 rfl) rfl
theorem q1267 : (Jvm.Cond.soleField "SkySpireModel" "isMade") ∈ lw_all := lw_g (lw_at lw_m5 192 rfl) rfl
theorem q1268 : (Jvm.Cond.lays "SkySpireModel" "SkySpireModel" "imageAt" "I") ∈ lw_all := lw_g (lw_at lw_m5 193 rfl) rfl
theorem q1269 : (Jvm.Cond.soleField "SkySpireModel" "imageAt") ∈ lw_all := lw_g (lw_at lw_m5 194 rfl) rfl
theorem q1270 : (Jvm.Cond.lays "SkySpireModel" "SkySpireModel" "goesBack" "Z") ∈ lw_all := lw_g (lw_at lw_m5 195 rfl) rfl
theorem q1271 : (Jvm.Cond.soleField "SkySpireModel" "goesBack") ∈ lw_all := lw_g (lw_at lw_m5 196 rfl) rfl
theorem q1272 : (Jvm.Cond.superclass "SkySpireModel" "java/lang/Object") ∈ lw_all := lw_g (lw_at lw_m5 197 rfl) rfl
theorem q1274 : (Jvm.Cond.instanceMethod ({ cls := "SkySpireModel", name := "feed", desc := "(IIIII)I" } : Jvm.MethodName)) ∈ lw_all := lw_g (lw_at lw_m5 199 rfl) rfl
theorem q1275 : (Jvm.Cond.selects "SkySpireModel" ({ cls := "SkySpireModel", name := "feed", desc := "(IIIII)I" } : Jvm.MethodName) ({ cls := "SkySpireModel", name := "feed", desc := "(IIIII)I" } : Jvm.MethodName)) ∈ lw_all := lw_g (lw_at lw_m5 200 rfl) rfl
theorem q1276 : (Jvm.Cond.code ({ cls := "SkySpireModel", name := "feed", desc := "(IIIII)I" } : Jvm.MethodName) prog_17_method_10_code (6 : Nat) (Option.some Jvm.ClassFile.FieldType.int)) ∈ lw_all := lw_g (lw_at lw_m5 201 rfl) rfl
theorem q1277 : (Jvm.Cond.methodLink "SkySpireModel" (145 : Nat) ({ cls := "SkySpireModel", name := "put", desc := "(I)V" } : Jvm.MethodName)) ∈ lw_all := lw_g (lw_at lw_m5 202 rfl) rfl
theorem q1278 : (Jvm.Cond.privateMethod ({ cls := "SkySpireModel", name := "put", desc := "(I)V" } : Jvm.MethodName)) ∈ lw_tbl := lw_at lw_m5 203 rfl
theorem q1279 : (Jvm.Cond.instanceMethod ({ cls := "SkySpireModel", name := "put", desc := "(I)V" } : Jvm.MethodName)) ∈ lw_all := lw_g (lw_at lw_m5 204 rfl) rfl
theorem q1280 : (Jvm.Cond.code ({ cls := "SkySpireModel", name := "put", desc := "(I)V" } : Jvm.MethodName) prog_17_method_11_code (3 : Nat) (Option.none : Option Jvm.ClassFile.FieldType)) ∈ lw_all := lw_g (lw_at lw_m5 205 rfl) rfl
theorem q1282 : (Jvm.Cond.instanceMethod ({ cls := "SkySpireModel", name := "end", desc := "(I)I" } : Jvm.MethodName)) ∈ lw_all := lw_g (lw_at lw_m5 207 rfl) rfl
theorem q1283 : (Jvm.Cond.selects "SkySpireModel" ({ cls := "SkySpireModel", name := "end", desc := "(I)I" } : Jvm.MethodName) ({ cls := "SkySpireModel", name := "end", desc := "(I)I" } : Jvm.MethodName)) ∈ lw_all := lw_g (lw_at lw_m5 208 rfl) rfl
theorem q1284 : (Jvm.Cond.code ({ cls := "SkySpireModel", name := "end", desc := "(I)I" } : Jvm.MethodName) prog_17_method_12_code (2 : Nat) (Option.some Jvm.ClassFile.FieldType.int)) ∈ lw_all := lw_g (lw_at lw_m5 209 rfl) rfl
theorem q1286 : (Jvm.Cond.instanceMethod ({ cls := "SkySpireModel", name := "sky", desc := "()I" } : Jvm.MethodName)) ∈ lw_all := lw_g (lw_at lw_m5 211 rfl) rfl
theorem q1287 : (Jvm.Cond.selects "SkySpireModel" ({ cls := "SkySpireModel", name := "sky", desc := "()I" } : Jvm.MethodName) ({ cls := "SkySpireModel", name := "sky", desc := "()I" } : Jvm.MethodName)) ∈ lw_all := lw_g (lw_at lw_m5 212 rfl) rfl
theorem q1288 : (Jvm.Cond.code ({ cls := "SkySpireModel", name := "sky", desc := "()I" } : Jvm.MethodName) prog_17_method_42_code (2 : Nat) (Option.some Jvm.ClassFile.FieldType.int)) ∈ lw_all := lw_g (lw_at lw_m5 213 rfl) rfl
theorem q1289 : (Jvm.Cond.methodLink "SkySpireModel" (299 : Nat) ({ cls := "SkySpireModel", name := "readsAll", desc := "()V" } : Jvm.MethodName)) ∈ lw_all := lw_g (lw_at lw_m5 214 rfl) rfl
theorem q1290 : (Jvm.Cond.privateMethod ({ cls := "SkySpireModel", name := "readsAll", desc := "()V" } : Jvm.MethodName)) ∈ lw_tbl := lw_at lw_m5 215 rfl
theorem q1291 : (Jvm.Cond.instanceMethod ({ cls := "SkySpireModel", name := "readsAll", desc := "()V" } : Jvm.MethodName)) ∈ lw_all := lw_g (lw_at lw_m5 216 rfl) rfl
theorem q1292 : (Jvm.Cond.code ({ cls := "SkySpireModel", name := "readsAll", desc := "()V" } : Jvm.MethodName) prog_17_method_40_code (3 : Nat) (Option.none : Option Jvm.ClassFile.FieldType)) ∈ lw_all := lw_g (lw_at lw_m5 217 rfl) rfl
theorem q1293 : (Jvm.Cond.methodLink "SkySpireModel" (286 : Nat) ({ cls := "SkySpireModel", name := "starts", desc := "()V" } : Jvm.MethodName)) ∈ lw_all := lw_g (lw_at lw_m5 218 rfl) rfl
theorem q1294 : (Jvm.Cond.privateMethod ({ cls := "SkySpireModel", name := "starts", desc := "()V" } : Jvm.MethodName)) ∈ lw_tbl := lw_at lw_m5 219 rfl
theorem q1295 : (Jvm.Cond.instanceMethod ({ cls := "SkySpireModel", name := "starts", desc := "()V" } : Jvm.MethodName)) ∈ lw_all := lw_g (lw_at lw_m5 220 rfl) rfl
theorem q1296 : (Jvm.Cond.code ({ cls := "SkySpireModel", name := "starts", desc := "()V" } : Jvm.MethodName) prog_17_method_39_code (1 : Nat) (Option.none : Option Jvm.ClassFile.FieldType)) ∈ lw_all := lw_g (lw_at lw_m5 221 rfl) rfl
theorem q1297 : (Jvm.Cond.methodLink "SkySpireModel" (289 : Nat) ({ cls := "SkySpireModel", name := "skyClause", desc := "(I)V" } : Jvm.MethodName)) ∈ lw_all := lw_g (lw_at lw_m5 222 rfl) rfl
theorem q1298 : (Jvm.Cond.privateMethod ({ cls := "SkySpireModel", name := "skyClause", desc := "(I)V" } : Jvm.MethodName)) ∈ lw_tbl := lw_at lw_m5 223 rfl
theorem q1299 : (Jvm.Cond.instanceMethod ({ cls := "SkySpireModel", name := "skyClause", desc := "(I)V" } : Jvm.MethodName)) ∈ lw_all := lw_g (lw_at lw_m5 224 rfl) rfl
theorem q1300 : (Jvm.Cond.code ({ cls := "SkySpireModel", name := "skyClause", desc := "(I)V" } : Jvm.MethodName) prog_17_method_36_code (4 : Nat) (Option.none : Option Jvm.ClassFile.FieldType)) ∈ lw_all := lw_g (lw_at lw_m5 225 rfl) rfl
theorem q1301 : (Jvm.Cond.methodLink "SkySpireModel" (193 : Nat) ({ cls := "SkySpireModel", name := "blanks", desc := "()V" } : Jvm.MethodName)) ∈ lw_all := lw_g (lw_at lw_m5 226 rfl) rfl
theorem q1302 : (Jvm.Cond.privateMethod ({ cls := "SkySpireModel", name := "blanks", desc := "()V" } : Jvm.MethodName)) ∈ lw_tbl := lw_at lw_m5 227 rfl
theorem q1303 : (Jvm.Cond.instanceMethod ({ cls := "SkySpireModel", name := "blanks", desc := "()V" } : Jvm.MethodName)) ∈ lw_all := lw_g (lw_at lw_m5 228 rfl) rfl
theorem q1304 : (Jvm.Cond.code ({ cls := "SkySpireModel", name := "blanks", desc := "()V" } : Jvm.MethodName) prog_17_method_16_code (1 : Nat) (Option.none : Option Jvm.ClassFile.FieldType)) ∈ lw_all := lw_g (lw_at lw_m5 229 rfl) rfl
theorem q1305 : (Jvm.Cond.methodLink "SkySpireModel" (177 : Nat) ({ cls := "SkySpireModel", name := "byteHere", desc := "()I" } : Jvm.MethodName)) ∈ lw_all := lw_g (lw_at lw_m5 230 rfl) rfl
theorem q1306 : (Jvm.Cond.privateMethod ({ cls := "SkySpireModel", name := "byteHere", desc := "()I" } : Jvm.MethodName)) ∈ lw_tbl := lw_at lw_m5 231 rfl
theorem q1307 : (Jvm.Cond.instanceMethod ({ cls := "SkySpireModel", name := "byteHere", desc := "()I" } : Jvm.MethodName)) ∈ lw_all := lw_g (lw_at lw_m5 232 rfl) rfl
theorem q1308 : (Jvm.Cond.code ({ cls := "SkySpireModel", name := "byteHere", desc := "()I" } : Jvm.MethodName) prog_17_method_15_code (1 : Nat) (Option.some Jvm.ClassFile.FieldType.int)) ∈ lw_all := lw_g (lw_at lw_m5 233 rfl) rfl
theorem q1309 : (Jvm.Cond.methodLink "SkySpireModel" (276 : Nat) ({ cls := "SkySpireModel", name := "skyWord", desc := "(I)Ljava/lang/String;" } : Jvm.MethodName)) ∈ lw_all := lw_g (lw_at lw_m5 234 rfl) rfl
theorem q1310 : (Jvm.Cond.static ({ cls := "SkySpireModel", name := "skyWord", desc := "(I)Ljava/lang/String;" } : Jvm.MethodName)) ∈ lw_all := lw_g (lw_at lw_m5 235 rfl) rfl
theorem q1311 : (Jvm.Cond.code ({ cls := "SkySpireModel", name := "skyWord", desc := "(I)Ljava/lang/String;" } : Jvm.MethodName) prog_17_method_33_code (1 : Nat) (Option.some (Jvm.ClassFile.FieldType.object "java/lang/String"))) ∈ lw_all := lw_g (lw_at lw_m5 236 rfl) rfl
theorem q1312 : (Jvm.Cond.stringRef "SkySpireModel" (268 : Nat) "sky") ∈ lw_tbl := lw_at lw_m5 237 rfl
theorem q1313 : (Jvm.Cond.stringRef "SkySpireModel" (149 : Nat) "pen") ∈ lw_tbl := lw_at lw_m5 238 rfl
theorem q1314 : (Jvm.Cond.stringRef "SkySpireModel" (270 : Nat) "wind") ∈ lw_tbl := lw_at lw_m5 239 rfl
theorem q1315 : (Jvm.Cond.stringRef "SkySpireModel" (165 : Nat) "mark") ∈ lw_tbl := lw_at lw_m6 0 rfl
theorem q1316 : (Jvm.Cond.methodLink "SkySpireModel" (196 : Nat) ({ cls := "SkySpireModel", name := "stood", desc := "(Ljava/lang/String;)Z" } : Jvm.MethodName)) ∈ lw_all := lw_g (lw_at lw_m6 1 rfl) rfl
theorem q1317 : (Jvm.Cond.privateMethod ({ cls := "SkySpireModel", name := "stood", desc := "(Ljava/lang/String;)Z" } : Jvm.MethodName)) ∈ lw_tbl := lw_at lw_m6 2 rfl
theorem q1318 : (Jvm.Cond.instanceMethod ({ cls := "SkySpireModel", name := "stood", desc := "(Ljava/lang/String;)Z" } : Jvm.MethodName)) ∈ lw_all := lw_g (lw_at lw_m6 3 rfl) rfl
theorem q1319 : (Jvm.Cond.code ({ cls := "SkySpireModel", name := "stood", desc := "(Ljava/lang/String;)Z" } : Jvm.MethodName) prog_17_method_18_code (5 : Nat) (Option.some Jvm.ClassFile.FieldType.boolean)) ∈ lw_all := lw_g (lw_at lw_m6 4 rfl) rfl
theorem q1320 : (Jvm.Cond.methodLink "SkySpireModel" (184 : Nat) ({ cls := "java/lang/String", name := "length", desc := "()I" } : Jvm.MethodName)) ∈ lw_all := lw_g (lw_at lw_m6 5 rfl) rfl
theorem q1321 : (Jvm.Cond.methodLink "SkySpireModel" (189 : Nat) ({ cls := "java/lang/String", name := "charAt", desc := "(I)C" } : Jvm.MethodName)) ∈ lw_all := lw_g (lw_at lw_m6 6 rfl) rfl
theorem q1322 : (Jvm.Cond.methodLink "SkySpireModel" (209 : Nat) ({ cls := "SkySpireModel", name := "fails", desc := "(II)V" } : Jvm.MethodName)) ∈ lw_all := lw_g (lw_at lw_m6 7 rfl) rfl
theorem q1323 : (Jvm.Cond.privateMethod ({ cls := "SkySpireModel", name := "fails", desc := "(II)V" } : Jvm.MethodName)) ∈ lw_tbl := lw_at lw_m6 8 rfl
theorem q1324 : (Jvm.Cond.instanceMethod ({ cls := "SkySpireModel", name := "fails", desc := "(II)V" } : Jvm.MethodName)) ∈ lw_all := lw_g (lw_at lw_m6 9 rfl) rfl
theorem q1325 : (Jvm.Cond.code ({ cls := "SkySpireModel", name := "fails", desc := "(II)V" } : Jvm.MethodName) prog_17_method_14_code (3 : Nat) (Option.none : Option Jvm.ClassFile.FieldType)) ∈ lw_all := lw_g (lw_at lw_m6 10 rfl) rfl
theorem q1326 : (Jvm.Cond.methodLink "SkySpireModel" (279 : Nat) ({ cls := "SkySpireModel", name := "isFull", desc := "(II)Z" } : Jvm.MethodName)) ∈ lw_all := lw_g (lw_at lw_m6 11 rfl) rfl
theorem q1327 : (Jvm.Cond.privateMethod ({ cls := "SkySpireModel", name := "isFull", desc := "(II)Z" } : Jvm.MethodName)) ∈ lw_tbl := lw_at lw_m6 12 rfl
theorem q1328 : (Jvm.Cond.instanceMethod ({ cls := "SkySpireModel", name := "isFull", desc := "(II)Z" } : Jvm.MethodName)) ∈ lw_all := lw_g (lw_at lw_m6 13 rfl) rfl
theorem q1329 : (Jvm.Cond.code ({ cls := "SkySpireModel", name := "isFull", desc := "(II)Z" } : Jvm.MethodName) prog_17_method_35_code (3 : Nat) (Option.some Jvm.ClassFile.FieldType.boolean)) ∈ lw_all := lw_g (lw_at lw_m6 14 rfl) rfl
theorem q1330 : (Jvm.Cond.methodLink "SkySpireModel" (283 : Nat) ({ cls := "SkySpireModel", name := "skyPart", desc := "(I)V" } : Jvm.MethodName)) ∈ lw_all := lw_g (lw_at lw_m6 15 rfl) rfl
theorem q1331 : (Jvm.Cond.privateMethod ({ cls := "SkySpireModel", name := "skyPart", desc := "(I)V" } : Jvm.MethodName)) ∈ lw_tbl := lw_at lw_m6 16 rfl
theorem q1332 : (Jvm.Cond.instanceMethod ({ cls := "SkySpireModel", name := "skyPart", desc := "(I)V" } : Jvm.MethodName)) ∈ lw_all := lw_g (lw_at lw_m6 17 rfl) rfl
theorem q1333 : (Jvm.Cond.code ({ cls := "SkySpireModel", name := "skyPart", desc := "(I)V" } : Jvm.MethodName) prog_17_method_34_code (4 : Nat) (Option.none : Option Jvm.ClassFile.FieldType)) ∈ lw_all := lw_g (lw_at lw_m6 18 rfl) rfl
theorem q1334 : (Jvm.Cond.methodLink "SkySpireModel" (272 : Nat) ({ cls := "SkySpireModel", name := "amount", desc := "(II)I" } : Jvm.MethodName)) ∈ lw_all := lw_g (lw_at lw_m6 19 rfl) rfl
theorem q1335 : (Jvm.Cond.privateMethod ({ cls := "SkySpireModel", name := "amount", desc := "(II)I" } : Jvm.MethodName)) ∈ lw_tbl := lw_at lw_m6 20 rfl
theorem q1336 : (Jvm.Cond.instanceMethod ({ cls := "SkySpireModel", name := "amount", desc := "(II)I" } : Jvm.MethodName)) ∈ lw_all := lw_g (lw_at lw_m6 21 rfl) rfl
theorem q1337 : (Jvm.Cond.code ({ cls := "SkySpireModel", name := "amount", desc := "(II)I" } : Jvm.MethodName) prog_17_method_32_code (5 : Nat) (Option.some Jvm.ClassFile.FieldType.int)) ∈ lw_all := lw_g (lw_at lw_m6 22 rfl) rfl
theorem q1338 : (Jvm.Cond.constant "SkySpireModel" (217 : Nat) (99999 : Int32)) ∈ lw_all := lw_g (lw_at lw_m6 23 rfl) rfl
theorem q1339 : (Jvm.Cond.methodLink "SkySpireModel" (218 : Nat) ({ cls := "SkySpireModel", name := "digits", desc := "(I)I" } : Jvm.MethodName)) ∈ lw_all := lw_g (lw_at lw_m6 24 rfl) rfl
theorem q1340 : (Jvm.Cond.privateMethod ({ cls := "SkySpireModel", name := "digits", desc := "(I)I" } : Jvm.MethodName)) ∈ lw_tbl := lw_at lw_m6 25 rfl
theorem q1341 : (Jvm.Cond.instanceMethod ({ cls := "SkySpireModel", name := "digits", desc := "(I)I" } : Jvm.MethodName)) ∈ lw_all := lw_g (lw_at lw_m6 26 rfl) rfl
theorem q1342 : (Jvm.Cond.code ({ cls := "SkySpireModel", name := "digits", desc := "(I)I" } : Jvm.MethodName) prog_17_method_22_code (4 : Nat) (Option.some Jvm.ClassFile.FieldType.int)) ∈ lw_all := lw_g (lw_at lw_m6 27 rfl) rfl
theorem q1343 : (Jvm.Cond.methodLink "SkySpireModel" (213 : Nat) ({ cls := "SkySpireModel", name := "isDigit", desc := "()Z" } : Jvm.MethodName)) ∈ lw_all := lw_g (lw_at lw_m6 28 rfl) rfl
theorem q1344 : (Jvm.Cond.privateMethod ({ cls := "SkySpireModel", name := "isDigit", desc := "()Z" } : Jvm.MethodName)) ∈ lw_tbl := lw_at lw_m6 29 rfl
theorem q1345 : (Jvm.Cond.instanceMethod ({ cls := "SkySpireModel", name := "isDigit", desc := "()Z" } : Jvm.MethodName)) ∈ lw_all := lw_g (lw_at lw_m6 30 rfl) rfl
theorem q1346 : (Jvm.Cond.code ({ cls := "SkySpireModel", name := "isDigit", desc := "()Z" } : Jvm.MethodName) prog_17_method_17_code (1 : Nat) (Option.some Jvm.ClassFile.FieldType.boolean)) ∈ lw_all := lw_g (lw_at lw_m6 31 rfl) rfl
theorem q1347 : (Jvm.Cond.constantLong "SkySpireModel" (180 : Nat) (48 : Int64)) ∈ lw_all := lw_g (lw_at lw_m6 32 rfl) rfl
theorem q1348 : (Jvm.Cond.constantLong "SkySpireModel" (182 : Nat) (57 : Int64)) ∈ lw_all := lw_g (lw_at lw_m6 33 rfl) rfl
theorem q1349 : (Jvm.Cond.methodLink "SkySpireModel" (138 : Nat) ({ cls := "SkySpireModel", name := "in", desc := "(JJJ)Z" } : Jvm.MethodName)) ∈ lw_all := lw_g (lw_at lw_m6 34 rfl) rfl
theorem q1350 : (Jvm.Cond.static ({ cls := "SkySpireModel", name := "in", desc := "(JJJ)Z" } : Jvm.MethodName)) ∈ lw_all := lw_g (lw_at lw_m6 35 rfl) rfl
theorem q1351 : (Jvm.Cond.code ({ cls := "SkySpireModel", name := "in", desc := "(JJJ)Z" } : Jvm.MethodName) prog_17_method_3_code (6 : Nat) (Option.some Jvm.ClassFile.FieldType.boolean)) ∈ lw_all := lw_g (lw_at lw_m6 36 rfl) rfl
theorem q1352 : (Jvm.Cond.methodLink "SkySpireModel" (292 : Nat) ({ cls := "SkySpireModel", name := "goesOn", desc := "()Z" } : Jvm.MethodName)) ∈ lw_all := lw_g (lw_at lw_m6 37 rfl) rfl
theorem q1353 : (Jvm.Cond.privateMethod ({ cls := "SkySpireModel", name := "goesOn", desc := "()Z" } : Jvm.MethodName)) ∈ lw_tbl := lw_at lw_m6 38 rfl
theorem q1354 : (Jvm.Cond.instanceMethod ({ cls := "SkySpireModel", name := "goesOn", desc := "()Z" } : Jvm.MethodName)) ∈ lw_all := lw_g (lw_at lw_m6 39 rfl) rfl
theorem q1355 : (Jvm.Cond.code ({ cls := "SkySpireModel", name := "goesOn", desc := "()Z" } : Jvm.MethodName) prog_17_method_38_code (2 : Nat) (Option.some Jvm.ClassFile.FieldType.boolean)) ∈ lw_all := lw_g (lw_at lw_m6 40 rfl) rfl
theorem q1356 : (Jvm.Cond.methodLink "SkySpireModel" (295 : Nat) ({ cls := "SkySpireModel", name := "copies", desc := "([I[I)V" } : Jvm.MethodName)) ∈ lw_all := lw_g (lw_at lw_m6 41 rfl) rfl
theorem q1357 : (Jvm.Cond.static ({ cls := "SkySpireModel", name := "copies", desc := "([I[I)V" } : Jvm.MethodName)) ∈ lw_all := lw_g (lw_at lw_m6 42 rfl) rfl
theorem q1358 : (Jvm.Cond.code ({ cls := "SkySpireModel", name := "copies", desc := "([I[I)V" } : Jvm.MethodName) prog_17_method_37_code (3 : Nat) (Option.none : Option Jvm.ClassFile.FieldType)) ∈ lw_all := lw_g (lw_at lw_m6 43 rfl) rfl
theorem q1359 : (Jvm.Cond.methodLink "SkySpireModel" (302 : Nat) ({ cls := "SkySpireModel", name := "begins", desc := "()V" } : Jvm.MethodName)) ∈ lw_all := lw_g (lw_at lw_m6 44 rfl) rfl
theorem q1360 : (Jvm.Cond.privateMethod ({ cls := "SkySpireModel", name := "begins", desc := "()V" } : Jvm.MethodName)) ∈ lw_tbl := lw_at lw_m6 45 rfl
theorem q1361 : (Jvm.Cond.instanceMethod ({ cls := "SkySpireModel", name := "begins", desc := "()V" } : Jvm.MethodName)) ∈ lw_all := lw_g (lw_at lw_m6 46 rfl) rfl
theorem q1362 : (Jvm.Cond.code ({ cls := "SkySpireModel", name := "begins", desc := "()V" } : Jvm.MethodName) prog_17_method_41_code (2 : Nat) (Option.none : Option Jvm.ClassFile.FieldType)) ∈ lw_all := lw_g (lw_at lw_m6 47 rfl) rfl
theorem q1364 : (Jvm.Cond.instanceMethod ({ cls := "SkySpireModel", name := "rule", desc := "()I" } : Jvm.MethodName)) ∈ lw_all := lw_g (lw_at lw_m6 49 rfl) rfl
theorem q1365 : (Jvm.Cond.selects "SkySpireModel" ({ cls := "SkySpireModel", name := "rule", desc := "()I" } : Jvm.MethodName) ({ cls := "SkySpireModel", name := "rule", desc := "()I" } : Jvm.MethodName)) ∈ lw_all := lw_g (lw_at lw_m6 50 rfl) rfl
theorem q1366 : (Jvm.Cond.code ({ cls := "SkySpireModel", name := "rule", desc := "()I" } : Jvm.MethodName) prog_17_method_44_code (3 : Nat) (Option.some Jvm.ClassFile.FieldType.int)) ∈ lw_all := lw_g (lw_at lw_m6 51 rfl) rfl
theorem q1367 : (Jvm.Cond.methodLink "SkySpireModel" (321 : Nat) ({ cls := "SkySpireModel", name := "ruleClause", desc := "(I)V" } : Jvm.MethodName)) ∈ lw_all := lw_g (lw_at lw_m6 52 rfl) rfl
theorem q1368 : (Jvm.Cond.privateMethod ({ cls := "SkySpireModel", name := "ruleClause", desc := "(I)V" } : Jvm.MethodName)) ∈ lw_tbl := lw_at lw_m6 53 rfl
theorem q1369 : (Jvm.Cond.instanceMethod ({ cls := "SkySpireModel", name := "ruleClause", desc := "(I)V" } : Jvm.MethodName)) ∈ lw_all := lw_g (lw_at lw_m6 54 rfl) rfl
theorem q1370 : (Jvm.Cond.code ({ cls := "SkySpireModel", name := "ruleClause", desc := "(I)V" } : Jvm.MethodName) prog_17_method_43_code (4 : Nat) (Option.none : Option Jvm.ClassFile.FieldType)) ∈ lw_all := lw_g (lw_at lw_m6 55 rfl) rfl
theorem q1371 : (Jvm.Cond.stringRef "SkySpireModel" (308 : Nat) "write") ∈ lw_tbl := lw_at lw_m6 56 rfl
theorem q1372 : (Jvm.Cond.methodLink "SkySpireModel" (238 : Nat) ({ cls := "SkySpireModel", name := "sum", desc := "()V" } : Jvm.MethodName)) ∈ lw_all := lw_g (lw_at lw_m6 57 rfl) rfl
theorem q1373 : (Jvm.Cond.privateMethod ({ cls := "SkySpireModel", name := "sum", desc := "()V" } : Jvm.MethodName)) ∈ lw_tbl := lw_at lw_m6 58 rfl
theorem q1374 : (Jvm.Cond.instanceMethod ({ cls := "SkySpireModel", name := "sum", desc := "()V" } : Jvm.MethodName)) ∈ lw_all := lw_g (lw_at lw_m6 59 rfl) rfl
theorem q1375 : (Jvm.Cond.code ({ cls := "SkySpireModel", name := "sum", desc := "()V" } : Jvm.MethodName) prog_17_method_25_code (2 : Nat) (Option.none : Option Jvm.ClassFile.FieldType)) ∈ lw_all := lw_g (lw_at lw_m6 60 rfl) rfl
theorem q1376 : (Jvm.Cond.methodLink "SkySpireModel" (235 : Nat) ({ cls := "SkySpireModel", name := "term", desc := "()V" } : Jvm.MethodName)) ∈ lw_all := lw_g (lw_at lw_m6 61 rfl) rfl
theorem q1377 : (Jvm.Cond.privateMethod ({ cls := "SkySpireModel", name := "term", desc := "()V" } : Jvm.MethodName)) ∈ lw_tbl := lw_at lw_m6 62 rfl
theorem q1378 : (Jvm.Cond.instanceMethod ({ cls := "SkySpireModel", name := "term", desc := "()V" } : Jvm.MethodName)) ∈ lw_all := lw_g (lw_at lw_m6 63 rfl) rfl
theorem q1379 : (Jvm.Cond.code ({ cls := "SkySpireModel", name := "term", desc := "()V" } : Jvm.MethodName) prog_17_method_24_code (2 : Nat) (Option.none : Option Jvm.ClassFile.FieldType)) ∈ lw_all := lw_g (lw_at lw_m6 64 rfl) rfl
theorem q1380 : (Jvm.Cond.methodLink "SkySpireModel" (232 : Nat) ({ cls := "SkySpireModel", name := "value", desc := "()V" } : Jvm.MethodName)) ∈ lw_all := lw_g (lw_at lw_m6 65 rfl) rfl
theorem q1381 : (Jvm.Cond.privateMethod ({ cls := "SkySpireModel", name := "value", desc := "()V" } : Jvm.MethodName)) ∈ lw_tbl := lw_at lw_m6 66 rfl
theorem q1382 : (Jvm.Cond.instanceMethod ({ cls := "SkySpireModel", name := "value", desc := "()V" } : Jvm.MethodName)) ∈ lw_all := lw_g (lw_at lw_m6 67 rfl) rfl
theorem q1383 : (Jvm.Cond.code ({ cls := "SkySpireModel", name := "value", desc := "()V" } : Jvm.MethodName) prog_17_method_23_code (3 : Nat) (Option.none : Option Jvm.ClassFile.FieldType)) ∈ lw_all := lw_g (lw_at lw_m6 68 rfl) rfl
theorem q1384 : (Jvm.Cond.methodLink "SkySpireModel" (222 : Nat) ({ cls := "SkySpireModel", name := "isCounted", desc := "(I)V" } : Jvm.MethodName)) ∈ lw_all := lw_g (lw_at lw_m6 69 rfl) rfl
theorem q1385 : (Jvm.Cond.privateMethod ({ cls := "SkySpireModel", name := "isCounted", desc := "(I)V" } : Jvm.MethodName)) ∈ lw_tbl := lw_at lw_m6 70 rfl
theorem q1386 : (Jvm.Cond.instanceMethod ({ cls := "SkySpireModel", name := "isCounted", desc := "(I)V" } : Jvm.MethodName)) ∈ lw_all := lw_g (lw_at lw_m6 71 rfl) rfl
theorem q1387 : (Jvm.Cond.code ({ cls := "SkySpireModel", name := "isCounted", desc := "(I)V" } : Jvm.MethodName) prog_17_method_21_code (2 : Nat) (Option.none : Option Jvm.ClassFile.FieldType)) ∈ lw_all := lw_g (lw_at lw_m6 72 rfl) rfl
theorem q1388 : (Jvm.Cond.methodLink "SkySpireModel" (225 : Nat) ({ cls := "SkySpireModel", name := "entry", desc := "(II)V" } : Jvm.MethodName)) ∈ lw_all := lw_g (lw_at lw_m6 73 rfl) rfl
theorem q1389 : (Jvm.Cond.privateMethod ({ cls := "SkySpireModel", name := "entry", desc := "(II)V" } : Jvm.MethodName)) ∈ lw_tbl := lw_at lw_m6 74 rfl
theorem q1390 : (Jvm.Cond.instanceMethod ({ cls := "SkySpireModel", name := "entry", desc := "(II)V" } : Jvm.MethodName)) ∈ lw_all := lw_g (lw_at lw_m6 75 rfl) rfl
theorem q1391 : (Jvm.Cond.code ({ cls := "SkySpireModel", name := "entry", desc := "(II)V" } : Jvm.MethodName) prog_17_method_20_code (3 : Nat) (Option.none : Option Jvm.ClassFile.FieldType)) ∈ lw_all := lw_g (lw_at lw_m6 76 rfl) rfl
theorem q1392 : (Jvm.Cond.methodLink "SkySpireModel" (228 : Nat) ({ cls := "SkySpireModel", name := "wordOf", desc := "(I)Ljava/lang/String;" } : Jvm.MethodName)) ∈ lw_all := lw_g (lw_at lw_m6 77 rfl) rfl
theorem q1393 : (Jvm.Cond.static ({ cls := "SkySpireModel", name := "wordOf", desc := "(I)Ljava/lang/String;" } : Jvm.MethodName)) ∈ lw_all := lw_g (lw_at lw_m6 78 rfl) rfl
theorem q1394 : (Jvm.Cond.code ({ cls := "SkySpireModel", name := "wordOf", desc := "(I)Ljava/lang/String;" } : Jvm.MethodName) prog_17_method_13_code (1 : Nat) (Option.some (Jvm.ClassFile.FieldType.object "java/lang/String"))) ∈ lw_all := lw_g (lw_at lw_m6 79 rfl) rfl
theorem q1395 : (Jvm.Cond.stringRef "SkySpireModel" (151 : Nat) "row") ∈ lw_tbl := lw_at lw_m6 80 rfl
theorem q1396 : (Jvm.Cond.stringRef "SkySpireModel" (153 : Nat) "column") ∈ lw_tbl := lw_at lw_m6 81 rfl
theorem q1397 : (Jvm.Cond.stringRef "SkySpireModel" (155 : Nat) "stiff") ∈ lw_tbl := lw_at lw_m6 82 rfl
theorem q1398 : (Jvm.Cond.stringRef "SkySpireModel" (156 : Nat) "way") ∈ lw_tbl := lw_at lw_m6 83 rfl
theorem q1399 : (Jvm.Cond.stringRef "SkySpireModel" (157 : Nat) "force") ∈ lw_tbl := lw_at lw_m6 84 rfl
theorem q1400 : (Jvm.Cond.stringRef "SkySpireModel" (159 : Nat) "ink") ∈ lw_tbl := lw_at lw_m6 85 rfl
theorem q1401 : (Jvm.Cond.stringRef "SkySpireModel" (161 : Nat) "here") ∈ lw_tbl := lw_at lw_m6 86 rfl
theorem q1402 : (Jvm.Cond.stringRef "SkySpireModel" (163 : Nat) "mine") ∈ lw_tbl := lw_at lw_m6 87 rfl
theorem q1403 : (Jvm.Cond.stringRef "SkySpireModel" (167 : Nat) "next") ∈ lw_tbl := lw_at lw_m6 88 rfl
theorem q1404 : (Jvm.Cond.stringRef "SkySpireModel" (169 : Nat) "day") ∈ lw_tbl := lw_at lw_m6 89 rfl
theorem q1405 : (Jvm.Cond.stringRef "SkySpireModel" (310 : Nat) "if") ∈ lw_tbl := lw_at lw_m6 90 rfl
theorem q1406 : (Jvm.Cond.methodLink "SkySpireModel" (312 : Nat) ({ cls := "SkySpireModel", name := "takes", desc := "(Ljava/lang/String;)Z" } : Jvm.MethodName)) ∈ lw_all := lw_g (lw_at lw_m6 91 rfl) rfl
theorem q1407 : (Jvm.Cond.privateMethod ({ cls := "SkySpireModel", name := "takes", desc := "(Ljava/lang/String;)Z" } : Jvm.MethodName)) ∈ lw_tbl := lw_at lw_m6 92 rfl
theorem q1408 : (Jvm.Cond.instanceMethod ({ cls := "SkySpireModel", name := "takes", desc := "(Ljava/lang/String;)Z" } : Jvm.MethodName)) ∈ lw_all := lw_g (lw_at lw_m6 93 rfl) rfl
theorem q1409 : (Jvm.Cond.code ({ cls := "SkySpireModel", name := "takes", desc := "(Ljava/lang/String;)Z" } : Jvm.MethodName) prog_17_method_19_code (3 : Nat) (Option.some Jvm.ClassFile.FieldType.boolean)) ∈ lw_all := lw_g (lw_at lw_m6 94 rfl) rfl
theorem q1410 : (Jvm.Cond.methodLink "SkySpireModel" (315 : Nat) ({ cls := "SkySpireModel", name := "test", desc := "()V" } : Jvm.MethodName)) ∈ lw_all := lw_g (lw_at lw_m6 95 rfl) rfl
theorem q1411 : (Jvm.Cond.privateMethod ({ cls := "SkySpireModel", name := "test", desc := "()V" } : Jvm.MethodName)) ∈ lw_tbl := lw_at lw_m6 96 rfl
theorem q1412 : (Jvm.Cond.instanceMethod ({ cls := "SkySpireModel", name := "test", desc := "()V" } : Jvm.MethodName)) ∈ lw_all := lw_g (lw_at lw_m6 97 rfl) rfl
theorem q1413 : (Jvm.Cond.code ({ cls := "SkySpireModel", name := "test", desc := "()V" } : Jvm.MethodName) prog_17_method_31_code (5 : Nat) (Option.none : Option Jvm.ClassFile.FieldType)) ∈ lw_all := lw_g (lw_at lw_m6 98 rfl) rfl
theorem q1414 : (Jvm.Cond.methodLink "SkySpireModel" (258 : Nat) ({ cls := "SkySpireModel", name := "fact", desc := "()Z" } : Jvm.MethodName)) ∈ lw_all := lw_g (lw_at lw_m6 99 rfl) rfl
theorem q1415 : (Jvm.Cond.privateMethod ({ cls := "SkySpireModel", name := "fact", desc := "()Z" } : Jvm.MethodName)) ∈ lw_tbl := lw_at lw_m6 100 rfl
theorem q1416 : (Jvm.Cond.instanceMethod ({ cls := "SkySpireModel", name := "fact", desc := "()Z" } : Jvm.MethodName)) ∈ lw_all := lw_g (lw_at lw_m6 101 rfl) rfl
theorem q1417 : (Jvm.Cond.code ({ cls := "SkySpireModel", name := "fact", desc := "()Z" } : Jvm.MethodName) prog_17_method_30_code (1 : Nat) (Option.some Jvm.ClassFile.FieldType.boolean)) ∈ lw_all := lw_g (lw_at lw_m6 102 rfl) rfl
theorem q1418 : (Jvm.Cond.stringRef "SkySpireModel" (250 : Nat) "not") ∈ lw_tbl := lw_at lw_m6 103 rfl
theorem q1419 : (Jvm.Cond.methodLink "SkySpireModel" (252 : Nat) ({ cls := "SkySpireModel", name := "opens", desc := "(I)V" } : Jvm.MethodName)) ∈ lw_all := lw_g (lw_at lw_m6 104 rfl) rfl
theorem q1420 : (Jvm.Cond.privateMethod ({ cls := "SkySpireModel", name := "opens", desc := "(I)V" } : Jvm.MethodName)) ∈ lw_tbl := lw_at lw_m6 105 rfl
theorem q1421 : (Jvm.Cond.instanceMethod ({ cls := "SkySpireModel", name := "opens", desc := "(I)V" } : Jvm.MethodName)) ∈ lw_all := lw_g (lw_at lw_m6 106 rfl) rfl
theorem q1422 : (Jvm.Cond.code ({ cls := "SkySpireModel", name := "opens", desc := "(I)V" } : Jvm.MethodName) prog_17_method_28_code (2 : Nat) (Option.none : Option Jvm.ClassFile.FieldType)) ∈ lw_all := lw_g (lw_at lw_m6 107 rfl) rfl
theorem q1423 : (Jvm.Cond.methodLink "SkySpireModel" (255 : Nat) ({ cls := "SkySpireModel", name := "compared", desc := "()V" } : Jvm.MethodName)) ∈ lw_all := lw_g (lw_at lw_m6 108 rfl) rfl
theorem q1424 : (Jvm.Cond.privateMethod ({ cls := "SkySpireModel", name := "compared", desc := "()V" } : Jvm.MethodName)) ∈ lw_tbl := lw_at lw_m6 109 rfl
theorem q1425 : (Jvm.Cond.instanceMethod ({ cls := "SkySpireModel", name := "compared", desc := "()V" } : Jvm.MethodName)) ∈ lw_all := lw_g (lw_at lw_m6 110 rfl) rfl
theorem q1426 : (Jvm.Cond.code ({ cls := "SkySpireModel", name := "compared", desc := "()V" } : Jvm.MethodName) prog_17_method_26_code (3 : Nat) (Option.none : Option Jvm.ClassFile.FieldType)) ∈ lw_all := lw_g (lw_at lw_m6 111 rfl) rfl
theorem q1427 : (Jvm.Cond.methodLink "SkySpireModel" (261 : Nat) ({ cls := "SkySpireModel", name := "answers", desc := "(I)V" } : Jvm.MethodName)) ∈ lw_all := lw_g (lw_at lw_m6 112 rfl) rfl
theorem q1428 : (Jvm.Cond.privateMethod ({ cls := "SkySpireModel", name := "answers", desc := "(I)V" } : Jvm.MethodName)) ∈ lw_tbl := lw_at lw_m6 113 rfl
theorem q1429 : (Jvm.Cond.instanceMethod ({ cls := "SkySpireModel", name := "answers", desc := "(I)V" } : Jvm.MethodName)) ∈ lw_all := lw_g (lw_at lw_m6 114 rfl) rfl
theorem q1430 : (Jvm.Cond.code ({ cls := "SkySpireModel", name := "answers", desc := "(I)V" } : Jvm.MethodName) prog_17_method_29_code (2 : Nat) (Option.none : Option Jvm.ClassFile.FieldType)) ∈ lw_all := lw_g (lw_at lw_m6 115 rfl) rfl
theorem q1431 : (Jvm.Cond.methodLink "SkySpireModel" (247 : Nat) ({ cls := "SkySpireModel", name := "top", desc := "()I" } : Jvm.MethodName)) ∈ lw_all := lw_g (lw_at lw_m6 116 rfl) rfl
theorem q1432 : (Jvm.Cond.privateMethod ({ cls := "SkySpireModel", name := "top", desc := "()I" } : Jvm.MethodName)) ∈ lw_tbl := lw_at lw_m6 117 rfl
theorem q1433 : (Jvm.Cond.instanceMethod ({ cls := "SkySpireModel", name := "top", desc := "()I" } : Jvm.MethodName)) ∈ lw_all := lw_g (lw_at lw_m6 118 rfl) rfl
theorem q1434 : (Jvm.Cond.code ({ cls := "SkySpireModel", name := "top", desc := "()I" } : Jvm.MethodName) prog_17_method_27_code (1 : Nat) (Option.some Jvm.ClassFile.FieldType.int)) ∈ lw_all := lw_g (lw_at lw_m6 119 rfl) rfl
theorem q1435 : (Jvm.Cond.stringRef "SkySpireModel" (264 : Nat) "and") ∈ lw_tbl := lw_at lw_m6 120 rfl
theorem q1436 : (Jvm.Cond.stringRef "SkySpireModel" (266 : Nat) "or") ∈ lw_tbl := lw_at lw_m6 121 rfl
theorem q1438 : (Jvm.Cond.instanceMethod ({ cls := "SkySpireModel", name := "force", desc := "(I)I" } : Jvm.MethodName)) ∈ lw_all := lw_g (lw_at lw_m6 123 rfl) rfl
theorem q1439 : (Jvm.Cond.selects "SkySpireModel" ({ cls := "SkySpireModel", name := "force", desc := "(I)I" } : Jvm.MethodName) ({ cls := "SkySpireModel", name := "force", desc := "(I)I" } : Jvm.MethodName)) ∈ lw_all := lw_g (lw_at lw_m6 124 rfl) rfl
theorem q1440 : (Jvm.Cond.code ({ cls := "SkySpireModel", name := "force", desc := "(I)I" } : Jvm.MethodName) prog_17_method_45_code (3 : Nat) (Option.some Jvm.ClassFile.FieldType.int)) ∈ lw_all := lw_g (lw_at lw_m6 125 rfl) rfl
theorem q1441 : (Jvm.Cond.constantLong "SkySpireModel" (324 : Nat) (-1 : Int64)) ∈ lw_all := lw_g (lw_at lw_m6 126 rfl) rfl
theorem q1443 : (Jvm.Cond.instanceMethod ({ cls := "SkySpireModel", name := "pen", desc := "(II)I" } : Jvm.MethodName)) ∈ lw_all := lw_g (lw_at lw_m6 128 rfl) rfl
theorem q1444 : (Jvm.Cond.selects "SkySpireModel" ({ cls := "SkySpireModel", name := "pen", desc := "(II)I" } : Jvm.MethodName) ({ cls := "SkySpireModel", name := "pen", desc := "(II)I" } : Jvm.MethodName)) ∈ lw_all := lw_g (lw_at lw_m6 129 rfl) rfl
theorem q1445 : (Jvm.Cond.code ({ cls := "SkySpireModel", name := "pen", desc := "(II)I" } : Jvm.MethodName) prog_17_method_53_code (3 : Nat) (Option.some Jvm.ClassFile.FieldType.int)) ∈ lw_all := lw_g (lw_at lw_m6 130 rfl) rfl
theorem q1446 : (Jvm.Cond.methodLink "SkySpireModel" (341 : Nat) ({ cls := "SkySpireModel", name := "isPen", desc := "(I)Z" } : Jvm.MethodName)) ∈ lw_all := lw_g (lw_at lw_m6 131 rfl) rfl
theorem q1447 : (Jvm.Cond.privateMethod ({ cls := "SkySpireModel", name := "isPen", desc := "(I)Z" } : Jvm.MethodName)) ∈ lw_tbl := lw_at lw_m6 132 rfl
theorem q1448 : (Jvm.Cond.instanceMethod ({ cls := "SkySpireModel", name := "isPen", desc := "(I)Z" } : Jvm.MethodName)) ∈ lw_all := lw_g (lw_at lw_m6 133 rfl) rfl
theorem q1449 : (Jvm.Cond.code ({ cls := "SkySpireModel", name := "isPen", desc := "(I)Z" } : Jvm.MethodName) prog_17_method_9_code (2 : Nat) (Option.some Jvm.ClassFile.FieldType.boolean)) ∈ lw_all := lw_g (lw_at lw_m6 134 rfl) rfl
theorem q1450 : (Jvm.Cond.methodLink "SkySpireModel" (338 : Nat) ({ cls := "SkySpireModel", name := "strokesOf", desc := "(I)I" } : Jvm.MethodName)) ∈ lw_all := lw_g (lw_at lw_m6 135 rfl) rfl
theorem q1451 : (Jvm.Cond.privateMethod ({ cls := "SkySpireModel", name := "strokesOf", desc := "(I)I" } : Jvm.MethodName)) ∈ lw_tbl := lw_at lw_m6 136 rfl
theorem q1452 : (Jvm.Cond.instanceMethod ({ cls := "SkySpireModel", name := "strokesOf", desc := "(I)I" } : Jvm.MethodName)) ∈ lw_all := lw_g (lw_at lw_m6 137 rfl) rfl
theorem q1453 : (Jvm.Cond.code ({ cls := "SkySpireModel", name := "strokesOf", desc := "(I)I" } : Jvm.MethodName) prog_17_method_50_code (4 : Nat) (Option.some Jvm.ClassFile.FieldType.int)) ∈ lw_all := lw_g (lw_at lw_m6 138 rfl) rfl
theorem q1454 : (Jvm.Cond.methodLink "SkySpireModel" (134 : Nat) ({ cls := "SkySpireModel", name := "cells", desc := "()I" } : Jvm.MethodName)) ∈ lw_all := lw_g (lw_at lw_m6 139 rfl) rfl
theorem q1455 : (Jvm.Cond.privateMethod ({ cls := "SkySpireModel", name := "cells", desc := "()I" } : Jvm.MethodName)) ∈ lw_tbl := lw_at lw_m6 140 rfl
theorem q1456 : (Jvm.Cond.instanceMethod ({ cls := "SkySpireModel", name := "cells", desc := "()I" } : Jvm.MethodName)) ∈ lw_all := lw_g (lw_at lw_m6 141 rfl) rfl
theorem q1457 : (Jvm.Cond.code ({ cls := "SkySpireModel", name := "cells", desc := "()I" } : Jvm.MethodName) prog_17_method_7_code (1 : Nat) (Option.some Jvm.ClassFile.FieldType.int)) ∈ lw_all := lw_g (lw_at lw_m6 142 rfl) rfl
theorem q1459 : (Jvm.Cond.instanceMethod ({ cls := "SkySpireModel", name := "cell", desc := "(II)I" } : Jvm.MethodName)) ∈ lw_all := lw_g (lw_at lw_m6 144 rfl) rfl
theorem q1460 : (Jvm.Cond.selects "SkySpireModel" ({ cls := "SkySpireModel", name := "cell", desc := "(II)I" } : Jvm.MethodName) ({ cls := "SkySpireModel", name := "cell", desc := "(II)I" } : Jvm.MethodName)) ∈ lw_all := lw_g (lw_at lw_m6 145 rfl) rfl
theorem q1461 : (Jvm.Cond.code ({ cls := "SkySpireModel", name := "cell", desc := "(II)I" } : Jvm.MethodName) prog_17_method_54_code (3 : Nat) (Option.some Jvm.ClassFile.FieldType.int)) ∈ lw_all := lw_g (lw_at lw_m6 146 rfl) rfl
theorem q1462 : (Jvm.Cond.methodLink "SkySpireModel" (345 : Nat) ({ cls := "SkySpireModel", name := "isCell", desc := "(I)Z" } : Jvm.MethodName)) ∈ lw_all := lw_g (lw_at lw_m6 147 rfl) rfl
theorem q1463 : (Jvm.Cond.privateMethod ({ cls := "SkySpireModel", name := "isCell", desc := "(I)Z" } : Jvm.MethodName)) ∈ lw_tbl := lw_at lw_m6 148 rfl
theorem q1464 : (Jvm.Cond.instanceMethod ({ cls := "SkySpireModel", name := "isCell", desc := "(I)Z" } : Jvm.MethodName)) ∈ lw_all := lw_g (lw_at lw_m6 149 rfl) rfl
theorem q1465 : (Jvm.Cond.code ({ cls := "SkySpireModel", name := "isCell", desc := "(I)Z" } : Jvm.MethodName) prog_17_method_8_code (2 : Nat) (Option.some Jvm.ClassFile.FieldType.boolean)) ∈ lw_all := lw_g (lw_at lw_m6 150 rfl) rfl
theorem q1466 : (Jvm.Cond.constantLong "SkySpireModel" (348 : Nat) (2 : Int64)) ∈ lw_all := lw_g (lw_at lw_m6 151 rfl) rfl
theorem q1468 : (Jvm.Cond.instanceMethod ({ cls := "SkySpireModel", name := "undo", desc := "()I" } : Jvm.MethodName)) ∈ lw_all := lw_g (lw_at lw_m6 153 rfl) rfl
theorem q1469 : (Jvm.Cond.selects "SkySpireModel" ({ cls := "SkySpireModel", name := "undo", desc := "()I" } : Jvm.MethodName) ({ cls := "SkySpireModel", name := "undo", desc := "()I" } : Jvm.MethodName)) ∈ lw_all := lw_g (lw_at lw_m6 154 rfl) rfl
theorem q1470 : (Jvm.Cond.code ({ cls := "SkySpireModel", name := "undo", desc := "()I" } : Jvm.MethodName) prog_17_method_69_code (1 : Nat) (Option.some Jvm.ClassFile.FieldType.int)) ∈ lw_all := lw_g (lw_at lw_m6 155 rfl) rfl
theorem q1471 : (Jvm.Cond.methodLink "SkySpireModel" (398 : Nat) ({ cls := "SkySpireModel", name := "movesAll", desc := "(IZ)V" } : Jvm.MethodName)) ∈ lw_all := lw_g (lw_at lw_m6 156 rfl) rfl
theorem q1472 : (Jvm.Cond.privateMethod ({ cls := "SkySpireModel", name := "movesAll", desc := "(IZ)V" } : Jvm.MethodName)) ∈ lw_tbl := lw_at lw_m6 157 rfl
theorem q1473 : (Jvm.Cond.instanceMethod ({ cls := "SkySpireModel", name := "movesAll", desc := "(IZ)V" } : Jvm.MethodName)) ∈ lw_all := lw_g (lw_at lw_m6 158 rfl) rfl
theorem q1474 : (Jvm.Cond.code ({ cls := "SkySpireModel", name := "movesAll", desc := "(IZ)V" } : Jvm.MethodName) prog_17_method_67_code (4 : Nat) (Option.none : Option Jvm.ClassFile.FieldType)) ∈ lw_all := lw_g (lw_at lw_m6 159 rfl) rfl
theorem q1475 : (Jvm.Cond.methodLink "SkySpireModel" (391 : Nat) ({ cls := "SkySpireModel", name := "moves", desc := "(I)I" } : Jvm.MethodName)) ∈ lw_all := lw_g (lw_at lw_m6 160 rfl) rfl
theorem q1476 : (Jvm.Cond.privateMethod ({ cls := "SkySpireModel", name := "moves", desc := "(I)I" } : Jvm.MethodName)) ∈ lw_tbl := lw_at lw_m6 161 rfl
theorem q1477 : (Jvm.Cond.instanceMethod ({ cls := "SkySpireModel", name := "moves", desc := "(I)I" } : Jvm.MethodName)) ∈ lw_all := lw_g (lw_at lw_m6 162 rfl) rfl
theorem q1478 : (Jvm.Cond.code ({ cls := "SkySpireModel", name := "moves", desc := "(I)I" } : Jvm.MethodName) prog_17_method_65_code (3 : Nat) (Option.some Jvm.ClassFile.FieldType.int)) ∈ lw_all := lw_g (lw_at lw_m6 163 rfl) rfl
theorem q1479 : (Jvm.Cond.methodLink "SkySpireModel" (394 : Nat) ({ cls := "SkySpireModel", name := "movesRow", desc := "([I)V" } : Jvm.MethodName)) ∈ lw_all := lw_g (lw_at lw_m6 164 rfl) rfl
theorem q1480 : (Jvm.Cond.privateMethod ({ cls := "SkySpireModel", name := "movesRow", desc := "([I)V" } : Jvm.MethodName)) ∈ lw_tbl := lw_at lw_m6 165 rfl
theorem q1481 : (Jvm.Cond.instanceMethod ({ cls := "SkySpireModel", name := "movesRow", desc := "([I)V" } : Jvm.MethodName)) ∈ lw_all := lw_g (lw_at lw_m6 166 rfl) rfl
theorem q1482 : (Jvm.Cond.code ({ cls := "SkySpireModel", name := "movesRow", desc := "([I)V" } : Jvm.MethodName) prog_17_method_66_code (3 : Nat) (Option.none : Option Jvm.ClassFile.FieldType)) ∈ lw_all := lw_g (lw_at lw_m6 167 rfl) rfl
theorem q1484 : (Jvm.Cond.instanceMethod ({ cls := "SkySpireModel", name := "day", desc := "()I" } : Jvm.MethodName)) ∈ lw_all := lw_g (lw_at lw_m6 169 rfl) rfl
theorem q1485 : (Jvm.Cond.selects "SkySpireModel" ({ cls := "SkySpireModel", name := "day", desc := "()I" } : Jvm.MethodName) ({ cls := "SkySpireModel", name := "day", desc := "()I" } : Jvm.MethodName)) ∈ lw_all := lw_g (lw_at lw_m6 170 rfl) rfl
theorem q1486 : (Jvm.Cond.code ({ cls := "SkySpireModel", name := "day", desc := "()I" } : Jvm.MethodName) prog_17_method_70_code (1 : Nat) (Option.some Jvm.ClassFile.FieldType.int)) ∈ lw_all := lw_g (lw_at lw_m6 171 rfl) rfl
theorem q1487 : (Jvm.Cond.methodLink "SkySpireModel" (402 : Nat) ({ cls := "SkySpireModel", name := "isSky", desc := "()Z" } : Jvm.MethodName)) ∈ lw_all := lw_g (lw_at lw_m6 172 rfl) rfl
theorem q1488 : (Jvm.Cond.privateMethod ({ cls := "SkySpireModel", name := "isSky", desc := "()Z" } : Jvm.MethodName)) ∈ lw_tbl := lw_at lw_m6 173 rfl
theorem q1489 : (Jvm.Cond.instanceMethod ({ cls := "SkySpireModel", name := "isSky", desc := "()Z" } : Jvm.MethodName)) ∈ lw_all := lw_g (lw_at lw_m6 174 rfl) rfl
theorem q1490 : (Jvm.Cond.code ({ cls := "SkySpireModel", name := "isSky", desc := "()Z" } : Jvm.MethodName) prog_17_method_6_code (1 : Nat) (Option.some Jvm.ClassFile.FieldType.boolean)) ∈ lw_all := lw_g (lw_at lw_m6 175 rfl) rfl
theorem q1491 : (Jvm.Cond.methodLink "SkySpireModel" (405 : Nat) ({ cls := "SkySpireModel", name := "keepsAct", desc := "()V" } : Jvm.MethodName)) ∈ lw_all := lw_g (lw_at lw_m6 176 rfl) rfl
theorem q1492 : (Jvm.Cond.privateMethod ({ cls := "SkySpireModel", name := "keepsAct", desc := "()V" } : Jvm.MethodName)) ∈ lw_tbl := lw_at lw_m6 177 rfl
theorem q1493 : (Jvm.Cond.instanceMethod ({ cls := "SkySpireModel", name := "keepsAct", desc := "()V" } : Jvm.MethodName)) ∈ lw_all := lw_g (lw_at lw_m6 178 rfl) rfl
theorem q1494 : (Jvm.Cond.code ({ cls := "SkySpireModel", name := "keepsAct", desc := "()V" } : Jvm.MethodName) prog_17_method_68_code (2 : Nat) (Option.none : Option Jvm.ClassFile.FieldType)) ∈ lw_all := lw_g (lw_at lw_m6 179 rfl) rfl
theorem q1495 : (Jvm.Cond.methodLink "SkySpireModel" (381 : Nat) ({ cls := "SkySpireModel", name := "goes", desc := "()I" } : Jvm.MethodName)) ∈ lw_all := lw_g (lw_at lw_m6 180 rfl) rfl
theorem q1496 : (Jvm.Cond.privateMethod ({ cls := "SkySpireModel", name := "goes", desc := "()I" } : Jvm.MethodName)) ∈ lw_tbl := lw_at lw_m6 181 rfl
theorem q1497 : (Jvm.Cond.instanceMethod ({ cls := "SkySpireModel", name := "goes", desc := "()I" } : Jvm.MethodName)) ∈ lw_all := lw_g (lw_at lw_m6 182 rfl) rfl
theorem q1498 : (Jvm.Cond.code ({ cls := "SkySpireModel", name := "goes", desc := "()I" } : Jvm.MethodName) prog_17_method_63_code (3 : Nat) (Option.some Jvm.ClassFile.FieldType.int)) ∈ lw_all := lw_g (lw_at lw_m6 183 rfl) rfl
theorem q1499 : (Jvm.Cond.methodLink "SkySpireModel" (369 : Nat) ({ cls := "SkySpireModel", name := "writes", desc := "(I)Z" } : Jvm.MethodName)) ∈ lw_all := lw_g (lw_at lw_m6 184 rfl) rfl
theorem q1500 : (Jvm.Cond.privateMethod ({ cls := "SkySpireModel", name := "writes", desc := "(I)Z" } : Jvm.MethodName)) ∈ lw_tbl := lw_at lw_m6 185 rfl
theorem q1501 : (Jvm.Cond.instanceMethod ({ cls := "SkySpireModel", name := "writes", desc := "(I)Z" } : Jvm.MethodName)) ∈ lw_all := lw_g (lw_at lw_m6 186 rfl) rfl
theorem q1502 : (Jvm.Cond.code ({ cls := "SkySpireModel", name := "writes", desc := "(I)Z" } : Jvm.MethodName) prog_17_method_58_code (2 : Nat) (Option.some Jvm.ClassFile.FieldType.boolean)) ∈ lw_all := lw_g (lw_at lw_m6 187 rfl) rfl
theorem q1503 : (Jvm.Cond.methodLink "SkySpireModel" (350 : Nat) ({ cls := "SkySpireModel", name := "has", desc := "(II)Z" } : Jvm.MethodName)) ∈ lw_all := lw_g (lw_at lw_m6 188 rfl) rfl
theorem q1504 : (Jvm.Cond.static ({ cls := "SkySpireModel", name := "has", desc := "(II)Z" } : Jvm.MethodName)) ∈ lw_all := lw_g (lw_at lw_m6 189 rfl) rfl
theorem q1505 : (Jvm.Cond.code ({ cls := "SkySpireModel", name := "has", desc := "(II)Z" } : Jvm.MethodName) prog_17_method_5_code (2 : Nat) (Option.some Jvm.ClassFile.FieldType.boolean)) ∈ lw_all := lw_g (lw_at lw_m6 190 rfl) rfl
theorem q1506 : (Jvm.Cond.methodLink "SkySpireModel" (353 : Nat) ({ cls := "SkySpireModel", name := "wayOf", desc := "(I)I" } : Jvm.MethodName)) ∈ lw_all := lw_g (lw_at lw_m6 191 rfl) rfl
theorem q1507 : (Jvm.Cond.privateMethod ({ cls := "SkySpireModel", name := "wayOf", desc := "(I)I" } : Jvm.MethodName)) ∈ lw_tbl := lw_at lw_m6 192 rfl
theorem q1508 : (Jvm.Cond.instanceMethod ({ cls := "SkySpireModel", name := "wayOf", desc := "(I)I" } : Jvm.MethodName)) ∈ lw_all := lw_g (lw_at lw_m6 193 rfl) rfl
theorem q1509 : (Jvm.Cond.code ({ cls := "SkySpireModel", name := "wayOf", desc := "(I)I" } : Jvm.MethodName) prog_17_method_55_code (2 : Nat) (Option.some Jvm.ClassFile.FieldType.int)) ∈ lw_all := lw_g (lw_at lw_m6 194 rfl) rfl
theorem q1510 : (Jvm.Cond.methodLink "SkySpireModel" (356 : Nat) ({ cls := "SkySpireModel", name := "forceOf", desc := "(I)I" } : Jvm.MethodName)) ∈ lw_all := lw_g (lw_at lw_m6 195 rfl) rfl
theorem q1511 : (Jvm.Cond.privateMethod ({ cls := "SkySpireModel", name := "forceOf", desc := "(I)I" } : Jvm.MethodName)) ∈ lw_tbl := lw_at lw_m6 196 rfl
theorem q1512 : (Jvm.Cond.instanceMethod ({ cls := "SkySpireModel", name := "forceOf", desc := "(I)I" } : Jvm.MethodName)) ∈ lw_all := lw_g (lw_at lw_m6 197 rfl) rfl
theorem q1513 : (Jvm.Cond.code ({ cls := "SkySpireModel", name := "forceOf", desc := "(I)I" } : Jvm.MethodName) prog_17_method_56_code (2 : Nat) (Option.some Jvm.ClassFile.FieldType.int)) ∈ lw_all := lw_g (lw_at lw_m6 198 rfl) rfl
theorem q1514 : (Jvm.Cond.methodLink "SkySpireModel" (359 : Nat) ({ cls := "SkySpireModel", name := "wanted", desc := "()J" } : Jvm.MethodName)) ∈ lw_all := lw_g (lw_at lw_m6 199 rfl) rfl
theorem q1515 : (Jvm.Cond.privateMethod ({ cls := "SkySpireModel", name := "wanted", desc := "()J" } : Jvm.MethodName)) ∈ lw_tbl := lw_at lw_m6 200 rfl
theorem q1516 : (Jvm.Cond.instanceMethod ({ cls := "SkySpireModel", name := "wanted", desc := "()J" } : Jvm.MethodName)) ∈ lw_all := lw_g (lw_at lw_m6 201 rfl) rfl
theorem q1517 : (Jvm.Cond.code ({ cls := "SkySpireModel", name := "wanted", desc := "()J" } : Jvm.MethodName) prog_17_method_46_code (3 : Nat) (Option.some Jvm.ClassFile.FieldType.long)) ∈ lw_all := lw_g (lw_at lw_m6 202 rfl) rfl
theorem q1518 : (Jvm.Cond.methodLink "SkySpireModel" (326 : Nat) ({ cls := "SkySpireModel", name := "answer", desc := "(III)J" } : Jvm.MethodName)) ∈ lw_all := lw_g (lw_at lw_m6 203 rfl) rfl
theorem q1519 : (Jvm.Cond.privateMethod ({ cls := "SkySpireModel", name := "answer", desc := "(III)J" } : Jvm.MethodName)) ∈ lw_tbl := lw_at lw_m6 204 rfl
theorem q1520 : (Jvm.Cond.instanceMethod ({ cls := "SkySpireModel", name := "answer", desc := "(III)J" } : Jvm.MethodName)) ∈ lw_all := lw_g (lw_at lw_m6 205 rfl) rfl
theorem q1521 : (Jvm.Cond.code ({ cls := "SkySpireModel", name := "answer", desc := "(III)J" } : Jvm.MethodName) prog_17_method_49_code (8 : Nat) (Option.some Jvm.ClassFile.FieldType.long)) ∈ lw_all := lw_g (lw_at lw_m6 206 rfl) rfl
theorem q1522 : (Jvm.Cond.methodLink "SkySpireModel" (334 : Nat) ({ cls := "SkySpireModel", name := "both", desc := "(IJJ)J" } : Jvm.MethodName)) ∈ lw_all := lw_g (lw_at lw_m6 207 rfl) rfl
theorem q1523 : (Jvm.Cond.static ({ cls := "SkySpireModel", name := "both", desc := "(IJJ)J" } : Jvm.MethodName)) ∈ lw_all := lw_g (lw_at lw_m6 208 rfl) rfl
theorem q1524 : (Jvm.Cond.code ({ cls := "SkySpireModel", name := "both", desc := "(IJJ)J" } : Jvm.MethodName) prog_17_method_48_code (5 : Nat) (Option.some Jvm.ClassFile.FieldType.long)) ∈ lw_all := lw_g (lw_at lw_m6 209 rfl) rfl
theorem q1525 : (Jvm.Cond.methodLink "SkySpireModel" (330 : Nat) ({ cls := "SkySpireModel", name := "truth", desc := "(Z)J" } : Jvm.MethodName)) ∈ lw_all := lw_g (lw_at lw_m6 210 rfl) rfl
theorem q1526 : (Jvm.Cond.static ({ cls := "SkySpireModel", name := "truth", desc := "(Z)J" } : Jvm.MethodName)) ∈ lw_all := lw_g (lw_at lw_m6 211 rfl) rfl
theorem q1527 : (Jvm.Cond.code ({ cls := "SkySpireModel", name := "truth", desc := "(Z)J" } : Jvm.MethodName) prog_17_method_47_code (1 : Nat) (Option.some Jvm.ClassFile.FieldType.long)) ∈ lw_all := lw_g (lw_at lw_m6 212 rfl) rfl
theorem q1528 : (Jvm.Cond.methodLink "SkySpireModel" (372 : Nat) ({ cls := "SkySpireModel", name := "drifts", desc := "()V" } : Jvm.MethodName)) ∈ lw_all := lw_g (lw_at lw_m6 213 rfl) rfl
theorem q1529 : (Jvm.Cond.privateMethod ({ cls := "SkySpireModel", name := "drifts", desc := "()V" } : Jvm.MethodName)) ∈ lw_tbl := lw_at lw_m6 214 rfl
theorem q1530 : (Jvm.Cond.instanceMethod ({ cls := "SkySpireModel", name := "drifts", desc := "()V" } : Jvm.MethodName)) ∈ lw_all := lw_g (lw_at lw_m6 215 rfl) rfl
theorem q1531 : (Jvm.Cond.code ({ cls := "SkySpireModel", name := "drifts", desc := "()V" } : Jvm.MethodName) prog_17_method_60_code (4 : Nat) (Option.none : Option Jvm.ClassFile.FieldType)) ∈ lw_all := lw_g (lw_at lw_m6 216 rfl) rfl
theorem q1532 : (Jvm.Cond.methodLink "SkySpireModel" (363 : Nat) ({ cls := "SkySpireModel", name := "beside", desc := "(II)I" } : Jvm.MethodName)) ∈ lw_all := lw_g (lw_at lw_m6 217 rfl) rfl
theorem q1533 : (Jvm.Cond.privateMethod ({ cls := "SkySpireModel", name := "beside", desc := "(II)I" } : Jvm.MethodName)) ∈ lw_tbl := lw_at lw_m6 218 rfl
theorem q1534 : (Jvm.Cond.instanceMethod ({ cls := "SkySpireModel", name := "beside", desc := "(II)I" } : Jvm.MethodName)) ∈ lw_all := lw_g (lw_at lw_m6 219 rfl) rfl
theorem q1535 : (Jvm.Cond.code ({ cls := "SkySpireModel", name := "beside", desc := "(II)I" } : Jvm.MethodName) prog_17_method_57_code (6 : Nat) (Option.some Jvm.ClassFile.FieldType.int)) ∈ lw_all := lw_g (lw_at lw_m6 220 rfl) rfl
theorem q1536 : (Jvm.Cond.methodLink "SkySpireModel" (375 : Nat) ({ cls := "SkySpireModel", name := "strikes", desc := "(I)V" } : Jvm.MethodName)) ∈ lw_all := lw_g (lw_at lw_m6 221 rfl) rfl
theorem q1537 : (Jvm.Cond.privateMethod ({ cls := "SkySpireModel", name := "strikes", desc := "(I)V" } : Jvm.MethodName)) ∈ lw_tbl := lw_at lw_m6 222 rfl
theorem q1538 : (Jvm.Cond.instanceMethod ({ cls := "SkySpireModel", name := "strikes", desc := "(I)V" } : Jvm.MethodName)) ∈ lw_all := lw_g (lw_at lw_m6 223 rfl) rfl
theorem q1539 : (Jvm.Cond.code ({ cls := "SkySpireModel", name := "strikes", desc := "(I)V" } : Jvm.MethodName) prog_17_method_61_code (6 : Nat) (Option.none : Option Jvm.ClassFile.FieldType)) ∈ lw_all := lw_g (lw_at lw_m6 224 rfl) rfl
theorem q1540 : (Jvm.Cond.methodLink "SkySpireModel" (366 : Nat) ({ cls := "SkySpireModel", name := "lays", desc := "(II)V" } : Jvm.MethodName)) ∈ lw_all := lw_g (lw_at lw_m6 225 rfl) rfl
theorem q1541 : (Jvm.Cond.privateMethod ({ cls := "SkySpireModel", name := "lays", desc := "(II)V" } : Jvm.MethodName)) ∈ lw_tbl := lw_at lw_m6 226 rfl
theorem q1542 : (Jvm.Cond.instanceMethod ({ cls := "SkySpireModel", name := "lays", desc := "(II)V" } : Jvm.MethodName)) ∈ lw_all := lw_g (lw_at lw_m6 227 rfl) rfl
theorem q1543 : (Jvm.Cond.code ({ cls := "SkySpireModel", name := "lays", desc := "(II)V" } : Jvm.MethodName) prog_17_method_59_code (3 : Nat) (Option.none : Option Jvm.ClassFile.FieldType)) ∈ lw_all := lw_g (lw_at lw_m6 228 rfl) rfl
theorem q1544 : (Jvm.Cond.methodLink "SkySpireModel" (378 : Nat) ({ cls := "SkySpireModel", name := "fades", desc := "()V" } : Jvm.MethodName)) ∈ lw_all := lw_g (lw_at lw_m6 229 rfl) rfl
theorem q1545 : (Jvm.Cond.privateMethod ({ cls := "SkySpireModel", name := "fades", desc := "()V" } : Jvm.MethodName)) ∈ lw_tbl := lw_at lw_m6 230 rfl
theorem q1546 : (Jvm.Cond.instanceMethod ({ cls := "SkySpireModel", name := "fades", desc := "()V" } : Jvm.MethodName)) ∈ lw_all := lw_g (lw_at lw_m6 231 rfl) rfl
theorem q1547 : (Jvm.Cond.code ({ cls := "SkySpireModel", name := "fades", desc := "()V" } : Jvm.MethodName) prog_17_method_62_code (2 : Nat) (Option.none : Option Jvm.ClassFile.FieldType)) ∈ lw_all := lw_g (lw_at lw_m6 232 rfl) rfl
theorem q1549 : (Jvm.Cond.instanceMethod ({ cls := "SkySpireModel", name := "stay", desc := "(I)I" } : Jvm.MethodName)) ∈ lw_all := lw_g (lw_at lw_m6 234 rfl) rfl
theorem q1550 : (Jvm.Cond.selects "SkySpireModel" ({ cls := "SkySpireModel", name := "stay", desc := "(I)I" } : Jvm.MethodName) ({ cls := "SkySpireModel", name := "stay", desc := "(I)I" } : Jvm.MethodName)) ∈ lw_all := lw_g (lw_at lw_m6 235 rfl) rfl
theorem q1551 : (Jvm.Cond.code ({ cls := "SkySpireModel", name := "stay", desc := "(I)I" } : Jvm.MethodName) prog_17_method_71_code (2 : Nat) (Option.some Jvm.ClassFile.FieldType.int)) ∈ lw_all := lw_g (lw_at lw_m6 236 rfl) rfl
theorem q1553 : (Jvm.Cond.instanceMethod ({ cls := "SkySpireModel", name := "set", desc := "(II)I" } : Jvm.MethodName)) ∈ lw_all := lw_g (lw_at lw_m6 238 rfl) rfl
theorem q1554 : (Jvm.Cond.selects "SkySpireModel" ({ cls := "SkySpireModel", name := "set", desc := "(II)I" } : Jvm.MethodName) ({ cls := "SkySpireModel", name := "set", desc := "(II)I" } : Jvm.MethodName)) ∈ lw_all := lw_g (lw_at lw_m6 239 rfl) rfl
theorem q1555 : (Jvm.Cond.code ({ cls := "SkySpireModel", name := "set", desc := "(II)I" } : Jvm.MethodName) prog_17_method_72_code (4 : Nat) (Option.some Jvm.ClassFile.FieldType.int)) ∈ lw_all := lw_g (lw_at lw_m7 0 rfl) rfl
theorem q1557 : (Jvm.Cond.instanceMethod ({ cls := "SkySpireModel", name := "bend", desc := "(II)I" } : Jvm.MethodName)) ∈ lw_all := lw_g (lw_at lw_m7 2 rfl) rfl
theorem q1558 : (Jvm.Cond.selects "SkySpireModel" ({ cls := "SkySpireModel", name := "bend", desc := "(II)I" } : Jvm.MethodName) ({ cls := "SkySpireModel", name := "bend", desc := "(II)I" } : Jvm.MethodName)) ∈ lw_all := lw_g (lw_at lw_m7 3 rfl) rfl
theorem q1559 : (Jvm.Cond.code ({ cls := "SkySpireModel", name := "bend", desc := "(II)I" } : Jvm.MethodName) prog_17_method_73_code (4 : Nat) (Option.some Jvm.ClassFile.FieldType.int)) ∈ lw_all := lw_g (lw_at lw_m7 4 rfl) rfl
theorem q1560 : (Jvm.Cond.constantLong "SkySpireModel" (408 : Nat) (9 : Int64)) ∈ lw_all := lw_g (lw_at lw_m7 5 rfl) rfl
theorem q1562 : (Jvm.Cond.instanceMethod ({ cls := "SkySpireModel", name := "blot", desc := "(I)I" } : Jvm.MethodName)) ∈ lw_all := lw_g (lw_at lw_m7 7 rfl) rfl
theorem q1563 : (Jvm.Cond.selects "SkySpireModel" ({ cls := "SkySpireModel", name := "blot", desc := "(I)I" } : Jvm.MethodName) ({ cls := "SkySpireModel", name := "blot", desc := "(I)I" } : Jvm.MethodName)) ∈ lw_all := lw_g (lw_at lw_m7 8 rfl) rfl
theorem q1564 : (Jvm.Cond.code ({ cls := "SkySpireModel", name := "blot", desc := "(I)I" } : Jvm.MethodName) prog_17_method_74_code (3 : Nat) (Option.some Jvm.ClassFile.FieldType.int)) ∈ lw_all := lw_g (lw_at lw_m7 9 rfl) rfl
theorem q1566 : (Jvm.Cond.instanceMethod ({ cls := "SkySpireModel", name := "ahead", desc := "(III)I" } : Jvm.MethodName)) ∈ lw_all := lw_g (lw_at lw_m7 11 rfl) rfl
theorem q1567 : (Jvm.Cond.selects "SkySpireModel" ({ cls := "SkySpireModel", name := "ahead", desc := "(III)I" } : Jvm.MethodName) ({ cls := "SkySpireModel", name := "ahead", desc := "(III)I" } : Jvm.MethodName)) ∈ lw_all := lw_g (lw_at lw_m7 12 rfl) rfl
theorem q1568 : (Jvm.Cond.code ({ cls := "SkySpireModel", name := "ahead", desc := "(III)I" } : Jvm.MethodName) prog_17_method_78_code (6 : Nat) (Option.some Jvm.ClassFile.FieldType.int)) ∈ lw_all := lw_g (lw_at lw_m7 13 rfl) rfl
theorem q1569 : (Jvm.Cond.constantLong "SkySpireModel" (422 : Nat) (3 : Int64)) ∈ lw_all := lw_g (lw_at lw_m7 14 rfl) rfl
theorem q1570 : (Jvm.Cond.constantLong "SkySpireModel" (424 : Nat) (100 : Int64)) ∈ lw_all := lw_g (lw_at lw_m7 15 rfl) rfl
theorem q1571 : (Jvm.Cond.methodLink "SkySpireModel" (426 : Nat) ({ cls := "SkySpireModel", name := "keepsAll", desc := "()V" } : Jvm.MethodName)) ∈ lw_all := lw_g (lw_at lw_m7 16 rfl) rfl
theorem q1572 : (Jvm.Cond.privateMethod ({ cls := "SkySpireModel", name := "keepsAll", desc := "()V" } : Jvm.MethodName)) ∈ lw_tbl := lw_at lw_m7 17 rfl
theorem q1573 : (Jvm.Cond.instanceMethod ({ cls := "SkySpireModel", name := "keepsAll", desc := "()V" } : Jvm.MethodName)) ∈ lw_all := lw_g (lw_at lw_m7 18 rfl) rfl
theorem q1574 : (Jvm.Cond.code ({ cls := "SkySpireModel", name := "keepsAll", desc := "()V" } : Jvm.MethodName) prog_17_method_75_code (1 : Nat) (Option.none : Option Jvm.ClassFile.FieldType)) ∈ lw_all := lw_g (lw_at lw_m7 19 rfl) rfl
theorem q1575 : (Jvm.Cond.methodLink "SkySpireModel" (410 : Nat) ({ cls := "SkySpireModel", name := "carriesAll", desc := "(IZ)V" } : Jvm.MethodName)) ∈ lw_all := lw_g (lw_at lw_m7 20 rfl) rfl
theorem q1576 : (Jvm.Cond.privateMethod ({ cls := "SkySpireModel", name := "carriesAll", desc := "(IZ)V" } : Jvm.MethodName)) ∈ lw_tbl := lw_at lw_m7 21 rfl
theorem q1577 : (Jvm.Cond.instanceMethod ({ cls := "SkySpireModel", name := "carriesAll", desc := "(IZ)V" } : Jvm.MethodName)) ∈ lw_all := lw_g (lw_at lw_m7 22 rfl) rfl
theorem q1578 : (Jvm.Cond.code ({ cls := "SkySpireModel", name := "carriesAll", desc := "(IZ)V" } : Jvm.MethodName) prog_17_method_108_code (3 : Nat) (Option.none : Option Jvm.ClassFile.FieldType)) ∈ lw_all := lw_g (lw_at lw_m7 23 rfl) rfl
theorem q1579 : (Jvm.Cond.methodLink "SkySpireModel" (504 : Nat) ({ cls := "SkySpireModel", name := "carryRow", desc := "([I)V" } : Jvm.MethodName)) ∈ lw_all := lw_g (lw_at lw_m7 24 rfl) rfl
theorem q1580 : (Jvm.Cond.privateMethod ({ cls := "SkySpireModel", name := "carryRow", desc := "([I)V" } : Jvm.MethodName)) ∈ lw_tbl := lw_at lw_m7 25 rfl
theorem q1581 : (Jvm.Cond.instanceMethod ({ cls := "SkySpireModel", name := "carryRow", desc := "([I)V" } : Jvm.MethodName)) ∈ lw_all := lw_g (lw_at lw_m7 26 rfl) rfl
theorem q1582 : (Jvm.Cond.code ({ cls := "SkySpireModel", name := "carryRow", desc := "([I)V" } : Jvm.MethodName) prog_17_method_107_code (3 : Nat) (Option.none : Option Jvm.ClassFile.FieldType)) ∈ lw_all := lw_g (lw_at lw_m7 27 rfl) rfl
theorem q1583 : (Jvm.Cond.methodLink "SkySpireModel" (413 : Nat) ({ cls := "SkySpireModel", name := "goFor", desc := "(I)V" } : Jvm.MethodName)) ∈ lw_all := lw_g (lw_at lw_m7 28 rfl) rfl
theorem q1584 : (Jvm.Cond.privateMethod ({ cls := "SkySpireModel", name := "goFor", desc := "(I)V" } : Jvm.MethodName)) ∈ lw_tbl := lw_at lw_m7 29 rfl
theorem q1585 : (Jvm.Cond.instanceMethod ({ cls := "SkySpireModel", name := "goFor", desc := "(I)V" } : Jvm.MethodName)) ∈ lw_all := lw_g (lw_at lw_m7 30 rfl) rfl
theorem q1586 : (Jvm.Cond.code ({ cls := "SkySpireModel", name := "goFor", desc := "(I)V" } : Jvm.MethodName) prog_17_method_64_code (3 : Nat) (Option.none : Option Jvm.ClassFile.FieldType)) ∈ lw_all := lw_g (lw_at lw_m7 31 rfl) rfl
theorem q1587 : (Jvm.Cond.methodLink "SkySpireModel" (429 : Nat) ({ cls := "SkySpireModel", name := "allStrokes", desc := "()I" } : Jvm.MethodName)) ∈ lw_all := lw_g (lw_at lw_m7 32 rfl) rfl
theorem q1588 : (Jvm.Cond.privateMethod ({ cls := "SkySpireModel", name := "allStrokes", desc := "()I" } : Jvm.MethodName)) ∈ lw_tbl := lw_at lw_m7 33 rfl
theorem q1589 : (Jvm.Cond.instanceMethod ({ cls := "SkySpireModel", name := "allStrokes", desc := "()I" } : Jvm.MethodName)) ∈ lw_all := lw_g (lw_at lw_m7 34 rfl) rfl
theorem q1590 : (Jvm.Cond.code ({ cls := "SkySpireModel", name := "allStrokes", desc := "()I" } : Jvm.MethodName) prog_17_method_51_code (1 : Nat) (Option.some Jvm.ClassFile.FieldType.int)) ∈ lw_all := lw_g (lw_at lw_m7 35 rfl) rfl
theorem q1591 : (Jvm.Cond.methodLink "SkySpireModel" (416 : Nat) ({ cls := "SkySpireModel", name := "like", desc := "()I" } : Jvm.MethodName)) ∈ lw_all := lw_g (lw_at lw_m7 36 rfl) rfl
theorem q1592 : (Jvm.Cond.privateMethod ({ cls := "SkySpireModel", name := "like", desc := "()I" } : Jvm.MethodName)) ∈ lw_tbl := lw_at lw_m7 37 rfl
theorem q1593 : (Jvm.Cond.instanceMethod ({ cls := "SkySpireModel", name := "like", desc := "()I" } : Jvm.MethodName)) ∈ lw_all := lw_g (lw_at lw_m7 38 rfl) rfl
theorem q1594 : (Jvm.Cond.code ({ cls := "SkySpireModel", name := "like", desc := "()I" } : Jvm.MethodName) prog_17_method_52_code (3 : Nat) (Option.some Jvm.ClassFile.FieldType.int)) ∈ lw_all := lw_g (lw_at lw_m7 39 rfl) rfl
theorem q1595 : (Jvm.Cond.methodLink "SkySpireModel" (419 : Nat) ({ cls := "SkySpireModel", name := "laysBack", desc := "()V" } : Jvm.MethodName)) ∈ lw_all := lw_g (lw_at lw_m7 40 rfl) rfl
theorem q1596 : (Jvm.Cond.privateMethod ({ cls := "SkySpireModel", name := "laysBack", desc := "()V" } : Jvm.MethodName)) ∈ lw_tbl := lw_at lw_m7 41 rfl
theorem q1597 : (Jvm.Cond.instanceMethod ({ cls := "SkySpireModel", name := "laysBack", desc := "()V" } : Jvm.MethodName)) ∈ lw_all := lw_g (lw_at lw_m7 42 rfl) rfl
theorem q1598 : (Jvm.Cond.code ({ cls := "SkySpireModel", name := "laysBack", desc := "()V" } : Jvm.MethodName) prog_17_method_76_code (1 : Nat) (Option.none : Option Jvm.ClassFile.FieldType)) ∈ lw_all := lw_g (lw_at lw_m7 43 rfl) rfl
theorem q1600 : (Jvm.Cond.instanceMethod ({ cls := "SkySpireModel", name := "sign", desc := "()I" } : Jvm.MethodName)) ∈ lw_all := lw_g (lw_at lw_m7 45 rfl) rfl
theorem q1601 : (Jvm.Cond.selects "SkySpireModel" ({ cls := "SkySpireModel", name := "sign", desc := "()I" } : Jvm.MethodName) ({ cls := "SkySpireModel", name := "sign", desc := "()I" } : Jvm.MethodName)) ∈ lw_all := lw_g (lw_at lw_m7 46 rfl) rfl
theorem q1602 : (Jvm.Cond.code ({ cls := "SkySpireModel", name := "sign", desc := "()I" } : Jvm.MethodName) prog_17_method_81_code (1 : Nat) (Option.some Jvm.ClassFile.FieldType.int)) ∈ lw_all := lw_g (lw_at lw_m7 47 rfl) rfl
theorem q1603 : (Jvm.Cond.methodLink "SkySpireModel" (436 : Nat) ({ cls := "SkySpireModel", name := "signedAt", desc := "(Z)I" } : Jvm.MethodName)) ∈ lw_all := lw_g (lw_at lw_m7 48 rfl) rfl
theorem q1604 : (Jvm.Cond.privateMethod ({ cls := "SkySpireModel", name := "signedAt", desc := "(Z)I" } : Jvm.MethodName)) ∈ lw_tbl := lw_at lw_m7 49 rfl
theorem q1605 : (Jvm.Cond.instanceMethod ({ cls := "SkySpireModel", name := "signedAt", desc := "(Z)I" } : Jvm.MethodName)) ∈ lw_all := lw_g (lw_at lw_m7 50 rfl) rfl
theorem q1606 : (Jvm.Cond.code ({ cls := "SkySpireModel", name := "signedAt", desc := "(Z)I" } : Jvm.MethodName) prog_17_method_80_code (4 : Nat) (Option.some Jvm.ClassFile.FieldType.int)) ∈ lw_all := lw_g (lw_at lw_m7 51 rfl) rfl
theorem q1607 : (Jvm.Cond.methodLink "SkySpireModel" (432 : Nat) ({ cls := "SkySpireModel", name := "isSigned", desc := "(Z)Z" } : Jvm.MethodName)) ∈ lw_all := lw_g (lw_at lw_m7 52 rfl) rfl
theorem q1608 : (Jvm.Cond.privateMethod ({ cls := "SkySpireModel", name := "isSigned", desc := "(Z)Z" } : Jvm.MethodName)) ∈ lw_tbl := lw_at lw_m7 53 rfl
theorem q1609 : (Jvm.Cond.instanceMethod ({ cls := "SkySpireModel", name := "isSigned", desc := "(Z)Z" } : Jvm.MethodName)) ∈ lw_all := lw_g (lw_at lw_m7 54 rfl) rfl
theorem q1610 : (Jvm.Cond.code ({ cls := "SkySpireModel", name := "isSigned", desc := "(Z)Z" } : Jvm.MethodName) prog_17_method_79_code (3 : Nat) (Option.some Jvm.ClassFile.FieldType.boolean)) ∈ lw_all := lw_g (lw_at lw_m7 55 rfl) rfl
theorem q1612 : (Jvm.Cond.instanceMethod ({ cls := "SkySpireModel", name := "clean", desc := "()I" } : Jvm.MethodName)) ∈ lw_all := lw_g (lw_at lw_m7 57 rfl) rfl
theorem q1613 : (Jvm.Cond.selects "SkySpireModel" ({ cls := "SkySpireModel", name := "clean", desc := "()I" } : Jvm.MethodName) ({ cls := "SkySpireModel", name := "clean", desc := "()I" } : Jvm.MethodName)) ∈ lw_all := lw_g (lw_at lw_m7 58 rfl) rfl
theorem q1614 : (Jvm.Cond.code ({ cls := "SkySpireModel", name := "clean", desc := "()I" } : Jvm.MethodName) prog_17_method_82_code (1 : Nat) (Option.some Jvm.ClassFile.FieldType.int)) ∈ lw_all := lw_g (lw_at lw_m7 59 rfl) rfl
theorem q1616 : (Jvm.Cond.instanceMethod ({ cls := "SkySpireModel", name := "hold", desc := "(II)I" } : Jvm.MethodName)) ∈ lw_all := lw_g (lw_at lw_m7 61 rfl) rfl
theorem q1617 : (Jvm.Cond.selects "SkySpireModel" ({ cls := "SkySpireModel", name := "hold", desc := "(II)I" } : Jvm.MethodName) ({ cls := "SkySpireModel", name := "hold", desc := "(II)I" } : Jvm.MethodName)) ∈ lw_all := lw_g (lw_at lw_m7 62 rfl) rfl
theorem q1618 : (Jvm.Cond.code ({ cls := "SkySpireModel", name := "hold", desc := "(II)I" } : Jvm.MethodName) prog_17_method_83_code (7 : Nat) (Option.some Jvm.ClassFile.FieldType.int)) ∈ lw_all := lw_g (lw_at lw_m7 63 rfl) rfl
theorem q1619 : (Jvm.Cond.constantLong "SkySpireModel" (440 : Nat) (60 : Int64)) ∈ lw_all := lw_g (lw_at lw_m7 64 rfl) rfl
theorem q1620 : (Jvm.Cond.methodLink "SkySpireModel" (442 : Nat) ({ cls := "SkySpireModel", name := "likeIn", desc := "(I)I" } : Jvm.MethodName)) ∈ lw_all := lw_g (lw_at lw_m7 65 rfl) rfl
theorem q1621 : (Jvm.Cond.privateMethod ({ cls := "SkySpireModel", name := "likeIn", desc := "(I)I" } : Jvm.MethodName)) ∈ lw_tbl := lw_at lw_m7 66 rfl
theorem q1622 : (Jvm.Cond.instanceMethod ({ cls := "SkySpireModel", name := "likeIn", desc := "(I)I" } : Jvm.MethodName)) ∈ lw_all := lw_g (lw_at lw_m7 67 rfl) rfl
theorem q1623 : (Jvm.Cond.code ({ cls := "SkySpireModel", name := "likeIn", desc := "(I)I" } : Jvm.MethodName) prog_17_method_77_code (3 : Nat) (Option.some Jvm.ClassFile.FieldType.int)) ∈ lw_all := lw_g (lw_at lw_m7 68 rfl) rfl
theorem q1624 : (Jvm.Cond.methodLink "SkySpireModel" (445 : Nat) ({ cls := "SkySpireModel", name := "bits", desc := "(I)I" } : Jvm.MethodName)) ∈ lw_all := lw_g (lw_at lw_m7 69 rfl) rfl
theorem q1625 : (Jvm.Cond.static ({ cls := "SkySpireModel", name := "bits", desc := "(I)I" } : Jvm.MethodName)) ∈ lw_all := lw_g (lw_at lw_m7 70 rfl) rfl
theorem q1626 : (Jvm.Cond.code ({ cls := "SkySpireModel", name := "bits", desc := "(I)I" } : Jvm.MethodName) prog_17_method_4_code (3 : Nat) (Option.some Jvm.ClassFile.FieldType.int)) ∈ lw_all := lw_g (lw_at lw_m7 71 rfl) rfl
theorem q1628 : (Jvm.Cond.instanceMethod ({ cls := "SkySpireModel", name := "wrote", desc := "(II)I" } : Jvm.MethodName)) ∈ lw_all := lw_g (lw_at lw_m7 73 rfl) rfl
theorem q1629 : (Jvm.Cond.selects "SkySpireModel" ({ cls := "SkySpireModel", name := "wrote", desc := "(II)I" } : Jvm.MethodName) ({ cls := "SkySpireModel", name := "wrote", desc := "(II)I" } : Jvm.MethodName)) ∈ lw_all := lw_g (lw_at lw_m7 74 rfl) rfl
theorem q1630 : (Jvm.Cond.code ({ cls := "SkySpireModel", name := "wrote", desc := "(II)I" } : Jvm.MethodName) prog_17_method_85_code (5 : Nat) (Option.some Jvm.ClassFile.FieldType.int)) ∈ lw_all := lw_g (lw_at lw_m7 75 rfl) rfl
theorem q1631 : (Jvm.Cond.methodLink "SkySpireModel" (448 : Nat) ({ cls := "SkySpireModel", name := "leaves", desc := "(III)Z" } : Jvm.MethodName)) ∈ lw_all := lw_g (lw_at lw_m7 76 rfl) rfl
theorem q1632 : (Jvm.Cond.privateMethod ({ cls := "SkySpireModel", name := "leaves", desc := "(III)Z" } : Jvm.MethodName)) ∈ lw_tbl := lw_at lw_m7 77 rfl
theorem q1633 : (Jvm.Cond.instanceMethod ({ cls := "SkySpireModel", name := "leaves", desc := "(III)Z" } : Jvm.MethodName)) ∈ lw_all := lw_g (lw_at lw_m7 78 rfl) rfl
theorem q1634 : (Jvm.Cond.code ({ cls := "SkySpireModel", name := "leaves", desc := "(III)Z" } : Jvm.MethodName) prog_17_method_84_code (7 : Nat) (Option.some Jvm.ClassFile.FieldType.boolean)) ∈ lw_all := lw_g (lw_at lw_m7 79 rfl) rfl
theorem q1636 : (Jvm.Cond.instanceMethod ({ cls := "SkySpireModel", name := "came", desc := "(IIII)I" } : Jvm.MethodName)) ∈ lw_all := lw_g (lw_at lw_m7 81 rfl) rfl
theorem q1637 : (Jvm.Cond.selects "SkySpireModel" ({ cls := "SkySpireModel", name := "came", desc := "(IIII)I" } : Jvm.MethodName) ({ cls := "SkySpireModel", name := "came", desc := "(IIII)I" } : Jvm.MethodName)) ∈ lw_all := lw_g (lw_at lw_m7 82 rfl) rfl
theorem q1638 : (Jvm.Cond.code ({ cls := "SkySpireModel", name := "came", desc := "(IIII)I" } : Jvm.MethodName) prog_17_method_86_code (9 : Nat) (Option.some Jvm.ClassFile.FieldType.int)) ∈ lw_all := lw_g (lw_at lw_m7 83 rfl) rfl
theorem q1640 : (Jvm.Cond.instanceMethod ({ cls := "SkySpireModel", name := "change", desc := "(II)I" } : Jvm.MethodName)) ∈ lw_all := lw_g (lw_at lw_m7 85 rfl) rfl
theorem q1641 : (Jvm.Cond.selects "SkySpireModel" ({ cls := "SkySpireModel", name := "change", desc := "(II)I" } : Jvm.MethodName) ({ cls := "SkySpireModel", name := "change", desc := "(II)I" } : Jvm.MethodName)) ∈ lw_all := lw_g (lw_at lw_m7 86 rfl) rfl
theorem q1642 : (Jvm.Cond.code ({ cls := "SkySpireModel", name := "change", desc := "(II)I" } : Jvm.MethodName) prog_17_method_88_code (9 : Nat) (Option.some Jvm.ClassFile.FieldType.int)) ∈ lw_all := lw_g (lw_at lw_m7 87 rfl) rfl
theorem q1643 : (Jvm.Cond.methodLink "SkySpireModel" (452 : Nat) ({ cls := "SkySpireModel", name := "swaps", desc := "(II)V" } : Jvm.MethodName)) ∈ lw_all := lw_g (lw_at lw_m7 88 rfl) rfl
theorem q1644 : (Jvm.Cond.privateMethod ({ cls := "SkySpireModel", name := "swaps", desc := "(II)V" } : Jvm.MethodName)) ∈ lw_tbl := lw_at lw_m7 89 rfl
theorem q1645 : (Jvm.Cond.instanceMethod ({ cls := "SkySpireModel", name := "swaps", desc := "(II)V" } : Jvm.MethodName)) ∈ lw_all := lw_g (lw_at lw_m7 90 rfl) rfl
theorem q1646 : (Jvm.Cond.code ({ cls := "SkySpireModel", name := "swaps", desc := "(II)V" } : Jvm.MethodName) prog_17_method_87_code (5 : Nat) (Option.none : Option Jvm.ClassFile.FieldType)) ∈ lw_all := lw_g (lw_at lw_m7 91 rfl) rfl
theorem q1648 : (Jvm.Cond.instanceMethod ({ cls := "SkySpireModel", name := "game", desc := "(IIII)I" } : Jvm.MethodName)) ∈ lw_all := lw_g (lw_at lw_m7 93 rfl) rfl
theorem q1649 : (Jvm.Cond.selects "SkySpireModel" ({ cls := "SkySpireModel", name := "game", desc := "(IIII)I" } : Jvm.MethodName) ({ cls := "SkySpireModel", name := "game", desc := "(IIII)I" } : Jvm.MethodName)) ∈ lw_all := lw_g (lw_at lw_m7 94 rfl) rfl
theorem q1650 : (Jvm.Cond.code ({ cls := "SkySpireModel", name := "game", desc := "(IIII)I" } : Jvm.MethodName) prog_17_method_91_code (8 : Nat) (Option.some Jvm.ClassFile.FieldType.int)) ∈ lw_all := lw_g (lw_at lw_m7 95 rfl) rfl
theorem q1651 : (Jvm.Cond.constantLong "SkySpireModel" (456 : Nat) (4 : Int64)) ∈ lw_all := lw_g (lw_at lw_m7 96 rfl) rfl
theorem q1652 : (Jvm.Cond.methodLink "SkySpireModel" (458 : Nat) ({ cls := "SkySpireModel", name := "playOf", desc := "(IIIII)I" } : Jvm.MethodName)) ∈ lw_all := lw_g (lw_at lw_m7 97 rfl) rfl
theorem q1653 : (Jvm.Cond.privateMethod ({ cls := "SkySpireModel", name := "playOf", desc := "(IIIII)I" } : Jvm.MethodName)) ∈ lw_tbl := lw_at lw_m7 98 rfl
theorem q1654 : (Jvm.Cond.instanceMethod ({ cls := "SkySpireModel", name := "playOf", desc := "(IIIII)I" } : Jvm.MethodName)) ∈ lw_all := lw_g (lw_at lw_m7 99 rfl) rfl
theorem q1655 : (Jvm.Cond.code ({ cls := "SkySpireModel", name := "playOf", desc := "(IIIII)I" } : Jvm.MethodName) prog_17_method_89_code (12 : Nat) (Option.some Jvm.ClassFile.FieldType.int)) ∈ lw_all := lw_g (lw_at lw_m7 100 rfl) rfl
theorem q1656 : (Jvm.Cond.constant "SkySpireModel" (455 : Nat) (-100000 : Int32)) ∈ lw_all := lw_g (lw_at lw_m7 101 rfl) rfl
theorem q1657 : (Jvm.Cond.methodLink "SkySpireModel" (462 : Nat) ({ cls := "SkySpireModel", name := "bestAt", desc := "(IZ)I" } : Jvm.MethodName)) ∈ lw_all := lw_g (lw_at lw_m7 102 rfl) rfl
theorem q1658 : (Jvm.Cond.privateMethod ({ cls := "SkySpireModel", name := "bestAt", desc := "(IZ)I" } : Jvm.MethodName)) ∈ lw_tbl := lw_at lw_m7 103 rfl
theorem q1659 : (Jvm.Cond.instanceMethod ({ cls := "SkySpireModel", name := "bestAt", desc := "(IZ)I" } : Jvm.MethodName)) ∈ lw_all := lw_g (lw_at lw_m7 104 rfl) rfl
theorem q1660 : (Jvm.Cond.code ({ cls := "SkySpireModel", name := "bestAt", desc := "(IZ)I" } : Jvm.MethodName) prog_17_method_90_code (5 : Nat) (Option.some Jvm.ClassFile.FieldType.int)) ∈ lw_all := lw_g (lw_at lw_m7 105 rfl) rfl
theorem q1662 : (Jvm.Cond.instanceMethod ({ cls := "SkySpireModel", name := "rests", desc := "(IIII)I" } : Jvm.MethodName)) ∈ lw_all := lw_g (lw_at lw_m7 107 rfl) rfl
theorem q1663 : (Jvm.Cond.selects "SkySpireModel" ({ cls := "SkySpireModel", name := "rests", desc := "(IIII)I" } : Jvm.MethodName) ({ cls := "SkySpireModel", name := "rests", desc := "(IIII)I" } : Jvm.MethodName)) ∈ lw_all := lw_g (lw_at lw_m7 108 rfl) rfl
theorem q1664 : (Jvm.Cond.code ({ cls := "SkySpireModel", name := "rests", desc := "(IIII)I" } : Jvm.MethodName) prog_17_method_94_code (8 : Nat) (Option.some Jvm.ClassFile.FieldType.int)) ∈ lw_all := lw_g (lw_at lw_m7 109 rfl) rfl
theorem q1665 : (Jvm.Cond.constantLong "SkySpireModel" (466 : Nat) (20 : Int64)) ∈ lw_all := lw_g (lw_at lw_m7 110 rfl) rfl
theorem q1666 : (Jvm.Cond.methodLink "SkySpireModel" (468 : Nat) ({ cls := "SkySpireModel", name := "laysStiffs", desc := "(III)V" } : Jvm.MethodName)) ∈ lw_all := lw_g (lw_at lw_m7 111 rfl) rfl
theorem q1667 : (Jvm.Cond.privateMethod ({ cls := "SkySpireModel", name := "laysStiffs", desc := "(III)V" } : Jvm.MethodName)) ∈ lw_tbl := lw_at lw_m7 112 rfl
theorem q1668 : (Jvm.Cond.instanceMethod ({ cls := "SkySpireModel", name := "laysStiffs", desc := "(III)V" } : Jvm.MethodName)) ∈ lw_all := lw_g (lw_at lw_m7 113 rfl) rfl
theorem q1669 : (Jvm.Cond.code ({ cls := "SkySpireModel", name := "laysStiffs", desc := "(III)V" } : Jvm.MethodName) prog_17_method_92_code (5 : Nat) (Option.none : Option Jvm.ClassFile.FieldType)) ∈ lw_all := lw_g (lw_at lw_m7 114 rfl) rfl
theorem q1670 : (Jvm.Cond.methodLink "SkySpireModel" (472 : Nat) ({ cls := "SkySpireModel", name := "isRest", desc := "(I)Z" } : Jvm.MethodName)) ∈ lw_all := lw_g (lw_at lw_m7 115 rfl) rfl
theorem q1671 : (Jvm.Cond.privateMethod ({ cls := "SkySpireModel", name := "isRest", desc := "(I)Z" } : Jvm.MethodName)) ∈ lw_tbl := lw_at lw_m7 116 rfl
theorem q1672 : (Jvm.Cond.instanceMethod ({ cls := "SkySpireModel", name := "isRest", desc := "(I)Z" } : Jvm.MethodName)) ∈ lw_all := lw_g (lw_at lw_m7 117 rfl) rfl
theorem q1673 : (Jvm.Cond.code ({ cls := "SkySpireModel", name := "isRest", desc := "(I)Z" } : Jvm.MethodName) prog_17_method_93_code (3 : Nat) (Option.some Jvm.ClassFile.FieldType.boolean)) ∈ lw_all := lw_g (lw_at lw_m7 118 rfl) rfl
theorem q1675 : (Jvm.Cond.instanceMethod ({ cls := "SkySpireModel", name := "pence", desc := "(II)I" } : Jvm.MethodName)) ∈ lw_all := lw_g (lw_at lw_m7 120 rfl) rfl
theorem q1676 : (Jvm.Cond.selects "SkySpireModel" ({ cls := "SkySpireModel", name := "pence", desc := "(II)I" } : Jvm.MethodName) ({ cls := "SkySpireModel", name := "pence", desc := "(II)I" } : Jvm.MethodName)) ∈ lw_all := lw_g (lw_at lw_m7 121 rfl) rfl
theorem q1677 : (Jvm.Cond.code ({ cls := "SkySpireModel", name := "pence", desc := "(II)I" } : Jvm.MethodName) prog_17_method_95_code (8 : Nat) (Option.some Jvm.ClassFile.FieldType.int)) ∈ lw_all := lw_g (lw_at lw_m7 122 rfl) rfl
theorem q1678 : (Jvm.Cond.constantLong "SkySpireModel" (475 : Nat) (9999 : Int64)) ∈ lw_all := lw_g (lw_at lw_m7 123 rfl) rfl
theorem q1680 : (Jvm.Cond.instanceMethod ({ cls := "SkySpireModel", name := "read", desc := "(II)I" } : Jvm.MethodName)) ∈ lw_all := lw_g (lw_at lw_m7 125 rfl) rfl
theorem q1681 : (Jvm.Cond.selects "SkySpireModel" ({ cls := "SkySpireModel", name := "read", desc := "(II)I" } : Jvm.MethodName) ({ cls := "SkySpireModel", name := "read", desc := "(II)I" } : Jvm.MethodName)) ∈ lw_all := lw_g (lw_at lw_m7 126 rfl) rfl
theorem q1682 : (Jvm.Cond.code ({ cls := "SkySpireModel", name := "read", desc := "(II)I" } : Jvm.MethodName) prog_17_method_98_code (5 : Nat) (Option.some Jvm.ClassFile.FieldType.int)) ∈ lw_all := lw_g (lw_at lw_m7 127 rfl) rfl
theorem q1683 : (Jvm.Cond.methodLink "SkySpireModel" (480 : Nat) ({ cls := "SkySpireModel", name := "parting", desc := "(I)I" } : Jvm.MethodName)) ∈ lw_all := lw_g (lw_at lw_m7 128 rfl) rfl
theorem q1684 : (Jvm.Cond.privateMethod ({ cls := "SkySpireModel", name := "parting", desc := "(I)I" } : Jvm.MethodName)) ∈ lw_tbl := lw_at lw_m7 129 rfl
theorem q1685 : (Jvm.Cond.instanceMethod ({ cls := "SkySpireModel", name := "parting", desc := "(I)I" } : Jvm.MethodName)) ∈ lw_all := lw_g (lw_at lw_m7 130 rfl) rfl
theorem q1686 : (Jvm.Cond.code ({ cls := "SkySpireModel", name := "parting", desc := "(I)I" } : Jvm.MethodName) prog_17_method_97_code (4 : Nat) (Option.some Jvm.ClassFile.FieldType.int)) ∈ lw_all := lw_g (lw_at lw_m7 131 rfl) rfl
theorem q1687 : (Jvm.Cond.methodLink "SkySpireModel" (477 : Nat) ({ cls := "SkySpireModel", name := "mostAlike", desc := "(II)I" } : Jvm.MethodName)) ∈ lw_all := lw_g (lw_at lw_m7 132 rfl) rfl
theorem q1688 : (Jvm.Cond.privateMethod ({ cls := "SkySpireModel", name := "mostAlike", desc := "(II)I" } : Jvm.MethodName)) ∈ lw_tbl := lw_at lw_m7 133 rfl
theorem q1689 : (Jvm.Cond.instanceMethod ({ cls := "SkySpireModel", name := "mostAlike", desc := "(II)I" } : Jvm.MethodName)) ∈ lw_all := lw_g (lw_at lw_m7 134 rfl) rfl
theorem q1690 : (Jvm.Cond.code ({ cls := "SkySpireModel", name := "mostAlike", desc := "(II)I" } : Jvm.MethodName) prog_17_method_96_code (7 : Nat) (Option.some Jvm.ClassFile.FieldType.int)) ∈ lw_all := lw_g (lw_at lw_m7 135 rfl) rfl
theorem q1692 : (Jvm.Cond.instanceMethod ({ cls := "SkySpireModel", name := "note", desc := "(III)I" } : Jvm.MethodName)) ∈ lw_all := lw_g (lw_at lw_m7 137 rfl) rfl
theorem q1693 : (Jvm.Cond.selects "SkySpireModel" ({ cls := "SkySpireModel", name := "note", desc := "(III)I" } : Jvm.MethodName) ({ cls := "SkySpireModel", name := "note", desc := "(III)I" } : Jvm.MethodName)) ∈ lw_all := lw_g (lw_at lw_m7 138 rfl) rfl
theorem q1694 : (Jvm.Cond.code ({ cls := "SkySpireModel", name := "note", desc := "(III)I" } : Jvm.MethodName) prog_17_method_99_code (5 : Nat) (Option.some Jvm.ClassFile.FieldType.int)) ∈ lw_all := lw_g (lw_at lw_m7 139 rfl) rfl
theorem q1696 : (Jvm.Cond.instanceMethod ({ cls := "SkySpireModel", name := "ruled", desc := "(I)I" } : Jvm.MethodName)) ∈ lw_all := lw_g (lw_at lw_m7 141 rfl) rfl
theorem q1697 : (Jvm.Cond.selects "SkySpireModel" ({ cls := "SkySpireModel", name := "ruled", desc := "(I)I" } : Jvm.MethodName) ({ cls := "SkySpireModel", name := "ruled", desc := "(I)I" } : Jvm.MethodName)) ∈ lw_all := lw_g (lw_at lw_m7 142 rfl) rfl
theorem q1698 : (Jvm.Cond.code ({ cls := "SkySpireModel", name := "ruled", desc := "(I)I" } : Jvm.MethodName) prog_17_method_101_code (5 : Nat) (Option.some Jvm.ClassFile.FieldType.int)) ∈ lw_all := lw_g (lw_at lw_m7 143 rfl) rfl
theorem q1699 : (Jvm.Cond.methodLink "SkySpireModel" (483 : Nat) ({ cls := "SkySpireModel", name := "couldRule", desc := "(I)Z" } : Jvm.MethodName)) ∈ lw_all := lw_g (lw_at lw_m7 144 rfl) rfl
theorem q1700 : (Jvm.Cond.privateMethod ({ cls := "SkySpireModel", name := "couldRule", desc := "(I)Z" } : Jvm.MethodName)) ∈ lw_tbl := lw_at lw_m7 145 rfl
theorem q1701 : (Jvm.Cond.instanceMethod ({ cls := "SkySpireModel", name := "couldRule", desc := "(I)Z" } : Jvm.MethodName)) ∈ lw_all := lw_g (lw_at lw_m7 146 rfl) rfl
theorem q1702 : (Jvm.Cond.code ({ cls := "SkySpireModel", name := "couldRule", desc := "(I)Z" } : Jvm.MethodName) prog_17_method_100_code (4 : Nat) (Option.some Jvm.ClassFile.FieldType.boolean)) ∈ lw_all := lw_g (lw_at lw_m7 147 rfl) rfl
theorem q1704 : (Jvm.Cond.instanceMethod ({ cls := "SkySpireModel", name := "look", desc := "(II)I" } : Jvm.MethodName)) ∈ lw_all := lw_g (lw_at lw_m7 149 rfl) rfl
theorem q1705 : (Jvm.Cond.selects "SkySpireModel" ({ cls := "SkySpireModel", name := "look", desc := "(II)I" } : Jvm.MethodName) ({ cls := "SkySpireModel", name := "look", desc := "(II)I" } : Jvm.MethodName)) ∈ lw_all := lw_g (lw_at lw_m7 150 rfl) rfl
theorem q1706 : (Jvm.Cond.code ({ cls := "SkySpireModel", name := "look", desc := "(II)I" } : Jvm.MethodName) prog_17_method_102_code (6 : Nat) (Option.some Jvm.ClassFile.FieldType.int)) ∈ lw_all := lw_g (lw_at lw_m7 151 rfl) rfl
theorem q1708 : (Jvm.Cond.instanceMethod ({ cls := "SkySpireModel", name := "seed", desc := "(I)I" } : Jvm.MethodName)) ∈ lw_all := lw_g (lw_at lw_m7 153 rfl) rfl
theorem q1709 : (Jvm.Cond.selects "SkySpireModel" ({ cls := "SkySpireModel", name := "seed", desc := "(I)I" } : Jvm.MethodName) ({ cls := "SkySpireModel", name := "seed", desc := "(I)I" } : Jvm.MethodName)) ∈ lw_all := lw_g (lw_at lw_m7 154 rfl) rfl
theorem q1710 : (Jvm.Cond.code ({ cls := "SkySpireModel", name := "seed", desc := "(I)I" } : Jvm.MethodName) prog_17_method_103_code (3 : Nat) (Option.some Jvm.ClassFile.FieldType.int)) ∈ lw_all := lw_g (lw_at lw_m7 155 rfl) rfl
theorem q1712 : (Jvm.Cond.instanceMethod ({ cls := "SkySpireModel", name := "rains", desc := "(IIII)I" } : Jvm.MethodName)) ∈ lw_all := lw_g (lw_at lw_m7 157 rfl) rfl
theorem q1713 : (Jvm.Cond.selects "SkySpireModel" ({ cls := "SkySpireModel", name := "rains", desc := "(IIII)I" } : Jvm.MethodName) ({ cls := "SkySpireModel", name := "rains", desc := "(IIII)I" } : Jvm.MethodName)) ∈ lw_all := lw_g (lw_at lw_m7 158 rfl) rfl
theorem q1714 : (Jvm.Cond.code ({ cls := "SkySpireModel", name := "rains", desc := "(IIII)I" } : Jvm.MethodName) prog_17_method_105_code (11 : Nat) (Option.some Jvm.ClassFile.FieldType.int)) ∈ lw_all := lw_g (lw_at lw_m7 159 rfl) rfl
theorem q1715 : (Jvm.Cond.constantLong "SkySpireModel" (493 : Nat) (10 : Int64)) ∈ lw_all := lw_g (lw_at lw_m7 160 rfl) rfl
theorem q1716 : (Jvm.Cond.methodLink "SkySpireModel" (495 : Nat) ({ cls := "SkySpireModel", name := "draws", desc := "(I)I" } : Jvm.MethodName)) ∈ lw_all := lw_g (lw_at lw_m7 161 rfl) rfl
theorem q1717 : (Jvm.Cond.privateMethod ({ cls := "SkySpireModel", name := "draws", desc := "(I)I" } : Jvm.MethodName)) ∈ lw_tbl := lw_at lw_m7 162 rfl
theorem q1718 : (Jvm.Cond.instanceMethod ({ cls := "SkySpireModel", name := "draws", desc := "(I)I" } : Jvm.MethodName)) ∈ lw_all := lw_g (lw_at lw_m7 163 rfl) rfl
theorem q1719 : (Jvm.Cond.code ({ cls := "SkySpireModel", name := "draws", desc := "(I)I" } : Jvm.MethodName) prog_17_method_104_code (2 : Nat) (Option.some Jvm.ClassFile.FieldType.int)) ∈ lw_all := lw_g (lw_at lw_m7 164 rfl) rfl
theorem q1720 : (Jvm.Cond.constantLong "SkySpireModel" (486 : Nat) (1103515245 : Int64)) ∈ lw_all := lw_g (lw_at lw_m7 165 rfl) rfl
theorem q1721 : (Jvm.Cond.constantLong "SkySpireModel" (488 : Nat) (12345 : Int64)) ∈ lw_all := lw_g (lw_at lw_m7 166 rfl) rfl
theorem q1722 : (Jvm.Cond.constantLong "SkySpireModel" (490 : Nat) (2147483648 : Int64)) ∈ lw_all := lw_g (lw_at lw_m7 167 rfl) rfl
theorem q1723 : (Jvm.Cond.constant "SkySpireModel" (492 : Nat) (65536 : Int32)) ∈ lw_all := lw_g (lw_at lw_m7 168 rfl) rfl
theorem q1725 : (Jvm.Cond.instanceMethod ({ cls := "SkySpireModel", name := "count", desc := "(I)I" } : Jvm.MethodName)) ∈ lw_all := lw_g (lw_at lw_m7 170 rfl) rfl
theorem q1726 : (Jvm.Cond.selects "SkySpireModel" ({ cls := "SkySpireModel", name := "count", desc := "(I)I" } : Jvm.MethodName) ({ cls := "SkySpireModel", name := "count", desc := "(I)I" } : Jvm.MethodName)) ∈ lw_all := lw_g (lw_at lw_m7 171 rfl) rfl
theorem q1727 : (Jvm.Cond.code ({ cls := "SkySpireModel", name := "count", desc := "(I)I" } : Jvm.MethodName) prog_17_method_106_code (2 : Nat) (Option.some Jvm.ClassFile.FieldType.int)) ∈ lw_all := lw_g (lw_at lw_m7 172 rfl) rfl
theorem q1729 : (Jvm.Cond.instanceMethod ({ cls := "SkySpireModel", name := "image", desc := "(I)I" } : Jvm.MethodName)) ∈ lw_all := lw_g (lw_at lw_m7 174 rfl) rfl
theorem q1730 : (Jvm.Cond.selects "SkySpireModel" ({ cls := "SkySpireModel", name := "image", desc := "(I)I" } : Jvm.MethodName) ({ cls := "SkySpireModel", name := "image", desc := "(I)I" } : Jvm.MethodName)) ∈ lw_all := lw_g (lw_at lw_m7 175 rfl) rfl
theorem q1731 : (Jvm.Cond.code ({ cls := "SkySpireModel", name := "image", desc := "(I)I" } : Jvm.MethodName) prog_17_method_109_code (2 : Nat) (Option.some Jvm.ClassFile.FieldType.int)) ∈ lw_all := lw_g (lw_at lw_m7 176 rfl) rfl
theorem q1733 : (Jvm.Cond.instanceMethod ({ cls := "SkySpireModel", name := "back", desc := "(I)I" } : Jvm.MethodName)) ∈ lw_all := lw_g (lw_at lw_m7 178 rfl) rfl
theorem q1734 : (Jvm.Cond.selects "SkySpireModel" ({ cls := "SkySpireModel", name := "back", desc := "(I)I" } : Jvm.MethodName) ({ cls := "SkySpireModel", name := "back", desc := "(I)I" } : Jvm.MethodName)) ∈ lw_all := lw_g (lw_at lw_m7 179 rfl) rfl
theorem q1735 : (Jvm.Cond.code ({ cls := "SkySpireModel", name := "back", desc := "(I)I" } : Jvm.MethodName) prog_17_method_110_code (2 : Nat) (Option.some Jvm.ClassFile.FieldType.int)) ∈ lw_all := lw_g (lw_at lw_m7 180 rfl) rfl
theorem in_X3 : ∀ w ∈ wsX30, w ∈ lw_all := lw_in wsX30 [1164, 1166, 1168, 1170, 1172, 1174, 1176, 1178, 1180, 1182, 1184, 1186, 1188, 1190, 1192, 1194, 1196, 1198, 1200, 1202, 1204, 1206, 1208, 1210, 1212, 1214, 1216, 1218, 1220, 1222, 1224, 1226, 1228, 1230, 1232, 1234, 1236, 1238, 1240, 1242, 1244, 1246, 1248, 1250, 1252, 1254, 1256, 1258, 1260, 1262, 1264, 1266, 1268, 1270] (by decide +kernel) (by decide +kernel)
