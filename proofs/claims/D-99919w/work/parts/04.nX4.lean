/-! SkySpire$Text -/
set_option maxRecDepth 100000
def RX4 : String := "SkySpire$Text"
def TX4 : u_T := fun k => match k with
  | 0 => ("SkySpire$Text", "words", "[Ljava/lang/String;", true)
  | 1 => ("SkySpire$Text", "read", "LSkySpire$Sky;", true)
  | 2 => ("SkySpire$Text", "next", "I", false)
  | 3 => ("SkySpire$Text", "deep", "I", false)
  | 4 => ("SkySpire$Text", "made", "I", false)
  | 5 => ("SkySpire$Text", "many", "I", false)
  | _ => ("SkySpire$Text", "this$0", "LSkySpire;", true)
def tyX4 : Nat → FieldType := fun k => match k with
  | 0 => .array (.object "java/lang/String")
  | 1 => .object "SkySpire$Sky"
  | 2 => .int
  | 3 => .int
  | 4 => .int
  | 5 => .int
  | _ => .object "SkySpire"
abbrev wsX40 : List Cond := u_ws RX4 TX4 7
theorem nmX4 : ∀ a, a < 7 → ∀ b, b < 7 → a ≠ b → (TX4 a).2.1 ≠ (TX4 b).2.1 := by decide +kernel
theorem tyX4_ok : ∀ k, k < 7 → parseFieldDescriptor (TX4 k).2.2.1 = some (tyX4 k) := by decide +kernel
abbrev cX4_init : ByteArray := prog_13_method_1_code
def yX4_init : MethodName := ⟨RX4, "<init>", "(LSkySpire;)V"⟩
def dkwX4_init_1 : List UInt8 := [180, 0, 3, 180, 0, 22, 181, 0, 26, 177]
abbrev dktX4_init_1 : List UInt8 := dkwX4_init_1 ++ []
def dkwX4_init_0 : List UInt8 := [42, 43, 181, 0, 3, 42, 183, 0, 9, 42, 42, 180, 0, 3, 180, 0, 15, 181, 0, 19, 42, 42]
abbrev dktX4_init_0 : List UInt8 := dkwX4_init_0 ++ dktX4_init_1
theorem dksX4_init_0 : cX4_init.data.toList.drop 0 = dktX4_init_0 := by decide +kernel
theorem dksX4_init_1 : cX4_init.data.toList.drop 22 = dktX4_init_1 := dk_seg dksX4_init_0 22 rfl rfl
theorem dX4_init_0 : decode cX4_init 0 = .ok (.aload_n 0, 1) := dk_42 (dk_at dksX4_init_0 0 rfl rfl)
theorem dX4_init_1 : decode cX4_init 1 = .ok (.aload_n 1, 1) := dk_43 (dk_at dksX4_init_0 1 rfl rfl)
theorem dX4_init_2 : decode cX4_init 2 = .ok (.putfield 3, 3) := dk_181 0 3 (dk_at dksX4_init_0 2 rfl rfl)
theorem dX4_init_5 : decode cX4_init 5 = .ok (.aload_n 0, 1) := dk_42 (dk_at dksX4_init_0 5 rfl rfl)
theorem dX4_init_6 : decode cX4_init 6 = .ok (.invokespecial 9, 3) := dk_183 0 9 (dk_at dksX4_init_0 6 rfl rfl)
theorem dX4_init_9 : decode cX4_init 9 = .ok (.aload_n 0, 1) := dk_42 (dk_at dksX4_init_0 9 rfl rfl)
theorem dX4_init_10 : decode cX4_init 10 = .ok (.aload_n 0, 1) := dk_42 (dk_at dksX4_init_0 10 rfl rfl)
theorem dX4_init_11 : decode cX4_init 11 = .ok (.getfield 3, 3) := dk_180 0 3 (dk_at dksX4_init_0 11 rfl rfl)
theorem dX4_init_14 : decode cX4_init 14 = .ok (.getfield 15, 3) := dk_180 0 15 (dk_at dksX4_init_0 14 rfl rfl)
theorem dX4_init_17 : decode cX4_init 17 = .ok (.putfield 19, 3) := dk_181 0 19 (dk_at dksX4_init_0 17 rfl rfl)
theorem dX4_init_20 : decode cX4_init 20 = .ok (.aload_n 0, 1) := dk_42 (dk_at dksX4_init_0 20 rfl rfl)
theorem dX4_init_21 : decode cX4_init 21 = .ok (.aload_n 0, 1) := dk_42 (dk_at dksX4_init_0 21 rfl rfl)
theorem dX4_init_22 : decode cX4_init 22 = .ok (.getfield 3, 3) := dk_180 0 3 (dk_at dksX4_init_1 0 rfl rfl)
theorem dX4_init_25 : decode cX4_init 25 = .ok (.getfield 22, 3) := dk_180 0 22 (dk_at dksX4_init_1 3 rfl rfl)
theorem dX4_init_28 : decode cX4_init 28 = .ok (.putfield 26, 3) := dk_181 0 26 (dk_at dksX4_init_1 6 rfl rfl)
theorem dX4_init_31 : decode cX4_init 31 = .ok (.return_, 1) := dk_177 (dk_at dksX4_init_1 9 rfl rfl)
abbrev cX4_skyTold : ByteArray := prog_13_method_20_code
def yX4_skyTold : MethodName := ⟨RX4, "skyTold", "()LSkySpire$Sky;"⟩
def dkwX4_skyTold_5 : List UInt8 := [182, 0, 170, 42, 180, 0, 26, 176]
abbrev dktX4_skyTold_5 : List UInt8 := dkwX4_skyTold_5 ++ []
def dkwX4_skyTold_4 : List UInt8 := [42, 28, 182, 0, 160, 42, 16, 59, 182, 0, 164, 154, 255, 165, 42, 182, 0, 167, 42, 180, 0, 26]
abbrev dktX4_skyTold_4 : List UInt8 := dkwX4_skyTold_4 ++ dktX4_skyTold_5
def dkwX4_skyTold_3 : List UInt8 := [181, 0, 90, 42, 89, 180, 0, 42, 42, 180, 0, 3, 180, 0, 150, 28, 50, 182, 0, 59, 96, 181, 0, 42]
abbrev dktX4_skyTold_3 : List UInt8 := dkwX4_skyTold_3 ++ dktX4_skyTold_4
def dkwX4_skyTold_2 : List UInt8 := [3, 27, 182, 0, 76, 42, 42, 28, 182, 0, 157, 7, 27, 182, 0, 76, 42, 89, 180, 0, 90, 4, 96]
abbrev dktX4_skyTold_2 : List UInt8 := dkwX4_skyTold_2 ++ dktX4_skyTold_3
def dkwX4_skyTold_1 : List UInt8 := [60, 42, 42, 180, 0, 3, 180, 0, 150, 182, 0, 153, 61, 42, 28, 2, 159, 0, 7, 4, 167, 0, 4, 3]
abbrev dktX4_skyTold_1 : List UInt8 := dkwX4_skyTold_1 ++ dktX4_skyTold_2
def dkwX4_skyTold_0 : List UInt8 := [42, 180, 0, 26, 42, 180, 0, 3, 180, 0, 143, 182, 0, 146, 87, 42, 182, 0, 52, 87, 42, 180, 0, 42]
abbrev dktX4_skyTold_0 : List UInt8 := dkwX4_skyTold_0 ++ dktX4_skyTold_1
theorem dksX4_skyTold_0 : cX4_skyTold.data.toList.drop 0 = dktX4_skyTold_0 := by decide +kernel
theorem dksX4_skyTold_1 : cX4_skyTold.data.toList.drop 24 = dktX4_skyTold_1 := dk_seg dksX4_skyTold_0 24 rfl rfl
theorem dksX4_skyTold_2 : cX4_skyTold.data.toList.drop 48 = dktX4_skyTold_2 := dk_seg dksX4_skyTold_1 24 rfl rfl
theorem dksX4_skyTold_3 : cX4_skyTold.data.toList.drop 71 = dktX4_skyTold_3 := dk_seg dksX4_skyTold_2 23 rfl rfl
theorem dksX4_skyTold_4 : cX4_skyTold.data.toList.drop 95 = dktX4_skyTold_4 := dk_seg dksX4_skyTold_3 24 rfl rfl
theorem dksX4_skyTold_5 : cX4_skyTold.data.toList.drop 117 = dktX4_skyTold_5 := dk_seg dksX4_skyTold_4 22 rfl rfl
theorem dX4_skyTold_0 : decode cX4_skyTold 0 = .ok (.aload_n 0, 1) := dk_42 (dk_at dksX4_skyTold_0 0 rfl rfl)
theorem dX4_skyTold_1 : decode cX4_skyTold 1 = .ok (.getfield 26, 3) := dk_180 0 26 (dk_at dksX4_skyTold_0 1 rfl rfl)
theorem dX4_skyTold_4 : decode cX4_skyTold 4 = .ok (.aload_n 0, 1) := dk_42 (dk_at dksX4_skyTold_0 4 rfl rfl)
theorem dX4_skyTold_5 : decode cX4_skyTold 5 = .ok (.getfield 3, 3) := dk_180 0 3 (dk_at dksX4_skyTold_0 5 rfl rfl)
theorem dX4_skyTold_8 : decode cX4_skyTold 8 = .ok (.getfield 143, 3) := dk_180 0 143 (dk_at dksX4_skyTold_0 8 rfl rfl)
theorem dX4_skyTold_11 : decode cX4_skyTold 11 = .ok (.invokevirtual 146, 3) := dk_182 0 146 (dk_at dksX4_skyTold_0 11 rfl rfl)
theorem dX4_skyTold_14 : decode cX4_skyTold 14 = .ok (.pop, 1) := dk_87 (dk_at dksX4_skyTold_0 14 rfl rfl)
theorem dX4_skyTold_15 : decode cX4_skyTold 15 = .ok (.aload_n 0, 1) := dk_42 (dk_at dksX4_skyTold_0 15 rfl rfl)
theorem dX4_skyTold_16 : decode cX4_skyTold 16 = .ok (.invokevirtual 52, 3) := dk_182 0 52 (dk_at dksX4_skyTold_0 16 rfl rfl)
theorem dX4_skyTold_19 : decode cX4_skyTold 19 = .ok (.pop, 1) := dk_87 (dk_at dksX4_skyTold_0 19 rfl rfl)
theorem dX4_skyTold_20 : decode cX4_skyTold 20 = .ok (.aload_n 0, 1) := dk_42 (dk_at dksX4_skyTold_0 20 rfl rfl)
theorem dX4_skyTold_21 : decode cX4_skyTold 21 = .ok (.getfield 42, 3) := dk_180 0 42 (dk_at dksX4_skyTold_0 21 rfl rfl)
theorem dX4_skyTold_24 : decode cX4_skyTold 24 = .ok (.istore_n 1, 1) := dk_60 (dk_at dksX4_skyTold_1 0 rfl rfl)
theorem dX4_skyTold_25 : decode cX4_skyTold 25 = .ok (.aload_n 0, 1) := dk_42 (dk_at dksX4_skyTold_1 1 rfl rfl)
theorem dX4_skyTold_26 : decode cX4_skyTold 26 = .ok (.aload_n 0, 1) := dk_42 (dk_at dksX4_skyTold_1 2 rfl rfl)
theorem dX4_skyTold_27 : decode cX4_skyTold 27 = .ok (.getfield 3, 3) := dk_180 0 3 (dk_at dksX4_skyTold_1 3 rfl rfl)
theorem dX4_skyTold_30 : decode cX4_skyTold 30 = .ok (.getfield 150, 3) := dk_180 0 150 (dk_at dksX4_skyTold_1 6 rfl rfl)
theorem dX4_skyTold_33 : decode cX4_skyTold 33 = .ok (.invokevirtual 153, 3) := dk_182 0 153 (dk_at dksX4_skyTold_1 9 rfl rfl)
theorem dX4_skyTold_36 : decode cX4_skyTold 36 = .ok (.istore_n 2, 1) := dk_61 (dk_at dksX4_skyTold_1 12 rfl rfl)
theorem dX4_skyTold_37 : decode cX4_skyTold 37 = .ok (.aload_n 0, 1) := dk_42 (dk_at dksX4_skyTold_1 13 rfl rfl)
theorem dX4_skyTold_38 : decode cX4_skyTold 38 = .ok (.iload_n 2, 1) := dk_28 (dk_at dksX4_skyTold_1 14 rfl rfl)
theorem dX4_skyTold_39 : decode cX4_skyTold 39 = .ok (.iconst (-1), 1) := dk_2 (dk_at dksX4_skyTold_1 15 rfl rfl)
theorem dX4_skyTold_40 : decode cX4_skyTold 40 = .ok (.if_icmp .eq 7, 3) := dk_159 0 7 (dk_at dksX4_skyTold_1 16 rfl rfl)
theorem dX4_skyTold_43 : decode cX4_skyTold 43 = .ok (.iconst 1, 1) := dk_4 (dk_at dksX4_skyTold_1 19 rfl rfl)
theorem dX4_skyTold_44 : decode cX4_skyTold 44 = .ok (.goto 4, 3) := dk_167 0 4 (dk_at dksX4_skyTold_1 20 rfl rfl)
theorem dX4_skyTold_47 : decode cX4_skyTold 47 = .ok (.iconst 0, 1) := dk_3 (dk_at dksX4_skyTold_1 23 rfl rfl)
theorem dX4_skyTold_48 : decode cX4_skyTold 48 = .ok (.iconst 0, 1) := dk_3 (dk_at dksX4_skyTold_2 0 rfl rfl)
theorem dX4_skyTold_49 : decode cX4_skyTold 49 = .ok (.iload_n 1, 1) := dk_27 (dk_at dksX4_skyTold_2 1 rfl rfl)
theorem dX4_skyTold_50 : decode cX4_skyTold 50 = .ok (.invokevirtual 76, 3) := dk_182 0 76 (dk_at dksX4_skyTold_2 2 rfl rfl)
theorem dX4_skyTold_53 : decode cX4_skyTold 53 = .ok (.aload_n 0, 1) := dk_42 (dk_at dksX4_skyTold_2 5 rfl rfl)
theorem dX4_skyTold_54 : decode cX4_skyTold 54 = .ok (.aload_n 0, 1) := dk_42 (dk_at dksX4_skyTold_2 6 rfl rfl)
theorem dX4_skyTold_55 : decode cX4_skyTold 55 = .ok (.iload_n 2, 1) := dk_28 (dk_at dksX4_skyTold_2 7 rfl rfl)
theorem dX4_skyTold_56 : decode cX4_skyTold 56 = .ok (.invokevirtual 157, 3) := dk_182 0 157 (dk_at dksX4_skyTold_2 8 rfl rfl)
theorem dX4_skyTold_59 : decode cX4_skyTold 59 = .ok (.iconst 4, 1) := dk_7 (dk_at dksX4_skyTold_2 11 rfl rfl)
theorem dX4_skyTold_60 : decode cX4_skyTold 60 = .ok (.iload_n 1, 1) := dk_27 (dk_at dksX4_skyTold_2 12 rfl rfl)
theorem dX4_skyTold_61 : decode cX4_skyTold 61 = .ok (.invokevirtual 76, 3) := dk_182 0 76 (dk_at dksX4_skyTold_2 13 rfl rfl)
theorem dX4_skyTold_64 : decode cX4_skyTold 64 = .ok (.aload_n 0, 1) := dk_42 (dk_at dksX4_skyTold_2 16 rfl rfl)
theorem dX4_skyTold_65 : decode cX4_skyTold 65 = .ok (.dup, 1) := dk_89 (dk_at dksX4_skyTold_2 17 rfl rfl)
theorem dX4_skyTold_66 : decode cX4_skyTold 66 = .ok (.getfield 90, 3) := dk_180 0 90 (dk_at dksX4_skyTold_2 18 rfl rfl)
theorem dX4_skyTold_69 : decode cX4_skyTold 69 = .ok (.iconst 1, 1) := dk_4 (dk_at dksX4_skyTold_2 21 rfl rfl)
theorem dX4_skyTold_70 : decode cX4_skyTold 70 = .ok (.iadd, 1) := dk_96 (dk_at dksX4_skyTold_2 22 rfl rfl)
theorem dX4_skyTold_71 : decode cX4_skyTold 71 = .ok (.putfield 90, 3) := dk_181 0 90 (dk_at dksX4_skyTold_3 0 rfl rfl)
theorem dX4_skyTold_74 : decode cX4_skyTold 74 = .ok (.aload_n 0, 1) := dk_42 (dk_at dksX4_skyTold_3 3 rfl rfl)
theorem dX4_skyTold_75 : decode cX4_skyTold 75 = .ok (.dup, 1) := dk_89 (dk_at dksX4_skyTold_3 4 rfl rfl)
theorem dX4_skyTold_76 : decode cX4_skyTold 76 = .ok (.getfield 42, 3) := dk_180 0 42 (dk_at dksX4_skyTold_3 5 rfl rfl)
theorem dX4_skyTold_79 : decode cX4_skyTold 79 = .ok (.aload_n 0, 1) := dk_42 (dk_at dksX4_skyTold_3 8 rfl rfl)
theorem dX4_skyTold_80 : decode cX4_skyTold 80 = .ok (.getfield 3, 3) := dk_180 0 3 (dk_at dksX4_skyTold_3 9 rfl rfl)
theorem dX4_skyTold_83 : decode cX4_skyTold 83 = .ok (.getfield 150, 3) := dk_180 0 150 (dk_at dksX4_skyTold_3 12 rfl rfl)
theorem dX4_skyTold_86 : decode cX4_skyTold 86 = .ok (.iload_n 2, 1) := dk_28 (dk_at dksX4_skyTold_3 15 rfl rfl)
theorem dX4_skyTold_87 : decode cX4_skyTold 87 = .ok (.aaload, 1) := dk_50 (dk_at dksX4_skyTold_3 16 rfl rfl)
theorem dX4_skyTold_88 : decode cX4_skyTold 88 = .ok (.invokevirtual 59, 3) := dk_182 0 59 (dk_at dksX4_skyTold_3 17 rfl rfl)
theorem dX4_skyTold_91 : decode cX4_skyTold 91 = .ok (.iadd, 1) := dk_96 (dk_at dksX4_skyTold_3 20 rfl rfl)
theorem dX4_skyTold_92 : decode cX4_skyTold 92 = .ok (.putfield 42, 3) := dk_181 0 42 (dk_at dksX4_skyTold_3 21 rfl rfl)
theorem dX4_skyTold_95 : decode cX4_skyTold 95 = .ok (.aload_n 0, 1) := dk_42 (dk_at dksX4_skyTold_4 0 rfl rfl)
theorem dX4_skyTold_96 : decode cX4_skyTold 96 = .ok (.iload_n 2, 1) := dk_28 (dk_at dksX4_skyTold_4 1 rfl rfl)
theorem dX4_skyTold_97 : decode cX4_skyTold 97 = .ok (.invokevirtual 160, 3) := dk_182 0 160 (dk_at dksX4_skyTold_4 2 rfl rfl)
theorem dX4_skyTold_100 : decode cX4_skyTold 100 = .ok (.aload_n 0, 1) := dk_42 (dk_at dksX4_skyTold_4 5 rfl rfl)
theorem dX4_skyTold_101 : decode cX4_skyTold 101 = .ok (.bipush 59, 2) := dk_16 59 (dk_at dksX4_skyTold_4 6 rfl rfl)
theorem dX4_skyTold_103 : decode cX4_skyTold 103 = .ok (.invokevirtual 164, 3) := dk_182 0 164 (dk_at dksX4_skyTold_4 8 rfl rfl)
theorem dX4_skyTold_106 : decode cX4_skyTold 106 = .ok (.ifCond .ne (-91), 3) := dk_154 255 165 (dk_at dksX4_skyTold_4 11 rfl rfl)
theorem dX4_skyTold_109 : decode cX4_skyTold 109 = .ok (.aload_n 0, 1) := dk_42 (dk_at dksX4_skyTold_4 14 rfl rfl)
theorem dX4_skyTold_110 : decode cX4_skyTold 110 = .ok (.invokevirtual 167, 3) := dk_182 0 167 (dk_at dksX4_skyTold_4 15 rfl rfl)
theorem dX4_skyTold_113 : decode cX4_skyTold 113 = .ok (.aload_n 0, 1) := dk_42 (dk_at dksX4_skyTold_4 18 rfl rfl)
theorem dX4_skyTold_114 : decode cX4_skyTold 114 = .ok (.getfield 26, 3) := dk_180 0 26 (dk_at dksX4_skyTold_4 19 rfl rfl)
theorem dX4_skyTold_117 : decode cX4_skyTold 117 = .ok (.invokevirtual 170, 3) := dk_182 0 170 (dk_at dksX4_skyTold_5 0 rfl rfl)
theorem dX4_skyTold_120 : decode cX4_skyTold 120 = .ok (.aload_n 0, 1) := dk_42 (dk_at dksX4_skyTold_5 3 rfl rfl)
theorem dX4_skyTold_121 : decode cX4_skyTold 121 = .ok (.getfield 26, 3) := dk_180 0 26 (dk_at dksX4_skyTold_5 4 rfl rfl)
theorem dX4_skyTold_124 : decode cX4_skyTold 124 = .ok (.areturn, 1) := dk_176 (dk_at dksX4_skyTold_5 7 rfl rfl)
abbrev cX4_see : ByteArray := prog_13_method_3_code
def yX4_see : MethodName := ⟨RX4, "see", "()I"⟩
def dkwX4_see_3 : List UInt8 := [51, 17, 0, 255, 126, 167, 0, 4, 2, 172]
abbrev dktX4_see_3 : List UInt8 := dkwX4_see_3 ++ []
def dkwX4_see_2 : List UInt8 := [180, 0, 42, 42, 180, 0, 3, 180, 0, 45, 162, 0, 22, 42, 180, 0, 3, 180, 0, 48, 42, 180, 0, 42]
abbrev dktX4_see_2 : List UInt8 := dkwX4_see_2 ++ dktX4_see_3
def dkwX4_see_1 : List UInt8 := [180, 0, 42, 51, 16, 32, 160, 0, 16, 42, 89, 180, 0, 42, 4, 96, 181, 0, 42, 167, 255, 215, 42]
abbrev dktX4_see_1 : List UInt8 := dkwX4_see_1 ++ dktX4_see_2
def dkwX4_see_0 : List UInt8 := [42, 180, 0, 42, 42, 180, 0, 3, 180, 0, 45, 162, 0, 33, 42, 180, 0, 3, 180, 0, 48, 42]
abbrev dktX4_see_0 : List UInt8 := dkwX4_see_0 ++ dktX4_see_1
theorem dksX4_see_0 : cX4_see.data.toList.drop 0 = dktX4_see_0 := by decide +kernel
theorem dksX4_see_1 : cX4_see.data.toList.drop 22 = dktX4_see_1 := dk_seg dksX4_see_0 22 rfl rfl
theorem dksX4_see_2 : cX4_see.data.toList.drop 45 = dktX4_see_2 := dk_seg dksX4_see_1 23 rfl rfl
theorem dksX4_see_3 : cX4_see.data.toList.drop 69 = dktX4_see_3 := dk_seg dksX4_see_2 24 rfl rfl
theorem dX4_see_0 : decode cX4_see 0 = .ok (.aload_n 0, 1) := dk_42 (dk_at dksX4_see_0 0 rfl rfl)
theorem dX4_see_1 : decode cX4_see 1 = .ok (.getfield 42, 3) := dk_180 0 42 (dk_at dksX4_see_0 1 rfl rfl)
theorem dX4_see_4 : decode cX4_see 4 = .ok (.aload_n 0, 1) := dk_42 (dk_at dksX4_see_0 4 rfl rfl)
theorem dX4_see_5 : decode cX4_see 5 = .ok (.getfield 3, 3) := dk_180 0 3 (dk_at dksX4_see_0 5 rfl rfl)
theorem dX4_see_8 : decode cX4_see 8 = .ok (.getfield 45, 3) := dk_180 0 45 (dk_at dksX4_see_0 8 rfl rfl)
theorem dX4_see_11 : decode cX4_see 11 = .ok (.if_icmp .ge 33, 3) := dk_162 0 33 (dk_at dksX4_see_0 11 rfl rfl)
theorem dX4_see_14 : decode cX4_see 14 = .ok (.aload_n 0, 1) := dk_42 (dk_at dksX4_see_0 14 rfl rfl)
theorem dX4_see_15 : decode cX4_see 15 = .ok (.getfield 3, 3) := dk_180 0 3 (dk_at dksX4_see_0 15 rfl rfl)
theorem dX4_see_18 : decode cX4_see 18 = .ok (.getfield 48, 3) := dk_180 0 48 (dk_at dksX4_see_0 18 rfl rfl)
theorem dX4_see_21 : decode cX4_see 21 = .ok (.aload_n 0, 1) := dk_42 (dk_at dksX4_see_0 21 rfl rfl)
theorem dX4_see_22 : decode cX4_see 22 = .ok (.getfield 42, 3) := dk_180 0 42 (dk_at dksX4_see_1 0 rfl rfl)
theorem dX4_see_25 : decode cX4_see 25 = .ok (.baload, 1) := dk_51 (dk_at dksX4_see_1 3 rfl rfl)
theorem dX4_see_26 : decode cX4_see 26 = .ok (.bipush 32, 2) := dk_16 32 (dk_at dksX4_see_1 4 rfl rfl)
theorem dX4_see_28 : decode cX4_see 28 = .ok (.if_icmp .ne 16, 3) := dk_160 0 16 (dk_at dksX4_see_1 6 rfl rfl)
theorem dX4_see_31 : decode cX4_see 31 = .ok (.aload_n 0, 1) := dk_42 (dk_at dksX4_see_1 9 rfl rfl)
theorem dX4_see_32 : decode cX4_see 32 = .ok (.dup, 1) := dk_89 (dk_at dksX4_see_1 10 rfl rfl)
theorem dX4_see_33 : decode cX4_see 33 = .ok (.getfield 42, 3) := dk_180 0 42 (dk_at dksX4_see_1 11 rfl rfl)
theorem dX4_see_36 : decode cX4_see 36 = .ok (.iconst 1, 1) := dk_4 (dk_at dksX4_see_1 14 rfl rfl)
theorem dX4_see_37 : decode cX4_see 37 = .ok (.iadd, 1) := dk_96 (dk_at dksX4_see_1 15 rfl rfl)
theorem dX4_see_38 : decode cX4_see 38 = .ok (.putfield 42, 3) := dk_181 0 42 (dk_at dksX4_see_1 16 rfl rfl)
theorem dX4_see_41 : decode cX4_see 41 = .ok (.goto (-41), 3) := dk_167 255 215 (dk_at dksX4_see_1 19 rfl rfl)
theorem dX4_see_44 : decode cX4_see 44 = .ok (.aload_n 0, 1) := dk_42 (dk_at dksX4_see_1 22 rfl rfl)
theorem dX4_see_45 : decode cX4_see 45 = .ok (.getfield 42, 3) := dk_180 0 42 (dk_at dksX4_see_2 0 rfl rfl)
theorem dX4_see_48 : decode cX4_see 48 = .ok (.aload_n 0, 1) := dk_42 (dk_at dksX4_see_2 3 rfl rfl)
theorem dX4_see_49 : decode cX4_see 49 = .ok (.getfield 3, 3) := dk_180 0 3 (dk_at dksX4_see_2 4 rfl rfl)
theorem dX4_see_52 : decode cX4_see 52 = .ok (.getfield 45, 3) := dk_180 0 45 (dk_at dksX4_see_2 7 rfl rfl)
theorem dX4_see_55 : decode cX4_see 55 = .ok (.if_icmp .ge 22, 3) := dk_162 0 22 (dk_at dksX4_see_2 10 rfl rfl)
theorem dX4_see_58 : decode cX4_see 58 = .ok (.aload_n 0, 1) := dk_42 (dk_at dksX4_see_2 13 rfl rfl)
theorem dX4_see_59 : decode cX4_see 59 = .ok (.getfield 3, 3) := dk_180 0 3 (dk_at dksX4_see_2 14 rfl rfl)
theorem dX4_see_62 : decode cX4_see 62 = .ok (.getfield 48, 3) := dk_180 0 48 (dk_at dksX4_see_2 17 rfl rfl)
theorem dX4_see_65 : decode cX4_see 65 = .ok (.aload_n 0, 1) := dk_42 (dk_at dksX4_see_2 20 rfl rfl)
theorem dX4_see_66 : decode cX4_see 66 = .ok (.getfield 42, 3) := dk_180 0 42 (dk_at dksX4_see_2 21 rfl rfl)
theorem dX4_see_69 : decode cX4_see 69 = .ok (.baload, 1) := dk_51 (dk_at dksX4_see_3 0 rfl rfl)
theorem dX4_see_70 : decode cX4_see 70 = .ok (.sipush 255, 3) := dk_17 0 255 (dk_at dksX4_see_3 1 rfl rfl)
theorem dX4_see_73 : decode cX4_see 73 = .ok (.iand, 1) := dk_126 (dk_at dksX4_see_3 4 rfl rfl)
theorem dX4_see_74 : decode cX4_see 74 = .ok (.goto 4, 3) := dk_167 0 4 (dk_at dksX4_see_3 5 rfl rfl)
theorem dX4_see_77 : decode cX4_see 77 = .ok (.iconst (-1), 1) := dk_2 (dk_at dksX4_see_3 8 rfl rfl)
theorem dX4_see_78 : decode cX4_see 78 = .ok (.ireturn, 1) := dk_172 (dk_at dksX4_see_3 9 rfl rfl)
abbrev cX4_oneOf : ByteArray := prog_13_method_8_code
def yX4_oneOf : MethodName := ⟨RX4, "oneOf", "([Ljava/lang/String;)I"⟩
def dkwX4_oneOf_1 : List UInt8 := [167, 255, 235, 2, 172]
abbrev dktX4_oneOf_1 : List UInt8 := dkwX4_oneOf_1 ++ []
def dkwX4_oneOf_0 : List UInt8 := [3, 61, 28, 43, 190, 162, 0, 21, 42, 43, 28, 50, 182, 0, 68, 153, 0, 5, 28, 172, 132, 2, 1]
abbrev dktX4_oneOf_0 : List UInt8 := dkwX4_oneOf_0 ++ dktX4_oneOf_1
theorem dksX4_oneOf_0 : cX4_oneOf.data.toList.drop 0 = dktX4_oneOf_0 := by decide +kernel
theorem dksX4_oneOf_1 : cX4_oneOf.data.toList.drop 23 = dktX4_oneOf_1 := dk_seg dksX4_oneOf_0 23 rfl rfl
theorem dX4_oneOf_0 : decode cX4_oneOf 0 = .ok (.iconst 0, 1) := dk_3 (dk_at dksX4_oneOf_0 0 rfl rfl)
theorem dX4_oneOf_1 : decode cX4_oneOf 1 = .ok (.istore_n 2, 1) := dk_61 (dk_at dksX4_oneOf_0 1 rfl rfl)
theorem dX4_oneOf_2 : decode cX4_oneOf 2 = .ok (.iload_n 2, 1) := dk_28 (dk_at dksX4_oneOf_0 2 rfl rfl)
theorem dX4_oneOf_3 : decode cX4_oneOf 3 = .ok (.aload_n 1, 1) := dk_43 (dk_at dksX4_oneOf_0 3 rfl rfl)
theorem dX4_oneOf_4 : decode cX4_oneOf 4 = .ok (.arraylength, 1) := dk_190 (dk_at dksX4_oneOf_0 4 rfl rfl)
theorem dX4_oneOf_5 : decode cX4_oneOf 5 = .ok (.if_icmp .ge 21, 3) := dk_162 0 21 (dk_at dksX4_oneOf_0 5 rfl rfl)
theorem dX4_oneOf_8 : decode cX4_oneOf 8 = .ok (.aload_n 0, 1) := dk_42 (dk_at dksX4_oneOf_0 8 rfl rfl)
theorem dX4_oneOf_9 : decode cX4_oneOf 9 = .ok (.aload_n 1, 1) := dk_43 (dk_at dksX4_oneOf_0 9 rfl rfl)
theorem dX4_oneOf_10 : decode cX4_oneOf 10 = .ok (.iload_n 2, 1) := dk_28 (dk_at dksX4_oneOf_0 10 rfl rfl)
theorem dX4_oneOf_11 : decode cX4_oneOf 11 = .ok (.aaload, 1) := dk_50 (dk_at dksX4_oneOf_0 11 rfl rfl)
theorem dX4_oneOf_12 : decode cX4_oneOf 12 = .ok (.invokevirtual 68, 3) := dk_182 0 68 (dk_at dksX4_oneOf_0 12 rfl rfl)
theorem dX4_oneOf_15 : decode cX4_oneOf 15 = .ok (.ifCond .eq 5, 3) := dk_153 0 5 (dk_at dksX4_oneOf_0 15 rfl rfl)
theorem dX4_oneOf_18 : decode cX4_oneOf 18 = .ok (.iload_n 2, 1) := dk_28 (dk_at dksX4_oneOf_0 18 rfl rfl)
theorem dX4_oneOf_19 : decode cX4_oneOf 19 = .ok (.ireturn, 1) := dk_172 (dk_at dksX4_oneOf_0 19 rfl rfl)
theorem dX4_oneOf_20 : decode cX4_oneOf 20 = .ok (.iinc 2 1, 3) := dk_132 2 1 (dk_at dksX4_oneOf_0 20 rfl rfl)
theorem dX4_oneOf_23 : decode cX4_oneOf 23 = .ok (.goto (-21), 3) := dk_167 255 235 (dk_at dksX4_oneOf_1 0 rfl rfl)
theorem dX4_oneOf_26 : decode cX4_oneOf 26 = .ok (.iconst (-1), 1) := dk_2 (dk_at dksX4_oneOf_1 3 rfl rfl)
theorem dX4_oneOf_27 : decode cX4_oneOf 27 = .ok (.ireturn, 1) := dk_172 (dk_at dksX4_oneOf_1 4 rfl rfl)
abbrev cX4_isWord : ByteArray := prog_13_method_6_code
def yX4_isWord : MethodName := ⟨RX4, "isWord", "(Ljava/lang/String;)Z"⟩
def dkwX4_isWord_2 : List UInt8 := [180, 0, 42, 21, 4, 96, 51, 160, 0, 7, 4, 167, 0, 4, 3, 62, 132, 4, 1, 167, 255, 213, 29, 172]
abbrev dktX4_isWord_2 : List UInt8 := dkwX4_isWord_2 ++ []
def dkwX4_isWord_1 : List UInt8 := [153, 0, 45, 21, 4, 28, 162, 0, 39, 43, 21, 4, 182, 0, 64, 42, 180, 0, 3, 180, 0, 48, 42]
abbrev dktX4_isWord_1 : List UInt8 := dkwX4_isWord_1 ++ dktX4_isWord_2
def dkwX4_isWord_0 : List UInt8 := [42, 182, 0, 56, 61, 28, 43, 182, 0, 59, 160, 0, 7, 4, 167, 0, 4, 3, 62, 3, 54, 4, 29]
abbrev dktX4_isWord_0 : List UInt8 := dkwX4_isWord_0 ++ dktX4_isWord_1
theorem dksX4_isWord_0 : cX4_isWord.data.toList.drop 0 = dktX4_isWord_0 := by decide +kernel
theorem dksX4_isWord_1 : cX4_isWord.data.toList.drop 23 = dktX4_isWord_1 := dk_seg dksX4_isWord_0 23 rfl rfl
theorem dksX4_isWord_2 : cX4_isWord.data.toList.drop 46 = dktX4_isWord_2 := dk_seg dksX4_isWord_1 23 rfl rfl
theorem dX4_isWord_0 : decode cX4_isWord 0 = .ok (.aload_n 0, 1) := dk_42 (dk_at dksX4_isWord_0 0 rfl rfl)
theorem dX4_isWord_1 : decode cX4_isWord 1 = .ok (.invokevirtual 56, 3) := dk_182 0 56 (dk_at dksX4_isWord_0 1 rfl rfl)
theorem dX4_isWord_4 : decode cX4_isWord 4 = .ok (.istore_n 2, 1) := dk_61 (dk_at dksX4_isWord_0 4 rfl rfl)
theorem dX4_isWord_5 : decode cX4_isWord 5 = .ok (.iload_n 2, 1) := dk_28 (dk_at dksX4_isWord_0 5 rfl rfl)
theorem dX4_isWord_6 : decode cX4_isWord 6 = .ok (.aload_n 1, 1) := dk_43 (dk_at dksX4_isWord_0 6 rfl rfl)
theorem dX4_isWord_7 : decode cX4_isWord 7 = .ok (.invokevirtual 59, 3) := dk_182 0 59 (dk_at dksX4_isWord_0 7 rfl rfl)
theorem dX4_isWord_10 : decode cX4_isWord 10 = .ok (.if_icmp .ne 7, 3) := dk_160 0 7 (dk_at dksX4_isWord_0 10 rfl rfl)
theorem dX4_isWord_13 : decode cX4_isWord 13 = .ok (.iconst 1, 1) := dk_4 (dk_at dksX4_isWord_0 13 rfl rfl)
theorem dX4_isWord_14 : decode cX4_isWord 14 = .ok (.goto 4, 3) := dk_167 0 4 (dk_at dksX4_isWord_0 14 rfl rfl)
theorem dX4_isWord_17 : decode cX4_isWord 17 = .ok (.iconst 0, 1) := dk_3 (dk_at dksX4_isWord_0 17 rfl rfl)
theorem dX4_isWord_18 : decode cX4_isWord 18 = .ok (.istore_n 3, 1) := dk_62 (dk_at dksX4_isWord_0 18 rfl rfl)
theorem dX4_isWord_19 : decode cX4_isWord 19 = .ok (.iconst 0, 1) := dk_3 (dk_at dksX4_isWord_0 19 rfl rfl)
theorem dX4_isWord_20 : decode cX4_isWord 20 = .ok (.istore 4, 2) := dk_54 4 (dk_at dksX4_isWord_0 20 rfl rfl)
theorem dX4_isWord_22 : decode cX4_isWord 22 = .ok (.iload_n 3, 1) := dk_29 (dk_at dksX4_isWord_0 22 rfl rfl)
theorem dX4_isWord_23 : decode cX4_isWord 23 = .ok (.ifCond .eq 45, 3) := dk_153 0 45 (dk_at dksX4_isWord_1 0 rfl rfl)
theorem dX4_isWord_26 : decode cX4_isWord 26 = .ok (.iload 4, 2) := dk_21 4 (dk_at dksX4_isWord_1 3 rfl rfl)
theorem dX4_isWord_28 : decode cX4_isWord 28 = .ok (.iload_n 2, 1) := dk_28 (dk_at dksX4_isWord_1 5 rfl rfl)
theorem dX4_isWord_29 : decode cX4_isWord 29 = .ok (.if_icmp .ge 39, 3) := dk_162 0 39 (dk_at dksX4_isWord_1 6 rfl rfl)
theorem dX4_isWord_32 : decode cX4_isWord 32 = .ok (.aload_n 1, 1) := dk_43 (dk_at dksX4_isWord_1 9 rfl rfl)
theorem dX4_isWord_33 : decode cX4_isWord 33 = .ok (.iload 4, 2) := dk_21 4 (dk_at dksX4_isWord_1 10 rfl rfl)
theorem dX4_isWord_35 : decode cX4_isWord 35 = .ok (.invokevirtual 64, 3) := dk_182 0 64 (dk_at dksX4_isWord_1 12 rfl rfl)
theorem dX4_isWord_38 : decode cX4_isWord 38 = .ok (.aload_n 0, 1) := dk_42 (dk_at dksX4_isWord_1 15 rfl rfl)
theorem dX4_isWord_39 : decode cX4_isWord 39 = .ok (.getfield 3, 3) := dk_180 0 3 (dk_at dksX4_isWord_1 16 rfl rfl)
theorem dX4_isWord_42 : decode cX4_isWord 42 = .ok (.getfield 48, 3) := dk_180 0 48 (dk_at dksX4_isWord_1 19 rfl rfl)
theorem dX4_isWord_45 : decode cX4_isWord 45 = .ok (.aload_n 0, 1) := dk_42 (dk_at dksX4_isWord_1 22 rfl rfl)
theorem dX4_isWord_46 : decode cX4_isWord 46 = .ok (.getfield 42, 3) := dk_180 0 42 (dk_at dksX4_isWord_2 0 rfl rfl)
theorem dX4_isWord_49 : decode cX4_isWord 49 = .ok (.iload 4, 2) := dk_21 4 (dk_at dksX4_isWord_2 3 rfl rfl)
theorem dX4_isWord_51 : decode cX4_isWord 51 = .ok (.iadd, 1) := dk_96 (dk_at dksX4_isWord_2 5 rfl rfl)
theorem dX4_isWord_52 : decode cX4_isWord 52 = .ok (.baload, 1) := dk_51 (dk_at dksX4_isWord_2 6 rfl rfl)
theorem dX4_isWord_53 : decode cX4_isWord 53 = .ok (.if_icmp .ne 7, 3) := dk_160 0 7 (dk_at dksX4_isWord_2 7 rfl rfl)
theorem dX4_isWord_56 : decode cX4_isWord 56 = .ok (.iconst 1, 1) := dk_4 (dk_at dksX4_isWord_2 10 rfl rfl)
theorem dX4_isWord_57 : decode cX4_isWord 57 = .ok (.goto 4, 3) := dk_167 0 4 (dk_at dksX4_isWord_2 11 rfl rfl)
theorem dX4_isWord_60 : decode cX4_isWord 60 = .ok (.iconst 0, 1) := dk_3 (dk_at dksX4_isWord_2 14 rfl rfl)
theorem dX4_isWord_61 : decode cX4_isWord 61 = .ok (.istore_n 3, 1) := dk_62 (dk_at dksX4_isWord_2 15 rfl rfl)
theorem dX4_isWord_62 : decode cX4_isWord 62 = .ok (.iinc 4 1, 3) := dk_132 4 1 (dk_at dksX4_isWord_2 16 rfl rfl)
theorem dX4_isWord_65 : decode cX4_isWord 65 = .ok (.goto (-43), 3) := dk_167 255 213 (dk_at dksX4_isWord_2 19 rfl rfl)
theorem dX4_isWord_68 : decode cX4_isWord 68 = .ok (.iload_n 3, 1) := dk_29 (dk_at dksX4_isWord_2 22 rfl rfl)
theorem dX4_isWord_69 : decode cX4_isWord 69 = .ok (.ireturn, 1) := dk_172 (dk_at dksX4_isWord_2 23 rfl rfl)
abbrev cX4_letters : ByteArray := prog_13_method_5_code
def yX4_letters : MethodName := ⟨RX4, "letters", "()I"⟩
def dkwX4_letters_2 : List UInt8 := [180, 0, 48, 42, 180, 0, 42, 27, 96, 51, 16, 122, 163, 0, 9, 132, 1, 1, 167, 255, 199, 27, 172]
abbrev dktX4_letters_2 : List UInt8 := dkwX4_letters_2 ++ []
def dkwX4_letters_1 : List UInt8 := [180, 0, 3, 180, 0, 48, 42, 180, 0, 42, 27, 96, 51, 16, 97, 161, 0, 28, 42, 180, 0, 3]
abbrev dktX4_letters_1 : List UInt8 := dkwX4_letters_1 ++ dktX4_letters_2
def dkwX4_letters_0 : List UInt8 := [42, 182, 0, 52, 87, 3, 60, 42, 180, 0, 42, 27, 96, 42, 180, 0, 3, 180, 0, 45, 162, 0, 47, 42]
abbrev dktX4_letters_0 : List UInt8 := dkwX4_letters_0 ++ dktX4_letters_1
theorem dksX4_letters_0 : cX4_letters.data.toList.drop 0 = dktX4_letters_0 := by decide +kernel
theorem dksX4_letters_1 : cX4_letters.data.toList.drop 24 = dktX4_letters_1 := dk_seg dksX4_letters_0 24 rfl rfl
theorem dksX4_letters_2 : cX4_letters.data.toList.drop 46 = dktX4_letters_2 := dk_seg dksX4_letters_1 22 rfl rfl
theorem dX4_letters_0 : decode cX4_letters 0 = .ok (.aload_n 0, 1) := dk_42 (dk_at dksX4_letters_0 0 rfl rfl)
theorem dX4_letters_1 : decode cX4_letters 1 = .ok (.invokevirtual 52, 3) := dk_182 0 52 (dk_at dksX4_letters_0 1 rfl rfl)
theorem dX4_letters_4 : decode cX4_letters 4 = .ok (.pop, 1) := dk_87 (dk_at dksX4_letters_0 4 rfl rfl)
theorem dX4_letters_5 : decode cX4_letters 5 = .ok (.iconst 0, 1) := dk_3 (dk_at dksX4_letters_0 5 rfl rfl)
theorem dX4_letters_6 : decode cX4_letters 6 = .ok (.istore_n 1, 1) := dk_60 (dk_at dksX4_letters_0 6 rfl rfl)
theorem dX4_letters_7 : decode cX4_letters 7 = .ok (.aload_n 0, 1) := dk_42 (dk_at dksX4_letters_0 7 rfl rfl)
theorem dX4_letters_8 : decode cX4_letters 8 = .ok (.getfield 42, 3) := dk_180 0 42 (dk_at dksX4_letters_0 8 rfl rfl)
theorem dX4_letters_11 : decode cX4_letters 11 = .ok (.iload_n 1, 1) := dk_27 (dk_at dksX4_letters_0 11 rfl rfl)
theorem dX4_letters_12 : decode cX4_letters 12 = .ok (.iadd, 1) := dk_96 (dk_at dksX4_letters_0 12 rfl rfl)
theorem dX4_letters_13 : decode cX4_letters 13 = .ok (.aload_n 0, 1) := dk_42 (dk_at dksX4_letters_0 13 rfl rfl)
theorem dX4_letters_14 : decode cX4_letters 14 = .ok (.getfield 3, 3) := dk_180 0 3 (dk_at dksX4_letters_0 14 rfl rfl)
theorem dX4_letters_17 : decode cX4_letters 17 = .ok (.getfield 45, 3) := dk_180 0 45 (dk_at dksX4_letters_0 17 rfl rfl)
theorem dX4_letters_20 : decode cX4_letters 20 = .ok (.if_icmp .ge 47, 3) := dk_162 0 47 (dk_at dksX4_letters_0 20 rfl rfl)
theorem dX4_letters_23 : decode cX4_letters 23 = .ok (.aload_n 0, 1) := dk_42 (dk_at dksX4_letters_0 23 rfl rfl)
theorem dX4_letters_24 : decode cX4_letters 24 = .ok (.getfield 3, 3) := dk_180 0 3 (dk_at dksX4_letters_1 0 rfl rfl)
theorem dX4_letters_27 : decode cX4_letters 27 = .ok (.getfield 48, 3) := dk_180 0 48 (dk_at dksX4_letters_1 3 rfl rfl)
theorem dX4_letters_30 : decode cX4_letters 30 = .ok (.aload_n 0, 1) := dk_42 (dk_at dksX4_letters_1 6 rfl rfl)
theorem dX4_letters_31 : decode cX4_letters 31 = .ok (.getfield 42, 3) := dk_180 0 42 (dk_at dksX4_letters_1 7 rfl rfl)
theorem dX4_letters_34 : decode cX4_letters 34 = .ok (.iload_n 1, 1) := dk_27 (dk_at dksX4_letters_1 10 rfl rfl)
theorem dX4_letters_35 : decode cX4_letters 35 = .ok (.iadd, 1) := dk_96 (dk_at dksX4_letters_1 11 rfl rfl)
theorem dX4_letters_36 : decode cX4_letters 36 = .ok (.baload, 1) := dk_51 (dk_at dksX4_letters_1 12 rfl rfl)
theorem dX4_letters_37 : decode cX4_letters 37 = .ok (.bipush 97, 2) := dk_16 97 (dk_at dksX4_letters_1 13 rfl rfl)
theorem dX4_letters_39 : decode cX4_letters 39 = .ok (.if_icmp .lt 28, 3) := dk_161 0 28 (dk_at dksX4_letters_1 15 rfl rfl)
theorem dX4_letters_42 : decode cX4_letters 42 = .ok (.aload_n 0, 1) := dk_42 (dk_at dksX4_letters_1 18 rfl rfl)
theorem dX4_letters_43 : decode cX4_letters 43 = .ok (.getfield 3, 3) := dk_180 0 3 (dk_at dksX4_letters_1 19 rfl rfl)
theorem dX4_letters_46 : decode cX4_letters 46 = .ok (.getfield 48, 3) := dk_180 0 48 (dk_at dksX4_letters_2 0 rfl rfl)
theorem dX4_letters_49 : decode cX4_letters 49 = .ok (.aload_n 0, 1) := dk_42 (dk_at dksX4_letters_2 3 rfl rfl)
theorem dX4_letters_50 : decode cX4_letters 50 = .ok (.getfield 42, 3) := dk_180 0 42 (dk_at dksX4_letters_2 4 rfl rfl)
theorem dX4_letters_53 : decode cX4_letters 53 = .ok (.iload_n 1, 1) := dk_27 (dk_at dksX4_letters_2 7 rfl rfl)
theorem dX4_letters_54 : decode cX4_letters 54 = .ok (.iadd, 1) := dk_96 (dk_at dksX4_letters_2 8 rfl rfl)
theorem dX4_letters_55 : decode cX4_letters 55 = .ok (.baload, 1) := dk_51 (dk_at dksX4_letters_2 9 rfl rfl)
theorem dX4_letters_56 : decode cX4_letters 56 = .ok (.bipush 122, 2) := dk_16 122 (dk_at dksX4_letters_2 10 rfl rfl)
theorem dX4_letters_58 : decode cX4_letters 58 = .ok (.if_icmp .gt 9, 3) := dk_163 0 9 (dk_at dksX4_letters_2 12 rfl rfl)
theorem dX4_letters_61 : decode cX4_letters 61 = .ok (.iinc 1 1, 3) := dk_132 1 1 (dk_at dksX4_letters_2 15 rfl rfl)
theorem dX4_letters_64 : decode cX4_letters 64 = .ok (.goto (-57), 3) := dk_167 255 199 (dk_at dksX4_letters_2 18 rfl rfl)
theorem dX4_letters_67 : decode cX4_letters 67 = .ok (.iload_n 1, 1) := dk_27 (dk_at dksX4_letters_2 21 rfl rfl)
theorem dX4_letters_68 : decode cX4_letters 68 = .ok (.ireturn, 1) := dk_172 (dk_at dksX4_letters_2 22 rfl rfl)
abbrev cX4_demand : ByteArray := prog_13_method_2_code
def yX4_demand : MethodName := ⟨RX4, "demand", "(ZII)V"⟩
def dkwX4_demand_1 : List UInt8 := [181, 0, 39, 42, 180, 0, 3, 180, 0, 29, 191]
abbrev dktX4_demand_1 : List UInt8 := dkwX4_demand_1 ++ []
def dkwX4_demand_0 : List UInt8 := [27, 153, 0, 4, 177, 42, 180, 0, 3, 180, 0, 29, 28, 181, 0, 33, 42, 180, 0, 3, 180, 0, 29, 29]
abbrev dktX4_demand_0 : List UInt8 := dkwX4_demand_0 ++ dktX4_demand_1
theorem dksX4_demand_0 : cX4_demand.data.toList.drop 0 = dktX4_demand_0 := by decide +kernel
theorem dksX4_demand_1 : cX4_demand.data.toList.drop 24 = dktX4_demand_1 := dk_seg dksX4_demand_0 24 rfl rfl
theorem dX4_demand_0 : decode cX4_demand 0 = .ok (.iload_n 1, 1) := dk_27 (dk_at dksX4_demand_0 0 rfl rfl)
theorem dX4_demand_1 : decode cX4_demand 1 = .ok (.ifCond .eq 4, 3) := dk_153 0 4 (dk_at dksX4_demand_0 1 rfl rfl)
theorem dX4_demand_4 : decode cX4_demand 4 = .ok (.return_, 1) := dk_177 (dk_at dksX4_demand_0 4 rfl rfl)
theorem dX4_demand_5 : decode cX4_demand 5 = .ok (.aload_n 0, 1) := dk_42 (dk_at dksX4_demand_0 5 rfl rfl)
theorem dX4_demand_6 : decode cX4_demand 6 = .ok (.getfield 3, 3) := dk_180 0 3 (dk_at dksX4_demand_0 6 rfl rfl)
theorem dX4_demand_9 : decode cX4_demand 9 = .ok (.getfield 29, 3) := dk_180 0 29 (dk_at dksX4_demand_0 9 rfl rfl)
theorem dX4_demand_12 : decode cX4_demand 12 = .ok (.iload_n 2, 1) := dk_28 (dk_at dksX4_demand_0 12 rfl rfl)
theorem dX4_demand_13 : decode cX4_demand 13 = .ok (.putfield 33, 3) := dk_181 0 33 (dk_at dksX4_demand_0 13 rfl rfl)
theorem dX4_demand_16 : decode cX4_demand 16 = .ok (.aload_n 0, 1) := dk_42 (dk_at dksX4_demand_0 16 rfl rfl)
theorem dX4_demand_17 : decode cX4_demand 17 = .ok (.getfield 3, 3) := dk_180 0 3 (dk_at dksX4_demand_0 17 rfl rfl)
theorem dX4_demand_20 : decode cX4_demand 20 = .ok (.getfield 29, 3) := dk_180 0 29 (dk_at dksX4_demand_0 20 rfl rfl)
theorem dX4_demand_23 : decode cX4_demand 23 = .ok (.iload_n 3, 1) := dk_29 (dk_at dksX4_demand_0 23 rfl rfl)
theorem dX4_demand_24 : decode cX4_demand 24 = .ok (.putfield 39, 3) := dk_181 0 39 (dk_at dksX4_demand_1 0 rfl rfl)
theorem dX4_demand_27 : decode cX4_demand 27 = .ok (.aload_n 0, 1) := dk_42 (dk_at dksX4_demand_1 3 rfl rfl)
theorem dX4_demand_28 : decode cX4_demand 28 = .ok (.getfield 3, 3) := dk_180 0 3 (dk_at dksX4_demand_1 4 rfl rfl)
theorem dX4_demand_31 : decode cX4_demand 31 = .ok (.getfield 29, 3) := dk_180 0 29 (dk_at dksX4_demand_1 7 rfl rfl)
theorem dX4_demand_34 : decode cX4_demand 34 = .ok (.athrow, 1) := dk_191 (dk_at dksX4_demand_1 10 rfl rfl)
abbrev cX4_canBe : ByteArray := prog_13_method_14_code
def yX4_canBe : MethodName := ⟨RX4, "canBe", "(I)Z"⟩
def dkwX4_canBe_3 : List UInt8 := [180, 0, 26, 180, 0, 101, 16, 12, 162, 0, 7, 4, 167, 0, 4, 3, 172]
abbrev dktX4_canBe_3 : List UInt8 := dkwX4_canBe_3 ++ []
def dkwX4_canBe_2 : List UInt8 := [180, 0, 26, 180, 0, 98, 8, 162, 0, 7, 4, 167, 0, 29, 3, 167, 0, 25, 27, 5, 160, 0, 15, 42]
abbrev dktX4_canBe_2 : List UInt8 := dkwX4_canBe_2 ++ dktX4_canBe_3
def dkwX4_canBe_1 : List UInt8 := [180, 0, 93, 154, 0, 7, 4, 167, 0, 4, 3, 159, 0, 5, 3, 172, 27, 4, 160, 0, 22, 42]
abbrev dktX4_canBe_1 : List UInt8 := dkwX4_canBe_1 ++ dktX4_canBe_2
def dkwX4_canBe_0 : List UInt8 := [42, 180, 0, 90, 16, 40, 162, 0, 30, 27, 154, 0, 7, 4, 167, 0, 4, 3, 42, 180, 0, 26]
abbrev dktX4_canBe_0 : List UInt8 := dkwX4_canBe_0 ++ dktX4_canBe_1
theorem dksX4_canBe_0 : cX4_canBe.data.toList.drop 0 = dktX4_canBe_0 := by decide +kernel
theorem dksX4_canBe_1 : cX4_canBe.data.toList.drop 22 = dktX4_canBe_1 := dk_seg dksX4_canBe_0 22 rfl rfl
theorem dksX4_canBe_2 : cX4_canBe.data.toList.drop 44 = dktX4_canBe_2 := dk_seg dksX4_canBe_1 22 rfl rfl
theorem dksX4_canBe_3 : cX4_canBe.data.toList.drop 68 = dktX4_canBe_3 := dk_seg dksX4_canBe_2 24 rfl rfl
theorem dX4_canBe_0 : decode cX4_canBe 0 = .ok (.aload_n 0, 1) := dk_42 (dk_at dksX4_canBe_0 0 rfl rfl)
theorem dX4_canBe_1 : decode cX4_canBe 1 = .ok (.getfield 90, 3) := dk_180 0 90 (dk_at dksX4_canBe_0 1 rfl rfl)
theorem dX4_canBe_4 : decode cX4_canBe 4 = .ok (.bipush 40, 2) := dk_16 40 (dk_at dksX4_canBe_0 4 rfl rfl)
theorem dX4_canBe_6 : decode cX4_canBe 6 = .ok (.if_icmp .ge 30, 3) := dk_162 0 30 (dk_at dksX4_canBe_0 6 rfl rfl)
theorem dX4_canBe_9 : decode cX4_canBe 9 = .ok (.iload_n 1, 1) := dk_27 (dk_at dksX4_canBe_0 9 rfl rfl)
theorem dX4_canBe_10 : decode cX4_canBe 10 = .ok (.ifCond .ne 7, 3) := dk_154 0 7 (dk_at dksX4_canBe_0 10 rfl rfl)
theorem dX4_canBe_13 : decode cX4_canBe 13 = .ok (.iconst 1, 1) := dk_4 (dk_at dksX4_canBe_0 13 rfl rfl)
theorem dX4_canBe_14 : decode cX4_canBe 14 = .ok (.goto 4, 3) := dk_167 0 4 (dk_at dksX4_canBe_0 14 rfl rfl)
theorem dX4_canBe_17 : decode cX4_canBe 17 = .ok (.iconst 0, 1) := dk_3 (dk_at dksX4_canBe_0 17 rfl rfl)
theorem dX4_canBe_18 : decode cX4_canBe 18 = .ok (.aload_n 0, 1) := dk_42 (dk_at dksX4_canBe_0 18 rfl rfl)
theorem dX4_canBe_19 : decode cX4_canBe 19 = .ok (.getfield 26, 3) := dk_180 0 26 (dk_at dksX4_canBe_0 19 rfl rfl)
theorem dX4_canBe_22 : decode cX4_canBe 22 = .ok (.getfield 93, 3) := dk_180 0 93 (dk_at dksX4_canBe_1 0 rfl rfl)
theorem dX4_canBe_25 : decode cX4_canBe 25 = .ok (.ifCond .ne 7, 3) := dk_154 0 7 (dk_at dksX4_canBe_1 3 rfl rfl)
theorem dX4_canBe_28 : decode cX4_canBe 28 = .ok (.iconst 1, 1) := dk_4 (dk_at dksX4_canBe_1 6 rfl rfl)
theorem dX4_canBe_29 : decode cX4_canBe 29 = .ok (.goto 4, 3) := dk_167 0 4 (dk_at dksX4_canBe_1 7 rfl rfl)
theorem dX4_canBe_32 : decode cX4_canBe 32 = .ok (.iconst 0, 1) := dk_3 (dk_at dksX4_canBe_1 10 rfl rfl)
theorem dX4_canBe_33 : decode cX4_canBe 33 = .ok (.if_icmp .eq 5, 3) := dk_159 0 5 (dk_at dksX4_canBe_1 11 rfl rfl)
theorem dX4_canBe_36 : decode cX4_canBe 36 = .ok (.iconst 0, 1) := dk_3 (dk_at dksX4_canBe_1 14 rfl rfl)
theorem dX4_canBe_37 : decode cX4_canBe 37 = .ok (.ireturn, 1) := dk_172 (dk_at dksX4_canBe_1 15 rfl rfl)
theorem dX4_canBe_38 : decode cX4_canBe 38 = .ok (.iload_n 1, 1) := dk_27 (dk_at dksX4_canBe_1 16 rfl rfl)
theorem dX4_canBe_39 : decode cX4_canBe 39 = .ok (.iconst 1, 1) := dk_4 (dk_at dksX4_canBe_1 17 rfl rfl)
theorem dX4_canBe_40 : decode cX4_canBe 40 = .ok (.if_icmp .ne 22, 3) := dk_160 0 22 (dk_at dksX4_canBe_1 18 rfl rfl)
theorem dX4_canBe_43 : decode cX4_canBe 43 = .ok (.aload_n 0, 1) := dk_42 (dk_at dksX4_canBe_1 21 rfl rfl)
theorem dX4_canBe_44 : decode cX4_canBe 44 = .ok (.getfield 26, 3) := dk_180 0 26 (dk_at dksX4_canBe_2 0 rfl rfl)
theorem dX4_canBe_47 : decode cX4_canBe 47 = .ok (.getfield 98, 3) := dk_180 0 98 (dk_at dksX4_canBe_2 3 rfl rfl)
theorem dX4_canBe_50 : decode cX4_canBe 50 = .ok (.iconst 5, 1) := dk_8 (dk_at dksX4_canBe_2 6 rfl rfl)
theorem dX4_canBe_51 : decode cX4_canBe 51 = .ok (.if_icmp .ge 7, 3) := dk_162 0 7 (dk_at dksX4_canBe_2 7 rfl rfl)
theorem dX4_canBe_54 : decode cX4_canBe 54 = .ok (.iconst 1, 1) := dk_4 (dk_at dksX4_canBe_2 10 rfl rfl)
theorem dX4_canBe_55 : decode cX4_canBe 55 = .ok (.goto 29, 3) := dk_167 0 29 (dk_at dksX4_canBe_2 11 rfl rfl)
theorem dX4_canBe_58 : decode cX4_canBe 58 = .ok (.iconst 0, 1) := dk_3 (dk_at dksX4_canBe_2 14 rfl rfl)
theorem dX4_canBe_59 : decode cX4_canBe 59 = .ok (.goto 25, 3) := dk_167 0 25 (dk_at dksX4_canBe_2 15 rfl rfl)
theorem dX4_canBe_62 : decode cX4_canBe 62 = .ok (.iload_n 1, 1) := dk_27 (dk_at dksX4_canBe_2 18 rfl rfl)
theorem dX4_canBe_63 : decode cX4_canBe 63 = .ok (.iconst 2, 1) := dk_5 (dk_at dksX4_canBe_2 19 rfl rfl)
theorem dX4_canBe_64 : decode cX4_canBe 64 = .ok (.if_icmp .ne 15, 3) := dk_160 0 15 (dk_at dksX4_canBe_2 20 rfl rfl)
theorem dX4_canBe_67 : decode cX4_canBe 67 = .ok (.aload_n 0, 1) := dk_42 (dk_at dksX4_canBe_2 23 rfl rfl)
theorem dX4_canBe_68 : decode cX4_canBe 68 = .ok (.getfield 26, 3) := dk_180 0 26 (dk_at dksX4_canBe_3 0 rfl rfl)
theorem dX4_canBe_71 : decode cX4_canBe 71 = .ok (.getfield 101, 3) := dk_180 0 101 (dk_at dksX4_canBe_3 3 rfl rfl)
theorem dX4_canBe_74 : decode cX4_canBe 74 = .ok (.bipush 12, 2) := dk_16 12 (dk_at dksX4_canBe_3 6 rfl rfl)
theorem dX4_canBe_76 : decode cX4_canBe 76 = .ok (.if_icmp .ge 7, 3) := dk_162 0 7 (dk_at dksX4_canBe_3 8 rfl rfl)
theorem dX4_canBe_79 : decode cX4_canBe 79 = .ok (.iconst 1, 1) := dk_4 (dk_at dksX4_canBe_3 11 rfl rfl)
theorem dX4_canBe_80 : decode cX4_canBe 80 = .ok (.goto 4, 3) := dk_167 0 4 (dk_at dksX4_canBe_3 12 rfl rfl)
theorem dX4_canBe_83 : decode cX4_canBe 83 = .ok (.iconst 0, 1) := dk_3 (dk_at dksX4_canBe_3 15 rfl rfl)
theorem dX4_canBe_84 : decode cX4_canBe 84 = .ok (.ireturn, 1) := dk_172 (dk_at dksX4_canBe_3 16 rfl rfl)
abbrev cX4_line : ByteArray := prog_13_method_19_code
def yX4_line : MethodName := ⟨RX4, "line", "(I)V"⟩
def dkwX4_line_3 : List UInt8 := [182, 0, 121, 4, 84, 177]
abbrev dktX4_line_3 : List UInt8 := dkwX4_line_3 ++ []
def dkwX4_line_2 : List UInt8 := [42, 182, 0, 130, 177, 42, 182, 0, 133, 177, 42, 182, 0, 136, 177, 42, 180, 0, 26, 180, 0, 139, 42]
abbrev dktX4_line_2 : List UInt8 := dkwX4_line_2 ++ dktX4_line_3
def dkwX4_line_1 : List UInt8 := [170, 0, 0, 0, 0, 0, 42, 0, 0, 0, 0, 0, 0, 0, 2, 0, 0, 0, 27, 0, 0, 0, 32, 0, 0, 0, 37]
abbrev dktX4_line_1 : List UInt8 := dkwX4_line_1 ++ dktX4_line_2
def dkwX4_line_0 : List UInt8 := [27]
abbrev dktX4_line_0 : List UInt8 := dkwX4_line_0 ++ dktX4_line_1
theorem dksX4_line_0 : cX4_line.data.toList.drop 0 = dktX4_line_0 := by decide +kernel
theorem dksX4_line_1 : cX4_line.data.toList.drop 1 = dktX4_line_1 := dk_seg dksX4_line_0 1 rfl rfl
theorem dksX4_line_2 : cX4_line.data.toList.drop 28 = dktX4_line_2 := dk_seg dksX4_line_1 27 rfl rfl
theorem dksX4_line_3 : cX4_line.data.toList.drop 51 = dktX4_line_3 := dk_seg dksX4_line_2 23 rfl rfl
theorem dX4_line_0 : decode cX4_line 0 = .ok (.iload_n 1, 1) := dk_27 (dk_at dksX4_line_0 0 rfl rfl)
theorem dX4_line_1 : decode cX4_line 1 = .ok (.tableswitch 42 0 2 #[27, 32, 37], 27) := by decide +kernel
theorem dX4_line_28 : decode cX4_line 28 = .ok (.aload_n 0, 1) := dk_42 (dk_at dksX4_line_2 0 rfl rfl)
theorem dX4_line_29 : decode cX4_line 29 = .ok (.invokevirtual 130, 3) := dk_182 0 130 (dk_at dksX4_line_2 1 rfl rfl)
theorem dX4_line_32 : decode cX4_line 32 = .ok (.return_, 1) := dk_177 (dk_at dksX4_line_2 4 rfl rfl)
theorem dX4_line_33 : decode cX4_line 33 = .ok (.aload_n 0, 1) := dk_42 (dk_at dksX4_line_2 5 rfl rfl)
theorem dX4_line_34 : decode cX4_line 34 = .ok (.invokevirtual 133, 3) := dk_182 0 133 (dk_at dksX4_line_2 6 rfl rfl)
theorem dX4_line_37 : decode cX4_line 37 = .ok (.return_, 1) := dk_177 (dk_at dksX4_line_2 9 rfl rfl)
theorem dX4_line_38 : decode cX4_line 38 = .ok (.aload_n 0, 1) := dk_42 (dk_at dksX4_line_2 10 rfl rfl)
theorem dX4_line_39 : decode cX4_line 39 = .ok (.invokevirtual 136, 3) := dk_182 0 136 (dk_at dksX4_line_2 11 rfl rfl)
theorem dX4_line_42 : decode cX4_line 42 = .ok (.return_, 1) := dk_177 (dk_at dksX4_line_2 14 rfl rfl)
theorem dX4_line_43 : decode cX4_line 43 = .ok (.aload_n 0, 1) := dk_42 (dk_at dksX4_line_2 15 rfl rfl)
theorem dX4_line_44 : decode cX4_line 44 = .ok (.getfield 26, 3) := dk_180 0 26 (dk_at dksX4_line_2 16 rfl rfl)
theorem dX4_line_47 : decode cX4_line 47 = .ok (.getfield 139, 3) := dk_180 0 139 (dk_at dksX4_line_2 19 rfl rfl)
theorem dX4_line_50 : decode cX4_line 50 = .ok (.aload_n 0, 1) := dk_42 (dk_at dksX4_line_2 22 rfl rfl)
theorem dX4_line_51 : decode cX4_line 51 = .ok (.invokevirtual 121, 3) := dk_182 0 121 (dk_at dksX4_line_3 0 rfl rfl)
theorem dX4_line_54 : decode cX4_line 54 = .ok (.iconst 1, 1) := dk_4 (dk_at dksX4_line_3 3 rfl rfl)
theorem dX4_line_55 : decode cX4_line 55 = .ok (.bastore, 1) := dk_84 (dk_at dksX4_line_3 4 rfl rfl)
theorem dX4_line_56 : decode cX4_line 56 = .ok (.return_, 1) := dk_177 (dk_at dksX4_line_3 5 rfl rfl)
abbrev cX4_skyHere : ByteArray := prog_13_method_16_code
def yX4_skyHere : MethodName := ⟨RX4, "skyHere", "()V"⟩
def dkwX4_skyHere_1 : List UInt8 := [182, 0, 107, 181, 0, 114, 42, 180, 0, 26, 4, 181, 0, 93, 177]
abbrev dktX4_skyHere_1 : List UInt8 := dkwX4_skyHere_1 ++ []
def dkwX4_skyHere_0 : List UInt8 := [42, 180, 0, 26, 42, 5, 16, 6, 182, 0, 107, 181, 0, 111, 42, 180, 0, 26, 42, 4, 16, 60]
abbrev dktX4_skyHere_0 : List UInt8 := dkwX4_skyHere_0 ++ dktX4_skyHere_1
theorem dksX4_skyHere_0 : cX4_skyHere.data.toList.drop 0 = dktX4_skyHere_0 := by decide +kernel
theorem dksX4_skyHere_1 : cX4_skyHere.data.toList.drop 22 = dktX4_skyHere_1 := dk_seg dksX4_skyHere_0 22 rfl rfl
theorem dX4_skyHere_0 : decode cX4_skyHere 0 = .ok (.aload_n 0, 1) := dk_42 (dk_at dksX4_skyHere_0 0 rfl rfl)
theorem dX4_skyHere_1 : decode cX4_skyHere 1 = .ok (.getfield 26, 3) := dk_180 0 26 (dk_at dksX4_skyHere_0 1 rfl rfl)
theorem dX4_skyHere_4 : decode cX4_skyHere 4 = .ok (.aload_n 0, 1) := dk_42 (dk_at dksX4_skyHere_0 4 rfl rfl)
theorem dX4_skyHere_5 : decode cX4_skyHere 5 = .ok (.iconst 2, 1) := dk_5 (dk_at dksX4_skyHere_0 5 rfl rfl)
theorem dX4_skyHere_6 : decode cX4_skyHere 6 = .ok (.bipush 6, 2) := dk_16 6 (dk_at dksX4_skyHere_0 6 rfl rfl)
theorem dX4_skyHere_8 : decode cX4_skyHere 8 = .ok (.invokevirtual 107, 3) := dk_182 0 107 (dk_at dksX4_skyHere_0 8 rfl rfl)
theorem dX4_skyHere_11 : decode cX4_skyHere 11 = .ok (.putfield 111, 3) := dk_181 0 111 (dk_at dksX4_skyHere_0 11 rfl rfl)
theorem dX4_skyHere_14 : decode cX4_skyHere 14 = .ok (.aload_n 0, 1) := dk_42 (dk_at dksX4_skyHere_0 14 rfl rfl)
theorem dX4_skyHere_15 : decode cX4_skyHere 15 = .ok (.getfield 26, 3) := dk_180 0 26 (dk_at dksX4_skyHere_0 15 rfl rfl)
theorem dX4_skyHere_18 : decode cX4_skyHere 18 = .ok (.aload_n 0, 1) := dk_42 (dk_at dksX4_skyHere_0 18 rfl rfl)
theorem dX4_skyHere_19 : decode cX4_skyHere 19 = .ok (.iconst 1, 1) := dk_4 (dk_at dksX4_skyHere_0 19 rfl rfl)
theorem dX4_skyHere_20 : decode cX4_skyHere 20 = .ok (.bipush 60, 2) := dk_16 60 (dk_at dksX4_skyHere_0 20 rfl rfl)
theorem dX4_skyHere_22 : decode cX4_skyHere 22 = .ok (.invokevirtual 107, 3) := dk_182 0 107 (dk_at dksX4_skyHere_1 0 rfl rfl)
theorem dX4_skyHere_25 : decode cX4_skyHere 25 = .ok (.putfield 114, 3) := dk_181 0 114 (dk_at dksX4_skyHere_1 3 rfl rfl)
theorem dX4_skyHere_28 : decode cX4_skyHere 28 = .ok (.aload_n 0, 1) := dk_42 (dk_at dksX4_skyHere_1 6 rfl rfl)
theorem dX4_skyHere_29 : decode cX4_skyHere 29 = .ok (.getfield 26, 3) := dk_180 0 26 (dk_at dksX4_skyHere_1 7 rfl rfl)
theorem dX4_skyHere_32 : decode cX4_skyHere 32 = .ok (.iconst 1, 1) := dk_4 (dk_at dksX4_skyHere_1 10 rfl rfl)
theorem dX4_skyHere_33 : decode cX4_skyHere 33 = .ok (.putfield 93, 3) := dk_181 0 93 (dk_at dksX4_skyHere_1 11 rfl rfl)
theorem dX4_skyHere_36 : decode cX4_skyHere 36 = .ok (.return_, 1) := dk_177 (dk_at dksX4_skyHere_1 14 rfl rfl)
abbrev cX4_number : ByteArray := prog_13_method_10_code
def yX4_number : MethodName := ⟨RX4, "number", "(II)I"⟩
def dkwX4_number_4 : List UInt8 := [133, 27, 133, 28, 133, 184, 0, 80, 153, 0, 7, 4, 167, 0, 4, 3, 4, 29, 182, 0, 76, 21, 4, 172]
abbrev dktX4_number_4 : List UInt8 := dkwX4_number_4 ++ []
def dkwX4_number_3 : List UInt8 := [180, 0, 42, 4, 96, 181, 0, 42, 167, 255, 202, 42, 42, 180, 0, 42, 29, 100, 8, 163, 0, 20, 21, 4]
abbrev dktX4_number_3 : List UInt8 := dkwX4_number_3 ++ dktX4_number_4
def dkwX4_number_2 : List UInt8 := [21, 4, 104, 42, 180, 0, 3, 180, 0, 48, 42, 180, 0, 42, 51, 96, 16, 48, 100, 54, 4, 42, 89]
abbrev dktX4_number_2 : List UInt8 := dkwX4_number_2 ++ dktX4_number_3
def dkwX4_number_1 : List UInt8 := [42, 42, 180, 0, 42, 182, 0, 72, 153, 0, 49, 42, 180, 0, 42, 29, 100, 8, 162, 0, 26, 16, 10]
abbrev dktX4_number_1 : List UInt8 := dkwX4_number_1 ++ dktX4_number_2
def dkwX4_number_0 : List UInt8 := [42, 182, 0, 52, 87, 42, 180, 0, 42, 62, 42, 42, 29, 182, 0, 72, 3, 29, 182, 0, 76, 3, 54, 4]
abbrev dktX4_number_0 : List UInt8 := dkwX4_number_0 ++ dktX4_number_1
theorem dksX4_number_0 : cX4_number.data.toList.drop 0 = dktX4_number_0 := by decide +kernel
theorem dksX4_number_1 : cX4_number.data.toList.drop 24 = dktX4_number_1 := dk_seg dksX4_number_0 24 rfl rfl
theorem dksX4_number_2 : cX4_number.data.toList.drop 47 = dktX4_number_2 := dk_seg dksX4_number_1 23 rfl rfl
theorem dksX4_number_3 : cX4_number.data.toList.drop 70 = dktX4_number_3 := dk_seg dksX4_number_2 23 rfl rfl
theorem dksX4_number_4 : cX4_number.data.toList.drop 94 = dktX4_number_4 := dk_seg dksX4_number_3 24 rfl rfl
theorem dX4_number_0 : decode cX4_number 0 = .ok (.aload_n 0, 1) := dk_42 (dk_at dksX4_number_0 0 rfl rfl)
theorem dX4_number_1 : decode cX4_number 1 = .ok (.invokevirtual 52, 3) := dk_182 0 52 (dk_at dksX4_number_0 1 rfl rfl)
theorem dX4_number_4 : decode cX4_number 4 = .ok (.pop, 1) := dk_87 (dk_at dksX4_number_0 4 rfl rfl)
theorem dX4_number_5 : decode cX4_number 5 = .ok (.aload_n 0, 1) := dk_42 (dk_at dksX4_number_0 5 rfl rfl)
theorem dX4_number_6 : decode cX4_number 6 = .ok (.getfield 42, 3) := dk_180 0 42 (dk_at dksX4_number_0 6 rfl rfl)
theorem dX4_number_9 : decode cX4_number 9 = .ok (.istore_n 3, 1) := dk_62 (dk_at dksX4_number_0 9 rfl rfl)
theorem dX4_number_10 : decode cX4_number 10 = .ok (.aload_n 0, 1) := dk_42 (dk_at dksX4_number_0 10 rfl rfl)
theorem dX4_number_11 : decode cX4_number 11 = .ok (.aload_n 0, 1) := dk_42 (dk_at dksX4_number_0 11 rfl rfl)
theorem dX4_number_12 : decode cX4_number 12 = .ok (.iload_n 3, 1) := dk_29 (dk_at dksX4_number_0 12 rfl rfl)
theorem dX4_number_13 : decode cX4_number 13 = .ok (.invokevirtual 72, 3) := dk_182 0 72 (dk_at dksX4_number_0 13 rfl rfl)
theorem dX4_number_16 : decode cX4_number 16 = .ok (.iconst 0, 1) := dk_3 (dk_at dksX4_number_0 16 rfl rfl)
theorem dX4_number_17 : decode cX4_number 17 = .ok (.iload_n 3, 1) := dk_29 (dk_at dksX4_number_0 17 rfl rfl)
theorem dX4_number_18 : decode cX4_number 18 = .ok (.invokevirtual 76, 3) := dk_182 0 76 (dk_at dksX4_number_0 18 rfl rfl)
theorem dX4_number_21 : decode cX4_number 21 = .ok (.iconst 0, 1) := dk_3 (dk_at dksX4_number_0 21 rfl rfl)
theorem dX4_number_22 : decode cX4_number 22 = .ok (.istore 4, 2) := dk_54 4 (dk_at dksX4_number_0 22 rfl rfl)
theorem dX4_number_24 : decode cX4_number 24 = .ok (.aload_n 0, 1) := dk_42 (dk_at dksX4_number_1 0 rfl rfl)
theorem dX4_number_25 : decode cX4_number 25 = .ok (.aload_n 0, 1) := dk_42 (dk_at dksX4_number_1 1 rfl rfl)
theorem dX4_number_26 : decode cX4_number 26 = .ok (.getfield 42, 3) := dk_180 0 42 (dk_at dksX4_number_1 2 rfl rfl)
theorem dX4_number_29 : decode cX4_number 29 = .ok (.invokevirtual 72, 3) := dk_182 0 72 (dk_at dksX4_number_1 5 rfl rfl)
theorem dX4_number_32 : decode cX4_number 32 = .ok (.ifCond .eq 49, 3) := dk_153 0 49 (dk_at dksX4_number_1 8 rfl rfl)
theorem dX4_number_35 : decode cX4_number 35 = .ok (.aload_n 0, 1) := dk_42 (dk_at dksX4_number_1 11 rfl rfl)
theorem dX4_number_36 : decode cX4_number 36 = .ok (.getfield 42, 3) := dk_180 0 42 (dk_at dksX4_number_1 12 rfl rfl)
theorem dX4_number_39 : decode cX4_number 39 = .ok (.iload_n 3, 1) := dk_29 (dk_at dksX4_number_1 15 rfl rfl)
theorem dX4_number_40 : decode cX4_number 40 = .ok (.isub, 1) := dk_100 (dk_at dksX4_number_1 16 rfl rfl)
theorem dX4_number_41 : decode cX4_number 41 = .ok (.iconst 5, 1) := dk_8 (dk_at dksX4_number_1 17 rfl rfl)
theorem dX4_number_42 : decode cX4_number 42 = .ok (.if_icmp .ge 26, 3) := dk_162 0 26 (dk_at dksX4_number_1 18 rfl rfl)
theorem dX4_number_45 : decode cX4_number 45 = .ok (.bipush 10, 2) := dk_16 10 (dk_at dksX4_number_1 21 rfl rfl)
theorem dX4_number_47 : decode cX4_number 47 = .ok (.iload 4, 2) := dk_21 4 (dk_at dksX4_number_2 0 rfl rfl)
theorem dX4_number_49 : decode cX4_number 49 = .ok (.imul, 1) := dk_104 (dk_at dksX4_number_2 2 rfl rfl)
theorem dX4_number_50 : decode cX4_number 50 = .ok (.aload_n 0, 1) := dk_42 (dk_at dksX4_number_2 3 rfl rfl)
theorem dX4_number_51 : decode cX4_number 51 = .ok (.getfield 3, 3) := dk_180 0 3 (dk_at dksX4_number_2 4 rfl rfl)
theorem dX4_number_54 : decode cX4_number 54 = .ok (.getfield 48, 3) := dk_180 0 48 (dk_at dksX4_number_2 7 rfl rfl)
theorem dX4_number_57 : decode cX4_number 57 = .ok (.aload_n 0, 1) := dk_42 (dk_at dksX4_number_2 10 rfl rfl)
theorem dX4_number_58 : decode cX4_number 58 = .ok (.getfield 42, 3) := dk_180 0 42 (dk_at dksX4_number_2 11 rfl rfl)
theorem dX4_number_61 : decode cX4_number 61 = .ok (.baload, 1) := dk_51 (dk_at dksX4_number_2 14 rfl rfl)
theorem dX4_number_62 : decode cX4_number 62 = .ok (.iadd, 1) := dk_96 (dk_at dksX4_number_2 15 rfl rfl)
theorem dX4_number_63 : decode cX4_number 63 = .ok (.bipush 48, 2) := dk_16 48 (dk_at dksX4_number_2 16 rfl rfl)
theorem dX4_number_65 : decode cX4_number 65 = .ok (.isub, 1) := dk_100 (dk_at dksX4_number_2 18 rfl rfl)
theorem dX4_number_66 : decode cX4_number 66 = .ok (.istore 4, 2) := dk_54 4 (dk_at dksX4_number_2 19 rfl rfl)
theorem dX4_number_68 : decode cX4_number 68 = .ok (.aload_n 0, 1) := dk_42 (dk_at dksX4_number_2 21 rfl rfl)
theorem dX4_number_69 : decode cX4_number 69 = .ok (.dup, 1) := dk_89 (dk_at dksX4_number_2 22 rfl rfl)
theorem dX4_number_70 : decode cX4_number 70 = .ok (.getfield 42, 3) := dk_180 0 42 (dk_at dksX4_number_3 0 rfl rfl)
theorem dX4_number_73 : decode cX4_number 73 = .ok (.iconst 1, 1) := dk_4 (dk_at dksX4_number_3 3 rfl rfl)
theorem dX4_number_74 : decode cX4_number 74 = .ok (.iadd, 1) := dk_96 (dk_at dksX4_number_3 4 rfl rfl)
theorem dX4_number_75 : decode cX4_number 75 = .ok (.putfield 42, 3) := dk_181 0 42 (dk_at dksX4_number_3 5 rfl rfl)
theorem dX4_number_78 : decode cX4_number 78 = .ok (.goto (-54), 3) := dk_167 255 202 (dk_at dksX4_number_3 8 rfl rfl)
theorem dX4_number_81 : decode cX4_number 81 = .ok (.aload_n 0, 1) := dk_42 (dk_at dksX4_number_3 11 rfl rfl)
theorem dX4_number_82 : decode cX4_number 82 = .ok (.aload_n 0, 1) := dk_42 (dk_at dksX4_number_3 12 rfl rfl)
theorem dX4_number_83 : decode cX4_number 83 = .ok (.getfield 42, 3) := dk_180 0 42 (dk_at dksX4_number_3 13 rfl rfl)
theorem dX4_number_86 : decode cX4_number 86 = .ok (.iload_n 3, 1) := dk_29 (dk_at dksX4_number_3 16 rfl rfl)
theorem dX4_number_87 : decode cX4_number 87 = .ok (.isub, 1) := dk_100 (dk_at dksX4_number_3 17 rfl rfl)
theorem dX4_number_88 : decode cX4_number 88 = .ok (.iconst 5, 1) := dk_8 (dk_at dksX4_number_3 18 rfl rfl)
theorem dX4_number_89 : decode cX4_number 89 = .ok (.if_icmp .gt 20, 3) := dk_163 0 20 (dk_at dksX4_number_3 19 rfl rfl)
theorem dX4_number_92 : decode cX4_number 92 = .ok (.iload 4, 2) := dk_21 4 (dk_at dksX4_number_3 22 rfl rfl)
theorem dX4_number_94 : decode cX4_number 94 = .ok (.i2l, 1) := dk_133 (dk_at dksX4_number_4 0 rfl rfl)
theorem dX4_number_95 : decode cX4_number 95 = .ok (.iload_n 1, 1) := dk_27 (dk_at dksX4_number_4 1 rfl rfl)
theorem dX4_number_96 : decode cX4_number 96 = .ok (.i2l, 1) := dk_133 (dk_at dksX4_number_4 2 rfl rfl)
theorem dX4_number_97 : decode cX4_number 97 = .ok (.iload_n 2, 1) := dk_28 (dk_at dksX4_number_4 3 rfl rfl)
theorem dX4_number_98 : decode cX4_number 98 = .ok (.i2l, 1) := dk_133 (dk_at dksX4_number_4 4 rfl rfl)
theorem dX4_number_99 : decode cX4_number 99 = .ok (.invokestatic 80, 3) := dk_184 0 80 (dk_at dksX4_number_4 5 rfl rfl)
theorem dX4_number_102 : decode cX4_number 102 = .ok (.ifCond .eq 7, 3) := dk_153 0 7 (dk_at dksX4_number_4 8 rfl rfl)
theorem dX4_number_105 : decode cX4_number 105 = .ok (.iconst 1, 1) := dk_4 (dk_at dksX4_number_4 11 rfl rfl)
theorem dX4_number_106 : decode cX4_number 106 = .ok (.goto 4, 3) := dk_167 0 4 (dk_at dksX4_number_4 12 rfl rfl)
theorem dX4_number_109 : decode cX4_number 109 = .ok (.iconst 0, 1) := dk_3 (dk_at dksX4_number_4 15 rfl rfl)
theorem dX4_number_110 : decode cX4_number 110 = .ok (.iconst 1, 1) := dk_4 (dk_at dksX4_number_4 16 rfl rfl)
theorem dX4_number_111 : decode cX4_number 111 = .ok (.iload_n 3, 1) := dk_29 (dk_at dksX4_number_4 17 rfl rfl)
theorem dX4_number_112 : decode cX4_number 112 = .ok (.invokevirtual 76, 3) := dk_182 0 76 (dk_at dksX4_number_4 18 rfl rfl)
theorem dX4_number_115 : decode cX4_number 115 = .ok (.iload 4, 2) := dk_21 4 (dk_at dksX4_number_4 21 rfl rfl)
theorem dX4_number_117 : decode cX4_number 117 = .ok (.ireturn, 1) := dk_172 (dk_at dksX4_number_4 23 rfl rfl)
abbrev cX4_isDigit : ByteArray := prog_13_method_9_code
def yX4_isDigit : MethodName := ⟨RX4, "isDigit", "(I)Z"⟩
def dkwX4_isDigit_1 : List UInt8 := [161, 0, 21, 42, 180, 0, 3, 180, 0, 48, 27, 51, 16, 57, 163, 0, 7, 4, 167, 0, 4, 3, 172]
abbrev dktX4_isDigit_1 : List UInt8 := dkwX4_isDigit_1 ++ []
def dkwX4_isDigit_0 : List UInt8 := [27, 42, 180, 0, 3, 180, 0, 45, 162, 0, 35, 42, 180, 0, 3, 180, 0, 48, 27, 51, 16, 48]
abbrev dktX4_isDigit_0 : List UInt8 := dkwX4_isDigit_0 ++ dktX4_isDigit_1
theorem dksX4_isDigit_0 : cX4_isDigit.data.toList.drop 0 = dktX4_isDigit_0 := by decide +kernel
theorem dksX4_isDigit_1 : cX4_isDigit.data.toList.drop 22 = dktX4_isDigit_1 := dk_seg dksX4_isDigit_0 22 rfl rfl
theorem dX4_isDigit_0 : decode cX4_isDigit 0 = .ok (.iload_n 1, 1) := dk_27 (dk_at dksX4_isDigit_0 0 rfl rfl)
theorem dX4_isDigit_1 : decode cX4_isDigit 1 = .ok (.aload_n 0, 1) := dk_42 (dk_at dksX4_isDigit_0 1 rfl rfl)
theorem dX4_isDigit_2 : decode cX4_isDigit 2 = .ok (.getfield 3, 3) := dk_180 0 3 (dk_at dksX4_isDigit_0 2 rfl rfl)
theorem dX4_isDigit_5 : decode cX4_isDigit 5 = .ok (.getfield 45, 3) := dk_180 0 45 (dk_at dksX4_isDigit_0 5 rfl rfl)
theorem dX4_isDigit_8 : decode cX4_isDigit 8 = .ok (.if_icmp .ge 35, 3) := dk_162 0 35 (dk_at dksX4_isDigit_0 8 rfl rfl)
theorem dX4_isDigit_11 : decode cX4_isDigit 11 = .ok (.aload_n 0, 1) := dk_42 (dk_at dksX4_isDigit_0 11 rfl rfl)
theorem dX4_isDigit_12 : decode cX4_isDigit 12 = .ok (.getfield 3, 3) := dk_180 0 3 (dk_at dksX4_isDigit_0 12 rfl rfl)
theorem dX4_isDigit_15 : decode cX4_isDigit 15 = .ok (.getfield 48, 3) := dk_180 0 48 (dk_at dksX4_isDigit_0 15 rfl rfl)
theorem dX4_isDigit_18 : decode cX4_isDigit 18 = .ok (.iload_n 1, 1) := dk_27 (dk_at dksX4_isDigit_0 18 rfl rfl)
theorem dX4_isDigit_19 : decode cX4_isDigit 19 = .ok (.baload, 1) := dk_51 (dk_at dksX4_isDigit_0 19 rfl rfl)
theorem dX4_isDigit_20 : decode cX4_isDigit 20 = .ok (.bipush 48, 2) := dk_16 48 (dk_at dksX4_isDigit_0 20 rfl rfl)
theorem dX4_isDigit_22 : decode cX4_isDigit 22 = .ok (.if_icmp .lt 21, 3) := dk_161 0 21 (dk_at dksX4_isDigit_1 0 rfl rfl)
theorem dX4_isDigit_25 : decode cX4_isDigit 25 = .ok (.aload_n 0, 1) := dk_42 (dk_at dksX4_isDigit_1 3 rfl rfl)
theorem dX4_isDigit_26 : decode cX4_isDigit 26 = .ok (.getfield 3, 3) := dk_180 0 3 (dk_at dksX4_isDigit_1 4 rfl rfl)
theorem dX4_isDigit_29 : decode cX4_isDigit 29 = .ok (.getfield 48, 3) := dk_180 0 48 (dk_at dksX4_isDigit_1 7 rfl rfl)
theorem dX4_isDigit_32 : decode cX4_isDigit 32 = .ok (.iload_n 1, 1) := dk_27 (dk_at dksX4_isDigit_1 10 rfl rfl)
theorem dX4_isDigit_33 : decode cX4_isDigit 33 = .ok (.baload, 1) := dk_51 (dk_at dksX4_isDigit_1 11 rfl rfl)
theorem dX4_isDigit_34 : decode cX4_isDigit 34 = .ok (.bipush 57, 2) := dk_16 57 (dk_at dksX4_isDigit_1 12 rfl rfl)
theorem dX4_isDigit_36 : decode cX4_isDigit 36 = .ok (.if_icmp .gt 7, 3) := dk_163 0 7 (dk_at dksX4_isDigit_1 14 rfl rfl)
theorem dX4_isDigit_39 : decode cX4_isDigit 39 = .ok (.iconst 1, 1) := dk_4 (dk_at dksX4_isDigit_1 17 rfl rfl)
theorem dX4_isDigit_40 : decode cX4_isDigit 40 = .ok (.goto 4, 3) := dk_167 0 4 (dk_at dksX4_isDigit_1 18 rfl rfl)
theorem dX4_isDigit_43 : decode cX4_isDigit 43 = .ok (.iconst 0, 1) := dk_3 (dk_at dksX4_isDigit_1 21 rfl rfl)
theorem dX4_isDigit_44 : decode cX4_isDigit 44 = .ok (.ireturn, 1) := dk_172 (dk_at dksX4_isDigit_1 22 rfl rfl)
abbrev cX4_penHere : ByteArray := prog_13_method_17_code
def yX4_penHere : MethodName := ⟨RX4, "penHere", "()V"⟩
def dkwX4_penHere_2 : List UInt8 := [180, 0, 98, 4, 96, 181, 0, 98, 177]
abbrev dktX4_penHere_2 : List UInt8 := dkwX4_penHere_2 ++ []
def dkwX4_penHere_1 : List UInt8 := [180, 0, 124, 42, 180, 0, 26, 180, 0, 98, 42, 3, 16, 9, 182, 0, 107, 79, 42, 180, 0, 26, 89]
abbrev dktX4_penHere_1 : List UInt8 := dkwX4_penHere_1 ++ dktX4_penHere_2
def dkwX4_penHere_0 : List UInt8 := [42, 180, 0, 26, 180, 0, 117, 42, 180, 0, 26, 180, 0, 98, 42, 182, 0, 121, 79, 42, 180, 0, 26]
abbrev dktX4_penHere_0 : List UInt8 := dkwX4_penHere_0 ++ dktX4_penHere_1
theorem dksX4_penHere_0 : cX4_penHere.data.toList.drop 0 = dktX4_penHere_0 := by decide +kernel
theorem dksX4_penHere_1 : cX4_penHere.data.toList.drop 23 = dktX4_penHere_1 := dk_seg dksX4_penHere_0 23 rfl rfl
theorem dksX4_penHere_2 : cX4_penHere.data.toList.drop 46 = dktX4_penHere_2 := dk_seg dksX4_penHere_1 23 rfl rfl
theorem dX4_penHere_0 : decode cX4_penHere 0 = .ok (.aload_n 0, 1) := dk_42 (dk_at dksX4_penHere_0 0 rfl rfl)
theorem dX4_penHere_1 : decode cX4_penHere 1 = .ok (.getfield 26, 3) := dk_180 0 26 (dk_at dksX4_penHere_0 1 rfl rfl)
theorem dX4_penHere_4 : decode cX4_penHere 4 = .ok (.getfield 117, 3) := dk_180 0 117 (dk_at dksX4_penHere_0 4 rfl rfl)
theorem dX4_penHere_7 : decode cX4_penHere 7 = .ok (.aload_n 0, 1) := dk_42 (dk_at dksX4_penHere_0 7 rfl rfl)
theorem dX4_penHere_8 : decode cX4_penHere 8 = .ok (.getfield 26, 3) := dk_180 0 26 (dk_at dksX4_penHere_0 8 rfl rfl)
theorem dX4_penHere_11 : decode cX4_penHere 11 = .ok (.getfield 98, 3) := dk_180 0 98 (dk_at dksX4_penHere_0 11 rfl rfl)
theorem dX4_penHere_14 : decode cX4_penHere 14 = .ok (.aload_n 0, 1) := dk_42 (dk_at dksX4_penHere_0 14 rfl rfl)
theorem dX4_penHere_15 : decode cX4_penHere 15 = .ok (.invokevirtual 121, 3) := dk_182 0 121 (dk_at dksX4_penHere_0 15 rfl rfl)
theorem dX4_penHere_18 : decode cX4_penHere 18 = .ok (.iastore, 1) := dk_79 (dk_at dksX4_penHere_0 18 rfl rfl)
theorem dX4_penHere_19 : decode cX4_penHere 19 = .ok (.aload_n 0, 1) := dk_42 (dk_at dksX4_penHere_0 19 rfl rfl)
theorem dX4_penHere_20 : decode cX4_penHere 20 = .ok (.getfield 26, 3) := dk_180 0 26 (dk_at dksX4_penHere_0 20 rfl rfl)
theorem dX4_penHere_23 : decode cX4_penHere 23 = .ok (.getfield 124, 3) := dk_180 0 124 (dk_at dksX4_penHere_1 0 rfl rfl)
theorem dX4_penHere_26 : decode cX4_penHere 26 = .ok (.aload_n 0, 1) := dk_42 (dk_at dksX4_penHere_1 3 rfl rfl)
theorem dX4_penHere_27 : decode cX4_penHere 27 = .ok (.getfield 26, 3) := dk_180 0 26 (dk_at dksX4_penHere_1 4 rfl rfl)
theorem dX4_penHere_30 : decode cX4_penHere 30 = .ok (.getfield 98, 3) := dk_180 0 98 (dk_at dksX4_penHere_1 7 rfl rfl)
theorem dX4_penHere_33 : decode cX4_penHere 33 = .ok (.aload_n 0, 1) := dk_42 (dk_at dksX4_penHere_1 10 rfl rfl)
theorem dX4_penHere_34 : decode cX4_penHere 34 = .ok (.iconst 0, 1) := dk_3 (dk_at dksX4_penHere_1 11 rfl rfl)
theorem dX4_penHere_35 : decode cX4_penHere 35 = .ok (.bipush 9, 2) := dk_16 9 (dk_at dksX4_penHere_1 12 rfl rfl)
theorem dX4_penHere_37 : decode cX4_penHere 37 = .ok (.invokevirtual 107, 3) := dk_182 0 107 (dk_at dksX4_penHere_1 14 rfl rfl)
theorem dX4_penHere_40 : decode cX4_penHere 40 = .ok (.iastore, 1) := dk_79 (dk_at dksX4_penHere_1 17 rfl rfl)
theorem dX4_penHere_41 : decode cX4_penHere 41 = .ok (.aload_n 0, 1) := dk_42 (dk_at dksX4_penHere_1 18 rfl rfl)
theorem dX4_penHere_42 : decode cX4_penHere 42 = .ok (.getfield 26, 3) := dk_180 0 26 (dk_at dksX4_penHere_1 19 rfl rfl)
theorem dX4_penHere_45 : decode cX4_penHere 45 = .ok (.dup, 1) := dk_89 (dk_at dksX4_penHere_1 22 rfl rfl)
theorem dX4_penHere_46 : decode cX4_penHere 46 = .ok (.getfield 98, 3) := dk_180 0 98 (dk_at dksX4_penHere_2 0 rfl rfl)
theorem dX4_penHere_49 : decode cX4_penHere 49 = .ok (.iconst 1, 1) := dk_4 (dk_at dksX4_penHere_2 3 rfl rfl)
theorem dX4_penHere_50 : decode cX4_penHere 50 = .ok (.iadd, 1) := dk_96 (dk_at dksX4_penHere_2 4 rfl rfl)
theorem dX4_penHere_51 : decode cX4_penHere 51 = .ok (.putfield 98, 3) := dk_181 0 98 (dk_at dksX4_penHere_2 5 rfl rfl)
theorem dX4_penHere_54 : decode cX4_penHere 54 = .ok (.return_, 1) := dk_177 (dk_at dksX4_penHere_2 8 rfl rfl)
abbrev cX4_cellNumber : ByteArray := prog_13_method_15_code
def yX4_cellNumber : MethodName := ⟨RX4, "cellNumber", "()I"⟩
def dkwX4_cellNumber_0 : List UInt8 := [42, 3, 42, 180, 0, 26, 182, 0, 104, 4, 100, 182, 0, 107, 172]
abbrev dktX4_cellNumber_0 : List UInt8 := dkwX4_cellNumber_0 ++ []
theorem dksX4_cellNumber_0 : cX4_cellNumber.data.toList.drop 0 = dktX4_cellNumber_0 := by decide +kernel
theorem dX4_cellNumber_0 : decode cX4_cellNumber 0 = .ok (.aload_n 0, 1) := dk_42 (dk_at dksX4_cellNumber_0 0 rfl rfl)
theorem dX4_cellNumber_1 : decode cX4_cellNumber 1 = .ok (.iconst 0, 1) := dk_3 (dk_at dksX4_cellNumber_0 1 rfl rfl)
theorem dX4_cellNumber_2 : decode cX4_cellNumber 2 = .ok (.aload_n 0, 1) := dk_42 (dk_at dksX4_cellNumber_0 2 rfl rfl)
theorem dX4_cellNumber_3 : decode cX4_cellNumber 3 = .ok (.getfield 26, 3) := dk_180 0 26 (dk_at dksX4_cellNumber_0 3 rfl rfl)
theorem dX4_cellNumber_6 : decode cX4_cellNumber 6 = .ok (.invokevirtual 104, 3) := dk_182 0 104 (dk_at dksX4_cellNumber_0 6 rfl rfl)
theorem dX4_cellNumber_9 : decode cX4_cellNumber 9 = .ok (.iconst 1, 1) := dk_4 (dk_at dksX4_cellNumber_0 9 rfl rfl)
theorem dX4_cellNumber_10 : decode cX4_cellNumber 10 = .ok (.isub, 1) := dk_100 (dk_at dksX4_cellNumber_0 10 rfl rfl)
theorem dX4_cellNumber_11 : decode cX4_cellNumber 11 = .ok (.invokevirtual 107, 3) := dk_182 0 107 (dk_at dksX4_cellNumber_0 11 rfl rfl)
theorem dX4_cellNumber_14 : decode cX4_cellNumber 14 = .ok (.ireturn, 1) := dk_172 (dk_at dksX4_cellNumber_0 14 rfl rfl)
abbrev cX4_windHere : ByteArray := prog_13_method_18_code
def yX4_windHere : MethodName := ⟨RX4, "windHere", "()V"⟩
def dkwX4_windHere_2 : List UInt8 := [79, 42, 180, 0, 26, 89, 180, 0, 101, 4, 96, 181, 0, 101, 177]
abbrev dktX4_windHere_2 : List UInt8 := dkwX4_windHere_2 ++ []
def dkwX4_windHere_1 : List UInt8 := [180, 0, 26, 180, 0, 127, 5, 42, 180, 0, 26, 180, 0, 101, 104, 4, 96, 42, 3, 16, 9, 182, 0, 107]
abbrev dktX4_windHere_1 : List UInt8 := dkwX4_windHere_1 ++ dktX4_windHere_2
def dkwX4_windHere_0 : List UInt8 := [42, 180, 0, 26, 180, 0, 127, 5, 42, 180, 0, 26, 180, 0, 101, 104, 42, 3, 6, 182, 0, 107, 79, 42]
abbrev dktX4_windHere_0 : List UInt8 := dkwX4_windHere_0 ++ dktX4_windHere_1
theorem dksX4_windHere_0 : cX4_windHere.data.toList.drop 0 = dktX4_windHere_0 := by decide +kernel
theorem dksX4_windHere_1 : cX4_windHere.data.toList.drop 24 = dktX4_windHere_1 := dk_seg dksX4_windHere_0 24 rfl rfl
theorem dksX4_windHere_2 : cX4_windHere.data.toList.drop 48 = dktX4_windHere_2 := dk_seg dksX4_windHere_1 24 rfl rfl
theorem dX4_windHere_0 : decode cX4_windHere 0 = .ok (.aload_n 0, 1) := dk_42 (dk_at dksX4_windHere_0 0 rfl rfl)
theorem dX4_windHere_1 : decode cX4_windHere 1 = .ok (.getfield 26, 3) := dk_180 0 26 (dk_at dksX4_windHere_0 1 rfl rfl)
theorem dX4_windHere_4 : decode cX4_windHere 4 = .ok (.getfield 127, 3) := dk_180 0 127 (dk_at dksX4_windHere_0 4 rfl rfl)
theorem dX4_windHere_7 : decode cX4_windHere 7 = .ok (.iconst 2, 1) := dk_5 (dk_at dksX4_windHere_0 7 rfl rfl)
theorem dX4_windHere_8 : decode cX4_windHere 8 = .ok (.aload_n 0, 1) := dk_42 (dk_at dksX4_windHere_0 8 rfl rfl)
theorem dX4_windHere_9 : decode cX4_windHere 9 = .ok (.getfield 26, 3) := dk_180 0 26 (dk_at dksX4_windHere_0 9 rfl rfl)
theorem dX4_windHere_12 : decode cX4_windHere 12 = .ok (.getfield 101, 3) := dk_180 0 101 (dk_at dksX4_windHere_0 12 rfl rfl)
theorem dX4_windHere_15 : decode cX4_windHere 15 = .ok (.imul, 1) := dk_104 (dk_at dksX4_windHere_0 15 rfl rfl)
theorem dX4_windHere_16 : decode cX4_windHere 16 = .ok (.aload_n 0, 1) := dk_42 (dk_at dksX4_windHere_0 16 rfl rfl)
theorem dX4_windHere_17 : decode cX4_windHere 17 = .ok (.iconst 0, 1) := dk_3 (dk_at dksX4_windHere_0 17 rfl rfl)
theorem dX4_windHere_18 : decode cX4_windHere 18 = .ok (.iconst 3, 1) := dk_6 (dk_at dksX4_windHere_0 18 rfl rfl)
theorem dX4_windHere_19 : decode cX4_windHere 19 = .ok (.invokevirtual 107, 3) := dk_182 0 107 (dk_at dksX4_windHere_0 19 rfl rfl)
theorem dX4_windHere_22 : decode cX4_windHere 22 = .ok (.iastore, 1) := dk_79 (dk_at dksX4_windHere_0 22 rfl rfl)
theorem dX4_windHere_23 : decode cX4_windHere 23 = .ok (.aload_n 0, 1) := dk_42 (dk_at dksX4_windHere_0 23 rfl rfl)
theorem dX4_windHere_24 : decode cX4_windHere 24 = .ok (.getfield 26, 3) := dk_180 0 26 (dk_at dksX4_windHere_1 0 rfl rfl)
theorem dX4_windHere_27 : decode cX4_windHere 27 = .ok (.getfield 127, 3) := dk_180 0 127 (dk_at dksX4_windHere_1 3 rfl rfl)
theorem dX4_windHere_30 : decode cX4_windHere 30 = .ok (.iconst 2, 1) := dk_5 (dk_at dksX4_windHere_1 6 rfl rfl)
theorem dX4_windHere_31 : decode cX4_windHere 31 = .ok (.aload_n 0, 1) := dk_42 (dk_at dksX4_windHere_1 7 rfl rfl)
theorem dX4_windHere_32 : decode cX4_windHere 32 = .ok (.getfield 26, 3) := dk_180 0 26 (dk_at dksX4_windHere_1 8 rfl rfl)
theorem dX4_windHere_35 : decode cX4_windHere 35 = .ok (.getfield 101, 3) := dk_180 0 101 (dk_at dksX4_windHere_1 11 rfl rfl)
theorem dX4_windHere_38 : decode cX4_windHere 38 = .ok (.imul, 1) := dk_104 (dk_at dksX4_windHere_1 14 rfl rfl)
theorem dX4_windHere_39 : decode cX4_windHere 39 = .ok (.iconst 1, 1) := dk_4 (dk_at dksX4_windHere_1 15 rfl rfl)
theorem dX4_windHere_40 : decode cX4_windHere 40 = .ok (.iadd, 1) := dk_96 (dk_at dksX4_windHere_1 16 rfl rfl)
theorem dX4_windHere_41 : decode cX4_windHere 41 = .ok (.aload_n 0, 1) := dk_42 (dk_at dksX4_windHere_1 17 rfl rfl)
theorem dX4_windHere_42 : decode cX4_windHere 42 = .ok (.iconst 0, 1) := dk_3 (dk_at dksX4_windHere_1 18 rfl rfl)
theorem dX4_windHere_43 : decode cX4_windHere 43 = .ok (.bipush 9, 2) := dk_16 9 (dk_at dksX4_windHere_1 19 rfl rfl)
theorem dX4_windHere_45 : decode cX4_windHere 45 = .ok (.invokevirtual 107, 3) := dk_182 0 107 (dk_at dksX4_windHere_1 21 rfl rfl)
theorem dX4_windHere_48 : decode cX4_windHere 48 = .ok (.iastore, 1) := dk_79 (dk_at dksX4_windHere_2 0 rfl rfl)
theorem dX4_windHere_49 : decode cX4_windHere 49 = .ok (.aload_n 0, 1) := dk_42 (dk_at dksX4_windHere_2 1 rfl rfl)
theorem dX4_windHere_50 : decode cX4_windHere 50 = .ok (.getfield 26, 3) := dk_180 0 26 (dk_at dksX4_windHere_2 2 rfl rfl)
theorem dX4_windHere_53 : decode cX4_windHere 53 = .ok (.dup, 1) := dk_89 (dk_at dksX4_windHere_2 5 rfl rfl)
theorem dX4_windHere_54 : decode cX4_windHere 54 = .ok (.getfield 101, 3) := dk_180 0 101 (dk_at dksX4_windHere_2 6 rfl rfl)
theorem dX4_windHere_57 : decode cX4_windHere 57 = .ok (.iconst 1, 1) := dk_4 (dk_at dksX4_windHere_2 9 rfl rfl)
theorem dX4_windHere_58 : decode cX4_windHere 58 = .ok (.iadd, 1) := dk_96 (dk_at dksX4_windHere_2 10 rfl rfl)
theorem dX4_windHere_59 : decode cX4_windHere 59 = .ok (.putfield 101, 3) := dk_181 0 101 (dk_at dksX4_windHere_2 11 rfl rfl)
theorem dX4_windHere_62 : decode cX4_windHere 62 = .ok (.return_, 1) := dk_177 (dk_at dksX4_windHere_2 14 rfl rfl)
abbrev cX4_takesSign : ByteArray := prog_13_method_4_code
def yX4_takesSign : MethodName := ⟨RX4, "takesSign", "(I)Z"⟩
def dkwX4_takesSign_0 : List UInt8 := [42, 182, 0, 52, 27, 159, 0, 5, 3, 172, 42, 89, 180, 0, 42, 4, 96, 181, 0, 42, 4, 172]
abbrev dktX4_takesSign_0 : List UInt8 := dkwX4_takesSign_0 ++ []
theorem dksX4_takesSign_0 : cX4_takesSign.data.toList.drop 0 = dktX4_takesSign_0 := by decide +kernel
theorem dX4_takesSign_0 : decode cX4_takesSign 0 = .ok (.aload_n 0, 1) := dk_42 (dk_at dksX4_takesSign_0 0 rfl rfl)
theorem dX4_takesSign_1 : decode cX4_takesSign 1 = .ok (.invokevirtual 52, 3) := dk_182 0 52 (dk_at dksX4_takesSign_0 1 rfl rfl)
theorem dX4_takesSign_4 : decode cX4_takesSign 4 = .ok (.iload_n 1, 1) := dk_27 (dk_at dksX4_takesSign_0 4 rfl rfl)
theorem dX4_takesSign_5 : decode cX4_takesSign 5 = .ok (.if_icmp .eq 5, 3) := dk_159 0 5 (dk_at dksX4_takesSign_0 5 rfl rfl)
theorem dX4_takesSign_8 : decode cX4_takesSign 8 = .ok (.iconst 0, 1) := dk_3 (dk_at dksX4_takesSign_0 8 rfl rfl)
theorem dX4_takesSign_9 : decode cX4_takesSign 9 = .ok (.ireturn, 1) := dk_172 (dk_at dksX4_takesSign_0 9 rfl rfl)
theorem dX4_takesSign_10 : decode cX4_takesSign 10 = .ok (.aload_n 0, 1) := dk_42 (dk_at dksX4_takesSign_0 10 rfl rfl)
theorem dX4_takesSign_11 : decode cX4_takesSign 11 = .ok (.dup, 1) := dk_89 (dk_at dksX4_takesSign_0 11 rfl rfl)
theorem dX4_takesSign_12 : decode cX4_takesSign 12 = .ok (.getfield 42, 3) := dk_180 0 42 (dk_at dksX4_takesSign_0 12 rfl rfl)
theorem dX4_takesSign_15 : decode cX4_takesSign 15 = .ok (.iconst 1, 1) := dk_4 (dk_at dksX4_takesSign_0 15 rfl rfl)
theorem dX4_takesSign_16 : decode cX4_takesSign 16 = .ok (.iadd, 1) := dk_96 (dk_at dksX4_takesSign_0 16 rfl rfl)
theorem dX4_takesSign_17 : decode cX4_takesSign 17 = .ok (.putfield 42, 3) := dk_181 0 42 (dk_at dksX4_takesSign_0 17 rfl rfl)
theorem dX4_takesSign_20 : decode cX4_takesSign 20 = .ok (.iconst 1, 1) := dk_4 (dk_at dksX4_takesSign_0 20 rfl rfl)
theorem dX4_takesSign_21 : decode cX4_takesSign 21 = .ok (.ireturn, 1) := dk_172 (dk_at dksX4_takesSign_0 21 rfl rfl)
abbrev cX4_ends : ByteArray := prog_13_method_13_code
def yX4_ends : MethodName := ⟨RX4, "ends", "()V"⟩
def dkwX4_ends_0 : List UInt8 := [42, 42, 182, 0, 52, 2, 160, 0, 7, 4, 167, 0, 4, 3, 3, 42, 180, 0, 42, 182, 0, 76, 177]
abbrev dktX4_ends_0 : List UInt8 := dkwX4_ends_0 ++ []
theorem dksX4_ends_0 : cX4_ends.data.toList.drop 0 = dktX4_ends_0 := by decide +kernel
theorem dX4_ends_0 : decode cX4_ends 0 = .ok (.aload_n 0, 1) := dk_42 (dk_at dksX4_ends_0 0 rfl rfl)
theorem dX4_ends_1 : decode cX4_ends 1 = .ok (.aload_n 0, 1) := dk_42 (dk_at dksX4_ends_0 1 rfl rfl)
theorem dX4_ends_2 : decode cX4_ends 2 = .ok (.invokevirtual 52, 3) := dk_182 0 52 (dk_at dksX4_ends_0 2 rfl rfl)
theorem dX4_ends_5 : decode cX4_ends 5 = .ok (.iconst (-1), 1) := dk_2 (dk_at dksX4_ends_0 5 rfl rfl)
theorem dX4_ends_6 : decode cX4_ends 6 = .ok (.if_icmp .ne 7, 3) := dk_160 0 7 (dk_at dksX4_ends_0 6 rfl rfl)
theorem dX4_ends_9 : decode cX4_ends 9 = .ok (.iconst 1, 1) := dk_4 (dk_at dksX4_ends_0 9 rfl rfl)
theorem dX4_ends_10 : decode cX4_ends 10 = .ok (.goto 4, 3) := dk_167 0 4 (dk_at dksX4_ends_0 10 rfl rfl)
theorem dX4_ends_13 : decode cX4_ends 13 = .ok (.iconst 0, 1) := dk_3 (dk_at dksX4_ends_0 13 rfl rfl)
theorem dX4_ends_14 : decode cX4_ends 14 = .ok (.iconst 0, 1) := dk_3 (dk_at dksX4_ends_0 14 rfl rfl)
theorem dX4_ends_15 : decode cX4_ends 15 = .ok (.aload_n 0, 1) := dk_42 (dk_at dksX4_ends_0 15 rfl rfl)
theorem dX4_ends_16 : decode cX4_ends 16 = .ok (.getfield 42, 3) := dk_180 0 42 (dk_at dksX4_ends_0 16 rfl rfl)
theorem dX4_ends_19 : decode cX4_ends 19 = .ok (.invokevirtual 76, 3) := dk_182 0 76 (dk_at dksX4_ends_0 19 rfl rfl)
theorem dX4_ends_22 : decode cX4_ends 22 = .ok (.return_, 1) := dk_177 (dk_at dksX4_ends_0 22 rfl rfl)
abbrev cX4_ruleTold : ByteArray := prog_13_method_22_code
def yX4_ruleTold : MethodName := ⟨RX4, "ruleTold", "()LSkySpire$Rule;"⟩
def dkwX4_ruleTold_5 : List UInt8 := [182, 0, 167, 43, 176]
abbrev dktX4_ruleTold_5 : List UInt8 := dkwX4_ruleTold_5 ++ []
def dkwX4_ruleTold_4 : List UInt8 := [182, 0, 207, 83, 43, 89, 180, 0, 206, 4, 96, 181, 0, 206, 42, 16, 59, 182, 0, 164, 154, 255, 152, 42]
abbrev dktX4_ruleTold_4 : List UInt8 := dkwX4_ruleTold_4 ++ dktX4_ruleTold_5
def dkwX4_ruleTold_3 : List UInt8 := [181, 0, 90, 42, 89, 180, 0, 42, 8, 96, 181, 0, 42, 43, 180, 0, 202, 43, 180, 0, 206, 42]
abbrev dktX4_ruleTold_3 : List UInt8 := dkwX4_ruleTold_3 ++ dktX4_ruleTold_4
def dkwX4_ruleTold_2 : List UInt8 := [16, 12, 162, 0, 7, 4, 167, 0, 4, 3, 7, 28, 182, 0, 76, 42, 89, 180, 0, 90, 4, 96]
abbrev dktX4_ruleTold_2 : List UInt8 := dkwX4_ruleTold_2 ++ dktX4_ruleTold_3
def dkwX4_ruleTold_1 : List UInt8 := [180, 0, 199, 182, 0, 153, 154, 0, 7, 4, 167, 0, 4, 3, 3, 28, 182, 0, 76, 42, 42, 180, 0, 90]
abbrev dktX4_ruleTold_1 : List UInt8 := dkwX4_ruleTold_1 ++ dktX4_ruleTold_2
def dkwX4_ruleTold_0 : List UInt8 := [187, 0, 196, 89, 183, 0, 198, 76, 42, 182, 0, 52, 87, 42, 180, 0, 42, 61, 42, 42, 42, 180, 0, 3]
abbrev dktX4_ruleTold_0 : List UInt8 := dkwX4_ruleTold_0 ++ dktX4_ruleTold_1
theorem dksX4_ruleTold_0 : cX4_ruleTold.data.toList.drop 0 = dktX4_ruleTold_0 := by decide +kernel
theorem dksX4_ruleTold_1 : cX4_ruleTold.data.toList.drop 24 = dktX4_ruleTold_1 := dk_seg dksX4_ruleTold_0 24 rfl rfl
theorem dksX4_ruleTold_2 : cX4_ruleTold.data.toList.drop 48 = dktX4_ruleTold_2 := dk_seg dksX4_ruleTold_1 24 rfl rfl
theorem dksX4_ruleTold_3 : cX4_ruleTold.data.toList.drop 70 = dktX4_ruleTold_3 := dk_seg dksX4_ruleTold_2 22 rfl rfl
theorem dksX4_ruleTold_4 : cX4_ruleTold.data.toList.drop 92 = dktX4_ruleTold_4 := dk_seg dksX4_ruleTold_3 22 rfl rfl
theorem dksX4_ruleTold_5 : cX4_ruleTold.data.toList.drop 116 = dktX4_ruleTold_5 := dk_seg dksX4_ruleTold_4 24 rfl rfl
theorem dX4_ruleTold_0 : decode cX4_ruleTold 0 = .ok (.new 196, 3) := dk_187 0 196 (dk_at dksX4_ruleTold_0 0 rfl rfl)
theorem dX4_ruleTold_3 : decode cX4_ruleTold 3 = .ok (.dup, 1) := dk_89 (dk_at dksX4_ruleTold_0 3 rfl rfl)
theorem dX4_ruleTold_4 : decode cX4_ruleTold 4 = .ok (.invokespecial 198, 3) := dk_183 0 198 (dk_at dksX4_ruleTold_0 4 rfl rfl)
theorem dX4_ruleTold_7 : decode cX4_ruleTold 7 = .ok (.astore_n 1, 1) := dk_76 (dk_at dksX4_ruleTold_0 7 rfl rfl)
theorem dX4_ruleTold_8 : decode cX4_ruleTold 8 = .ok (.aload_n 0, 1) := dk_42 (dk_at dksX4_ruleTold_0 8 rfl rfl)
theorem dX4_ruleTold_9 : decode cX4_ruleTold 9 = .ok (.invokevirtual 52, 3) := dk_182 0 52 (dk_at dksX4_ruleTold_0 9 rfl rfl)
theorem dX4_ruleTold_12 : decode cX4_ruleTold 12 = .ok (.pop, 1) := dk_87 (dk_at dksX4_ruleTold_0 12 rfl rfl)
theorem dX4_ruleTold_13 : decode cX4_ruleTold 13 = .ok (.aload_n 0, 1) := dk_42 (dk_at dksX4_ruleTold_0 13 rfl rfl)
theorem dX4_ruleTold_14 : decode cX4_ruleTold 14 = .ok (.getfield 42, 3) := dk_180 0 42 (dk_at dksX4_ruleTold_0 14 rfl rfl)
theorem dX4_ruleTold_17 : decode cX4_ruleTold 17 = .ok (.istore_n 2, 1) := dk_61 (dk_at dksX4_ruleTold_0 17 rfl rfl)
theorem dX4_ruleTold_18 : decode cX4_ruleTold 18 = .ok (.aload_n 0, 1) := dk_42 (dk_at dksX4_ruleTold_0 18 rfl rfl)
theorem dX4_ruleTold_19 : decode cX4_ruleTold 19 = .ok (.aload_n 0, 1) := dk_42 (dk_at dksX4_ruleTold_0 19 rfl rfl)
theorem dX4_ruleTold_20 : decode cX4_ruleTold 20 = .ok (.aload_n 0, 1) := dk_42 (dk_at dksX4_ruleTold_0 20 rfl rfl)
theorem dX4_ruleTold_21 : decode cX4_ruleTold 21 = .ok (.getfield 3, 3) := dk_180 0 3 (dk_at dksX4_ruleTold_0 21 rfl rfl)
theorem dX4_ruleTold_24 : decode cX4_ruleTold 24 = .ok (.getfield 199, 3) := dk_180 0 199 (dk_at dksX4_ruleTold_1 0 rfl rfl)
theorem dX4_ruleTold_27 : decode cX4_ruleTold 27 = .ok (.invokevirtual 153, 3) := dk_182 0 153 (dk_at dksX4_ruleTold_1 3 rfl rfl)
theorem dX4_ruleTold_30 : decode cX4_ruleTold 30 = .ok (.ifCond .ne 7, 3) := dk_154 0 7 (dk_at dksX4_ruleTold_1 6 rfl rfl)
theorem dX4_ruleTold_33 : decode cX4_ruleTold 33 = .ok (.iconst 1, 1) := dk_4 (dk_at dksX4_ruleTold_1 9 rfl rfl)
theorem dX4_ruleTold_34 : decode cX4_ruleTold 34 = .ok (.goto 4, 3) := dk_167 0 4 (dk_at dksX4_ruleTold_1 10 rfl rfl)
theorem dX4_ruleTold_37 : decode cX4_ruleTold 37 = .ok (.iconst 0, 1) := dk_3 (dk_at dksX4_ruleTold_1 13 rfl rfl)
theorem dX4_ruleTold_38 : decode cX4_ruleTold 38 = .ok (.iconst 0, 1) := dk_3 (dk_at dksX4_ruleTold_1 14 rfl rfl)
theorem dX4_ruleTold_39 : decode cX4_ruleTold 39 = .ok (.iload_n 2, 1) := dk_28 (dk_at dksX4_ruleTold_1 15 rfl rfl)
theorem dX4_ruleTold_40 : decode cX4_ruleTold 40 = .ok (.invokevirtual 76, 3) := dk_182 0 76 (dk_at dksX4_ruleTold_1 16 rfl rfl)
theorem dX4_ruleTold_43 : decode cX4_ruleTold 43 = .ok (.aload_n 0, 1) := dk_42 (dk_at dksX4_ruleTold_1 19 rfl rfl)
theorem dX4_ruleTold_44 : decode cX4_ruleTold 44 = .ok (.aload_n 0, 1) := dk_42 (dk_at dksX4_ruleTold_1 20 rfl rfl)
theorem dX4_ruleTold_45 : decode cX4_ruleTold 45 = .ok (.getfield 90, 3) := dk_180 0 90 (dk_at dksX4_ruleTold_1 21 rfl rfl)
theorem dX4_ruleTold_48 : decode cX4_ruleTold 48 = .ok (.bipush 12, 2) := dk_16 12 (dk_at dksX4_ruleTold_2 0 rfl rfl)
theorem dX4_ruleTold_50 : decode cX4_ruleTold 50 = .ok (.if_icmp .ge 7, 3) := dk_162 0 7 (dk_at dksX4_ruleTold_2 2 rfl rfl)
theorem dX4_ruleTold_53 : decode cX4_ruleTold 53 = .ok (.iconst 1, 1) := dk_4 (dk_at dksX4_ruleTold_2 5 rfl rfl)
theorem dX4_ruleTold_54 : decode cX4_ruleTold 54 = .ok (.goto 4, 3) := dk_167 0 4 (dk_at dksX4_ruleTold_2 6 rfl rfl)
theorem dX4_ruleTold_57 : decode cX4_ruleTold 57 = .ok (.iconst 0, 1) := dk_3 (dk_at dksX4_ruleTold_2 9 rfl rfl)
theorem dX4_ruleTold_58 : decode cX4_ruleTold 58 = .ok (.iconst 4, 1) := dk_7 (dk_at dksX4_ruleTold_2 10 rfl rfl)
theorem dX4_ruleTold_59 : decode cX4_ruleTold 59 = .ok (.iload_n 2, 1) := dk_28 (dk_at dksX4_ruleTold_2 11 rfl rfl)
theorem dX4_ruleTold_60 : decode cX4_ruleTold 60 = .ok (.invokevirtual 76, 3) := dk_182 0 76 (dk_at dksX4_ruleTold_2 12 rfl rfl)
theorem dX4_ruleTold_63 : decode cX4_ruleTold 63 = .ok (.aload_n 0, 1) := dk_42 (dk_at dksX4_ruleTold_2 15 rfl rfl)
theorem dX4_ruleTold_64 : decode cX4_ruleTold 64 = .ok (.dup, 1) := dk_89 (dk_at dksX4_ruleTold_2 16 rfl rfl)
theorem dX4_ruleTold_65 : decode cX4_ruleTold 65 = .ok (.getfield 90, 3) := dk_180 0 90 (dk_at dksX4_ruleTold_2 17 rfl rfl)
theorem dX4_ruleTold_68 : decode cX4_ruleTold 68 = .ok (.iconst 1, 1) := dk_4 (dk_at dksX4_ruleTold_2 20 rfl rfl)
theorem dX4_ruleTold_69 : decode cX4_ruleTold 69 = .ok (.iadd, 1) := dk_96 (dk_at dksX4_ruleTold_2 21 rfl rfl)
theorem dX4_ruleTold_70 : decode cX4_ruleTold 70 = .ok (.putfield 90, 3) := dk_181 0 90 (dk_at dksX4_ruleTold_3 0 rfl rfl)
theorem dX4_ruleTold_73 : decode cX4_ruleTold 73 = .ok (.aload_n 0, 1) := dk_42 (dk_at dksX4_ruleTold_3 3 rfl rfl)
theorem dX4_ruleTold_74 : decode cX4_ruleTold 74 = .ok (.dup, 1) := dk_89 (dk_at dksX4_ruleTold_3 4 rfl rfl)
theorem dX4_ruleTold_75 : decode cX4_ruleTold 75 = .ok (.getfield 42, 3) := dk_180 0 42 (dk_at dksX4_ruleTold_3 5 rfl rfl)
theorem dX4_ruleTold_78 : decode cX4_ruleTold 78 = .ok (.iconst 5, 1) := dk_8 (dk_at dksX4_ruleTold_3 8 rfl rfl)
theorem dX4_ruleTold_79 : decode cX4_ruleTold 79 = .ok (.iadd, 1) := dk_96 (dk_at dksX4_ruleTold_3 9 rfl rfl)
theorem dX4_ruleTold_80 : decode cX4_ruleTold 80 = .ok (.putfield 42, 3) := dk_181 0 42 (dk_at dksX4_ruleTold_3 10 rfl rfl)
theorem dX4_ruleTold_83 : decode cX4_ruleTold 83 = .ok (.aload_n 1, 1) := dk_43 (dk_at dksX4_ruleTold_3 13 rfl rfl)
theorem dX4_ruleTold_84 : decode cX4_ruleTold 84 = .ok (.getfield 202, 3) := dk_180 0 202 (dk_at dksX4_ruleTold_3 14 rfl rfl)
theorem dX4_ruleTold_87 : decode cX4_ruleTold 87 = .ok (.aload_n 1, 1) := dk_43 (dk_at dksX4_ruleTold_3 17 rfl rfl)
theorem dX4_ruleTold_88 : decode cX4_ruleTold 88 = .ok (.getfield 206, 3) := dk_180 0 206 (dk_at dksX4_ruleTold_3 18 rfl rfl)
theorem dX4_ruleTold_91 : decode cX4_ruleTold 91 = .ok (.aload_n 0, 1) := dk_42 (dk_at dksX4_ruleTold_3 21 rfl rfl)
theorem dX4_ruleTold_92 : decode cX4_ruleTold 92 = .ok (.invokevirtual 207, 3) := dk_182 0 207 (dk_at dksX4_ruleTold_4 0 rfl rfl)
theorem dX4_ruleTold_95 : decode cX4_ruleTold 95 = .ok (.aastore, 1) := dk_83 (dk_at dksX4_ruleTold_4 3 rfl rfl)
theorem dX4_ruleTold_96 : decode cX4_ruleTold 96 = .ok (.aload_n 1, 1) := dk_43 (dk_at dksX4_ruleTold_4 4 rfl rfl)
theorem dX4_ruleTold_97 : decode cX4_ruleTold 97 = .ok (.dup, 1) := dk_89 (dk_at dksX4_ruleTold_4 5 rfl rfl)
theorem dX4_ruleTold_98 : decode cX4_ruleTold 98 = .ok (.getfield 206, 3) := dk_180 0 206 (dk_at dksX4_ruleTold_4 6 rfl rfl)
theorem dX4_ruleTold_101 : decode cX4_ruleTold 101 = .ok (.iconst 1, 1) := dk_4 (dk_at dksX4_ruleTold_4 9 rfl rfl)
theorem dX4_ruleTold_102 : decode cX4_ruleTold 102 = .ok (.iadd, 1) := dk_96 (dk_at dksX4_ruleTold_4 10 rfl rfl)
theorem dX4_ruleTold_103 : decode cX4_ruleTold 103 = .ok (.putfield 206, 3) := dk_181 0 206 (dk_at dksX4_ruleTold_4 11 rfl rfl)
theorem dX4_ruleTold_106 : decode cX4_ruleTold 106 = .ok (.aload_n 0, 1) := dk_42 (dk_at dksX4_ruleTold_4 14 rfl rfl)
theorem dX4_ruleTold_107 : decode cX4_ruleTold 107 = .ok (.bipush 59, 2) := dk_16 59 (dk_at dksX4_ruleTold_4 15 rfl rfl)
theorem dX4_ruleTold_109 : decode cX4_ruleTold 109 = .ok (.invokevirtual 164, 3) := dk_182 0 164 (dk_at dksX4_ruleTold_4 17 rfl rfl)
theorem dX4_ruleTold_112 : decode cX4_ruleTold 112 = .ok (.ifCond .ne (-104), 3) := dk_154 255 152 (dk_at dksX4_ruleTold_4 20 rfl rfl)
theorem dX4_ruleTold_115 : decode cX4_ruleTold 115 = .ok (.aload_n 0, 1) := dk_42 (dk_at dksX4_ruleTold_4 23 rfl rfl)
theorem dX4_ruleTold_116 : decode cX4_ruleTold 116 = .ok (.invokevirtual 167, 3) := dk_182 0 167 (dk_at dksX4_ruleTold_5 0 rfl rfl)
theorem dX4_ruleTold_119 : decode cX4_ruleTold 119 = .ok (.aload_n 1, 1) := dk_43 (dk_at dksX4_ruleTold_5 3 rfl rfl)
theorem dX4_ruleTold_120 : decode cX4_ruleTold 120 = .ok (.areturn, 1) := dk_176 (dk_at dksX4_ruleTold_5 4 rfl rfl)
abbrev cX4_clauseHere : ByteArray := prog_13_method_21_code
def yX4_clauseHere : MethodName := ⟨RX4, "clauseHere", "()LSkySpire$Clause;"⟩
def dkwX4_clauseHere_1 : List UInt8 := [153, 0, 10, 42, 182, 0, 188, 167, 0, 4, 1, 181, 0, 192, 43, 176]
abbrev dktX4_clauseHere_1 : List UInt8 := dkwX4_clauseHere_1 ++ []
def dkwX4_clauseHere_0 : List UInt8 := [187, 0, 173, 89, 183, 0, 175, 76, 43, 42, 182, 0, 176, 181, 0, 180, 43, 42, 18, 183, 182, 0, 185]
abbrev dktX4_clauseHere_0 : List UInt8 := dkwX4_clauseHere_0 ++ dktX4_clauseHere_1
theorem dksX4_clauseHere_0 : cX4_clauseHere.data.toList.drop 0 = dktX4_clauseHere_0 := by decide +kernel
theorem dksX4_clauseHere_1 : cX4_clauseHere.data.toList.drop 23 = dktX4_clauseHere_1 := dk_seg dksX4_clauseHere_0 23 rfl rfl
theorem dX4_clauseHere_0 : decode cX4_clauseHere 0 = .ok (.new 173, 3) := dk_187 0 173 (dk_at dksX4_clauseHere_0 0 rfl rfl)
theorem dX4_clauseHere_3 : decode cX4_clauseHere 3 = .ok (.dup, 1) := dk_89 (dk_at dksX4_clauseHere_0 3 rfl rfl)
theorem dX4_clauseHere_4 : decode cX4_clauseHere 4 = .ok (.invokespecial 175, 3) := dk_183 0 175 (dk_at dksX4_clauseHere_0 4 rfl rfl)
theorem dX4_clauseHere_7 : decode cX4_clauseHere 7 = .ok (.astore_n 1, 1) := dk_76 (dk_at dksX4_clauseHere_0 7 rfl rfl)
theorem dX4_clauseHere_8 : decode cX4_clauseHere 8 = .ok (.aload_n 1, 1) := dk_43 (dk_at dksX4_clauseHere_0 8 rfl rfl)
theorem dX4_clauseHere_9 : decode cX4_clauseHere 9 = .ok (.aload_n 0, 1) := dk_42 (dk_at dksX4_clauseHere_0 9 rfl rfl)
theorem dX4_clauseHere_10 : decode cX4_clauseHere 10 = .ok (.invokevirtual 176, 3) := dk_182 0 176 (dk_at dksX4_clauseHere_0 10 rfl rfl)
theorem dX4_clauseHere_13 : decode cX4_clauseHere 13 = .ok (.putfield 180, 3) := dk_181 0 180 (dk_at dksX4_clauseHere_0 13 rfl rfl)
theorem dX4_clauseHere_16 : decode cX4_clauseHere 16 = .ok (.aload_n 1, 1) := dk_43 (dk_at dksX4_clauseHere_0 16 rfl rfl)
theorem dX4_clauseHere_17 : decode cX4_clauseHere 17 = .ok (.aload_n 0, 1) := dk_42 (dk_at dksX4_clauseHere_0 17 rfl rfl)
theorem dX4_clauseHere_18 : decode cX4_clauseHere 18 = .ok (.ldc 183, 2) := dk_18 183 (dk_at dksX4_clauseHere_0 18 rfl rfl)
theorem dX4_clauseHere_20 : decode cX4_clauseHere 20 = .ok (.invokevirtual 185, 3) := dk_182 0 185 (dk_at dksX4_clauseHere_0 20 rfl rfl)
theorem dX4_clauseHere_23 : decode cX4_clauseHere 23 = .ok (.ifCond .eq 10, 3) := dk_153 0 10 (dk_at dksX4_clauseHere_1 0 rfl rfl)
theorem dX4_clauseHere_26 : decode cX4_clauseHere 26 = .ok (.aload_n 0, 1) := dk_42 (dk_at dksX4_clauseHere_1 3 rfl rfl)
theorem dX4_clauseHere_27 : decode cX4_clauseHere 27 = .ok (.invokevirtual 188, 3) := dk_182 0 188 (dk_at dksX4_clauseHere_1 4 rfl rfl)
theorem dX4_clauseHere_30 : decode cX4_clauseHere 30 = .ok (.goto 4, 3) := dk_167 0 4 (dk_at dksX4_clauseHere_1 7 rfl rfl)
theorem dX4_clauseHere_33 : decode cX4_clauseHere 33 = .ok (.aconst_null, 1) := dk_1 (dk_at dksX4_clauseHere_1 10 rfl rfl)
theorem dX4_clauseHere_34 : decode cX4_clauseHere 34 = .ok (.putfield 192, 3) := dk_181 0 192 (dk_at dksX4_clauseHere_1 11 rfl rfl)
theorem dX4_clauseHere_37 : decode cX4_clauseHere 37 = .ok (.aload_n 1, 1) := dk_43 (dk_at dksX4_clauseHere_1 14 rfl rfl)
theorem dX4_clauseHere_38 : decode cX4_clauseHere 38 = .ok (.areturn, 1) := dk_176 (dk_at dksX4_clauseHere_1 15 rfl rfl)
abbrev cX4_sum : ByteArray := prog_13_method_27_code
def yX4_sum : MethodName := ⟨RX4, "sum", "()LSkySpire$Value;"⟩
def dkwX4_sum_2 : List UInt8 := [187, 0, 250, 89, 43, 28, 42, 182, 0, 247, 183, 0, 252, 76, 167, 255, 201, 43, 176]
abbrev dktX4_sum_2 : List UInt8 := dkwX4_sum_2 ++ []
def dkwX4_sum_1 : List UInt8 := [180, 0, 3, 180, 0, 48, 42, 180, 0, 42, 51, 61, 42, 89, 180, 0, 42, 4, 96, 181, 0, 42]
abbrev dktX4_sum_1 : List UInt8 := dkwX4_sum_1 ++ dktX4_sum_2
def dkwX4_sum_0 : List UInt8 := [42, 182, 0, 247, 76, 42, 182, 0, 52, 16, 43, 159, 0, 12, 42, 182, 0, 52, 16, 45, 160, 0, 43, 42]
abbrev dktX4_sum_0 : List UInt8 := dkwX4_sum_0 ++ dktX4_sum_1
theorem dksX4_sum_0 : cX4_sum.data.toList.drop 0 = dktX4_sum_0 := by decide +kernel
theorem dksX4_sum_1 : cX4_sum.data.toList.drop 24 = dktX4_sum_1 := dk_seg dksX4_sum_0 24 rfl rfl
theorem dksX4_sum_2 : cX4_sum.data.toList.drop 46 = dktX4_sum_2 := dk_seg dksX4_sum_1 22 rfl rfl
theorem dX4_sum_0 : decode cX4_sum 0 = .ok (.aload_n 0, 1) := dk_42 (dk_at dksX4_sum_0 0 rfl rfl)
theorem dX4_sum_1 : decode cX4_sum 1 = .ok (.invokevirtual 247, 3) := dk_182 0 247 (dk_at dksX4_sum_0 1 rfl rfl)
theorem dX4_sum_4 : decode cX4_sum 4 = .ok (.astore_n 1, 1) := dk_76 (dk_at dksX4_sum_0 4 rfl rfl)
theorem dX4_sum_5 : decode cX4_sum 5 = .ok (.aload_n 0, 1) := dk_42 (dk_at dksX4_sum_0 5 rfl rfl)
theorem dX4_sum_6 : decode cX4_sum 6 = .ok (.invokevirtual 52, 3) := dk_182 0 52 (dk_at dksX4_sum_0 6 rfl rfl)
theorem dX4_sum_9 : decode cX4_sum 9 = .ok (.bipush 43, 2) := dk_16 43 (dk_at dksX4_sum_0 9 rfl rfl)
theorem dX4_sum_11 : decode cX4_sum 11 = .ok (.if_icmp .eq 12, 3) := dk_159 0 12 (dk_at dksX4_sum_0 11 rfl rfl)
theorem dX4_sum_14 : decode cX4_sum 14 = .ok (.aload_n 0, 1) := dk_42 (dk_at dksX4_sum_0 14 rfl rfl)
theorem dX4_sum_15 : decode cX4_sum 15 = .ok (.invokevirtual 52, 3) := dk_182 0 52 (dk_at dksX4_sum_0 15 rfl rfl)
theorem dX4_sum_18 : decode cX4_sum 18 = .ok (.bipush 45, 2) := dk_16 45 (dk_at dksX4_sum_0 18 rfl rfl)
theorem dX4_sum_20 : decode cX4_sum 20 = .ok (.if_icmp .ne 43, 3) := dk_160 0 43 (dk_at dksX4_sum_0 20 rfl rfl)
theorem dX4_sum_23 : decode cX4_sum 23 = .ok (.aload_n 0, 1) := dk_42 (dk_at dksX4_sum_0 23 rfl rfl)
theorem dX4_sum_24 : decode cX4_sum 24 = .ok (.getfield 3, 3) := dk_180 0 3 (dk_at dksX4_sum_1 0 rfl rfl)
theorem dX4_sum_27 : decode cX4_sum 27 = .ok (.getfield 48, 3) := dk_180 0 48 (dk_at dksX4_sum_1 3 rfl rfl)
theorem dX4_sum_30 : decode cX4_sum 30 = .ok (.aload_n 0, 1) := dk_42 (dk_at dksX4_sum_1 6 rfl rfl)
theorem dX4_sum_31 : decode cX4_sum 31 = .ok (.getfield 42, 3) := dk_180 0 42 (dk_at dksX4_sum_1 7 rfl rfl)
theorem dX4_sum_34 : decode cX4_sum 34 = .ok (.baload, 1) := dk_51 (dk_at dksX4_sum_1 10 rfl rfl)
theorem dX4_sum_35 : decode cX4_sum 35 = .ok (.istore_n 2, 1) := dk_61 (dk_at dksX4_sum_1 11 rfl rfl)
theorem dX4_sum_36 : decode cX4_sum 36 = .ok (.aload_n 0, 1) := dk_42 (dk_at dksX4_sum_1 12 rfl rfl)
theorem dX4_sum_37 : decode cX4_sum 37 = .ok (.dup, 1) := dk_89 (dk_at dksX4_sum_1 13 rfl rfl)
theorem dX4_sum_38 : decode cX4_sum 38 = .ok (.getfield 42, 3) := dk_180 0 42 (dk_at dksX4_sum_1 14 rfl rfl)
theorem dX4_sum_41 : decode cX4_sum 41 = .ok (.iconst 1, 1) := dk_4 (dk_at dksX4_sum_1 17 rfl rfl)
theorem dX4_sum_42 : decode cX4_sum 42 = .ok (.iadd, 1) := dk_96 (dk_at dksX4_sum_1 18 rfl rfl)
theorem dX4_sum_43 : decode cX4_sum 43 = .ok (.putfield 42, 3) := dk_181 0 42 (dk_at dksX4_sum_1 19 rfl rfl)
theorem dX4_sum_46 : decode cX4_sum 46 = .ok (.new 250, 3) := dk_187 0 250 (dk_at dksX4_sum_2 0 rfl rfl)
theorem dX4_sum_49 : decode cX4_sum 49 = .ok (.dup, 1) := dk_89 (dk_at dksX4_sum_2 3 rfl rfl)
theorem dX4_sum_50 : decode cX4_sum 50 = .ok (.aload_n 1, 1) := dk_43 (dk_at dksX4_sum_2 4 rfl rfl)
theorem dX4_sum_51 : decode cX4_sum 51 = .ok (.iload_n 2, 1) := dk_28 (dk_at dksX4_sum_2 5 rfl rfl)
theorem dX4_sum_52 : decode cX4_sum 52 = .ok (.aload_n 0, 1) := dk_42 (dk_at dksX4_sum_2 6 rfl rfl)
theorem dX4_sum_53 : decode cX4_sum 53 = .ok (.invokevirtual 247, 3) := dk_182 0 247 (dk_at dksX4_sum_2 7 rfl rfl)
theorem dX4_sum_56 : decode cX4_sum 56 = .ok (.invokespecial 252, 3) := dk_183 0 252 (dk_at dksX4_sum_2 10 rfl rfl)
theorem dX4_sum_59 : decode cX4_sum 59 = .ok (.astore_n 1, 1) := dk_76 (dk_at dksX4_sum_2 13 rfl rfl)
theorem dX4_sum_60 : decode cX4_sum 60 = .ok (.goto (-55), 3) := dk_167 255 201 (dk_at dksX4_sum_2 14 rfl rfl)
theorem dX4_sum_63 : decode cX4_sum 63 = .ok (.aload_n 1, 1) := dk_43 (dk_at dksX4_sum_2 17 rfl rfl)
theorem dX4_sum_64 : decode cX4_sum 64 = .ok (.areturn, 1) := dk_176 (dk_at dksX4_sum_2 18 rfl rfl)
abbrev cX4_term : ByteArray := prog_13_method_28_code
def yX4_term : MethodName := ⟨RX4, "term", "()LSkySpire$Value;"⟩
def dkwX4_term_3 : List UInt8 := [167, 255, 192, 43, 176]
abbrev dktX4_term_3 : List UInt8 := dkwX4_term_3 ++ []
def dkwX4_term_2 : List UInt8 := [180, 0, 42, 4, 96, 181, 0, 42, 187, 0, 250, 89, 43, 28, 42, 182, 0, 253, 183, 0, 252, 76]
abbrev dktX4_term_2 : List UInt8 := dkwX4_term_2 ++ dktX4_term_3
def dkwX4_term_1 : List UInt8 := [182, 0, 52, 16, 37, 160, 0, 43, 42, 180, 0, 3, 180, 0, 48, 42, 180, 0, 42, 51, 61, 42, 89]
abbrev dktX4_term_1 : List UInt8 := dkwX4_term_1 ++ dktX4_term_2
def dkwX4_term_0 : List UInt8 := [42, 182, 0, 253, 76, 42, 182, 0, 52, 16, 42, 159, 0, 21, 42, 182, 0, 52, 16, 47, 159, 0, 12, 42]
abbrev dktX4_term_0 : List UInt8 := dkwX4_term_0 ++ dktX4_term_1
theorem dksX4_term_0 : cX4_term.data.toList.drop 0 = dktX4_term_0 := by decide +kernel
theorem dksX4_term_1 : cX4_term.data.toList.drop 24 = dktX4_term_1 := dk_seg dksX4_term_0 24 rfl rfl
theorem dksX4_term_2 : cX4_term.data.toList.drop 47 = dktX4_term_2 := dk_seg dksX4_term_1 23 rfl rfl
theorem dksX4_term_3 : cX4_term.data.toList.drop 69 = dktX4_term_3 := dk_seg dksX4_term_2 22 rfl rfl
theorem dX4_term_0 : decode cX4_term 0 = .ok (.aload_n 0, 1) := dk_42 (dk_at dksX4_term_0 0 rfl rfl)
theorem dX4_term_1 : decode cX4_term 1 = .ok (.invokevirtual 253, 3) := dk_182 0 253 (dk_at dksX4_term_0 1 rfl rfl)
theorem dX4_term_4 : decode cX4_term 4 = .ok (.astore_n 1, 1) := dk_76 (dk_at dksX4_term_0 4 rfl rfl)
theorem dX4_term_5 : decode cX4_term 5 = .ok (.aload_n 0, 1) := dk_42 (dk_at dksX4_term_0 5 rfl rfl)
theorem dX4_term_6 : decode cX4_term 6 = .ok (.invokevirtual 52, 3) := dk_182 0 52 (dk_at dksX4_term_0 6 rfl rfl)
theorem dX4_term_9 : decode cX4_term 9 = .ok (.bipush 42, 2) := dk_16 42 (dk_at dksX4_term_0 9 rfl rfl)
theorem dX4_term_11 : decode cX4_term 11 = .ok (.if_icmp .eq 21, 3) := dk_159 0 21 (dk_at dksX4_term_0 11 rfl rfl)
theorem dX4_term_14 : decode cX4_term 14 = .ok (.aload_n 0, 1) := dk_42 (dk_at dksX4_term_0 14 rfl rfl)
theorem dX4_term_15 : decode cX4_term 15 = .ok (.invokevirtual 52, 3) := dk_182 0 52 (dk_at dksX4_term_0 15 rfl rfl)
theorem dX4_term_18 : decode cX4_term 18 = .ok (.bipush 47, 2) := dk_16 47 (dk_at dksX4_term_0 18 rfl rfl)
theorem dX4_term_20 : decode cX4_term 20 = .ok (.if_icmp .eq 12, 3) := dk_159 0 12 (dk_at dksX4_term_0 20 rfl rfl)
theorem dX4_term_23 : decode cX4_term 23 = .ok (.aload_n 0, 1) := dk_42 (dk_at dksX4_term_0 23 rfl rfl)
theorem dX4_term_24 : decode cX4_term 24 = .ok (.invokevirtual 52, 3) := dk_182 0 52 (dk_at dksX4_term_1 0 rfl rfl)
theorem dX4_term_27 : decode cX4_term 27 = .ok (.bipush 37, 2) := dk_16 37 (dk_at dksX4_term_1 3 rfl rfl)
theorem dX4_term_29 : decode cX4_term 29 = .ok (.if_icmp .ne 43, 3) := dk_160 0 43 (dk_at dksX4_term_1 5 rfl rfl)
theorem dX4_term_32 : decode cX4_term 32 = .ok (.aload_n 0, 1) := dk_42 (dk_at dksX4_term_1 8 rfl rfl)
theorem dX4_term_33 : decode cX4_term 33 = .ok (.getfield 3, 3) := dk_180 0 3 (dk_at dksX4_term_1 9 rfl rfl)
theorem dX4_term_36 : decode cX4_term 36 = .ok (.getfield 48, 3) := dk_180 0 48 (dk_at dksX4_term_1 12 rfl rfl)
theorem dX4_term_39 : decode cX4_term 39 = .ok (.aload_n 0, 1) := dk_42 (dk_at dksX4_term_1 15 rfl rfl)
theorem dX4_term_40 : decode cX4_term 40 = .ok (.getfield 42, 3) := dk_180 0 42 (dk_at dksX4_term_1 16 rfl rfl)
theorem dX4_term_43 : decode cX4_term 43 = .ok (.baload, 1) := dk_51 (dk_at dksX4_term_1 19 rfl rfl)
theorem dX4_term_44 : decode cX4_term 44 = .ok (.istore_n 2, 1) := dk_61 (dk_at dksX4_term_1 20 rfl rfl)
theorem dX4_term_45 : decode cX4_term 45 = .ok (.aload_n 0, 1) := dk_42 (dk_at dksX4_term_1 21 rfl rfl)
theorem dX4_term_46 : decode cX4_term 46 = .ok (.dup, 1) := dk_89 (dk_at dksX4_term_1 22 rfl rfl)
theorem dX4_term_47 : decode cX4_term 47 = .ok (.getfield 42, 3) := dk_180 0 42 (dk_at dksX4_term_2 0 rfl rfl)
theorem dX4_term_50 : decode cX4_term 50 = .ok (.iconst 1, 1) := dk_4 (dk_at dksX4_term_2 3 rfl rfl)
theorem dX4_term_51 : decode cX4_term 51 = .ok (.iadd, 1) := dk_96 (dk_at dksX4_term_2 4 rfl rfl)
theorem dX4_term_52 : decode cX4_term 52 = .ok (.putfield 42, 3) := dk_181 0 42 (dk_at dksX4_term_2 5 rfl rfl)
theorem dX4_term_55 : decode cX4_term 55 = .ok (.new 250, 3) := dk_187 0 250 (dk_at dksX4_term_2 8 rfl rfl)
theorem dX4_term_58 : decode cX4_term 58 = .ok (.dup, 1) := dk_89 (dk_at dksX4_term_2 11 rfl rfl)
theorem dX4_term_59 : decode cX4_term 59 = .ok (.aload_n 1, 1) := dk_43 (dk_at dksX4_term_2 12 rfl rfl)
theorem dX4_term_60 : decode cX4_term 60 = .ok (.iload_n 2, 1) := dk_28 (dk_at dksX4_term_2 13 rfl rfl)
theorem dX4_term_61 : decode cX4_term 61 = .ok (.aload_n 0, 1) := dk_42 (dk_at dksX4_term_2 14 rfl rfl)
theorem dX4_term_62 : decode cX4_term 62 = .ok (.invokevirtual 253, 3) := dk_182 0 253 (dk_at dksX4_term_2 15 rfl rfl)
theorem dX4_term_65 : decode cX4_term 65 = .ok (.invokespecial 252, 3) := dk_183 0 252 (dk_at dksX4_term_2 18 rfl rfl)
theorem dX4_term_68 : decode cX4_term 68 = .ok (.astore_n 1, 1) := dk_76 (dk_at dksX4_term_2 21 rfl rfl)
theorem dX4_term_69 : decode cX4_term 69 = .ok (.goto (-64), 3) := dk_167 255 192 (dk_at dksX4_term_3 0 rfl rfl)
theorem dX4_term_72 : decode cX4_term 72 = .ok (.aload_n 1, 1) := dk_43 (dk_at dksX4_term_3 3 rfl rfl)
theorem dX4_term_73 : decode cX4_term 73 = .ok (.areturn, 1) := dk_176 (dk_at dksX4_term_3 4 rfl rfl)
abbrev cX4_value : ByteArray := prog_13_method_29_code
def yX4_value : MethodName := ⟨RX4, "value", "()LSkySpire$Value;"⟩
def dkwX4_value_4 : List UInt8 := [89, 28, 183, 1, 8, 176]
abbrev dktX4_value_4 : List UInt8 := dkwX4_value_4 ++ []
def dkwX4_value_3 : List UInt8 := [182, 0, 239, 42, 89, 180, 0, 42, 42, 180, 0, 19, 28, 50, 182, 0, 59, 96, 181, 0, 42, 187, 1, 6]
abbrev dktX4_value_3 : List UInt8 := dkwX4_value_3 ++ dktX4_value_4
def dkwX4_value_2 : List UInt8 := [182, 0, 153, 61, 42, 28, 2, 159, 0, 7, 4, 167, 0, 4, 3, 3, 27, 182, 0, 76, 42, 27]
abbrev dktX4_value_2 : List UInt8 := dkwX4_value_2 ++ dktX4_value_3
def dkwX4_value_1 : List UInt8 := [182, 0, 107, 61, 42, 27, 182, 0, 239, 187, 1, 1, 89, 28, 133, 183, 1, 3, 176, 42, 42, 180, 0, 19]
abbrev dktX4_value_1 : List UInt8 := dkwX4_value_1 ++ dktX4_value_2
def dkwX4_value_0 : List UInt8 := [42, 182, 0, 52, 87, 42, 180, 0, 42, 60, 42, 27, 182, 0, 72, 153, 0, 27, 42, 3, 19, 1, 0]
abbrev dktX4_value_0 : List UInt8 := dkwX4_value_0 ++ dktX4_value_1
theorem dksX4_value_0 : cX4_value.data.toList.drop 0 = dktX4_value_0 := by decide +kernel
theorem dksX4_value_1 : cX4_value.data.toList.drop 23 = dktX4_value_1 := dk_seg dksX4_value_0 23 rfl rfl
theorem dksX4_value_2 : cX4_value.data.toList.drop 47 = dktX4_value_2 := dk_seg dksX4_value_1 24 rfl rfl
theorem dksX4_value_3 : cX4_value.data.toList.drop 69 = dktX4_value_3 := dk_seg dksX4_value_2 22 rfl rfl
theorem dksX4_value_4 : cX4_value.data.toList.drop 93 = dktX4_value_4 := dk_seg dksX4_value_3 24 rfl rfl
theorem dX4_value_0 : decode cX4_value 0 = .ok (.aload_n 0, 1) := dk_42 (dk_at dksX4_value_0 0 rfl rfl)
theorem dX4_value_1 : decode cX4_value 1 = .ok (.invokevirtual 52, 3) := dk_182 0 52 (dk_at dksX4_value_0 1 rfl rfl)
theorem dX4_value_4 : decode cX4_value 4 = .ok (.pop, 1) := dk_87 (dk_at dksX4_value_0 4 rfl rfl)
theorem dX4_value_5 : decode cX4_value 5 = .ok (.aload_n 0, 1) := dk_42 (dk_at dksX4_value_0 5 rfl rfl)
theorem dX4_value_6 : decode cX4_value 6 = .ok (.getfield 42, 3) := dk_180 0 42 (dk_at dksX4_value_0 6 rfl rfl)
theorem dX4_value_9 : decode cX4_value 9 = .ok (.istore_n 1, 1) := dk_60 (dk_at dksX4_value_0 9 rfl rfl)
theorem dX4_value_10 : decode cX4_value 10 = .ok (.aload_n 0, 1) := dk_42 (dk_at dksX4_value_0 10 rfl rfl)
theorem dX4_value_11 : decode cX4_value 11 = .ok (.iload_n 1, 1) := dk_27 (dk_at dksX4_value_0 11 rfl rfl)
theorem dX4_value_12 : decode cX4_value 12 = .ok (.invokevirtual 72, 3) := dk_182 0 72 (dk_at dksX4_value_0 12 rfl rfl)
theorem dX4_value_15 : decode cX4_value 15 = .ok (.ifCond .eq 27, 3) := dk_153 0 27 (dk_at dksX4_value_0 15 rfl rfl)
theorem dX4_value_18 : decode cX4_value 18 = .ok (.aload_n 0, 1) := dk_42 (dk_at dksX4_value_0 18 rfl rfl)
theorem dX4_value_19 : decode cX4_value 19 = .ok (.iconst 0, 1) := dk_3 (dk_at dksX4_value_0 19 rfl rfl)
theorem dX4_value_20 : decode cX4_value 20 = .ok (.ldc_w 256, 3) := dk_19 1 0 (dk_at dksX4_value_0 20 rfl rfl)
theorem dX4_value_23 : decode cX4_value 23 = .ok (.invokevirtual 107, 3) := dk_182 0 107 (dk_at dksX4_value_1 0 rfl rfl)
theorem dX4_value_26 : decode cX4_value 26 = .ok (.istore_n 2, 1) := dk_61 (dk_at dksX4_value_1 3 rfl rfl)
theorem dX4_value_27 : decode cX4_value 27 = .ok (.aload_n 0, 1) := dk_42 (dk_at dksX4_value_1 4 rfl rfl)
theorem dX4_value_28 : decode cX4_value 28 = .ok (.iload_n 1, 1) := dk_27 (dk_at dksX4_value_1 5 rfl rfl)
theorem dX4_value_29 : decode cX4_value 29 = .ok (.invokevirtual 239, 3) := dk_182 0 239 (dk_at dksX4_value_1 6 rfl rfl)
theorem dX4_value_32 : decode cX4_value 32 = .ok (.new 257, 3) := dk_187 1 1 (dk_at dksX4_value_1 9 rfl rfl)
theorem dX4_value_35 : decode cX4_value 35 = .ok (.dup, 1) := dk_89 (dk_at dksX4_value_1 12 rfl rfl)
theorem dX4_value_36 : decode cX4_value 36 = .ok (.iload_n 2, 1) := dk_28 (dk_at dksX4_value_1 13 rfl rfl)
theorem dX4_value_37 : decode cX4_value 37 = .ok (.i2l, 1) := dk_133 (dk_at dksX4_value_1 14 rfl rfl)
theorem dX4_value_38 : decode cX4_value 38 = .ok (.invokespecial 259, 3) := dk_183 1 3 (dk_at dksX4_value_1 15 rfl rfl)
theorem dX4_value_41 : decode cX4_value 41 = .ok (.areturn, 1) := dk_176 (dk_at dksX4_value_1 18 rfl rfl)
theorem dX4_value_42 : decode cX4_value 42 = .ok (.aload_n 0, 1) := dk_42 (dk_at dksX4_value_1 19 rfl rfl)
theorem dX4_value_43 : decode cX4_value 43 = .ok (.aload_n 0, 1) := dk_42 (dk_at dksX4_value_1 20 rfl rfl)
theorem dX4_value_44 : decode cX4_value 44 = .ok (.getfield 19, 3) := dk_180 0 19 (dk_at dksX4_value_1 21 rfl rfl)
theorem dX4_value_47 : decode cX4_value 47 = .ok (.invokevirtual 153, 3) := dk_182 0 153 (dk_at dksX4_value_2 0 rfl rfl)
theorem dX4_value_50 : decode cX4_value 50 = .ok (.istore_n 2, 1) := dk_61 (dk_at dksX4_value_2 3 rfl rfl)
theorem dX4_value_51 : decode cX4_value 51 = .ok (.aload_n 0, 1) := dk_42 (dk_at dksX4_value_2 4 rfl rfl)
theorem dX4_value_52 : decode cX4_value 52 = .ok (.iload_n 2, 1) := dk_28 (dk_at dksX4_value_2 5 rfl rfl)
theorem dX4_value_53 : decode cX4_value 53 = .ok (.iconst (-1), 1) := dk_2 (dk_at dksX4_value_2 6 rfl rfl)
theorem dX4_value_54 : decode cX4_value 54 = .ok (.if_icmp .eq 7, 3) := dk_159 0 7 (dk_at dksX4_value_2 7 rfl rfl)
theorem dX4_value_57 : decode cX4_value 57 = .ok (.iconst 1, 1) := dk_4 (dk_at dksX4_value_2 10 rfl rfl)
theorem dX4_value_58 : decode cX4_value 58 = .ok (.goto 4, 3) := dk_167 0 4 (dk_at dksX4_value_2 11 rfl rfl)
theorem dX4_value_61 : decode cX4_value 61 = .ok (.iconst 0, 1) := dk_3 (dk_at dksX4_value_2 14 rfl rfl)
theorem dX4_value_62 : decode cX4_value 62 = .ok (.iconst 0, 1) := dk_3 (dk_at dksX4_value_2 15 rfl rfl)
theorem dX4_value_63 : decode cX4_value 63 = .ok (.iload_n 1, 1) := dk_27 (dk_at dksX4_value_2 16 rfl rfl)
theorem dX4_value_64 : decode cX4_value 64 = .ok (.invokevirtual 76, 3) := dk_182 0 76 (dk_at dksX4_value_2 17 rfl rfl)
theorem dX4_value_67 : decode cX4_value 67 = .ok (.aload_n 0, 1) := dk_42 (dk_at dksX4_value_2 20 rfl rfl)
theorem dX4_value_68 : decode cX4_value 68 = .ok (.iload_n 1, 1) := dk_27 (dk_at dksX4_value_2 21 rfl rfl)
theorem dX4_value_69 : decode cX4_value 69 = .ok (.invokevirtual 239, 3) := dk_182 0 239 (dk_at dksX4_value_3 0 rfl rfl)
theorem dX4_value_72 : decode cX4_value 72 = .ok (.aload_n 0, 1) := dk_42 (dk_at dksX4_value_3 3 rfl rfl)
theorem dX4_value_73 : decode cX4_value 73 = .ok (.dup, 1) := dk_89 (dk_at dksX4_value_3 4 rfl rfl)
theorem dX4_value_74 : decode cX4_value 74 = .ok (.getfield 42, 3) := dk_180 0 42 (dk_at dksX4_value_3 5 rfl rfl)
theorem dX4_value_77 : decode cX4_value 77 = .ok (.aload_n 0, 1) := dk_42 (dk_at dksX4_value_3 8 rfl rfl)
theorem dX4_value_78 : decode cX4_value 78 = .ok (.getfield 19, 3) := dk_180 0 19 (dk_at dksX4_value_3 9 rfl rfl)
theorem dX4_value_81 : decode cX4_value 81 = .ok (.iload_n 2, 1) := dk_28 (dk_at dksX4_value_3 12 rfl rfl)
theorem dX4_value_82 : decode cX4_value 82 = .ok (.aaload, 1) := dk_50 (dk_at dksX4_value_3 13 rfl rfl)
theorem dX4_value_83 : decode cX4_value 83 = .ok (.invokevirtual 59, 3) := dk_182 0 59 (dk_at dksX4_value_3 14 rfl rfl)
theorem dX4_value_86 : decode cX4_value 86 = .ok (.iadd, 1) := dk_96 (dk_at dksX4_value_3 17 rfl rfl)
theorem dX4_value_87 : decode cX4_value 87 = .ok (.putfield 42, 3) := dk_181 0 42 (dk_at dksX4_value_3 18 rfl rfl)
theorem dX4_value_90 : decode cX4_value 90 = .ok (.new 262, 3) := dk_187 1 6 (dk_at dksX4_value_3 21 rfl rfl)
theorem dX4_value_93 : decode cX4_value 93 = .ok (.dup, 1) := dk_89 (dk_at dksX4_value_4 0 rfl rfl)
theorem dX4_value_94 : decode cX4_value 94 = .ok (.iload_n 2, 1) := dk_28 (dk_at dksX4_value_4 1 rfl rfl)
theorem dX4_value_95 : decode cX4_value 95 = .ok (.invokespecial 264, 3) := dk_183 1 8 (dk_at dksX4_value_4 2 rfl rfl)
theorem dX4_value_98 : decode cX4_value 98 = .ok (.areturn, 1) := dk_176 (dk_at dksX4_value_4 5 rfl rfl)
abbrev cX4_makes : ByteArray := prog_13_method_11_code
def yX4_makes : MethodName := ⟨RX4, "makes", "(I)V"⟩
def dkwX4_makes_1 : List UInt8 := [180, 0, 84, 4, 96, 181, 0, 84, 177]
abbrev dktX4_makes_1 : List UInt8 := dkwX4_makes_1 ++ []
def dkwX4_makes_0 : List UInt8 := [42, 42, 180, 0, 84, 16, 60, 162, 0, 7, 4, 167, 0, 4, 3, 6, 27, 182, 0, 76, 42, 89]
abbrev dktX4_makes_0 : List UInt8 := dkwX4_makes_0 ++ dktX4_makes_1
theorem dksX4_makes_0 : cX4_makes.data.toList.drop 0 = dktX4_makes_0 := by decide +kernel
theorem dksX4_makes_1 : cX4_makes.data.toList.drop 22 = dktX4_makes_1 := dk_seg dksX4_makes_0 22 rfl rfl
theorem dX4_makes_0 : decode cX4_makes 0 = .ok (.aload_n 0, 1) := dk_42 (dk_at dksX4_makes_0 0 rfl rfl)
theorem dX4_makes_1 : decode cX4_makes 1 = .ok (.aload_n 0, 1) := dk_42 (dk_at dksX4_makes_0 1 rfl rfl)
theorem dX4_makes_2 : decode cX4_makes 2 = .ok (.getfield 84, 3) := dk_180 0 84 (dk_at dksX4_makes_0 2 rfl rfl)
theorem dX4_makes_5 : decode cX4_makes 5 = .ok (.bipush 60, 2) := dk_16 60 (dk_at dksX4_makes_0 5 rfl rfl)
theorem dX4_makes_7 : decode cX4_makes 7 = .ok (.if_icmp .ge 7, 3) := dk_162 0 7 (dk_at dksX4_makes_0 7 rfl rfl)
theorem dX4_makes_10 : decode cX4_makes 10 = .ok (.iconst 1, 1) := dk_4 (dk_at dksX4_makes_0 10 rfl rfl)
theorem dX4_makes_11 : decode cX4_makes 11 = .ok (.goto 4, 3) := dk_167 0 4 (dk_at dksX4_makes_0 11 rfl rfl)
theorem dX4_makes_14 : decode cX4_makes 14 = .ok (.iconst 0, 1) := dk_3 (dk_at dksX4_makes_0 14 rfl rfl)
theorem dX4_makes_15 : decode cX4_makes 15 = .ok (.iconst 3, 1) := dk_6 (dk_at dksX4_makes_0 15 rfl rfl)
theorem dX4_makes_16 : decode cX4_makes 16 = .ok (.iload_n 1, 1) := dk_27 (dk_at dksX4_makes_0 16 rfl rfl)
theorem dX4_makes_17 : decode cX4_makes 17 = .ok (.invokevirtual 76, 3) := dk_182 0 76 (dk_at dksX4_makes_0 17 rfl rfl)
theorem dX4_makes_20 : decode cX4_makes 20 = .ok (.aload_n 0, 1) := dk_42 (dk_at dksX4_makes_0 20 rfl rfl)
theorem dX4_makes_21 : decode cX4_makes 21 = .ok (.dup, 1) := dk_89 (dk_at dksX4_makes_0 21 rfl rfl)
theorem dX4_makes_22 : decode cX4_makes 22 = .ok (.getfield 84, 3) := dk_180 0 84 (dk_at dksX4_makes_1 0 rfl rfl)
theorem dX4_makes_25 : decode cX4_makes 25 = .ok (.iconst 1, 1) := dk_4 (dk_at dksX4_makes_1 3 rfl rfl)
theorem dX4_makes_26 : decode cX4_makes 26 = .ok (.iadd, 1) := dk_96 (dk_at dksX4_makes_1 4 rfl rfl)
theorem dX4_makes_27 : decode cX4_makes 27 = .ok (.putfield 84, 3) := dk_181 0 84 (dk_at dksX4_makes_1 5 rfl rfl)
theorem dX4_makes_30 : decode cX4_makes 30 = .ok (.return_, 1) := dk_177 (dk_at dksX4_makes_1 8 rfl rfl)
abbrev cX4_takesWord : ByteArray := prog_13_method_7_code
def yX4_takesWord : MethodName := ⟨RX4, "takesWord", "(Ljava/lang/String;)Z"⟩
def dkwX4_takesWord_1 : List UInt8 := [172]
abbrev dktX4_takesWord_1 : List UInt8 := dkwX4_takesWord_1 ++ []
def dkwX4_takesWord_0 : List UInt8 := [42, 43, 182, 0, 68, 154, 0, 5, 3, 172, 42, 89, 180, 0, 42, 43, 182, 0, 59, 96, 181, 0, 42, 4]
abbrev dktX4_takesWord_0 : List UInt8 := dkwX4_takesWord_0 ++ dktX4_takesWord_1
theorem dksX4_takesWord_0 : cX4_takesWord.data.toList.drop 0 = dktX4_takesWord_0 := by decide +kernel
theorem dksX4_takesWord_1 : cX4_takesWord.data.toList.drop 24 = dktX4_takesWord_1 := dk_seg dksX4_takesWord_0 24 rfl rfl
theorem dX4_takesWord_0 : decode cX4_takesWord 0 = .ok (.aload_n 0, 1) := dk_42 (dk_at dksX4_takesWord_0 0 rfl rfl)
theorem dX4_takesWord_1 : decode cX4_takesWord 1 = .ok (.aload_n 1, 1) := dk_43 (dk_at dksX4_takesWord_0 1 rfl rfl)
theorem dX4_takesWord_2 : decode cX4_takesWord 2 = .ok (.invokevirtual 68, 3) := dk_182 0 68 (dk_at dksX4_takesWord_0 2 rfl rfl)
theorem dX4_takesWord_5 : decode cX4_takesWord 5 = .ok (.ifCond .ne 5, 3) := dk_154 0 5 (dk_at dksX4_takesWord_0 5 rfl rfl)
theorem dX4_takesWord_8 : decode cX4_takesWord 8 = .ok (.iconst 0, 1) := dk_3 (dk_at dksX4_takesWord_0 8 rfl rfl)
theorem dX4_takesWord_9 : decode cX4_takesWord 9 = .ok (.ireturn, 1) := dk_172 (dk_at dksX4_takesWord_0 9 rfl rfl)
theorem dX4_takesWord_10 : decode cX4_takesWord 10 = .ok (.aload_n 0, 1) := dk_42 (dk_at dksX4_takesWord_0 10 rfl rfl)
theorem dX4_takesWord_11 : decode cX4_takesWord 11 = .ok (.dup, 1) := dk_89 (dk_at dksX4_takesWord_0 11 rfl rfl)
theorem dX4_takesWord_12 : decode cX4_takesWord 12 = .ok (.getfield 42, 3) := dk_180 0 42 (dk_at dksX4_takesWord_0 12 rfl rfl)
theorem dX4_takesWord_15 : decode cX4_takesWord 15 = .ok (.aload_n 1, 1) := dk_43 (dk_at dksX4_takesWord_0 15 rfl rfl)
theorem dX4_takesWord_16 : decode cX4_takesWord 16 = .ok (.invokevirtual 59, 3) := dk_182 0 59 (dk_at dksX4_takesWord_0 16 rfl rfl)
theorem dX4_takesWord_19 : decode cX4_takesWord 19 = .ok (.iadd, 1) := dk_96 (dk_at dksX4_takesWord_0 19 rfl rfl)
theorem dX4_takesWord_20 : decode cX4_takesWord 20 = .ok (.putfield 42, 3) := dk_181 0 42 (dk_at dksX4_takesWord_0 20 rfl rfl)
theorem dX4_takesWord_23 : decode cX4_takesWord 23 = .ok (.iconst 1, 1) := dk_4 (dk_at dksX4_takesWord_0 23 rfl rfl)
theorem dX4_takesWord_24 : decode cX4_takesWord 24 = .ok (.ireturn, 1) := dk_172 (dk_at dksX4_takesWord_1 0 rfl rfl)
abbrev cX4_tested : ByteArray := prog_13_method_23_code
def yX4_tested : MethodName := ⟨RX4, "tested", "()LSkySpire$Test;"⟩
def dkwX4_tested_1 : List UInt8 := [183, 0, 218, 76, 167, 255, 233, 43, 176]
abbrev dktX4_tested_1 : List UInt8 := dkwX4_tested_1 ++ []
def dkwX4_tested_0 : List UInt8 := [42, 182, 0, 211, 76, 42, 18, 214, 182, 0, 185, 153, 0, 20, 187, 0, 216, 89, 43, 3, 42, 182, 0, 211]
abbrev dktX4_tested_0 : List UInt8 := dkwX4_tested_0 ++ dktX4_tested_1
theorem dksX4_tested_0 : cX4_tested.data.toList.drop 0 = dktX4_tested_0 := by decide +kernel
theorem dksX4_tested_1 : cX4_tested.data.toList.drop 24 = dktX4_tested_1 := dk_seg dksX4_tested_0 24 rfl rfl
theorem dX4_tested_0 : decode cX4_tested 0 = .ok (.aload_n 0, 1) := dk_42 (dk_at dksX4_tested_0 0 rfl rfl)
theorem dX4_tested_1 : decode cX4_tested 1 = .ok (.invokevirtual 211, 3) := dk_182 0 211 (dk_at dksX4_tested_0 1 rfl rfl)
theorem dX4_tested_4 : decode cX4_tested 4 = .ok (.astore_n 1, 1) := dk_76 (dk_at dksX4_tested_0 4 rfl rfl)
theorem dX4_tested_5 : decode cX4_tested 5 = .ok (.aload_n 0, 1) := dk_42 (dk_at dksX4_tested_0 5 rfl rfl)
theorem dX4_tested_6 : decode cX4_tested 6 = .ok (.ldc 214, 2) := dk_18 214 (dk_at dksX4_tested_0 6 rfl rfl)
theorem dX4_tested_8 : decode cX4_tested 8 = .ok (.invokevirtual 185, 3) := dk_182 0 185 (dk_at dksX4_tested_0 8 rfl rfl)
theorem dX4_tested_11 : decode cX4_tested 11 = .ok (.ifCond .eq 20, 3) := dk_153 0 20 (dk_at dksX4_tested_0 11 rfl rfl)
theorem dX4_tested_14 : decode cX4_tested 14 = .ok (.new 216, 3) := dk_187 0 216 (dk_at dksX4_tested_0 14 rfl rfl)
theorem dX4_tested_17 : decode cX4_tested 17 = .ok (.dup, 1) := dk_89 (dk_at dksX4_tested_0 17 rfl rfl)
theorem dX4_tested_18 : decode cX4_tested 18 = .ok (.aload_n 1, 1) := dk_43 (dk_at dksX4_tested_0 18 rfl rfl)
theorem dX4_tested_19 : decode cX4_tested 19 = .ok (.iconst 0, 1) := dk_3 (dk_at dksX4_tested_0 19 rfl rfl)
theorem dX4_tested_20 : decode cX4_tested 20 = .ok (.aload_n 0, 1) := dk_42 (dk_at dksX4_tested_0 20 rfl rfl)
theorem dX4_tested_21 : decode cX4_tested 21 = .ok (.invokevirtual 211, 3) := dk_182 0 211 (dk_at dksX4_tested_0 21 rfl rfl)
theorem dX4_tested_24 : decode cX4_tested 24 = .ok (.invokespecial 218, 3) := dk_183 0 218 (dk_at dksX4_tested_1 0 rfl rfl)
theorem dX4_tested_27 : decode cX4_tested 27 = .ok (.astore_n 1, 1) := dk_76 (dk_at dksX4_tested_1 3 rfl rfl)
theorem dX4_tested_28 : decode cX4_tested 28 = .ok (.goto (-23), 3) := dk_167 255 233 (dk_at dksX4_tested_1 4 rfl rfl)
theorem dX4_tested_31 : decode cX4_tested 31 = .ok (.aload_n 1, 1) := dk_43 (dk_at dksX4_tested_1 7 rfl rfl)
theorem dX4_tested_32 : decode cX4_tested 32 = .ok (.areturn, 1) := dk_176 (dk_at dksX4_tested_1 8 rfl rfl)
abbrev cX4_parted : ByteArray := prog_13_method_24_code
def yX4_parted : MethodName := ⟨RX4, "parted", "()LSkySpire$Test;"⟩
def dkwX4_parted_1 : List UInt8 := [183, 0, 218, 76, 167, 255, 233, 43, 176]
abbrev dktX4_parted_1 : List UInt8 := dkwX4_parted_1 ++ []
def dkwX4_parted_0 : List UInt8 := [42, 182, 0, 221, 76, 42, 18, 224, 182, 0, 185, 153, 0, 20, 187, 0, 216, 89, 43, 4, 42, 182, 0, 221]
abbrev dktX4_parted_0 : List UInt8 := dkwX4_parted_0 ++ dktX4_parted_1
theorem dksX4_parted_0 : cX4_parted.data.toList.drop 0 = dktX4_parted_0 := by decide +kernel
theorem dksX4_parted_1 : cX4_parted.data.toList.drop 24 = dktX4_parted_1 := dk_seg dksX4_parted_0 24 rfl rfl
theorem dX4_parted_0 : decode cX4_parted 0 = .ok (.aload_n 0, 1) := dk_42 (dk_at dksX4_parted_0 0 rfl rfl)
theorem dX4_parted_1 : decode cX4_parted 1 = .ok (.invokevirtual 221, 3) := dk_182 0 221 (dk_at dksX4_parted_0 1 rfl rfl)
theorem dX4_parted_4 : decode cX4_parted 4 = .ok (.astore_n 1, 1) := dk_76 (dk_at dksX4_parted_0 4 rfl rfl)
theorem dX4_parted_5 : decode cX4_parted 5 = .ok (.aload_n 0, 1) := dk_42 (dk_at dksX4_parted_0 5 rfl rfl)
theorem dX4_parted_6 : decode cX4_parted 6 = .ok (.ldc 224, 2) := dk_18 224 (dk_at dksX4_parted_0 6 rfl rfl)
theorem dX4_parted_8 : decode cX4_parted 8 = .ok (.invokevirtual 185, 3) := dk_182 0 185 (dk_at dksX4_parted_0 8 rfl rfl)
theorem dX4_parted_11 : decode cX4_parted 11 = .ok (.ifCond .eq 20, 3) := dk_153 0 20 (dk_at dksX4_parted_0 11 rfl rfl)
theorem dX4_parted_14 : decode cX4_parted 14 = .ok (.new 216, 3) := dk_187 0 216 (dk_at dksX4_parted_0 14 rfl rfl)
theorem dX4_parted_17 : decode cX4_parted 17 = .ok (.dup, 1) := dk_89 (dk_at dksX4_parted_0 17 rfl rfl)
theorem dX4_parted_18 : decode cX4_parted 18 = .ok (.aload_n 1, 1) := dk_43 (dk_at dksX4_parted_0 18 rfl rfl)
theorem dX4_parted_19 : decode cX4_parted 19 = .ok (.iconst 1, 1) := dk_4 (dk_at dksX4_parted_0 19 rfl rfl)
theorem dX4_parted_20 : decode cX4_parted 20 = .ok (.aload_n 0, 1) := dk_42 (dk_at dksX4_parted_0 20 rfl rfl)
theorem dX4_parted_21 : decode cX4_parted 21 = .ok (.invokevirtual 221, 3) := dk_182 0 221 (dk_at dksX4_parted_0 21 rfl rfl)
theorem dX4_parted_24 : decode cX4_parted 24 = .ok (.invokespecial 218, 3) := dk_183 0 218 (dk_at dksX4_parted_1 0 rfl rfl)
theorem dX4_parted_27 : decode cX4_parted 27 = .ok (.astore_n 1, 1) := dk_76 (dk_at dksX4_parted_1 3 rfl rfl)
theorem dX4_parted_28 : decode cX4_parted 28 = .ok (.goto (-23), 3) := dk_167 255 233 (dk_at dksX4_parted_1 4 rfl rfl)
theorem dX4_parted_31 : decode cX4_parted 31 = .ok (.aload_n 1, 1) := dk_43 (dk_at dksX4_parted_1 7 rfl rfl)
theorem dX4_parted_32 : decode cX4_parted 32 = .ok (.areturn, 1) := dk_176 (dk_at dksX4_parted_1 8 rfl rfl)
abbrev cX4_fact : ByteArray := prog_13_method_25_code
def yX4_fact : MethodName := ⟨RX4, "fact", "()LSkySpire$Test;"⟩
def dkwX4_fact_6 : List UInt8 := [187, 0, 242, 89, 45, 21, 5, 42, 182, 0, 176, 183, 0, 244, 176]
abbrev dktX4_fact_6 : List UInt8 := dkwX4_fact_6 ++ []
def dkwX4_fact_5 : List UInt8 := [182, 0, 52, 87, 42, 180, 0, 42, 54, 4, 42, 182, 0, 236, 54, 5, 42, 21, 4, 182, 0, 239]
abbrev dktX4_fact_5 : List UInt8 := dkwX4_fact_5 ++ dktX4_fact_6
def dkwX4_fact_4 : List UInt8 := [180, 0, 42, 182, 0, 76, 42, 89, 180, 0, 87, 4, 100, 181, 0, 87, 45, 176, 42, 182, 0, 176, 78, 42]
abbrev dktX4_fact_4 : List UInt8 := dkwX4_fact_4 ++ dktX4_fact_5
def dkwX4_fact_3 : List UInt8 := [180, 0, 42, 4, 96, 181, 0, 42, 42, 182, 0, 188, 78, 42, 42, 16, 93, 182, 0, 164, 3, 42]
abbrev dktX4_fact_3 : List UInt8 := dkwX4_fact_3 ++ dktX4_fact_4
def dkwX4_fact_2 : List UInt8 := [180, 0, 87, 4, 100, 181, 0, 87, 45, 176, 27, 16, 91, 160, 0, 50, 42, 28, 182, 0, 228, 42, 89]
abbrev dktX4_fact_2 : List UInt8 := dkwX4_fact_2 ++ dktX4_fact_3
def dkwX4_fact_1 : List UInt8 := [42, 89, 180, 0, 42, 6, 96, 181, 0, 42, 187, 0, 231, 89, 42, 182, 0, 221, 183, 0, 233, 78, 42, 89]
abbrev dktX4_fact_1 : List UInt8 := dkwX4_fact_1 ++ dktX4_fact_2
def dkwX4_fact_0 : List UInt8 := [42, 182, 0, 52, 60, 42, 180, 0, 42, 61, 42, 18, 226, 182, 0, 68, 153, 0, 42, 42, 28, 182, 0, 228]
abbrev dktX4_fact_0 : List UInt8 := dkwX4_fact_0 ++ dktX4_fact_1
theorem dksX4_fact_0 : cX4_fact.data.toList.drop 0 = dktX4_fact_0 := by decide +kernel
theorem dksX4_fact_1 : cX4_fact.data.toList.drop 24 = dktX4_fact_1 := dk_seg dksX4_fact_0 24 rfl rfl
theorem dksX4_fact_2 : cX4_fact.data.toList.drop 48 = dktX4_fact_2 := dk_seg dksX4_fact_1 24 rfl rfl
theorem dksX4_fact_3 : cX4_fact.data.toList.drop 71 = dktX4_fact_3 := dk_seg dksX4_fact_2 23 rfl rfl
theorem dksX4_fact_4 : cX4_fact.data.toList.drop 93 = dktX4_fact_4 := dk_seg dksX4_fact_3 22 rfl rfl
theorem dksX4_fact_5 : cX4_fact.data.toList.drop 117 = dktX4_fact_5 := dk_seg dksX4_fact_4 24 rfl rfl
theorem dksX4_fact_6 : cX4_fact.data.toList.drop 139 = dktX4_fact_6 := dk_seg dksX4_fact_5 22 rfl rfl
theorem dX4_fact_0 : decode cX4_fact 0 = .ok (.aload_n 0, 1) := dk_42 (dk_at dksX4_fact_0 0 rfl rfl)
theorem dX4_fact_1 : decode cX4_fact 1 = .ok (.invokevirtual 52, 3) := dk_182 0 52 (dk_at dksX4_fact_0 1 rfl rfl)
theorem dX4_fact_4 : decode cX4_fact 4 = .ok (.istore_n 1, 1) := dk_60 (dk_at dksX4_fact_0 4 rfl rfl)
theorem dX4_fact_5 : decode cX4_fact 5 = .ok (.aload_n 0, 1) := dk_42 (dk_at dksX4_fact_0 5 rfl rfl)
theorem dX4_fact_6 : decode cX4_fact 6 = .ok (.getfield 42, 3) := dk_180 0 42 (dk_at dksX4_fact_0 6 rfl rfl)
theorem dX4_fact_9 : decode cX4_fact 9 = .ok (.istore_n 2, 1) := dk_61 (dk_at dksX4_fact_0 9 rfl rfl)
theorem dX4_fact_10 : decode cX4_fact 10 = .ok (.aload_n 0, 1) := dk_42 (dk_at dksX4_fact_0 10 rfl rfl)
theorem dX4_fact_11 : decode cX4_fact 11 = .ok (.ldc 226, 2) := dk_18 226 (dk_at dksX4_fact_0 11 rfl rfl)
theorem dX4_fact_13 : decode cX4_fact 13 = .ok (.invokevirtual 68, 3) := dk_182 0 68 (dk_at dksX4_fact_0 13 rfl rfl)
theorem dX4_fact_16 : decode cX4_fact 16 = .ok (.ifCond .eq 42, 3) := dk_153 0 42 (dk_at dksX4_fact_0 16 rfl rfl)
theorem dX4_fact_19 : decode cX4_fact 19 = .ok (.aload_n 0, 1) := dk_42 (dk_at dksX4_fact_0 19 rfl rfl)
theorem dX4_fact_20 : decode cX4_fact 20 = .ok (.iload_n 2, 1) := dk_28 (dk_at dksX4_fact_0 20 rfl rfl)
theorem dX4_fact_21 : decode cX4_fact 21 = .ok (.invokevirtual 228, 3) := dk_182 0 228 (dk_at dksX4_fact_0 21 rfl rfl)
theorem dX4_fact_24 : decode cX4_fact 24 = .ok (.aload_n 0, 1) := dk_42 (dk_at dksX4_fact_1 0 rfl rfl)
theorem dX4_fact_25 : decode cX4_fact 25 = .ok (.dup, 1) := dk_89 (dk_at dksX4_fact_1 1 rfl rfl)
theorem dX4_fact_26 : decode cX4_fact 26 = .ok (.getfield 42, 3) := dk_180 0 42 (dk_at dksX4_fact_1 2 rfl rfl)
theorem dX4_fact_29 : decode cX4_fact 29 = .ok (.iconst 3, 1) := dk_6 (dk_at dksX4_fact_1 5 rfl rfl)
theorem dX4_fact_30 : decode cX4_fact 30 = .ok (.iadd, 1) := dk_96 (dk_at dksX4_fact_1 6 rfl rfl)
theorem dX4_fact_31 : decode cX4_fact 31 = .ok (.putfield 42, 3) := dk_181 0 42 (dk_at dksX4_fact_1 7 rfl rfl)
theorem dX4_fact_34 : decode cX4_fact 34 = .ok (.new 231, 3) := dk_187 0 231 (dk_at dksX4_fact_1 10 rfl rfl)
theorem dX4_fact_37 : decode cX4_fact 37 = .ok (.dup, 1) := dk_89 (dk_at dksX4_fact_1 13 rfl rfl)
theorem dX4_fact_38 : decode cX4_fact 38 = .ok (.aload_n 0, 1) := dk_42 (dk_at dksX4_fact_1 14 rfl rfl)
theorem dX4_fact_39 : decode cX4_fact 39 = .ok (.invokevirtual 221, 3) := dk_182 0 221 (dk_at dksX4_fact_1 15 rfl rfl)
theorem dX4_fact_42 : decode cX4_fact 42 = .ok (.invokespecial 233, 3) := dk_183 0 233 (dk_at dksX4_fact_1 18 rfl rfl)
theorem dX4_fact_45 : decode cX4_fact 45 = .ok (.astore_n 3, 1) := dk_78 (dk_at dksX4_fact_1 21 rfl rfl)
theorem dX4_fact_46 : decode cX4_fact 46 = .ok (.aload_n 0, 1) := dk_42 (dk_at dksX4_fact_1 22 rfl rfl)
theorem dX4_fact_47 : decode cX4_fact 47 = .ok (.dup, 1) := dk_89 (dk_at dksX4_fact_1 23 rfl rfl)
theorem dX4_fact_48 : decode cX4_fact 48 = .ok (.getfield 87, 3) := dk_180 0 87 (dk_at dksX4_fact_2 0 rfl rfl)
theorem dX4_fact_51 : decode cX4_fact 51 = .ok (.iconst 1, 1) := dk_4 (dk_at dksX4_fact_2 3 rfl rfl)
theorem dX4_fact_52 : decode cX4_fact 52 = .ok (.isub, 1) := dk_100 (dk_at dksX4_fact_2 4 rfl rfl)
theorem dX4_fact_53 : decode cX4_fact 53 = .ok (.putfield 87, 3) := dk_181 0 87 (dk_at dksX4_fact_2 5 rfl rfl)
theorem dX4_fact_56 : decode cX4_fact 56 = .ok (.aload_n 3, 1) := dk_45 (dk_at dksX4_fact_2 8 rfl rfl)
theorem dX4_fact_57 : decode cX4_fact 57 = .ok (.areturn, 1) := dk_176 (dk_at dksX4_fact_2 9 rfl rfl)
theorem dX4_fact_58 : decode cX4_fact 58 = .ok (.iload_n 1, 1) := dk_27 (dk_at dksX4_fact_2 10 rfl rfl)
theorem dX4_fact_59 : decode cX4_fact 59 = .ok (.bipush 91, 2) := dk_16 91 (dk_at dksX4_fact_2 11 rfl rfl)
theorem dX4_fact_61 : decode cX4_fact 61 = .ok (.if_icmp .ne 50, 3) := dk_160 0 50 (dk_at dksX4_fact_2 13 rfl rfl)
theorem dX4_fact_64 : decode cX4_fact 64 = .ok (.aload_n 0, 1) := dk_42 (dk_at dksX4_fact_2 16 rfl rfl)
theorem dX4_fact_65 : decode cX4_fact 65 = .ok (.iload_n 2, 1) := dk_28 (dk_at dksX4_fact_2 17 rfl rfl)
theorem dX4_fact_66 : decode cX4_fact 66 = .ok (.invokevirtual 228, 3) := dk_182 0 228 (dk_at dksX4_fact_2 18 rfl rfl)
theorem dX4_fact_69 : decode cX4_fact 69 = .ok (.aload_n 0, 1) := dk_42 (dk_at dksX4_fact_2 21 rfl rfl)
theorem dX4_fact_70 : decode cX4_fact 70 = .ok (.dup, 1) := dk_89 (dk_at dksX4_fact_2 22 rfl rfl)
theorem dX4_fact_71 : decode cX4_fact 71 = .ok (.getfield 42, 3) := dk_180 0 42 (dk_at dksX4_fact_3 0 rfl rfl)
theorem dX4_fact_74 : decode cX4_fact 74 = .ok (.iconst 1, 1) := dk_4 (dk_at dksX4_fact_3 3 rfl rfl)
theorem dX4_fact_75 : decode cX4_fact 75 = .ok (.iadd, 1) := dk_96 (dk_at dksX4_fact_3 4 rfl rfl)
theorem dX4_fact_76 : decode cX4_fact 76 = .ok (.putfield 42, 3) := dk_181 0 42 (dk_at dksX4_fact_3 5 rfl rfl)
theorem dX4_fact_79 : decode cX4_fact 79 = .ok (.aload_n 0, 1) := dk_42 (dk_at dksX4_fact_3 8 rfl rfl)
theorem dX4_fact_80 : decode cX4_fact 80 = .ok (.invokevirtual 188, 3) := dk_182 0 188 (dk_at dksX4_fact_3 9 rfl rfl)
theorem dX4_fact_83 : decode cX4_fact 83 = .ok (.astore_n 3, 1) := dk_78 (dk_at dksX4_fact_3 12 rfl rfl)
theorem dX4_fact_84 : decode cX4_fact 84 = .ok (.aload_n 0, 1) := dk_42 (dk_at dksX4_fact_3 13 rfl rfl)
theorem dX4_fact_85 : decode cX4_fact 85 = .ok (.aload_n 0, 1) := dk_42 (dk_at dksX4_fact_3 14 rfl rfl)
theorem dX4_fact_86 : decode cX4_fact 86 = .ok (.bipush 93, 2) := dk_16 93 (dk_at dksX4_fact_3 15 rfl rfl)
theorem dX4_fact_88 : decode cX4_fact 88 = .ok (.invokevirtual 164, 3) := dk_182 0 164 (dk_at dksX4_fact_3 17 rfl rfl)
theorem dX4_fact_91 : decode cX4_fact 91 = .ok (.iconst 0, 1) := dk_3 (dk_at dksX4_fact_3 20 rfl rfl)
theorem dX4_fact_92 : decode cX4_fact 92 = .ok (.aload_n 0, 1) := dk_42 (dk_at dksX4_fact_3 21 rfl rfl)
theorem dX4_fact_93 : decode cX4_fact 93 = .ok (.getfield 42, 3) := dk_180 0 42 (dk_at dksX4_fact_4 0 rfl rfl)
theorem dX4_fact_96 : decode cX4_fact 96 = .ok (.invokevirtual 76, 3) := dk_182 0 76 (dk_at dksX4_fact_4 3 rfl rfl)
theorem dX4_fact_99 : decode cX4_fact 99 = .ok (.aload_n 0, 1) := dk_42 (dk_at dksX4_fact_4 6 rfl rfl)
theorem dX4_fact_100 : decode cX4_fact 100 = .ok (.dup, 1) := dk_89 (dk_at dksX4_fact_4 7 rfl rfl)
theorem dX4_fact_101 : decode cX4_fact 101 = .ok (.getfield 87, 3) := dk_180 0 87 (dk_at dksX4_fact_4 8 rfl rfl)
theorem dX4_fact_104 : decode cX4_fact 104 = .ok (.iconst 1, 1) := dk_4 (dk_at dksX4_fact_4 11 rfl rfl)
theorem dX4_fact_105 : decode cX4_fact 105 = .ok (.isub, 1) := dk_100 (dk_at dksX4_fact_4 12 rfl rfl)
theorem dX4_fact_106 : decode cX4_fact 106 = .ok (.putfield 87, 3) := dk_181 0 87 (dk_at dksX4_fact_4 13 rfl rfl)
theorem dX4_fact_109 : decode cX4_fact 109 = .ok (.aload_n 3, 1) := dk_45 (dk_at dksX4_fact_4 16 rfl rfl)
theorem dX4_fact_110 : decode cX4_fact 110 = .ok (.areturn, 1) := dk_176 (dk_at dksX4_fact_4 17 rfl rfl)
theorem dX4_fact_111 : decode cX4_fact 111 = .ok (.aload_n 0, 1) := dk_42 (dk_at dksX4_fact_4 18 rfl rfl)
theorem dX4_fact_112 : decode cX4_fact 112 = .ok (.invokevirtual 176, 3) := dk_182 0 176 (dk_at dksX4_fact_4 19 rfl rfl)
theorem dX4_fact_115 : decode cX4_fact 115 = .ok (.astore_n 3, 1) := dk_78 (dk_at dksX4_fact_4 22 rfl rfl)
theorem dX4_fact_116 : decode cX4_fact 116 = .ok (.aload_n 0, 1) := dk_42 (dk_at dksX4_fact_4 23 rfl rfl)
theorem dX4_fact_117 : decode cX4_fact 117 = .ok (.invokevirtual 52, 3) := dk_182 0 52 (dk_at dksX4_fact_5 0 rfl rfl)
theorem dX4_fact_120 : decode cX4_fact 120 = .ok (.pop, 1) := dk_87 (dk_at dksX4_fact_5 3 rfl rfl)
theorem dX4_fact_121 : decode cX4_fact 121 = .ok (.aload_n 0, 1) := dk_42 (dk_at dksX4_fact_5 4 rfl rfl)
theorem dX4_fact_122 : decode cX4_fact 122 = .ok (.getfield 42, 3) := dk_180 0 42 (dk_at dksX4_fact_5 5 rfl rfl)
theorem dX4_fact_125 : decode cX4_fact 125 = .ok (.istore 4, 2) := dk_54 4 (dk_at dksX4_fact_5 8 rfl rfl)
theorem dX4_fact_127 : decode cX4_fact 127 = .ok (.aload_n 0, 1) := dk_42 (dk_at dksX4_fact_5 10 rfl rfl)
theorem dX4_fact_128 : decode cX4_fact 128 = .ok (.invokevirtual 236, 3) := dk_182 0 236 (dk_at dksX4_fact_5 11 rfl rfl)
theorem dX4_fact_131 : decode cX4_fact 131 = .ok (.istore 5, 2) := dk_54 5 (dk_at dksX4_fact_5 14 rfl rfl)
theorem dX4_fact_133 : decode cX4_fact 133 = .ok (.aload_n 0, 1) := dk_42 (dk_at dksX4_fact_5 16 rfl rfl)
theorem dX4_fact_134 : decode cX4_fact 134 = .ok (.iload 4, 2) := dk_21 4 (dk_at dksX4_fact_5 17 rfl rfl)
theorem dX4_fact_136 : decode cX4_fact 136 = .ok (.invokevirtual 239, 3) := dk_182 0 239 (dk_at dksX4_fact_5 19 rfl rfl)
theorem dX4_fact_139 : decode cX4_fact 139 = .ok (.new 242, 3) := dk_187 0 242 (dk_at dksX4_fact_6 0 rfl rfl)
theorem dX4_fact_142 : decode cX4_fact 142 = .ok (.dup, 1) := dk_89 (dk_at dksX4_fact_6 3 rfl rfl)
theorem dX4_fact_143 : decode cX4_fact 143 = .ok (.aload_n 3, 1) := dk_45 (dk_at dksX4_fact_6 4 rfl rfl)
theorem dX4_fact_144 : decode cX4_fact 144 = .ok (.iload 5, 2) := dk_21 5 (dk_at dksX4_fact_6 5 rfl rfl)
theorem dX4_fact_146 : decode cX4_fact 146 = .ok (.aload_n 0, 1) := dk_42 (dk_at dksX4_fact_6 7 rfl rfl)
theorem dX4_fact_147 : decode cX4_fact 147 = .ok (.invokevirtual 176, 3) := dk_182 0 176 (dk_at dksX4_fact_6 8 rfl rfl)
theorem dX4_fact_150 : decode cX4_fact 150 = .ok (.invokespecial 244, 3) := dk_183 0 244 (dk_at dksX4_fact_6 11 rfl rfl)
theorem dX4_fact_153 : decode cX4_fact 153 = .ok (.areturn, 1) := dk_176 (dk_at dksX4_fact_6 14 rfl rfl)
abbrev cX4_opens : ByteArray := prog_13_method_12_code
def yX4_opens : MethodName := ⟨RX4, "opens", "(I)V"⟩
def dkwX4_opens_1 : List UInt8 := [180, 0, 87, 4, 96, 181, 0, 87, 177]
abbrev dktX4_opens_1 : List UInt8 := dkwX4_opens_1 ++ []
def dkwX4_opens_0 : List UInt8 := [42, 42, 180, 0, 87, 16, 10, 162, 0, 7, 4, 167, 0, 4, 3, 5, 27, 182, 0, 76, 42, 89]
abbrev dktX4_opens_0 : List UInt8 := dkwX4_opens_0 ++ dktX4_opens_1
theorem dksX4_opens_0 : cX4_opens.data.toList.drop 0 = dktX4_opens_0 := by decide +kernel
theorem dksX4_opens_1 : cX4_opens.data.toList.drop 22 = dktX4_opens_1 := dk_seg dksX4_opens_0 22 rfl rfl
theorem dX4_opens_0 : decode cX4_opens 0 = .ok (.aload_n 0, 1) := dk_42 (dk_at dksX4_opens_0 0 rfl rfl)
theorem dX4_opens_1 : decode cX4_opens 1 = .ok (.aload_n 0, 1) := dk_42 (dk_at dksX4_opens_0 1 rfl rfl)
theorem dX4_opens_2 : decode cX4_opens 2 = .ok (.getfield 87, 3) := dk_180 0 87 (dk_at dksX4_opens_0 2 rfl rfl)
theorem dX4_opens_5 : decode cX4_opens 5 = .ok (.bipush 10, 2) := dk_16 10 (dk_at dksX4_opens_0 5 rfl rfl)
theorem dX4_opens_7 : decode cX4_opens 7 = .ok (.if_icmp .ge 7, 3) := dk_162 0 7 (dk_at dksX4_opens_0 7 rfl rfl)
theorem dX4_opens_10 : decode cX4_opens 10 = .ok (.iconst 1, 1) := dk_4 (dk_at dksX4_opens_0 10 rfl rfl)
theorem dX4_opens_11 : decode cX4_opens 11 = .ok (.goto 4, 3) := dk_167 0 4 (dk_at dksX4_opens_0 11 rfl rfl)
theorem dX4_opens_14 : decode cX4_opens 14 = .ok (.iconst 0, 1) := dk_3 (dk_at dksX4_opens_0 14 rfl rfl)
theorem dX4_opens_15 : decode cX4_opens 15 = .ok (.iconst 2, 1) := dk_5 (dk_at dksX4_opens_0 15 rfl rfl)
theorem dX4_opens_16 : decode cX4_opens 16 = .ok (.iload_n 1, 1) := dk_27 (dk_at dksX4_opens_0 16 rfl rfl)
theorem dX4_opens_17 : decode cX4_opens 17 = .ok (.invokevirtual 76, 3) := dk_182 0 76 (dk_at dksX4_opens_0 17 rfl rfl)
theorem dX4_opens_20 : decode cX4_opens 20 = .ok (.aload_n 0, 1) := dk_42 (dk_at dksX4_opens_0 20 rfl rfl)
theorem dX4_opens_21 : decode cX4_opens 21 = .ok (.dup, 1) := dk_89 (dk_at dksX4_opens_0 21 rfl rfl)
theorem dX4_opens_22 : decode cX4_opens 22 = .ok (.getfield 87, 3) := dk_180 0 87 (dk_at dksX4_opens_1 0 rfl rfl)
theorem dX4_opens_25 : decode cX4_opens 25 = .ok (.iconst 1, 1) := dk_4 (dk_at dksX4_opens_1 3 rfl rfl)
theorem dX4_opens_26 : decode cX4_opens 26 = .ok (.iadd, 1) := dk_96 (dk_at dksX4_opens_1 4 rfl rfl)
theorem dX4_opens_27 : decode cX4_opens 27 = .ok (.putfield 87, 3) := dk_181 0 87 (dk_at dksX4_opens_1 5 rfl rfl)
theorem dX4_opens_30 : decode cX4_opens 30 = .ok (.return_, 1) := dk_177 (dk_at dksX4_opens_1 8 rfl rfl)
abbrev cX4_sign : ByteArray := prog_13_method_26_code
def yX4_sign : MethodName := ⟨RX4, "sign", "()I"⟩
def dkwX4_sign_5 : List UInt8 := [167, 0, 16, 3, 167, 0, 12, 28, 153, 0, 7, 6, 167, 0, 4, 7, 172]
abbrev dktX4_sign_5 : List UInt8 := dkwX4_sign_5 ++ []
def dkwX4_sign_4 : List UInt8 := [153, 0, 13, 42, 89, 180, 0, 42, 4, 96, 181, 0, 42, 27, 16, 60, 160, 0, 15, 28, 153, 0, 7, 4]
abbrev dktX4_sign_4 : List UInt8 := dkwX4_sign_4 ++ dktX4_sign_5
def dkwX4_sign_3 : List UInt8 := [180, 0, 3, 180, 0, 48, 42, 180, 0, 42, 51, 16, 61, 160, 0, 7, 4, 167, 0, 4, 3, 61, 28]
abbrev dktX4_sign_3 : List UInt8 := dkwX4_sign_3 ++ dktX4_sign_4
def dkwX4_sign_2 : List UInt8 := [16, 61, 160, 0, 5, 5, 172, 42, 180, 0, 42, 42, 180, 0, 3, 180, 0, 45, 162, 0, 24, 42]
abbrev dktX4_sign_2 : List UInt8 := dkwX4_sign_2 ++ dktX4_sign_3
def dkwX4_sign_1 : List UInt8 := [4, 167, 0, 4, 3, 3, 42, 180, 0, 42, 182, 0, 76, 42, 89, 180, 0, 42, 4, 96, 181, 0, 42, 27]
abbrev dktX4_sign_1 : List UInt8 := dkwX4_sign_1 ++ dktX4_sign_2
def dkwX4_sign_0 : List UInt8 := [42, 182, 0, 52, 60, 42, 27, 16, 60, 159, 0, 15, 27, 16, 61, 159, 0, 9, 27, 16, 62, 160, 0, 7]
abbrev dktX4_sign_0 : List UInt8 := dkwX4_sign_0 ++ dktX4_sign_1
theorem dksX4_sign_0 : cX4_sign.data.toList.drop 0 = dktX4_sign_0 := by decide +kernel
theorem dksX4_sign_1 : cX4_sign.data.toList.drop 24 = dktX4_sign_1 := dk_seg dksX4_sign_0 24 rfl rfl
theorem dksX4_sign_2 : cX4_sign.data.toList.drop 48 = dktX4_sign_2 := dk_seg dksX4_sign_1 24 rfl rfl
theorem dksX4_sign_3 : cX4_sign.data.toList.drop 70 = dktX4_sign_3 := dk_seg dksX4_sign_2 22 rfl rfl
theorem dksX4_sign_4 : cX4_sign.data.toList.drop 93 = dktX4_sign_4 := dk_seg dksX4_sign_3 23 rfl rfl
theorem dksX4_sign_5 : cX4_sign.data.toList.drop 117 = dktX4_sign_5 := dk_seg dksX4_sign_4 24 rfl rfl
theorem dX4_sign_0 : decode cX4_sign 0 = .ok (.aload_n 0, 1) := dk_42 (dk_at dksX4_sign_0 0 rfl rfl)
theorem dX4_sign_1 : decode cX4_sign 1 = .ok (.invokevirtual 52, 3) := dk_182 0 52 (dk_at dksX4_sign_0 1 rfl rfl)
theorem dX4_sign_4 : decode cX4_sign 4 = .ok (.istore_n 1, 1) := dk_60 (dk_at dksX4_sign_0 4 rfl rfl)
theorem dX4_sign_5 : decode cX4_sign 5 = .ok (.aload_n 0, 1) := dk_42 (dk_at dksX4_sign_0 5 rfl rfl)
theorem dX4_sign_6 : decode cX4_sign 6 = .ok (.iload_n 1, 1) := dk_27 (dk_at dksX4_sign_0 6 rfl rfl)
theorem dX4_sign_7 : decode cX4_sign 7 = .ok (.bipush 60, 2) := dk_16 60 (dk_at dksX4_sign_0 7 rfl rfl)
theorem dX4_sign_9 : decode cX4_sign 9 = .ok (.if_icmp .eq 15, 3) := dk_159 0 15 (dk_at dksX4_sign_0 9 rfl rfl)
theorem dX4_sign_12 : decode cX4_sign 12 = .ok (.iload_n 1, 1) := dk_27 (dk_at dksX4_sign_0 12 rfl rfl)
theorem dX4_sign_13 : decode cX4_sign 13 = .ok (.bipush 61, 2) := dk_16 61 (dk_at dksX4_sign_0 13 rfl rfl)
theorem dX4_sign_15 : decode cX4_sign 15 = .ok (.if_icmp .eq 9, 3) := dk_159 0 9 (dk_at dksX4_sign_0 15 rfl rfl)
theorem dX4_sign_18 : decode cX4_sign 18 = .ok (.iload_n 1, 1) := dk_27 (dk_at dksX4_sign_0 18 rfl rfl)
theorem dX4_sign_19 : decode cX4_sign 19 = .ok (.bipush 62, 2) := dk_16 62 (dk_at dksX4_sign_0 19 rfl rfl)
theorem dX4_sign_21 : decode cX4_sign 21 = .ok (.if_icmp .ne 7, 3) := dk_160 0 7 (dk_at dksX4_sign_0 21 rfl rfl)
theorem dX4_sign_24 : decode cX4_sign 24 = .ok (.iconst 1, 1) := dk_4 (dk_at dksX4_sign_1 0 rfl rfl)
theorem dX4_sign_25 : decode cX4_sign 25 = .ok (.goto 4, 3) := dk_167 0 4 (dk_at dksX4_sign_1 1 rfl rfl)
theorem dX4_sign_28 : decode cX4_sign 28 = .ok (.iconst 0, 1) := dk_3 (dk_at dksX4_sign_1 4 rfl rfl)
theorem dX4_sign_29 : decode cX4_sign 29 = .ok (.iconst 0, 1) := dk_3 (dk_at dksX4_sign_1 5 rfl rfl)
theorem dX4_sign_30 : decode cX4_sign 30 = .ok (.aload_n 0, 1) := dk_42 (dk_at dksX4_sign_1 6 rfl rfl)
theorem dX4_sign_31 : decode cX4_sign 31 = .ok (.getfield 42, 3) := dk_180 0 42 (dk_at dksX4_sign_1 7 rfl rfl)
theorem dX4_sign_34 : decode cX4_sign 34 = .ok (.invokevirtual 76, 3) := dk_182 0 76 (dk_at dksX4_sign_1 10 rfl rfl)
theorem dX4_sign_37 : decode cX4_sign 37 = .ok (.aload_n 0, 1) := dk_42 (dk_at dksX4_sign_1 13 rfl rfl)
theorem dX4_sign_38 : decode cX4_sign 38 = .ok (.dup, 1) := dk_89 (dk_at dksX4_sign_1 14 rfl rfl)
theorem dX4_sign_39 : decode cX4_sign 39 = .ok (.getfield 42, 3) := dk_180 0 42 (dk_at dksX4_sign_1 15 rfl rfl)
theorem dX4_sign_42 : decode cX4_sign 42 = .ok (.iconst 1, 1) := dk_4 (dk_at dksX4_sign_1 18 rfl rfl)
theorem dX4_sign_43 : decode cX4_sign 43 = .ok (.iadd, 1) := dk_96 (dk_at dksX4_sign_1 19 rfl rfl)
theorem dX4_sign_44 : decode cX4_sign 44 = .ok (.putfield 42, 3) := dk_181 0 42 (dk_at dksX4_sign_1 20 rfl rfl)
theorem dX4_sign_47 : decode cX4_sign 47 = .ok (.iload_n 1, 1) := dk_27 (dk_at dksX4_sign_1 23 rfl rfl)
theorem dX4_sign_48 : decode cX4_sign 48 = .ok (.bipush 61, 2) := dk_16 61 (dk_at dksX4_sign_2 0 rfl rfl)
theorem dX4_sign_50 : decode cX4_sign 50 = .ok (.if_icmp .ne 5, 3) := dk_160 0 5 (dk_at dksX4_sign_2 2 rfl rfl)
theorem dX4_sign_53 : decode cX4_sign 53 = .ok (.iconst 2, 1) := dk_5 (dk_at dksX4_sign_2 5 rfl rfl)
theorem dX4_sign_54 : decode cX4_sign 54 = .ok (.ireturn, 1) := dk_172 (dk_at dksX4_sign_2 6 rfl rfl)
theorem dX4_sign_55 : decode cX4_sign 55 = .ok (.aload_n 0, 1) := dk_42 (dk_at dksX4_sign_2 7 rfl rfl)
theorem dX4_sign_56 : decode cX4_sign 56 = .ok (.getfield 42, 3) := dk_180 0 42 (dk_at dksX4_sign_2 8 rfl rfl)
theorem dX4_sign_59 : decode cX4_sign 59 = .ok (.aload_n 0, 1) := dk_42 (dk_at dksX4_sign_2 11 rfl rfl)
theorem dX4_sign_60 : decode cX4_sign 60 = .ok (.getfield 3, 3) := dk_180 0 3 (dk_at dksX4_sign_2 12 rfl rfl)
theorem dX4_sign_63 : decode cX4_sign 63 = .ok (.getfield 45, 3) := dk_180 0 45 (dk_at dksX4_sign_2 15 rfl rfl)
theorem dX4_sign_66 : decode cX4_sign 66 = .ok (.if_icmp .ge 24, 3) := dk_162 0 24 (dk_at dksX4_sign_2 18 rfl rfl)
theorem dX4_sign_69 : decode cX4_sign 69 = .ok (.aload_n 0, 1) := dk_42 (dk_at dksX4_sign_2 21 rfl rfl)
theorem dX4_sign_70 : decode cX4_sign 70 = .ok (.getfield 3, 3) := dk_180 0 3 (dk_at dksX4_sign_3 0 rfl rfl)
theorem dX4_sign_73 : decode cX4_sign 73 = .ok (.getfield 48, 3) := dk_180 0 48 (dk_at dksX4_sign_3 3 rfl rfl)
theorem dX4_sign_76 : decode cX4_sign 76 = .ok (.aload_n 0, 1) := dk_42 (dk_at dksX4_sign_3 6 rfl rfl)
theorem dX4_sign_77 : decode cX4_sign 77 = .ok (.getfield 42, 3) := dk_180 0 42 (dk_at dksX4_sign_3 7 rfl rfl)
theorem dX4_sign_80 : decode cX4_sign 80 = .ok (.baload, 1) := dk_51 (dk_at dksX4_sign_3 10 rfl rfl)
theorem dX4_sign_81 : decode cX4_sign 81 = .ok (.bipush 61, 2) := dk_16 61 (dk_at dksX4_sign_3 11 rfl rfl)
theorem dX4_sign_83 : decode cX4_sign 83 = .ok (.if_icmp .ne 7, 3) := dk_160 0 7 (dk_at dksX4_sign_3 13 rfl rfl)
theorem dX4_sign_86 : decode cX4_sign 86 = .ok (.iconst 1, 1) := dk_4 (dk_at dksX4_sign_3 16 rfl rfl)
theorem dX4_sign_87 : decode cX4_sign 87 = .ok (.goto 4, 3) := dk_167 0 4 (dk_at dksX4_sign_3 17 rfl rfl)
theorem dX4_sign_90 : decode cX4_sign 90 = .ok (.iconst 0, 1) := dk_3 (dk_at dksX4_sign_3 20 rfl rfl)
theorem dX4_sign_91 : decode cX4_sign 91 = .ok (.istore_n 2, 1) := dk_61 (dk_at dksX4_sign_3 21 rfl rfl)
theorem dX4_sign_92 : decode cX4_sign 92 = .ok (.iload_n 2, 1) := dk_28 (dk_at dksX4_sign_3 22 rfl rfl)
theorem dX4_sign_93 : decode cX4_sign 93 = .ok (.ifCond .eq 13, 3) := dk_153 0 13 (dk_at dksX4_sign_4 0 rfl rfl)
theorem dX4_sign_96 : decode cX4_sign 96 = .ok (.aload_n 0, 1) := dk_42 (dk_at dksX4_sign_4 3 rfl rfl)
theorem dX4_sign_97 : decode cX4_sign 97 = .ok (.dup, 1) := dk_89 (dk_at dksX4_sign_4 4 rfl rfl)
theorem dX4_sign_98 : decode cX4_sign 98 = .ok (.getfield 42, 3) := dk_180 0 42 (dk_at dksX4_sign_4 5 rfl rfl)
theorem dX4_sign_101 : decode cX4_sign 101 = .ok (.iconst 1, 1) := dk_4 (dk_at dksX4_sign_4 8 rfl rfl)
theorem dX4_sign_102 : decode cX4_sign 102 = .ok (.iadd, 1) := dk_96 (dk_at dksX4_sign_4 9 rfl rfl)
theorem dX4_sign_103 : decode cX4_sign 103 = .ok (.putfield 42, 3) := dk_181 0 42 (dk_at dksX4_sign_4 10 rfl rfl)
theorem dX4_sign_106 : decode cX4_sign 106 = .ok (.iload_n 1, 1) := dk_27 (dk_at dksX4_sign_4 13 rfl rfl)
theorem dX4_sign_107 : decode cX4_sign 107 = .ok (.bipush 60, 2) := dk_16 60 (dk_at dksX4_sign_4 14 rfl rfl)
theorem dX4_sign_109 : decode cX4_sign 109 = .ok (.if_icmp .ne 15, 3) := dk_160 0 15 (dk_at dksX4_sign_4 16 rfl rfl)
theorem dX4_sign_112 : decode cX4_sign 112 = .ok (.iload_n 2, 1) := dk_28 (dk_at dksX4_sign_4 19 rfl rfl)
theorem dX4_sign_113 : decode cX4_sign 113 = .ok (.ifCond .eq 7, 3) := dk_153 0 7 (dk_at dksX4_sign_4 20 rfl rfl)
theorem dX4_sign_116 : decode cX4_sign 116 = .ok (.iconst 1, 1) := dk_4 (dk_at dksX4_sign_4 23 rfl rfl)
theorem dX4_sign_117 : decode cX4_sign 117 = .ok (.goto 16, 3) := dk_167 0 16 (dk_at dksX4_sign_5 0 rfl rfl)
theorem dX4_sign_120 : decode cX4_sign 120 = .ok (.iconst 0, 1) := dk_3 (dk_at dksX4_sign_5 3 rfl rfl)
theorem dX4_sign_121 : decode cX4_sign 121 = .ok (.goto 12, 3) := dk_167 0 12 (dk_at dksX4_sign_5 4 rfl rfl)
theorem dX4_sign_124 : decode cX4_sign 124 = .ok (.iload_n 2, 1) := dk_28 (dk_at dksX4_sign_5 7 rfl rfl)
theorem dX4_sign_125 : decode cX4_sign 125 = .ok (.ifCond .eq 7, 3) := dk_153 0 7 (dk_at dksX4_sign_5 8 rfl rfl)
theorem dX4_sign_128 : decode cX4_sign 128 = .ok (.iconst 3, 1) := dk_6 (dk_at dksX4_sign_5 11 rfl rfl)
theorem dX4_sign_129 : decode cX4_sign 129 = .ok (.goto 4, 3) := dk_167 0 4 (dk_at dksX4_sign_5 12 rfl rfl)
theorem dX4_sign_132 : decode cX4_sign 132 = .ok (.iconst 4, 1) := dk_7 (dk_at dksX4_sign_5 15 rfl rfl)
theorem dX4_sign_133 : decode cX4_sign 133 = .ok (.ireturn, 1) := dk_172 (dk_at dksX4_sign_5 16 rfl rfl)
theorem q123 : (Jvm.Cond.initialized "SkySpire$Text") ∈ lw_all := lw_g (lw_at lw_m1 8 rfl) rfl
theorem q157 : (Jvm.Cond.fieldLinkNest "SkySpire$Text" (111 : Nat) "SkySpire$Sky" "side" "I" "SkySpire") ∈ lw_tbl := lw_at lw_m1 42 rfl
theorem q160 : (Jvm.Cond.fieldLinkNest "SkySpire$Text" (114 : Nat) "SkySpire$Sky" "fades" "I" "SkySpire") ∈ lw_tbl := lw_at lw_m1 45 rfl
theorem q164 : (Jvm.Cond.fieldLinkNest "SkySpire$Text" (98 : Nat) "SkySpire$Sky" "penMany" "I" "SkySpire") ∈ lw_tbl := lw_at lw_m1 49 rfl
theorem q166 : (Jvm.Cond.fieldLinkNest "SkySpire$Text" (101 : Nat) "SkySpire$Sky" "windMany" "I" "SkySpire") ∈ lw_tbl := lw_at lw_m1 51 rfl
theorem q173 : (Jvm.Cond.fieldLinkNest "SkySpire$Text" (93 : Nat) "SkySpire$Sky" "isTold" "I" "SkySpire") ∈ lw_tbl := lw_at lw_m1 58 rfl
theorem q181 : (Jvm.Cond.fieldLinkNest "SkySpire$Text" (117 : Nat) "SkySpire$Sky" "toldCell" "[I" "SkySpire") ∈ lw_tbl := lw_at lw_m1 66 rfl
theorem q183 : (Jvm.Cond.fieldLinkNest "SkySpire$Text" (124 : Nat) "SkySpire$Sky" "toldStiff" "[I" "SkySpire") ∈ lw_tbl := lw_at lw_m1 68 rfl
theorem q185 : (Jvm.Cond.fieldLinkNest "SkySpire$Text" (127 : Nat) "SkySpire$Sky" "winds" "[I" "SkySpire") ∈ lw_tbl := lw_at lw_m1 70 rfl
theorem q188 : (Jvm.Cond.fieldLinkNest "SkySpire$Text" (139 : Nat) "SkySpire$Sky" "mark" "[Z" "SkySpire") ∈ lw_tbl := lw_at lw_m1 73 rfl
theorem q301 : (Jvm.Cond.fieldLinkNest "SkySpire$Text" (33 : Nat) "SkySpire$Fault" "kind" "I" "SkySpire") ∈ lw_tbl := lw_at lw_m1 186 rfl
theorem q303 : (Jvm.Cond.fieldLinkNest "SkySpire$Text" (39 : Nat) "SkySpire$Fault" "place" "I" "SkySpire") ∈ lw_tbl := lw_at lw_m1 188 rfl
theorem q348 : (Jvm.Cond.fieldLinkNest "SkySpire$Text" (22 : Nat) "SkySpire" "reading" "LSkySpire$Sky;" "SkySpire") ∈ lw_tbl := lw_at lw_m1 233 rfl
theorem q351 : (Jvm.Cond.fieldLinkNest "SkySpire$Text" (143 : Nat) "SkySpire" "blank" "LSkySpire$Sky;" "SkySpire") ∈ lw_tbl := lw_at lw_m1 236 rfl
theorem q354 : (Jvm.Cond.fieldLinkNest "SkySpire$Text" (29 : Nat) "SkySpire" "fault" "LSkySpire$Fault;" "SkySpire") ∈ lw_tbl := lw_at lw_m1 239 rfl
theorem q356 : (Jvm.Cond.fieldLinkNest "SkySpire$Text" (48 : Nat) "SkySpire" "tape" "[B" "SkySpire") ∈ lw_tbl := lw_at lw_m2 1 rfl
theorem q358 : (Jvm.Cond.fieldLinkNest "SkySpire$Text" (45 : Nat) "SkySpire" "taped" "I" "SkySpire") ∈ lw_tbl := lw_at lw_m2 3 rfl
theorem q361 : (Jvm.Cond.fieldLinkNest "SkySpire$Text" (150 : Nat) "SkySpire" "lineWords" "[Ljava/lang/String;" "SkySpire") ∈ lw_tbl := lw_at lw_m2 6 rfl
theorem q363 : (Jvm.Cond.fieldLinkNest "SkySpire$Text" (199 : Nat) "SkySpire" "clauseWords" "[Ljava/lang/String;" "SkySpire") ∈ lw_tbl := lw_at lw_m2 8 rfl
theorem q364 : (Jvm.Cond.fieldLinkNest "SkySpire$Text" (15 : Nat) "SkySpire" "wordNames" "[Ljava/lang/String;" "SkySpire") ∈ lw_tbl := lw_at lw_m2 9 rfl
theorem q439 : (Jvm.Cond.instantiable "SkySpire$Text" (7 : Nat)) ∈ lw_all := lw_g (lw_at lw_m2 84 rfl) rfl
theorem q441 : (Jvm.Cond.instanceMethod ({ cls := "SkySpire$Text", name := "<init>", desc := "(LSkySpire;)V" } : Jvm.MethodName)) ∈ lw_all := lw_g (lw_at lw_m2 86 rfl) rfl
theorem q442 : (Jvm.Cond.code ({ cls := "SkySpire$Text", name := "<init>", desc := "(LSkySpire;)V" } : Jvm.MethodName) prog_13_method_1_code (2 : Nat) (Option.none : Option Jvm.ClassFile.FieldType)) ∈ lw_all := lw_g (lw_at lw_m2 87 rfl) rfl
theorem q443 : (Jvm.Cond.methodLink "SkySpire$Text" (9 : Nat) ({ cls := "java/lang/Object", name := "<init>", desc := "()V" } : Jvm.MethodName)) ∈ lw_all := lw_g (lw_at lw_m2 88 rfl) rfl
theorem q444 : (Jvm.Cond.fieldLink "SkySpire$Text" (19 : Nat) "SkySpire$Text" "words" "[Ljava/lang/String;") ∈ lw_all := lw_g (lw_at lw_m2 89 rfl) rfl
theorem q445 : (Jvm.Cond.fieldLink "SkySpire$Text" (26 : Nat) "SkySpire$Text" "read" "LSkySpire$Sky;") ∈ lw_all := lw_g (lw_at lw_m2 90 rfl) rfl
theorem q446 : (Jvm.Cond.fieldLink "SkySpire$Text" (42 : Nat) "SkySpire$Text" "next" "I") ∈ lw_all := lw_g (lw_at lw_m2 91 rfl) rfl
theorem q447 : (Jvm.Cond.fieldLink "SkySpire$Text" (87 : Nat) "SkySpire$Text" "deep" "I") ∈ lw_all := lw_g (lw_at lw_m2 92 rfl) rfl
theorem q448 : (Jvm.Cond.fieldLink "SkySpire$Text" (84 : Nat) "SkySpire$Text" "made" "I") ∈ lw_all := lw_g (lw_at lw_m2 93 rfl) rfl
theorem q449 : (Jvm.Cond.fieldLink "SkySpire$Text" (90 : Nat) "SkySpire$Text" "many" "I") ∈ lw_all := lw_g (lw_at lw_m2 94 rfl) rfl
theorem q450 : (Jvm.Cond.fieldLink "SkySpire$Text" (3 : Nat) "SkySpire$Text" "this$0" "LSkySpire;") ∈ lw_all := lw_g (lw_at lw_m2 95 rfl) rfl
theorem q451 : (Jvm.Cond.laysFinal "SkySpire$Text" "SkySpire$Text" "words" "[Ljava/lang/String;") ∈ lw_all := lw_g (lw_at lw_m2 96 rfl) rfl
theorem q452 : (Jvm.Cond.soleField "SkySpire$Text" "words") ∈ lw_all := lw_g (lw_at lw_m2 97 rfl) rfl
theorem q453 : (Jvm.Cond.laysFinal "SkySpire$Text" "SkySpire$Text" "read" "LSkySpire$Sky;") ∈ lw_all := lw_g (lw_at lw_m2 98 rfl) rfl
theorem q454 : (Jvm.Cond.soleField "SkySpire$Text" "read") ∈ lw_all := lw_g (lw_at lw_m2 99 rfl) rfl
theorem q455 : (Jvm.Cond.lays "SkySpire$Text" "SkySpire$Text" "next" "I") ∈ lw_all := lw_g (lw_at lw_m2 100 rfl) rfl
theorem q456 : (Jvm.Cond.soleField "SkySpire$Text" "next") ∈ lw_all := lw_g (lw_at lw_m2 101 rfl) rfl
theorem q457 : (Jvm.Cond.lays "SkySpire$Text" "SkySpire$Text" "deep" "I") ∈ lw_all := lw_g (lw_at lw_m2 102 rfl) rfl
theorem q458 : (Jvm.Cond.soleField "SkySpire$Text" "deep") ∈ lw_all := lw_g (lw_at lw_m2 103 rfl) rfl
theorem q459 : (Jvm.Cond.lays "SkySpire$Text" "SkySpire$Text" "made" "I") ∈ lw_all := lw_g (lw_at lw_m2 104 rfl) rfl
theorem q460 : (Jvm.Cond.soleField "SkySpire$Text" "made") ∈ lw_all := lw_g (lw_at lw_m2 105 rfl) rfl
theorem q461 : (Jvm.Cond.lays "SkySpire$Text" "SkySpire$Text" "many" "I") ∈ lw_all := lw_g (lw_at lw_m2 106 rfl) rfl
theorem q462 : (Jvm.Cond.soleField "SkySpire$Text" "many") ∈ lw_all := lw_g (lw_at lw_m2 107 rfl) rfl
theorem q463 : (Jvm.Cond.laysFinal "SkySpire$Text" "SkySpire$Text" "this$0" "LSkySpire;") ∈ lw_all := lw_g (lw_at lw_m2 108 rfl) rfl
theorem q464 : (Jvm.Cond.soleField "SkySpire$Text" "this$0") ∈ lw_all := lw_g (lw_at lw_m2 109 rfl) rfl
theorem q465 : (Jvm.Cond.superclass "SkySpire$Text" "java/lang/Object") ∈ lw_all := lw_g (lw_at lw_m2 110 rfl) rfl
theorem q467 : (Jvm.Cond.instanceMethod ({ cls := "SkySpire$Text", name := "skyTold", desc := "()LSkySpire$Sky;" } : Jvm.MethodName)) ∈ lw_all := lw_g (lw_at lw_m2 112 rfl) rfl
theorem q468 : (Jvm.Cond.selects "SkySpire$Text" ({ cls := "SkySpire$Text", name := "skyTold", desc := "()LSkySpire$Sky;" } : Jvm.MethodName) ({ cls := "SkySpire$Text", name := "skyTold", desc := "()LSkySpire$Sky;" } : Jvm.MethodName)) ∈ lw_all := lw_g (lw_at lw_m2 113 rfl) rfl
theorem q469 : (Jvm.Cond.code ({ cls := "SkySpire$Text", name := "skyTold", desc := "()LSkySpire$Sky;" } : Jvm.MethodName) prog_13_method_20_code (3 : Nat) (Option.some (Jvm.ClassFile.FieldType.object "SkySpire$Sky"))) ∈ lw_all := lw_g (lw_at lw_m2 114 rfl) rfl
theorem q470 : (Jvm.Cond.methodLink "SkySpire$Text" (146 : Nat) ({ cls := "SkySpire$Sky", name := "copies", desc := "(LSkySpire$Sky;)LSkySpire$Sky;" } : Jvm.MethodName)) ∈ lw_all := lw_g (lw_at lw_m2 115 rfl) rfl
theorem q481 : (Jvm.Cond.methodLink "SkySpire$Text" (52 : Nat) ({ cls := "SkySpire$Text", name := "see", desc := "()I" } : Jvm.MethodName)) ∈ lw_all := lw_g (lw_at lw_m2 126 rfl) rfl
theorem q482 : (Jvm.Cond.privateMethod ({ cls := "SkySpire$Text", name := "see", desc := "()I" } : Jvm.MethodName)) ∈ lw_tbl := lw_at lw_m2 127 rfl
theorem q483 : (Jvm.Cond.instanceMethod ({ cls := "SkySpire$Text", name := "see", desc := "()I" } : Jvm.MethodName)) ∈ lw_all := lw_g (lw_at lw_m2 128 rfl) rfl
theorem q484 : (Jvm.Cond.code ({ cls := "SkySpire$Text", name := "see", desc := "()I" } : Jvm.MethodName) prog_13_method_3_code (1 : Nat) (Option.some Jvm.ClassFile.FieldType.int)) ∈ lw_all := lw_g (lw_at lw_m2 129 rfl) rfl
theorem q485 : (Jvm.Cond.methodLink "SkySpire$Text" (153 : Nat) ({ cls := "SkySpire$Text", name := "oneOf", desc := "([Ljava/lang/String;)I" } : Jvm.MethodName)) ∈ lw_all := lw_g (lw_at lw_m2 130 rfl) rfl
theorem q486 : (Jvm.Cond.privateMethod ({ cls := "SkySpire$Text", name := "oneOf", desc := "([Ljava/lang/String;)I" } : Jvm.MethodName)) ∈ lw_tbl := lw_at lw_m2 131 rfl
theorem q487 : (Jvm.Cond.instanceMethod ({ cls := "SkySpire$Text", name := "oneOf", desc := "([Ljava/lang/String;)I" } : Jvm.MethodName)) ∈ lw_all := lw_g (lw_at lw_m2 132 rfl) rfl
theorem q488 : (Jvm.Cond.code ({ cls := "SkySpire$Text", name := "oneOf", desc := "([Ljava/lang/String;)I" } : Jvm.MethodName) prog_13_method_8_code (3 : Nat) (Option.some Jvm.ClassFile.FieldType.int)) ∈ lw_all := lw_g (lw_at lw_m2 133 rfl) rfl
theorem q489 : (Jvm.Cond.methodLink "SkySpire$Text" (68 : Nat) ({ cls := "SkySpire$Text", name := "isWord", desc := "(Ljava/lang/String;)Z" } : Jvm.MethodName)) ∈ lw_all := lw_g (lw_at lw_m2 134 rfl) rfl
theorem q490 : (Jvm.Cond.privateMethod ({ cls := "SkySpire$Text", name := "isWord", desc := "(Ljava/lang/String;)Z" } : Jvm.MethodName)) ∈ lw_tbl := lw_at lw_m2 135 rfl
theorem q491 : (Jvm.Cond.instanceMethod ({ cls := "SkySpire$Text", name := "isWord", desc := "(Ljava/lang/String;)Z" } : Jvm.MethodName)) ∈ lw_all := lw_g (lw_at lw_m2 136 rfl) rfl
theorem q492 : (Jvm.Cond.code ({ cls := "SkySpire$Text", name := "isWord", desc := "(Ljava/lang/String;)Z" } : Jvm.MethodName) prog_13_method_6_code (5 : Nat) (Option.some Jvm.ClassFile.FieldType.boolean)) ∈ lw_all := lw_g (lw_at lw_m2 137 rfl) rfl
theorem q493 : (Jvm.Cond.methodLink "SkySpire$Text" (56 : Nat) ({ cls := "SkySpire$Text", name := "letters", desc := "()I" } : Jvm.MethodName)) ∈ lw_all := lw_g (lw_at lw_m2 138 rfl) rfl
theorem q494 : (Jvm.Cond.privateMethod ({ cls := "SkySpire$Text", name := "letters", desc := "()I" } : Jvm.MethodName)) ∈ lw_tbl := lw_at lw_m2 139 rfl
theorem q495 : (Jvm.Cond.instanceMethod ({ cls := "SkySpire$Text", name := "letters", desc := "()I" } : Jvm.MethodName)) ∈ lw_all := lw_g (lw_at lw_m2 140 rfl) rfl
theorem q496 : (Jvm.Cond.code ({ cls := "SkySpire$Text", name := "letters", desc := "()I" } : Jvm.MethodName) prog_13_method_5_code (2 : Nat) (Option.some Jvm.ClassFile.FieldType.int)) ∈ lw_all := lw_g (lw_at lw_m2 141 rfl) rfl
theorem q497 : (Jvm.Cond.methodLink "SkySpire$Text" (59 : Nat) ({ cls := "java/lang/String", name := "length", desc := "()I" } : Jvm.MethodName)) ∈ lw_all := lw_g (lw_at lw_m2 142 rfl) rfl
theorem q507 : (Jvm.Cond.methodLink "SkySpire$Text" (64 : Nat) ({ cls := "java/lang/String", name := "charAt", desc := "(I)C" } : Jvm.MethodName)) ∈ lw_all := lw_g (lw_at lw_m2 152 rfl) rfl
theorem q545 : (Jvm.Cond.methodLink "SkySpire$Text" (76 : Nat) ({ cls := "SkySpire$Text", name := "demand", desc := "(ZII)V" } : Jvm.MethodName)) ∈ lw_all := lw_g (lw_at lw_m2 190 rfl) rfl
theorem q546 : (Jvm.Cond.privateMethod ({ cls := "SkySpire$Text", name := "demand", desc := "(ZII)V" } : Jvm.MethodName)) ∈ lw_tbl := lw_at lw_m2 191 rfl
theorem q547 : (Jvm.Cond.instanceMethod ({ cls := "SkySpire$Text", name := "demand", desc := "(ZII)V" } : Jvm.MethodName)) ∈ lw_all := lw_g (lw_at lw_m2 192 rfl) rfl
theorem q548 : (Jvm.Cond.code ({ cls := "SkySpire$Text", name := "demand", desc := "(ZII)V" } : Jvm.MethodName) prog_13_method_2_code (4 : Nat) (Option.none : Option Jvm.ClassFile.FieldType)) ∈ lw_all := lw_g (lw_at lw_m2 193 rfl) rfl
theorem q549 : (Jvm.Cond.methodLink "SkySpire$Text" (157 : Nat) ({ cls := "SkySpire$Text", name := "canBe", desc := "(I)Z" } : Jvm.MethodName)) ∈ lw_all := lw_g (lw_at lw_m2 194 rfl) rfl
theorem q550 : (Jvm.Cond.privateMethod ({ cls := "SkySpire$Text", name := "canBe", desc := "(I)Z" } : Jvm.MethodName)) ∈ lw_tbl := lw_at lw_m2 195 rfl
theorem q551 : (Jvm.Cond.instanceMethod ({ cls := "SkySpire$Text", name := "canBe", desc := "(I)Z" } : Jvm.MethodName)) ∈ lw_all := lw_g (lw_at lw_m2 196 rfl) rfl
theorem q552 : (Jvm.Cond.code ({ cls := "SkySpire$Text", name := "canBe", desc := "(I)Z" } : Jvm.MethodName) prog_13_method_14_code (2 : Nat) (Option.some Jvm.ClassFile.FieldType.boolean)) ∈ lw_all := lw_g (lw_at lw_m2 197 rfl) rfl
theorem q553 : (Jvm.Cond.methodLink "SkySpire$Text" (160 : Nat) ({ cls := "SkySpire$Text", name := "line", desc := "(I)V" } : Jvm.MethodName)) ∈ lw_all := lw_g (lw_at lw_m2 198 rfl) rfl
theorem q554 : (Jvm.Cond.privateMethod ({ cls := "SkySpire$Text", name := "line", desc := "(I)V" } : Jvm.MethodName)) ∈ lw_tbl := lw_at lw_m2 199 rfl
theorem q555 : (Jvm.Cond.instanceMethod ({ cls := "SkySpire$Text", name := "line", desc := "(I)V" } : Jvm.MethodName)) ∈ lw_all := lw_g (lw_at lw_m2 200 rfl) rfl
theorem q556 : (Jvm.Cond.code ({ cls := "SkySpire$Text", name := "line", desc := "(I)V" } : Jvm.MethodName) prog_13_method_19_code (2 : Nat) (Option.none : Option Jvm.ClassFile.FieldType)) ∈ lw_all := lw_g (lw_at lw_m2 201 rfl) rfl
theorem q557 : (Jvm.Cond.methodLink "SkySpire$Text" (130 : Nat) ({ cls := "SkySpire$Text", name := "skyHere", desc := "()V" } : Jvm.MethodName)) ∈ lw_all := lw_g (lw_at lw_m2 202 rfl) rfl
theorem q558 : (Jvm.Cond.privateMethod ({ cls := "SkySpire$Text", name := "skyHere", desc := "()V" } : Jvm.MethodName)) ∈ lw_tbl := lw_at lw_m2 203 rfl
theorem q559 : (Jvm.Cond.instanceMethod ({ cls := "SkySpire$Text", name := "skyHere", desc := "()V" } : Jvm.MethodName)) ∈ lw_all := lw_g (lw_at lw_m2 204 rfl) rfl
theorem q560 : (Jvm.Cond.code ({ cls := "SkySpire$Text", name := "skyHere", desc := "()V" } : Jvm.MethodName) prog_13_method_16_code (1 : Nat) (Option.none : Option Jvm.ClassFile.FieldType)) ∈ lw_all := lw_g (lw_at lw_m2 205 rfl) rfl
theorem q561 : (Jvm.Cond.methodLink "SkySpire$Text" (107 : Nat) ({ cls := "SkySpire$Text", name := "number", desc := "(II)I" } : Jvm.MethodName)) ∈ lw_all := lw_g (lw_at lw_m2 206 rfl) rfl
theorem q562 : (Jvm.Cond.privateMethod ({ cls := "SkySpire$Text", name := "number", desc := "(II)I" } : Jvm.MethodName)) ∈ lw_tbl := lw_at lw_m2 207 rfl
theorem q563 : (Jvm.Cond.instanceMethod ({ cls := "SkySpire$Text", name := "number", desc := "(II)I" } : Jvm.MethodName)) ∈ lw_all := lw_g (lw_at lw_m2 208 rfl) rfl
theorem q564 : (Jvm.Cond.code ({ cls := "SkySpire$Text", name := "number", desc := "(II)I" } : Jvm.MethodName) prog_13_method_10_code (5 : Nat) (Option.some Jvm.ClassFile.FieldType.int)) ∈ lw_all := lw_g (lw_at lw_m2 209 rfl) rfl
theorem q565 : (Jvm.Cond.methodLink "SkySpire$Text" (72 : Nat) ({ cls := "SkySpire$Text", name := "isDigit", desc := "(I)Z" } : Jvm.MethodName)) ∈ lw_all := lw_g (lw_at lw_m2 210 rfl) rfl
theorem q566 : (Jvm.Cond.privateMethod ({ cls := "SkySpire$Text", name := "isDigit", desc := "(I)Z" } : Jvm.MethodName)) ∈ lw_tbl := lw_at lw_m2 211 rfl
theorem q567 : (Jvm.Cond.instanceMethod ({ cls := "SkySpire$Text", name := "isDigit", desc := "(I)Z" } : Jvm.MethodName)) ∈ lw_all := lw_g (lw_at lw_m2 212 rfl) rfl
theorem q568 : (Jvm.Cond.code ({ cls := "SkySpire$Text", name := "isDigit", desc := "(I)Z" } : Jvm.MethodName) prog_13_method_9_code (2 : Nat) (Option.some Jvm.ClassFile.FieldType.boolean)) ∈ lw_all := lw_g (lw_at lw_m2 213 rfl) rfl
theorem q569 : (Jvm.Cond.methodLinkNest "SkySpire$Text" (80 : Nat) ({ cls := "SkySpire", name := "in", desc := "(JJJ)Z" } : Jvm.MethodName) "SkySpire") ∈ lw_tbl := lw_at lw_m2 214 rfl
theorem q572 : (Jvm.Cond.methodLink "SkySpire$Text" (133 : Nat) ({ cls := "SkySpire$Text", name := "penHere", desc := "()V" } : Jvm.MethodName)) ∈ lw_all := lw_g (lw_at lw_m2 217 rfl) rfl
theorem q573 : (Jvm.Cond.privateMethod ({ cls := "SkySpire$Text", name := "penHere", desc := "()V" } : Jvm.MethodName)) ∈ lw_tbl := lw_at lw_m2 218 rfl
theorem q574 : (Jvm.Cond.instanceMethod ({ cls := "SkySpire$Text", name := "penHere", desc := "()V" } : Jvm.MethodName)) ∈ lw_all := lw_g (lw_at lw_m2 219 rfl) rfl
theorem q575 : (Jvm.Cond.code ({ cls := "SkySpire$Text", name := "penHere", desc := "()V" } : Jvm.MethodName) prog_13_method_17_code (1 : Nat) (Option.none : Option Jvm.ClassFile.FieldType)) ∈ lw_all := lw_g (lw_at lw_m2 220 rfl) rfl
theorem q576 : (Jvm.Cond.methodLink "SkySpire$Text" (121 : Nat) ({ cls := "SkySpire$Text", name := "cellNumber", desc := "()I" } : Jvm.MethodName)) ∈ lw_all := lw_g (lw_at lw_m2 221 rfl) rfl
theorem q577 : (Jvm.Cond.privateMethod ({ cls := "SkySpire$Text", name := "cellNumber", desc := "()I" } : Jvm.MethodName)) ∈ lw_tbl := lw_at lw_m2 222 rfl
theorem q578 : (Jvm.Cond.instanceMethod ({ cls := "SkySpire$Text", name := "cellNumber", desc := "()I" } : Jvm.MethodName)) ∈ lw_all := lw_g (lw_at lw_m2 223 rfl) rfl
theorem q579 : (Jvm.Cond.code ({ cls := "SkySpire$Text", name := "cellNumber", desc := "()I" } : Jvm.MethodName) prog_13_method_15_code (1 : Nat) (Option.some Jvm.ClassFile.FieldType.int)) ∈ lw_all := lw_g (lw_at lw_m2 224 rfl) rfl
theorem q580 : (Jvm.Cond.methodLink "SkySpire$Text" (104 : Nat) ({ cls := "SkySpire$Sky", name := "cells", desc := "()I" } : Jvm.MethodName)) ∈ lw_all := lw_g (lw_at lw_m2 225 rfl) rfl
theorem q584 : (Jvm.Cond.methodLink "SkySpire$Text" (136 : Nat) ({ cls := "SkySpire$Text", name := "windHere", desc := "()V" } : Jvm.MethodName)) ∈ lw_all := lw_g (lw_at lw_m2 229 rfl) rfl
theorem q585 : (Jvm.Cond.privateMethod ({ cls := "SkySpire$Text", name := "windHere", desc := "()V" } : Jvm.MethodName)) ∈ lw_tbl := lw_at lw_m2 230 rfl
theorem q586 : (Jvm.Cond.instanceMethod ({ cls := "SkySpire$Text", name := "windHere", desc := "()V" } : Jvm.MethodName)) ∈ lw_all := lw_g (lw_at lw_m2 231 rfl) rfl
theorem q587 : (Jvm.Cond.code ({ cls := "SkySpire$Text", name := "windHere", desc := "()V" } : Jvm.MethodName) prog_13_method_18_code (1 : Nat) (Option.none : Option Jvm.ClassFile.FieldType)) ∈ lw_all := lw_g (lw_at lw_m2 232 rfl) rfl
theorem q588 : (Jvm.Cond.methodLink "SkySpire$Text" (164 : Nat) ({ cls := "SkySpire$Text", name := "takesSign", desc := "(I)Z" } : Jvm.MethodName)) ∈ lw_all := lw_g (lw_at lw_m2 233 rfl) rfl
theorem q589 : (Jvm.Cond.privateMethod ({ cls := "SkySpire$Text", name := "takesSign", desc := "(I)Z" } : Jvm.MethodName)) ∈ lw_tbl := lw_at lw_m2 234 rfl
theorem q590 : (Jvm.Cond.instanceMethod ({ cls := "SkySpire$Text", name := "takesSign", desc := "(I)Z" } : Jvm.MethodName)) ∈ lw_all := lw_g (lw_at lw_m2 235 rfl) rfl
theorem q591 : (Jvm.Cond.code ({ cls := "SkySpire$Text", name := "takesSign", desc := "(I)Z" } : Jvm.MethodName) prog_13_method_4_code (2 : Nat) (Option.some Jvm.ClassFile.FieldType.boolean)) ∈ lw_all := lw_g (lw_at lw_m2 236 rfl) rfl
theorem q592 : (Jvm.Cond.methodLink "SkySpire$Text" (167 : Nat) ({ cls := "SkySpire$Text", name := "ends", desc := "()V" } : Jvm.MethodName)) ∈ lw_all := lw_g (lw_at lw_m2 237 rfl) rfl
theorem q593 : (Jvm.Cond.privateMethod ({ cls := "SkySpire$Text", name := "ends", desc := "()V" } : Jvm.MethodName)) ∈ lw_tbl := lw_at lw_m2 238 rfl
theorem q594 : (Jvm.Cond.instanceMethod ({ cls := "SkySpire$Text", name := "ends", desc := "()V" } : Jvm.MethodName)) ∈ lw_all := lw_g (lw_at lw_m2 239 rfl) rfl
theorem q595 : (Jvm.Cond.code ({ cls := "SkySpire$Text", name := "ends", desc := "()V" } : Jvm.MethodName) prog_13_method_13_code (1 : Nat) (Option.none : Option Jvm.ClassFile.FieldType)) ∈ lw_all := lw_g (lw_at lw_m3 0 rfl) rfl
theorem q596 : (Jvm.Cond.methodLink "SkySpire$Text" (170 : Nat) ({ cls := "SkySpire$Sky", name := "begins", desc := "()V" } : Jvm.MethodName)) ∈ lw_all := lw_g (lw_at lw_m3 1 rfl) rfl
theorem q614 : (Jvm.Cond.instanceMethod ({ cls := "SkySpire$Text", name := "ruleTold", desc := "()LSkySpire$Rule;" } : Jvm.MethodName)) ∈ lw_all := lw_g (lw_at lw_m3 19 rfl) rfl
theorem q615 : (Jvm.Cond.selects "SkySpire$Text" ({ cls := "SkySpire$Text", name := "ruleTold", desc := "()LSkySpire$Rule;" } : Jvm.MethodName) ({ cls := "SkySpire$Text", name := "ruleTold", desc := "()LSkySpire$Rule;" } : Jvm.MethodName)) ∈ lw_all := lw_g (lw_at lw_m3 20 rfl) rfl
theorem q616 : (Jvm.Cond.code ({ cls := "SkySpire$Text", name := "ruleTold", desc := "()LSkySpire$Rule;" } : Jvm.MethodName) prog_13_method_22_code (3 : Nat) (Option.some (Jvm.ClassFile.FieldType.object "SkySpire$Rule"))) ∈ lw_all := lw_g (lw_at lw_m3 21 rfl) rfl
theorem q617 : (Jvm.Cond.classLink "SkySpire$Text" (196 : Nat) "SkySpire$Rule") ∈ lw_all := lw_g (lw_at lw_m3 22 rfl) rfl
theorem q619 : (Jvm.Cond.methodLinkNest "SkySpire$Text" (198 : Nat) ({ cls := "SkySpire$Rule", name := "<init>", desc := "()V" } : Jvm.MethodName) "SkySpire") ∈ lw_tbl := lw_at lw_m3 24 rfl
theorem q626 : (Jvm.Cond.fieldLinkNest "SkySpire$Text" (202 : Nat) "SkySpire$Rule" "clauses" "[LSkySpire$Clause;" "SkySpire") ∈ lw_tbl := lw_at lw_m3 31 rfl
theorem q628 : (Jvm.Cond.fieldLinkNest "SkySpire$Text" (206 : Nat) "SkySpire$Rule" "many" "I" "SkySpire") ∈ lw_tbl := lw_at lw_m3 33 rfl
theorem q634 : (Jvm.Cond.methodLink "SkySpire$Text" (207 : Nat) ({ cls := "SkySpire$Text", name := "clauseHere", desc := "()LSkySpire$Clause;" } : Jvm.MethodName)) ∈ lw_all := lw_g (lw_at lw_m3 39 rfl) rfl
theorem q635 : (Jvm.Cond.privateMethod ({ cls := "SkySpire$Text", name := "clauseHere", desc := "()LSkySpire$Clause;" } : Jvm.MethodName)) ∈ lw_tbl := lw_at lw_m3 40 rfl
theorem q636 : (Jvm.Cond.instanceMethod ({ cls := "SkySpire$Text", name := "clauseHere", desc := "()LSkySpire$Clause;" } : Jvm.MethodName)) ∈ lw_all := lw_g (lw_at lw_m3 41 rfl) rfl
theorem q637 : (Jvm.Cond.code ({ cls := "SkySpire$Text", name := "clauseHere", desc := "()LSkySpire$Clause;" } : Jvm.MethodName) prog_13_method_21_code (2 : Nat) (Option.some (Jvm.ClassFile.FieldType.object "SkySpire$Clause"))) ∈ lw_all := lw_g (lw_at lw_m3 42 rfl) rfl
theorem q638 : (Jvm.Cond.classLink "SkySpire$Text" (173 : Nat) "SkySpire$Clause") ∈ lw_all := lw_g (lw_at lw_m3 43 rfl) rfl
theorem q640 : (Jvm.Cond.methodLinkNest "SkySpire$Text" (175 : Nat) ({ cls := "SkySpire$Clause", name := "<init>", desc := "()V" } : Jvm.MethodName) "SkySpire") ∈ lw_tbl := lw_at lw_m3 45 rfl
theorem q645 : (Jvm.Cond.fieldLinkNest "SkySpire$Text" (180 : Nat) "SkySpire$Clause" "sum" "LSkySpire$Value;" "SkySpire") ∈ lw_tbl := lw_at lw_m3 50 rfl
theorem q647 : (Jvm.Cond.fieldLinkNest "SkySpire$Text" (192 : Nat) "SkySpire$Clause" "test" "LSkySpire$Test;" "SkySpire") ∈ lw_tbl := lw_at lw_m3 52 rfl
theorem q653 : (Jvm.Cond.methodLink "SkySpire$Text" (176 : Nat) ({ cls := "SkySpire$Text", name := "sum", desc := "()LSkySpire$Value;" } : Jvm.MethodName)) ∈ lw_all := lw_g (lw_at lw_m3 58 rfl) rfl
theorem q654 : (Jvm.Cond.privateMethod ({ cls := "SkySpire$Text", name := "sum", desc := "()LSkySpire$Value;" } : Jvm.MethodName)) ∈ lw_tbl := lw_at lw_m3 59 rfl
theorem q655 : (Jvm.Cond.instanceMethod ({ cls := "SkySpire$Text", name := "sum", desc := "()LSkySpire$Value;" } : Jvm.MethodName)) ∈ lw_all := lw_g (lw_at lw_m3 60 rfl) rfl
theorem q656 : (Jvm.Cond.code ({ cls := "SkySpire$Text", name := "sum", desc := "()LSkySpire$Value;" } : Jvm.MethodName) prog_13_method_27_code (3 : Nat) (Option.some (Jvm.ClassFile.FieldType.object "SkySpire$Value"))) ∈ lw_all := lw_g (lw_at lw_m3 61 rfl) rfl
theorem q657 : (Jvm.Cond.methodLink "SkySpire$Text" (247 : Nat) ({ cls := "SkySpire$Text", name := "term", desc := "()LSkySpire$Value;" } : Jvm.MethodName)) ∈ lw_all := lw_g (lw_at lw_m3 62 rfl) rfl
theorem q658 : (Jvm.Cond.privateMethod ({ cls := "SkySpire$Text", name := "term", desc := "()LSkySpire$Value;" } : Jvm.MethodName)) ∈ lw_tbl := lw_at lw_m3 63 rfl
theorem q659 : (Jvm.Cond.instanceMethod ({ cls := "SkySpire$Text", name := "term", desc := "()LSkySpire$Value;" } : Jvm.MethodName)) ∈ lw_all := lw_g (lw_at lw_m3 64 rfl) rfl
theorem q660 : (Jvm.Cond.code ({ cls := "SkySpire$Text", name := "term", desc := "()LSkySpire$Value;" } : Jvm.MethodName) prog_13_method_28_code (3 : Nat) (Option.some (Jvm.ClassFile.FieldType.object "SkySpire$Value"))) ∈ lw_all := lw_g (lw_at lw_m3 65 rfl) rfl
theorem q661 : (Jvm.Cond.methodLink "SkySpire$Text" (253 : Nat) ({ cls := "SkySpire$Text", name := "value", desc := "()LSkySpire$Value;" } : Jvm.MethodName)) ∈ lw_all := lw_g (lw_at lw_m3 66 rfl) rfl
theorem q662 : (Jvm.Cond.privateMethod ({ cls := "SkySpire$Text", name := "value", desc := "()LSkySpire$Value;" } : Jvm.MethodName)) ∈ lw_tbl := lw_at lw_m3 67 rfl
theorem q663 : (Jvm.Cond.instanceMethod ({ cls := "SkySpire$Text", name := "value", desc := "()LSkySpire$Value;" } : Jvm.MethodName)) ∈ lw_all := lw_g (lw_at lw_m3 68 rfl) rfl
theorem q664 : (Jvm.Cond.code ({ cls := "SkySpire$Text", name := "value", desc := "()LSkySpire$Value;" } : Jvm.MethodName) prog_13_method_29_code (3 : Nat) (Option.some (Jvm.ClassFile.FieldType.object "SkySpire$Value"))) ∈ lw_all := lw_g (lw_at lw_m3 69 rfl) rfl
theorem q665 : (Jvm.Cond.constant "SkySpire$Text" (256 : Nat) (99999 : Int32)) ∈ lw_all := lw_g (lw_at lw_m3 70 rfl) rfl
theorem q666 : (Jvm.Cond.methodLink "SkySpire$Text" (239 : Nat) ({ cls := "SkySpire$Text", name := "makes", desc := "(I)V" } : Jvm.MethodName)) ∈ lw_all := lw_g (lw_at lw_m3 71 rfl) rfl
theorem q667 : (Jvm.Cond.privateMethod ({ cls := "SkySpire$Text", name := "makes", desc := "(I)V" } : Jvm.MethodName)) ∈ lw_tbl := lw_at lw_m3 72 rfl
theorem q668 : (Jvm.Cond.instanceMethod ({ cls := "SkySpire$Text", name := "makes", desc := "(I)V" } : Jvm.MethodName)) ∈ lw_all := lw_g (lw_at lw_m3 73 rfl) rfl
theorem q669 : (Jvm.Cond.code ({ cls := "SkySpire$Text", name := "makes", desc := "(I)V" } : Jvm.MethodName) prog_13_method_11_code (2 : Nat) (Option.none : Option Jvm.ClassFile.FieldType)) ∈ lw_all := lw_g (lw_at lw_m3 74 rfl) rfl
theorem q670 : (Jvm.Cond.classLink "SkySpire$Text" (257 : Nat) "SkySpire$Number") ∈ lw_all := lw_g (lw_at lw_m3 75 rfl) rfl
theorem q672 : (Jvm.Cond.methodLink "SkySpire$Text" (259 : Nat) ({ cls := "SkySpire$Number", name := "<init>", desc := "(J)V" } : Jvm.MethodName)) ∈ lw_all := lw_g (lw_at lw_m3 77 rfl) rfl
theorem q683 : (Jvm.Cond.classLink "SkySpire$Text" (262 : Nat) "SkySpire$Word") ∈ lw_all := lw_g (lw_at lw_m3 88 rfl) rfl
theorem q685 : (Jvm.Cond.methodLink "SkySpire$Text" (264 : Nat) ({ cls := "SkySpire$Word", name := "<init>", desc := "(I)V" } : Jvm.MethodName)) ∈ lw_all := lw_g (lw_at lw_m3 90 rfl) rfl
theorem q693 : (Jvm.Cond.classLink "SkySpire$Text" (250 : Nat) "SkySpire$Pair") ∈ lw_all := lw_g (lw_at lw_m3 98 rfl) rfl
theorem q695 : (Jvm.Cond.methodLink "SkySpire$Text" (252 : Nat) ({ cls := "SkySpire$Pair", name := "<init>", desc := "(LSkySpire$Value;ILSkySpire$Value;)V" } : Jvm.MethodName)) ∈ lw_all := lw_g (lw_at lw_m3 100 rfl) rfl
theorem q709 : (Jvm.Cond.stringRef "SkySpire$Text" (183 : Nat) "if") ∈ lw_tbl := lw_at lw_m3 114 rfl
theorem q710 : (Jvm.Cond.methodLink "SkySpire$Text" (185 : Nat) ({ cls := "SkySpire$Text", name := "takesWord", desc := "(Ljava/lang/String;)Z" } : Jvm.MethodName)) ∈ lw_all := lw_g (lw_at lw_m3 115 rfl) rfl
theorem q711 : (Jvm.Cond.privateMethod ({ cls := "SkySpire$Text", name := "takesWord", desc := "(Ljava/lang/String;)Z" } : Jvm.MethodName)) ∈ lw_tbl := lw_at lw_m3 116 rfl
theorem q712 : (Jvm.Cond.instanceMethod ({ cls := "SkySpire$Text", name := "takesWord", desc := "(Ljava/lang/String;)Z" } : Jvm.MethodName)) ∈ lw_all := lw_g (lw_at lw_m3 117 rfl) rfl
theorem q713 : (Jvm.Cond.code ({ cls := "SkySpire$Text", name := "takesWord", desc := "(Ljava/lang/String;)Z" } : Jvm.MethodName) prog_13_method_7_code (2 : Nat) (Option.some Jvm.ClassFile.FieldType.boolean)) ∈ lw_all := lw_g (lw_at lw_m3 118 rfl) rfl
theorem q714 : (Jvm.Cond.methodLink "SkySpire$Text" (188 : Nat) ({ cls := "SkySpire$Text", name := "tested", desc := "()LSkySpire$Test;" } : Jvm.MethodName)) ∈ lw_all := lw_g (lw_at lw_m3 119 rfl) rfl
theorem q715 : (Jvm.Cond.privateMethod ({ cls := "SkySpire$Text", name := "tested", desc := "()LSkySpire$Test;" } : Jvm.MethodName)) ∈ lw_tbl := lw_at lw_m3 120 rfl
theorem q716 : (Jvm.Cond.instanceMethod ({ cls := "SkySpire$Text", name := "tested", desc := "()LSkySpire$Test;" } : Jvm.MethodName)) ∈ lw_all := lw_g (lw_at lw_m3 121 rfl) rfl
theorem q717 : (Jvm.Cond.code ({ cls := "SkySpire$Text", name := "tested", desc := "()LSkySpire$Test;" } : Jvm.MethodName) prog_13_method_23_code (2 : Nat) (Option.some (Jvm.ClassFile.FieldType.object "SkySpire$Test"))) ∈ lw_all := lw_g (lw_at lw_m3 122 rfl) rfl
theorem q718 : (Jvm.Cond.methodLink "SkySpire$Text" (211 : Nat) ({ cls := "SkySpire$Text", name := "parted", desc := "()LSkySpire$Test;" } : Jvm.MethodName)) ∈ lw_all := lw_g (lw_at lw_m3 123 rfl) rfl
theorem q719 : (Jvm.Cond.privateMethod ({ cls := "SkySpire$Text", name := "parted", desc := "()LSkySpire$Test;" } : Jvm.MethodName)) ∈ lw_tbl := lw_at lw_m3 124 rfl
theorem q720 : (Jvm.Cond.instanceMethod ({ cls := "SkySpire$Text", name := "parted", desc := "()LSkySpire$Test;" } : Jvm.MethodName)) ∈ lw_all := lw_g (lw_at lw_m3 125 rfl) rfl
theorem q721 : (Jvm.Cond.code ({ cls := "SkySpire$Text", name := "parted", desc := "()LSkySpire$Test;" } : Jvm.MethodName) prog_13_method_24_code (2 : Nat) (Option.some (Jvm.ClassFile.FieldType.object "SkySpire$Test"))) ∈ lw_all := lw_g (lw_at lw_m3 126 rfl) rfl
theorem q722 : (Jvm.Cond.methodLink "SkySpire$Text" (221 : Nat) ({ cls := "SkySpire$Text", name := "fact", desc := "()LSkySpire$Test;" } : Jvm.MethodName)) ∈ lw_all := lw_g (lw_at lw_m3 127 rfl) rfl
theorem q723 : (Jvm.Cond.privateMethod ({ cls := "SkySpire$Text", name := "fact", desc := "()LSkySpire$Test;" } : Jvm.MethodName)) ∈ lw_tbl := lw_at lw_m3 128 rfl
theorem q724 : (Jvm.Cond.instanceMethod ({ cls := "SkySpire$Text", name := "fact", desc := "()LSkySpire$Test;" } : Jvm.MethodName)) ∈ lw_all := lw_g (lw_at lw_m3 129 rfl) rfl
theorem q725 : (Jvm.Cond.code ({ cls := "SkySpire$Text", name := "fact", desc := "()LSkySpire$Test;" } : Jvm.MethodName) prog_13_method_25_code (6 : Nat) (Option.some (Jvm.ClassFile.FieldType.object "SkySpire$Test"))) ∈ lw_all := lw_g (lw_at lw_m3 130 rfl) rfl
theorem q726 : (Jvm.Cond.stringRef "SkySpire$Text" (226 : Nat) "not") ∈ lw_tbl := lw_at lw_m3 131 rfl
theorem q727 : (Jvm.Cond.methodLink "SkySpire$Text" (228 : Nat) ({ cls := "SkySpire$Text", name := "opens", desc := "(I)V" } : Jvm.MethodName)) ∈ lw_all := lw_g (lw_at lw_m3 132 rfl) rfl
theorem q728 : (Jvm.Cond.privateMethod ({ cls := "SkySpire$Text", name := "opens", desc := "(I)V" } : Jvm.MethodName)) ∈ lw_tbl := lw_at lw_m3 133 rfl
theorem q729 : (Jvm.Cond.instanceMethod ({ cls := "SkySpire$Text", name := "opens", desc := "(I)V" } : Jvm.MethodName)) ∈ lw_all := lw_g (lw_at lw_m3 134 rfl) rfl
theorem q730 : (Jvm.Cond.code ({ cls := "SkySpire$Text", name := "opens", desc := "(I)V" } : Jvm.MethodName) prog_13_method_12_code (2 : Nat) (Option.none : Option Jvm.ClassFile.FieldType)) ∈ lw_all := lw_g (lw_at lw_m3 135 rfl) rfl
theorem q731 : (Jvm.Cond.classLink "SkySpire$Text" (231 : Nat) "SkySpire$Not") ∈ lw_all := lw_g (lw_at lw_m3 136 rfl) rfl
theorem q733 : (Jvm.Cond.methodLink "SkySpire$Text" (233 : Nat) ({ cls := "SkySpire$Not", name := "<init>", desc := "(LSkySpire$Test;)V" } : Jvm.MethodName)) ∈ lw_all := lw_g (lw_at lw_m3 138 rfl) rfl
theorem q744 : (Jvm.Cond.methodLink "SkySpire$Text" (236 : Nat) ({ cls := "SkySpire$Text", name := "sign", desc := "()I" } : Jvm.MethodName)) ∈ lw_all := lw_g (lw_at lw_m3 149 rfl) rfl
theorem q745 : (Jvm.Cond.privateMethod ({ cls := "SkySpire$Text", name := "sign", desc := "()I" } : Jvm.MethodName)) ∈ lw_tbl := lw_at lw_m3 150 rfl
theorem q746 : (Jvm.Cond.instanceMethod ({ cls := "SkySpire$Text", name := "sign", desc := "()I" } : Jvm.MethodName)) ∈ lw_all := lw_g (lw_at lw_m3 151 rfl) rfl
theorem q747 : (Jvm.Cond.code ({ cls := "SkySpire$Text", name := "sign", desc := "()I" } : Jvm.MethodName) prog_13_method_26_code (3 : Nat) (Option.some Jvm.ClassFile.FieldType.int)) ∈ lw_all := lw_g (lw_at lw_m3 152 rfl) rfl
theorem q748 : (Jvm.Cond.classLink "SkySpire$Text" (242 : Nat) "SkySpire$Compare") ∈ lw_all := lw_g (lw_at lw_m3 153 rfl) rfl
theorem q750 : (Jvm.Cond.methodLink "SkySpire$Text" (244 : Nat) ({ cls := "SkySpire$Compare", name := "<init>", desc := "(LSkySpire$Value;ILSkySpire$Value;)V" } : Jvm.MethodName)) ∈ lw_all := lw_g (lw_at lw_m3 155 rfl) rfl
theorem q764 : (Jvm.Cond.stringRef "SkySpire$Text" (224 : Nat) "and") ∈ lw_tbl := lw_at lw_m3 169 rfl
theorem q765 : (Jvm.Cond.classLink "SkySpire$Text" (216 : Nat) "SkySpire$Both") ∈ lw_all := lw_g (lw_at lw_m3 170 rfl) rfl
theorem q767 : (Jvm.Cond.methodLink "SkySpire$Text" (218 : Nat) ({ cls := "SkySpire$Both", name := "<init>", desc := "(LSkySpire$Test;ZLSkySpire$Test;)V" } : Jvm.MethodName)) ∈ lw_all := lw_g (lw_at lw_m3 172 rfl) rfl
theorem q781 : (Jvm.Cond.stringRef "SkySpire$Text" (214 : Nat) "or") ∈ lw_tbl := lw_at lw_m3 186 rfl
theorem in_X4 : ∀ w ∈ wsX40, w ∈ lw_all := lw_in wsX40 [451, 453, 455, 457, 459, 461, 463] (by decide +kernel) (by decide +kernel)
