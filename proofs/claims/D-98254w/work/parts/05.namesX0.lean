/-! AgainstFeather -/
set_option maxRecDepth 100000
def RX0 : String := "AgainstFeather"
def TX0 : u_T := fun k => match k with
  | 0 => ("AgainstFeather", "now", "LAgainstFeather$State;", true)
  | 1 => ("AgainstFeather", "image", "LAgainstFeather$State;", true)
  | 2 => ("AgainstFeather", "tape", "[B", true)
  | 3 => ("AgainstFeather", "taped", "I", false)
  | 4 => ("AgainstFeather", "fault", "I", false)
  | 5 => ("AgainstFeather", "faultAt", "I", false)
  | 6 => ("AgainstFeather", "names", "[I", true)
  | 7 => ("AgainstFeather", "mine", "[I", true)
  | 8 => ("AgainstFeather", "many", "I", false)
  | 9 => ("AgainstFeather", "weights", "[I", true)
  | 10 => ("AgainstFeather", "tried", "[I", true)
  | 11 => ("AgainstFeather", "found", "[I", true)
  | 12 => ("AgainstFeather", "least", "I", false)
  | 13 => ("AgainstFeather", "greatest", "I", false)
  | 14 => ("AgainstFeather", "wanted", "I", false)
  | 15 => ("AgainstFeather", "isFound", "Z", false)
  | 16 => ("AgainstFeather", "lacks", "[I", true)
  | 17 => ("AgainstFeather", "takes", "[I", true)
  | 18 => ("AgainstFeather", "may", "[[I", true)
  | 19 => ("AgainstFeather", "lends", "[[I", true)
  | 20 => ("AgainstFeather", "factor", "[I", true)
  | 21 => ("AgainstFeather", "smallest", "[I", true)
  | _ => ("AgainstFeather", "right", "[J", true)
def tyX0 : Nat → FieldType := fun k => match k with
  | 0 => .object "AgainstFeather$State"
  | 1 => .object "AgainstFeather$State"
  | 2 => .array .byte
  | 3 => .int
  | 4 => .int
  | 5 => .int
  | 6 => .array .int
  | 7 => .array .int
  | 8 => .int
  | 9 => .array .int
  | 10 => .array .int
  | 11 => .array .int
  | 12 => .int
  | 13 => .int
  | 14 => .int
  | 15 => .boolean
  | 16 => .array .int
  | 17 => .array .int
  | 18 => .array (.array .int)
  | 19 => .array (.array .int)
  | 20 => .array .int
  | 21 => .array .int
  | _ => .array .long
abbrev wsX00 : List Cond := u_ws RX0 TX0 23
set_option maxRecDepth 100000 in
theorem nmX0 : ∀ a, a < 23 → ∀ b, b < 23 → a ≠ b → (TX0 a).2.1 ≠ (TX0 b).2.1 := by decide +kernel
set_option maxRecDepth 100000 in
theorem tyX0_ok : ∀ k, k < 23 → parseFieldDescriptor (TX0 k).2.2.1 = some (tyX0 k) := by decide +kernel
abbrev cX0_init : ByteArray := prog_1_method_3_code
def yX0_init : MethodName := ⟨RX0, "<init>", "()V"⟩
def dkwX0_init_6 : List UInt8 := [188, 11, 181, 0, 66, 42, 180, 0, 16, 42, 180, 0, 12, 182, 0, 70, 177]
abbrev dktX0_init_6 : List UInt8 := dkwX0_init_6 ++ []
def dkwX0_init_5 : List UInt8 := [197, 0, 52, 2, 181, 0, 57, 42, 7, 188, 10, 181, 0, 60, 42, 7, 188, 10, 181, 0, 63, 42, 16, 16]
abbrev dktX0_init_5 : List UInt8 := dkwX0_init_5 ++ dktX0_init_6
def dkwX0_init_4 : List UInt8 := [16, 6, 188, 10, 181, 0, 49, 42, 16, 6, 16, 6, 197, 0, 52, 2, 181, 0, 54, 42, 16, 6, 16, 6]
abbrev dktX0_init_4 : List UInt8 := dkwX0_init_4 ++ dktX0_init_5
def dkwX0_init_3 : List UInt8 := [16, 7, 188, 10, 181, 0, 40, 42, 16, 7, 188, 10, 181, 0, 43, 42, 16, 6, 188, 10, 181, 0, 46, 42]
abbrev dktX0_init_3 : List UInt8 := dkwX0_init_3 ++ dktX0_init_4
def dkwX0_init_2 : List UInt8 := [16, 15, 188, 10, 181, 0, 30, 42, 16, 24, 188, 10, 181, 0, 34, 42, 16, 24, 188, 10, 181, 0, 37, 42]
abbrev dktX0_init_2 : List UInt8 := dkwX0_init_2 ++ dktX0_init_3
def dkwX0_init_1 : List UInt8 := [181, 0, 16, 42, 17, 1, 44, 188, 8, 181, 0, 19, 42, 2, 181, 0, 23, 42, 2, 181, 0, 27, 42]
abbrev dktX0_init_1 : List UInt8 := dkwX0_init_1 ++ dktX0_init_2
def dkwX0_init_0 : List UInt8 := [42, 183, 0, 3, 42, 187, 0, 9, 89, 183, 0, 11, 181, 0, 12, 42, 187, 0, 9, 89, 183, 0, 11]
abbrev dktX0_init_0 : List UInt8 := dkwX0_init_0 ++ dktX0_init_1
theorem dksX0_init_0 : cX0_init.data.toList.drop 0 = dktX0_init_0 := by decide +kernel
theorem dksX0_init_1 : cX0_init.data.toList.drop 23 = dktX0_init_1 := dk_seg dksX0_init_0 23 rfl rfl
theorem dksX0_init_2 : cX0_init.data.toList.drop 46 = dktX0_init_2 := dk_seg dksX0_init_1 23 rfl rfl
theorem dksX0_init_3 : cX0_init.data.toList.drop 70 = dktX0_init_3 := dk_seg dksX0_init_2 24 rfl rfl
theorem dksX0_init_4 : cX0_init.data.toList.drop 94 = dktX0_init_4 := dk_seg dksX0_init_3 24 rfl rfl
theorem dksX0_init_5 : cX0_init.data.toList.drop 118 = dktX0_init_5 := dk_seg dksX0_init_4 24 rfl rfl
theorem dksX0_init_6 : cX0_init.data.toList.drop 142 = dktX0_init_6 := dk_seg dksX0_init_5 24 rfl rfl
theorem dX0_init_0 : decode cX0_init 0 = .ok (.aload_n 0, 1) := dk_42 (dk_at dksX0_init_0 0 rfl rfl)
theorem dX0_init_1 : decode cX0_init 1 = .ok (.invokespecial 3, 3) := dk_183 0 3 (dk_at dksX0_init_0 1 rfl rfl)
theorem dX0_init_4 : decode cX0_init 4 = .ok (.aload_n 0, 1) := dk_42 (dk_at dksX0_init_0 4 rfl rfl)
theorem dX0_init_5 : decode cX0_init 5 = .ok (.new 9, 3) := dk_187 0 9 (dk_at dksX0_init_0 5 rfl rfl)
theorem dX0_init_8 : decode cX0_init 8 = .ok (.dup, 1) := dk_89 (dk_at dksX0_init_0 8 rfl rfl)
theorem dX0_init_9 : decode cX0_init 9 = .ok (.invokespecial 11, 3) := dk_183 0 11 (dk_at dksX0_init_0 9 rfl rfl)
theorem dX0_init_12 : decode cX0_init 12 = .ok (.putfield 12, 3) := dk_181 0 12 (dk_at dksX0_init_0 12 rfl rfl)
theorem dX0_init_15 : decode cX0_init 15 = .ok (.aload_n 0, 1) := dk_42 (dk_at dksX0_init_0 15 rfl rfl)
theorem dX0_init_16 : decode cX0_init 16 = .ok (.new 9, 3) := dk_187 0 9 (dk_at dksX0_init_0 16 rfl rfl)
theorem dX0_init_19 : decode cX0_init 19 = .ok (.dup, 1) := dk_89 (dk_at dksX0_init_0 19 rfl rfl)
theorem dX0_init_20 : decode cX0_init 20 = .ok (.invokespecial 11, 3) := dk_183 0 11 (dk_at dksX0_init_0 20 rfl rfl)
theorem dX0_init_23 : decode cX0_init 23 = .ok (.putfield 16, 3) := dk_181 0 16 (dk_at dksX0_init_1 0 rfl rfl)
theorem dX0_init_26 : decode cX0_init 26 = .ok (.aload_n 0, 1) := dk_42 (dk_at dksX0_init_1 3 rfl rfl)
theorem dX0_init_27 : decode cX0_init 27 = .ok (.sipush 300, 3) := dk_17 1 44 (dk_at dksX0_init_1 4 rfl rfl)
theorem dX0_init_30 : decode cX0_init 30 = .ok (.newarray .byte, 2) := dk_188_8 (dk_at dksX0_init_1 7 rfl rfl)
theorem dX0_init_32 : decode cX0_init 32 = .ok (.putfield 19, 3) := dk_181 0 19 (dk_at dksX0_init_1 9 rfl rfl)
theorem dX0_init_35 : decode cX0_init 35 = .ok (.aload_n 0, 1) := dk_42 (dk_at dksX0_init_1 12 rfl rfl)
theorem dX0_init_36 : decode cX0_init 36 = .ok (.iconst (-1), 1) := dk_2 (dk_at dksX0_init_1 13 rfl rfl)
theorem dX0_init_37 : decode cX0_init 37 = .ok (.putfield 23, 3) := dk_181 0 23 (dk_at dksX0_init_1 14 rfl rfl)
theorem dX0_init_40 : decode cX0_init 40 = .ok (.aload_n 0, 1) := dk_42 (dk_at dksX0_init_1 17 rfl rfl)
theorem dX0_init_41 : decode cX0_init 41 = .ok (.iconst (-1), 1) := dk_2 (dk_at dksX0_init_1 18 rfl rfl)
theorem dX0_init_42 : decode cX0_init 42 = .ok (.putfield 27, 3) := dk_181 0 27 (dk_at dksX0_init_1 19 rfl rfl)
theorem dX0_init_45 : decode cX0_init 45 = .ok (.aload_n 0, 1) := dk_42 (dk_at dksX0_init_1 22 rfl rfl)
theorem dX0_init_46 : decode cX0_init 46 = .ok (.bipush 15, 2) := dk_16 15 (dk_at dksX0_init_2 0 rfl rfl)
theorem dX0_init_48 : decode cX0_init 48 = .ok (.newarray .int, 2) := dk_188_10 (dk_at dksX0_init_2 2 rfl rfl)
theorem dX0_init_50 : decode cX0_init 50 = .ok (.putfield 30, 3) := dk_181 0 30 (dk_at dksX0_init_2 4 rfl rfl)
theorem dX0_init_53 : decode cX0_init 53 = .ok (.aload_n 0, 1) := dk_42 (dk_at dksX0_init_2 7 rfl rfl)
theorem dX0_init_54 : decode cX0_init 54 = .ok (.bipush 24, 2) := dk_16 24 (dk_at dksX0_init_2 8 rfl rfl)
theorem dX0_init_56 : decode cX0_init 56 = .ok (.newarray .int, 2) := dk_188_10 (dk_at dksX0_init_2 10 rfl rfl)
theorem dX0_init_58 : decode cX0_init 58 = .ok (.putfield 34, 3) := dk_181 0 34 (dk_at dksX0_init_2 12 rfl rfl)
theorem dX0_init_61 : decode cX0_init 61 = .ok (.aload_n 0, 1) := dk_42 (dk_at dksX0_init_2 15 rfl rfl)
theorem dX0_init_62 : decode cX0_init 62 = .ok (.bipush 24, 2) := dk_16 24 (dk_at dksX0_init_2 16 rfl rfl)
theorem dX0_init_64 : decode cX0_init 64 = .ok (.newarray .int, 2) := dk_188_10 (dk_at dksX0_init_2 18 rfl rfl)
theorem dX0_init_66 : decode cX0_init 66 = .ok (.putfield 37, 3) := dk_181 0 37 (dk_at dksX0_init_2 20 rfl rfl)
theorem dX0_init_69 : decode cX0_init 69 = .ok (.aload_n 0, 1) := dk_42 (dk_at dksX0_init_2 23 rfl rfl)
theorem dX0_init_70 : decode cX0_init 70 = .ok (.bipush 7, 2) := dk_16 7 (dk_at dksX0_init_3 0 rfl rfl)
theorem dX0_init_72 : decode cX0_init 72 = .ok (.newarray .int, 2) := dk_188_10 (dk_at dksX0_init_3 2 rfl rfl)
theorem dX0_init_74 : decode cX0_init 74 = .ok (.putfield 40, 3) := dk_181 0 40 (dk_at dksX0_init_3 4 rfl rfl)
theorem dX0_init_77 : decode cX0_init 77 = .ok (.aload_n 0, 1) := dk_42 (dk_at dksX0_init_3 7 rfl rfl)
theorem dX0_init_78 : decode cX0_init 78 = .ok (.bipush 7, 2) := dk_16 7 (dk_at dksX0_init_3 8 rfl rfl)
theorem dX0_init_80 : decode cX0_init 80 = .ok (.newarray .int, 2) := dk_188_10 (dk_at dksX0_init_3 10 rfl rfl)
theorem dX0_init_82 : decode cX0_init 82 = .ok (.putfield 43, 3) := dk_181 0 43 (dk_at dksX0_init_3 12 rfl rfl)
theorem dX0_init_85 : decode cX0_init 85 = .ok (.aload_n 0, 1) := dk_42 (dk_at dksX0_init_3 15 rfl rfl)
theorem dX0_init_86 : decode cX0_init 86 = .ok (.bipush 6, 2) := dk_16 6 (dk_at dksX0_init_3 16 rfl rfl)
theorem dX0_init_88 : decode cX0_init 88 = .ok (.newarray .int, 2) := dk_188_10 (dk_at dksX0_init_3 18 rfl rfl)
theorem dX0_init_90 : decode cX0_init 90 = .ok (.putfield 46, 3) := dk_181 0 46 (dk_at dksX0_init_3 20 rfl rfl)
theorem dX0_init_93 : decode cX0_init 93 = .ok (.aload_n 0, 1) := dk_42 (dk_at dksX0_init_3 23 rfl rfl)
theorem dX0_init_94 : decode cX0_init 94 = .ok (.bipush 6, 2) := dk_16 6 (dk_at dksX0_init_4 0 rfl rfl)
theorem dX0_init_96 : decode cX0_init 96 = .ok (.newarray .int, 2) := dk_188_10 (dk_at dksX0_init_4 2 rfl rfl)
theorem dX0_init_98 : decode cX0_init 98 = .ok (.putfield 49, 3) := dk_181 0 49 (dk_at dksX0_init_4 4 rfl rfl)
theorem dX0_init_101 : decode cX0_init 101 = .ok (.aload_n 0, 1) := dk_42 (dk_at dksX0_init_4 7 rfl rfl)
theorem dX0_init_102 : decode cX0_init 102 = .ok (.bipush 6, 2) := dk_16 6 (dk_at dksX0_init_4 8 rfl rfl)
theorem dX0_init_104 : decode cX0_init 104 = .ok (.bipush 6, 2) := dk_16 6 (dk_at dksX0_init_4 10 rfl rfl)
theorem dX0_init_106 : decode cX0_init 106 = .ok (.multianewarray 52 2, 4) := by decide +kernel
theorem dX0_init_110 : decode cX0_init 110 = .ok (.putfield 54, 3) := dk_181 0 54 (dk_at dksX0_init_4 16 rfl rfl)
theorem dX0_init_113 : decode cX0_init 113 = .ok (.aload_n 0, 1) := dk_42 (dk_at dksX0_init_4 19 rfl rfl)
theorem dX0_init_114 : decode cX0_init 114 = .ok (.bipush 6, 2) := dk_16 6 (dk_at dksX0_init_4 20 rfl rfl)
theorem dX0_init_116 : decode cX0_init 116 = .ok (.bipush 6, 2) := dk_16 6 (dk_at dksX0_init_4 22 rfl rfl)
theorem dX0_init_118 : decode cX0_init 118 = .ok (.multianewarray 52 2, 4) := by decide +kernel
theorem dX0_init_122 : decode cX0_init 122 = .ok (.putfield 57, 3) := dk_181 0 57 (dk_at dksX0_init_5 4 rfl rfl)
theorem dX0_init_125 : decode cX0_init 125 = .ok (.aload_n 0, 1) := dk_42 (dk_at dksX0_init_5 7 rfl rfl)
theorem dX0_init_126 : decode cX0_init 126 = .ok (.iconst 4, 1) := dk_7 (dk_at dksX0_init_5 8 rfl rfl)
theorem dX0_init_127 : decode cX0_init 127 = .ok (.newarray .int, 2) := dk_188_10 (dk_at dksX0_init_5 9 rfl rfl)
theorem dX0_init_129 : decode cX0_init 129 = .ok (.putfield 60, 3) := dk_181 0 60 (dk_at dksX0_init_5 11 rfl rfl)
theorem dX0_init_132 : decode cX0_init 132 = .ok (.aload_n 0, 1) := dk_42 (dk_at dksX0_init_5 14 rfl rfl)
theorem dX0_init_133 : decode cX0_init 133 = .ok (.iconst 4, 1) := dk_7 (dk_at dksX0_init_5 15 rfl rfl)
theorem dX0_init_134 : decode cX0_init 134 = .ok (.newarray .int, 2) := dk_188_10 (dk_at dksX0_init_5 16 rfl rfl)
theorem dX0_init_136 : decode cX0_init 136 = .ok (.putfield 63, 3) := dk_181 0 63 (dk_at dksX0_init_5 18 rfl rfl)
theorem dX0_init_139 : decode cX0_init 139 = .ok (.aload_n 0, 1) := dk_42 (dk_at dksX0_init_5 21 rfl rfl)
theorem dX0_init_140 : decode cX0_init 140 = .ok (.bipush 16, 2) := dk_16 16 (dk_at dksX0_init_5 22 rfl rfl)
theorem dX0_init_142 : decode cX0_init 142 = .ok (.newarray .long, 2) := dk_188_11 (dk_at dksX0_init_6 0 rfl rfl)
theorem dX0_init_144 : decode cX0_init 144 = .ok (.putfield 66, 3) := dk_181 0 66 (dk_at dksX0_init_6 2 rfl rfl)
theorem dX0_init_147 : decode cX0_init 147 = .ok (.aload_n 0, 1) := dk_42 (dk_at dksX0_init_6 5 rfl rfl)
theorem dX0_init_148 : decode cX0_init 148 = .ok (.getfield 16, 3) := dk_180 0 16 (dk_at dksX0_init_6 6 rfl rfl)
theorem dX0_init_151 : decode cX0_init 151 = .ok (.aload_n 0, 1) := dk_42 (dk_at dksX0_init_6 9 rfl rfl)
theorem dX0_init_152 : decode cX0_init 152 = .ok (.getfield 12, 3) := dk_180 0 12 (dk_at dksX0_init_6 10 rfl rfl)
theorem dX0_init_155 : decode cX0_init 155 = .ok (.invokevirtual 70, 3) := dk_182 0 70 (dk_at dksX0_init_6 13 rfl rfl)
theorem dX0_init_158 : decode cX0_init 158 = .ok (.return_, 1) := dk_177 (dk_at dksX0_init_6 16 rfl rfl)
abbrev cX0_heart : ByteArray := prog_1_method_8_code
def yX0_heart : MethodName := ⟨RX0, "heart", "(I)I"⟩
def dkwX0_heart_2 : List UInt8 := [180, 0, 12, 180, 0, 74, 3, 92, 46, 4, 96, 79, 42, 180, 0, 12, 180, 0, 74, 3, 46, 4, 100, 172]
abbrev dktX0_heart_2 : List UInt8 := dkwX0_heart_2 ++ []
def dkwX0_heart_1 : List UInt8 := [160, 0, 5, 2, 172, 42, 180, 0, 12, 180, 0, 81, 42, 180, 0, 12, 180, 0, 74, 3, 46, 27, 79, 42]
abbrev dktX0_heart_1 : List UInt8 := dkwX0_heart_1 ++ dktX0_heart_2
def dkwX0_heart_0 : List UInt8 := [27, 3, 17, 3, 231, 184, 0, 77, 153, 0, 17, 42, 180, 0, 12, 180, 0, 74, 3, 46, 16, 6]
abbrev dktX0_heart_0 : List UInt8 := dkwX0_heart_0 ++ dktX0_heart_1
theorem dksX0_heart_0 : cX0_heart.data.toList.drop 0 = dktX0_heart_0 := by decide +kernel
theorem dksX0_heart_1 : cX0_heart.data.toList.drop 22 = dktX0_heart_1 := dk_seg dksX0_heart_0 22 rfl rfl
theorem dksX0_heart_2 : cX0_heart.data.toList.drop 46 = dktX0_heart_2 := dk_seg dksX0_heart_1 24 rfl rfl
theorem dX0_heart_0 : decode cX0_heart 0 = .ok (.iload_n 1, 1) := dk_27 (dk_at dksX0_heart_0 0 rfl rfl)
theorem dX0_heart_1 : decode cX0_heart 1 = .ok (.iconst 0, 1) := dk_3 (dk_at dksX0_heart_0 1 rfl rfl)
theorem dX0_heart_2 : decode cX0_heart 2 = .ok (.sipush 999, 3) := dk_17 3 231 (dk_at dksX0_heart_0 2 rfl rfl)
theorem dX0_heart_5 : decode cX0_heart 5 = .ok (.invokestatic 77, 3) := dk_184 0 77 (dk_at dksX0_heart_0 5 rfl rfl)
theorem dX0_heart_8 : decode cX0_heart 8 = .ok (.ifCond .eq 17, 3) := dk_153 0 17 (dk_at dksX0_heart_0 8 rfl rfl)
theorem dX0_heart_11 : decode cX0_heart 11 = .ok (.aload_n 0, 1) := dk_42 (dk_at dksX0_heart_0 11 rfl rfl)
theorem dX0_heart_12 : decode cX0_heart 12 = .ok (.getfield 12, 3) := dk_180 0 12 (dk_at dksX0_heart_0 12 rfl rfl)
theorem dX0_heart_15 : decode cX0_heart 15 = .ok (.getfield 74, 3) := dk_180 0 74 (dk_at dksX0_heart_0 15 rfl rfl)
theorem dX0_heart_18 : decode cX0_heart 18 = .ok (.iconst 0, 1) := dk_3 (dk_at dksX0_heart_0 18 rfl rfl)
theorem dX0_heart_19 : decode cX0_heart 19 = .ok (.iaload, 1) := dk_46 (dk_at dksX0_heart_0 19 rfl rfl)
theorem dX0_heart_20 : decode cX0_heart 20 = .ok (.bipush 6, 2) := dk_16 6 (dk_at dksX0_heart_0 20 rfl rfl)
theorem dX0_heart_22 : decode cX0_heart 22 = .ok (.if_icmp .ne 5, 3) := dk_160 0 5 (dk_at dksX0_heart_1 0 rfl rfl)
theorem dX0_heart_25 : decode cX0_heart 25 = .ok (.iconst (-1), 1) := dk_2 (dk_at dksX0_heart_1 3 rfl rfl)
theorem dX0_heart_26 : decode cX0_heart 26 = .ok (.ireturn, 1) := dk_172 (dk_at dksX0_heart_1 4 rfl rfl)
theorem dX0_heart_27 : decode cX0_heart 27 = .ok (.aload_n 0, 1) := dk_42 (dk_at dksX0_heart_1 5 rfl rfl)
theorem dX0_heart_28 : decode cX0_heart 28 = .ok (.getfield 12, 3) := dk_180 0 12 (dk_at dksX0_heart_1 6 rfl rfl)
theorem dX0_heart_31 : decode cX0_heart 31 = .ok (.getfield 81, 3) := dk_180 0 81 (dk_at dksX0_heart_1 9 rfl rfl)
theorem dX0_heart_34 : decode cX0_heart 34 = .ok (.aload_n 0, 1) := dk_42 (dk_at dksX0_heart_1 12 rfl rfl)
theorem dX0_heart_35 : decode cX0_heart 35 = .ok (.getfield 12, 3) := dk_180 0 12 (dk_at dksX0_heart_1 13 rfl rfl)
theorem dX0_heart_38 : decode cX0_heart 38 = .ok (.getfield 74, 3) := dk_180 0 74 (dk_at dksX0_heart_1 16 rfl rfl)
theorem dX0_heart_41 : decode cX0_heart 41 = .ok (.iconst 0, 1) := dk_3 (dk_at dksX0_heart_1 19 rfl rfl)
theorem dX0_heart_42 : decode cX0_heart 42 = .ok (.iaload, 1) := dk_46 (dk_at dksX0_heart_1 20 rfl rfl)
theorem dX0_heart_43 : decode cX0_heart 43 = .ok (.iload_n 1, 1) := dk_27 (dk_at dksX0_heart_1 21 rfl rfl)
theorem dX0_heart_44 : decode cX0_heart 44 = .ok (.iastore, 1) := dk_79 (dk_at dksX0_heart_1 22 rfl rfl)
theorem dX0_heart_45 : decode cX0_heart 45 = .ok (.aload_n 0, 1) := dk_42 (dk_at dksX0_heart_1 23 rfl rfl)
theorem dX0_heart_46 : decode cX0_heart 46 = .ok (.getfield 12, 3) := dk_180 0 12 (dk_at dksX0_heart_2 0 rfl rfl)
theorem dX0_heart_49 : decode cX0_heart 49 = .ok (.getfield 74, 3) := dk_180 0 74 (dk_at dksX0_heart_2 3 rfl rfl)
theorem dX0_heart_52 : decode cX0_heart 52 = .ok (.iconst 0, 1) := dk_3 (dk_at dksX0_heart_2 6 rfl rfl)
theorem dX0_heart_53 : decode cX0_heart 53 = .ok (.dup2, 1) := dk_92 (dk_at dksX0_heart_2 7 rfl rfl)
theorem dX0_heart_54 : decode cX0_heart 54 = .ok (.iaload, 1) := dk_46 (dk_at dksX0_heart_2 8 rfl rfl)
theorem dX0_heart_55 : decode cX0_heart 55 = .ok (.iconst 1, 1) := dk_4 (dk_at dksX0_heart_2 9 rfl rfl)
theorem dX0_heart_56 : decode cX0_heart 56 = .ok (.iadd, 1) := dk_96 (dk_at dksX0_heart_2 10 rfl rfl)
theorem dX0_heart_57 : decode cX0_heart 57 = .ok (.iastore, 1) := dk_79 (dk_at dksX0_heart_2 11 rfl rfl)
theorem dX0_heart_58 : decode cX0_heart 58 = .ok (.aload_n 0, 1) := dk_42 (dk_at dksX0_heart_2 12 rfl rfl)
theorem dX0_heart_59 : decode cX0_heart 59 = .ok (.getfield 12, 3) := dk_180 0 12 (dk_at dksX0_heart_2 13 rfl rfl)
theorem dX0_heart_62 : decode cX0_heart 62 = .ok (.getfield 74, 3) := dk_180 0 74 (dk_at dksX0_heart_2 16 rfl rfl)
theorem dX0_heart_65 : decode cX0_heart 65 = .ok (.iconst 0, 1) := dk_3 (dk_at dksX0_heart_2 19 rfl rfl)
theorem dX0_heart_66 : decode cX0_heart 66 = .ok (.iaload, 1) := dk_46 (dk_at dksX0_heart_2 20 rfl rfl)
theorem dX0_heart_67 : decode cX0_heart 67 = .ok (.iconst 1, 1) := dk_4 (dk_at dksX0_heart_2 21 rfl rfl)
theorem dX0_heart_68 : decode cX0_heart 68 = .ok (.isub, 1) := dk_100 (dk_at dksX0_heart_2 22 rfl rfl)
theorem dX0_heart_69 : decode cX0_heart 69 = .ok (.ireturn, 1) := dk_172 (dk_at dksX0_heart_2 23 rfl rfl)
abbrev cX0_in : ByteArray := prog_1_method_1_code
def yX0_in : MethodName := ⟨RX0, "in", "(III)Z"⟩
def dkwX0_in_0 : List UInt8 := [26, 27, 161, 0, 12, 26, 28, 163, 0, 7, 4, 167, 0, 4, 3, 172]
abbrev dktX0_in_0 : List UInt8 := dkwX0_in_0 ++ []
theorem dksX0_in_0 : cX0_in.data.toList.drop 0 = dktX0_in_0 := by decide +kernel
theorem dX0_in_0 : decode cX0_in 0 = .ok (.iload_n 0, 1) := dk_26 (dk_at dksX0_in_0 0 rfl rfl)
theorem dX0_in_1 : decode cX0_in 1 = .ok (.iload_n 1, 1) := dk_27 (dk_at dksX0_in_0 1 rfl rfl)
theorem dX0_in_2 : decode cX0_in 2 = .ok (.if_icmp .lt 12, 3) := dk_161 0 12 (dk_at dksX0_in_0 2 rfl rfl)
theorem dX0_in_5 : decode cX0_in 5 = .ok (.iload_n 0, 1) := dk_26 (dk_at dksX0_in_0 5 rfl rfl)
theorem dX0_in_6 : decode cX0_in 6 = .ok (.iload_n 2, 1) := dk_28 (dk_at dksX0_in_0 6 rfl rfl)
theorem dX0_in_7 : decode cX0_in 7 = .ok (.if_icmp .gt 7, 3) := dk_163 0 7 (dk_at dksX0_in_0 7 rfl rfl)
theorem dX0_in_10 : decode cX0_in 10 = .ok (.iconst 1, 1) := dk_4 (dk_at dksX0_in_0 10 rfl rfl)
theorem dX0_in_11 : decode cX0_in 11 = .ok (.goto 4, 3) := dk_167 0 4 (dk_at dksX0_in_0 11 rfl rfl)
theorem dX0_in_14 : decode cX0_in 14 = .ok (.iconst 0, 1) := dk_3 (dk_at dksX0_in_0 14 rfl rfl)
theorem dX0_in_15 : decode cX0_in 15 = .ok (.ireturn, 1) := dk_172 (dk_at dksX0_in_0 15 rfl rfl)
abbrev cX0_deed : ByteArray := prog_1_method_9_code
def yX0_deed : MethodName := ⟨RX0, "deed", "(IIIII)I"⟩
def dkwX0_deed_6 : List UInt8 := [172]
abbrev dktX0_deed_6 : List UInt8 := dkwX0_deed_6 ++ []
def dkwX0_deed_5 : List UInt8 := [180, 0, 88, 21, 6, 50, 184, 0, 91, 42, 180, 0, 12, 180, 0, 74, 4, 92, 46, 4, 96, 79, 21, 6]
abbrev dktX0_deed_5 : List UInt8 := dkwX0_deed_5 ++ dktX0_deed_6
def dkwX0_deed_4 : List UInt8 := [79, 89, 6, 21, 4, 79, 89, 7, 21, 5, 79, 89, 8, 3, 79, 58, 7, 25, 7, 42, 180, 0, 12]
abbrev dktX0_deed_4 : List UInt8 := dkwX0_deed_4 ++ dktX0_deed_5
def dkwX0_deed_3 : List UInt8 := [21, 6, 16, 24, 160, 0, 5, 2, 172, 16, 6, 188, 10, 89, 3, 27, 79, 89, 4, 28, 79, 89, 5, 29]
abbrev dktX0_deed_3 : List UInt8 := dkwX0_deed_3 ++ dktX0_deed_4
def dkwX0_deed_2 : List UInt8 := [153, 0, 31, 21, 5, 2, 159, 0, 18, 42, 21, 5, 182, 0, 84, 153, 0, 16, 21, 5, 27, 159, 0, 10]
abbrev dktX0_deed_2 : List UInt8 := dkwX0_deed_2 ++ dktX0_deed_3
def dkwX0_deed_1 : List UInt8 := [184, 0, 77, 153, 0, 52, 29, 3, 16, 99, 184, 0, 77, 153, 0, 42, 21, 4, 3, 16, 7, 184, 0, 77]
abbrev dktX0_deed_1 : List UInt8 := dkwX0_deed_1 ++ dktX0_deed_2
def dkwX0_deed_0 : List UInt8 := [42, 180, 0, 12, 180, 0, 74, 4, 46, 54, 6, 42, 27, 182, 0, 84, 153, 0, 62, 28, 3, 16, 9]
abbrev dktX0_deed_0 : List UInt8 := dkwX0_deed_0 ++ dktX0_deed_1
theorem dksX0_deed_0 : cX0_deed.data.toList.drop 0 = dktX0_deed_0 := by decide +kernel
theorem dksX0_deed_1 : cX0_deed.data.toList.drop 23 = dktX0_deed_1 := dk_seg dksX0_deed_0 23 rfl rfl
theorem dksX0_deed_2 : cX0_deed.data.toList.drop 47 = dktX0_deed_2 := dk_seg dksX0_deed_1 24 rfl rfl
theorem dksX0_deed_3 : cX0_deed.data.toList.drop 71 = dktX0_deed_3 := dk_seg dksX0_deed_2 24 rfl rfl
theorem dksX0_deed_4 : cX0_deed.data.toList.drop 95 = dktX0_deed_4 := dk_seg dksX0_deed_3 24 rfl rfl
theorem dksX0_deed_5 : cX0_deed.data.toList.drop 118 = dktX0_deed_5 := dk_seg dksX0_deed_4 23 rfl rfl
theorem dksX0_deed_6 : cX0_deed.data.toList.drop 142 = dktX0_deed_6 := dk_seg dksX0_deed_5 24 rfl rfl
theorem dX0_deed_0 : decode cX0_deed 0 = .ok (.aload_n 0, 1) := dk_42 (dk_at dksX0_deed_0 0 rfl rfl)
theorem dX0_deed_1 : decode cX0_deed 1 = .ok (.getfield 12, 3) := dk_180 0 12 (dk_at dksX0_deed_0 1 rfl rfl)
theorem dX0_deed_4 : decode cX0_deed 4 = .ok (.getfield 74, 3) := dk_180 0 74 (dk_at dksX0_deed_0 4 rfl rfl)
theorem dX0_deed_7 : decode cX0_deed 7 = .ok (.iconst 1, 1) := dk_4 (dk_at dksX0_deed_0 7 rfl rfl)
theorem dX0_deed_8 : decode cX0_deed 8 = .ok (.iaload, 1) := dk_46 (dk_at dksX0_deed_0 8 rfl rfl)
theorem dX0_deed_9 : decode cX0_deed 9 = .ok (.istore 6, 2) := dk_54 6 (dk_at dksX0_deed_0 9 rfl rfl)
theorem dX0_deed_11 : decode cX0_deed 11 = .ok (.aload_n 0, 1) := dk_42 (dk_at dksX0_deed_0 11 rfl rfl)
theorem dX0_deed_12 : decode cX0_deed 12 = .ok (.iload_n 1, 1) := dk_27 (dk_at dksX0_deed_0 12 rfl rfl)
theorem dX0_deed_13 : decode cX0_deed 13 = .ok (.invokevirtual 84, 3) := dk_182 0 84 (dk_at dksX0_deed_0 13 rfl rfl)
theorem dX0_deed_16 : decode cX0_deed 16 = .ok (.ifCond .eq 62, 3) := dk_153 0 62 (dk_at dksX0_deed_0 16 rfl rfl)
theorem dX0_deed_19 : decode cX0_deed 19 = .ok (.iload_n 2, 1) := dk_28 (dk_at dksX0_deed_0 19 rfl rfl)
theorem dX0_deed_20 : decode cX0_deed 20 = .ok (.iconst 0, 1) := dk_3 (dk_at dksX0_deed_0 20 rfl rfl)
theorem dX0_deed_21 : decode cX0_deed 21 = .ok (.bipush 9, 2) := dk_16 9 (dk_at dksX0_deed_0 21 rfl rfl)
theorem dX0_deed_23 : decode cX0_deed 23 = .ok (.invokestatic 77, 3) := dk_184 0 77 (dk_at dksX0_deed_1 0 rfl rfl)
theorem dX0_deed_26 : decode cX0_deed 26 = .ok (.ifCond .eq 52, 3) := dk_153 0 52 (dk_at dksX0_deed_1 3 rfl rfl)
theorem dX0_deed_29 : decode cX0_deed 29 = .ok (.iload_n 3, 1) := dk_29 (dk_at dksX0_deed_1 6 rfl rfl)
theorem dX0_deed_30 : decode cX0_deed 30 = .ok (.iconst 0, 1) := dk_3 (dk_at dksX0_deed_1 7 rfl rfl)
theorem dX0_deed_31 : decode cX0_deed 31 = .ok (.bipush 99, 2) := dk_16 99 (dk_at dksX0_deed_1 8 rfl rfl)
theorem dX0_deed_33 : decode cX0_deed 33 = .ok (.invokestatic 77, 3) := dk_184 0 77 (dk_at dksX0_deed_1 10 rfl rfl)
theorem dX0_deed_36 : decode cX0_deed 36 = .ok (.ifCond .eq 42, 3) := dk_153 0 42 (dk_at dksX0_deed_1 13 rfl rfl)
theorem dX0_deed_39 : decode cX0_deed 39 = .ok (.iload 4, 2) := dk_21 4 (dk_at dksX0_deed_1 16 rfl rfl)
theorem dX0_deed_41 : decode cX0_deed 41 = .ok (.iconst 0, 1) := dk_3 (dk_at dksX0_deed_1 18 rfl rfl)
theorem dX0_deed_42 : decode cX0_deed 42 = .ok (.bipush 7, 2) := dk_16 7 (dk_at dksX0_deed_1 19 rfl rfl)
theorem dX0_deed_44 : decode cX0_deed 44 = .ok (.invokestatic 77, 3) := dk_184 0 77 (dk_at dksX0_deed_1 21 rfl rfl)
theorem dX0_deed_47 : decode cX0_deed 47 = .ok (.ifCond .eq 31, 3) := dk_153 0 31 (dk_at dksX0_deed_2 0 rfl rfl)
theorem dX0_deed_50 : decode cX0_deed 50 = .ok (.iload 5, 2) := dk_21 5 (dk_at dksX0_deed_2 3 rfl rfl)
theorem dX0_deed_52 : decode cX0_deed 52 = .ok (.iconst (-1), 1) := dk_2 (dk_at dksX0_deed_2 5 rfl rfl)
theorem dX0_deed_53 : decode cX0_deed 53 = .ok (.if_icmp .eq 18, 3) := dk_159 0 18 (dk_at dksX0_deed_2 6 rfl rfl)
theorem dX0_deed_56 : decode cX0_deed 56 = .ok (.aload_n 0, 1) := dk_42 (dk_at dksX0_deed_2 9 rfl rfl)
theorem dX0_deed_57 : decode cX0_deed 57 = .ok (.iload 5, 2) := dk_21 5 (dk_at dksX0_deed_2 10 rfl rfl)
theorem dX0_deed_59 : decode cX0_deed 59 = .ok (.invokevirtual 84, 3) := dk_182 0 84 (dk_at dksX0_deed_2 12 rfl rfl)
theorem dX0_deed_62 : decode cX0_deed 62 = .ok (.ifCond .eq 16, 3) := dk_153 0 16 (dk_at dksX0_deed_2 15 rfl rfl)
theorem dX0_deed_65 : decode cX0_deed 65 = .ok (.iload 5, 2) := dk_21 5 (dk_at dksX0_deed_2 18 rfl rfl)
theorem dX0_deed_67 : decode cX0_deed 67 = .ok (.iload_n 1, 1) := dk_27 (dk_at dksX0_deed_2 20 rfl rfl)
theorem dX0_deed_68 : decode cX0_deed 68 = .ok (.if_icmp .eq 10, 3) := dk_159 0 10 (dk_at dksX0_deed_2 21 rfl rfl)
theorem dX0_deed_71 : decode cX0_deed 71 = .ok (.iload 6, 2) := dk_21 6 (dk_at dksX0_deed_3 0 rfl rfl)
theorem dX0_deed_73 : decode cX0_deed 73 = .ok (.bipush 24, 2) := dk_16 24 (dk_at dksX0_deed_3 2 rfl rfl)
theorem dX0_deed_75 : decode cX0_deed 75 = .ok (.if_icmp .ne 5, 3) := dk_160 0 5 (dk_at dksX0_deed_3 4 rfl rfl)
theorem dX0_deed_78 : decode cX0_deed 78 = .ok (.iconst (-1), 1) := dk_2 (dk_at dksX0_deed_3 7 rfl rfl)
theorem dX0_deed_79 : decode cX0_deed 79 = .ok (.ireturn, 1) := dk_172 (dk_at dksX0_deed_3 8 rfl rfl)
theorem dX0_deed_80 : decode cX0_deed 80 = .ok (.bipush 6, 2) := dk_16 6 (dk_at dksX0_deed_3 9 rfl rfl)
theorem dX0_deed_82 : decode cX0_deed 82 = .ok (.newarray .int, 2) := dk_188_10 (dk_at dksX0_deed_3 11 rfl rfl)
theorem dX0_deed_84 : decode cX0_deed 84 = .ok (.dup, 1) := dk_89 (dk_at dksX0_deed_3 13 rfl rfl)
theorem dX0_deed_85 : decode cX0_deed 85 = .ok (.iconst 0, 1) := dk_3 (dk_at dksX0_deed_3 14 rfl rfl)
theorem dX0_deed_86 : decode cX0_deed 86 = .ok (.iload_n 1, 1) := dk_27 (dk_at dksX0_deed_3 15 rfl rfl)
theorem dX0_deed_87 : decode cX0_deed 87 = .ok (.iastore, 1) := dk_79 (dk_at dksX0_deed_3 16 rfl rfl)
theorem dX0_deed_88 : decode cX0_deed 88 = .ok (.dup, 1) := dk_89 (dk_at dksX0_deed_3 17 rfl rfl)
theorem dX0_deed_89 : decode cX0_deed 89 = .ok (.iconst 1, 1) := dk_4 (dk_at dksX0_deed_3 18 rfl rfl)
theorem dX0_deed_90 : decode cX0_deed 90 = .ok (.iload_n 2, 1) := dk_28 (dk_at dksX0_deed_3 19 rfl rfl)
theorem dX0_deed_91 : decode cX0_deed 91 = .ok (.iastore, 1) := dk_79 (dk_at dksX0_deed_3 20 rfl rfl)
theorem dX0_deed_92 : decode cX0_deed 92 = .ok (.dup, 1) := dk_89 (dk_at dksX0_deed_3 21 rfl rfl)
theorem dX0_deed_93 : decode cX0_deed 93 = .ok (.iconst 2, 1) := dk_5 (dk_at dksX0_deed_3 22 rfl rfl)
theorem dX0_deed_94 : decode cX0_deed 94 = .ok (.iload_n 3, 1) := dk_29 (dk_at dksX0_deed_3 23 rfl rfl)
theorem dX0_deed_95 : decode cX0_deed 95 = .ok (.iastore, 1) := dk_79 (dk_at dksX0_deed_4 0 rfl rfl)
theorem dX0_deed_96 : decode cX0_deed 96 = .ok (.dup, 1) := dk_89 (dk_at dksX0_deed_4 1 rfl rfl)
theorem dX0_deed_97 : decode cX0_deed 97 = .ok (.iconst 3, 1) := dk_6 (dk_at dksX0_deed_4 2 rfl rfl)
theorem dX0_deed_98 : decode cX0_deed 98 = .ok (.iload 4, 2) := dk_21 4 (dk_at dksX0_deed_4 3 rfl rfl)
theorem dX0_deed_100 : decode cX0_deed 100 = .ok (.iastore, 1) := dk_79 (dk_at dksX0_deed_4 5 rfl rfl)
theorem dX0_deed_101 : decode cX0_deed 101 = .ok (.dup, 1) := dk_89 (dk_at dksX0_deed_4 6 rfl rfl)
theorem dX0_deed_102 : decode cX0_deed 102 = .ok (.iconst 4, 1) := dk_7 (dk_at dksX0_deed_4 7 rfl rfl)
theorem dX0_deed_103 : decode cX0_deed 103 = .ok (.iload 5, 2) := dk_21 5 (dk_at dksX0_deed_4 8 rfl rfl)
theorem dX0_deed_105 : decode cX0_deed 105 = .ok (.iastore, 1) := dk_79 (dk_at dksX0_deed_4 10 rfl rfl)
theorem dX0_deed_106 : decode cX0_deed 106 = .ok (.dup, 1) := dk_89 (dk_at dksX0_deed_4 11 rfl rfl)
theorem dX0_deed_107 : decode cX0_deed 107 = .ok (.iconst 5, 1) := dk_8 (dk_at dksX0_deed_4 12 rfl rfl)
theorem dX0_deed_108 : decode cX0_deed 108 = .ok (.iconst 0, 1) := dk_3 (dk_at dksX0_deed_4 13 rfl rfl)
theorem dX0_deed_109 : decode cX0_deed 109 = .ok (.iastore, 1) := dk_79 (dk_at dksX0_deed_4 14 rfl rfl)
theorem dX0_deed_110 : decode cX0_deed 110 = .ok (.astore 7, 2) := dk_58 7 (dk_at dksX0_deed_4 15 rfl rfl)
theorem dX0_deed_112 : decode cX0_deed 112 = .ok (.aload 7, 2) := dk_25 7 (dk_at dksX0_deed_4 17 rfl rfl)
theorem dX0_deed_114 : decode cX0_deed 114 = .ok (.aload_n 0, 1) := dk_42 (dk_at dksX0_deed_4 19 rfl rfl)
theorem dX0_deed_115 : decode cX0_deed 115 = .ok (.getfield 12, 3) := dk_180 0 12 (dk_at dksX0_deed_4 20 rfl rfl)
theorem dX0_deed_118 : decode cX0_deed 118 = .ok (.getfield 88, 3) := dk_180 0 88 (dk_at dksX0_deed_5 0 rfl rfl)
theorem dX0_deed_121 : decode cX0_deed 121 = .ok (.iload 6, 2) := dk_21 6 (dk_at dksX0_deed_5 3 rfl rfl)
theorem dX0_deed_123 : decode cX0_deed 123 = .ok (.aaload, 1) := dk_50 (dk_at dksX0_deed_5 5 rfl rfl)
theorem dX0_deed_124 : decode cX0_deed 124 = .ok (.invokestatic 91, 3) := dk_184 0 91 (dk_at dksX0_deed_5 6 rfl rfl)
theorem dX0_deed_127 : decode cX0_deed 127 = .ok (.aload_n 0, 1) := dk_42 (dk_at dksX0_deed_5 9 rfl rfl)
theorem dX0_deed_128 : decode cX0_deed 128 = .ok (.getfield 12, 3) := dk_180 0 12 (dk_at dksX0_deed_5 10 rfl rfl)
theorem dX0_deed_131 : decode cX0_deed 131 = .ok (.getfield 74, 3) := dk_180 0 74 (dk_at dksX0_deed_5 13 rfl rfl)
theorem dX0_deed_134 : decode cX0_deed 134 = .ok (.iconst 1, 1) := dk_4 (dk_at dksX0_deed_5 16 rfl rfl)
theorem dX0_deed_135 : decode cX0_deed 135 = .ok (.dup2, 1) := dk_92 (dk_at dksX0_deed_5 17 rfl rfl)
theorem dX0_deed_136 : decode cX0_deed 136 = .ok (.iaload, 1) := dk_46 (dk_at dksX0_deed_5 18 rfl rfl)
theorem dX0_deed_137 : decode cX0_deed 137 = .ok (.iconst 1, 1) := dk_4 (dk_at dksX0_deed_5 19 rfl rfl)
theorem dX0_deed_138 : decode cX0_deed 138 = .ok (.iadd, 1) := dk_96 (dk_at dksX0_deed_5 20 rfl rfl)
theorem dX0_deed_139 : decode cX0_deed 139 = .ok (.iastore, 1) := dk_79 (dk_at dksX0_deed_5 21 rfl rfl)
theorem dX0_deed_140 : decode cX0_deed 140 = .ok (.iload 6, 2) := dk_21 6 (dk_at dksX0_deed_5 22 rfl rfl)
theorem dX0_deed_142 : decode cX0_deed 142 = .ok (.ireturn, 1) := dk_172 (dk_at dksX0_deed_6 0 rfl rfl)
abbrev cX0_isHeart : ByteArray := prog_1_method_4_code
def yX0_isHeart : MethodName := ⟨RX0, "isHeart", "(I)Z"⟩
def dkwX0_isHeart_0 : List UInt8 := [27, 3, 42, 180, 0, 12, 180, 0, 74, 3, 46, 4, 100, 184, 0, 77, 172]
abbrev dktX0_isHeart_0 : List UInt8 := dkwX0_isHeart_0 ++ []
theorem dksX0_isHeart_0 : cX0_isHeart.data.toList.drop 0 = dktX0_isHeart_0 := by decide +kernel
theorem dX0_isHeart_0 : decode cX0_isHeart 0 = .ok (.iload_n 1, 1) := dk_27 (dk_at dksX0_isHeart_0 0 rfl rfl)
theorem dX0_isHeart_1 : decode cX0_isHeart 1 = .ok (.iconst 0, 1) := dk_3 (dk_at dksX0_isHeart_0 1 rfl rfl)
theorem dX0_isHeart_2 : decode cX0_isHeart 2 = .ok (.aload_n 0, 1) := dk_42 (dk_at dksX0_isHeart_0 2 rfl rfl)
theorem dX0_isHeart_3 : decode cX0_isHeart 3 = .ok (.getfield 12, 3) := dk_180 0 12 (dk_at dksX0_isHeart_0 3 rfl rfl)
theorem dX0_isHeart_6 : decode cX0_isHeart 6 = .ok (.getfield 74, 3) := dk_180 0 74 (dk_at dksX0_isHeart_0 6 rfl rfl)
theorem dX0_isHeart_9 : decode cX0_isHeart 9 = .ok (.iconst 0, 1) := dk_3 (dk_at dksX0_isHeart_0 9 rfl rfl)
theorem dX0_isHeart_10 : decode cX0_isHeart 10 = .ok (.iaload, 1) := dk_46 (dk_at dksX0_isHeart_0 10 rfl rfl)
theorem dX0_isHeart_11 : decode cX0_isHeart 11 = .ok (.iconst 1, 1) := dk_4 (dk_at dksX0_isHeart_0 11 rfl rfl)
theorem dX0_isHeart_12 : decode cX0_isHeart 12 = .ok (.isub, 1) := dk_100 (dk_at dksX0_isHeart_0 12 rfl rfl)
theorem dX0_isHeart_13 : decode cX0_isHeart 13 = .ok (.invokestatic 77, 3) := dk_184 0 77 (dk_at dksX0_isHeart_0 13 rfl rfl)
theorem dX0_isHeart_16 : decode cX0_isHeart 16 = .ok (.ireturn, 1) := dk_172 (dk_at dksX0_isHeart_0 16 rfl rfl)
abbrev cX0_witness : ByteArray := prog_1_method_10_code
def yX0_witness : MethodName := ⟨RX0, "witness", "(II)Z"⟩
def dkwX0_witness_1 : List UInt8 := [180, 0, 12, 180, 0, 88, 27, 50, 8, 28, 79, 4, 172]
abbrev dktX0_witness_1 : List UInt8 := dkwX0_witness_1 ++ []
def dkwX0_witness_0 : List UInt8 := [42, 27, 182, 0, 95, 153, 0, 15, 28, 3, 42, 182, 0, 98, 184, 0, 77, 154, 0, 5, 3, 172, 42]
abbrev dktX0_witness_0 : List UInt8 := dkwX0_witness_0 ++ dktX0_witness_1
theorem dksX0_witness_0 : cX0_witness.data.toList.drop 0 = dktX0_witness_0 := by decide +kernel
theorem dksX0_witness_1 : cX0_witness.data.toList.drop 23 = dktX0_witness_1 := dk_seg dksX0_witness_0 23 rfl rfl
theorem dX0_witness_0 : decode cX0_witness 0 = .ok (.aload_n 0, 1) := dk_42 (dk_at dksX0_witness_0 0 rfl rfl)
theorem dX0_witness_1 : decode cX0_witness 1 = .ok (.iload_n 1, 1) := dk_27 (dk_at dksX0_witness_0 1 rfl rfl)
theorem dX0_witness_2 : decode cX0_witness 2 = .ok (.invokevirtual 95, 3) := dk_182 0 95 (dk_at dksX0_witness_0 2 rfl rfl)
theorem dX0_witness_5 : decode cX0_witness 5 = .ok (.ifCond .eq 15, 3) := dk_153 0 15 (dk_at dksX0_witness_0 5 rfl rfl)
theorem dX0_witness_8 : decode cX0_witness 8 = .ok (.iload_n 2, 1) := dk_28 (dk_at dksX0_witness_0 8 rfl rfl)
theorem dX0_witness_9 : decode cX0_witness 9 = .ok (.iconst 0, 1) := dk_3 (dk_at dksX0_witness_0 9 rfl rfl)
theorem dX0_witness_10 : decode cX0_witness 10 = .ok (.aload_n 0, 1) := dk_42 (dk_at dksX0_witness_0 10 rfl rfl)
theorem dX0_witness_11 : decode cX0_witness 11 = .ok (.invokevirtual 98, 3) := dk_182 0 98 (dk_at dksX0_witness_0 11 rfl rfl)
theorem dX0_witness_14 : decode cX0_witness 14 = .ok (.invokestatic 77, 3) := dk_184 0 77 (dk_at dksX0_witness_0 14 rfl rfl)
theorem dX0_witness_17 : decode cX0_witness 17 = .ok (.ifCond .ne 5, 3) := dk_154 0 5 (dk_at dksX0_witness_0 17 rfl rfl)
theorem dX0_witness_20 : decode cX0_witness 20 = .ok (.iconst 0, 1) := dk_3 (dk_at dksX0_witness_0 20 rfl rfl)
theorem dX0_witness_21 : decode cX0_witness 21 = .ok (.ireturn, 1) := dk_172 (dk_at dksX0_witness_0 21 rfl rfl)
theorem dX0_witness_22 : decode cX0_witness 22 = .ok (.aload_n 0, 1) := dk_42 (dk_at dksX0_witness_0 22 rfl rfl)
theorem dX0_witness_23 : decode cX0_witness 23 = .ok (.getfield 12, 3) := dk_180 0 12 (dk_at dksX0_witness_1 0 rfl rfl)
theorem dX0_witness_26 : decode cX0_witness 26 = .ok (.getfield 88, 3) := dk_180 0 88 (dk_at dksX0_witness_1 3 rfl rfl)
theorem dX0_witness_29 : decode cX0_witness 29 = .ok (.iload_n 1, 1) := dk_27 (dk_at dksX0_witness_1 6 rfl rfl)
theorem dX0_witness_30 : decode cX0_witness 30 = .ok (.aaload, 1) := dk_50 (dk_at dksX0_witness_1 7 rfl rfl)
theorem dX0_witness_31 : decode cX0_witness 31 = .ok (.iconst 5, 1) := dk_8 (dk_at dksX0_witness_1 8 rfl rfl)
theorem dX0_witness_32 : decode cX0_witness 32 = .ok (.iload_n 2, 1) := dk_28 (dk_at dksX0_witness_1 9 rfl rfl)
theorem dX0_witness_33 : decode cX0_witness 33 = .ok (.iastore, 1) := dk_79 (dk_at dksX0_witness_1 10 rfl rfl)
theorem dX0_witness_34 : decode cX0_witness 34 = .ok (.iconst 1, 1) := dk_4 (dk_at dksX0_witness_1 11 rfl rfl)
theorem dX0_witness_35 : decode cX0_witness 35 = .ok (.ireturn, 1) := dk_172 (dk_at dksX0_witness_1 12 rfl rfl)
abbrev cX0_isDeed : ByteArray := prog_1_method_5_code
def yX0_isDeed : MethodName := ⟨RX0, "isDeed", "(I)Z"⟩
def dkwX0_isDeed_0 : List UInt8 := [27, 3, 42, 180, 0, 12, 180, 0, 74, 4, 46, 4, 100, 184, 0, 77, 172]
abbrev dktX0_isDeed_0 : List UInt8 := dkwX0_isDeed_0 ++ []
theorem dksX0_isDeed_0 : cX0_isDeed.data.toList.drop 0 = dktX0_isDeed_0 := by decide +kernel
theorem dX0_isDeed_0 : decode cX0_isDeed 0 = .ok (.iload_n 1, 1) := dk_27 (dk_at dksX0_isDeed_0 0 rfl rfl)
theorem dX0_isDeed_1 : decode cX0_isDeed 1 = .ok (.iconst 0, 1) := dk_3 (dk_at dksX0_isDeed_0 1 rfl rfl)
theorem dX0_isDeed_2 : decode cX0_isDeed 2 = .ok (.aload_n 0, 1) := dk_42 (dk_at dksX0_isDeed_0 2 rfl rfl)
theorem dX0_isDeed_3 : decode cX0_isDeed 3 = .ok (.getfield 12, 3) := dk_180 0 12 (dk_at dksX0_isDeed_0 3 rfl rfl)
theorem dX0_isDeed_6 : decode cX0_isDeed 6 = .ok (.getfield 74, 3) := dk_180 0 74 (dk_at dksX0_isDeed_0 6 rfl rfl)
theorem dX0_isDeed_9 : decode cX0_isDeed 9 = .ok (.iconst 1, 1) := dk_4 (dk_at dksX0_isDeed_0 9 rfl rfl)
theorem dX0_isDeed_10 : decode cX0_isDeed 10 = .ok (.iaload, 1) := dk_46 (dk_at dksX0_isDeed_0 10 rfl rfl)
theorem dX0_isDeed_11 : decode cX0_isDeed 11 = .ok (.iconst 1, 1) := dk_4 (dk_at dksX0_isDeed_0 11 rfl rfl)
theorem dX0_isDeed_12 : decode cX0_isDeed 12 = .ok (.isub, 1) := dk_100 (dk_at dksX0_isDeed_0 12 rfl rfl)
theorem dX0_isDeed_13 : decode cX0_isDeed 13 = .ok (.invokestatic 77, 3) := dk_184 0 77 (dk_at dksX0_isDeed_0 13 rfl rfl)
theorem dX0_isDeed_16 : decode cX0_isDeed 16 = .ok (.ireturn, 1) := dk_172 (dk_at dksX0_isDeed_0 16 rfl rfl)
abbrev cX0_allHearts : ByteArray := prog_1_method_7_code
def yX0_allHearts : MethodName := ⟨RX0, "allHearts", "()I"⟩
def dkwX0_allHearts_0 : List UInt8 := [4, 42, 180, 0, 12, 180, 0, 74, 3, 46, 120, 4, 100, 172]
abbrev dktX0_allHearts_0 : List UInt8 := dkwX0_allHearts_0 ++ []
theorem dksX0_allHearts_0 : cX0_allHearts.data.toList.drop 0 = dktX0_allHearts_0 := by decide +kernel
theorem dX0_allHearts_0 : decode cX0_allHearts 0 = .ok (.iconst 1, 1) := dk_4 (dk_at dksX0_allHearts_0 0 rfl rfl)
theorem dX0_allHearts_1 : decode cX0_allHearts 1 = .ok (.aload_n 0, 1) := dk_42 (dk_at dksX0_allHearts_0 1 rfl rfl)
theorem dX0_allHearts_2 : decode cX0_allHearts 2 = .ok (.getfield 12, 3) := dk_180 0 12 (dk_at dksX0_allHearts_0 2 rfl rfl)
theorem dX0_allHearts_5 : decode cX0_allHearts 5 = .ok (.getfield 74, 3) := dk_180 0 74 (dk_at dksX0_allHearts_0 5 rfl rfl)
theorem dX0_allHearts_8 : decode cX0_allHearts 8 = .ok (.iconst 0, 1) := dk_3 (dk_at dksX0_allHearts_0 8 rfl rfl)
theorem dX0_allHearts_9 : decode cX0_allHearts 9 = .ok (.iaload, 1) := dk_46 (dk_at dksX0_allHearts_0 9 rfl rfl)
theorem dX0_allHearts_10 : decode cX0_allHearts 10 = .ok (.ishl, 1) := dk_120 (dk_at dksX0_allHearts_0 10 rfl rfl)
theorem dX0_allHearts_11 : decode cX0_allHearts 11 = .ok (.iconst 1, 1) := dk_4 (dk_at dksX0_allHearts_0 11 rfl rfl)
theorem dX0_allHearts_12 : decode cX0_allHearts 12 = .ok (.isub, 1) := dk_100 (dk_at dksX0_allHearts_0 12 rfl rfl)
theorem dX0_allHearts_13 : decode cX0_allHearts 13 = .ok (.ireturn, 1) := dk_172 (dk_at dksX0_allHearts_0 13 rfl rfl)
abbrev cX0_judge : ByteArray := prog_1_method_11_code
def yX0_judge : MethodName := ⟨RX0, "judge", "(I)I"⟩
def dkwX0_judge_2 : List UInt8 := [180, 0, 12, 180, 0, 74, 5, 92, 46, 4, 96, 79, 42, 180, 0, 12, 180, 0, 74, 5, 46, 4, 100, 172]
abbrev dktX0_judge_2 : List UInt8 := dkwX0_judge_2 ++ []
def dkwX0_judge_1 : List UInt8 := [160, 0, 5, 2, 172, 42, 180, 0, 12, 180, 0, 102, 42, 180, 0, 12, 180, 0, 74, 5, 46, 27, 79, 42]
abbrev dktX0_judge_1 : List UInt8 := dkwX0_judge_1 ++ dktX0_judge_2
def dkwX0_judge_0 : List UInt8 := [27, 4, 17, 3, 255, 184, 0, 77, 153, 0, 17, 42, 180, 0, 12, 180, 0, 74, 5, 46, 16, 8]
abbrev dktX0_judge_0 : List UInt8 := dkwX0_judge_0 ++ dktX0_judge_1
theorem dksX0_judge_0 : cX0_judge.data.toList.drop 0 = dktX0_judge_0 := by decide +kernel
theorem dksX0_judge_1 : cX0_judge.data.toList.drop 22 = dktX0_judge_1 := dk_seg dksX0_judge_0 22 rfl rfl
theorem dksX0_judge_2 : cX0_judge.data.toList.drop 46 = dktX0_judge_2 := dk_seg dksX0_judge_1 24 rfl rfl
theorem dX0_judge_0 : decode cX0_judge 0 = .ok (.iload_n 1, 1) := dk_27 (dk_at dksX0_judge_0 0 rfl rfl)
theorem dX0_judge_1 : decode cX0_judge 1 = .ok (.iconst 1, 1) := dk_4 (dk_at dksX0_judge_0 1 rfl rfl)
theorem dX0_judge_2 : decode cX0_judge 2 = .ok (.sipush 1023, 3) := dk_17 3 255 (dk_at dksX0_judge_0 2 rfl rfl)
theorem dX0_judge_5 : decode cX0_judge 5 = .ok (.invokestatic 77, 3) := dk_184 0 77 (dk_at dksX0_judge_0 5 rfl rfl)
theorem dX0_judge_8 : decode cX0_judge 8 = .ok (.ifCond .eq 17, 3) := dk_153 0 17 (dk_at dksX0_judge_0 8 rfl rfl)
theorem dX0_judge_11 : decode cX0_judge 11 = .ok (.aload_n 0, 1) := dk_42 (dk_at dksX0_judge_0 11 rfl rfl)
theorem dX0_judge_12 : decode cX0_judge 12 = .ok (.getfield 12, 3) := dk_180 0 12 (dk_at dksX0_judge_0 12 rfl rfl)
theorem dX0_judge_15 : decode cX0_judge 15 = .ok (.getfield 74, 3) := dk_180 0 74 (dk_at dksX0_judge_0 15 rfl rfl)
theorem dX0_judge_18 : decode cX0_judge 18 = .ok (.iconst 2, 1) := dk_5 (dk_at dksX0_judge_0 18 rfl rfl)
theorem dX0_judge_19 : decode cX0_judge 19 = .ok (.iaload, 1) := dk_46 (dk_at dksX0_judge_0 19 rfl rfl)
theorem dX0_judge_20 : decode cX0_judge 20 = .ok (.bipush 8, 2) := dk_16 8 (dk_at dksX0_judge_0 20 rfl rfl)
theorem dX0_judge_22 : decode cX0_judge 22 = .ok (.if_icmp .ne 5, 3) := dk_160 0 5 (dk_at dksX0_judge_1 0 rfl rfl)
theorem dX0_judge_25 : decode cX0_judge 25 = .ok (.iconst (-1), 1) := dk_2 (dk_at dksX0_judge_1 3 rfl rfl)
theorem dX0_judge_26 : decode cX0_judge 26 = .ok (.ireturn, 1) := dk_172 (dk_at dksX0_judge_1 4 rfl rfl)
theorem dX0_judge_27 : decode cX0_judge 27 = .ok (.aload_n 0, 1) := dk_42 (dk_at dksX0_judge_1 5 rfl rfl)
theorem dX0_judge_28 : decode cX0_judge 28 = .ok (.getfield 12, 3) := dk_180 0 12 (dk_at dksX0_judge_1 6 rfl rfl)
theorem dX0_judge_31 : decode cX0_judge 31 = .ok (.getfield 102, 3) := dk_180 0 102 (dk_at dksX0_judge_1 9 rfl rfl)
theorem dX0_judge_34 : decode cX0_judge 34 = .ok (.aload_n 0, 1) := dk_42 (dk_at dksX0_judge_1 12 rfl rfl)
theorem dX0_judge_35 : decode cX0_judge 35 = .ok (.getfield 12, 3) := dk_180 0 12 (dk_at dksX0_judge_1 13 rfl rfl)
theorem dX0_judge_38 : decode cX0_judge 38 = .ok (.getfield 74, 3) := dk_180 0 74 (dk_at dksX0_judge_1 16 rfl rfl)
theorem dX0_judge_41 : decode cX0_judge 41 = .ok (.iconst 2, 1) := dk_5 (dk_at dksX0_judge_1 19 rfl rfl)
theorem dX0_judge_42 : decode cX0_judge 42 = .ok (.iaload, 1) := dk_46 (dk_at dksX0_judge_1 20 rfl rfl)
theorem dX0_judge_43 : decode cX0_judge 43 = .ok (.iload_n 1, 1) := dk_27 (dk_at dksX0_judge_1 21 rfl rfl)
theorem dX0_judge_44 : decode cX0_judge 44 = .ok (.iastore, 1) := dk_79 (dk_at dksX0_judge_1 22 rfl rfl)
theorem dX0_judge_45 : decode cX0_judge 45 = .ok (.aload_n 0, 1) := dk_42 (dk_at dksX0_judge_1 23 rfl rfl)
theorem dX0_judge_46 : decode cX0_judge 46 = .ok (.getfield 12, 3) := dk_180 0 12 (dk_at dksX0_judge_2 0 rfl rfl)
theorem dX0_judge_49 : decode cX0_judge 49 = .ok (.getfield 74, 3) := dk_180 0 74 (dk_at dksX0_judge_2 3 rfl rfl)
theorem dX0_judge_52 : decode cX0_judge 52 = .ok (.iconst 2, 1) := dk_5 (dk_at dksX0_judge_2 6 rfl rfl)
theorem dX0_judge_53 : decode cX0_judge 53 = .ok (.dup2, 1) := dk_92 (dk_at dksX0_judge_2 7 rfl rfl)
theorem dX0_judge_54 : decode cX0_judge 54 = .ok (.iaload, 1) := dk_46 (dk_at dksX0_judge_2 8 rfl rfl)
theorem dX0_judge_55 : decode cX0_judge 55 = .ok (.iconst 1, 1) := dk_4 (dk_at dksX0_judge_2 9 rfl rfl)
theorem dX0_judge_56 : decode cX0_judge 56 = .ok (.iadd, 1) := dk_96 (dk_at dksX0_judge_2 10 rfl rfl)
theorem dX0_judge_57 : decode cX0_judge 57 = .ok (.iastore, 1) := dk_79 (dk_at dksX0_judge_2 11 rfl rfl)
theorem dX0_judge_58 : decode cX0_judge 58 = .ok (.aload_n 0, 1) := dk_42 (dk_at dksX0_judge_2 12 rfl rfl)
theorem dX0_judge_59 : decode cX0_judge 59 = .ok (.getfield 12, 3) := dk_180 0 12 (dk_at dksX0_judge_2 13 rfl rfl)
theorem dX0_judge_62 : decode cX0_judge 62 = .ok (.getfield 74, 3) := dk_180 0 74 (dk_at dksX0_judge_2 16 rfl rfl)
theorem dX0_judge_65 : decode cX0_judge 65 = .ok (.iconst 2, 1) := dk_5 (dk_at dksX0_judge_2 19 rfl rfl)
theorem dX0_judge_66 : decode cX0_judge 66 = .ok (.iaload, 1) := dk_46 (dk_at dksX0_judge_2 20 rfl rfl)
theorem dX0_judge_67 : decode cX0_judge 67 = .ok (.iconst 1, 1) := dk_4 (dk_at dksX0_judge_2 21 rfl rfl)
theorem dX0_judge_68 : decode cX0_judge 68 = .ok (.isub, 1) := dk_100 (dk_at dksX0_judge_2 22 rfl rfl)
theorem dX0_judge_69 : decode cX0_judge 69 = .ok (.ireturn, 1) := dk_172 (dk_at dksX0_judge_2 23 rfl rfl)
abbrev cX0_stick : ByteArray := prog_1_method_12_code
def yX0_stick : MethodName := ⟨RX0, "stick", "(I)Z"⟩
def dkwX0_stick_0 : List UInt8 := [27, 3, 16, 99, 184, 0, 77, 154, 0, 5, 3, 172, 42, 180, 0, 12, 180, 0, 74, 6, 27, 79, 4, 172]
abbrev dktX0_stick_0 : List UInt8 := dkwX0_stick_0 ++ []
theorem dksX0_stick_0 : cX0_stick.data.toList.drop 0 = dktX0_stick_0 := by decide +kernel
theorem dX0_stick_0 : decode cX0_stick 0 = .ok (.iload_n 1, 1) := dk_27 (dk_at dksX0_stick_0 0 rfl rfl)
theorem dX0_stick_1 : decode cX0_stick 1 = .ok (.iconst 0, 1) := dk_3 (dk_at dksX0_stick_0 1 rfl rfl)
theorem dX0_stick_2 : decode cX0_stick 2 = .ok (.bipush 99, 2) := dk_16 99 (dk_at dksX0_stick_0 2 rfl rfl)
theorem dX0_stick_4 : decode cX0_stick 4 = .ok (.invokestatic 77, 3) := dk_184 0 77 (dk_at dksX0_stick_0 4 rfl rfl)
theorem dX0_stick_7 : decode cX0_stick 7 = .ok (.ifCond .ne 5, 3) := dk_154 0 5 (dk_at dksX0_stick_0 7 rfl rfl)
theorem dX0_stick_10 : decode cX0_stick 10 = .ok (.iconst 0, 1) := dk_3 (dk_at dksX0_stick_0 10 rfl rfl)
theorem dX0_stick_11 : decode cX0_stick 11 = .ok (.ireturn, 1) := dk_172 (dk_at dksX0_stick_0 11 rfl rfl)
theorem dX0_stick_12 : decode cX0_stick 12 = .ok (.aload_n 0, 1) := dk_42 (dk_at dksX0_stick_0 12 rfl rfl)
theorem dX0_stick_13 : decode cX0_stick 13 = .ok (.getfield 12, 3) := dk_180 0 12 (dk_at dksX0_stick_0 13 rfl rfl)
theorem dX0_stick_16 : decode cX0_stick 16 = .ok (.getfield 74, 3) := dk_180 0 74 (dk_at dksX0_stick_0 16 rfl rfl)
theorem dX0_stick_19 : decode cX0_stick 19 = .ok (.iconst 3, 1) := dk_6 (dk_at dksX0_stick_0 19 rfl rfl)
theorem dX0_stick_20 : decode cX0_stick 20 = .ok (.iload_n 1, 1) := dk_27 (dk_at dksX0_stick_0 20 rfl rfl)
theorem dX0_stick_21 : decode cX0_stick 21 = .ok (.iastore, 1) := dk_79 (dk_at dksX0_stick_0 21 rfl rfl)
theorem dX0_stick_22 : decode cX0_stick 22 = .ok (.iconst 1, 1) := dk_4 (dk_at dksX0_stick_0 22 rfl rfl)
theorem dX0_stick_23 : decode cX0_stick 23 = .ok (.ireturn, 1) := dk_172 (dk_at dksX0_stick_0 23 rfl rfl)
abbrev cX0_bond : ByteArray := prog_1_method_13_code
def yX0_bond : MethodName := ⟨RX0, "bond", "(III)Z"⟩
def dkwX0_bond_1 : List UInt8 := [16, 99, 184, 0, 77, 154, 0, 5, 3, 172, 42, 180, 0, 12, 180, 0, 105, 27, 50, 28, 29, 79, 4, 172]
abbrev dktX0_bond_1 : List UInt8 := dkwX0_bond_1 ++ []
def dkwX0_bond_0 : List UInt8 := [42, 27, 182, 0, 84, 153, 0, 26, 42, 28, 182, 0, 84, 153, 0, 18, 27, 28, 159, 0, 13, 29, 3]
abbrev dktX0_bond_0 : List UInt8 := dkwX0_bond_0 ++ dktX0_bond_1
theorem dksX0_bond_0 : cX0_bond.data.toList.drop 0 = dktX0_bond_0 := by decide +kernel
theorem dksX0_bond_1 : cX0_bond.data.toList.drop 23 = dktX0_bond_1 := dk_seg dksX0_bond_0 23 rfl rfl
theorem dX0_bond_0 : decode cX0_bond 0 = .ok (.aload_n 0, 1) := dk_42 (dk_at dksX0_bond_0 0 rfl rfl)
theorem dX0_bond_1 : decode cX0_bond 1 = .ok (.iload_n 1, 1) := dk_27 (dk_at dksX0_bond_0 1 rfl rfl)
theorem dX0_bond_2 : decode cX0_bond 2 = .ok (.invokevirtual 84, 3) := dk_182 0 84 (dk_at dksX0_bond_0 2 rfl rfl)
theorem dX0_bond_5 : decode cX0_bond 5 = .ok (.ifCond .eq 26, 3) := dk_153 0 26 (dk_at dksX0_bond_0 5 rfl rfl)
theorem dX0_bond_8 : decode cX0_bond 8 = .ok (.aload_n 0, 1) := dk_42 (dk_at dksX0_bond_0 8 rfl rfl)
theorem dX0_bond_9 : decode cX0_bond 9 = .ok (.iload_n 2, 1) := dk_28 (dk_at dksX0_bond_0 9 rfl rfl)
theorem dX0_bond_10 : decode cX0_bond 10 = .ok (.invokevirtual 84, 3) := dk_182 0 84 (dk_at dksX0_bond_0 10 rfl rfl)
theorem dX0_bond_13 : decode cX0_bond 13 = .ok (.ifCond .eq 18, 3) := dk_153 0 18 (dk_at dksX0_bond_0 13 rfl rfl)
theorem dX0_bond_16 : decode cX0_bond 16 = .ok (.iload_n 1, 1) := dk_27 (dk_at dksX0_bond_0 16 rfl rfl)
theorem dX0_bond_17 : decode cX0_bond 17 = .ok (.iload_n 2, 1) := dk_28 (dk_at dksX0_bond_0 17 rfl rfl)
theorem dX0_bond_18 : decode cX0_bond 18 = .ok (.if_icmp .eq 13, 3) := dk_159 0 13 (dk_at dksX0_bond_0 18 rfl rfl)
theorem dX0_bond_21 : decode cX0_bond 21 = .ok (.iload_n 3, 1) := dk_29 (dk_at dksX0_bond_0 21 rfl rfl)
theorem dX0_bond_22 : decode cX0_bond 22 = .ok (.iconst 0, 1) := dk_3 (dk_at dksX0_bond_0 22 rfl rfl)
theorem dX0_bond_23 : decode cX0_bond 23 = .ok (.bipush 99, 2) := dk_16 99 (dk_at dksX0_bond_1 0 rfl rfl)
theorem dX0_bond_25 : decode cX0_bond 25 = .ok (.invokestatic 77, 3) := dk_184 0 77 (dk_at dksX0_bond_1 2 rfl rfl)
theorem dX0_bond_28 : decode cX0_bond 28 = .ok (.ifCond .ne 5, 3) := dk_154 0 5 (dk_at dksX0_bond_1 5 rfl rfl)
theorem dX0_bond_31 : decode cX0_bond 31 = .ok (.iconst 0, 1) := dk_3 (dk_at dksX0_bond_1 8 rfl rfl)
theorem dX0_bond_32 : decode cX0_bond 32 = .ok (.ireturn, 1) := dk_172 (dk_at dksX0_bond_1 9 rfl rfl)
theorem dX0_bond_33 : decode cX0_bond 33 = .ok (.aload_n 0, 1) := dk_42 (dk_at dksX0_bond_1 10 rfl rfl)
theorem dX0_bond_34 : decode cX0_bond 34 = .ok (.getfield 12, 3) := dk_180 0 12 (dk_at dksX0_bond_1 11 rfl rfl)
theorem dX0_bond_37 : decode cX0_bond 37 = .ok (.getfield 105, 3) := dk_180 0 105 (dk_at dksX0_bond_1 14 rfl rfl)
theorem dX0_bond_40 : decode cX0_bond 40 = .ok (.iload_n 1, 1) := dk_27 (dk_at dksX0_bond_1 17 rfl rfl)
theorem dX0_bond_41 : decode cX0_bond 41 = .ok (.aaload, 1) := dk_50 (dk_at dksX0_bond_1 18 rfl rfl)
theorem dX0_bond_42 : decode cX0_bond 42 = .ok (.iload_n 2, 1) := dk_28 (dk_at dksX0_bond_1 19 rfl rfl)
theorem dX0_bond_43 : decode cX0_bond 43 = .ok (.iload_n 3, 1) := dk_29 (dk_at dksX0_bond_1 20 rfl rfl)
theorem dX0_bond_44 : decode cX0_bond 44 = .ok (.iastore, 1) := dk_79 (dk_at dksX0_bond_1 21 rfl rfl)
theorem dX0_bond_45 : decode cX0_bond 45 = .ok (.iconst 1, 1) := dk_4 (dk_at dksX0_bond_1 22 rfl rfl)
theorem dX0_bond_46 : decode cX0_bond 46 = .ok (.ireturn, 1) := dk_172 (dk_at dksX0_bond_1 23 rfl rfl)
abbrev cX0_feed : ByteArray := prog_1_method_15_code
def yX0_feed : MethodName := ⟨RX0, "feed", "(IIIII)I"⟩
def dkwX0_feed_2 : List UInt8 := [172]
abbrev dktX0_feed_2 : List UInt8 := dkwX0_feed_2 ++ []
def dkwX0_feed_1 : List UInt8 := [182, 0, 111, 42, 29, 182, 0, 111, 42, 21, 4, 182, 0, 111, 42, 21, 5, 182, 0, 111, 42, 180, 0, 108]
abbrev dktX0_feed_1 : List UInt8 := dkwX0_feed_1 ++ dktX0_feed_2
def dkwX0_feed_0 : List UInt8 := [42, 180, 0, 108, 16, 20, 96, 17, 1, 44, 164, 0, 5, 2, 172, 42, 27, 182, 0, 111, 42, 28]
abbrev dktX0_feed_0 : List UInt8 := dkwX0_feed_0 ++ dktX0_feed_1
theorem dksX0_feed_0 : cX0_feed.data.toList.drop 0 = dktX0_feed_0 := by decide +kernel
theorem dksX0_feed_1 : cX0_feed.data.toList.drop 22 = dktX0_feed_1 := dk_seg dksX0_feed_0 22 rfl rfl
theorem dksX0_feed_2 : cX0_feed.data.toList.drop 46 = dktX0_feed_2 := dk_seg dksX0_feed_1 24 rfl rfl
theorem dX0_feed_0 : decode cX0_feed 0 = .ok (.aload_n 0, 1) := dk_42 (dk_at dksX0_feed_0 0 rfl rfl)
theorem dX0_feed_1 : decode cX0_feed 1 = .ok (.getfield 108, 3) := dk_180 0 108 (dk_at dksX0_feed_0 1 rfl rfl)
theorem dX0_feed_4 : decode cX0_feed 4 = .ok (.bipush 20, 2) := dk_16 20 (dk_at dksX0_feed_0 4 rfl rfl)
theorem dX0_feed_6 : decode cX0_feed 6 = .ok (.iadd, 1) := dk_96 (dk_at dksX0_feed_0 6 rfl rfl)
theorem dX0_feed_7 : decode cX0_feed 7 = .ok (.sipush 300, 3) := dk_17 1 44 (dk_at dksX0_feed_0 7 rfl rfl)
theorem dX0_feed_10 : decode cX0_feed 10 = .ok (.if_icmp .le 5, 3) := dk_164 0 5 (dk_at dksX0_feed_0 10 rfl rfl)
theorem dX0_feed_13 : decode cX0_feed 13 = .ok (.iconst (-1), 1) := dk_2 (dk_at dksX0_feed_0 13 rfl rfl)
theorem dX0_feed_14 : decode cX0_feed 14 = .ok (.ireturn, 1) := dk_172 (dk_at dksX0_feed_0 14 rfl rfl)
theorem dX0_feed_15 : decode cX0_feed 15 = .ok (.aload_n 0, 1) := dk_42 (dk_at dksX0_feed_0 15 rfl rfl)
theorem dX0_feed_16 : decode cX0_feed 16 = .ok (.iload_n 1, 1) := dk_27 (dk_at dksX0_feed_0 16 rfl rfl)
theorem dX0_feed_17 : decode cX0_feed 17 = .ok (.invokevirtual 111, 3) := dk_182 0 111 (dk_at dksX0_feed_0 17 rfl rfl)
theorem dX0_feed_20 : decode cX0_feed 20 = .ok (.aload_n 0, 1) := dk_42 (dk_at dksX0_feed_0 20 rfl rfl)
theorem dX0_feed_21 : decode cX0_feed 21 = .ok (.iload_n 2, 1) := dk_28 (dk_at dksX0_feed_0 21 rfl rfl)
theorem dX0_feed_22 : decode cX0_feed 22 = .ok (.invokevirtual 111, 3) := dk_182 0 111 (dk_at dksX0_feed_1 0 rfl rfl)
theorem dX0_feed_25 : decode cX0_feed 25 = .ok (.aload_n 0, 1) := dk_42 (dk_at dksX0_feed_1 3 rfl rfl)
theorem dX0_feed_26 : decode cX0_feed 26 = .ok (.iload_n 3, 1) := dk_29 (dk_at dksX0_feed_1 4 rfl rfl)
theorem dX0_feed_27 : decode cX0_feed 27 = .ok (.invokevirtual 111, 3) := dk_182 0 111 (dk_at dksX0_feed_1 5 rfl rfl)
theorem dX0_feed_30 : decode cX0_feed 30 = .ok (.aload_n 0, 1) := dk_42 (dk_at dksX0_feed_1 8 rfl rfl)
theorem dX0_feed_31 : decode cX0_feed 31 = .ok (.iload 4, 2) := dk_21 4 (dk_at dksX0_feed_1 9 rfl rfl)
theorem dX0_feed_33 : decode cX0_feed 33 = .ok (.invokevirtual 111, 3) := dk_182 0 111 (dk_at dksX0_feed_1 11 rfl rfl)
theorem dX0_feed_36 : decode cX0_feed 36 = .ok (.aload_n 0, 1) := dk_42 (dk_at dksX0_feed_1 14 rfl rfl)
theorem dX0_feed_37 : decode cX0_feed 37 = .ok (.iload 5, 2) := dk_21 5 (dk_at dksX0_feed_1 15 rfl rfl)
theorem dX0_feed_39 : decode cX0_feed 39 = .ok (.invokevirtual 111, 3) := dk_182 0 111 (dk_at dksX0_feed_1 17 rfl rfl)
theorem dX0_feed_42 : decode cX0_feed 42 = .ok (.aload_n 0, 1) := dk_42 (dk_at dksX0_feed_1 20 rfl rfl)
theorem dX0_feed_43 : decode cX0_feed 43 = .ok (.getfield 108, 3) := dk_180 0 108 (dk_at dksX0_feed_1 21 rfl rfl)
theorem dX0_feed_46 : decode cX0_feed 46 = .ok (.ireturn, 1) := dk_172 (dk_at dksX0_feed_2 0 rfl rfl)
abbrev cX0_put : ByteArray := prog_1_method_14_code
def yX0_put : MethodName := ⟨RX0, "put", "(I)V"⟩
def dkwX0_put_1 : List UInt8 := [180, 0, 108, 4, 96, 181, 0, 108, 132, 2, 248, 167, 255, 226, 177]
abbrev dktX0_put_1 : List UInt8 := dkwX0_put_1 ++ []
def dkwX0_put_0 : List UInt8 := [16, 24, 61, 28, 155, 0, 32, 42, 180, 0, 19, 42, 180, 0, 108, 27, 28, 122, 145, 84, 42, 89]
abbrev dktX0_put_0 : List UInt8 := dkwX0_put_0 ++ dktX0_put_1
theorem dksX0_put_0 : cX0_put.data.toList.drop 0 = dktX0_put_0 := by decide +kernel
theorem dksX0_put_1 : cX0_put.data.toList.drop 22 = dktX0_put_1 := dk_seg dksX0_put_0 22 rfl rfl
theorem dX0_put_0 : decode cX0_put 0 = .ok (.bipush 24, 2) := dk_16 24 (dk_at dksX0_put_0 0 rfl rfl)
theorem dX0_put_2 : decode cX0_put 2 = .ok (.istore_n 2, 1) := dk_61 (dk_at dksX0_put_0 2 rfl rfl)
theorem dX0_put_3 : decode cX0_put 3 = .ok (.iload_n 2, 1) := dk_28 (dk_at dksX0_put_0 3 rfl rfl)
theorem dX0_put_4 : decode cX0_put 4 = .ok (.ifCond .lt 32, 3) := dk_155 0 32 (dk_at dksX0_put_0 4 rfl rfl)
theorem dX0_put_7 : decode cX0_put 7 = .ok (.aload_n 0, 1) := dk_42 (dk_at dksX0_put_0 7 rfl rfl)
theorem dX0_put_8 : decode cX0_put 8 = .ok (.getfield 19, 3) := dk_180 0 19 (dk_at dksX0_put_0 8 rfl rfl)
theorem dX0_put_11 : decode cX0_put 11 = .ok (.aload_n 0, 1) := dk_42 (dk_at dksX0_put_0 11 rfl rfl)
theorem dX0_put_12 : decode cX0_put 12 = .ok (.getfield 108, 3) := dk_180 0 108 (dk_at dksX0_put_0 12 rfl rfl)
theorem dX0_put_15 : decode cX0_put 15 = .ok (.iload_n 1, 1) := dk_27 (dk_at dksX0_put_0 15 rfl rfl)
theorem dX0_put_16 : decode cX0_put 16 = .ok (.iload_n 2, 1) := dk_28 (dk_at dksX0_put_0 16 rfl rfl)
theorem dX0_put_17 : decode cX0_put 17 = .ok (.ishr, 1) := dk_122 (dk_at dksX0_put_0 17 rfl rfl)
theorem dX0_put_18 : decode cX0_put 18 = .ok (.i2b, 1) := dk_145 (dk_at dksX0_put_0 18 rfl rfl)
theorem dX0_put_19 : decode cX0_put 19 = .ok (.bastore, 1) := dk_84 (dk_at dksX0_put_0 19 rfl rfl)
theorem dX0_put_20 : decode cX0_put 20 = .ok (.aload_n 0, 1) := dk_42 (dk_at dksX0_put_0 20 rfl rfl)
theorem dX0_put_21 : decode cX0_put 21 = .ok (.dup, 1) := dk_89 (dk_at dksX0_put_0 21 rfl rfl)
theorem dX0_put_22 : decode cX0_put 22 = .ok (.getfield 108, 3) := dk_180 0 108 (dk_at dksX0_put_1 0 rfl rfl)
theorem dX0_put_25 : decode cX0_put 25 = .ok (.iconst 1, 1) := dk_4 (dk_at dksX0_put_1 3 rfl rfl)
theorem dX0_put_26 : decode cX0_put 26 = .ok (.iadd, 1) := dk_96 (dk_at dksX0_put_1 4 rfl rfl)
theorem dX0_put_27 : decode cX0_put 27 = .ok (.putfield 108, 3) := dk_181 0 108 (dk_at dksX0_put_1 5 rfl rfl)
theorem dX0_put_30 : decode cX0_put 30 = .ok (.iinc 2 (-8), 3) := dk_132 2 248 (dk_at dksX0_put_1 8 rfl rfl)
theorem dX0_put_33 : decode cX0_put 33 = .ok (.goto (-30), 3) := dk_167 255 226 (dk_at dksX0_put_1 11 rfl rfl)
theorem dX0_put_36 : decode cX0_put 36 = .ok (.return_, 1) := dk_177 (dk_at dksX0_put_1 14 rfl rfl)
abbrev cX0_end : ByteArray := prog_1_method_16_code
def yX0_end : MethodName := ⟨RX0, "end", "(I)I"⟩
def dkwX0_end_0 : List UInt8 := [27, 3, 42, 180, 0, 108, 184, 0, 77, 154, 0, 5, 2, 172, 42, 27, 181, 0, 108, 27, 172]
abbrev dktX0_end_0 : List UInt8 := dkwX0_end_0 ++ []
theorem dksX0_end_0 : cX0_end.data.toList.drop 0 = dktX0_end_0 := by decide +kernel
theorem dX0_end_0 : decode cX0_end 0 = .ok (.iload_n 1, 1) := dk_27 (dk_at dksX0_end_0 0 rfl rfl)
theorem dX0_end_1 : decode cX0_end 1 = .ok (.iconst 0, 1) := dk_3 (dk_at dksX0_end_0 1 rfl rfl)
theorem dX0_end_2 : decode cX0_end 2 = .ok (.aload_n 0, 1) := dk_42 (dk_at dksX0_end_0 2 rfl rfl)
theorem dX0_end_3 : decode cX0_end 3 = .ok (.getfield 108, 3) := dk_180 0 108 (dk_at dksX0_end_0 3 rfl rfl)
theorem dX0_end_6 : decode cX0_end 6 = .ok (.invokestatic 77, 3) := dk_184 0 77 (dk_at dksX0_end_0 6 rfl rfl)
theorem dX0_end_9 : decode cX0_end 9 = .ok (.ifCond .ne 5, 3) := dk_154 0 5 (dk_at dksX0_end_0 9 rfl rfl)
theorem dX0_end_12 : decode cX0_end 12 = .ok (.iconst (-1), 1) := dk_2 (dk_at dksX0_end_0 12 rfl rfl)
theorem dX0_end_13 : decode cX0_end 13 = .ok (.ireturn, 1) := dk_172 (dk_at dksX0_end_0 13 rfl rfl)
theorem dX0_end_14 : decode cX0_end 14 = .ok (.aload_n 0, 1) := dk_42 (dk_at dksX0_end_0 14 rfl rfl)
theorem dX0_end_15 : decode cX0_end 15 = .ok (.iload_n 1, 1) := dk_27 (dk_at dksX0_end_0 15 rfl rfl)
theorem dX0_end_16 : decode cX0_end 16 = .ok (.putfield 108, 3) := dk_181 0 108 (dk_at dksX0_end_0 16 rfl rfl)
theorem dX0_end_19 : decode cX0_end 19 = .ok (.iload_n 1, 1) := dk_27 (dk_at dksX0_end_0 19 rfl rfl)
theorem dX0_end_20 : decode cX0_end 20 = .ok (.ireturn, 1) := dk_172 (dk_at dksX0_end_0 20 rfl rfl)
abbrev cX0_text : ByteArray := prog_1_method_17_code
def yX0_text : MethodName := ⟨RX0, "text", "()I"⟩
def dkwX0_text_5 : List UInt8 := [79, 42, 180, 0, 12, 180, 0, 74, 7, 46, 4, 100, 172]
abbrev dktX0_text_5 : List UInt8 := dkwX0_text_5 ++ []
def dkwX0_text_4 : List UInt8 := [29, 172, 58, 4, 42, 3, 181, 0, 108, 25, 4, 191, 42, 180, 0, 12, 180, 0, 74, 7, 92, 46, 4, 96]
abbrev dktX0_text_4 : List UInt8 := dkwX0_text_4 ++ dktX0_text_5
def dkwX0_text_3 : List UInt8 := [77, 42, 44, 180, 0, 130, 181, 0, 23, 42, 44, 180, 0, 131, 181, 0, 27, 2, 62, 42, 3, 181, 0, 108]
abbrev dktX0_text_3 : List UInt8 := dkwX0_text_3 ++ dktX0_text_4
def dkwX0_text_2 : List UInt8 := [187, 0, 119, 89, 42, 180, 0, 19, 27, 183, 0, 121, 182, 0, 124, 83, 42, 3, 181, 0, 108, 167, 0, 39]
abbrev dktX0_text_2 : List UInt8 := dkwX0_text_2 ++ dktX0_text_3
def dkwX0_text_1 : List UInt8 := [181, 0, 23, 42, 2, 181, 0, 27, 42, 180, 0, 12, 180, 0, 115, 42, 180, 0, 12, 180, 0, 74, 7, 46]
abbrev dktX0_text_1 : List UInt8 := dkwX0_text_1 ++ dktX0_text_2
def dkwX0_text_0 : List UInt8 := [42, 180, 0, 12, 180, 0, 74, 7, 46, 7, 160, 0, 5, 2, 172, 42, 180, 0, 108, 60, 42, 3]
abbrev dktX0_text_0 : List UInt8 := dkwX0_text_0 ++ dktX0_text_1
theorem dksX0_text_0 : cX0_text.data.toList.drop 0 = dktX0_text_0 := by decide +kernel
theorem dksX0_text_1 : cX0_text.data.toList.drop 22 = dktX0_text_1 := dk_seg dksX0_text_0 22 rfl rfl
theorem dksX0_text_2 : cX0_text.data.toList.drop 46 = dktX0_text_2 := dk_seg dksX0_text_1 24 rfl rfl
theorem dksX0_text_3 : cX0_text.data.toList.drop 70 = dktX0_text_3 := dk_seg dksX0_text_2 24 rfl rfl
theorem dksX0_text_4 : cX0_text.data.toList.drop 94 = dktX0_text_4 := dk_seg dksX0_text_3 24 rfl rfl
theorem dksX0_text_5 : cX0_text.data.toList.drop 118 = dktX0_text_5 := dk_seg dksX0_text_4 24 rfl rfl
theorem dX0_text_0 : decode cX0_text 0 = .ok (.aload_n 0, 1) := dk_42 (dk_at dksX0_text_0 0 rfl rfl)
theorem dX0_text_1 : decode cX0_text 1 = .ok (.getfield 12, 3) := dk_180 0 12 (dk_at dksX0_text_0 1 rfl rfl)
theorem dX0_text_4 : decode cX0_text 4 = .ok (.getfield 74, 3) := dk_180 0 74 (dk_at dksX0_text_0 4 rfl rfl)
theorem dX0_text_7 : decode cX0_text 7 = .ok (.iconst 4, 1) := dk_7 (dk_at dksX0_text_0 7 rfl rfl)
theorem dX0_text_8 : decode cX0_text 8 = .ok (.iaload, 1) := dk_46 (dk_at dksX0_text_0 8 rfl rfl)
theorem dX0_text_9 : decode cX0_text 9 = .ok (.iconst 4, 1) := dk_7 (dk_at dksX0_text_0 9 rfl rfl)
theorem dX0_text_10 : decode cX0_text 10 = .ok (.if_icmp .ne 5, 3) := dk_160 0 5 (dk_at dksX0_text_0 10 rfl rfl)
theorem dX0_text_13 : decode cX0_text 13 = .ok (.iconst (-1), 1) := dk_2 (dk_at dksX0_text_0 13 rfl rfl)
theorem dX0_text_14 : decode cX0_text 14 = .ok (.ireturn, 1) := dk_172 (dk_at dksX0_text_0 14 rfl rfl)
theorem dX0_text_15 : decode cX0_text 15 = .ok (.aload_n 0, 1) := dk_42 (dk_at dksX0_text_0 15 rfl rfl)
theorem dX0_text_16 : decode cX0_text 16 = .ok (.getfield 108, 3) := dk_180 0 108 (dk_at dksX0_text_0 16 rfl rfl)
theorem dX0_text_19 : decode cX0_text 19 = .ok (.istore_n 1, 1) := dk_60 (dk_at dksX0_text_0 19 rfl rfl)
theorem dX0_text_20 : decode cX0_text 20 = .ok (.aload_n 0, 1) := dk_42 (dk_at dksX0_text_0 20 rfl rfl)
theorem dX0_text_21 : decode cX0_text 21 = .ok (.iconst 0, 1) := dk_3 (dk_at dksX0_text_0 21 rfl rfl)
theorem dX0_text_22 : decode cX0_text 22 = .ok (.putfield 23, 3) := dk_181 0 23 (dk_at dksX0_text_1 0 rfl rfl)
theorem dX0_text_25 : decode cX0_text 25 = .ok (.aload_n 0, 1) := dk_42 (dk_at dksX0_text_1 3 rfl rfl)
theorem dX0_text_26 : decode cX0_text 26 = .ok (.iconst (-1), 1) := dk_2 (dk_at dksX0_text_1 4 rfl rfl)
theorem dX0_text_27 : decode cX0_text 27 = .ok (.putfield 27, 3) := dk_181 0 27 (dk_at dksX0_text_1 5 rfl rfl)
theorem dX0_text_30 : decode cX0_text 30 = .ok (.aload_n 0, 1) := dk_42 (dk_at dksX0_text_1 8 rfl rfl)
theorem dX0_text_31 : decode cX0_text 31 = .ok (.getfield 12, 3) := dk_180 0 12 (dk_at dksX0_text_1 9 rfl rfl)
theorem dX0_text_34 : decode cX0_text 34 = .ok (.getfield 115, 3) := dk_180 0 115 (dk_at dksX0_text_1 12 rfl rfl)
theorem dX0_text_37 : decode cX0_text 37 = .ok (.aload_n 0, 1) := dk_42 (dk_at dksX0_text_1 15 rfl rfl)
theorem dX0_text_38 : decode cX0_text 38 = .ok (.getfield 12, 3) := dk_180 0 12 (dk_at dksX0_text_1 16 rfl rfl)
theorem dX0_text_41 : decode cX0_text 41 = .ok (.getfield 74, 3) := dk_180 0 74 (dk_at dksX0_text_1 19 rfl rfl)
theorem dX0_text_44 : decode cX0_text 44 = .ok (.iconst 4, 1) := dk_7 (dk_at dksX0_text_1 22 rfl rfl)
theorem dX0_text_45 : decode cX0_text 45 = .ok (.iaload, 1) := dk_46 (dk_at dksX0_text_1 23 rfl rfl)
theorem dX0_text_46 : decode cX0_text 46 = .ok (.new 119, 3) := dk_187 0 119 (dk_at dksX0_text_2 0 rfl rfl)
theorem dX0_text_49 : decode cX0_text 49 = .ok (.dup, 1) := dk_89 (dk_at dksX0_text_2 3 rfl rfl)
theorem dX0_text_50 : decode cX0_text 50 = .ok (.aload_n 0, 1) := dk_42 (dk_at dksX0_text_2 4 rfl rfl)
theorem dX0_text_51 : decode cX0_text 51 = .ok (.getfield 19, 3) := dk_180 0 19 (dk_at dksX0_text_2 5 rfl rfl)
theorem dX0_text_54 : decode cX0_text 54 = .ok (.iload_n 1, 1) := dk_27 (dk_at dksX0_text_2 8 rfl rfl)
theorem dX0_text_55 : decode cX0_text 55 = .ok (.invokespecial 121, 3) := dk_183 0 121 (dk_at dksX0_text_2 9 rfl rfl)
theorem dX0_text_58 : decode cX0_text 58 = .ok (.invokevirtual 124, 3) := dk_182 0 124 (dk_at dksX0_text_2 12 rfl rfl)
theorem dX0_text_61 : decode cX0_text 61 = .ok (.aastore, 1) := dk_83 (dk_at dksX0_text_2 15 rfl rfl)
theorem dX0_text_62 : decode cX0_text 62 = .ok (.aload_n 0, 1) := dk_42 (dk_at dksX0_text_2 16 rfl rfl)
theorem dX0_text_63 : decode cX0_text 63 = .ok (.iconst 0, 1) := dk_3 (dk_at dksX0_text_2 17 rfl rfl)
theorem dX0_text_64 : decode cX0_text 64 = .ok (.putfield 108, 3) := dk_181 0 108 (dk_at dksX0_text_2 18 rfl rfl)
theorem dX0_text_67 : decode cX0_text 67 = .ok (.goto 39, 3) := dk_167 0 39 (dk_at dksX0_text_2 21 rfl rfl)
theorem dX0_text_70 : decode cX0_text 70 = .ok (.astore_n 2, 1) := dk_77 (dk_at dksX0_text_3 0 rfl rfl)
theorem dX0_text_71 : decode cX0_text 71 = .ok (.aload_n 0, 1) := dk_42 (dk_at dksX0_text_3 1 rfl rfl)
theorem dX0_text_72 : decode cX0_text 72 = .ok (.aload_n 2, 1) := dk_44 (dk_at dksX0_text_3 2 rfl rfl)
theorem dX0_text_73 : decode cX0_text 73 = .ok (.getfield 130, 3) := dk_180 0 130 (dk_at dksX0_text_3 3 rfl rfl)
theorem dX0_text_76 : decode cX0_text 76 = .ok (.putfield 23, 3) := dk_181 0 23 (dk_at dksX0_text_3 6 rfl rfl)
theorem dX0_text_79 : decode cX0_text 79 = .ok (.aload_n 0, 1) := dk_42 (dk_at dksX0_text_3 9 rfl rfl)
theorem dX0_text_80 : decode cX0_text 80 = .ok (.aload_n 2, 1) := dk_44 (dk_at dksX0_text_3 10 rfl rfl)
theorem dX0_text_81 : decode cX0_text 81 = .ok (.getfield 131, 3) := dk_180 0 131 (dk_at dksX0_text_3 11 rfl rfl)
theorem dX0_text_84 : decode cX0_text 84 = .ok (.putfield 27, 3) := dk_181 0 27 (dk_at dksX0_text_3 14 rfl rfl)
theorem dX0_text_87 : decode cX0_text 87 = .ok (.iconst (-1), 1) := dk_2 (dk_at dksX0_text_3 17 rfl rfl)
theorem dX0_text_88 : decode cX0_text 88 = .ok (.istore_n 3, 1) := dk_62 (dk_at dksX0_text_3 18 rfl rfl)
theorem dX0_text_89 : decode cX0_text 89 = .ok (.aload_n 0, 1) := dk_42 (dk_at dksX0_text_3 19 rfl rfl)
theorem dX0_text_90 : decode cX0_text 90 = .ok (.iconst 0, 1) := dk_3 (dk_at dksX0_text_3 20 rfl rfl)
theorem dX0_text_91 : decode cX0_text 91 = .ok (.putfield 108, 3) := dk_181 0 108 (dk_at dksX0_text_3 21 rfl rfl)
theorem dX0_text_94 : decode cX0_text 94 = .ok (.iload_n 3, 1) := dk_29 (dk_at dksX0_text_4 0 rfl rfl)
theorem dX0_text_95 : decode cX0_text 95 = .ok (.ireturn, 1) := dk_172 (dk_at dksX0_text_4 1 rfl rfl)
theorem dX0_text_96 : decode cX0_text 96 = .ok (.astore 4, 2) := dk_58 4 (dk_at dksX0_text_4 2 rfl rfl)
theorem dX0_text_98 : decode cX0_text 98 = .ok (.aload_n 0, 1) := dk_42 (dk_at dksX0_text_4 4 rfl rfl)
theorem dX0_text_99 : decode cX0_text 99 = .ok (.iconst 0, 1) := dk_3 (dk_at dksX0_text_4 5 rfl rfl)
theorem dX0_text_100 : decode cX0_text 100 = .ok (.putfield 108, 3) := dk_181 0 108 (dk_at dksX0_text_4 6 rfl rfl)
theorem dX0_text_103 : decode cX0_text 103 = .ok (.aload 4, 2) := dk_25 4 (dk_at dksX0_text_4 9 rfl rfl)
theorem dX0_text_105 : decode cX0_text 105 = .ok (.athrow, 1) := dk_191 (dk_at dksX0_text_4 11 rfl rfl)
theorem dX0_text_106 : decode cX0_text 106 = .ok (.aload_n 0, 1) := dk_42 (dk_at dksX0_text_4 12 rfl rfl)
theorem dX0_text_107 : decode cX0_text 107 = .ok (.getfield 12, 3) := dk_180 0 12 (dk_at dksX0_text_4 13 rfl rfl)
theorem dX0_text_110 : decode cX0_text 110 = .ok (.getfield 74, 3) := dk_180 0 74 (dk_at dksX0_text_4 16 rfl rfl)
theorem dX0_text_113 : decode cX0_text 113 = .ok (.iconst 4, 1) := dk_7 (dk_at dksX0_text_4 19 rfl rfl)
theorem dX0_text_114 : decode cX0_text 114 = .ok (.dup2, 1) := dk_92 (dk_at dksX0_text_4 20 rfl rfl)
theorem dX0_text_115 : decode cX0_text 115 = .ok (.iaload, 1) := dk_46 (dk_at dksX0_text_4 21 rfl rfl)
theorem dX0_text_116 : decode cX0_text 116 = .ok (.iconst 1, 1) := dk_4 (dk_at dksX0_text_4 22 rfl rfl)
theorem dX0_text_117 : decode cX0_text 117 = .ok (.iadd, 1) := dk_96 (dk_at dksX0_text_4 23 rfl rfl)
theorem dX0_text_118 : decode cX0_text 118 = .ok (.iastore, 1) := dk_79 (dk_at dksX0_text_5 0 rfl rfl)
theorem dX0_text_119 : decode cX0_text 119 = .ok (.aload_n 0, 1) := dk_42 (dk_at dksX0_text_5 1 rfl rfl)
theorem dX0_text_120 : decode cX0_text 120 = .ok (.getfield 12, 3) := dk_180 0 12 (dk_at dksX0_text_5 2 rfl rfl)
theorem dX0_text_123 : decode cX0_text 123 = .ok (.getfield 74, 3) := dk_180 0 74 (dk_at dksX0_text_5 5 rfl rfl)
theorem dX0_text_126 : decode cX0_text 126 = .ok (.iconst 4, 1) := dk_7 (dk_at dksX0_text_5 8 rfl rfl)
theorem dX0_text_127 : decode cX0_text 127 = .ok (.iaload, 1) := dk_46 (dk_at dksX0_text_5 9 rfl rfl)
theorem dX0_text_128 : decode cX0_text 128 = .ok (.iconst 1, 1) := dk_4 (dk_at dksX0_text_5 10 rfl rfl)
theorem dX0_text_129 : decode cX0_text 129 = .ok (.isub, 1) := dk_100 (dk_at dksX0_text_5 11 rfl rfl)
theorem dX0_text_130 : decode cX0_text 130 = .ok (.ireturn, 1) := dk_172 (dk_at dksX0_text_5 12 rfl rfl)
abbrev cX0_fault : ByteArray := prog_1_method_18_code
def yX0_fault : MethodName := ⟨RX0, "fault", "(I)I"⟩
def dkwX0_fault_1 : List UInt8 := [172]
abbrev dktX0_fault_1 : List UInt8 := dkwX0_fault_1 ++ []
def dkwX0_fault_0 : List UInt8 := [27, 154, 0, 10, 42, 180, 0, 23, 167, 0, 16, 27, 4, 160, 0, 10, 42, 180, 0, 27, 167, 0, 4, 2]
abbrev dktX0_fault_0 : List UInt8 := dkwX0_fault_0 ++ dktX0_fault_1
theorem dksX0_fault_0 : cX0_fault.data.toList.drop 0 = dktX0_fault_0 := by decide +kernel
theorem dksX0_fault_1 : cX0_fault.data.toList.drop 24 = dktX0_fault_1 := dk_seg dksX0_fault_0 24 rfl rfl
theorem dX0_fault_0 : decode cX0_fault 0 = .ok (.iload_n 1, 1) := dk_27 (dk_at dksX0_fault_0 0 rfl rfl)
theorem dX0_fault_1 : decode cX0_fault 1 = .ok (.ifCond .ne 10, 3) := dk_154 0 10 (dk_at dksX0_fault_0 1 rfl rfl)
theorem dX0_fault_4 : decode cX0_fault 4 = .ok (.aload_n 0, 1) := dk_42 (dk_at dksX0_fault_0 4 rfl rfl)
theorem dX0_fault_5 : decode cX0_fault 5 = .ok (.getfield 23, 3) := dk_180 0 23 (dk_at dksX0_fault_0 5 rfl rfl)
theorem dX0_fault_8 : decode cX0_fault 8 = .ok (.goto 16, 3) := dk_167 0 16 (dk_at dksX0_fault_0 8 rfl rfl)
theorem dX0_fault_11 : decode cX0_fault 11 = .ok (.iload_n 1, 1) := dk_27 (dk_at dksX0_fault_0 11 rfl rfl)
theorem dX0_fault_12 : decode cX0_fault 12 = .ok (.iconst 1, 1) := dk_4 (dk_at dksX0_fault_0 12 rfl rfl)
theorem dX0_fault_13 : decode cX0_fault 13 = .ok (.if_icmp .ne 10, 3) := dk_160 0 10 (dk_at dksX0_fault_0 13 rfl rfl)
theorem dX0_fault_16 : decode cX0_fault 16 = .ok (.aload_n 0, 1) := dk_42 (dk_at dksX0_fault_0 16 rfl rfl)
theorem dX0_fault_17 : decode cX0_fault 17 = .ok (.getfield 27, 3) := dk_180 0 27 (dk_at dksX0_fault_0 17 rfl rfl)
theorem dX0_fault_20 : decode cX0_fault 20 = .ok (.goto 4, 3) := dk_167 0 4 (dk_at dksX0_fault_0 20 rfl rfl)
theorem dX0_fault_23 : decode cX0_fault 23 = .ok (.iconst (-1), 1) := dk_2 (dk_at dksX0_fault_0 23 rfl rfl)
theorem dX0_fault_24 : decode cX0_fault 24 = .ok (.ireturn, 1) := dk_172 (dk_at dksX0_fault_1 0 rfl rfl)
abbrev cX0_by : ByteArray := prog_1_method_20_code
def yX0_by : MethodName := ⟨RX0, "by", "(I)Z"⟩
def dkwX0_by_1 : List UInt8 := [79, 4, 172]
abbrev dktX0_by_1 : List UInt8 := dkwX0_by_1 ++ []
def dkwX0_by_0 : List UInt8 := [27, 2, 159, 0, 13, 42, 27, 182, 0, 134, 154, 0, 5, 3, 172, 42, 180, 0, 12, 180, 0, 74, 8, 27]
abbrev dktX0_by_0 : List UInt8 := dkwX0_by_0 ++ dktX0_by_1
theorem dksX0_by_0 : cX0_by.data.toList.drop 0 = dktX0_by_0 := by decide +kernel
theorem dksX0_by_1 : cX0_by.data.toList.drop 24 = dktX0_by_1 := dk_seg dksX0_by_0 24 rfl rfl
theorem dX0_by_0 : decode cX0_by 0 = .ok (.iload_n 1, 1) := dk_27 (dk_at dksX0_by_0 0 rfl rfl)
theorem dX0_by_1 : decode cX0_by 1 = .ok (.iconst (-1), 1) := dk_2 (dk_at dksX0_by_0 1 rfl rfl)
theorem dX0_by_2 : decode cX0_by 2 = .ok (.if_icmp .eq 13, 3) := dk_159 0 13 (dk_at dksX0_by_0 2 rfl rfl)
theorem dX0_by_5 : decode cX0_by 5 = .ok (.aload_n 0, 1) := dk_42 (dk_at dksX0_by_0 5 rfl rfl)
theorem dX0_by_6 : decode cX0_by 6 = .ok (.iload_n 1, 1) := dk_27 (dk_at dksX0_by_0 6 rfl rfl)
theorem dX0_by_7 : decode cX0_by 7 = .ok (.invokevirtual 134, 3) := dk_182 0 134 (dk_at dksX0_by_0 7 rfl rfl)
theorem dX0_by_10 : decode cX0_by 10 = .ok (.ifCond .ne 5, 3) := dk_154 0 5 (dk_at dksX0_by_0 10 rfl rfl)
theorem dX0_by_13 : decode cX0_by 13 = .ok (.iconst 0, 1) := dk_3 (dk_at dksX0_by_0 13 rfl rfl)
theorem dX0_by_14 : decode cX0_by 14 = .ok (.ireturn, 1) := dk_172 (dk_at dksX0_by_0 14 rfl rfl)
theorem dX0_by_15 : decode cX0_by 15 = .ok (.aload_n 0, 1) := dk_42 (dk_at dksX0_by_0 15 rfl rfl)
theorem dX0_by_16 : decode cX0_by 16 = .ok (.getfield 12, 3) := dk_180 0 12 (dk_at dksX0_by_0 16 rfl rfl)
theorem dX0_by_19 : decode cX0_by 19 = .ok (.getfield 74, 3) := dk_180 0 74 (dk_at dksX0_by_0 19 rfl rfl)
theorem dX0_by_22 : decode cX0_by 22 = .ok (.iconst 5, 1) := dk_8 (dk_at dksX0_by_0 22 rfl rfl)
theorem dX0_by_23 : decode cX0_by 23 = .ok (.iload_n 1, 1) := dk_27 (dk_at dksX0_by_0 23 rfl rfl)
theorem dX0_by_24 : decode cX0_by 24 = .ok (.iastore, 1) := dk_79 (dk_at dksX0_by_1 0 rfl rfl)
theorem dX0_by_25 : decode cX0_by 25 = .ok (.iconst 1, 1) := dk_4 (dk_at dksX0_by_1 1 rfl rfl)
theorem dX0_by_26 : decode cX0_by 26 = .ok (.ireturn, 1) := dk_172 (dk_at dksX0_by_1 2 rfl rfl)
abbrev cX0_isText : ByteArray := prog_1_method_19_code
def yX0_isText : MethodName := ⟨RX0, "isText", "(I)Z"⟩
def dkwX0_isText_0 : List UInt8 := [27, 3, 42, 180, 0, 12, 180, 0, 74, 7, 46, 4, 100, 184, 0, 77, 172]
abbrev dktX0_isText_0 : List UInt8 := dkwX0_isText_0 ++ []
theorem dksX0_isText_0 : cX0_isText.data.toList.drop 0 = dktX0_isText_0 := by decide +kernel
theorem dX0_isText_0 : decode cX0_isText 0 = .ok (.iload_n 1, 1) := dk_27 (dk_at dksX0_isText_0 0 rfl rfl)
theorem dX0_isText_1 : decode cX0_isText 1 = .ok (.iconst 0, 1) := dk_3 (dk_at dksX0_isText_0 1 rfl rfl)
theorem dX0_isText_2 : decode cX0_isText 2 = .ok (.aload_n 0, 1) := dk_42 (dk_at dksX0_isText_0 2 rfl rfl)
theorem dX0_isText_3 : decode cX0_isText 3 = .ok (.getfield 12, 3) := dk_180 0 12 (dk_at dksX0_isText_0 3 rfl rfl)
theorem dX0_isText_6 : decode cX0_isText 6 = .ok (.getfield 74, 3) := dk_180 0 74 (dk_at dksX0_isText_0 6 rfl rfl)
theorem dX0_isText_9 : decode cX0_isText 9 = .ok (.iconst 4, 1) := dk_7 (dk_at dksX0_isText_0 9 rfl rfl)
theorem dX0_isText_10 : decode cX0_isText 10 = .ok (.iaload, 1) := dk_46 (dk_at dksX0_isText_0 10 rfl rfl)
theorem dX0_isText_11 : decode cX0_isText 11 = .ok (.iconst 1, 1) := dk_4 (dk_at dksX0_isText_0 11 rfl rfl)
theorem dX0_isText_12 : decode cX0_isText 12 = .ok (.isub, 1) := dk_100 (dk_at dksX0_isText_0 12 rfl rfl)
theorem dX0_isText_13 : decode cX0_isText 13 = .ok (.invokestatic 77, 3) := dk_184 0 77 (dk_at dksX0_isText_0 13 rfl rfl)
theorem dX0_isText_16 : decode cX0_isText 16 = .ok (.ireturn, 1) := dk_172 (dk_at dksX0_isText_0 16 rfl rfl)
abbrev cX0_lend : ByteArray := prog_1_method_32_code
def yX0_lend : MethodName := ⟨RX0, "lend", "(III)Z"⟩
def dkwX0_lend_3 : List UInt8 := [4, 172]
abbrev dktX0_lend_3 : List UInt8 := dkwX0_lend_3 ++ []
def dkwX0_lend_2 : List UInt8 := [180, 0, 12, 182, 0, 200, 42, 180, 0, 12, 180, 0, 203, 16, 8, 16, 6, 27, 104, 96, 28, 96, 29, 79]
abbrev dktX0_lend_2 : List UInt8 := dkwX0_lend_2 ++ dktX0_lend_3
def dkwX0_lend_1 : List UInt8 := [16, 99, 184, 0, 77, 153, 0, 16, 42, 180, 0, 12, 27, 28, 182, 0, 196, 29, 160, 0, 5, 3, 172, 42]
abbrev dktX0_lend_1 : List UInt8 := dkwX0_lend_1 ++ dktX0_lend_2
def dkwX0_lend_0 : List UInt8 := [42, 27, 182, 0, 84, 153, 0, 39, 42, 28, 182, 0, 84, 153, 0, 31, 27, 28, 159, 0, 26, 29, 3]
abbrev dktX0_lend_0 : List UInt8 := dkwX0_lend_0 ++ dktX0_lend_1
theorem dksX0_lend_0 : cX0_lend.data.toList.drop 0 = dktX0_lend_0 := by decide +kernel
theorem dksX0_lend_1 : cX0_lend.data.toList.drop 23 = dktX0_lend_1 := dk_seg dksX0_lend_0 23 rfl rfl
theorem dksX0_lend_2 : cX0_lend.data.toList.drop 47 = dktX0_lend_2 := dk_seg dksX0_lend_1 24 rfl rfl
theorem dksX0_lend_3 : cX0_lend.data.toList.drop 71 = dktX0_lend_3 := dk_seg dksX0_lend_2 24 rfl rfl
theorem dX0_lend_0 : decode cX0_lend 0 = .ok (.aload_n 0, 1) := dk_42 (dk_at dksX0_lend_0 0 rfl rfl)
theorem dX0_lend_1 : decode cX0_lend 1 = .ok (.iload_n 1, 1) := dk_27 (dk_at dksX0_lend_0 1 rfl rfl)
theorem dX0_lend_2 : decode cX0_lend 2 = .ok (.invokevirtual 84, 3) := dk_182 0 84 (dk_at dksX0_lend_0 2 rfl rfl)
theorem dX0_lend_5 : decode cX0_lend 5 = .ok (.ifCond .eq 39, 3) := dk_153 0 39 (dk_at dksX0_lend_0 5 rfl rfl)
theorem dX0_lend_8 : decode cX0_lend 8 = .ok (.aload_n 0, 1) := dk_42 (dk_at dksX0_lend_0 8 rfl rfl)
theorem dX0_lend_9 : decode cX0_lend 9 = .ok (.iload_n 2, 1) := dk_28 (dk_at dksX0_lend_0 9 rfl rfl)
theorem dX0_lend_10 : decode cX0_lend 10 = .ok (.invokevirtual 84, 3) := dk_182 0 84 (dk_at dksX0_lend_0 10 rfl rfl)
theorem dX0_lend_13 : decode cX0_lend 13 = .ok (.ifCond .eq 31, 3) := dk_153 0 31 (dk_at dksX0_lend_0 13 rfl rfl)
theorem dX0_lend_16 : decode cX0_lend 16 = .ok (.iload_n 1, 1) := dk_27 (dk_at dksX0_lend_0 16 rfl rfl)
theorem dX0_lend_17 : decode cX0_lend 17 = .ok (.iload_n 2, 1) := dk_28 (dk_at dksX0_lend_0 17 rfl rfl)
theorem dX0_lend_18 : decode cX0_lend 18 = .ok (.if_icmp .eq 26, 3) := dk_159 0 26 (dk_at dksX0_lend_0 18 rfl rfl)
theorem dX0_lend_21 : decode cX0_lend 21 = .ok (.iload_n 3, 1) := dk_29 (dk_at dksX0_lend_0 21 rfl rfl)
theorem dX0_lend_22 : decode cX0_lend 22 = .ok (.iconst 0, 1) := dk_3 (dk_at dksX0_lend_0 22 rfl rfl)
theorem dX0_lend_23 : decode cX0_lend 23 = .ok (.bipush 99, 2) := dk_16 99 (dk_at dksX0_lend_1 0 rfl rfl)
theorem dX0_lend_25 : decode cX0_lend 25 = .ok (.invokestatic 77, 3) := dk_184 0 77 (dk_at dksX0_lend_1 2 rfl rfl)
theorem dX0_lend_28 : decode cX0_lend 28 = .ok (.ifCond .eq 16, 3) := dk_153 0 16 (dk_at dksX0_lend_1 5 rfl rfl)
theorem dX0_lend_31 : decode cX0_lend 31 = .ok (.aload_n 0, 1) := dk_42 (dk_at dksX0_lend_1 8 rfl rfl)
theorem dX0_lend_32 : decode cX0_lend 32 = .ok (.getfield 12, 3) := dk_180 0 12 (dk_at dksX0_lend_1 9 rfl rfl)
theorem dX0_lend_35 : decode cX0_lend 35 = .ok (.iload_n 1, 1) := dk_27 (dk_at dksX0_lend_1 12 rfl rfl)
theorem dX0_lend_36 : decode cX0_lend 36 = .ok (.iload_n 2, 1) := dk_28 (dk_at dksX0_lend_1 13 rfl rfl)
theorem dX0_lend_37 : decode cX0_lend 37 = .ok (.invokevirtual 196, 3) := dk_182 0 196 (dk_at dksX0_lend_1 14 rfl rfl)
theorem dX0_lend_40 : decode cX0_lend 40 = .ok (.iload_n 3, 1) := dk_29 (dk_at dksX0_lend_1 17 rfl rfl)
theorem dX0_lend_41 : decode cX0_lend 41 = .ok (.if_icmp .ne 5, 3) := dk_160 0 5 (dk_at dksX0_lend_1 18 rfl rfl)
theorem dX0_lend_44 : decode cX0_lend 44 = .ok (.iconst 0, 1) := dk_3 (dk_at dksX0_lend_1 21 rfl rfl)
theorem dX0_lend_45 : decode cX0_lend 45 = .ok (.ireturn, 1) := dk_172 (dk_at dksX0_lend_1 22 rfl rfl)
theorem dX0_lend_46 : decode cX0_lend 46 = .ok (.aload_n 0, 1) := dk_42 (dk_at dksX0_lend_1 23 rfl rfl)
theorem dX0_lend_47 : decode cX0_lend 47 = .ok (.getfield 12, 3) := dk_180 0 12 (dk_at dksX0_lend_2 0 rfl rfl)
theorem dX0_lend_50 : decode cX0_lend 50 = .ok (.invokevirtual 200, 3) := dk_182 0 200 (dk_at dksX0_lend_2 3 rfl rfl)
theorem dX0_lend_53 : decode cX0_lend 53 = .ok (.aload_n 0, 1) := dk_42 (dk_at dksX0_lend_2 6 rfl rfl)
theorem dX0_lend_54 : decode cX0_lend 54 = .ok (.getfield 12, 3) := dk_180 0 12 (dk_at dksX0_lend_2 7 rfl rfl)
theorem dX0_lend_57 : decode cX0_lend 57 = .ok (.getfield 203, 3) := dk_180 0 203 (dk_at dksX0_lend_2 10 rfl rfl)
theorem dX0_lend_60 : decode cX0_lend 60 = .ok (.bipush 8, 2) := dk_16 8 (dk_at dksX0_lend_2 13 rfl rfl)
theorem dX0_lend_62 : decode cX0_lend 62 = .ok (.bipush 6, 2) := dk_16 6 (dk_at dksX0_lend_2 15 rfl rfl)
theorem dX0_lend_64 : decode cX0_lend 64 = .ok (.iload_n 1, 1) := dk_27 (dk_at dksX0_lend_2 17 rfl rfl)
theorem dX0_lend_65 : decode cX0_lend 65 = .ok (.imul, 1) := dk_104 (dk_at dksX0_lend_2 18 rfl rfl)
theorem dX0_lend_66 : decode cX0_lend 66 = .ok (.iadd, 1) := dk_96 (dk_at dksX0_lend_2 19 rfl rfl)
theorem dX0_lend_67 : decode cX0_lend 67 = .ok (.iload_n 2, 1) := dk_28 (dk_at dksX0_lend_2 20 rfl rfl)
theorem dX0_lend_68 : decode cX0_lend 68 = .ok (.iadd, 1) := dk_96 (dk_at dksX0_lend_2 21 rfl rfl)
theorem dX0_lend_69 : decode cX0_lend 69 = .ok (.iload_n 3, 1) := dk_29 (dk_at dksX0_lend_2 22 rfl rfl)
theorem dX0_lend_70 : decode cX0_lend 70 = .ok (.iastore, 1) := dk_79 (dk_at dksX0_lend_2 23 rfl rfl)
theorem dX0_lend_71 : decode cX0_lend 71 = .ok (.iconst 1, 1) := dk_4 (dk_at dksX0_lend_3 0 rfl rfl)
theorem dX0_lend_72 : decode cX0_lend 72 = .ok (.ireturn, 1) := dk_172 (dk_at dksX0_lend_3 1 rfl rfl)
abbrev cX0_weigh : ByteArray := prog_1_method_34_code
def yX0_weigh : MethodName := ⟨RX0, "weigh", "(I)I"⟩
def dkwX0_weigh_1 : List UInt8 := [180, 0, 12, 180, 0, 203, 5, 46, 172]
abbrev dktX0_weigh_1 : List UInt8 := dkwX0_weigh_1 ++ []
def dkwX0_weigh_0 : List UInt8 := [42, 27, 182, 0, 84, 154, 0, 6, 18, 212, 172, 42, 180, 0, 12, 182, 0, 200, 42, 27, 182, 0, 213, 42]
abbrev dktX0_weigh_0 : List UInt8 := dkwX0_weigh_0 ++ dktX0_weigh_1
theorem dksX0_weigh_0 : cX0_weigh.data.toList.drop 0 = dktX0_weigh_0 := by decide +kernel
theorem dksX0_weigh_1 : cX0_weigh.data.toList.drop 24 = dktX0_weigh_1 := dk_seg dksX0_weigh_0 24 rfl rfl
theorem dX0_weigh_0 : decode cX0_weigh 0 = .ok (.aload_n 0, 1) := dk_42 (dk_at dksX0_weigh_0 0 rfl rfl)
theorem dX0_weigh_1 : decode cX0_weigh 1 = .ok (.iload_n 1, 1) := dk_27 (dk_at dksX0_weigh_0 1 rfl rfl)
theorem dX0_weigh_2 : decode cX0_weigh 2 = .ok (.invokevirtual 84, 3) := dk_182 0 84 (dk_at dksX0_weigh_0 2 rfl rfl)
theorem dX0_weigh_5 : decode cX0_weigh 5 = .ok (.ifCond .ne 6, 3) := dk_154 0 6 (dk_at dksX0_weigh_0 5 rfl rfl)
theorem dX0_weigh_8 : decode cX0_weigh 8 = .ok (.ldc 212, 2) := dk_18 212 (dk_at dksX0_weigh_0 8 rfl rfl)
theorem dX0_weigh_10 : decode cX0_weigh 10 = .ok (.ireturn, 1) := dk_172 (dk_at dksX0_weigh_0 10 rfl rfl)
theorem dX0_weigh_11 : decode cX0_weigh 11 = .ok (.aload_n 0, 1) := dk_42 (dk_at dksX0_weigh_0 11 rfl rfl)
theorem dX0_weigh_12 : decode cX0_weigh 12 = .ok (.getfield 12, 3) := dk_180 0 12 (dk_at dksX0_weigh_0 12 rfl rfl)
theorem dX0_weigh_15 : decode cX0_weigh 15 = .ok (.invokevirtual 200, 3) := dk_182 0 200 (dk_at dksX0_weigh_0 15 rfl rfl)
theorem dX0_weigh_18 : decode cX0_weigh 18 = .ok (.aload_n 0, 1) := dk_42 (dk_at dksX0_weigh_0 18 rfl rfl)
theorem dX0_weigh_19 : decode cX0_weigh 19 = .ok (.iload_n 1, 1) := dk_27 (dk_at dksX0_weigh_0 19 rfl rfl)
theorem dX0_weigh_20 : decode cX0_weigh 20 = .ok (.invokevirtual 213, 3) := dk_182 0 213 (dk_at dksX0_weigh_0 20 rfl rfl)
theorem dX0_weigh_23 : decode cX0_weigh 23 = .ok (.aload_n 0, 1) := dk_42 (dk_at dksX0_weigh_0 23 rfl rfl)
theorem dX0_weigh_24 : decode cX0_weigh 24 = .ok (.getfield 12, 3) := dk_180 0 12 (dk_at dksX0_weigh_1 0 rfl rfl)
theorem dX0_weigh_27 : decode cX0_weigh 27 = .ok (.getfield 203, 3) := dk_180 0 203 (dk_at dksX0_weigh_1 3 rfl rfl)
theorem dX0_weigh_30 : decode cX0_weigh 30 = .ok (.iconst 2, 1) := dk_5 (dk_at dksX0_weigh_1 6 rfl rfl)
theorem dX0_weigh_31 : decode cX0_weigh 31 = .ok (.iaload, 1) := dk_46 (dk_at dksX0_weigh_1 7 rfl rfl)
theorem dX0_weigh_32 : decode cX0_weigh 32 = .ok (.ireturn, 1) := dk_172 (dk_at dksX0_weigh_1 8 rfl rfl)
abbrev cX0_weighs : ByteArray := prog_1_method_33_code
def yX0_weighs : MethodName := ⟨RX0, "weighs", "(I)V"⟩
def dkwX0_weighs_0 : List UInt8 := [187, 0, 206, 89, 42, 27, 183, 0, 208, 182, 0, 211, 42, 180, 0, 12, 180, 0, 203, 8, 3, 79, 177]
abbrev dktX0_weighs_0 : List UInt8 := dkwX0_weighs_0 ++ []
theorem dksX0_weighs_0 : cX0_weighs.data.toList.drop 0 = dktX0_weighs_0 := by decide +kernel
theorem dX0_weighs_0 : decode cX0_weighs 0 = .ok (.new 206, 3) := dk_187 0 206 (dk_at dksX0_weighs_0 0 rfl rfl)
theorem dX0_weighs_3 : decode cX0_weighs 3 = .ok (.dup, 1) := dk_89 (dk_at dksX0_weighs_0 3 rfl rfl)
theorem dX0_weighs_4 : decode cX0_weighs 4 = .ok (.aload_n 0, 1) := dk_42 (dk_at dksX0_weighs_0 4 rfl rfl)
theorem dX0_weighs_5 : decode cX0_weighs 5 = .ok (.iload_n 1, 1) := dk_27 (dk_at dksX0_weighs_0 5 rfl rfl)
theorem dX0_weighs_6 : decode cX0_weighs 6 = .ok (.invokespecial 208, 3) := dk_183 0 208 (dk_at dksX0_weighs_0 6 rfl rfl)
theorem dX0_weighs_9 : decode cX0_weighs 9 = .ok (.invokevirtual 211, 3) := dk_182 0 211 (dk_at dksX0_weighs_0 9 rfl rfl)
theorem dX0_weighs_12 : decode cX0_weighs 12 = .ok (.aload_n 0, 1) := dk_42 (dk_at dksX0_weighs_0 12 rfl rfl)
theorem dX0_weighs_13 : decode cX0_weighs 13 = .ok (.getfield 12, 3) := dk_180 0 12 (dk_at dksX0_weighs_0 13 rfl rfl)
theorem dX0_weighs_16 : decode cX0_weighs 16 = .ok (.getfield 203, 3) := dk_180 0 203 (dk_at dksX0_weighs_0 16 rfl rfl)
theorem dX0_weighs_19 : decode cX0_weighs 19 = .ok (.iconst 5, 1) := dk_8 (dk_at dksX0_weighs_0 19 rfl rfl)
theorem dX0_weighs_20 : decode cX0_weighs 20 = .ok (.iconst 0, 1) := dk_3 (dk_at dksX0_weighs_0 20 rfl rfl)
theorem dX0_weighs_21 : decode cX0_weighs 21 = .ok (.iastore, 1) := dk_79 (dk_at dksX0_weighs_0 21 rfl rfl)
theorem dX0_weighs_22 : decode cX0_weighs 22 = .ok (.return_, 1) := dk_177 (dk_at dksX0_weighs_0 22 rfl rfl)
abbrev cX0_sticksOf : ByteArray := prog_1_method_26_code
def yX0_sticksOf : MethodName := ⟨RX0, "sticksOf", "(III)I"⟩
def dkwX0_sticksOf_1 : List UInt8 := [182, 0, 167, 4, 42, 180, 0, 12, 180, 0, 74, 6, 46, 3, 16, 99, 182, 0, 164, 172]
abbrev dktX0_sticksOf_1 : List UInt8 := dkwX0_sticksOf_1 ++ []
def dkwX0_sticksOf_0 : List UInt8 := [42, 27, 182, 0, 162, 42, 180, 0, 30, 16, 8, 28, 79, 42, 180, 0, 30, 16, 9, 29, 79, 42, 42]
abbrev dktX0_sticksOf_0 : List UInt8 := dkwX0_sticksOf_0 ++ dktX0_sticksOf_1
theorem dksX0_sticksOf_0 : cX0_sticksOf.data.toList.drop 0 = dktX0_sticksOf_0 := by decide +kernel
theorem dksX0_sticksOf_1 : cX0_sticksOf.data.toList.drop 23 = dktX0_sticksOf_1 := dk_seg dksX0_sticksOf_0 23 rfl rfl
theorem dX0_sticksOf_0 : decode cX0_sticksOf 0 = .ok (.aload_n 0, 1) := dk_42 (dk_at dksX0_sticksOf_0 0 rfl rfl)
theorem dX0_sticksOf_1 : decode cX0_sticksOf 1 = .ok (.iload_n 1, 1) := dk_27 (dk_at dksX0_sticksOf_0 1 rfl rfl)
theorem dX0_sticksOf_2 : decode cX0_sticksOf 2 = .ok (.invokevirtual 162, 3) := dk_182 0 162 (dk_at dksX0_sticksOf_0 2 rfl rfl)
theorem dX0_sticksOf_5 : decode cX0_sticksOf 5 = .ok (.aload_n 0, 1) := dk_42 (dk_at dksX0_sticksOf_0 5 rfl rfl)
theorem dX0_sticksOf_6 : decode cX0_sticksOf 6 = .ok (.getfield 30, 3) := dk_180 0 30 (dk_at dksX0_sticksOf_0 6 rfl rfl)
theorem dX0_sticksOf_9 : decode cX0_sticksOf 9 = .ok (.bipush 8, 2) := dk_16 8 (dk_at dksX0_sticksOf_0 9 rfl rfl)
theorem dX0_sticksOf_11 : decode cX0_sticksOf 11 = .ok (.iload_n 2, 1) := dk_28 (dk_at dksX0_sticksOf_0 11 rfl rfl)
theorem dX0_sticksOf_12 : decode cX0_sticksOf 12 = .ok (.iastore, 1) := dk_79 (dk_at dksX0_sticksOf_0 12 rfl rfl)
theorem dX0_sticksOf_13 : decode cX0_sticksOf 13 = .ok (.aload_n 0, 1) := dk_42 (dk_at dksX0_sticksOf_0 13 rfl rfl)
theorem dX0_sticksOf_14 : decode cX0_sticksOf 14 = .ok (.getfield 30, 3) := dk_180 0 30 (dk_at dksX0_sticksOf_0 14 rfl rfl)
theorem dX0_sticksOf_17 : decode cX0_sticksOf 17 = .ok (.bipush 9, 2) := dk_16 9 (dk_at dksX0_sticksOf_0 17 rfl rfl)
theorem dX0_sticksOf_19 : decode cX0_sticksOf 19 = .ok (.iload_n 3, 1) := dk_29 (dk_at dksX0_sticksOf_0 19 rfl rfl)
theorem dX0_sticksOf_20 : decode cX0_sticksOf 20 = .ok (.iastore, 1) := dk_79 (dk_at dksX0_sticksOf_0 20 rfl rfl)
theorem dX0_sticksOf_21 : decode cX0_sticksOf 21 = .ok (.aload_n 0, 1) := dk_42 (dk_at dksX0_sticksOf_0 21 rfl rfl)
theorem dX0_sticksOf_22 : decode cX0_sticksOf 22 = .ok (.aload_n 0, 1) := dk_42 (dk_at dksX0_sticksOf_0 22 rfl rfl)
theorem dX0_sticksOf_23 : decode cX0_sticksOf 23 = .ok (.invokevirtual 167, 3) := dk_182 0 167 (dk_at dksX0_sticksOf_1 0 rfl rfl)
theorem dX0_sticksOf_26 : decode cX0_sticksOf 26 = .ok (.iconst 1, 1) := dk_4 (dk_at dksX0_sticksOf_1 3 rfl rfl)
theorem dX0_sticksOf_27 : decode cX0_sticksOf 27 = .ok (.aload_n 0, 1) := dk_42 (dk_at dksX0_sticksOf_1 4 rfl rfl)
theorem dX0_sticksOf_28 : decode cX0_sticksOf 28 = .ok (.getfield 12, 3) := dk_180 0 12 (dk_at dksX0_sticksOf_1 5 rfl rfl)
theorem dX0_sticksOf_31 : decode cX0_sticksOf 31 = .ok (.getfield 74, 3) := dk_180 0 74 (dk_at dksX0_sticksOf_1 8 rfl rfl)
theorem dX0_sticksOf_34 : decode cX0_sticksOf 34 = .ok (.iconst 3, 1) := dk_6 (dk_at dksX0_sticksOf_1 11 rfl rfl)
theorem dX0_sticksOf_35 : decode cX0_sticksOf 35 = .ok (.iaload, 1) := dk_46 (dk_at dksX0_sticksOf_1 12 rfl rfl)
theorem dX0_sticksOf_36 : decode cX0_sticksOf 36 = .ok (.iconst 0, 1) := dk_3 (dk_at dksX0_sticksOf_1 13 rfl rfl)
theorem dX0_sticksOf_37 : decode cX0_sticksOf 37 = .ok (.bipush 99, 2) := dk_16 99 (dk_at dksX0_sticksOf_1 14 rfl rfl)
theorem dX0_sticksOf_39 : decode cX0_sticksOf 39 = .ok (.invokevirtual 164, 3) := dk_182 0 164 (dk_at dksX0_sticksOf_1 16 rfl rfl)
theorem dX0_sticksOf_42 : decode cX0_sticksOf 42 = .ok (.ireturn, 1) := dk_172 (dk_at dksX0_sticksOf_1 19 rfl rfl)
abbrev cX0_names : ByteArray := prog_1_method_22_code
def yX0_names : MethodName := ⟨RX0, "names", "(I)V"⟩
def dkwX0_names_0 : List UInt8 := [42, 180, 0, 30, 3, 27, 79, 42, 180, 0, 30, 4, 42, 180, 0, 12, 180, 0, 81, 27, 46, 79, 177]
abbrev dktX0_names_0 : List UInt8 := dkwX0_names_0 ++ []
theorem dksX0_names_0 : cX0_names.data.toList.drop 0 = dktX0_names_0 := by decide +kernel
theorem dX0_names_0 : decode cX0_names 0 = .ok (.aload_n 0, 1) := dk_42 (dk_at dksX0_names_0 0 rfl rfl)
theorem dX0_names_1 : decode cX0_names 1 = .ok (.getfield 30, 3) := dk_180 0 30 (dk_at dksX0_names_0 1 rfl rfl)
theorem dX0_names_4 : decode cX0_names 4 = .ok (.iconst 0, 1) := dk_3 (dk_at dksX0_names_0 4 rfl rfl)
theorem dX0_names_5 : decode cX0_names 5 = .ok (.iload_n 1, 1) := dk_27 (dk_at dksX0_names_0 5 rfl rfl)
theorem dX0_names_6 : decode cX0_names 6 = .ok (.iastore, 1) := dk_79 (dk_at dksX0_names_0 6 rfl rfl)
theorem dX0_names_7 : decode cX0_names 7 = .ok (.aload_n 0, 1) := dk_42 (dk_at dksX0_names_0 7 rfl rfl)
theorem dX0_names_8 : decode cX0_names 8 = .ok (.getfield 30, 3) := dk_180 0 30 (dk_at dksX0_names_0 8 rfl rfl)
theorem dX0_names_11 : decode cX0_names 11 = .ok (.iconst 1, 1) := dk_4 (dk_at dksX0_names_0 11 rfl rfl)
theorem dX0_names_12 : decode cX0_names 12 = .ok (.aload_n 0, 1) := dk_42 (dk_at dksX0_names_0 12 rfl rfl)
theorem dX0_names_13 : decode cX0_names 13 = .ok (.getfield 12, 3) := dk_180 0 12 (dk_at dksX0_names_0 13 rfl rfl)
theorem dX0_names_16 : decode cX0_names 16 = .ok (.getfield 81, 3) := dk_180 0 81 (dk_at dksX0_names_0 16 rfl rfl)
theorem dX0_names_19 : decode cX0_names 19 = .ok (.iload_n 1, 1) := dk_27 (dk_at dksX0_names_0 19 rfl rfl)
theorem dX0_names_20 : decode cX0_names 20 = .ok (.iaload, 1) := dk_46 (dk_at dksX0_names_0 20 rfl rfl)
theorem dX0_names_21 : decode cX0_names 21 = .ok (.iastore, 1) := dk_79 (dk_at dksX0_names_0 21 rfl rfl)
theorem dX0_names_22 : decode cX0_names 22 = .ok (.return_, 1) := dk_177 (dk_at dksX0_names_0 22 rfl rfl)
abbrev cX0_rules : ByteArray := prog_1_method_21_code
def yX0_rules : MethodName := ⟨RX0, "rules", "()LAgainstFeather$Text;"⟩
def dkwX0_rules_1 : List UInt8 := [180, 0, 115, 42, 180, 0, 12, 180, 0, 74, 8, 46, 50, 176]
abbrev dktX0_rules_1 : List UInt8 := dkwX0_rules_1 ++ []
def dkwX0_rules_0 : List UInt8 := [42, 180, 0, 12, 180, 0, 74, 8, 46, 2, 160, 0, 9, 178, 0, 137, 167, 0, 20, 42, 180, 0, 12]
abbrev dktX0_rules_0 : List UInt8 := dkwX0_rules_0 ++ dktX0_rules_1
theorem dksX0_rules_0 : cX0_rules.data.toList.drop 0 = dktX0_rules_0 := by decide +kernel
theorem dksX0_rules_1 : cX0_rules.data.toList.drop 23 = dktX0_rules_1 := dk_seg dksX0_rules_0 23 rfl rfl
theorem dX0_rules_0 : decode cX0_rules 0 = .ok (.aload_n 0, 1) := dk_42 (dk_at dksX0_rules_0 0 rfl rfl)
theorem dX0_rules_1 : decode cX0_rules 1 = .ok (.getfield 12, 3) := dk_180 0 12 (dk_at dksX0_rules_0 1 rfl rfl)
theorem dX0_rules_4 : decode cX0_rules 4 = .ok (.getfield 74, 3) := dk_180 0 74 (dk_at dksX0_rules_0 4 rfl rfl)
theorem dX0_rules_7 : decode cX0_rules 7 = .ok (.iconst 5, 1) := dk_8 (dk_at dksX0_rules_0 7 rfl rfl)
theorem dX0_rules_8 : decode cX0_rules 8 = .ok (.iaload, 1) := dk_46 (dk_at dksX0_rules_0 8 rfl rfl)
theorem dX0_rules_9 : decode cX0_rules 9 = .ok (.iconst (-1), 1) := dk_2 (dk_at dksX0_rules_0 9 rfl rfl)
theorem dX0_rules_10 : decode cX0_rules 10 = .ok (.if_icmp .ne 9, 3) := dk_160 0 9 (dk_at dksX0_rules_0 10 rfl rfl)
theorem dX0_rules_13 : decode cX0_rules 13 = .ok (.getstatic 137, 3) := dk_178 0 137 (dk_at dksX0_rules_0 13 rfl rfl)
theorem dX0_rules_16 : decode cX0_rules 16 = .ok (.goto 20, 3) := dk_167 0 20 (dk_at dksX0_rules_0 16 rfl rfl)
theorem dX0_rules_19 : decode cX0_rules 19 = .ok (.aload_n 0, 1) := dk_42 (dk_at dksX0_rules_0 19 rfl rfl)
theorem dX0_rules_20 : decode cX0_rules 20 = .ok (.getfield 12, 3) := dk_180 0 12 (dk_at dksX0_rules_0 20 rfl rfl)
theorem dX0_rules_23 : decode cX0_rules 23 = .ok (.getfield 115, 3) := dk_180 0 115 (dk_at dksX0_rules_1 0 rfl rfl)
theorem dX0_rules_26 : decode cX0_rules 26 = .ok (.aload_n 0, 1) := dk_42 (dk_at dksX0_rules_1 3 rfl rfl)
theorem dX0_rules_27 : decode cX0_rules 27 = .ok (.getfield 12, 3) := dk_180 0 12 (dk_at dksX0_rules_1 4 rfl rfl)
theorem dX0_rules_30 : decode cX0_rules 30 = .ok (.getfield 74, 3) := dk_180 0 74 (dk_at dksX0_rules_1 7 rfl rfl)
theorem dX0_rules_33 : decode cX0_rules 33 = .ok (.iconst 5, 1) := dk_8 (dk_at dksX0_rules_1 10 rfl rfl)
theorem dX0_rules_34 : decode cX0_rules 34 = .ok (.iaload, 1) := dk_46 (dk_at dksX0_rules_1 11 rfl rfl)
theorem dX0_rules_35 : decode cX0_rules 35 = .ok (.aaload, 1) := dk_50 (dk_at dksX0_rules_1 12 rfl rfl)
theorem dX0_rules_36 : decode cX0_rules 36 = .ok (.areturn, 1) := dk_176 (dk_at dksX0_rules_1 13 rfl rfl)
abbrev cX0_law : ByteArray := prog_1_method_23_code
def yX0_law : MethodName := ⟨RX0, "law", "(LAgainstFeather$Text;IIII)I"⟩
def dkwX0_law_1 : List UInt8 := [50, 42, 180, 0, 30, 185, 0, 147, 2, 0, 184, 0, 153, 184, 0, 159, 136, 172]
abbrev dktX0_law_1 : List UInt8 := dkwX0_law_1 ++ []
def dkwX0_law_0 : List UInt8 := [43, 180, 0, 141, 28, 50, 199, 0, 7, 29, 167, 0, 31, 21, 4, 133, 21, 5, 133, 43, 180, 0, 141, 28]
abbrev dktX0_law_0 : List UInt8 := dkwX0_law_0 ++ dktX0_law_1
theorem dksX0_law_0 : cX0_law.data.toList.drop 0 = dktX0_law_0 := by decide +kernel
theorem dksX0_law_1 : cX0_law.data.toList.drop 24 = dktX0_law_1 := dk_seg dksX0_law_0 24 rfl rfl
theorem dX0_law_0 : decode cX0_law 0 = .ok (.aload_n 1, 1) := dk_43 (dk_at dksX0_law_0 0 rfl rfl)
theorem dX0_law_1 : decode cX0_law 1 = .ok (.getfield 141, 3) := dk_180 0 141 (dk_at dksX0_law_0 1 rfl rfl)
theorem dX0_law_4 : decode cX0_law 4 = .ok (.iload_n 2, 1) := dk_28 (dk_at dksX0_law_0 4 rfl rfl)
theorem dX0_law_5 : decode cX0_law 5 = .ok (.aaload, 1) := dk_50 (dk_at dksX0_law_0 5 rfl rfl)
theorem dX0_law_6 : decode cX0_law 6 = .ok (.ifnonnull 7, 3) := dk_199 0 7 (dk_at dksX0_law_0 6 rfl rfl)
theorem dX0_law_9 : decode cX0_law 9 = .ok (.iload_n 3, 1) := dk_29 (dk_at dksX0_law_0 9 rfl rfl)
theorem dX0_law_10 : decode cX0_law 10 = .ok (.goto 31, 3) := dk_167 0 31 (dk_at dksX0_law_0 10 rfl rfl)
theorem dX0_law_13 : decode cX0_law 13 = .ok (.iload 4, 2) := dk_21 4 (dk_at dksX0_law_0 13 rfl rfl)
theorem dX0_law_15 : decode cX0_law 15 = .ok (.i2l, 1) := dk_133 (dk_at dksX0_law_0 15 rfl rfl)
theorem dX0_law_16 : decode cX0_law 16 = .ok (.iload 5, 2) := dk_21 5 (dk_at dksX0_law_0 16 rfl rfl)
theorem dX0_law_18 : decode cX0_law 18 = .ok (.i2l, 1) := dk_133 (dk_at dksX0_law_0 18 rfl rfl)
theorem dX0_law_19 : decode cX0_law 19 = .ok (.aload_n 1, 1) := dk_43 (dk_at dksX0_law_0 19 rfl rfl)
theorem dX0_law_20 : decode cX0_law 20 = .ok (.getfield 141, 3) := dk_180 0 141 (dk_at dksX0_law_0 20 rfl rfl)
theorem dX0_law_23 : decode cX0_law 23 = .ok (.iload_n 2, 1) := dk_28 (dk_at dksX0_law_0 23 rfl rfl)
theorem dX0_law_24 : decode cX0_law 24 = .ok (.aaload, 1) := dk_50 (dk_at dksX0_law_1 0 rfl rfl)
theorem dX0_law_25 : decode cX0_law 25 = .ok (.aload_n 0, 1) := dk_42 (dk_at dksX0_law_1 1 rfl rfl)
theorem dX0_law_26 : decode cX0_law 26 = .ok (.getfield 30, 3) := dk_180 0 30 (dk_at dksX0_law_1 2 rfl rfl)
theorem dX0_law_29 : decode cX0_law 29 = .ok (.invokeinterface 147 2, 5) := by decide +kernel
theorem dX0_law_34 : decode cX0_law 34 = .ok (.invokestatic 153, 3) := dk_184 0 153 (dk_at dksX0_law_1 10 rfl rfl)
theorem dX0_law_37 : decode cX0_law 37 = .ok (.invokestatic 159, 3) := dk_184 0 159 (dk_at dksX0_law_1 13 rfl rfl)
theorem dX0_law_40 : decode cX0_law 40 = .ok (.l2i, 1) := dk_136 (dk_at dksX0_law_1 16 rfl rfl)
theorem dX0_law_41 : decode cX0_law 41 = .ok (.ireturn, 1) := dk_172 (dk_at dksX0_law_1 17 rfl rfl)
abbrev cX0_lay : ByteArray := prog_1_method_37_code
def yX0_lay : MethodName := ⟨RX0, "lay", "(I)I"⟩
def dkwX0_lay_3 : List UInt8 := [180, 0, 12, 180, 0, 203, 5, 46, 172]
abbrev dktX0_lay_3 : List UInt8 := dkwX0_lay_3 ++ []
def dkwX0_lay_2 : List UInt8 := [184, 0, 174, 153, 0, 6, 18, 212, 172, 42, 180, 0, 12, 182, 0, 200, 42, 27, 182, 0, 226, 42]
abbrev dktX0_lay_2 : List UInt8 := dkwX0_lay_2 ++ dktX0_lay_3
def dkwX0_lay_1 : List UInt8 := [3, 46, 42, 180, 0, 12, 180, 0, 203, 3, 46, 160, 0, 19, 42, 180, 0, 12, 180, 0, 203, 7, 46, 27]
abbrev dktX0_lay_1 : List UInt8 := dkwX0_lay_1 ++ dktX0_lay_2
def dkwX0_lay_0 : List UInt8 := [42, 182, 0, 222, 153, 0, 50, 42, 27, 182, 0, 95, 153, 0, 42, 42, 180, 0, 12, 180, 0, 88, 27, 50]
abbrev dktX0_lay_0 : List UInt8 := dkwX0_lay_0 ++ dktX0_lay_1
theorem dksX0_lay_0 : cX0_lay.data.toList.drop 0 = dktX0_lay_0 := by decide +kernel
theorem dksX0_lay_1 : cX0_lay.data.toList.drop 24 = dktX0_lay_1 := dk_seg dksX0_lay_0 24 rfl rfl
theorem dksX0_lay_2 : cX0_lay.data.toList.drop 48 = dktX0_lay_2 := dk_seg dksX0_lay_1 24 rfl rfl
theorem dksX0_lay_3 : cX0_lay.data.toList.drop 70 = dktX0_lay_3 := dk_seg dksX0_lay_2 22 rfl rfl
theorem dX0_lay_0 : decode cX0_lay 0 = .ok (.aload_n 0, 1) := dk_42 (dk_at dksX0_lay_0 0 rfl rfl)
theorem dX0_lay_1 : decode cX0_lay 1 = .ok (.invokevirtual 222, 3) := dk_182 0 222 (dk_at dksX0_lay_0 1 rfl rfl)
theorem dX0_lay_4 : decode cX0_lay 4 = .ok (.ifCond .eq 50, 3) := dk_153 0 50 (dk_at dksX0_lay_0 4 rfl rfl)
theorem dX0_lay_7 : decode cX0_lay 7 = .ok (.aload_n 0, 1) := dk_42 (dk_at dksX0_lay_0 7 rfl rfl)
theorem dX0_lay_8 : decode cX0_lay 8 = .ok (.iload_n 1, 1) := dk_27 (dk_at dksX0_lay_0 8 rfl rfl)
theorem dX0_lay_9 : decode cX0_lay 9 = .ok (.invokevirtual 95, 3) := dk_182 0 95 (dk_at dksX0_lay_0 9 rfl rfl)
theorem dX0_lay_12 : decode cX0_lay 12 = .ok (.ifCond .eq 42, 3) := dk_153 0 42 (dk_at dksX0_lay_0 12 rfl rfl)
theorem dX0_lay_15 : decode cX0_lay 15 = .ok (.aload_n 0, 1) := dk_42 (dk_at dksX0_lay_0 15 rfl rfl)
theorem dX0_lay_16 : decode cX0_lay 16 = .ok (.getfield 12, 3) := dk_180 0 12 (dk_at dksX0_lay_0 16 rfl rfl)
theorem dX0_lay_19 : decode cX0_lay 19 = .ok (.getfield 88, 3) := dk_180 0 88 (dk_at dksX0_lay_0 19 rfl rfl)
theorem dX0_lay_22 : decode cX0_lay 22 = .ok (.iload_n 1, 1) := dk_27 (dk_at dksX0_lay_0 22 rfl rfl)
theorem dX0_lay_23 : decode cX0_lay 23 = .ok (.aaload, 1) := dk_50 (dk_at dksX0_lay_0 23 rfl rfl)
theorem dX0_lay_24 : decode cX0_lay 24 = .ok (.iconst 0, 1) := dk_3 (dk_at dksX0_lay_1 0 rfl rfl)
theorem dX0_lay_25 : decode cX0_lay 25 = .ok (.iaload, 1) := dk_46 (dk_at dksX0_lay_1 1 rfl rfl)
theorem dX0_lay_26 : decode cX0_lay 26 = .ok (.aload_n 0, 1) := dk_42 (dk_at dksX0_lay_1 2 rfl rfl)
theorem dX0_lay_27 : decode cX0_lay 27 = .ok (.getfield 12, 3) := dk_180 0 12 (dk_at dksX0_lay_1 3 rfl rfl)
theorem dX0_lay_30 : decode cX0_lay 30 = .ok (.getfield 203, 3) := dk_180 0 203 (dk_at dksX0_lay_1 6 rfl rfl)
theorem dX0_lay_33 : decode cX0_lay 33 = .ok (.iconst 0, 1) := dk_3 (dk_at dksX0_lay_1 9 rfl rfl)
theorem dX0_lay_34 : decode cX0_lay 34 = .ok (.iaload, 1) := dk_46 (dk_at dksX0_lay_1 10 rfl rfl)
theorem dX0_lay_35 : decode cX0_lay 35 = .ok (.if_icmp .ne 19, 3) := dk_160 0 19 (dk_at dksX0_lay_1 11 rfl rfl)
theorem dX0_lay_38 : decode cX0_lay 38 = .ok (.aload_n 0, 1) := dk_42 (dk_at dksX0_lay_1 14 rfl rfl)
theorem dX0_lay_39 : decode cX0_lay 39 = .ok (.getfield 12, 3) := dk_180 0 12 (dk_at dksX0_lay_1 15 rfl rfl)
theorem dX0_lay_42 : decode cX0_lay 42 = .ok (.getfield 203, 3) := dk_180 0 203 (dk_at dksX0_lay_1 18 rfl rfl)
theorem dX0_lay_45 : decode cX0_lay 45 = .ok (.iconst 4, 1) := dk_7 (dk_at dksX0_lay_1 21 rfl rfl)
theorem dX0_lay_46 : decode cX0_lay 46 = .ok (.iaload, 1) := dk_46 (dk_at dksX0_lay_1 22 rfl rfl)
theorem dX0_lay_47 : decode cX0_lay 47 = .ok (.iload_n 1, 1) := dk_27 (dk_at dksX0_lay_1 23 rfl rfl)
theorem dX0_lay_48 : decode cX0_lay 48 = .ok (.invokestatic 174, 3) := dk_184 0 174 (dk_at dksX0_lay_2 0 rfl rfl)
theorem dX0_lay_51 : decode cX0_lay 51 = .ok (.ifCond .eq 6, 3) := dk_153 0 6 (dk_at dksX0_lay_2 3 rfl rfl)
theorem dX0_lay_54 : decode cX0_lay 54 = .ok (.ldc 212, 2) := dk_18 212 (dk_at dksX0_lay_2 6 rfl rfl)
theorem dX0_lay_56 : decode cX0_lay 56 = .ok (.ireturn, 1) := dk_172 (dk_at dksX0_lay_2 8 rfl rfl)
theorem dX0_lay_57 : decode cX0_lay 57 = .ok (.aload_n 0, 1) := dk_42 (dk_at dksX0_lay_2 9 rfl rfl)
theorem dX0_lay_58 : decode cX0_lay 58 = .ok (.getfield 12, 3) := dk_180 0 12 (dk_at dksX0_lay_2 10 rfl rfl)
theorem dX0_lay_61 : decode cX0_lay 61 = .ok (.invokevirtual 200, 3) := dk_182 0 200 (dk_at dksX0_lay_2 13 rfl rfl)
theorem dX0_lay_64 : decode cX0_lay 64 = .ok (.aload_n 0, 1) := dk_42 (dk_at dksX0_lay_2 16 rfl rfl)
theorem dX0_lay_65 : decode cX0_lay 65 = .ok (.iload_n 1, 1) := dk_27 (dk_at dksX0_lay_2 17 rfl rfl)
theorem dX0_lay_66 : decode cX0_lay 66 = .ok (.invokevirtual 226, 3) := dk_182 0 226 (dk_at dksX0_lay_2 18 rfl rfl)
theorem dX0_lay_69 : decode cX0_lay 69 = .ok (.aload_n 0, 1) := dk_42 (dk_at dksX0_lay_2 21 rfl rfl)
theorem dX0_lay_70 : decode cX0_lay 70 = .ok (.getfield 12, 3) := dk_180 0 12 (dk_at dksX0_lay_3 0 rfl rfl)
theorem dX0_lay_73 : decode cX0_lay 73 = .ok (.getfield 203, 3) := dk_180 0 203 (dk_at dksX0_lay_3 3 rfl rfl)
theorem dX0_lay_76 : decode cX0_lay 76 = .ok (.iconst 2, 1) := dk_5 (dk_at dksX0_lay_3 6 rfl rfl)
theorem dX0_lay_77 : decode cX0_lay 77 = .ok (.iaload, 1) := dk_46 (dk_at dksX0_lay_3 7 rfl rfl)
theorem dX0_lay_78 : decode cX0_lay 78 = .ok (.ireturn, 1) := dk_172 (dk_at dksX0_lay_3 8 rfl rfl)
abbrev cX0_isWeighing : ByteArray := prog_1_method_35_code
def yX0_isWeighing : MethodName := ⟨RX0, "isWeighing", "()Z"⟩
def dkwX0_isWeighing_0 : List UInt8 := [42, 180, 0, 12, 180, 0, 203, 3, 46, 2, 159, 0, 7, 4, 167, 0, 4, 3, 172]
abbrev dktX0_isWeighing_0 : List UInt8 := dkwX0_isWeighing_0 ++ []
theorem dksX0_isWeighing_0 : cX0_isWeighing.data.toList.drop 0 = dktX0_isWeighing_0 := by decide +kernel
theorem dX0_isWeighing_0 : decode cX0_isWeighing 0 = .ok (.aload_n 0, 1) := dk_42 (dk_at dksX0_isWeighing_0 0 rfl rfl)
theorem dX0_isWeighing_1 : decode cX0_isWeighing 1 = .ok (.getfield 12, 3) := dk_180 0 12 (dk_at dksX0_isWeighing_0 1 rfl rfl)
theorem dX0_isWeighing_4 : decode cX0_isWeighing 4 = .ok (.getfield 203, 3) := dk_180 0 203 (dk_at dksX0_isWeighing_0 4 rfl rfl)
theorem dX0_isWeighing_7 : decode cX0_isWeighing 7 = .ok (.iconst 0, 1) := dk_3 (dk_at dksX0_isWeighing_0 7 rfl rfl)
theorem dX0_isWeighing_8 : decode cX0_isWeighing 8 = .ok (.iaload, 1) := dk_46 (dk_at dksX0_isWeighing_0 8 rfl rfl)
theorem dX0_isWeighing_9 : decode cX0_isWeighing 9 = .ok (.iconst (-1), 1) := dk_2 (dk_at dksX0_isWeighing_0 9 rfl rfl)
theorem dX0_isWeighing_10 : decode cX0_isWeighing 10 = .ok (.if_icmp .eq 7, 3) := dk_159 0 7 (dk_at dksX0_isWeighing_0 10 rfl rfl)
theorem dX0_isWeighing_13 : decode cX0_isWeighing 13 = .ok (.iconst 1, 1) := dk_4 (dk_at dksX0_isWeighing_0 13 rfl rfl)
theorem dX0_isWeighing_14 : decode cX0_isWeighing 14 = .ok (.goto 4, 3) := dk_167 0 4 (dk_at dksX0_isWeighing_0 14 rfl rfl)
theorem dX0_isWeighing_17 : decode cX0_isWeighing 17 = .ok (.iconst 0, 1) := dk_3 (dk_at dksX0_isWeighing_0 17 rfl rfl)
theorem dX0_isWeighing_18 : decode cX0_isWeighing 18 = .ok (.ireturn, 1) := dk_172 (dk_at dksX0_isWeighing_0 18 rfl rfl)
abbrev cX0_has : ByteArray := prog_1_method_2_code
def yX0_has : MethodName := ⟨RX0, "has", "(II)Z"⟩
def dkwX0_has_0 : List UInt8 := [26, 27, 122, 4, 126, 4, 160, 0, 7, 4, 167, 0, 4, 3, 172]
abbrev dktX0_has_0 : List UInt8 := dkwX0_has_0 ++ []
theorem dksX0_has_0 : cX0_has.data.toList.drop 0 = dktX0_has_0 := by decide +kernel
theorem dX0_has_0 : decode cX0_has 0 = .ok (.iload_n 0, 1) := dk_26 (dk_at dksX0_has_0 0 rfl rfl)
theorem dX0_has_1 : decode cX0_has 1 = .ok (.iload_n 1, 1) := dk_27 (dk_at dksX0_has_0 1 rfl rfl)
theorem dX0_has_2 : decode cX0_has 2 = .ok (.ishr, 1) := dk_122 (dk_at dksX0_has_0 2 rfl rfl)
theorem dX0_has_3 : decode cX0_has 3 = .ok (.iconst 1, 1) := dk_4 (dk_at dksX0_has_0 3 rfl rfl)
theorem dX0_has_4 : decode cX0_has 4 = .ok (.iand, 1) := dk_126 (dk_at dksX0_has_0 4 rfl rfl)
theorem dX0_has_5 : decode cX0_has 5 = .ok (.iconst 1, 1) := dk_4 (dk_at dksX0_has_0 5 rfl rfl)
theorem dX0_has_6 : decode cX0_has 6 = .ok (.if_icmp .ne 7, 3) := dk_160 0 7 (dk_at dksX0_has_0 6 rfl rfl)
theorem dX0_has_9 : decode cX0_has 9 = .ok (.iconst 1, 1) := dk_4 (dk_at dksX0_has_0 9 rfl rfl)
theorem dX0_has_10 : decode cX0_has 10 = .ok (.goto 4, 3) := dk_167 0 4 (dk_at dksX0_has_0 10 rfl rfl)
theorem dX0_has_13 : decode cX0_has 13 = .ok (.iconst 0, 1) := dk_3 (dk_at dksX0_has_0 13 rfl rfl)
theorem dX0_has_14 : decode cX0_has 14 = .ok (.ireturn, 1) := dk_172 (dk_at dksX0_has_0 14 rfl rfl)
abbrev cX0_lays : ByteArray := prog_1_method_36_code
def yX0_lays : MethodName := ⟨RX0, "lays", "(I)V"⟩
def dkwX0_lays_0 : List UInt8 := [187, 0, 206, 89, 42, 183, 0, 216, 77, 44, 27, 182, 0, 219, 44, 182, 0, 211, 177]
abbrev dktX0_lays_0 : List UInt8 := dkwX0_lays_0 ++ []
theorem dksX0_lays_0 : cX0_lays.data.toList.drop 0 = dktX0_lays_0 := by decide +kernel
theorem dX0_lays_0 : decode cX0_lays 0 = .ok (.new 206, 3) := dk_187 0 206 (dk_at dksX0_lays_0 0 rfl rfl)
theorem dX0_lays_3 : decode cX0_lays 3 = .ok (.dup, 1) := dk_89 (dk_at dksX0_lays_0 3 rfl rfl)
theorem dX0_lays_4 : decode cX0_lays 4 = .ok (.aload_n 0, 1) := dk_42 (dk_at dksX0_lays_0 4 rfl rfl)
theorem dX0_lays_5 : decode cX0_lays 5 = .ok (.invokespecial 216, 3) := dk_183 0 216 (dk_at dksX0_lays_0 5 rfl rfl)
theorem dX0_lays_8 : decode cX0_lays 8 = .ok (.astore_n 2, 1) := dk_77 (dk_at dksX0_lays_0 8 rfl rfl)
theorem dX0_lays_9 : decode cX0_lays 9 = .ok (.aload_n 2, 1) := dk_44 (dk_at dksX0_lays_0 9 rfl rfl)
theorem dX0_lays_10 : decode cX0_lays 10 = .ok (.iload_n 1, 1) := dk_27 (dk_at dksX0_lays_0 10 rfl rfl)
theorem dX0_lays_11 : decode cX0_lays 11 = .ok (.invokevirtual 219, 3) := dk_182 0 219 (dk_at dksX0_lays_0 11 rfl rfl)
theorem dX0_lays_14 : decode cX0_lays 14 = .ok (.aload_n 2, 1) := dk_44 (dk_at dksX0_lays_0 14 rfl rfl)
theorem dX0_lays_15 : decode cX0_lays 15 = .ok (.invokevirtual 211, 3) := dk_182 0 211 (dk_at dksX0_lays_0 15 rfl rfl)
theorem dX0_lays_18 : decode cX0_lays 18 = .ok (.return_, 1) := dk_177 (dk_at dksX0_lays_0 18 rfl rfl)
abbrev cX0_weightOf : ByteArray := prog_1_method_25_code
def yX0_weightOf : MethodName := ⟨RX0, "weightOf", "(I)I"⟩
def dkwX0_weightOf_0 : List UInt8 := [42, 42, 182, 0, 167, 27, 182, 0, 170, 172]
abbrev dktX0_weightOf_0 : List UInt8 := dkwX0_weightOf_0 ++ []
theorem dksX0_weightOf_0 : cX0_weightOf.data.toList.drop 0 = dktX0_weightOf_0 := by decide +kernel
theorem dX0_weightOf_0 : decode cX0_weightOf 0 = .ok (.aload_n 0, 1) := dk_42 (dk_at dksX0_weightOf_0 0 rfl rfl)
theorem dX0_weightOf_1 : decode cX0_weightOf 1 = .ok (.aload_n 0, 1) := dk_42 (dk_at dksX0_weightOf_0 1 rfl rfl)
theorem dX0_weightOf_2 : decode cX0_weightOf 2 = .ok (.invokevirtual 167, 3) := dk_182 0 167 (dk_at dksX0_weightOf_0 2 rfl rfl)
theorem dX0_weightOf_5 : decode cX0_weightOf 5 = .ok (.iload_n 1, 1) := dk_27 (dk_at dksX0_weightOf_0 5 rfl rfl)
theorem dX0_weightOf_6 : decode cX0_weightOf 6 = .ok (.invokevirtual 170, 3) := dk_182 0 170 (dk_at dksX0_weightOf_0 6 rfl rfl)
theorem dX0_weightOf_9 : decode cX0_weightOf 9 = .ok (.ireturn, 1) := dk_172 (dk_at dksX0_weightOf_0 9 rfl rfl)
abbrev cX0_weightBy : ByteArray := prog_1_method_24_code
def yX0_weightBy : MethodName := ⟨RX0, "weightBy", "(LAgainstFeather$Text;I)I"⟩
def dkwX0_weightBy_4 : List UInt8 := [45, 5, 46, 17, 252, 25, 17, 3, 231, 182, 0, 164, 172]
abbrev dktX0_weightBy_4 : List UInt8 := dkwX0_weightBy_4 ++ []
def dkwX0_weightBy_3 : List UInt8 := [108, 79, 42, 180, 0, 30, 16, 7, 45, 7, 46, 2, 160, 0, 7, 3, 167, 0, 4, 4, 79, 42, 43, 3]
abbrev dktX0_weightBy_3 : List UInt8 := dkwX0_weightBy_3 ++ dktX0_weightBy_4
def dkwX0_weightBy_2 : List UInt8 := [180, 0, 30, 8, 45, 6, 46, 5, 126, 5, 108, 79, 42, 180, 0, 30, 16, 6, 45, 6, 46, 7, 126, 7]
abbrev dktX0_weightBy_2 : List UInt8 := dkwX0_weightBy_2 ++ dktX0_weightBy_3
def dkwX0_weightBy_1 : List UInt8 := [46, 79, 42, 180, 0, 30, 6, 45, 5, 46, 79, 42, 180, 0, 30, 7, 45, 6, 46, 4, 126, 79, 42]
abbrev dktX0_weightBy_1 : List UInt8 := dkwX0_weightBy_1 ++ dktX0_weightBy_2
def dkwX0_weightBy_0 : List UInt8 := [42, 180, 0, 12, 180, 0, 88, 28, 50, 78, 42, 45, 3, 46, 182, 0, 162, 42, 180, 0, 30, 5, 45, 4]
abbrev dktX0_weightBy_0 : List UInt8 := dkwX0_weightBy_0 ++ dktX0_weightBy_1
theorem dksX0_weightBy_0 : cX0_weightBy.data.toList.drop 0 = dktX0_weightBy_0 := by decide +kernel
theorem dksX0_weightBy_1 : cX0_weightBy.data.toList.drop 24 = dktX0_weightBy_1 := dk_seg dksX0_weightBy_0 24 rfl rfl
theorem dksX0_weightBy_2 : cX0_weightBy.data.toList.drop 47 = dktX0_weightBy_2 := dk_seg dksX0_weightBy_1 23 rfl rfl
theorem dksX0_weightBy_3 : cX0_weightBy.data.toList.drop 71 = dktX0_weightBy_3 := dk_seg dksX0_weightBy_2 24 rfl rfl
theorem dksX0_weightBy_4 : cX0_weightBy.data.toList.drop 95 = dktX0_weightBy_4 := dk_seg dksX0_weightBy_3 24 rfl rfl
theorem dX0_weightBy_0 : decode cX0_weightBy 0 = .ok (.aload_n 0, 1) := dk_42 (dk_at dksX0_weightBy_0 0 rfl rfl)
theorem dX0_weightBy_1 : decode cX0_weightBy 1 = .ok (.getfield 12, 3) := dk_180 0 12 (dk_at dksX0_weightBy_0 1 rfl rfl)
theorem dX0_weightBy_4 : decode cX0_weightBy 4 = .ok (.getfield 88, 3) := dk_180 0 88 (dk_at dksX0_weightBy_0 4 rfl rfl)
theorem dX0_weightBy_7 : decode cX0_weightBy 7 = .ok (.iload_n 2, 1) := dk_28 (dk_at dksX0_weightBy_0 7 rfl rfl)
theorem dX0_weightBy_8 : decode cX0_weightBy 8 = .ok (.aaload, 1) := dk_50 (dk_at dksX0_weightBy_0 8 rfl rfl)
theorem dX0_weightBy_9 : decode cX0_weightBy 9 = .ok (.astore_n 3, 1) := dk_78 (dk_at dksX0_weightBy_0 9 rfl rfl)
theorem dX0_weightBy_10 : decode cX0_weightBy 10 = .ok (.aload_n 0, 1) := dk_42 (dk_at dksX0_weightBy_0 10 rfl rfl)
theorem dX0_weightBy_11 : decode cX0_weightBy 11 = .ok (.aload_n 3, 1) := dk_45 (dk_at dksX0_weightBy_0 11 rfl rfl)
theorem dX0_weightBy_12 : decode cX0_weightBy 12 = .ok (.iconst 0, 1) := dk_3 (dk_at dksX0_weightBy_0 12 rfl rfl)
theorem dX0_weightBy_13 : decode cX0_weightBy 13 = .ok (.iaload, 1) := dk_46 (dk_at dksX0_weightBy_0 13 rfl rfl)
theorem dX0_weightBy_14 : decode cX0_weightBy 14 = .ok (.invokevirtual 162, 3) := dk_182 0 162 (dk_at dksX0_weightBy_0 14 rfl rfl)
theorem dX0_weightBy_17 : decode cX0_weightBy 17 = .ok (.aload_n 0, 1) := dk_42 (dk_at dksX0_weightBy_0 17 rfl rfl)
theorem dX0_weightBy_18 : decode cX0_weightBy 18 = .ok (.getfield 30, 3) := dk_180 0 30 (dk_at dksX0_weightBy_0 18 rfl rfl)
theorem dX0_weightBy_21 : decode cX0_weightBy 21 = .ok (.iconst 2, 1) := dk_5 (dk_at dksX0_weightBy_0 21 rfl rfl)
theorem dX0_weightBy_22 : decode cX0_weightBy 22 = .ok (.aload_n 3, 1) := dk_45 (dk_at dksX0_weightBy_0 22 rfl rfl)
theorem dX0_weightBy_23 : decode cX0_weightBy 23 = .ok (.iconst 1, 1) := dk_4 (dk_at dksX0_weightBy_0 23 rfl rfl)
theorem dX0_weightBy_24 : decode cX0_weightBy 24 = .ok (.iaload, 1) := dk_46 (dk_at dksX0_weightBy_1 0 rfl rfl)
theorem dX0_weightBy_25 : decode cX0_weightBy 25 = .ok (.iastore, 1) := dk_79 (dk_at dksX0_weightBy_1 1 rfl rfl)
theorem dX0_weightBy_26 : decode cX0_weightBy 26 = .ok (.aload_n 0, 1) := dk_42 (dk_at dksX0_weightBy_1 2 rfl rfl)
theorem dX0_weightBy_27 : decode cX0_weightBy 27 = .ok (.getfield 30, 3) := dk_180 0 30 (dk_at dksX0_weightBy_1 3 rfl rfl)
theorem dX0_weightBy_30 : decode cX0_weightBy 30 = .ok (.iconst 3, 1) := dk_6 (dk_at dksX0_weightBy_1 6 rfl rfl)
theorem dX0_weightBy_31 : decode cX0_weightBy 31 = .ok (.aload_n 3, 1) := dk_45 (dk_at dksX0_weightBy_1 7 rfl rfl)
theorem dX0_weightBy_32 : decode cX0_weightBy 32 = .ok (.iconst 2, 1) := dk_5 (dk_at dksX0_weightBy_1 8 rfl rfl)
theorem dX0_weightBy_33 : decode cX0_weightBy 33 = .ok (.iaload, 1) := dk_46 (dk_at dksX0_weightBy_1 9 rfl rfl)
theorem dX0_weightBy_34 : decode cX0_weightBy 34 = .ok (.iastore, 1) := dk_79 (dk_at dksX0_weightBy_1 10 rfl rfl)
theorem dX0_weightBy_35 : decode cX0_weightBy 35 = .ok (.aload_n 0, 1) := dk_42 (dk_at dksX0_weightBy_1 11 rfl rfl)
theorem dX0_weightBy_36 : decode cX0_weightBy 36 = .ok (.getfield 30, 3) := dk_180 0 30 (dk_at dksX0_weightBy_1 12 rfl rfl)
theorem dX0_weightBy_39 : decode cX0_weightBy 39 = .ok (.iconst 4, 1) := dk_7 (dk_at dksX0_weightBy_1 15 rfl rfl)
theorem dX0_weightBy_40 : decode cX0_weightBy 40 = .ok (.aload_n 3, 1) := dk_45 (dk_at dksX0_weightBy_1 16 rfl rfl)
theorem dX0_weightBy_41 : decode cX0_weightBy 41 = .ok (.iconst 3, 1) := dk_6 (dk_at dksX0_weightBy_1 17 rfl rfl)
theorem dX0_weightBy_42 : decode cX0_weightBy 42 = .ok (.iaload, 1) := dk_46 (dk_at dksX0_weightBy_1 18 rfl rfl)
theorem dX0_weightBy_43 : decode cX0_weightBy 43 = .ok (.iconst 1, 1) := dk_4 (dk_at dksX0_weightBy_1 19 rfl rfl)
theorem dX0_weightBy_44 : decode cX0_weightBy 44 = .ok (.iand, 1) := dk_126 (dk_at dksX0_weightBy_1 20 rfl rfl)
theorem dX0_weightBy_45 : decode cX0_weightBy 45 = .ok (.iastore, 1) := dk_79 (dk_at dksX0_weightBy_1 21 rfl rfl)
theorem dX0_weightBy_46 : decode cX0_weightBy 46 = .ok (.aload_n 0, 1) := dk_42 (dk_at dksX0_weightBy_1 22 rfl rfl)
theorem dX0_weightBy_47 : decode cX0_weightBy 47 = .ok (.getfield 30, 3) := dk_180 0 30 (dk_at dksX0_weightBy_2 0 rfl rfl)
theorem dX0_weightBy_50 : decode cX0_weightBy 50 = .ok (.iconst 5, 1) := dk_8 (dk_at dksX0_weightBy_2 3 rfl rfl)
theorem dX0_weightBy_51 : decode cX0_weightBy 51 = .ok (.aload_n 3, 1) := dk_45 (dk_at dksX0_weightBy_2 4 rfl rfl)
theorem dX0_weightBy_52 : decode cX0_weightBy 52 = .ok (.iconst 3, 1) := dk_6 (dk_at dksX0_weightBy_2 5 rfl rfl)
theorem dX0_weightBy_53 : decode cX0_weightBy 53 = .ok (.iaload, 1) := dk_46 (dk_at dksX0_weightBy_2 6 rfl rfl)
theorem dX0_weightBy_54 : decode cX0_weightBy 54 = .ok (.iconst 2, 1) := dk_5 (dk_at dksX0_weightBy_2 7 rfl rfl)
theorem dX0_weightBy_55 : decode cX0_weightBy 55 = .ok (.iand, 1) := dk_126 (dk_at dksX0_weightBy_2 8 rfl rfl)
theorem dX0_weightBy_56 : decode cX0_weightBy 56 = .ok (.iconst 2, 1) := dk_5 (dk_at dksX0_weightBy_2 9 rfl rfl)
theorem dX0_weightBy_57 : decode cX0_weightBy 57 = .ok (.idiv, 1) := dk_108 (dk_at dksX0_weightBy_2 10 rfl rfl)
theorem dX0_weightBy_58 : decode cX0_weightBy 58 = .ok (.iastore, 1) := dk_79 (dk_at dksX0_weightBy_2 11 rfl rfl)
theorem dX0_weightBy_59 : decode cX0_weightBy 59 = .ok (.aload_n 0, 1) := dk_42 (dk_at dksX0_weightBy_2 12 rfl rfl)
theorem dX0_weightBy_60 : decode cX0_weightBy 60 = .ok (.getfield 30, 3) := dk_180 0 30 (dk_at dksX0_weightBy_2 13 rfl rfl)
theorem dX0_weightBy_63 : decode cX0_weightBy 63 = .ok (.bipush 6, 2) := dk_16 6 (dk_at dksX0_weightBy_2 16 rfl rfl)
theorem dX0_weightBy_65 : decode cX0_weightBy 65 = .ok (.aload_n 3, 1) := dk_45 (dk_at dksX0_weightBy_2 18 rfl rfl)
theorem dX0_weightBy_66 : decode cX0_weightBy 66 = .ok (.iconst 3, 1) := dk_6 (dk_at dksX0_weightBy_2 19 rfl rfl)
theorem dX0_weightBy_67 : decode cX0_weightBy 67 = .ok (.iaload, 1) := dk_46 (dk_at dksX0_weightBy_2 20 rfl rfl)
theorem dX0_weightBy_68 : decode cX0_weightBy 68 = .ok (.iconst 4, 1) := dk_7 (dk_at dksX0_weightBy_2 21 rfl rfl)
theorem dX0_weightBy_69 : decode cX0_weightBy 69 = .ok (.iand, 1) := dk_126 (dk_at dksX0_weightBy_2 22 rfl rfl)
theorem dX0_weightBy_70 : decode cX0_weightBy 70 = .ok (.iconst 4, 1) := dk_7 (dk_at dksX0_weightBy_2 23 rfl rfl)
theorem dX0_weightBy_71 : decode cX0_weightBy 71 = .ok (.idiv, 1) := dk_108 (dk_at dksX0_weightBy_3 0 rfl rfl)
theorem dX0_weightBy_72 : decode cX0_weightBy 72 = .ok (.iastore, 1) := dk_79 (dk_at dksX0_weightBy_3 1 rfl rfl)
theorem dX0_weightBy_73 : decode cX0_weightBy 73 = .ok (.aload_n 0, 1) := dk_42 (dk_at dksX0_weightBy_3 2 rfl rfl)
theorem dX0_weightBy_74 : decode cX0_weightBy 74 = .ok (.getfield 30, 3) := dk_180 0 30 (dk_at dksX0_weightBy_3 3 rfl rfl)
theorem dX0_weightBy_77 : decode cX0_weightBy 77 = .ok (.bipush 7, 2) := dk_16 7 (dk_at dksX0_weightBy_3 6 rfl rfl)
theorem dX0_weightBy_79 : decode cX0_weightBy 79 = .ok (.aload_n 3, 1) := dk_45 (dk_at dksX0_weightBy_3 8 rfl rfl)
theorem dX0_weightBy_80 : decode cX0_weightBy 80 = .ok (.iconst 4, 1) := dk_7 (dk_at dksX0_weightBy_3 9 rfl rfl)
theorem dX0_weightBy_81 : decode cX0_weightBy 81 = .ok (.iaload, 1) := dk_46 (dk_at dksX0_weightBy_3 10 rfl rfl)
theorem dX0_weightBy_82 : decode cX0_weightBy 82 = .ok (.iconst (-1), 1) := dk_2 (dk_at dksX0_weightBy_3 11 rfl rfl)
theorem dX0_weightBy_83 : decode cX0_weightBy 83 = .ok (.if_icmp .ne 7, 3) := dk_160 0 7 (dk_at dksX0_weightBy_3 12 rfl rfl)
theorem dX0_weightBy_86 : decode cX0_weightBy 86 = .ok (.iconst 0, 1) := dk_3 (dk_at dksX0_weightBy_3 15 rfl rfl)
theorem dX0_weightBy_87 : decode cX0_weightBy 87 = .ok (.goto 4, 3) := dk_167 0 4 (dk_at dksX0_weightBy_3 16 rfl rfl)
theorem dX0_weightBy_90 : decode cX0_weightBy 90 = .ok (.iconst 1, 1) := dk_4 (dk_at dksX0_weightBy_3 19 rfl rfl)
theorem dX0_weightBy_91 : decode cX0_weightBy 91 = .ok (.iastore, 1) := dk_79 (dk_at dksX0_weightBy_3 20 rfl rfl)
theorem dX0_weightBy_92 : decode cX0_weightBy 92 = .ok (.aload_n 0, 1) := dk_42 (dk_at dksX0_weightBy_3 21 rfl rfl)
theorem dX0_weightBy_93 : decode cX0_weightBy 93 = .ok (.aload_n 1, 1) := dk_43 (dk_at dksX0_weightBy_3 22 rfl rfl)
theorem dX0_weightBy_94 : decode cX0_weightBy 94 = .ok (.iconst 0, 1) := dk_3 (dk_at dksX0_weightBy_3 23 rfl rfl)
theorem dX0_weightBy_95 : decode cX0_weightBy 95 = .ok (.aload_n 3, 1) := dk_45 (dk_at dksX0_weightBy_4 0 rfl rfl)
theorem dX0_weightBy_96 : decode cX0_weightBy 96 = .ok (.iconst 2, 1) := dk_5 (dk_at dksX0_weightBy_4 1 rfl rfl)
theorem dX0_weightBy_97 : decode cX0_weightBy 97 = .ok (.iaload, 1) := dk_46 (dk_at dksX0_weightBy_4 2 rfl rfl)
theorem dX0_weightBy_98 : decode cX0_weightBy 98 = .ok (.sipush (-999), 3) := dk_17 252 25 (dk_at dksX0_weightBy_4 3 rfl rfl)
theorem dX0_weightBy_101 : decode cX0_weightBy 101 = .ok (.sipush 999, 3) := dk_17 3 231 (dk_at dksX0_weightBy_4 6 rfl rfl)
theorem dX0_weightBy_104 : decode cX0_weightBy 104 = .ok (.invokevirtual 164, 3) := dk_182 0 164 (dk_at dksX0_weightBy_4 9 rfl rfl)
theorem dX0_weightBy_107 : decode cX0_weightBy 107 = .ok (.ireturn, 1) := dk_172 (dk_at dksX0_weightBy_4 12 rfl rfl)
abbrev cX0_answer : ByteArray := prog_1_method_39_code
def yX0_answer : MethodName := ⟨RX0, "answer", "(IZ)I"⟩
def dkwX0_answer_2 : List UInt8 := [153, 0, 7, 4, 167, 0, 4, 3, 172]
abbrev dktX0_answer_2 : List UInt8 := dkwX0_answer_2 ++ []
def dkwX0_answer_1 : List UInt8 := [27, 184, 0, 174, 153, 0, 5, 2, 172, 42, 180, 0, 12, 182, 0, 200, 42, 27, 28, 182, 0, 234]
abbrev dktX0_answer_1 : List UInt8 := dkwX0_answer_1 ++ dktX0_answer_2
def dkwX0_answer_0 : List UInt8 := [42, 182, 0, 222, 153, 0, 27, 42, 27, 182, 0, 231, 153, 0, 19, 42, 180, 0, 12, 180, 0, 203, 8, 46]
abbrev dktX0_answer_0 : List UInt8 := dkwX0_answer_0 ++ dktX0_answer_1
theorem dksX0_answer_0 : cX0_answer.data.toList.drop 0 = dktX0_answer_0 := by decide +kernel
theorem dksX0_answer_1 : cX0_answer.data.toList.drop 24 = dktX0_answer_1 := dk_seg dksX0_answer_0 24 rfl rfl
theorem dksX0_answer_2 : cX0_answer.data.toList.drop 46 = dktX0_answer_2 := dk_seg dksX0_answer_1 22 rfl rfl
theorem dX0_answer_0 : decode cX0_answer 0 = .ok (.aload_n 0, 1) := dk_42 (dk_at dksX0_answer_0 0 rfl rfl)
theorem dX0_answer_1 : decode cX0_answer 1 = .ok (.invokevirtual 222, 3) := dk_182 0 222 (dk_at dksX0_answer_0 1 rfl rfl)
theorem dX0_answer_4 : decode cX0_answer 4 = .ok (.ifCond .eq 27, 3) := dk_153 0 27 (dk_at dksX0_answer_0 4 rfl rfl)
theorem dX0_answer_7 : decode cX0_answer 7 = .ok (.aload_n 0, 1) := dk_42 (dk_at dksX0_answer_0 7 rfl rfl)
theorem dX0_answer_8 : decode cX0_answer 8 = .ok (.iload_n 1, 1) := dk_27 (dk_at dksX0_answer_0 8 rfl rfl)
theorem dX0_answer_9 : decode cX0_answer 9 = .ok (.invokevirtual 231, 3) := dk_182 0 231 (dk_at dksX0_answer_0 9 rfl rfl)
theorem dX0_answer_12 : decode cX0_answer 12 = .ok (.ifCond .eq 19, 3) := dk_153 0 19 (dk_at dksX0_answer_0 12 rfl rfl)
theorem dX0_answer_15 : decode cX0_answer 15 = .ok (.aload_n 0, 1) := dk_42 (dk_at dksX0_answer_0 15 rfl rfl)
theorem dX0_answer_16 : decode cX0_answer 16 = .ok (.getfield 12, 3) := dk_180 0 12 (dk_at dksX0_answer_0 16 rfl rfl)
theorem dX0_answer_19 : decode cX0_answer 19 = .ok (.getfield 203, 3) := dk_180 0 203 (dk_at dksX0_answer_0 19 rfl rfl)
theorem dX0_answer_22 : decode cX0_answer 22 = .ok (.iconst 5, 1) := dk_8 (dk_at dksX0_answer_0 22 rfl rfl)
theorem dX0_answer_23 : decode cX0_answer 23 = .ok (.iaload, 1) := dk_46 (dk_at dksX0_answer_0 23 rfl rfl)
theorem dX0_answer_24 : decode cX0_answer 24 = .ok (.iload_n 1, 1) := dk_27 (dk_at dksX0_answer_1 0 rfl rfl)
theorem dX0_answer_25 : decode cX0_answer 25 = .ok (.invokestatic 174, 3) := dk_184 0 174 (dk_at dksX0_answer_1 1 rfl rfl)
theorem dX0_answer_28 : decode cX0_answer 28 = .ok (.ifCond .eq 5, 3) := dk_153 0 5 (dk_at dksX0_answer_1 4 rfl rfl)
theorem dX0_answer_31 : decode cX0_answer 31 = .ok (.iconst (-1), 1) := dk_2 (dk_at dksX0_answer_1 7 rfl rfl)
theorem dX0_answer_32 : decode cX0_answer 32 = .ok (.ireturn, 1) := dk_172 (dk_at dksX0_answer_1 8 rfl rfl)
theorem dX0_answer_33 : decode cX0_answer 33 = .ok (.aload_n 0, 1) := dk_42 (dk_at dksX0_answer_1 9 rfl rfl)
theorem dX0_answer_34 : decode cX0_answer 34 = .ok (.getfield 12, 3) := dk_180 0 12 (dk_at dksX0_answer_1 10 rfl rfl)
theorem dX0_answer_37 : decode cX0_answer 37 = .ok (.invokevirtual 200, 3) := dk_182 0 200 (dk_at dksX0_answer_1 13 rfl rfl)
theorem dX0_answer_40 : decode cX0_answer 40 = .ok (.aload_n 0, 1) := dk_42 (dk_at dksX0_answer_1 16 rfl rfl)
theorem dX0_answer_41 : decode cX0_answer 41 = .ok (.iload_n 1, 1) := dk_27 (dk_at dksX0_answer_1 17 rfl rfl)
theorem dX0_answer_42 : decode cX0_answer 42 = .ok (.iload_n 2, 1) := dk_28 (dk_at dksX0_answer_1 18 rfl rfl)
theorem dX0_answer_43 : decode cX0_answer 43 = .ok (.invokevirtual 234, 3) := dk_182 0 234 (dk_at dksX0_answer_1 19 rfl rfl)
theorem dX0_answer_46 : decode cX0_answer 46 = .ok (.ifCond .eq 7, 3) := dk_153 0 7 (dk_at dksX0_answer_2 0 rfl rfl)
theorem dX0_answer_49 : decode cX0_answer 49 = .ok (.iconst 1, 1) := dk_4 (dk_at dksX0_answer_2 3 rfl rfl)
theorem dX0_answer_50 : decode cX0_answer 50 = .ok (.goto 4, 3) := dk_167 0 4 (dk_at dksX0_answer_2 4 rfl rfl)
theorem dX0_answer_53 : decode cX0_answer 53 = .ok (.iconst 0, 1) := dk_3 (dk_at dksX0_answer_2 7 rfl rfl)
theorem dX0_answer_54 : decode cX0_answer 54 = .ok (.ireturn, 1) := dk_172 (dk_at dksX0_answer_2 8 rfl rfl)
abbrev cX0_isJudge : ByteArray := prog_1_method_6_code
def yX0_isJudge : MethodName := ⟨RX0, "isJudge", "(I)Z"⟩
def dkwX0_isJudge_0 : List UInt8 := [27, 3, 42, 180, 0, 12, 180, 0, 74, 5, 46, 4, 100, 184, 0, 77, 172]
abbrev dktX0_isJudge_0 : List UInt8 := dkwX0_isJudge_0 ++ []
theorem dksX0_isJudge_0 : cX0_isJudge.data.toList.drop 0 = dktX0_isJudge_0 := by decide +kernel
theorem dX0_isJudge_0 : decode cX0_isJudge 0 = .ok (.iload_n 1, 1) := dk_27 (dk_at dksX0_isJudge_0 0 rfl rfl)
theorem dX0_isJudge_1 : decode cX0_isJudge 1 = .ok (.iconst 0, 1) := dk_3 (dk_at dksX0_isJudge_0 1 rfl rfl)
theorem dX0_isJudge_2 : decode cX0_isJudge 2 = .ok (.aload_n 0, 1) := dk_42 (dk_at dksX0_isJudge_0 2 rfl rfl)
theorem dX0_isJudge_3 : decode cX0_isJudge 3 = .ok (.getfield 12, 3) := dk_180 0 12 (dk_at dksX0_isJudge_0 3 rfl rfl)
theorem dX0_isJudge_6 : decode cX0_isJudge 6 = .ok (.getfield 74, 3) := dk_180 0 74 (dk_at dksX0_isJudge_0 6 rfl rfl)
theorem dX0_isJudge_9 : decode cX0_isJudge 9 = .ok (.iconst 2, 1) := dk_5 (dk_at dksX0_isJudge_0 9 rfl rfl)
theorem dX0_isJudge_10 : decode cX0_isJudge 10 = .ok (.iaload, 1) := dk_46 (dk_at dksX0_isJudge_0 10 rfl rfl)
theorem dX0_isJudge_11 : decode cX0_isJudge 11 = .ok (.iconst 1, 1) := dk_4 (dk_at dksX0_isJudge_0 11 rfl rfl)
theorem dX0_isJudge_12 : decode cX0_isJudge 12 = .ok (.isub, 1) := dk_100 (dk_at dksX0_isJudge_0 12 rfl rfl)
theorem dX0_isJudge_13 : decode cX0_isJudge 13 = .ok (.invokestatic 77, 3) := dk_184 0 77 (dk_at dksX0_isJudge_0 13 rfl rfl)
theorem dX0_isJudge_16 : decode cX0_isJudge 16 = .ok (.ireturn, 1) := dk_172 (dk_at dksX0_isJudge_0 16 rfl rfl)
abbrev cX0_hears : ByteArray := prog_1_method_38_code
def yX0_hears : MethodName := ⟨RX0, "hears", "(IZ)Z"⟩
def dkwX0_hears_1 : List UInt8 := [180, 0, 12, 180, 0, 203, 8, 92, 46, 4, 27, 120, 128, 79, 21, 4, 172]
abbrev dktX0_hears_1 : List UInt8 := dkwX0_hears_1 ++ []
def dkwX0_hears_0 : List UInt8 := [187, 0, 206, 89, 42, 183, 0, 216, 78, 45, 27, 28, 182, 0, 227, 54, 4, 45, 182, 0, 211, 42]
abbrev dktX0_hears_0 : List UInt8 := dkwX0_hears_0 ++ dktX0_hears_1
theorem dksX0_hears_0 : cX0_hears.data.toList.drop 0 = dktX0_hears_0 := by decide +kernel
theorem dksX0_hears_1 : cX0_hears.data.toList.drop 22 = dktX0_hears_1 := dk_seg dksX0_hears_0 22 rfl rfl
theorem dX0_hears_0 : decode cX0_hears 0 = .ok (.new 206, 3) := dk_187 0 206 (dk_at dksX0_hears_0 0 rfl rfl)
theorem dX0_hears_3 : decode cX0_hears 3 = .ok (.dup, 1) := dk_89 (dk_at dksX0_hears_0 3 rfl rfl)
theorem dX0_hears_4 : decode cX0_hears 4 = .ok (.aload_n 0, 1) := dk_42 (dk_at dksX0_hears_0 4 rfl rfl)
theorem dX0_hears_5 : decode cX0_hears 5 = .ok (.invokespecial 216, 3) := dk_183 0 216 (dk_at dksX0_hears_0 5 rfl rfl)
theorem dX0_hears_8 : decode cX0_hears 8 = .ok (.astore_n 3, 1) := dk_78 (dk_at dksX0_hears_0 8 rfl rfl)
theorem dX0_hears_9 : decode cX0_hears 9 = .ok (.aload_n 3, 1) := dk_45 (dk_at dksX0_hears_0 9 rfl rfl)
theorem dX0_hears_10 : decode cX0_hears 10 = .ok (.iload_n 1, 1) := dk_27 (dk_at dksX0_hears_0 10 rfl rfl)
theorem dX0_hears_11 : decode cX0_hears 11 = .ok (.iload_n 2, 1) := dk_28 (dk_at dksX0_hears_0 11 rfl rfl)
theorem dX0_hears_12 : decode cX0_hears 12 = .ok (.invokevirtual 227, 3) := dk_182 0 227 (dk_at dksX0_hears_0 12 rfl rfl)
theorem dX0_hears_15 : decode cX0_hears 15 = .ok (.istore 4, 2) := dk_54 4 (dk_at dksX0_hears_0 15 rfl rfl)
theorem dX0_hears_17 : decode cX0_hears 17 = .ok (.aload_n 3, 1) := dk_45 (dk_at dksX0_hears_0 17 rfl rfl)
theorem dX0_hears_18 : decode cX0_hears 18 = .ok (.invokevirtual 211, 3) := dk_182 0 211 (dk_at dksX0_hears_0 18 rfl rfl)
theorem dX0_hears_21 : decode cX0_hears 21 = .ok (.aload_n 0, 1) := dk_42 (dk_at dksX0_hears_0 21 rfl rfl)
theorem dX0_hears_22 : decode cX0_hears 22 = .ok (.getfield 12, 3) := dk_180 0 12 (dk_at dksX0_hears_1 0 rfl rfl)
theorem dX0_hears_25 : decode cX0_hears 25 = .ok (.getfield 203, 3) := dk_180 0 203 (dk_at dksX0_hears_1 3 rfl rfl)
theorem dX0_hears_28 : decode cX0_hears 28 = .ok (.iconst 5, 1) := dk_8 (dk_at dksX0_hears_1 6 rfl rfl)
theorem dX0_hears_29 : decode cX0_hears 29 = .ok (.dup2, 1) := dk_92 (dk_at dksX0_hears_1 7 rfl rfl)
theorem dX0_hears_30 : decode cX0_hears 30 = .ok (.iaload, 1) := dk_46 (dk_at dksX0_hears_1 8 rfl rfl)
theorem dX0_hears_31 : decode cX0_hears 31 = .ok (.iconst 1, 1) := dk_4 (dk_at dksX0_hears_1 9 rfl rfl)
theorem dX0_hears_32 : decode cX0_hears 32 = .ok (.iload_n 1, 1) := dk_27 (dk_at dksX0_hears_1 10 rfl rfl)
theorem dX0_hears_33 : decode cX0_hears 33 = .ok (.ishl, 1) := dk_120 (dk_at dksX0_hears_1 11 rfl rfl)
theorem dX0_hears_34 : decode cX0_hears 34 = .ok (.ior, 1) := dk_128 (dk_at dksX0_hears_1 12 rfl rfl)
theorem dX0_hears_35 : decode cX0_hears 35 = .ok (.iastore, 1) := dk_79 (dk_at dksX0_hears_1 13 rfl rfl)
theorem dX0_hears_36 : decode cX0_hears 36 = .ok (.iload 4, 2) := dk_21 4 (dk_at dksX0_hears_1 14 rfl rfl)
theorem dX0_hears_38 : decode cX0_hears 38 = .ok (.ireturn, 1) := dk_172 (dk_at dksX0_hears_1 16 rfl rfl)
abbrev cX0_isSoOf : ByteArray := prog_1_method_28_code
def yX0_isSoOf : MethodName := ⟨RX0, "isSoOf", "(II)Z"⟩
def dkwX0_isSoOf_2 : List UInt8 := [172, 132, 3, 1, 167, 255, 206, 3, 172]
abbrev dktX0_isSoOf_2 : List UInt8 := dkwX0_isSoOf_2 ++ []
def dkwX0_isSoOf_1 : List UInt8 := [3, 46, 28, 160, 0, 22, 42, 27, 29, 182, 0, 178, 153, 0, 13, 42, 29, 182, 0, 181, 158, 0, 5, 4]
abbrev dktX0_isSoOf_1 : List UInt8 := dkwX0_isSoOf_1 ++ dktX0_isSoOf_2
def dkwX0_isSoOf_0 : List UInt8 := [3, 62, 29, 42, 180, 0, 12, 180, 0, 74, 4, 46, 162, 0, 43, 42, 180, 0, 12, 180, 0, 88, 29, 50]
abbrev dktX0_isSoOf_0 : List UInt8 := dkwX0_isSoOf_0 ++ dktX0_isSoOf_1
theorem dksX0_isSoOf_0 : cX0_isSoOf.data.toList.drop 0 = dktX0_isSoOf_0 := by decide +kernel
theorem dksX0_isSoOf_1 : cX0_isSoOf.data.toList.drop 24 = dktX0_isSoOf_1 := dk_seg dksX0_isSoOf_0 24 rfl rfl
theorem dksX0_isSoOf_2 : cX0_isSoOf.data.toList.drop 48 = dktX0_isSoOf_2 := dk_seg dksX0_isSoOf_1 24 rfl rfl
theorem dX0_isSoOf_0 : decode cX0_isSoOf 0 = .ok (.iconst 0, 1) := dk_3 (dk_at dksX0_isSoOf_0 0 rfl rfl)
theorem dX0_isSoOf_1 : decode cX0_isSoOf 1 = .ok (.istore_n 3, 1) := dk_62 (dk_at dksX0_isSoOf_0 1 rfl rfl)
theorem dX0_isSoOf_2 : decode cX0_isSoOf 2 = .ok (.iload_n 3, 1) := dk_29 (dk_at dksX0_isSoOf_0 2 rfl rfl)
theorem dX0_isSoOf_3 : decode cX0_isSoOf 3 = .ok (.aload_n 0, 1) := dk_42 (dk_at dksX0_isSoOf_0 3 rfl rfl)
theorem dX0_isSoOf_4 : decode cX0_isSoOf 4 = .ok (.getfield 12, 3) := dk_180 0 12 (dk_at dksX0_isSoOf_0 4 rfl rfl)
theorem dX0_isSoOf_7 : decode cX0_isSoOf 7 = .ok (.getfield 74, 3) := dk_180 0 74 (dk_at dksX0_isSoOf_0 7 rfl rfl)
theorem dX0_isSoOf_10 : decode cX0_isSoOf 10 = .ok (.iconst 1, 1) := dk_4 (dk_at dksX0_isSoOf_0 10 rfl rfl)
theorem dX0_isSoOf_11 : decode cX0_isSoOf 11 = .ok (.iaload, 1) := dk_46 (dk_at dksX0_isSoOf_0 11 rfl rfl)
theorem dX0_isSoOf_12 : decode cX0_isSoOf 12 = .ok (.if_icmp .ge 43, 3) := dk_162 0 43 (dk_at dksX0_isSoOf_0 12 rfl rfl)
theorem dX0_isSoOf_15 : decode cX0_isSoOf 15 = .ok (.aload_n 0, 1) := dk_42 (dk_at dksX0_isSoOf_0 15 rfl rfl)
theorem dX0_isSoOf_16 : decode cX0_isSoOf 16 = .ok (.getfield 12, 3) := dk_180 0 12 (dk_at dksX0_isSoOf_0 16 rfl rfl)
theorem dX0_isSoOf_19 : decode cX0_isSoOf 19 = .ok (.getfield 88, 3) := dk_180 0 88 (dk_at dksX0_isSoOf_0 19 rfl rfl)
theorem dX0_isSoOf_22 : decode cX0_isSoOf 22 = .ok (.iload_n 3, 1) := dk_29 (dk_at dksX0_isSoOf_0 22 rfl rfl)
theorem dX0_isSoOf_23 : decode cX0_isSoOf 23 = .ok (.aaload, 1) := dk_50 (dk_at dksX0_isSoOf_0 23 rfl rfl)
theorem dX0_isSoOf_24 : decode cX0_isSoOf 24 = .ok (.iconst 0, 1) := dk_3 (dk_at dksX0_isSoOf_1 0 rfl rfl)
theorem dX0_isSoOf_25 : decode cX0_isSoOf 25 = .ok (.iaload, 1) := dk_46 (dk_at dksX0_isSoOf_1 1 rfl rfl)
theorem dX0_isSoOf_26 : decode cX0_isSoOf 26 = .ok (.iload_n 2, 1) := dk_28 (dk_at dksX0_isSoOf_1 2 rfl rfl)
theorem dX0_isSoOf_27 : decode cX0_isSoOf 27 = .ok (.if_icmp .ne 22, 3) := dk_160 0 22 (dk_at dksX0_isSoOf_1 3 rfl rfl)
theorem dX0_isSoOf_30 : decode cX0_isSoOf 30 = .ok (.aload_n 0, 1) := dk_42 (dk_at dksX0_isSoOf_1 6 rfl rfl)
theorem dX0_isSoOf_31 : decode cX0_isSoOf 31 = .ok (.iload_n 1, 1) := dk_27 (dk_at dksX0_isSoOf_1 7 rfl rfl)
theorem dX0_isSoOf_32 : decode cX0_isSoOf 32 = .ok (.iload_n 3, 1) := dk_29 (dk_at dksX0_isSoOf_1 8 rfl rfl)
theorem dX0_isSoOf_33 : decode cX0_isSoOf 33 = .ok (.invokevirtual 178, 3) := dk_182 0 178 (dk_at dksX0_isSoOf_1 9 rfl rfl)
theorem dX0_isSoOf_36 : decode cX0_isSoOf 36 = .ok (.ifCond .eq 13, 3) := dk_153 0 13 (dk_at dksX0_isSoOf_1 12 rfl rfl)
theorem dX0_isSoOf_39 : decode cX0_isSoOf 39 = .ok (.aload_n 0, 1) := dk_42 (dk_at dksX0_isSoOf_1 15 rfl rfl)
theorem dX0_isSoOf_40 : decode cX0_isSoOf 40 = .ok (.iload_n 3, 1) := dk_29 (dk_at dksX0_isSoOf_1 16 rfl rfl)
theorem dX0_isSoOf_41 : decode cX0_isSoOf 41 = .ok (.invokevirtual 181, 3) := dk_182 0 181 (dk_at dksX0_isSoOf_1 17 rfl rfl)
theorem dX0_isSoOf_44 : decode cX0_isSoOf 44 = .ok (.ifCond .le 5, 3) := dk_158 0 5 (dk_at dksX0_isSoOf_1 20 rfl rfl)
theorem dX0_isSoOf_47 : decode cX0_isSoOf 47 = .ok (.iconst 1, 1) := dk_4 (dk_at dksX0_isSoOf_1 23 rfl rfl)
theorem dX0_isSoOf_48 : decode cX0_isSoOf 48 = .ok (.ireturn, 1) := dk_172 (dk_at dksX0_isSoOf_2 0 rfl rfl)
theorem dX0_isSoOf_49 : decode cX0_isSoOf 49 = .ok (.iinc 3 1, 3) := dk_132 3 1 (dk_at dksX0_isSoOf_2 1 rfl rfl)
theorem dX0_isSoOf_52 : decode cX0_isSoOf 52 = .ok (.goto (-50), 3) := dk_167 255 206 (dk_at dksX0_isSoOf_2 4 rfl rfl)
theorem dX0_isSoOf_55 : decode cX0_isSoOf 55 = .ok (.iconst 0, 1) := dk_3 (dk_at dksX0_isSoOf_2 7 rfl rfl)
theorem dX0_isSoOf_56 : decode cX0_isSoOf 56 = .ok (.ireturn, 1) := dk_172 (dk_at dksX0_isSoOf_2 8 rfl rfl)
abbrev cX0_isAskedOf : ByteArray := prog_1_method_27_code
def yX0_isAskedOf : MethodName := ⟨RX0, "isAskedOf", "(II)Z"⟩
def dkwX0_isAskedOf_0 : List UInt8 := [42, 180, 0, 12, 180, 0, 102, 27, 46, 42, 180, 0, 12, 180, 0, 88, 28, 50, 4, 46, 184, 0, 174, 172]
abbrev dktX0_isAskedOf_0 : List UInt8 := dkwX0_isAskedOf_0 ++ []
theorem dksX0_isAskedOf_0 : cX0_isAskedOf.data.toList.drop 0 = dktX0_isAskedOf_0 := by decide +kernel
theorem dX0_isAskedOf_0 : decode cX0_isAskedOf 0 = .ok (.aload_n 0, 1) := dk_42 (dk_at dksX0_isAskedOf_0 0 rfl rfl)
theorem dX0_isAskedOf_1 : decode cX0_isAskedOf 1 = .ok (.getfield 12, 3) := dk_180 0 12 (dk_at dksX0_isAskedOf_0 1 rfl rfl)
theorem dX0_isAskedOf_4 : decode cX0_isAskedOf 4 = .ok (.getfield 102, 3) := dk_180 0 102 (dk_at dksX0_isAskedOf_0 4 rfl rfl)
theorem dX0_isAskedOf_7 : decode cX0_isAskedOf 7 = .ok (.iload_n 1, 1) := dk_27 (dk_at dksX0_isAskedOf_0 7 rfl rfl)
theorem dX0_isAskedOf_8 : decode cX0_isAskedOf 8 = .ok (.iaload, 1) := dk_46 (dk_at dksX0_isAskedOf_0 8 rfl rfl)
theorem dX0_isAskedOf_9 : decode cX0_isAskedOf 9 = .ok (.aload_n 0, 1) := dk_42 (dk_at dksX0_isAskedOf_0 9 rfl rfl)
theorem dX0_isAskedOf_10 : decode cX0_isAskedOf 10 = .ok (.getfield 12, 3) := dk_180 0 12 (dk_at dksX0_isAskedOf_0 10 rfl rfl)
theorem dX0_isAskedOf_13 : decode cX0_isAskedOf 13 = .ok (.getfield 88, 3) := dk_180 0 88 (dk_at dksX0_isAskedOf_0 13 rfl rfl)
theorem dX0_isAskedOf_16 : decode cX0_isAskedOf 16 = .ok (.iload_n 2, 1) := dk_28 (dk_at dksX0_isAskedOf_0 16 rfl rfl)
theorem dX0_isAskedOf_17 : decode cX0_isAskedOf 17 = .ok (.aaload, 1) := dk_50 (dk_at dksX0_isAskedOf_0 17 rfl rfl)
theorem dX0_isAskedOf_18 : decode cX0_isAskedOf 18 = .ok (.iconst 1, 1) := dk_4 (dk_at dksX0_isAskedOf_0 18 rfl rfl)
theorem dX0_isAskedOf_19 : decode cX0_isAskedOf 19 = .ok (.iaload, 1) := dk_46 (dk_at dksX0_isAskedOf_0 19 rfl rfl)
theorem dX0_isAskedOf_20 : decode cX0_isAskedOf 20 = .ok (.invokestatic 174, 3) := dk_184 0 174 (dk_at dksX0_isAskedOf_0 20 rfl rfl)
theorem dX0_isAskedOf_23 : decode cX0_isAskedOf 23 = .ok (.ireturn, 1) := dk_172 (dk_at dksX0_isAskedOf_0 23 rfl rfl)
abbrev cX0_lieOf : ByteArray := prog_1_method_29_code
def yX0_lieOf : MethodName := ⟨RX0, "lieOf", "(III)I"⟩
def dkwX0_lieOf_6 : List UInt8 := [182, 0, 164, 172]
abbrev dktX0_lieOf_6 : List UInt8 := dkwX0_lieOf_6 ++ []
def dkwX0_lieOf_5 : List UInt8 := [184, 0, 185, 79, 42, 180, 0, 30, 16, 13, 21, 4, 79, 42, 42, 182, 0, 167, 5, 6, 3, 17, 3, 231]
abbrev dktX0_lieOf_5 : List UInt8 := dkwX0_lieOf_5 ++ dktX0_lieOf_6
def dkwX0_lieOf_4 : List UInt8 := [180, 0, 30, 16, 11, 28, 79, 42, 180, 0, 30, 16, 12, 42, 180, 0, 12, 180, 0, 102, 28, 46]
abbrev dktX0_lieOf_4 : List UInt8 := dkwX0_lieOf_4 ++ dktX0_lieOf_5
def dkwX0_lieOf_3 : List UInt8 := [3, 96, 54, 4, 132, 5, 1, 167, 255, 186, 42, 27, 182, 0, 162, 42, 180, 0, 30, 16, 10, 29, 79, 42]
abbrev dktX0_lieOf_3 : List UInt8 := dkwX0_lieOf_3 ++ dktX0_lieOf_4
def dkwX0_lieOf_2 : List UInt8 := [153, 0, 24, 42, 180, 0, 12, 180, 0, 88, 21, 5, 50, 6, 46, 4, 126, 154, 0, 7, 4, 167, 0, 4]
abbrev dktX0_lieOf_2 : List UInt8 := dkwX0_lieOf_2 ++ dktX0_lieOf_3
def dkwX0_lieOf_1 : List UInt8 := [180, 0, 12, 180, 0, 88, 21, 5, 50, 3, 46, 27, 160, 0, 34, 42, 28, 21, 5, 182, 0, 178]
abbrev dktX0_lieOf_1 : List UInt8 := dkwX0_lieOf_1 ++ dktX0_lieOf_2
def dkwX0_lieOf_0 : List UInt8 := [3, 54, 4, 3, 54, 5, 21, 5, 42, 180, 0, 12, 180, 0, 74, 4, 46, 162, 0, 62, 21, 4, 42]
abbrev dktX0_lieOf_0 : List UInt8 := dkwX0_lieOf_0 ++ dktX0_lieOf_1
theorem dksX0_lieOf_0 : cX0_lieOf.data.toList.drop 0 = dktX0_lieOf_0 := by decide +kernel
theorem dksX0_lieOf_1 : cX0_lieOf.data.toList.drop 23 = dktX0_lieOf_1 := dk_seg dksX0_lieOf_0 23 rfl rfl
theorem dksX0_lieOf_2 : cX0_lieOf.data.toList.drop 45 = dktX0_lieOf_2 := dk_seg dksX0_lieOf_1 22 rfl rfl
theorem dksX0_lieOf_3 : cX0_lieOf.data.toList.drop 69 = dktX0_lieOf_3 := dk_seg dksX0_lieOf_2 24 rfl rfl
theorem dksX0_lieOf_4 : cX0_lieOf.data.toList.drop 93 = dktX0_lieOf_4 := dk_seg dksX0_lieOf_3 24 rfl rfl
theorem dksX0_lieOf_5 : cX0_lieOf.data.toList.drop 115 = dktX0_lieOf_5 := dk_seg dksX0_lieOf_4 22 rfl rfl
theorem dksX0_lieOf_6 : cX0_lieOf.data.toList.drop 139 = dktX0_lieOf_6 := dk_seg dksX0_lieOf_5 24 rfl rfl
theorem dX0_lieOf_0 : decode cX0_lieOf 0 = .ok (.iconst 0, 1) := dk_3 (dk_at dksX0_lieOf_0 0 rfl rfl)
theorem dX0_lieOf_1 : decode cX0_lieOf 1 = .ok (.istore 4, 2) := dk_54 4 (dk_at dksX0_lieOf_0 1 rfl rfl)
theorem dX0_lieOf_3 : decode cX0_lieOf 3 = .ok (.iconst 0, 1) := dk_3 (dk_at dksX0_lieOf_0 3 rfl rfl)
theorem dX0_lieOf_4 : decode cX0_lieOf 4 = .ok (.istore 5, 2) := dk_54 5 (dk_at dksX0_lieOf_0 4 rfl rfl)
theorem dX0_lieOf_6 : decode cX0_lieOf 6 = .ok (.iload 5, 2) := dk_21 5 (dk_at dksX0_lieOf_0 6 rfl rfl)
theorem dX0_lieOf_8 : decode cX0_lieOf 8 = .ok (.aload_n 0, 1) := dk_42 (dk_at dksX0_lieOf_0 8 rfl rfl)
theorem dX0_lieOf_9 : decode cX0_lieOf 9 = .ok (.getfield 12, 3) := dk_180 0 12 (dk_at dksX0_lieOf_0 9 rfl rfl)
theorem dX0_lieOf_12 : decode cX0_lieOf 12 = .ok (.getfield 74, 3) := dk_180 0 74 (dk_at dksX0_lieOf_0 12 rfl rfl)
theorem dX0_lieOf_15 : decode cX0_lieOf 15 = .ok (.iconst 1, 1) := dk_4 (dk_at dksX0_lieOf_0 15 rfl rfl)
theorem dX0_lieOf_16 : decode cX0_lieOf 16 = .ok (.iaload, 1) := dk_46 (dk_at dksX0_lieOf_0 16 rfl rfl)
theorem dX0_lieOf_17 : decode cX0_lieOf 17 = .ok (.if_icmp .ge 62, 3) := dk_162 0 62 (dk_at dksX0_lieOf_0 17 rfl rfl)
theorem dX0_lieOf_20 : decode cX0_lieOf 20 = .ok (.iload 4, 2) := dk_21 4 (dk_at dksX0_lieOf_0 20 rfl rfl)
theorem dX0_lieOf_22 : decode cX0_lieOf 22 = .ok (.aload_n 0, 1) := dk_42 (dk_at dksX0_lieOf_0 22 rfl rfl)
theorem dX0_lieOf_23 : decode cX0_lieOf 23 = .ok (.getfield 12, 3) := dk_180 0 12 (dk_at dksX0_lieOf_1 0 rfl rfl)
theorem dX0_lieOf_26 : decode cX0_lieOf 26 = .ok (.getfield 88, 3) := dk_180 0 88 (dk_at dksX0_lieOf_1 3 rfl rfl)
theorem dX0_lieOf_29 : decode cX0_lieOf 29 = .ok (.iload 5, 2) := dk_21 5 (dk_at dksX0_lieOf_1 6 rfl rfl)
theorem dX0_lieOf_31 : decode cX0_lieOf 31 = .ok (.aaload, 1) := dk_50 (dk_at dksX0_lieOf_1 8 rfl rfl)
theorem dX0_lieOf_32 : decode cX0_lieOf 32 = .ok (.iconst 0, 1) := dk_3 (dk_at dksX0_lieOf_1 9 rfl rfl)
theorem dX0_lieOf_33 : decode cX0_lieOf 33 = .ok (.iaload, 1) := dk_46 (dk_at dksX0_lieOf_1 10 rfl rfl)
theorem dX0_lieOf_34 : decode cX0_lieOf 34 = .ok (.iload_n 1, 1) := dk_27 (dk_at dksX0_lieOf_1 11 rfl rfl)
theorem dX0_lieOf_35 : decode cX0_lieOf 35 = .ok (.if_icmp .ne 34, 3) := dk_160 0 34 (dk_at dksX0_lieOf_1 12 rfl rfl)
theorem dX0_lieOf_38 : decode cX0_lieOf 38 = .ok (.aload_n 0, 1) := dk_42 (dk_at dksX0_lieOf_1 15 rfl rfl)
theorem dX0_lieOf_39 : decode cX0_lieOf 39 = .ok (.iload_n 2, 1) := dk_28 (dk_at dksX0_lieOf_1 16 rfl rfl)
theorem dX0_lieOf_40 : decode cX0_lieOf 40 = .ok (.iload 5, 2) := dk_21 5 (dk_at dksX0_lieOf_1 17 rfl rfl)
theorem dX0_lieOf_42 : decode cX0_lieOf 42 = .ok (.invokevirtual 178, 3) := dk_182 0 178 (dk_at dksX0_lieOf_1 19 rfl rfl)
theorem dX0_lieOf_45 : decode cX0_lieOf 45 = .ok (.ifCond .eq 24, 3) := dk_153 0 24 (dk_at dksX0_lieOf_2 0 rfl rfl)
theorem dX0_lieOf_48 : decode cX0_lieOf 48 = .ok (.aload_n 0, 1) := dk_42 (dk_at dksX0_lieOf_2 3 rfl rfl)
theorem dX0_lieOf_49 : decode cX0_lieOf 49 = .ok (.getfield 12, 3) := dk_180 0 12 (dk_at dksX0_lieOf_2 4 rfl rfl)
theorem dX0_lieOf_52 : decode cX0_lieOf 52 = .ok (.getfield 88, 3) := dk_180 0 88 (dk_at dksX0_lieOf_2 7 rfl rfl)
theorem dX0_lieOf_55 : decode cX0_lieOf 55 = .ok (.iload 5, 2) := dk_21 5 (dk_at dksX0_lieOf_2 10 rfl rfl)
theorem dX0_lieOf_57 : decode cX0_lieOf 57 = .ok (.aaload, 1) := dk_50 (dk_at dksX0_lieOf_2 12 rfl rfl)
theorem dX0_lieOf_58 : decode cX0_lieOf 58 = .ok (.iconst 3, 1) := dk_6 (dk_at dksX0_lieOf_2 13 rfl rfl)
theorem dX0_lieOf_59 : decode cX0_lieOf 59 = .ok (.iaload, 1) := dk_46 (dk_at dksX0_lieOf_2 14 rfl rfl)
theorem dX0_lieOf_60 : decode cX0_lieOf 60 = .ok (.iconst 1, 1) := dk_4 (dk_at dksX0_lieOf_2 15 rfl rfl)
theorem dX0_lieOf_61 : decode cX0_lieOf 61 = .ok (.iand, 1) := dk_126 (dk_at dksX0_lieOf_2 16 rfl rfl)
theorem dX0_lieOf_62 : decode cX0_lieOf 62 = .ok (.ifCond .ne 7, 3) := dk_154 0 7 (dk_at dksX0_lieOf_2 17 rfl rfl)
theorem dX0_lieOf_65 : decode cX0_lieOf 65 = .ok (.iconst 1, 1) := dk_4 (dk_at dksX0_lieOf_2 20 rfl rfl)
theorem dX0_lieOf_66 : decode cX0_lieOf 66 = .ok (.goto 4, 3) := dk_167 0 4 (dk_at dksX0_lieOf_2 21 rfl rfl)
theorem dX0_lieOf_69 : decode cX0_lieOf 69 = .ok (.iconst 0, 1) := dk_3 (dk_at dksX0_lieOf_3 0 rfl rfl)
theorem dX0_lieOf_70 : decode cX0_lieOf 70 = .ok (.iadd, 1) := dk_96 (dk_at dksX0_lieOf_3 1 rfl rfl)
theorem dX0_lieOf_71 : decode cX0_lieOf 71 = .ok (.istore 4, 2) := dk_54 4 (dk_at dksX0_lieOf_3 2 rfl rfl)
theorem dX0_lieOf_73 : decode cX0_lieOf 73 = .ok (.iinc 5 1, 3) := dk_132 5 1 (dk_at dksX0_lieOf_3 4 rfl rfl)
theorem dX0_lieOf_76 : decode cX0_lieOf 76 = .ok (.goto (-70), 3) := dk_167 255 186 (dk_at dksX0_lieOf_3 7 rfl rfl)
theorem dX0_lieOf_79 : decode cX0_lieOf 79 = .ok (.aload_n 0, 1) := dk_42 (dk_at dksX0_lieOf_3 10 rfl rfl)
theorem dX0_lieOf_80 : decode cX0_lieOf 80 = .ok (.iload_n 1, 1) := dk_27 (dk_at dksX0_lieOf_3 11 rfl rfl)
theorem dX0_lieOf_81 : decode cX0_lieOf 81 = .ok (.invokevirtual 162, 3) := dk_182 0 162 (dk_at dksX0_lieOf_3 12 rfl rfl)
theorem dX0_lieOf_84 : decode cX0_lieOf 84 = .ok (.aload_n 0, 1) := dk_42 (dk_at dksX0_lieOf_3 15 rfl rfl)
theorem dX0_lieOf_85 : decode cX0_lieOf 85 = .ok (.getfield 30, 3) := dk_180 0 30 (dk_at dksX0_lieOf_3 16 rfl rfl)
theorem dX0_lieOf_88 : decode cX0_lieOf 88 = .ok (.bipush 10, 2) := dk_16 10 (dk_at dksX0_lieOf_3 19 rfl rfl)
theorem dX0_lieOf_90 : decode cX0_lieOf 90 = .ok (.iload_n 3, 1) := dk_29 (dk_at dksX0_lieOf_3 21 rfl rfl)
theorem dX0_lieOf_91 : decode cX0_lieOf 91 = .ok (.iastore, 1) := dk_79 (dk_at dksX0_lieOf_3 22 rfl rfl)
theorem dX0_lieOf_92 : decode cX0_lieOf 92 = .ok (.aload_n 0, 1) := dk_42 (dk_at dksX0_lieOf_3 23 rfl rfl)
theorem dX0_lieOf_93 : decode cX0_lieOf 93 = .ok (.getfield 30, 3) := dk_180 0 30 (dk_at dksX0_lieOf_4 0 rfl rfl)
theorem dX0_lieOf_96 : decode cX0_lieOf 96 = .ok (.bipush 11, 2) := dk_16 11 (dk_at dksX0_lieOf_4 3 rfl rfl)
theorem dX0_lieOf_98 : decode cX0_lieOf 98 = .ok (.iload_n 2, 1) := dk_28 (dk_at dksX0_lieOf_4 5 rfl rfl)
theorem dX0_lieOf_99 : decode cX0_lieOf 99 = .ok (.iastore, 1) := dk_79 (dk_at dksX0_lieOf_4 6 rfl rfl)
theorem dX0_lieOf_100 : decode cX0_lieOf 100 = .ok (.aload_n 0, 1) := dk_42 (dk_at dksX0_lieOf_4 7 rfl rfl)
theorem dX0_lieOf_101 : decode cX0_lieOf 101 = .ok (.getfield 30, 3) := dk_180 0 30 (dk_at dksX0_lieOf_4 8 rfl rfl)
theorem dX0_lieOf_104 : decode cX0_lieOf 104 = .ok (.bipush 12, 2) := dk_16 12 (dk_at dksX0_lieOf_4 11 rfl rfl)
theorem dX0_lieOf_106 : decode cX0_lieOf 106 = .ok (.aload_n 0, 1) := dk_42 (dk_at dksX0_lieOf_4 13 rfl rfl)
theorem dX0_lieOf_107 : decode cX0_lieOf 107 = .ok (.getfield 12, 3) := dk_180 0 12 (dk_at dksX0_lieOf_4 14 rfl rfl)
theorem dX0_lieOf_110 : decode cX0_lieOf 110 = .ok (.getfield 102, 3) := dk_180 0 102 (dk_at dksX0_lieOf_4 17 rfl rfl)
theorem dX0_lieOf_113 : decode cX0_lieOf 113 = .ok (.iload_n 2, 1) := dk_28 (dk_at dksX0_lieOf_4 20 rfl rfl)
theorem dX0_lieOf_114 : decode cX0_lieOf 114 = .ok (.iaload, 1) := dk_46 (dk_at dksX0_lieOf_4 21 rfl rfl)
theorem dX0_lieOf_115 : decode cX0_lieOf 115 = .ok (.invokestatic 185, 3) := dk_184 0 185 (dk_at dksX0_lieOf_5 0 rfl rfl)
theorem dX0_lieOf_118 : decode cX0_lieOf 118 = .ok (.iastore, 1) := dk_79 (dk_at dksX0_lieOf_5 3 rfl rfl)
theorem dX0_lieOf_119 : decode cX0_lieOf 119 = .ok (.aload_n 0, 1) := dk_42 (dk_at dksX0_lieOf_5 4 rfl rfl)
theorem dX0_lieOf_120 : decode cX0_lieOf 120 = .ok (.getfield 30, 3) := dk_180 0 30 (dk_at dksX0_lieOf_5 5 rfl rfl)
theorem dX0_lieOf_123 : decode cX0_lieOf 123 = .ok (.bipush 13, 2) := dk_16 13 (dk_at dksX0_lieOf_5 8 rfl rfl)
theorem dX0_lieOf_125 : decode cX0_lieOf 125 = .ok (.iload 4, 2) := dk_21 4 (dk_at dksX0_lieOf_5 10 rfl rfl)
theorem dX0_lieOf_127 : decode cX0_lieOf 127 = .ok (.iastore, 1) := dk_79 (dk_at dksX0_lieOf_5 12 rfl rfl)
theorem dX0_lieOf_128 : decode cX0_lieOf 128 = .ok (.aload_n 0, 1) := dk_42 (dk_at dksX0_lieOf_5 13 rfl rfl)
theorem dX0_lieOf_129 : decode cX0_lieOf 129 = .ok (.aload_n 0, 1) := dk_42 (dk_at dksX0_lieOf_5 14 rfl rfl)
theorem dX0_lieOf_130 : decode cX0_lieOf 130 = .ok (.invokevirtual 167, 3) := dk_182 0 167 (dk_at dksX0_lieOf_5 15 rfl rfl)
theorem dX0_lieOf_133 : decode cX0_lieOf 133 = .ok (.iconst 2, 1) := dk_5 (dk_at dksX0_lieOf_5 18 rfl rfl)
theorem dX0_lieOf_134 : decode cX0_lieOf 134 = .ok (.iconst 3, 1) := dk_6 (dk_at dksX0_lieOf_5 19 rfl rfl)
theorem dX0_lieOf_135 : decode cX0_lieOf 135 = .ok (.iconst 0, 1) := dk_3 (dk_at dksX0_lieOf_5 20 rfl rfl)
theorem dX0_lieOf_136 : decode cX0_lieOf 136 = .ok (.sipush 999, 3) := dk_17 3 231 (dk_at dksX0_lieOf_5 21 rfl rfl)
theorem dX0_lieOf_139 : decode cX0_lieOf 139 = .ok (.invokevirtual 164, 3) := dk_182 0 164 (dk_at dksX0_lieOf_6 0 rfl rfl)
theorem dX0_lieOf_142 : decode cX0_lieOf 142 = .ok (.ireturn, 1) := dk_172 (dk_at dksX0_lieOf_6 3 rfl rfl)
abbrev cX0_judged : ByteArray := prog_1_method_41_code
def yX0_judged : MethodName := ⟨RX0, "judged", "()I"⟩
def dkwX0_judged_0 : List UInt8 := [42, 182, 0, 222, 154, 0, 5, 2, 172, 42, 180, 0, 12, 182, 0, 200, 42, 182, 0, 243, 172]
abbrev dktX0_judged_0 : List UInt8 := dkwX0_judged_0 ++ []
theorem dksX0_judged_0 : cX0_judged.data.toList.drop 0 = dktX0_judged_0 := by decide +kernel
theorem dX0_judged_0 : decode cX0_judged 0 = .ok (.aload_n 0, 1) := dk_42 (dk_at dksX0_judged_0 0 rfl rfl)
theorem dX0_judged_1 : decode cX0_judged 1 = .ok (.invokevirtual 222, 3) := dk_182 0 222 (dk_at dksX0_judged_0 1 rfl rfl)
theorem dX0_judged_4 : decode cX0_judged 4 = .ok (.ifCond .ne 5, 3) := dk_154 0 5 (dk_at dksX0_judged_0 4 rfl rfl)
theorem dX0_judged_7 : decode cX0_judged 7 = .ok (.iconst (-1), 1) := dk_2 (dk_at dksX0_judged_0 7 rfl rfl)
theorem dX0_judged_8 : decode cX0_judged 8 = .ok (.ireturn, 1) := dk_172 (dk_at dksX0_judged_0 8 rfl rfl)
theorem dX0_judged_9 : decode cX0_judged 9 = .ok (.aload_n 0, 1) := dk_42 (dk_at dksX0_judged_0 9 rfl rfl)
theorem dX0_judged_10 : decode cX0_judged 10 = .ok (.getfield 12, 3) := dk_180 0 12 (dk_at dksX0_judged_0 10 rfl rfl)
theorem dX0_judged_13 : decode cX0_judged 13 = .ok (.invokevirtual 200, 3) := dk_182 0 200 (dk_at dksX0_judged_0 13 rfl rfl)
theorem dX0_judged_16 : decode cX0_judged 16 = .ok (.aload_n 0, 1) := dk_42 (dk_at dksX0_judged_0 16 rfl rfl)
theorem dX0_judged_17 : decode cX0_judged 17 = .ok (.invokevirtual 243, 3) := dk_182 0 243 (dk_at dksX0_judged_0 17 rfl rfl)
theorem dX0_judged_20 : decode cX0_judged 20 = .ok (.ireturn, 1) := dk_172 (dk_at dksX0_judged_0 20 rfl rfl)
abbrev cX0_judges : ByteArray := prog_1_method_40_code
def yX0_judges : MethodName := ⟨RX0, "judges", "()I"⟩
def dkwX0_judges_3 : List UInt8 := [184, 0, 238, 79, 42, 180, 0, 12, 28, 182, 0, 240, 42, 180, 0, 12, 180, 0, 203, 3, 2, 79, 28, 172]
abbrev dktX0_judges_3 : List UInt8 := dkwX0_judges_3 ++ []
def dkwX0_judges_2 : List UInt8 := [16, 6, 46, 42, 180, 0, 12, 180, 0, 203, 5, 46, 96, 42, 180, 0, 12, 180, 0, 81, 27, 46, 100]
abbrev dktX0_judges_2 : List UInt8 := dkwX0_judges_2 ++ dktX0_judges_3
def dkwX0_judges_1 : List UInt8 := [61, 28, 154, 0, 49, 42, 180, 0, 12, 180, 0, 203, 16, 6, 17, 39, 15, 42, 180, 0, 12, 180, 0, 203]
abbrev dktX0_judges_1 : List UInt8 := dkwX0_judges_1 ++ dktX0_judges_2
def dkwX0_judges_0 : List UInt8 := [42, 180, 0, 12, 180, 0, 203, 3, 46, 60, 42, 27, 42, 180, 0, 12, 180, 0, 203, 5, 46, 182, 0, 235]
abbrev dktX0_judges_0 : List UInt8 := dkwX0_judges_0 ++ dktX0_judges_1
theorem dksX0_judges_0 : cX0_judges.data.toList.drop 0 = dktX0_judges_0 := by decide +kernel
theorem dksX0_judges_1 : cX0_judges.data.toList.drop 24 = dktX0_judges_1 := dk_seg dksX0_judges_0 24 rfl rfl
theorem dksX0_judges_2 : cX0_judges.data.toList.drop 48 = dktX0_judges_2 := dk_seg dksX0_judges_1 24 rfl rfl
theorem dksX0_judges_3 : cX0_judges.data.toList.drop 71 = dktX0_judges_3 := dk_seg dksX0_judges_2 23 rfl rfl
theorem dX0_judges_0 : decode cX0_judges 0 = .ok (.aload_n 0, 1) := dk_42 (dk_at dksX0_judges_0 0 rfl rfl)
theorem dX0_judges_1 : decode cX0_judges 1 = .ok (.getfield 12, 3) := dk_180 0 12 (dk_at dksX0_judges_0 1 rfl rfl)
theorem dX0_judges_4 : decode cX0_judges 4 = .ok (.getfield 203, 3) := dk_180 0 203 (dk_at dksX0_judges_0 4 rfl rfl)
theorem dX0_judges_7 : decode cX0_judges 7 = .ok (.iconst 0, 1) := dk_3 (dk_at dksX0_judges_0 7 rfl rfl)
theorem dX0_judges_8 : decode cX0_judges 8 = .ok (.iaload, 1) := dk_46 (dk_at dksX0_judges_0 8 rfl rfl)
theorem dX0_judges_9 : decode cX0_judges 9 = .ok (.istore_n 1, 1) := dk_60 (dk_at dksX0_judges_0 9 rfl rfl)
theorem dX0_judges_10 : decode cX0_judges 10 = .ok (.aload_n 0, 1) := dk_42 (dk_at dksX0_judges_0 10 rfl rfl)
theorem dX0_judges_11 : decode cX0_judges 11 = .ok (.iload_n 1, 1) := dk_27 (dk_at dksX0_judges_0 11 rfl rfl)
theorem dX0_judges_12 : decode cX0_judges 12 = .ok (.aload_n 0, 1) := dk_42 (dk_at dksX0_judges_0 12 rfl rfl)
theorem dX0_judges_13 : decode cX0_judges 13 = .ok (.getfield 12, 3) := dk_180 0 12 (dk_at dksX0_judges_0 13 rfl rfl)
theorem dX0_judges_16 : decode cX0_judges 16 = .ok (.getfield 203, 3) := dk_180 0 203 (dk_at dksX0_judges_0 16 rfl rfl)
theorem dX0_judges_19 : decode cX0_judges 19 = .ok (.iconst 2, 1) := dk_5 (dk_at dksX0_judges_0 19 rfl rfl)
theorem dX0_judges_20 : decode cX0_judges 20 = .ok (.iaload, 1) := dk_46 (dk_at dksX0_judges_0 20 rfl rfl)
theorem dX0_judges_21 : decode cX0_judges 21 = .ok (.invokevirtual 235, 3) := dk_182 0 235 (dk_at dksX0_judges_0 21 rfl rfl)
theorem dX0_judges_24 : decode cX0_judges 24 = .ok (.istore_n 2, 1) := dk_61 (dk_at dksX0_judges_1 0 rfl rfl)
theorem dX0_judges_25 : decode cX0_judges 25 = .ok (.iload_n 2, 1) := dk_28 (dk_at dksX0_judges_1 1 rfl rfl)
theorem dX0_judges_26 : decode cX0_judges 26 = .ok (.ifCond .ne 49, 3) := dk_154 0 49 (dk_at dksX0_judges_1 2 rfl rfl)
theorem dX0_judges_29 : decode cX0_judges 29 = .ok (.aload_n 0, 1) := dk_42 (dk_at dksX0_judges_1 5 rfl rfl)
theorem dX0_judges_30 : decode cX0_judges 30 = .ok (.getfield 12, 3) := dk_180 0 12 (dk_at dksX0_judges_1 6 rfl rfl)
theorem dX0_judges_33 : decode cX0_judges 33 = .ok (.getfield 203, 3) := dk_180 0 203 (dk_at dksX0_judges_1 9 rfl rfl)
theorem dX0_judges_36 : decode cX0_judges 36 = .ok (.bipush 6, 2) := dk_16 6 (dk_at dksX0_judges_1 12 rfl rfl)
theorem dX0_judges_38 : decode cX0_judges 38 = .ok (.sipush 9999, 3) := dk_17 39 15 (dk_at dksX0_judges_1 14 rfl rfl)
theorem dX0_judges_41 : decode cX0_judges 41 = .ok (.aload_n 0, 1) := dk_42 (dk_at dksX0_judges_1 17 rfl rfl)
theorem dX0_judges_42 : decode cX0_judges 42 = .ok (.getfield 12, 3) := dk_180 0 12 (dk_at dksX0_judges_1 18 rfl rfl)
theorem dX0_judges_45 : decode cX0_judges 45 = .ok (.getfield 203, 3) := dk_180 0 203 (dk_at dksX0_judges_1 21 rfl rfl)
theorem dX0_judges_48 : decode cX0_judges 48 = .ok (.bipush 6, 2) := dk_16 6 (dk_at dksX0_judges_2 0 rfl rfl)
theorem dX0_judges_50 : decode cX0_judges 50 = .ok (.iaload, 1) := dk_46 (dk_at dksX0_judges_2 2 rfl rfl)
theorem dX0_judges_51 : decode cX0_judges 51 = .ok (.aload_n 0, 1) := dk_42 (dk_at dksX0_judges_2 3 rfl rfl)
theorem dX0_judges_52 : decode cX0_judges 52 = .ok (.getfield 12, 3) := dk_180 0 12 (dk_at dksX0_judges_2 4 rfl rfl)
theorem dX0_judges_55 : decode cX0_judges 55 = .ok (.getfield 203, 3) := dk_180 0 203 (dk_at dksX0_judges_2 7 rfl rfl)
theorem dX0_judges_58 : decode cX0_judges 58 = .ok (.iconst 2, 1) := dk_5 (dk_at dksX0_judges_2 10 rfl rfl)
theorem dX0_judges_59 : decode cX0_judges 59 = .ok (.iaload, 1) := dk_46 (dk_at dksX0_judges_2 11 rfl rfl)
theorem dX0_judges_60 : decode cX0_judges 60 = .ok (.iadd, 1) := dk_96 (dk_at dksX0_judges_2 12 rfl rfl)
theorem dX0_judges_61 : decode cX0_judges 61 = .ok (.aload_n 0, 1) := dk_42 (dk_at dksX0_judges_2 13 rfl rfl)
theorem dX0_judges_62 : decode cX0_judges 62 = .ok (.getfield 12, 3) := dk_180 0 12 (dk_at dksX0_judges_2 14 rfl rfl)
theorem dX0_judges_65 : decode cX0_judges 65 = .ok (.getfield 81, 3) := dk_180 0 81 (dk_at dksX0_judges_2 17 rfl rfl)
theorem dX0_judges_68 : decode cX0_judges 68 = .ok (.iload_n 1, 1) := dk_27 (dk_at dksX0_judges_2 20 rfl rfl)
theorem dX0_judges_69 : decode cX0_judges 69 = .ok (.iaload, 1) := dk_46 (dk_at dksX0_judges_2 21 rfl rfl)
theorem dX0_judges_70 : decode cX0_judges 70 = .ok (.isub, 1) := dk_100 (dk_at dksX0_judges_2 22 rfl rfl)
theorem dX0_judges_71 : decode cX0_judges 71 = .ok (.invokestatic 238, 3) := dk_184 0 238 (dk_at dksX0_judges_3 0 rfl rfl)
theorem dX0_judges_74 : decode cX0_judges 74 = .ok (.iastore, 1) := dk_79 (dk_at dksX0_judges_3 3 rfl rfl)
theorem dX0_judges_75 : decode cX0_judges 75 = .ok (.aload_n 0, 1) := dk_42 (dk_at dksX0_judges_3 4 rfl rfl)
theorem dX0_judges_76 : decode cX0_judges 76 = .ok (.getfield 12, 3) := dk_180 0 12 (dk_at dksX0_judges_3 5 rfl rfl)
theorem dX0_judges_79 : decode cX0_judges 79 = .ok (.iload_n 2, 1) := dk_28 (dk_at dksX0_judges_3 8 rfl rfl)
theorem dX0_judges_80 : decode cX0_judges 80 = .ok (.invokevirtual 240, 3) := dk_182 0 240 (dk_at dksX0_judges_3 9 rfl rfl)
theorem dX0_judges_83 : decode cX0_judges 83 = .ok (.aload_n 0, 1) := dk_42 (dk_at dksX0_judges_3 12 rfl rfl)
theorem dX0_judges_84 : decode cX0_judges 84 = .ok (.getfield 12, 3) := dk_180 0 12 (dk_at dksX0_judges_3 13 rfl rfl)
theorem dX0_judges_87 : decode cX0_judges 87 = .ok (.getfield 203, 3) := dk_180 0 203 (dk_at dksX0_judges_3 16 rfl rfl)
theorem dX0_judges_90 : decode cX0_judges 90 = .ok (.iconst 0, 1) := dk_3 (dk_at dksX0_judges_3 19 rfl rfl)
theorem dX0_judges_91 : decode cX0_judges 91 = .ok (.iconst (-1), 1) := dk_2 (dk_at dksX0_judges_3 20 rfl rfl)
theorem dX0_judges_92 : decode cX0_judges 92 = .ok (.iastore, 1) := dk_79 (dk_at dksX0_judges_3 21 rfl rfl)
theorem dX0_judges_93 : decode cX0_judges 93 = .ok (.iload_n 2, 1) := dk_28 (dk_at dksX0_judges_3 22 rfl rfl)
theorem dX0_judges_94 : decode cX0_judges 94 = .ok (.ireturn, 1) := dk_172 (dk_at dksX0_judges_3 23 rfl rfl)
abbrev cX0_judgedAt : ByteArray := prog_1_method_31_code
def yX0_judgedAt : MethodName := ⟨RX0, "judgedAt", "(II)I"⟩
def dkwX0_judgedAt_1 : List UInt8 := [42, 180, 0, 12, 180, 0, 81, 27, 46, 162, 0, 7, 5, 167, 0, 4, 4, 172]
abbrev dktX0_judgedAt_1 : List UInt8 := dkwX0_judgedAt_1 ++ []
def dkwX0_judgedAt_0 : List UInt8 := [28, 42, 180, 0, 12, 180, 0, 81, 27, 46, 164, 0, 7, 3, 167, 0, 27, 28, 42, 27, 182, 0, 193, 96]
abbrev dktX0_judgedAt_0 : List UInt8 := dkwX0_judgedAt_0 ++ dktX0_judgedAt_1
theorem dksX0_judgedAt_0 : cX0_judgedAt.data.toList.drop 0 = dktX0_judgedAt_0 := by decide +kernel
theorem dksX0_judgedAt_1 : cX0_judgedAt.data.toList.drop 24 = dktX0_judgedAt_1 := dk_seg dksX0_judgedAt_0 24 rfl rfl
theorem dX0_judgedAt_0 : decode cX0_judgedAt 0 = .ok (.iload_n 2, 1) := dk_28 (dk_at dksX0_judgedAt_0 0 rfl rfl)
theorem dX0_judgedAt_1 : decode cX0_judgedAt 1 = .ok (.aload_n 0, 1) := dk_42 (dk_at dksX0_judgedAt_0 1 rfl rfl)
theorem dX0_judgedAt_2 : decode cX0_judgedAt 2 = .ok (.getfield 12, 3) := dk_180 0 12 (dk_at dksX0_judgedAt_0 2 rfl rfl)
theorem dX0_judgedAt_5 : decode cX0_judgedAt 5 = .ok (.getfield 81, 3) := dk_180 0 81 (dk_at dksX0_judgedAt_0 5 rfl rfl)
theorem dX0_judgedAt_8 : decode cX0_judgedAt 8 = .ok (.iload_n 1, 1) := dk_27 (dk_at dksX0_judgedAt_0 8 rfl rfl)
theorem dX0_judgedAt_9 : decode cX0_judgedAt 9 = .ok (.iaload, 1) := dk_46 (dk_at dksX0_judgedAt_0 9 rfl rfl)
theorem dX0_judgedAt_10 : decode cX0_judgedAt 10 = .ok (.if_icmp .le 7, 3) := dk_164 0 7 (dk_at dksX0_judgedAt_0 10 rfl rfl)
theorem dX0_judgedAt_13 : decode cX0_judgedAt 13 = .ok (.iconst 0, 1) := dk_3 (dk_at dksX0_judgedAt_0 13 rfl rfl)
theorem dX0_judgedAt_14 : decode cX0_judgedAt 14 = .ok (.goto 27, 3) := dk_167 0 27 (dk_at dksX0_judgedAt_0 14 rfl rfl)
theorem dX0_judgedAt_17 : decode cX0_judgedAt 17 = .ok (.iload_n 2, 1) := dk_28 (dk_at dksX0_judgedAt_0 17 rfl rfl)
theorem dX0_judgedAt_18 : decode cX0_judgedAt 18 = .ok (.aload_n 0, 1) := dk_42 (dk_at dksX0_judgedAt_0 18 rfl rfl)
theorem dX0_judgedAt_19 : decode cX0_judgedAt 19 = .ok (.iload_n 1, 1) := dk_27 (dk_at dksX0_judgedAt_0 19 rfl rfl)
theorem dX0_judgedAt_20 : decode cX0_judgedAt 20 = .ok (.invokevirtual 193, 3) := dk_182 0 193 (dk_at dksX0_judgedAt_0 20 rfl rfl)
theorem dX0_judgedAt_23 : decode cX0_judgedAt 23 = .ok (.iadd, 1) := dk_96 (dk_at dksX0_judgedAt_0 23 rfl rfl)
theorem dX0_judgedAt_24 : decode cX0_judgedAt 24 = .ok (.aload_n 0, 1) := dk_42 (dk_at dksX0_judgedAt_1 0 rfl rfl)
theorem dX0_judgedAt_25 : decode cX0_judgedAt 25 = .ok (.getfield 12, 3) := dk_180 0 12 (dk_at dksX0_judgedAt_1 1 rfl rfl)
theorem dX0_judgedAt_28 : decode cX0_judgedAt 28 = .ok (.getfield 81, 3) := dk_180 0 81 (dk_at dksX0_judgedAt_1 4 rfl rfl)
theorem dX0_judgedAt_31 : decode cX0_judgedAt 31 = .ok (.iload_n 1, 1) := dk_27 (dk_at dksX0_judgedAt_1 7 rfl rfl)
theorem dX0_judgedAt_32 : decode cX0_judgedAt 32 = .ok (.iaload, 1) := dk_46 (dk_at dksX0_judgedAt_1 8 rfl rfl)
theorem dX0_judgedAt_33 : decode cX0_judgedAt 33 = .ok (.if_icmp .ge 7, 3) := dk_162 0 7 (dk_at dksX0_judgedAt_1 9 rfl rfl)
theorem dX0_judgedAt_36 : decode cX0_judgedAt 36 = .ok (.iconst 2, 1) := dk_5 (dk_at dksX0_judgedAt_1 12 rfl rfl)
theorem dX0_judgedAt_37 : decode cX0_judgedAt 37 = .ok (.goto 4, 3) := dk_167 0 4 (dk_at dksX0_judgedAt_1 13 rfl rfl)
theorem dX0_judgedAt_40 : decode cX0_judgedAt 40 = .ok (.iconst 1, 1) := dk_4 (dk_at dksX0_judgedAt_1 16 rfl rfl)
theorem dX0_judgedAt_41 : decode cX0_judgedAt 41 = .ok (.ireturn, 1) := dk_172 (dk_at dksX0_judgedAt_1 17 rfl rfl)
abbrev cX0_upOf : ByteArray := prog_1_method_30_code
def yX0_upOf : MethodName := ⟨RX0, "upOf", "(I)I"⟩
def dkwX0_upOf_1 : List UInt8 := [42, 182, 0, 167, 6, 16, 50, 3, 17, 3, 231, 182, 0, 164, 172]
abbrev dktX0_upOf_1 : List UInt8 := dkwX0_upOf_1 ++ []
def dkwX0_upOf_0 : List UInt8 := [42, 27, 182, 0, 162, 42, 180, 0, 30, 16, 14, 42, 180, 0, 12, 27, 182, 0, 190, 184, 0, 185, 79, 42]
abbrev dktX0_upOf_0 : List UInt8 := dkwX0_upOf_0 ++ dktX0_upOf_1
theorem dksX0_upOf_0 : cX0_upOf.data.toList.drop 0 = dktX0_upOf_0 := by decide +kernel
theorem dksX0_upOf_1 : cX0_upOf.data.toList.drop 24 = dktX0_upOf_1 := dk_seg dksX0_upOf_0 24 rfl rfl
theorem dX0_upOf_0 : decode cX0_upOf 0 = .ok (.aload_n 0, 1) := dk_42 (dk_at dksX0_upOf_0 0 rfl rfl)
theorem dX0_upOf_1 : decode cX0_upOf 1 = .ok (.iload_n 1, 1) := dk_27 (dk_at dksX0_upOf_0 1 rfl rfl)
theorem dX0_upOf_2 : decode cX0_upOf 2 = .ok (.invokevirtual 162, 3) := dk_182 0 162 (dk_at dksX0_upOf_0 2 rfl rfl)
theorem dX0_upOf_5 : decode cX0_upOf 5 = .ok (.aload_n 0, 1) := dk_42 (dk_at dksX0_upOf_0 5 rfl rfl)
theorem dX0_upOf_6 : decode cX0_upOf 6 = .ok (.getfield 30, 3) := dk_180 0 30 (dk_at dksX0_upOf_0 6 rfl rfl)
theorem dX0_upOf_9 : decode cX0_upOf 9 = .ok (.bipush 14, 2) := dk_16 14 (dk_at dksX0_upOf_0 9 rfl rfl)
theorem dX0_upOf_11 : decode cX0_upOf 11 = .ok (.aload_n 0, 1) := dk_42 (dk_at dksX0_upOf_0 11 rfl rfl)
theorem dX0_upOf_12 : decode cX0_upOf 12 = .ok (.getfield 12, 3) := dk_180 0 12 (dk_at dksX0_upOf_0 12 rfl rfl)
theorem dX0_upOf_15 : decode cX0_upOf 15 = .ok (.iload_n 1, 1) := dk_27 (dk_at dksX0_upOf_0 15 rfl rfl)
theorem dX0_upOf_16 : decode cX0_upOf 16 = .ok (.invokevirtual 190, 3) := dk_182 0 190 (dk_at dksX0_upOf_0 16 rfl rfl)
theorem dX0_upOf_19 : decode cX0_upOf 19 = .ok (.invokestatic 185, 3) := dk_184 0 185 (dk_at dksX0_upOf_0 19 rfl rfl)
theorem dX0_upOf_22 : decode cX0_upOf 22 = .ok (.iastore, 1) := dk_79 (dk_at dksX0_upOf_0 22 rfl rfl)
theorem dX0_upOf_23 : decode cX0_upOf 23 = .ok (.aload_n 0, 1) := dk_42 (dk_at dksX0_upOf_0 23 rfl rfl)
theorem dX0_upOf_24 : decode cX0_upOf 24 = .ok (.aload_n 0, 1) := dk_42 (dk_at dksX0_upOf_1 0 rfl rfl)
theorem dX0_upOf_25 : decode cX0_upOf 25 = .ok (.invokevirtual 167, 3) := dk_182 0 167 (dk_at dksX0_upOf_1 1 rfl rfl)
theorem dX0_upOf_28 : decode cX0_upOf 28 = .ok (.iconst 3, 1) := dk_6 (dk_at dksX0_upOf_1 4 rfl rfl)
theorem dX0_upOf_29 : decode cX0_upOf 29 = .ok (.bipush 50, 2) := dk_16 50 (dk_at dksX0_upOf_1 5 rfl rfl)
theorem dX0_upOf_31 : decode cX0_upOf 31 = .ok (.iconst 0, 1) := dk_3 (dk_at dksX0_upOf_1 7 rfl rfl)
theorem dX0_upOf_32 : decode cX0_upOf 32 = .ok (.sipush 999, 3) := dk_17 3 231 (dk_at dksX0_upOf_1 8 rfl rfl)
theorem dX0_upOf_35 : decode cX0_upOf 35 = .ok (.invokevirtual 164, 3) := dk_182 0 164 (dk_at dksX0_upOf_1 11 rfl rfl)
theorem dX0_upOf_38 : decode cX0_upOf 38 = .ok (.ireturn, 1) := dk_172 (dk_at dksX0_upOf_1 14 rfl rfl)
abbrev cX0_played : ByteArray := prog_1_method_43_code
def yX0_played : MethodName := ⟨RX0, "played", "(I)I"⟩
def dkwX0_played_2 : List UInt8 := [154, 0, 15, 44, 29, 182, 1, 40, 192, 0, 247, 182, 1, 48, 172, 132, 3, 1, 167, 255, 218, 2, 172]
abbrev dktX0_played_2 : List UInt8 := dkwX0_played_2 ++ []
def dkwX0_played_1 : List UInt8 := [3, 62, 29, 44, 182, 1, 35, 162, 0, 36, 42, 44, 29, 182, 1, 40, 192, 0, 247, 182, 1, 44]
abbrev dktX0_played_1 : List UInt8 := dkwX0_played_1 ++ dktX0_played_2
def dkwX0_played_0 : List UInt8 := [42, 27, 182, 0, 134, 154, 0, 6, 16, 254, 172, 42, 180, 0, 12, 180, 0, 115, 27, 50, 180, 1, 31, 77]
abbrev dktX0_played_0 : List UInt8 := dkwX0_played_0 ++ dktX0_played_1
theorem dksX0_played_0 : cX0_played.data.toList.drop 0 = dktX0_played_0 := by decide +kernel
theorem dksX0_played_1 : cX0_played.data.toList.drop 24 = dktX0_played_1 := dk_seg dksX0_played_0 24 rfl rfl
theorem dksX0_played_2 : cX0_played.data.toList.drop 46 = dktX0_played_2 := dk_seg dksX0_played_1 22 rfl rfl
theorem dX0_played_0 : decode cX0_played 0 = .ok (.aload_n 0, 1) := dk_42 (dk_at dksX0_played_0 0 rfl rfl)
theorem dX0_played_1 : decode cX0_played 1 = .ok (.iload_n 1, 1) := dk_27 (dk_at dksX0_played_0 1 rfl rfl)
theorem dX0_played_2 : decode cX0_played 2 = .ok (.invokevirtual 134, 3) := dk_182 0 134 (dk_at dksX0_played_0 2 rfl rfl)
theorem dX0_played_5 : decode cX0_played 5 = .ok (.ifCond .ne 6, 3) := dk_154 0 6 (dk_at dksX0_played_0 5 rfl rfl)
theorem dX0_played_8 : decode cX0_played 8 = .ok (.bipush (-2), 2) := dk_16 254 (dk_at dksX0_played_0 8 rfl rfl)
theorem dX0_played_10 : decode cX0_played 10 = .ok (.ireturn, 1) := dk_172 (dk_at dksX0_played_0 10 rfl rfl)
theorem dX0_played_11 : decode cX0_played 11 = .ok (.aload_n 0, 1) := dk_42 (dk_at dksX0_played_0 11 rfl rfl)
theorem dX0_played_12 : decode cX0_played 12 = .ok (.getfield 12, 3) := dk_180 0 12 (dk_at dksX0_played_0 12 rfl rfl)
theorem dX0_played_15 : decode cX0_played 15 = .ok (.getfield 115, 3) := dk_180 0 115 (dk_at dksX0_played_0 15 rfl rfl)
theorem dX0_played_18 : decode cX0_played 18 = .ok (.iload_n 1, 1) := dk_27 (dk_at dksX0_played_0 18 rfl rfl)
theorem dX0_played_19 : decode cX0_played 19 = .ok (.aaload, 1) := dk_50 (dk_at dksX0_played_0 19 rfl rfl)
theorem dX0_played_20 : decode cX0_played 20 = .ok (.getfield 287, 3) := dk_180 1 31 (dk_at dksX0_played_0 20 rfl rfl)
theorem dX0_played_23 : decode cX0_played 23 = .ok (.astore_n 2, 1) := dk_77 (dk_at dksX0_played_0 23 rfl rfl)
theorem dX0_played_24 : decode cX0_played 24 = .ok (.iconst 0, 1) := dk_3 (dk_at dksX0_played_1 0 rfl rfl)
theorem dX0_played_25 : decode cX0_played 25 = .ok (.istore_n 3, 1) := dk_62 (dk_at dksX0_played_1 1 rfl rfl)
theorem dX0_played_26 : decode cX0_played 26 = .ok (.iload_n 3, 1) := dk_29 (dk_at dksX0_played_1 2 rfl rfl)
theorem dX0_played_27 : decode cX0_played 27 = .ok (.aload_n 2, 1) := dk_44 (dk_at dksX0_played_1 3 rfl rfl)
theorem dX0_played_28 : decode cX0_played 28 = .ok (.invokevirtual 291, 3) := dk_182 1 35 (dk_at dksX0_played_1 4 rfl rfl)
theorem dX0_played_31 : decode cX0_played 31 = .ok (.if_icmp .ge 36, 3) := dk_162 0 36 (dk_at dksX0_played_1 7 rfl rfl)
theorem dX0_played_34 : decode cX0_played 34 = .ok (.aload_n 0, 1) := dk_42 (dk_at dksX0_played_1 10 rfl rfl)
theorem dX0_played_35 : decode cX0_played 35 = .ok (.aload_n 2, 1) := dk_44 (dk_at dksX0_played_1 11 rfl rfl)
theorem dX0_played_36 : decode cX0_played 36 = .ok (.iload_n 3, 1) := dk_29 (dk_at dksX0_played_1 12 rfl rfl)
theorem dX0_played_37 : decode cX0_played 37 = .ok (.invokevirtual 296, 3) := dk_182 1 40 (dk_at dksX0_played_1 13 rfl rfl)
theorem dX0_played_40 : decode cX0_played 40 = .ok (.checkcast 247, 3) := dk_192 0 247 (dk_at dksX0_played_1 16 rfl rfl)
theorem dX0_played_43 : decode cX0_played 43 = .ok (.invokevirtual 300, 3) := dk_182 1 44 (dk_at dksX0_played_1 19 rfl rfl)
theorem dX0_played_46 : decode cX0_played 46 = .ok (.ifCond .ne 15, 3) := dk_154 0 15 (dk_at dksX0_played_2 0 rfl rfl)
theorem dX0_played_49 : decode cX0_played 49 = .ok (.aload_n 2, 1) := dk_44 (dk_at dksX0_played_2 3 rfl rfl)
theorem dX0_played_50 : decode cX0_played 50 = .ok (.iload_n 3, 1) := dk_29 (dk_at dksX0_played_2 4 rfl rfl)
theorem dX0_played_51 : decode cX0_played 51 = .ok (.invokevirtual 296, 3) := dk_182 1 40 (dk_at dksX0_played_2 5 rfl rfl)
theorem dX0_played_54 : decode cX0_played 54 = .ok (.checkcast 247, 3) := dk_192 0 247 (dk_at dksX0_played_2 8 rfl rfl)
theorem dX0_played_57 : decode cX0_played 57 = .ok (.invokevirtual 304, 3) := dk_182 1 48 (dk_at dksX0_played_2 11 rfl rfl)
theorem dX0_played_60 : decode cX0_played 60 = .ok (.ireturn, 1) := dk_172 (dk_at dksX0_played_2 14 rfl rfl)
theorem dX0_played_61 : decode cX0_played 61 = .ok (.iinc 3 1, 3) := dk_132 3 1 (dk_at dksX0_played_2 15 rfl rfl)
theorem dX0_played_64 : decode cX0_played 64 = .ok (.goto (-38), 3) := dk_167 255 218 (dk_at dksX0_played_2 18 rfl rfl)
theorem dX0_played_67 : decode cX0_played 67 = .ok (.iconst (-1), 1) := dk_2 (dk_at dksX0_played_2 21 rfl rfl)
theorem dX0_played_68 : decode cX0_played 68 = .ok (.ireturn, 1) := dk_172 (dk_at dksX0_played_2 22 rfl rfl)
abbrev cX0_does : ByteArray := prog_1_method_42_code
def yX0_does : MethodName := ⟨RX0, "does", "(LAgainstFeather$Doing;)Z"⟩
def dkwX0_does_9 : List UInt8 := [167, 0, 4, 3, 172]
abbrev dktX0_does_9 : List UInt8 := dkwX0_does_9 ++ []
def dkwX0_does_8 : List UInt8 := [3, 182, 1, 24, 2, 159, 0, 7, 4, 167, 0, 4, 3, 172, 42, 182, 1, 28, 2, 159, 0, 7, 4]
abbrev dktX0_does_8 : List UInt8 := dkwX0_does_8 ++ dktX0_does_9
def dkwX0_does_7 : List UInt8 := [167, 0, 4, 3, 172, 42, 43, 182, 0, 251, 43, 182, 0, 246, 17, 0, 210, 160, 0, 7, 4, 167, 0, 4]
abbrev dktX0_does_7 : List UInt8 := dkwX0_does_7 ++ dktX0_does_8
def dkwX0_does_6 : List UInt8 := [159, 0, 7, 4, 167, 0, 4, 3, 172, 42, 43, 182, 0, 251, 182, 1, 21, 18, 212, 159, 0, 7, 4]
abbrev dktX0_does_6 : List UInt8 := dkwX0_does_6 ++ dktX0_does_7
def dkwX0_does_5 : List UInt8 := [43, 182, 1, 1, 43, 182, 1, 4, 182, 1, 15, 172, 42, 43, 182, 0, 251, 182, 1, 18, 18, 212]
abbrev dktX0_does_5 : List UInt8 := dkwX0_does_5 ++ dktX0_does_6
def dkwX0_does_4 : List UInt8 := [172, 42, 43, 182, 0, 251, 182, 1, 13, 2, 159, 0, 7, 4, 167, 0, 4, 3, 172, 42, 43, 182, 0, 251]
abbrev dktX0_does_4 : List UInt8 := dkwX0_does_4 ++ dktX0_does_5
def dkwX0_does_3 : List UInt8 := [182, 1, 1, 43, 182, 1, 4, 43, 182, 1, 7, 2, 182, 1, 10, 2, 159, 0, 7, 4, 167, 0, 4, 3]
abbrev dktX0_does_3 : List UInt8 := dkwX0_does_3 ++ dktX0_does_4
def dkwX0_does_2 : List UInt8 := [42, 43, 182, 0, 251, 182, 0, 254, 2, 159, 0, 7, 4, 167, 0, 4, 3, 172, 42, 43, 182, 0, 251, 43]
abbrev dktX0_does_2 : List UInt8 := dkwX0_does_2 ++ dktX0_does_3
def dkwX0_does_1 : List UInt8 := [170, 0, 0, 0, 0, 0, 0, 203, 0, 0, 0, 204, 0, 0, 0, 211, 0, 0, 0, 48, 0, 0, 0, 66, 0, 0, 0, 97, 0, 0, 0, 115, 0, 0, 0, 132, 0, 0, 0, 151, 0, 0, 0, 170, 0, 0, 0, 170]
abbrev dktX0_does_1 : List UInt8 := dkwX0_does_1 ++ dktX0_does_2
def dkwX0_does_0 : List UInt8 := [43, 182, 0, 246]
abbrev dktX0_does_0 : List UInt8 := dkwX0_does_0 ++ dktX0_does_1
theorem dksX0_does_0 : cX0_does.data.toList.drop 0 = dktX0_does_0 := by decide +kernel
theorem dksX0_does_1 : cX0_does.data.toList.drop 4 = dktX0_does_1 := dk_seg dksX0_does_0 4 rfl rfl
theorem dksX0_does_2 : cX0_does.data.toList.drop 52 = dktX0_does_2 := dk_seg dksX0_does_1 48 rfl rfl
theorem dksX0_does_3 : cX0_does.data.toList.drop 76 = dktX0_does_3 := dk_seg dksX0_does_2 24 rfl rfl
theorem dksX0_does_4 : cX0_does.data.toList.drop 100 = dktX0_does_4 := dk_seg dksX0_does_3 24 rfl rfl
theorem dksX0_does_5 : cX0_does.data.toList.drop 124 = dktX0_does_5 := dk_seg dksX0_does_4 24 rfl rfl
theorem dksX0_does_6 : cX0_does.data.toList.drop 146 = dktX0_does_6 := dk_seg dksX0_does_5 22 rfl rfl
theorem dksX0_does_7 : cX0_does.data.toList.drop 169 = dktX0_does_7 := dk_seg dksX0_does_6 23 rfl rfl
theorem dksX0_does_8 : cX0_does.data.toList.drop 193 = dktX0_does_8 := dk_seg dksX0_does_7 24 rfl rfl
theorem dksX0_does_9 : cX0_does.data.toList.drop 216 = dktX0_does_9 := dk_seg dksX0_does_8 23 rfl rfl
theorem dX0_does_0 : decode cX0_does 0 = .ok (.aload_n 1, 1) := dk_43 (dk_at dksX0_does_0 0 rfl rfl)
theorem dX0_does_1 : decode cX0_does 1 = .ok (.invokevirtual 246, 3) := dk_182 0 246 (dk_at dksX0_does_0 1 rfl rfl)
theorem dX0_does_4 : decode cX0_does 4 = .ok (.tableswitch 203 204 211 #[48, 66, 97, 115, 132, 151, 170, 170], 48) := by decide +kernel
theorem dX0_does_52 : decode cX0_does 52 = .ok (.aload_n 0, 1) := dk_42 (dk_at dksX0_does_2 0 rfl rfl)
theorem dX0_does_53 : decode cX0_does 53 = .ok (.aload_n 1, 1) := dk_43 (dk_at dksX0_does_2 1 rfl rfl)
theorem dX0_does_54 : decode cX0_does 54 = .ok (.invokevirtual 251, 3) := dk_182 0 251 (dk_at dksX0_does_2 2 rfl rfl)
theorem dX0_does_57 : decode cX0_does 57 = .ok (.invokevirtual 254, 3) := dk_182 0 254 (dk_at dksX0_does_2 5 rfl rfl)
theorem dX0_does_60 : decode cX0_does 60 = .ok (.iconst (-1), 1) := dk_2 (dk_at dksX0_does_2 8 rfl rfl)
theorem dX0_does_61 : decode cX0_does 61 = .ok (.if_icmp .eq 7, 3) := dk_159 0 7 (dk_at dksX0_does_2 9 rfl rfl)
theorem dX0_does_64 : decode cX0_does 64 = .ok (.iconst 1, 1) := dk_4 (dk_at dksX0_does_2 12 rfl rfl)
theorem dX0_does_65 : decode cX0_does 65 = .ok (.goto 4, 3) := dk_167 0 4 (dk_at dksX0_does_2 13 rfl rfl)
theorem dX0_does_68 : decode cX0_does 68 = .ok (.iconst 0, 1) := dk_3 (dk_at dksX0_does_2 16 rfl rfl)
theorem dX0_does_69 : decode cX0_does 69 = .ok (.ireturn, 1) := dk_172 (dk_at dksX0_does_2 17 rfl rfl)
theorem dX0_does_70 : decode cX0_does 70 = .ok (.aload_n 0, 1) := dk_42 (dk_at dksX0_does_2 18 rfl rfl)
theorem dX0_does_71 : decode cX0_does 71 = .ok (.aload_n 1, 1) := dk_43 (dk_at dksX0_does_2 19 rfl rfl)
theorem dX0_does_72 : decode cX0_does 72 = .ok (.invokevirtual 251, 3) := dk_182 0 251 (dk_at dksX0_does_2 20 rfl rfl)
theorem dX0_does_75 : decode cX0_does 75 = .ok (.aload_n 1, 1) := dk_43 (dk_at dksX0_does_2 23 rfl rfl)
theorem dX0_does_76 : decode cX0_does 76 = .ok (.invokevirtual 257, 3) := dk_182 1 1 (dk_at dksX0_does_3 0 rfl rfl)
theorem dX0_does_79 : decode cX0_does 79 = .ok (.aload_n 1, 1) := dk_43 (dk_at dksX0_does_3 3 rfl rfl)
theorem dX0_does_80 : decode cX0_does 80 = .ok (.invokevirtual 260, 3) := dk_182 1 4 (dk_at dksX0_does_3 4 rfl rfl)
theorem dX0_does_83 : decode cX0_does 83 = .ok (.aload_n 1, 1) := dk_43 (dk_at dksX0_does_3 7 rfl rfl)
theorem dX0_does_84 : decode cX0_does 84 = .ok (.invokevirtual 263, 3) := dk_182 1 7 (dk_at dksX0_does_3 8 rfl rfl)
theorem dX0_does_87 : decode cX0_does 87 = .ok (.iconst (-1), 1) := dk_2 (dk_at dksX0_does_3 11 rfl rfl)
theorem dX0_does_88 : decode cX0_does 88 = .ok (.invokevirtual 266, 3) := dk_182 1 10 (dk_at dksX0_does_3 12 rfl rfl)
theorem dX0_does_91 : decode cX0_does 91 = .ok (.iconst (-1), 1) := dk_2 (dk_at dksX0_does_3 15 rfl rfl)
theorem dX0_does_92 : decode cX0_does 92 = .ok (.if_icmp .eq 7, 3) := dk_159 0 7 (dk_at dksX0_does_3 16 rfl rfl)
theorem dX0_does_95 : decode cX0_does 95 = .ok (.iconst 1, 1) := dk_4 (dk_at dksX0_does_3 19 rfl rfl)
theorem dX0_does_96 : decode cX0_does 96 = .ok (.goto 4, 3) := dk_167 0 4 (dk_at dksX0_does_3 20 rfl rfl)
theorem dX0_does_99 : decode cX0_does 99 = .ok (.iconst 0, 1) := dk_3 (dk_at dksX0_does_3 23 rfl rfl)
theorem dX0_does_100 : decode cX0_does 100 = .ok (.ireturn, 1) := dk_172 (dk_at dksX0_does_4 0 rfl rfl)
theorem dX0_does_101 : decode cX0_does 101 = .ok (.aload_n 0, 1) := dk_42 (dk_at dksX0_does_4 1 rfl rfl)
theorem dX0_does_102 : decode cX0_does 102 = .ok (.aload_n 1, 1) := dk_43 (dk_at dksX0_does_4 2 rfl rfl)
theorem dX0_does_103 : decode cX0_does 103 = .ok (.invokevirtual 251, 3) := dk_182 0 251 (dk_at dksX0_does_4 3 rfl rfl)
theorem dX0_does_106 : decode cX0_does 106 = .ok (.invokevirtual 269, 3) := dk_182 1 13 (dk_at dksX0_does_4 6 rfl rfl)
theorem dX0_does_109 : decode cX0_does 109 = .ok (.iconst (-1), 1) := dk_2 (dk_at dksX0_does_4 9 rfl rfl)
theorem dX0_does_110 : decode cX0_does 110 = .ok (.if_icmp .eq 7, 3) := dk_159 0 7 (dk_at dksX0_does_4 10 rfl rfl)
theorem dX0_does_113 : decode cX0_does 113 = .ok (.iconst 1, 1) := dk_4 (dk_at dksX0_does_4 13 rfl rfl)
theorem dX0_does_114 : decode cX0_does 114 = .ok (.goto 4, 3) := dk_167 0 4 (dk_at dksX0_does_4 14 rfl rfl)
theorem dX0_does_117 : decode cX0_does 117 = .ok (.iconst 0, 1) := dk_3 (dk_at dksX0_does_4 17 rfl rfl)
theorem dX0_does_118 : decode cX0_does 118 = .ok (.ireturn, 1) := dk_172 (dk_at dksX0_does_4 18 rfl rfl)
theorem dX0_does_119 : decode cX0_does 119 = .ok (.aload_n 0, 1) := dk_42 (dk_at dksX0_does_4 19 rfl rfl)
theorem dX0_does_120 : decode cX0_does 120 = .ok (.aload_n 1, 1) := dk_43 (dk_at dksX0_does_4 20 rfl rfl)
theorem dX0_does_121 : decode cX0_does 121 = .ok (.invokevirtual 251, 3) := dk_182 0 251 (dk_at dksX0_does_4 21 rfl rfl)
theorem dX0_does_124 : decode cX0_does 124 = .ok (.aload_n 1, 1) := dk_43 (dk_at dksX0_does_5 0 rfl rfl)
theorem dX0_does_125 : decode cX0_does 125 = .ok (.invokevirtual 257, 3) := dk_182 1 1 (dk_at dksX0_does_5 1 rfl rfl)
theorem dX0_does_128 : decode cX0_does 128 = .ok (.aload_n 1, 1) := dk_43 (dk_at dksX0_does_5 4 rfl rfl)
theorem dX0_does_129 : decode cX0_does 129 = .ok (.invokevirtual 260, 3) := dk_182 1 4 (dk_at dksX0_does_5 5 rfl rfl)
theorem dX0_does_132 : decode cX0_does 132 = .ok (.invokevirtual 271, 3) := dk_182 1 15 (dk_at dksX0_does_5 8 rfl rfl)
theorem dX0_does_135 : decode cX0_does 135 = .ok (.ireturn, 1) := dk_172 (dk_at dksX0_does_5 11 rfl rfl)
theorem dX0_does_136 : decode cX0_does 136 = .ok (.aload_n 0, 1) := dk_42 (dk_at dksX0_does_5 12 rfl rfl)
theorem dX0_does_137 : decode cX0_does 137 = .ok (.aload_n 1, 1) := dk_43 (dk_at dksX0_does_5 13 rfl rfl)
theorem dX0_does_138 : decode cX0_does 138 = .ok (.invokevirtual 251, 3) := dk_182 0 251 (dk_at dksX0_does_5 14 rfl rfl)
theorem dX0_does_141 : decode cX0_does 141 = .ok (.invokevirtual 274, 3) := dk_182 1 18 (dk_at dksX0_does_5 17 rfl rfl)
theorem dX0_does_144 : decode cX0_does 144 = .ok (.ldc 212, 2) := dk_18 212 (dk_at dksX0_does_5 20 rfl rfl)
theorem dX0_does_146 : decode cX0_does 146 = .ok (.if_icmp .eq 7, 3) := dk_159 0 7 (dk_at dksX0_does_6 0 rfl rfl)
theorem dX0_does_149 : decode cX0_does 149 = .ok (.iconst 1, 1) := dk_4 (dk_at dksX0_does_6 3 rfl rfl)
theorem dX0_does_150 : decode cX0_does 150 = .ok (.goto 4, 3) := dk_167 0 4 (dk_at dksX0_does_6 4 rfl rfl)
theorem dX0_does_153 : decode cX0_does 153 = .ok (.iconst 0, 1) := dk_3 (dk_at dksX0_does_6 7 rfl rfl)
theorem dX0_does_154 : decode cX0_does 154 = .ok (.ireturn, 1) := dk_172 (dk_at dksX0_does_6 8 rfl rfl)
theorem dX0_does_155 : decode cX0_does 155 = .ok (.aload_n 0, 1) := dk_42 (dk_at dksX0_does_6 9 rfl rfl)
theorem dX0_does_156 : decode cX0_does 156 = .ok (.aload_n 1, 1) := dk_43 (dk_at dksX0_does_6 10 rfl rfl)
theorem dX0_does_157 : decode cX0_does 157 = .ok (.invokevirtual 251, 3) := dk_182 0 251 (dk_at dksX0_does_6 11 rfl rfl)
theorem dX0_does_160 : decode cX0_does 160 = .ok (.invokevirtual 277, 3) := dk_182 1 21 (dk_at dksX0_does_6 14 rfl rfl)
theorem dX0_does_163 : decode cX0_does 163 = .ok (.ldc 212, 2) := dk_18 212 (dk_at dksX0_does_6 17 rfl rfl)
theorem dX0_does_165 : decode cX0_does 165 = .ok (.if_icmp .eq 7, 3) := dk_159 0 7 (dk_at dksX0_does_6 19 rfl rfl)
theorem dX0_does_168 : decode cX0_does 168 = .ok (.iconst 1, 1) := dk_4 (dk_at dksX0_does_6 22 rfl rfl)
theorem dX0_does_169 : decode cX0_does 169 = .ok (.goto 4, 3) := dk_167 0 4 (dk_at dksX0_does_7 0 rfl rfl)
theorem dX0_does_172 : decode cX0_does 172 = .ok (.iconst 0, 1) := dk_3 (dk_at dksX0_does_7 3 rfl rfl)
theorem dX0_does_173 : decode cX0_does 173 = .ok (.ireturn, 1) := dk_172 (dk_at dksX0_does_7 4 rfl rfl)
theorem dX0_does_174 : decode cX0_does 174 = .ok (.aload_n 0, 1) := dk_42 (dk_at dksX0_does_7 5 rfl rfl)
theorem dX0_does_175 : decode cX0_does 175 = .ok (.aload_n 1, 1) := dk_43 (dk_at dksX0_does_7 6 rfl rfl)
theorem dX0_does_176 : decode cX0_does 176 = .ok (.invokevirtual 251, 3) := dk_182 0 251 (dk_at dksX0_does_7 7 rfl rfl)
theorem dX0_does_179 : decode cX0_does 179 = .ok (.aload_n 1, 1) := dk_43 (dk_at dksX0_does_7 10 rfl rfl)
theorem dX0_does_180 : decode cX0_does 180 = .ok (.invokevirtual 246, 3) := dk_182 0 246 (dk_at dksX0_does_7 11 rfl rfl)
theorem dX0_does_183 : decode cX0_does 183 = .ok (.sipush 210, 3) := dk_17 0 210 (dk_at dksX0_does_7 14 rfl rfl)
theorem dX0_does_186 : decode cX0_does 186 = .ok (.if_icmp .ne 7, 3) := dk_160 0 7 (dk_at dksX0_does_7 17 rfl rfl)
theorem dX0_does_189 : decode cX0_does 189 = .ok (.iconst 1, 1) := dk_4 (dk_at dksX0_does_7 20 rfl rfl)
theorem dX0_does_190 : decode cX0_does 190 = .ok (.goto 4, 3) := dk_167 0 4 (dk_at dksX0_does_7 21 rfl rfl)
theorem dX0_does_193 : decode cX0_does 193 = .ok (.iconst 0, 1) := dk_3 (dk_at dksX0_does_8 0 rfl rfl)
theorem dX0_does_194 : decode cX0_does 194 = .ok (.invokevirtual 280, 3) := dk_182 1 24 (dk_at dksX0_does_8 1 rfl rfl)
theorem dX0_does_197 : decode cX0_does 197 = .ok (.iconst (-1), 1) := dk_2 (dk_at dksX0_does_8 4 rfl rfl)
theorem dX0_does_198 : decode cX0_does 198 = .ok (.if_icmp .eq 7, 3) := dk_159 0 7 (dk_at dksX0_does_8 5 rfl rfl)
theorem dX0_does_201 : decode cX0_does 201 = .ok (.iconst 1, 1) := dk_4 (dk_at dksX0_does_8 8 rfl rfl)
theorem dX0_does_202 : decode cX0_does 202 = .ok (.goto 4, 3) := dk_167 0 4 (dk_at dksX0_does_8 9 rfl rfl)
theorem dX0_does_205 : decode cX0_does 205 = .ok (.iconst 0, 1) := dk_3 (dk_at dksX0_does_8 12 rfl rfl)
theorem dX0_does_206 : decode cX0_does 206 = .ok (.ireturn, 1) := dk_172 (dk_at dksX0_does_8 13 rfl rfl)
theorem dX0_does_207 : decode cX0_does 207 = .ok (.aload_n 0, 1) := dk_42 (dk_at dksX0_does_8 14 rfl rfl)
theorem dX0_does_208 : decode cX0_does 208 = .ok (.invokevirtual 284, 3) := dk_182 1 28 (dk_at dksX0_does_8 15 rfl rfl)
theorem dX0_does_211 : decode cX0_does 211 = .ok (.iconst (-1), 1) := dk_2 (dk_at dksX0_does_8 18 rfl rfl)
theorem dX0_does_212 : decode cX0_does 212 = .ok (.if_icmp .eq 7, 3) := dk_159 0 7 (dk_at dksX0_does_8 19 rfl rfl)
theorem dX0_does_215 : decode cX0_does 215 = .ok (.iconst 1, 1) := dk_4 (dk_at dksX0_does_8 22 rfl rfl)
theorem dX0_does_216 : decode cX0_does 216 = .ok (.goto 4, 3) := dk_167 0 4 (dk_at dksX0_does_9 0 rfl rfl)
theorem dX0_does_219 : decode cX0_does 219 = .ok (.iconst 0, 1) := dk_3 (dk_at dksX0_does_9 3 rfl rfl)
theorem dX0_does_220 : decode cX0_does 220 = .ok (.ireturn, 1) := dk_172 (dk_at dksX0_does_9 4 rfl rfl)
abbrev cX0_day : ByteArray := prog_1_method_46_code
def yX0_day : MethodName := ⟨RX0, "day", "(II)I"⟩
def dkwX0_day_10 : List UInt8 := [167, 255, 86, 29, 172]
abbrev dktX0_day_10 : List UInt8 := dkwX0_day_10 ++ []
def dkwX0_day_9 : List UInt8 := [132, 7, 1, 167, 255, 192, 29, 42, 182, 0, 243, 154, 0, 7, 4, 167, 0, 4, 3, 96, 62, 132, 4, 1]
abbrev dktX0_day_9 : List UInt8 := dkwX0_day_9 ++ dktX0_day_10
def dkwX0_day_8 : List UInt8 := [154, 0, 18, 42, 21, 7, 21, 5, 182, 1, 60, 153, 0, 7, 4, 167, 0, 4, 3, 182, 0, 234, 54, 9]
abbrev dktX0_day_8 : List UInt8 := dkwX0_day_8 ++ dktX0_day_9
def dkwX0_day_7 : List UInt8 := [182, 1, 54, 16, 10, 112, 8, 162, 0, 7, 4, 167, 0, 4, 3, 54, 8, 42, 21, 7, 21, 8]
abbrev dktX0_day_7 : List UInt8 := dkwX0_day_7 ++ dktX0_day_8
def dkwX0_day_6 : List UInt8 := [132, 7, 1, 167, 255, 220, 3, 54, 7, 21, 7, 42, 180, 0, 12, 180, 0, 74, 5, 46, 162, 0, 56, 42]
abbrev dktX0_day_6 : List UInt8 := dkwX0_day_6 ++ dktX0_day_7
def dkwX0_day_5 : List UInt8 := [180, 0, 34, 21, 6, 42, 180, 1, 51, 112, 21, 7, 96, 42, 180, 1, 51, 112, 46, 182, 0, 226]
abbrev dktX0_day_5 : List UInt8 := dkwX0_day_5 ++ dktX0_day_6
def dkwX0_day_4 : List UInt8 := [182, 1, 57, 42, 182, 1, 54, 54, 6, 3, 54, 7, 21, 7, 42, 180, 1, 51, 162, 0, 33, 42, 42]
abbrev dktX0_day_4 : List UInt8 := dkwX0_day_4 ++ dktX0_day_5
def dkwX0_day_3 : List UInt8 := [182, 1, 54, 42, 180, 0, 12, 180, 0, 74, 3, 46, 112, 54, 5, 42, 21, 5, 182, 0, 213, 42, 21, 5]
abbrev dktX0_day_3 : List UInt8 := dkwX0_day_3 ++ dktX0_day_4
def dkwX0_day_2 : List UInt8 := [180, 0, 203, 16, 7, 27, 5, 104, 16, 19, 96, 79, 3, 62, 3, 54, 4, 21, 4, 28, 162, 0, 170, 42]
abbrev dktX0_day_2 : List UInt8 := dkwX0_day_2 ++ dktX0_day_3
def dkwX0_day_1 : List UInt8 := [180, 0, 12, 180, 0, 74, 3, 46, 154, 0, 5, 2, 172, 42, 180, 0, 12, 182, 0, 200, 42, 180, 0, 12]
abbrev dktX0_day_1 : List UInt8 := dkwX0_day_1 ++ dktX0_day_2
def dkwX0_day_0 : List UInt8 := [27, 3, 17, 39, 15, 184, 0, 77, 153, 0, 25, 28, 4, 16, 20, 184, 0, 77, 153, 0, 15, 42]
abbrev dktX0_day_0 : List UInt8 := dkwX0_day_0 ++ dktX0_day_1
theorem dksX0_day_0 : cX0_day.data.toList.drop 0 = dktX0_day_0 := by decide +kernel
theorem dksX0_day_1 : cX0_day.data.toList.drop 22 = dktX0_day_1 := dk_seg dksX0_day_0 22 rfl rfl
theorem dksX0_day_2 : cX0_day.data.toList.drop 46 = dktX0_day_2 := dk_seg dksX0_day_1 24 rfl rfl
theorem dksX0_day_3 : cX0_day.data.toList.drop 70 = dktX0_day_3 := dk_seg dksX0_day_2 24 rfl rfl
theorem dksX0_day_4 : cX0_day.data.toList.drop 94 = dktX0_day_4 := dk_seg dksX0_day_3 24 rfl rfl
theorem dksX0_day_5 : cX0_day.data.toList.drop 117 = dktX0_day_5 := dk_seg dksX0_day_4 23 rfl rfl
theorem dksX0_day_6 : cX0_day.data.toList.drop 139 = dktX0_day_6 := dk_seg dksX0_day_5 22 rfl rfl
theorem dksX0_day_7 : cX0_day.data.toList.drop 163 = dktX0_day_7 := dk_seg dksX0_day_6 24 rfl rfl
theorem dksX0_day_8 : cX0_day.data.toList.drop 185 = dktX0_day_8 := dk_seg dksX0_day_7 22 rfl rfl
theorem dksX0_day_9 : cX0_day.data.toList.drop 209 = dktX0_day_9 := dk_seg dksX0_day_8 24 rfl rfl
theorem dksX0_day_10 : cX0_day.data.toList.drop 233 = dktX0_day_10 := dk_seg dksX0_day_9 24 rfl rfl
theorem dX0_day_0 : decode cX0_day 0 = .ok (.iload_n 1, 1) := dk_27 (dk_at dksX0_day_0 0 rfl rfl)
theorem dX0_day_1 : decode cX0_day 1 = .ok (.iconst 0, 1) := dk_3 (dk_at dksX0_day_0 1 rfl rfl)
theorem dX0_day_2 : decode cX0_day 2 = .ok (.sipush 9999, 3) := dk_17 39 15 (dk_at dksX0_day_0 2 rfl rfl)
theorem dX0_day_5 : decode cX0_day 5 = .ok (.invokestatic 77, 3) := dk_184 0 77 (dk_at dksX0_day_0 5 rfl rfl)
theorem dX0_day_8 : decode cX0_day 8 = .ok (.ifCond .eq 25, 3) := dk_153 0 25 (dk_at dksX0_day_0 8 rfl rfl)
theorem dX0_day_11 : decode cX0_day 11 = .ok (.iload_n 2, 1) := dk_28 (dk_at dksX0_day_0 11 rfl rfl)
theorem dX0_day_12 : decode cX0_day 12 = .ok (.iconst 1, 1) := dk_4 (dk_at dksX0_day_0 12 rfl rfl)
theorem dX0_day_13 : decode cX0_day 13 = .ok (.bipush 20, 2) := dk_16 20 (dk_at dksX0_day_0 13 rfl rfl)
theorem dX0_day_15 : decode cX0_day 15 = .ok (.invokestatic 77, 3) := dk_184 0 77 (dk_at dksX0_day_0 15 rfl rfl)
theorem dX0_day_18 : decode cX0_day 18 = .ok (.ifCond .eq 15, 3) := dk_153 0 15 (dk_at dksX0_day_0 18 rfl rfl)
theorem dX0_day_21 : decode cX0_day 21 = .ok (.aload_n 0, 1) := dk_42 (dk_at dksX0_day_0 21 rfl rfl)
theorem dX0_day_22 : decode cX0_day 22 = .ok (.getfield 12, 3) := dk_180 0 12 (dk_at dksX0_day_1 0 rfl rfl)
theorem dX0_day_25 : decode cX0_day 25 = .ok (.getfield 74, 3) := dk_180 0 74 (dk_at dksX0_day_1 3 rfl rfl)
theorem dX0_day_28 : decode cX0_day 28 = .ok (.iconst 0, 1) := dk_3 (dk_at dksX0_day_1 6 rfl rfl)
theorem dX0_day_29 : decode cX0_day 29 = .ok (.iaload, 1) := dk_46 (dk_at dksX0_day_1 7 rfl rfl)
theorem dX0_day_30 : decode cX0_day 30 = .ok (.ifCond .ne 5, 3) := dk_154 0 5 (dk_at dksX0_day_1 8 rfl rfl)
theorem dX0_day_33 : decode cX0_day 33 = .ok (.iconst (-1), 1) := dk_2 (dk_at dksX0_day_1 11 rfl rfl)
theorem dX0_day_34 : decode cX0_day 34 = .ok (.ireturn, 1) := dk_172 (dk_at dksX0_day_1 12 rfl rfl)
theorem dX0_day_35 : decode cX0_day 35 = .ok (.aload_n 0, 1) := dk_42 (dk_at dksX0_day_1 13 rfl rfl)
theorem dX0_day_36 : decode cX0_day 36 = .ok (.getfield 12, 3) := dk_180 0 12 (dk_at dksX0_day_1 14 rfl rfl)
theorem dX0_day_39 : decode cX0_day 39 = .ok (.invokevirtual 200, 3) := dk_182 0 200 (dk_at dksX0_day_1 17 rfl rfl)
theorem dX0_day_42 : decode cX0_day 42 = .ok (.aload_n 0, 1) := dk_42 (dk_at dksX0_day_1 20 rfl rfl)
theorem dX0_day_43 : decode cX0_day 43 = .ok (.getfield 12, 3) := dk_180 0 12 (dk_at dksX0_day_1 21 rfl rfl)
theorem dX0_day_46 : decode cX0_day 46 = .ok (.getfield 203, 3) := dk_180 0 203 (dk_at dksX0_day_2 0 rfl rfl)
theorem dX0_day_49 : decode cX0_day 49 = .ok (.bipush 7, 2) := dk_16 7 (dk_at dksX0_day_2 3 rfl rfl)
theorem dX0_day_51 : decode cX0_day 51 = .ok (.iload_n 1, 1) := dk_27 (dk_at dksX0_day_2 5 rfl rfl)
theorem dX0_day_52 : decode cX0_day 52 = .ok (.iconst 2, 1) := dk_5 (dk_at dksX0_day_2 6 rfl rfl)
theorem dX0_day_53 : decode cX0_day 53 = .ok (.imul, 1) := dk_104 (dk_at dksX0_day_2 7 rfl rfl)
theorem dX0_day_54 : decode cX0_day 54 = .ok (.bipush 19, 2) := dk_16 19 (dk_at dksX0_day_2 8 rfl rfl)
theorem dX0_day_56 : decode cX0_day 56 = .ok (.iadd, 1) := dk_96 (dk_at dksX0_day_2 10 rfl rfl)
theorem dX0_day_57 : decode cX0_day 57 = .ok (.iastore, 1) := dk_79 (dk_at dksX0_day_2 11 rfl rfl)
theorem dX0_day_58 : decode cX0_day 58 = .ok (.iconst 0, 1) := dk_3 (dk_at dksX0_day_2 12 rfl rfl)
theorem dX0_day_59 : decode cX0_day 59 = .ok (.istore_n 3, 1) := dk_62 (dk_at dksX0_day_2 13 rfl rfl)
theorem dX0_day_60 : decode cX0_day 60 = .ok (.iconst 0, 1) := dk_3 (dk_at dksX0_day_2 14 rfl rfl)
theorem dX0_day_61 : decode cX0_day 61 = .ok (.istore 4, 2) := dk_54 4 (dk_at dksX0_day_2 15 rfl rfl)
theorem dX0_day_63 : decode cX0_day 63 = .ok (.iload 4, 2) := dk_21 4 (dk_at dksX0_day_2 17 rfl rfl)
theorem dX0_day_65 : decode cX0_day 65 = .ok (.iload_n 2, 1) := dk_28 (dk_at dksX0_day_2 19 rfl rfl)
theorem dX0_day_66 : decode cX0_day 66 = .ok (.if_icmp .ge 170, 3) := dk_162 0 170 (dk_at dksX0_day_2 20 rfl rfl)
theorem dX0_day_69 : decode cX0_day 69 = .ok (.aload_n 0, 1) := dk_42 (dk_at dksX0_day_2 23 rfl rfl)
theorem dX0_day_70 : decode cX0_day 70 = .ok (.invokevirtual 310, 3) := dk_182 1 54 (dk_at dksX0_day_3 0 rfl rfl)
theorem dX0_day_73 : decode cX0_day 73 = .ok (.aload_n 0, 1) := dk_42 (dk_at dksX0_day_3 3 rfl rfl)
theorem dX0_day_74 : decode cX0_day 74 = .ok (.getfield 12, 3) := dk_180 0 12 (dk_at dksX0_day_3 4 rfl rfl)
theorem dX0_day_77 : decode cX0_day 77 = .ok (.getfield 74, 3) := dk_180 0 74 (dk_at dksX0_day_3 7 rfl rfl)
theorem dX0_day_80 : decode cX0_day 80 = .ok (.iconst 0, 1) := dk_3 (dk_at dksX0_day_3 10 rfl rfl)
theorem dX0_day_81 : decode cX0_day 81 = .ok (.iaload, 1) := dk_46 (dk_at dksX0_day_3 11 rfl rfl)
theorem dX0_day_82 : decode cX0_day 82 = .ok (.irem, 1) := dk_112 (dk_at dksX0_day_3 12 rfl rfl)
theorem dX0_day_83 : decode cX0_day 83 = .ok (.istore 5, 2) := dk_54 5 (dk_at dksX0_day_3 13 rfl rfl)
theorem dX0_day_85 : decode cX0_day 85 = .ok (.aload_n 0, 1) := dk_42 (dk_at dksX0_day_3 15 rfl rfl)
theorem dX0_day_86 : decode cX0_day 86 = .ok (.iload 5, 2) := dk_21 5 (dk_at dksX0_day_3 16 rfl rfl)
theorem dX0_day_88 : decode cX0_day 88 = .ok (.invokevirtual 213, 3) := dk_182 0 213 (dk_at dksX0_day_3 18 rfl rfl)
theorem dX0_day_91 : decode cX0_day 91 = .ok (.aload_n 0, 1) := dk_42 (dk_at dksX0_day_3 21 rfl rfl)
theorem dX0_day_92 : decode cX0_day 92 = .ok (.iload 5, 2) := dk_21 5 (dk_at dksX0_day_3 22 rfl rfl)
theorem dX0_day_94 : decode cX0_day 94 = .ok (.invokevirtual 313, 3) := dk_182 1 57 (dk_at dksX0_day_4 0 rfl rfl)
theorem dX0_day_97 : decode cX0_day 97 = .ok (.aload_n 0, 1) := dk_42 (dk_at dksX0_day_4 3 rfl rfl)
theorem dX0_day_98 : decode cX0_day 98 = .ok (.invokevirtual 310, 3) := dk_182 1 54 (dk_at dksX0_day_4 4 rfl rfl)
theorem dX0_day_101 : decode cX0_day 101 = .ok (.istore 6, 2) := dk_54 6 (dk_at dksX0_day_4 7 rfl rfl)
theorem dX0_day_103 : decode cX0_day 103 = .ok (.iconst 0, 1) := dk_3 (dk_at dksX0_day_4 9 rfl rfl)
theorem dX0_day_104 : decode cX0_day 104 = .ok (.istore 7, 2) := dk_54 7 (dk_at dksX0_day_4 10 rfl rfl)
theorem dX0_day_106 : decode cX0_day 106 = .ok (.iload 7, 2) := dk_21 7 (dk_at dksX0_day_4 12 rfl rfl)
theorem dX0_day_108 : decode cX0_day 108 = .ok (.aload_n 0, 1) := dk_42 (dk_at dksX0_day_4 14 rfl rfl)
theorem dX0_day_109 : decode cX0_day 109 = .ok (.getfield 307, 3) := dk_180 1 51 (dk_at dksX0_day_4 15 rfl rfl)
theorem dX0_day_112 : decode cX0_day 112 = .ok (.if_icmp .ge 33, 3) := dk_162 0 33 (dk_at dksX0_day_4 18 rfl rfl)
theorem dX0_day_115 : decode cX0_day 115 = .ok (.aload_n 0, 1) := dk_42 (dk_at dksX0_day_4 21 rfl rfl)
theorem dX0_day_116 : decode cX0_day 116 = .ok (.aload_n 0, 1) := dk_42 (dk_at dksX0_day_4 22 rfl rfl)
theorem dX0_day_117 : decode cX0_day 117 = .ok (.getfield 34, 3) := dk_180 0 34 (dk_at dksX0_day_5 0 rfl rfl)
theorem dX0_day_120 : decode cX0_day 120 = .ok (.iload 6, 2) := dk_21 6 (dk_at dksX0_day_5 3 rfl rfl)
theorem dX0_day_122 : decode cX0_day 122 = .ok (.aload_n 0, 1) := dk_42 (dk_at dksX0_day_5 5 rfl rfl)
theorem dX0_day_123 : decode cX0_day 123 = .ok (.getfield 307, 3) := dk_180 1 51 (dk_at dksX0_day_5 6 rfl rfl)
theorem dX0_day_126 : decode cX0_day 126 = .ok (.irem, 1) := dk_112 (dk_at dksX0_day_5 9 rfl rfl)
theorem dX0_day_127 : decode cX0_day 127 = .ok (.iload 7, 2) := dk_21 7 (dk_at dksX0_day_5 10 rfl rfl)
theorem dX0_day_129 : decode cX0_day 129 = .ok (.iadd, 1) := dk_96 (dk_at dksX0_day_5 12 rfl rfl)
theorem dX0_day_130 : decode cX0_day 130 = .ok (.aload_n 0, 1) := dk_42 (dk_at dksX0_day_5 13 rfl rfl)
theorem dX0_day_131 : decode cX0_day 131 = .ok (.getfield 307, 3) := dk_180 1 51 (dk_at dksX0_day_5 14 rfl rfl)
theorem dX0_day_134 : decode cX0_day 134 = .ok (.irem, 1) := dk_112 (dk_at dksX0_day_5 17 rfl rfl)
theorem dX0_day_135 : decode cX0_day 135 = .ok (.iaload, 1) := dk_46 (dk_at dksX0_day_5 18 rfl rfl)
theorem dX0_day_136 : decode cX0_day 136 = .ok (.invokevirtual 226, 3) := dk_182 0 226 (dk_at dksX0_day_5 19 rfl rfl)
theorem dX0_day_139 : decode cX0_day 139 = .ok (.iinc 7 1, 3) := dk_132 7 1 (dk_at dksX0_day_6 0 rfl rfl)
theorem dX0_day_142 : decode cX0_day 142 = .ok (.goto (-36), 3) := dk_167 255 220 (dk_at dksX0_day_6 3 rfl rfl)
theorem dX0_day_145 : decode cX0_day 145 = .ok (.iconst 0, 1) := dk_3 (dk_at dksX0_day_6 6 rfl rfl)
theorem dX0_day_146 : decode cX0_day 146 = .ok (.istore 7, 2) := dk_54 7 (dk_at dksX0_day_6 7 rfl rfl)
theorem dX0_day_148 : decode cX0_day 148 = .ok (.iload 7, 2) := dk_21 7 (dk_at dksX0_day_6 9 rfl rfl)
theorem dX0_day_150 : decode cX0_day 150 = .ok (.aload_n 0, 1) := dk_42 (dk_at dksX0_day_6 11 rfl rfl)
theorem dX0_day_151 : decode cX0_day 151 = .ok (.getfield 12, 3) := dk_180 0 12 (dk_at dksX0_day_6 12 rfl rfl)
theorem dX0_day_154 : decode cX0_day 154 = .ok (.getfield 74, 3) := dk_180 0 74 (dk_at dksX0_day_6 15 rfl rfl)
theorem dX0_day_157 : decode cX0_day 157 = .ok (.iconst 2, 1) := dk_5 (dk_at dksX0_day_6 18 rfl rfl)
theorem dX0_day_158 : decode cX0_day 158 = .ok (.iaload, 1) := dk_46 (dk_at dksX0_day_6 19 rfl rfl)
theorem dX0_day_159 : decode cX0_day 159 = .ok (.if_icmp .ge 56, 3) := dk_162 0 56 (dk_at dksX0_day_6 20 rfl rfl)
theorem dX0_day_162 : decode cX0_day 162 = .ok (.aload_n 0, 1) := dk_42 (dk_at dksX0_day_6 23 rfl rfl)
theorem dX0_day_163 : decode cX0_day 163 = .ok (.invokevirtual 310, 3) := dk_182 1 54 (dk_at dksX0_day_7 0 rfl rfl)
theorem dX0_day_166 : decode cX0_day 166 = .ok (.bipush 10, 2) := dk_16 10 (dk_at dksX0_day_7 3 rfl rfl)
theorem dX0_day_168 : decode cX0_day 168 = .ok (.irem, 1) := dk_112 (dk_at dksX0_day_7 5 rfl rfl)
theorem dX0_day_169 : decode cX0_day 169 = .ok (.iconst 5, 1) := dk_8 (dk_at dksX0_day_7 6 rfl rfl)
theorem dX0_day_170 : decode cX0_day 170 = .ok (.if_icmp .ge 7, 3) := dk_162 0 7 (dk_at dksX0_day_7 7 rfl rfl)
theorem dX0_day_173 : decode cX0_day 173 = .ok (.iconst 1, 1) := dk_4 (dk_at dksX0_day_7 10 rfl rfl)
theorem dX0_day_174 : decode cX0_day 174 = .ok (.goto 4, 3) := dk_167 0 4 (dk_at dksX0_day_7 11 rfl rfl)
theorem dX0_day_177 : decode cX0_day 177 = .ok (.iconst 0, 1) := dk_3 (dk_at dksX0_day_7 14 rfl rfl)
theorem dX0_day_178 : decode cX0_day 178 = .ok (.istore 8, 2) := dk_54 8 (dk_at dksX0_day_7 15 rfl rfl)
theorem dX0_day_180 : decode cX0_day 180 = .ok (.aload_n 0, 1) := dk_42 (dk_at dksX0_day_7 17 rfl rfl)
theorem dX0_day_181 : decode cX0_day 181 = .ok (.iload 7, 2) := dk_21 7 (dk_at dksX0_day_7 18 rfl rfl)
theorem dX0_day_183 : decode cX0_day 183 = .ok (.iload 8, 2) := dk_21 8 (dk_at dksX0_day_7 20 rfl rfl)
theorem dX0_day_185 : decode cX0_day 185 = .ok (.ifCond .ne 18, 3) := dk_154 0 18 (dk_at dksX0_day_8 0 rfl rfl)
theorem dX0_day_188 : decode cX0_day 188 = .ok (.aload_n 0, 1) := dk_42 (dk_at dksX0_day_8 3 rfl rfl)
theorem dX0_day_189 : decode cX0_day 189 = .ok (.iload 7, 2) := dk_21 7 (dk_at dksX0_day_8 4 rfl rfl)
theorem dX0_day_191 : decode cX0_day 191 = .ok (.iload 5, 2) := dk_21 5 (dk_at dksX0_day_8 6 rfl rfl)
theorem dX0_day_193 : decode cX0_day 193 = .ok (.invokevirtual 316, 3) := dk_182 1 60 (dk_at dksX0_day_8 8 rfl rfl)
theorem dX0_day_196 : decode cX0_day 196 = .ok (.ifCond .eq 7, 3) := dk_153 0 7 (dk_at dksX0_day_8 11 rfl rfl)
theorem dX0_day_199 : decode cX0_day 199 = .ok (.iconst 1, 1) := dk_4 (dk_at dksX0_day_8 14 rfl rfl)
theorem dX0_day_200 : decode cX0_day 200 = .ok (.goto 4, 3) := dk_167 0 4 (dk_at dksX0_day_8 15 rfl rfl)
theorem dX0_day_203 : decode cX0_day 203 = .ok (.iconst 0, 1) := dk_3 (dk_at dksX0_day_8 18 rfl rfl)
theorem dX0_day_204 : decode cX0_day 204 = .ok (.invokevirtual 234, 3) := dk_182 0 234 (dk_at dksX0_day_8 19 rfl rfl)
theorem dX0_day_207 : decode cX0_day 207 = .ok (.istore 9, 2) := dk_54 9 (dk_at dksX0_day_8 22 rfl rfl)
theorem dX0_day_209 : decode cX0_day 209 = .ok (.iinc 7 1, 3) := dk_132 7 1 (dk_at dksX0_day_9 0 rfl rfl)
theorem dX0_day_212 : decode cX0_day 212 = .ok (.goto (-64), 3) := dk_167 255 192 (dk_at dksX0_day_9 3 rfl rfl)
theorem dX0_day_215 : decode cX0_day 215 = .ok (.iload_n 3, 1) := dk_29 (dk_at dksX0_day_9 6 rfl rfl)
theorem dX0_day_216 : decode cX0_day 216 = .ok (.aload_n 0, 1) := dk_42 (dk_at dksX0_day_9 7 rfl rfl)
theorem dX0_day_217 : decode cX0_day 217 = .ok (.invokevirtual 243, 3) := dk_182 0 243 (dk_at dksX0_day_9 8 rfl rfl)
theorem dX0_day_220 : decode cX0_day 220 = .ok (.ifCond .ne 7, 3) := dk_154 0 7 (dk_at dksX0_day_9 11 rfl rfl)
theorem dX0_day_223 : decode cX0_day 223 = .ok (.iconst 1, 1) := dk_4 (dk_at dksX0_day_9 14 rfl rfl)
theorem dX0_day_224 : decode cX0_day 224 = .ok (.goto 4, 3) := dk_167 0 4 (dk_at dksX0_day_9 15 rfl rfl)
theorem dX0_day_227 : decode cX0_day 227 = .ok (.iconst 0, 1) := dk_3 (dk_at dksX0_day_9 18 rfl rfl)
theorem dX0_day_228 : decode cX0_day 228 = .ok (.iadd, 1) := dk_96 (dk_at dksX0_day_9 19 rfl rfl)
theorem dX0_day_229 : decode cX0_day 229 = .ok (.istore_n 3, 1) := dk_62 (dk_at dksX0_day_9 20 rfl rfl)
theorem dX0_day_230 : decode cX0_day 230 = .ok (.iinc 4 1, 3) := dk_132 4 1 (dk_at dksX0_day_9 21 rfl rfl)
theorem dX0_day_233 : decode cX0_day 233 = .ok (.goto (-170), 3) := dk_167 255 86 (dk_at dksX0_day_10 0 rfl rfl)
theorem dX0_day_236 : decode cX0_day 236 = .ok (.iload_n 3, 1) := dk_29 (dk_at dksX0_day_10 3 rfl rfl)
theorem dX0_day_237 : decode cX0_day 237 = .ok (.ireturn, 1) := dk_172 (dk_at dksX0_day_10 4 rfl rfl)
abbrev cX0_drawn : ByteArray := prog_1_method_44_code
def yX0_drawn : MethodName := ⟨RX0, "drawn", "()I"⟩
def dkwX0_drawn_1 : List UInt8 := [104, 16, 109, 96, 17, 117, 209, 112, 79, 27, 172]
abbrev dktX0_drawn_1 : List UInt8 := dkwX0_drawn_1 ++ []
def dkwX0_drawn_0 : List UInt8 := [42, 180, 0, 12, 180, 0, 203, 16, 7, 46, 60, 42, 180, 0, 12, 180, 0, 203, 16, 7, 27, 17, 0, 223]
abbrev dktX0_drawn_0 : List UInt8 := dkwX0_drawn_0 ++ dktX0_drawn_1
theorem dksX0_drawn_0 : cX0_drawn.data.toList.drop 0 = dktX0_drawn_0 := by decide +kernel
theorem dksX0_drawn_1 : cX0_drawn.data.toList.drop 24 = dktX0_drawn_1 := dk_seg dksX0_drawn_0 24 rfl rfl
theorem dX0_drawn_0 : decode cX0_drawn 0 = .ok (.aload_n 0, 1) := dk_42 (dk_at dksX0_drawn_0 0 rfl rfl)
theorem dX0_drawn_1 : decode cX0_drawn 1 = .ok (.getfield 12, 3) := dk_180 0 12 (dk_at dksX0_drawn_0 1 rfl rfl)
theorem dX0_drawn_4 : decode cX0_drawn 4 = .ok (.getfield 203, 3) := dk_180 0 203 (dk_at dksX0_drawn_0 4 rfl rfl)
theorem dX0_drawn_7 : decode cX0_drawn 7 = .ok (.bipush 7, 2) := dk_16 7 (dk_at dksX0_drawn_0 7 rfl rfl)
theorem dX0_drawn_9 : decode cX0_drawn 9 = .ok (.iaload, 1) := dk_46 (dk_at dksX0_drawn_0 9 rfl rfl)
theorem dX0_drawn_10 : decode cX0_drawn 10 = .ok (.istore_n 1, 1) := dk_60 (dk_at dksX0_drawn_0 10 rfl rfl)
theorem dX0_drawn_11 : decode cX0_drawn 11 = .ok (.aload_n 0, 1) := dk_42 (dk_at dksX0_drawn_0 11 rfl rfl)
theorem dX0_drawn_12 : decode cX0_drawn 12 = .ok (.getfield 12, 3) := dk_180 0 12 (dk_at dksX0_drawn_0 12 rfl rfl)
theorem dX0_drawn_15 : decode cX0_drawn 15 = .ok (.getfield 203, 3) := dk_180 0 203 (dk_at dksX0_drawn_0 15 rfl rfl)
theorem dX0_drawn_18 : decode cX0_drawn 18 = .ok (.bipush 7, 2) := dk_16 7 (dk_at dksX0_drawn_0 18 rfl rfl)
theorem dX0_drawn_20 : decode cX0_drawn 20 = .ok (.iload_n 1, 1) := dk_27 (dk_at dksX0_drawn_0 20 rfl rfl)
theorem dX0_drawn_21 : decode cX0_drawn 21 = .ok (.sipush 223, 3) := dk_17 0 223 (dk_at dksX0_drawn_0 21 rfl rfl)
theorem dX0_drawn_24 : decode cX0_drawn 24 = .ok (.imul, 1) := dk_104 (dk_at dksX0_drawn_1 0 rfl rfl)
theorem dX0_drawn_25 : decode cX0_drawn 25 = .ok (.bipush 109, 2) := dk_16 109 (dk_at dksX0_drawn_1 1 rfl rfl)
theorem dX0_drawn_27 : decode cX0_drawn 27 = .ok (.iadd, 1) := dk_96 (dk_at dksX0_drawn_1 3 rfl rfl)
theorem dX0_drawn_28 : decode cX0_drawn 28 = .ok (.sipush 30161, 3) := dk_17 117 209 (dk_at dksX0_drawn_1 4 rfl rfl)
theorem dX0_drawn_31 : decode cX0_drawn 31 = .ok (.irem, 1) := dk_112 (dk_at dksX0_drawn_1 7 rfl rfl)
theorem dX0_drawn_32 : decode cX0_drawn 32 = .ok (.iastore, 1) := dk_79 (dk_at dksX0_drawn_1 8 rfl rfl)
theorem dX0_drawn_33 : decode cX0_drawn 33 = .ok (.iload_n 1, 1) := dk_27 (dk_at dksX0_drawn_1 9 rfl rfl)
theorem dX0_drawn_34 : decode cX0_drawn 34 = .ok (.ireturn, 1) := dk_172 (dk_at dksX0_drawn_1 10 rfl rfl)
abbrev cX0_laysMine : ByteArray := prog_1_method_45_code
def yX0_laysMine : MethodName := ⟨RX0, "laysMine", "(I)V"⟩
def dkwX0_laysMine_2 : List UInt8 := [42, 89, 180, 1, 51, 4, 96, 181, 1, 51, 132, 2, 1, 167, 255, 202, 177]
abbrev dktX0_laysMine_2 : List UInt8 := dkwX0_laysMine_2 ++ []
def dkwX0_laysMine_1 : List UInt8 := [180, 0, 88, 28, 50, 3, 46, 27, 159, 0, 6, 167, 0, 23, 42, 180, 0, 34, 42, 180, 1, 51, 28, 79]
abbrev dktX0_laysMine_1 : List UInt8 := dkwX0_laysMine_1 ++ dktX0_laysMine_2
def dkwX0_laysMine_0 : List UInt8 := [42, 3, 181, 1, 51, 3, 61, 28, 42, 180, 0, 12, 180, 0, 74, 4, 46, 162, 0, 47, 42, 180, 0, 12]
abbrev dktX0_laysMine_0 : List UInt8 := dkwX0_laysMine_0 ++ dktX0_laysMine_1
theorem dksX0_laysMine_0 : cX0_laysMine.data.toList.drop 0 = dktX0_laysMine_0 := by decide +kernel
theorem dksX0_laysMine_1 : cX0_laysMine.data.toList.drop 24 = dktX0_laysMine_1 := dk_seg dksX0_laysMine_0 24 rfl rfl
theorem dksX0_laysMine_2 : cX0_laysMine.data.toList.drop 48 = dktX0_laysMine_2 := dk_seg dksX0_laysMine_1 24 rfl rfl
theorem dX0_laysMine_0 : decode cX0_laysMine 0 = .ok (.aload_n 0, 1) := dk_42 (dk_at dksX0_laysMine_0 0 rfl rfl)
theorem dX0_laysMine_1 : decode cX0_laysMine 1 = .ok (.iconst 0, 1) := dk_3 (dk_at dksX0_laysMine_0 1 rfl rfl)
theorem dX0_laysMine_2 : decode cX0_laysMine 2 = .ok (.putfield 307, 3) := dk_181 1 51 (dk_at dksX0_laysMine_0 2 rfl rfl)
theorem dX0_laysMine_5 : decode cX0_laysMine 5 = .ok (.iconst 0, 1) := dk_3 (dk_at dksX0_laysMine_0 5 rfl rfl)
theorem dX0_laysMine_6 : decode cX0_laysMine 6 = .ok (.istore_n 2, 1) := dk_61 (dk_at dksX0_laysMine_0 6 rfl rfl)
theorem dX0_laysMine_7 : decode cX0_laysMine 7 = .ok (.iload_n 2, 1) := dk_28 (dk_at dksX0_laysMine_0 7 rfl rfl)
theorem dX0_laysMine_8 : decode cX0_laysMine 8 = .ok (.aload_n 0, 1) := dk_42 (dk_at dksX0_laysMine_0 8 rfl rfl)
theorem dX0_laysMine_9 : decode cX0_laysMine 9 = .ok (.getfield 12, 3) := dk_180 0 12 (dk_at dksX0_laysMine_0 9 rfl rfl)
theorem dX0_laysMine_12 : decode cX0_laysMine 12 = .ok (.getfield 74, 3) := dk_180 0 74 (dk_at dksX0_laysMine_0 12 rfl rfl)
theorem dX0_laysMine_15 : decode cX0_laysMine 15 = .ok (.iconst 1, 1) := dk_4 (dk_at dksX0_laysMine_0 15 rfl rfl)
theorem dX0_laysMine_16 : decode cX0_laysMine 16 = .ok (.iaload, 1) := dk_46 (dk_at dksX0_laysMine_0 16 rfl rfl)
theorem dX0_laysMine_17 : decode cX0_laysMine 17 = .ok (.if_icmp .ge 47, 3) := dk_162 0 47 (dk_at dksX0_laysMine_0 17 rfl rfl)
theorem dX0_laysMine_20 : decode cX0_laysMine 20 = .ok (.aload_n 0, 1) := dk_42 (dk_at dksX0_laysMine_0 20 rfl rfl)
theorem dX0_laysMine_21 : decode cX0_laysMine 21 = .ok (.getfield 12, 3) := dk_180 0 12 (dk_at dksX0_laysMine_0 21 rfl rfl)
theorem dX0_laysMine_24 : decode cX0_laysMine 24 = .ok (.getfield 88, 3) := dk_180 0 88 (dk_at dksX0_laysMine_1 0 rfl rfl)
theorem dX0_laysMine_27 : decode cX0_laysMine 27 = .ok (.iload_n 2, 1) := dk_28 (dk_at dksX0_laysMine_1 3 rfl rfl)
theorem dX0_laysMine_28 : decode cX0_laysMine 28 = .ok (.aaload, 1) := dk_50 (dk_at dksX0_laysMine_1 4 rfl rfl)
theorem dX0_laysMine_29 : decode cX0_laysMine 29 = .ok (.iconst 0, 1) := dk_3 (dk_at dksX0_laysMine_1 5 rfl rfl)
theorem dX0_laysMine_30 : decode cX0_laysMine 30 = .ok (.iaload, 1) := dk_46 (dk_at dksX0_laysMine_1 6 rfl rfl)
theorem dX0_laysMine_31 : decode cX0_laysMine 31 = .ok (.iload_n 1, 1) := dk_27 (dk_at dksX0_laysMine_1 7 rfl rfl)
theorem dX0_laysMine_32 : decode cX0_laysMine 32 = .ok (.if_icmp .eq 6, 3) := dk_159 0 6 (dk_at dksX0_laysMine_1 8 rfl rfl)
theorem dX0_laysMine_35 : decode cX0_laysMine 35 = .ok (.goto 23, 3) := dk_167 0 23 (dk_at dksX0_laysMine_1 11 rfl rfl)
theorem dX0_laysMine_38 : decode cX0_laysMine 38 = .ok (.aload_n 0, 1) := dk_42 (dk_at dksX0_laysMine_1 14 rfl rfl)
theorem dX0_laysMine_39 : decode cX0_laysMine 39 = .ok (.getfield 34, 3) := dk_180 0 34 (dk_at dksX0_laysMine_1 15 rfl rfl)
theorem dX0_laysMine_42 : decode cX0_laysMine 42 = .ok (.aload_n 0, 1) := dk_42 (dk_at dksX0_laysMine_1 18 rfl rfl)
theorem dX0_laysMine_43 : decode cX0_laysMine 43 = .ok (.getfield 307, 3) := dk_180 1 51 (dk_at dksX0_laysMine_1 19 rfl rfl)
theorem dX0_laysMine_46 : decode cX0_laysMine 46 = .ok (.iload_n 2, 1) := dk_28 (dk_at dksX0_laysMine_1 22 rfl rfl)
theorem dX0_laysMine_47 : decode cX0_laysMine 47 = .ok (.iastore, 1) := dk_79 (dk_at dksX0_laysMine_1 23 rfl rfl)
theorem dX0_laysMine_48 : decode cX0_laysMine 48 = .ok (.aload_n 0, 1) := dk_42 (dk_at dksX0_laysMine_2 0 rfl rfl)
theorem dX0_laysMine_49 : decode cX0_laysMine 49 = .ok (.dup, 1) := dk_89 (dk_at dksX0_laysMine_2 1 rfl rfl)
theorem dX0_laysMine_50 : decode cX0_laysMine 50 = .ok (.getfield 307, 3) := dk_180 1 51 (dk_at dksX0_laysMine_2 2 rfl rfl)
theorem dX0_laysMine_53 : decode cX0_laysMine 53 = .ok (.iconst 1, 1) := dk_4 (dk_at dksX0_laysMine_2 5 rfl rfl)
theorem dX0_laysMine_54 : decode cX0_laysMine 54 = .ok (.iadd, 1) := dk_96 (dk_at dksX0_laysMine_2 6 rfl rfl)
theorem dX0_laysMine_55 : decode cX0_laysMine 55 = .ok (.putfield 307, 3) := dk_181 1 51 (dk_at dksX0_laysMine_2 7 rfl rfl)
theorem dX0_laysMine_58 : decode cX0_laysMine 58 = .ok (.iinc 2 1, 3) := dk_132 2 1 (dk_at dksX0_laysMine_2 10 rfl rfl)
theorem dX0_laysMine_61 : decode cX0_laysMine 61 = .ok (.goto (-54), 3) := dk_167 255 202 (dk_at dksX0_laysMine_2 13 rfl rfl)
theorem dX0_laysMine_64 : decode cX0_laysMine 64 = .ok (.return_, 1) := dk_177 (dk_at dksX0_laysMine_2 16 rfl rfl)
abbrev cX0_undo : ByteArray := prog_1_method_47_code
def yX0_undo : MethodName := ⟨RX0, "undo", "()I"⟩
def dkwX0_undo_2 : List UInt8 := [180, 0, 12, 180, 0, 203, 184, 0, 91, 42, 180, 0, 12, 180, 0, 74, 16, 6, 46, 172]
abbrev dktX0_undo_2 : List UInt8 := dkwX0_undo_2 ++ []
def dkwX0_undo_1 : List UInt8 := [92, 46, 4, 100, 79, 42, 180, 0, 12, 180, 1, 63, 42, 180, 0, 12, 180, 0, 74, 16, 6, 46, 50, 42]
abbrev dktX0_undo_1 : List UInt8 := dkwX0_undo_1 ++ dktX0_undo_2
def dkwX0_undo_0 : List UInt8 := [42, 180, 0, 12, 180, 0, 74, 16, 6, 46, 154, 0, 5, 2, 172, 42, 180, 0, 12, 180, 0, 74, 16, 6]
abbrev dktX0_undo_0 : List UInt8 := dkwX0_undo_0 ++ dktX0_undo_1
theorem dksX0_undo_0 : cX0_undo.data.toList.drop 0 = dktX0_undo_0 := by decide +kernel
theorem dksX0_undo_1 : cX0_undo.data.toList.drop 24 = dktX0_undo_1 := dk_seg dksX0_undo_0 24 rfl rfl
theorem dksX0_undo_2 : cX0_undo.data.toList.drop 48 = dktX0_undo_2 := dk_seg dksX0_undo_1 24 rfl rfl
theorem dX0_undo_0 : decode cX0_undo 0 = .ok (.aload_n 0, 1) := dk_42 (dk_at dksX0_undo_0 0 rfl rfl)
theorem dX0_undo_1 : decode cX0_undo 1 = .ok (.getfield 12, 3) := dk_180 0 12 (dk_at dksX0_undo_0 1 rfl rfl)
theorem dX0_undo_4 : decode cX0_undo 4 = .ok (.getfield 74, 3) := dk_180 0 74 (dk_at dksX0_undo_0 4 rfl rfl)
theorem dX0_undo_7 : decode cX0_undo 7 = .ok (.bipush 6, 2) := dk_16 6 (dk_at dksX0_undo_0 7 rfl rfl)
theorem dX0_undo_9 : decode cX0_undo 9 = .ok (.iaload, 1) := dk_46 (dk_at dksX0_undo_0 9 rfl rfl)
theorem dX0_undo_10 : decode cX0_undo 10 = .ok (.ifCond .ne 5, 3) := dk_154 0 5 (dk_at dksX0_undo_0 10 rfl rfl)
theorem dX0_undo_13 : decode cX0_undo 13 = .ok (.iconst (-1), 1) := dk_2 (dk_at dksX0_undo_0 13 rfl rfl)
theorem dX0_undo_14 : decode cX0_undo 14 = .ok (.ireturn, 1) := dk_172 (dk_at dksX0_undo_0 14 rfl rfl)
theorem dX0_undo_15 : decode cX0_undo 15 = .ok (.aload_n 0, 1) := dk_42 (dk_at dksX0_undo_0 15 rfl rfl)
theorem dX0_undo_16 : decode cX0_undo 16 = .ok (.getfield 12, 3) := dk_180 0 12 (dk_at dksX0_undo_0 16 rfl rfl)
theorem dX0_undo_19 : decode cX0_undo 19 = .ok (.getfield 74, 3) := dk_180 0 74 (dk_at dksX0_undo_0 19 rfl rfl)
theorem dX0_undo_22 : decode cX0_undo 22 = .ok (.bipush 6, 2) := dk_16 6 (dk_at dksX0_undo_0 22 rfl rfl)
theorem dX0_undo_24 : decode cX0_undo 24 = .ok (.dup2, 1) := dk_92 (dk_at dksX0_undo_1 0 rfl rfl)
theorem dX0_undo_25 : decode cX0_undo 25 = .ok (.iaload, 1) := dk_46 (dk_at dksX0_undo_1 1 rfl rfl)
theorem dX0_undo_26 : decode cX0_undo 26 = .ok (.iconst 1, 1) := dk_4 (dk_at dksX0_undo_1 2 rfl rfl)
theorem dX0_undo_27 : decode cX0_undo 27 = .ok (.isub, 1) := dk_100 (dk_at dksX0_undo_1 3 rfl rfl)
theorem dX0_undo_28 : decode cX0_undo 28 = .ok (.iastore, 1) := dk_79 (dk_at dksX0_undo_1 4 rfl rfl)
theorem dX0_undo_29 : decode cX0_undo 29 = .ok (.aload_n 0, 1) := dk_42 (dk_at dksX0_undo_1 5 rfl rfl)
theorem dX0_undo_30 : decode cX0_undo 30 = .ok (.getfield 12, 3) := dk_180 0 12 (dk_at dksX0_undo_1 6 rfl rfl)
theorem dX0_undo_33 : decode cX0_undo 33 = .ok (.getfield 319, 3) := dk_180 1 63 (dk_at dksX0_undo_1 9 rfl rfl)
theorem dX0_undo_36 : decode cX0_undo 36 = .ok (.aload_n 0, 1) := dk_42 (dk_at dksX0_undo_1 12 rfl rfl)
theorem dX0_undo_37 : decode cX0_undo 37 = .ok (.getfield 12, 3) := dk_180 0 12 (dk_at dksX0_undo_1 13 rfl rfl)
theorem dX0_undo_40 : decode cX0_undo 40 = .ok (.getfield 74, 3) := dk_180 0 74 (dk_at dksX0_undo_1 16 rfl rfl)
theorem dX0_undo_43 : decode cX0_undo 43 = .ok (.bipush 6, 2) := dk_16 6 (dk_at dksX0_undo_1 19 rfl rfl)
theorem dX0_undo_45 : decode cX0_undo 45 = .ok (.iaload, 1) := dk_46 (dk_at dksX0_undo_1 21 rfl rfl)
theorem dX0_undo_46 : decode cX0_undo 46 = .ok (.aaload, 1) := dk_50 (dk_at dksX0_undo_1 22 rfl rfl)
theorem dX0_undo_47 : decode cX0_undo 47 = .ok (.aload_n 0, 1) := dk_42 (dk_at dksX0_undo_1 23 rfl rfl)
theorem dX0_undo_48 : decode cX0_undo 48 = .ok (.getfield 12, 3) := dk_180 0 12 (dk_at dksX0_undo_2 0 rfl rfl)
theorem dX0_undo_51 : decode cX0_undo 51 = .ok (.getfield 203, 3) := dk_180 0 203 (dk_at dksX0_undo_2 3 rfl rfl)
theorem dX0_undo_54 : decode cX0_undo 54 = .ok (.invokestatic 91, 3) := dk_184 0 91 (dk_at dksX0_undo_2 6 rfl rfl)
theorem dX0_undo_57 : decode cX0_undo 57 = .ok (.aload_n 0, 1) := dk_42 (dk_at dksX0_undo_2 9 rfl rfl)
theorem dX0_undo_58 : decode cX0_undo 58 = .ok (.getfield 12, 3) := dk_180 0 12 (dk_at dksX0_undo_2 10 rfl rfl)
theorem dX0_undo_61 : decode cX0_undo 61 = .ok (.getfield 74, 3) := dk_180 0 74 (dk_at dksX0_undo_2 13 rfl rfl)
theorem dX0_undo_64 : decode cX0_undo 64 = .ok (.bipush 6, 2) := dk_16 6 (dk_at dksX0_undo_2 16 rfl rfl)
theorem dX0_undo_66 : decode cX0_undo 66 = .ok (.iaload, 1) := dk_46 (dk_at dksX0_undo_2 18 rfl rfl)
theorem dX0_undo_67 : decode cX0_undo 67 = .ok (.ireturn, 1) := dk_172 (dk_at dksX0_undo_2 19 rfl rfl)
abbrev cX0_scale : ByteArray := prog_1_method_48_code
def yX0_scale : MethodName := ⟨RX0, "scale", "(I)I"⟩
def dkwX0_scale_1 : List UInt8 := [46, 167, 0, 5, 18, 212, 172]
abbrev dktX0_scale_1 : List UInt8 := dkwX0_scale_1 ++ []
def dkwX0_scale_0 : List UInt8 := [42, 182, 0, 222, 153, 0, 24, 27, 3, 8, 184, 0, 77, 153, 0, 15, 42, 180, 0, 12, 180, 0, 203, 27]
abbrev dktX0_scale_0 : List UInt8 := dkwX0_scale_0 ++ dktX0_scale_1
theorem dksX0_scale_0 : cX0_scale.data.toList.drop 0 = dktX0_scale_0 := by decide +kernel
theorem dksX0_scale_1 : cX0_scale.data.toList.drop 24 = dktX0_scale_1 := dk_seg dksX0_scale_0 24 rfl rfl
theorem dX0_scale_0 : decode cX0_scale 0 = .ok (.aload_n 0, 1) := dk_42 (dk_at dksX0_scale_0 0 rfl rfl)
theorem dX0_scale_1 : decode cX0_scale 1 = .ok (.invokevirtual 222, 3) := dk_182 0 222 (dk_at dksX0_scale_0 1 rfl rfl)
theorem dX0_scale_4 : decode cX0_scale 4 = .ok (.ifCond .eq 24, 3) := dk_153 0 24 (dk_at dksX0_scale_0 4 rfl rfl)
theorem dX0_scale_7 : decode cX0_scale 7 = .ok (.iload_n 1, 1) := dk_27 (dk_at dksX0_scale_0 7 rfl rfl)
theorem dX0_scale_8 : decode cX0_scale 8 = .ok (.iconst 0, 1) := dk_3 (dk_at dksX0_scale_0 8 rfl rfl)
theorem dX0_scale_9 : decode cX0_scale 9 = .ok (.iconst 5, 1) := dk_8 (dk_at dksX0_scale_0 9 rfl rfl)
theorem dX0_scale_10 : decode cX0_scale 10 = .ok (.invokestatic 77, 3) := dk_184 0 77 (dk_at dksX0_scale_0 10 rfl rfl)
theorem dX0_scale_13 : decode cX0_scale 13 = .ok (.ifCond .eq 15, 3) := dk_153 0 15 (dk_at dksX0_scale_0 13 rfl rfl)
theorem dX0_scale_16 : decode cX0_scale 16 = .ok (.aload_n 0, 1) := dk_42 (dk_at dksX0_scale_0 16 rfl rfl)
theorem dX0_scale_17 : decode cX0_scale 17 = .ok (.getfield 12, 3) := dk_180 0 12 (dk_at dksX0_scale_0 17 rfl rfl)
theorem dX0_scale_20 : decode cX0_scale 20 = .ok (.getfield 203, 3) := dk_180 0 203 (dk_at dksX0_scale_0 20 rfl rfl)
theorem dX0_scale_23 : decode cX0_scale 23 = .ok (.iload_n 1, 1) := dk_27 (dk_at dksX0_scale_0 23 rfl rfl)
theorem dX0_scale_24 : decode cX0_scale 24 = .ok (.iaload, 1) := dk_46 (dk_at dksX0_scale_1 0 rfl rfl)
theorem dX0_scale_25 : decode cX0_scale 25 = .ok (.goto 5, 3) := dk_167 0 5 (dk_at dksX0_scale_1 1 rfl rfl)
theorem dX0_scale_28 : decode cX0_scale 28 = .ok (.ldc 212, 2) := dk_18 212 (dk_at dksX0_scale_1 4 rfl rfl)
theorem dX0_scale_30 : decode cX0_scale 30 = .ok (.ireturn, 1) := dk_172 (dk_at dksX0_scale_1 6 rfl rfl)
abbrev cX0_ofHeart : ByteArray := prog_1_method_51_code
def yX0_ofHeart : MethodName := ⟨RX0, "ofHeart", "(II)I"⟩
def dkwX0_ofHeart_4 : List UInt8 := [153, 0, 18, 42, 180, 0, 12, 27, 28, 16, 10, 100, 182, 0, 196, 167, 0, 5, 18, 212, 172]
abbrev dktX0_ofHeart_4 : List UInt8 := dkwX0_ofHeart_4 ++ []
def dkwX0_ofHeart_3 : List UInt8 := [172, 42, 27, 182, 1, 69, 172, 42, 180, 0, 12, 27, 182, 1, 72, 172, 42, 28, 16, 10, 100, 182, 0, 84]
abbrev dktX0_ofHeart_3 : List UInt8 := dkwX0_ofHeart_3 ++ dktX0_ofHeart_4
def dkwX0_ofHeart_2 : List UInt8 := [42, 180, 0, 12, 180, 0, 81, 27, 46, 172, 42, 180, 0, 12, 27, 182, 0, 190, 172, 42, 27, 182, 1, 66]
abbrev dktX0_ofHeart_2 : List UInt8 := dkwX0_ofHeart_2 ++ dktX0_ofHeart_3
def dkwX0_ofHeart_1 : List UInt8 := [170, 0, 0, 0, 0, 0, 0, 76, 0, 0, 0, 0, 0, 0, 0, 4, 0, 0, 0, 36, 0, 0, 0, 46, 0, 0, 0, 55, 0, 0, 0, 61, 0, 0, 0, 67]
abbrev dktX0_ofHeart_1 : List UInt8 := dkwX0_ofHeart_1 ++ dktX0_ofHeart_2
def dkwX0_ofHeart_0 : List UInt8 := [42, 27, 182, 0, 84, 154, 0, 6, 18, 212, 172, 28]
abbrev dktX0_ofHeart_0 : List UInt8 := dkwX0_ofHeart_0 ++ dktX0_ofHeart_1
theorem dksX0_ofHeart_0 : cX0_ofHeart.data.toList.drop 0 = dktX0_ofHeart_0 := by decide +kernel
theorem dksX0_ofHeart_1 : cX0_ofHeart.data.toList.drop 12 = dktX0_ofHeart_1 := dk_seg dksX0_ofHeart_0 12 rfl rfl
theorem dksX0_ofHeart_2 : cX0_ofHeart.data.toList.drop 48 = dktX0_ofHeart_2 := dk_seg dksX0_ofHeart_1 36 rfl rfl
theorem dksX0_ofHeart_3 : cX0_ofHeart.data.toList.drop 72 = dktX0_ofHeart_3 := dk_seg dksX0_ofHeart_2 24 rfl rfl
theorem dksX0_ofHeart_4 : cX0_ofHeart.data.toList.drop 96 = dktX0_ofHeart_4 := dk_seg dksX0_ofHeart_3 24 rfl rfl
theorem dX0_ofHeart_0 : decode cX0_ofHeart 0 = .ok (.aload_n 0, 1) := dk_42 (dk_at dksX0_ofHeart_0 0 rfl rfl)
theorem dX0_ofHeart_1 : decode cX0_ofHeart 1 = .ok (.iload_n 1, 1) := dk_27 (dk_at dksX0_ofHeart_0 1 rfl rfl)
theorem dX0_ofHeart_2 : decode cX0_ofHeart 2 = .ok (.invokevirtual 84, 3) := dk_182 0 84 (dk_at dksX0_ofHeart_0 2 rfl rfl)
theorem dX0_ofHeart_5 : decode cX0_ofHeart 5 = .ok (.ifCond .ne 6, 3) := dk_154 0 6 (dk_at dksX0_ofHeart_0 5 rfl rfl)
theorem dX0_ofHeart_8 : decode cX0_ofHeart 8 = .ok (.ldc 212, 2) := dk_18 212 (dk_at dksX0_ofHeart_0 8 rfl rfl)
theorem dX0_ofHeart_10 : decode cX0_ofHeart 10 = .ok (.ireturn, 1) := dk_172 (dk_at dksX0_ofHeart_0 10 rfl rfl)
theorem dX0_ofHeart_11 : decode cX0_ofHeart 11 = .ok (.iload_n 2, 1) := dk_28 (dk_at dksX0_ofHeart_0 11 rfl rfl)
theorem dX0_ofHeart_12 : decode cX0_ofHeart 12 = .ok (.tableswitch 76 0 4 #[36, 46, 55, 61, 67], 36) := by decide +kernel
theorem dX0_ofHeart_48 : decode cX0_ofHeart 48 = .ok (.aload_n 0, 1) := dk_42 (dk_at dksX0_ofHeart_2 0 rfl rfl)
theorem dX0_ofHeart_49 : decode cX0_ofHeart 49 = .ok (.getfield 12, 3) := dk_180 0 12 (dk_at dksX0_ofHeart_2 1 rfl rfl)
theorem dX0_ofHeart_52 : decode cX0_ofHeart 52 = .ok (.getfield 81, 3) := dk_180 0 81 (dk_at dksX0_ofHeart_2 4 rfl rfl)
theorem dX0_ofHeart_55 : decode cX0_ofHeart 55 = .ok (.iload_n 1, 1) := dk_27 (dk_at dksX0_ofHeart_2 7 rfl rfl)
theorem dX0_ofHeart_56 : decode cX0_ofHeart 56 = .ok (.iaload, 1) := dk_46 (dk_at dksX0_ofHeart_2 8 rfl rfl)
theorem dX0_ofHeart_57 : decode cX0_ofHeart 57 = .ok (.ireturn, 1) := dk_172 (dk_at dksX0_ofHeart_2 9 rfl rfl)
theorem dX0_ofHeart_58 : decode cX0_ofHeart 58 = .ok (.aload_n 0, 1) := dk_42 (dk_at dksX0_ofHeart_2 10 rfl rfl)
theorem dX0_ofHeart_59 : decode cX0_ofHeart 59 = .ok (.getfield 12, 3) := dk_180 0 12 (dk_at dksX0_ofHeart_2 11 rfl rfl)
theorem dX0_ofHeart_62 : decode cX0_ofHeart 62 = .ok (.iload_n 1, 1) := dk_27 (dk_at dksX0_ofHeart_2 14 rfl rfl)
theorem dX0_ofHeart_63 : decode cX0_ofHeart 63 = .ok (.invokevirtual 190, 3) := dk_182 0 190 (dk_at dksX0_ofHeart_2 15 rfl rfl)
theorem dX0_ofHeart_66 : decode cX0_ofHeart 66 = .ok (.ireturn, 1) := dk_172 (dk_at dksX0_ofHeart_2 18 rfl rfl)
theorem dX0_ofHeart_67 : decode cX0_ofHeart 67 = .ok (.aload_n 0, 1) := dk_42 (dk_at dksX0_ofHeart_2 19 rfl rfl)
theorem dX0_ofHeart_68 : decode cX0_ofHeart 68 = .ok (.iload_n 1, 1) := dk_27 (dk_at dksX0_ofHeart_2 20 rfl rfl)
theorem dX0_ofHeart_69 : decode cX0_ofHeart 69 = .ok (.invokevirtual 322, 3) := dk_182 1 66 (dk_at dksX0_ofHeart_2 21 rfl rfl)
theorem dX0_ofHeart_72 : decode cX0_ofHeart 72 = .ok (.ireturn, 1) := dk_172 (dk_at dksX0_ofHeart_3 0 rfl rfl)
theorem dX0_ofHeart_73 : decode cX0_ofHeart 73 = .ok (.aload_n 0, 1) := dk_42 (dk_at dksX0_ofHeart_3 1 rfl rfl)
theorem dX0_ofHeart_74 : decode cX0_ofHeart 74 = .ok (.iload_n 1, 1) := dk_27 (dk_at dksX0_ofHeart_3 2 rfl rfl)
theorem dX0_ofHeart_75 : decode cX0_ofHeart 75 = .ok (.invokevirtual 325, 3) := dk_182 1 69 (dk_at dksX0_ofHeart_3 3 rfl rfl)
theorem dX0_ofHeart_78 : decode cX0_ofHeart 78 = .ok (.ireturn, 1) := dk_172 (dk_at dksX0_ofHeart_3 6 rfl rfl)
theorem dX0_ofHeart_79 : decode cX0_ofHeart 79 = .ok (.aload_n 0, 1) := dk_42 (dk_at dksX0_ofHeart_3 7 rfl rfl)
theorem dX0_ofHeart_80 : decode cX0_ofHeart 80 = .ok (.getfield 12, 3) := dk_180 0 12 (dk_at dksX0_ofHeart_3 8 rfl rfl)
theorem dX0_ofHeart_83 : decode cX0_ofHeart 83 = .ok (.iload_n 1, 1) := dk_27 (dk_at dksX0_ofHeart_3 11 rfl rfl)
theorem dX0_ofHeart_84 : decode cX0_ofHeart 84 = .ok (.invokevirtual 328, 3) := dk_182 1 72 (dk_at dksX0_ofHeart_3 12 rfl rfl)
theorem dX0_ofHeart_87 : decode cX0_ofHeart 87 = .ok (.ireturn, 1) := dk_172 (dk_at dksX0_ofHeart_3 15 rfl rfl)
theorem dX0_ofHeart_88 : decode cX0_ofHeart 88 = .ok (.aload_n 0, 1) := dk_42 (dk_at dksX0_ofHeart_3 16 rfl rfl)
theorem dX0_ofHeart_89 : decode cX0_ofHeart 89 = .ok (.iload_n 2, 1) := dk_28 (dk_at dksX0_ofHeart_3 17 rfl rfl)
theorem dX0_ofHeart_90 : decode cX0_ofHeart 90 = .ok (.bipush 10, 2) := dk_16 10 (dk_at dksX0_ofHeart_3 18 rfl rfl)
theorem dX0_ofHeart_92 : decode cX0_ofHeart 92 = .ok (.isub, 1) := dk_100 (dk_at dksX0_ofHeart_3 20 rfl rfl)
theorem dX0_ofHeart_93 : decode cX0_ofHeart 93 = .ok (.invokevirtual 84, 3) := dk_182 0 84 (dk_at dksX0_ofHeart_3 21 rfl rfl)
theorem dX0_ofHeart_96 : decode cX0_ofHeart 96 = .ok (.ifCond .eq 18, 3) := dk_153 0 18 (dk_at dksX0_ofHeart_4 0 rfl rfl)
theorem dX0_ofHeart_99 : decode cX0_ofHeart 99 = .ok (.aload_n 0, 1) := dk_42 (dk_at dksX0_ofHeart_4 3 rfl rfl)
theorem dX0_ofHeart_100 : decode cX0_ofHeart 100 = .ok (.getfield 12, 3) := dk_180 0 12 (dk_at dksX0_ofHeart_4 4 rfl rfl)
theorem dX0_ofHeart_103 : decode cX0_ofHeart 103 = .ok (.iload_n 1, 1) := dk_27 (dk_at dksX0_ofHeart_4 7 rfl rfl)
theorem dX0_ofHeart_104 : decode cX0_ofHeart 104 = .ok (.iload_n 2, 1) := dk_28 (dk_at dksX0_ofHeart_4 8 rfl rfl)
theorem dX0_ofHeart_105 : decode cX0_ofHeart 105 = .ok (.bipush 10, 2) := dk_16 10 (dk_at dksX0_ofHeart_4 9 rfl rfl)
theorem dX0_ofHeart_107 : decode cX0_ofHeart 107 = .ok (.isub, 1) := dk_100 (dk_at dksX0_ofHeart_4 11 rfl rfl)
theorem dX0_ofHeart_108 : decode cX0_ofHeart 108 = .ok (.invokevirtual 196, 3) := dk_182 0 196 (dk_at dksX0_ofHeart_4 12 rfl rfl)
theorem dX0_ofHeart_111 : decode cX0_ofHeart 111 = .ok (.goto 5, 3) := dk_167 0 5 (dk_at dksX0_ofHeart_4 15 rfl rfl)
theorem dX0_ofHeart_114 : decode cX0_ofHeart 114 = .ok (.ldc 212, 2) := dk_18 212 (dk_at dksX0_ofHeart_4 18 rfl rfl)
theorem dX0_ofHeart_116 : decode cX0_ofHeart 116 = .ok (.ireturn, 1) := dk_172 (dk_at dksX0_ofHeart_4 20 rfl rfl)
abbrev cX0_burdenOf : ByteArray := prog_1_method_49_code
def yX0_burdenOf : MethodName := ⟨RX0, "burdenOf", "(I)I"⟩
def dkwX0_burdenOf_2 : List UInt8 := [132, 3, 1, 167, 255, 213, 28, 172]
abbrev dktX0_burdenOf_2 : List UInt8 := dkwX0_burdenOf_2 ++ []
def dkwX0_burdenOf_1 : List UInt8 := [180, 0, 88, 29, 50, 3, 46, 27, 160, 0, 11, 42, 29, 182, 0, 181, 167, 0, 4, 3, 96, 61]
abbrev dktX0_burdenOf_1 : List UInt8 := dkwX0_burdenOf_1 ++ dktX0_burdenOf_2
def dkwX0_burdenOf_0 : List UInt8 := [3, 61, 3, 62, 29, 42, 180, 0, 12, 180, 0, 74, 4, 46, 162, 0, 36, 28, 42, 180, 0, 12]
abbrev dktX0_burdenOf_0 : List UInt8 := dkwX0_burdenOf_0 ++ dktX0_burdenOf_1
theorem dksX0_burdenOf_0 : cX0_burdenOf.data.toList.drop 0 = dktX0_burdenOf_0 := by decide +kernel
theorem dksX0_burdenOf_1 : cX0_burdenOf.data.toList.drop 22 = dktX0_burdenOf_1 := dk_seg dksX0_burdenOf_0 22 rfl rfl
theorem dksX0_burdenOf_2 : cX0_burdenOf.data.toList.drop 44 = dktX0_burdenOf_2 := dk_seg dksX0_burdenOf_1 22 rfl rfl
theorem dX0_burdenOf_0 : decode cX0_burdenOf 0 = .ok (.iconst 0, 1) := dk_3 (dk_at dksX0_burdenOf_0 0 rfl rfl)
theorem dX0_burdenOf_1 : decode cX0_burdenOf 1 = .ok (.istore_n 2, 1) := dk_61 (dk_at dksX0_burdenOf_0 1 rfl rfl)
theorem dX0_burdenOf_2 : decode cX0_burdenOf 2 = .ok (.iconst 0, 1) := dk_3 (dk_at dksX0_burdenOf_0 2 rfl rfl)
theorem dX0_burdenOf_3 : decode cX0_burdenOf 3 = .ok (.istore_n 3, 1) := dk_62 (dk_at dksX0_burdenOf_0 3 rfl rfl)
theorem dX0_burdenOf_4 : decode cX0_burdenOf 4 = .ok (.iload_n 3, 1) := dk_29 (dk_at dksX0_burdenOf_0 4 rfl rfl)
theorem dX0_burdenOf_5 : decode cX0_burdenOf 5 = .ok (.aload_n 0, 1) := dk_42 (dk_at dksX0_burdenOf_0 5 rfl rfl)
theorem dX0_burdenOf_6 : decode cX0_burdenOf 6 = .ok (.getfield 12, 3) := dk_180 0 12 (dk_at dksX0_burdenOf_0 6 rfl rfl)
theorem dX0_burdenOf_9 : decode cX0_burdenOf 9 = .ok (.getfield 74, 3) := dk_180 0 74 (dk_at dksX0_burdenOf_0 9 rfl rfl)
theorem dX0_burdenOf_12 : decode cX0_burdenOf 12 = .ok (.iconst 1, 1) := dk_4 (dk_at dksX0_burdenOf_0 12 rfl rfl)
theorem dX0_burdenOf_13 : decode cX0_burdenOf 13 = .ok (.iaload, 1) := dk_46 (dk_at dksX0_burdenOf_0 13 rfl rfl)
theorem dX0_burdenOf_14 : decode cX0_burdenOf 14 = .ok (.if_icmp .ge 36, 3) := dk_162 0 36 (dk_at dksX0_burdenOf_0 14 rfl rfl)
theorem dX0_burdenOf_17 : decode cX0_burdenOf 17 = .ok (.iload_n 2, 1) := dk_28 (dk_at dksX0_burdenOf_0 17 rfl rfl)
theorem dX0_burdenOf_18 : decode cX0_burdenOf 18 = .ok (.aload_n 0, 1) := dk_42 (dk_at dksX0_burdenOf_0 18 rfl rfl)
theorem dX0_burdenOf_19 : decode cX0_burdenOf 19 = .ok (.getfield 12, 3) := dk_180 0 12 (dk_at dksX0_burdenOf_0 19 rfl rfl)
theorem dX0_burdenOf_22 : decode cX0_burdenOf 22 = .ok (.getfield 88, 3) := dk_180 0 88 (dk_at dksX0_burdenOf_1 0 rfl rfl)
theorem dX0_burdenOf_25 : decode cX0_burdenOf 25 = .ok (.iload_n 3, 1) := dk_29 (dk_at dksX0_burdenOf_1 3 rfl rfl)
theorem dX0_burdenOf_26 : decode cX0_burdenOf 26 = .ok (.aaload, 1) := dk_50 (dk_at dksX0_burdenOf_1 4 rfl rfl)
theorem dX0_burdenOf_27 : decode cX0_burdenOf 27 = .ok (.iconst 0, 1) := dk_3 (dk_at dksX0_burdenOf_1 5 rfl rfl)
theorem dX0_burdenOf_28 : decode cX0_burdenOf 28 = .ok (.iaload, 1) := dk_46 (dk_at dksX0_burdenOf_1 6 rfl rfl)
theorem dX0_burdenOf_29 : decode cX0_burdenOf 29 = .ok (.iload_n 1, 1) := dk_27 (dk_at dksX0_burdenOf_1 7 rfl rfl)
theorem dX0_burdenOf_30 : decode cX0_burdenOf 30 = .ok (.if_icmp .ne 11, 3) := dk_160 0 11 (dk_at dksX0_burdenOf_1 8 rfl rfl)
theorem dX0_burdenOf_33 : decode cX0_burdenOf 33 = .ok (.aload_n 0, 1) := dk_42 (dk_at dksX0_burdenOf_1 11 rfl rfl)
theorem dX0_burdenOf_34 : decode cX0_burdenOf 34 = .ok (.iload_n 3, 1) := dk_29 (dk_at dksX0_burdenOf_1 12 rfl rfl)
theorem dX0_burdenOf_35 : decode cX0_burdenOf 35 = .ok (.invokevirtual 181, 3) := dk_182 0 181 (dk_at dksX0_burdenOf_1 13 rfl rfl)
theorem dX0_burdenOf_38 : decode cX0_burdenOf 38 = .ok (.goto 4, 3) := dk_167 0 4 (dk_at dksX0_burdenOf_1 16 rfl rfl)
theorem dX0_burdenOf_41 : decode cX0_burdenOf 41 = .ok (.iconst 0, 1) := dk_3 (dk_at dksX0_burdenOf_1 19 rfl rfl)
theorem dX0_burdenOf_42 : decode cX0_burdenOf 42 = .ok (.iadd, 1) := dk_96 (dk_at dksX0_burdenOf_1 20 rfl rfl)
theorem dX0_burdenOf_43 : decode cX0_burdenOf 43 = .ok (.istore_n 2, 1) := dk_61 (dk_at dksX0_burdenOf_1 21 rfl rfl)
theorem dX0_burdenOf_44 : decode cX0_burdenOf 44 = .ok (.iinc 3 1, 3) := dk_132 3 1 (dk_at dksX0_burdenOf_2 0 rfl rfl)
theorem dX0_burdenOf_47 : decode cX0_burdenOf 47 = .ok (.goto (-43), 3) := dk_167 255 213 (dk_at dksX0_burdenOf_2 3 rfl rfl)
theorem dX0_burdenOf_50 : decode cX0_burdenOf 50 = .ok (.iload_n 2, 1) := dk_28 (dk_at dksX0_burdenOf_2 6 rfl rfl)
theorem dX0_burdenOf_51 : decode cX0_burdenOf 51 = .ok (.ireturn, 1) := dk_172 (dk_at dksX0_burdenOf_2 7 rfl rfl)
abbrev cX0_balanceOf : ByteArray := prog_1_method_50_code
def yX0_balanceOf : MethodName := ⟨RX0, "balanceOf", "(I)I"⟩
def dkwX0_balanceOf_0 : List UInt8 := [42, 180, 0, 12, 180, 0, 81, 27, 46, 42, 27, 182, 1, 66, 100, 172]
abbrev dktX0_balanceOf_0 : List UInt8 := dkwX0_balanceOf_0 ++ []
theorem dksX0_balanceOf_0 : cX0_balanceOf.data.toList.drop 0 = dktX0_balanceOf_0 := by decide +kernel
theorem dX0_balanceOf_0 : decode cX0_balanceOf 0 = .ok (.aload_n 0, 1) := dk_42 (dk_at dksX0_balanceOf_0 0 rfl rfl)
theorem dX0_balanceOf_1 : decode cX0_balanceOf 1 = .ok (.getfield 12, 3) := dk_180 0 12 (dk_at dksX0_balanceOf_0 1 rfl rfl)
theorem dX0_balanceOf_4 : decode cX0_balanceOf 4 = .ok (.getfield 81, 3) := dk_180 0 81 (dk_at dksX0_balanceOf_0 4 rfl rfl)
theorem dX0_balanceOf_7 : decode cX0_balanceOf 7 = .ok (.iload_n 1, 1) := dk_27 (dk_at dksX0_balanceOf_0 7 rfl rfl)
theorem dX0_balanceOf_8 : decode cX0_balanceOf 8 = .ok (.iaload, 1) := dk_46 (dk_at dksX0_balanceOf_0 8 rfl rfl)
theorem dX0_balanceOf_9 : decode cX0_balanceOf 9 = .ok (.aload_n 0, 1) := dk_42 (dk_at dksX0_balanceOf_0 9 rfl rfl)
theorem dX0_balanceOf_10 : decode cX0_balanceOf 10 = .ok (.iload_n 1, 1) := dk_27 (dk_at dksX0_balanceOf_0 10 rfl rfl)
theorem dX0_balanceOf_11 : decode cX0_balanceOf 11 = .ok (.invokevirtual 322, 3) := dk_182 1 66 (dk_at dksX0_balanceOf_0 11 rfl rfl)
theorem dX0_balanceOf_14 : decode cX0_balanceOf 14 = .ok (.isub, 1) := dk_100 (dk_at dksX0_balanceOf_0 14 rfl rfl)
theorem dX0_balanceOf_15 : decode cX0_balanceOf 15 = .ok (.ireturn, 1) := dk_172 (dk_at dksX0_balanceOf_0 15 rfl rfl)
abbrev cX0_ofDeed : ByteArray := prog_1_method_52_code
def yX0_ofDeed : MethodName := ⟨RX0, "ofDeed", "(II)I"⟩
def dkwX0_ofDeed_2 : List UInt8 := [172]
abbrev dktX0_ofDeed_2 : List UInt8 := dkwX0_ofDeed_2 ++ []
def dkwX0_ofDeed_1 : List UInt8 := [16, 6, 160, 0, 11, 42, 27, 182, 0, 181, 167, 0, 14, 42, 180, 0, 12, 180, 0, 88, 27, 50, 28, 46]
abbrev dktX0_ofDeed_1 : List UInt8 := dkwX0_ofDeed_1 ++ dktX0_ofDeed_2
def dkwX0_ofDeed_0 : List UInt8 := [42, 27, 182, 0, 95, 153, 0, 13, 28, 3, 16, 6, 184, 0, 77, 154, 0, 8, 18, 212, 167, 0, 28, 28]
abbrev dktX0_ofDeed_0 : List UInt8 := dkwX0_ofDeed_0 ++ dktX0_ofDeed_1
theorem dksX0_ofDeed_0 : cX0_ofDeed.data.toList.drop 0 = dktX0_ofDeed_0 := by decide +kernel
theorem dksX0_ofDeed_1 : cX0_ofDeed.data.toList.drop 24 = dktX0_ofDeed_1 := dk_seg dksX0_ofDeed_0 24 rfl rfl
theorem dksX0_ofDeed_2 : cX0_ofDeed.data.toList.drop 48 = dktX0_ofDeed_2 := dk_seg dksX0_ofDeed_1 24 rfl rfl
theorem dX0_ofDeed_0 : decode cX0_ofDeed 0 = .ok (.aload_n 0, 1) := dk_42 (dk_at dksX0_ofDeed_0 0 rfl rfl)
theorem dX0_ofDeed_1 : decode cX0_ofDeed 1 = .ok (.iload_n 1, 1) := dk_27 (dk_at dksX0_ofDeed_0 1 rfl rfl)
theorem dX0_ofDeed_2 : decode cX0_ofDeed 2 = .ok (.invokevirtual 95, 3) := dk_182 0 95 (dk_at dksX0_ofDeed_0 2 rfl rfl)
theorem dX0_ofDeed_5 : decode cX0_ofDeed 5 = .ok (.ifCond .eq 13, 3) := dk_153 0 13 (dk_at dksX0_ofDeed_0 5 rfl rfl)
theorem dX0_ofDeed_8 : decode cX0_ofDeed 8 = .ok (.iload_n 2, 1) := dk_28 (dk_at dksX0_ofDeed_0 8 rfl rfl)
theorem dX0_ofDeed_9 : decode cX0_ofDeed 9 = .ok (.iconst 0, 1) := dk_3 (dk_at dksX0_ofDeed_0 9 rfl rfl)
theorem dX0_ofDeed_10 : decode cX0_ofDeed 10 = .ok (.bipush 6, 2) := dk_16 6 (dk_at dksX0_ofDeed_0 10 rfl rfl)
theorem dX0_ofDeed_12 : decode cX0_ofDeed 12 = .ok (.invokestatic 77, 3) := dk_184 0 77 (dk_at dksX0_ofDeed_0 12 rfl rfl)
theorem dX0_ofDeed_15 : decode cX0_ofDeed 15 = .ok (.ifCond .ne 8, 3) := dk_154 0 8 (dk_at dksX0_ofDeed_0 15 rfl rfl)
theorem dX0_ofDeed_18 : decode cX0_ofDeed 18 = .ok (.ldc 212, 2) := dk_18 212 (dk_at dksX0_ofDeed_0 18 rfl rfl)
theorem dX0_ofDeed_20 : decode cX0_ofDeed 20 = .ok (.goto 28, 3) := dk_167 0 28 (dk_at dksX0_ofDeed_0 20 rfl rfl)
theorem dX0_ofDeed_23 : decode cX0_ofDeed 23 = .ok (.iload_n 2, 1) := dk_28 (dk_at dksX0_ofDeed_0 23 rfl rfl)
theorem dX0_ofDeed_24 : decode cX0_ofDeed 24 = .ok (.bipush 6, 2) := dk_16 6 (dk_at dksX0_ofDeed_1 0 rfl rfl)
theorem dX0_ofDeed_26 : decode cX0_ofDeed 26 = .ok (.if_icmp .ne 11, 3) := dk_160 0 11 (dk_at dksX0_ofDeed_1 2 rfl rfl)
theorem dX0_ofDeed_29 : decode cX0_ofDeed 29 = .ok (.aload_n 0, 1) := dk_42 (dk_at dksX0_ofDeed_1 5 rfl rfl)
theorem dX0_ofDeed_30 : decode cX0_ofDeed 30 = .ok (.iload_n 1, 1) := dk_27 (dk_at dksX0_ofDeed_1 6 rfl rfl)
theorem dX0_ofDeed_31 : decode cX0_ofDeed 31 = .ok (.invokevirtual 181, 3) := dk_182 0 181 (dk_at dksX0_ofDeed_1 7 rfl rfl)
theorem dX0_ofDeed_34 : decode cX0_ofDeed 34 = .ok (.goto 14, 3) := dk_167 0 14 (dk_at dksX0_ofDeed_1 10 rfl rfl)
theorem dX0_ofDeed_37 : decode cX0_ofDeed 37 = .ok (.aload_n 0, 1) := dk_42 (dk_at dksX0_ofDeed_1 13 rfl rfl)
theorem dX0_ofDeed_38 : decode cX0_ofDeed 38 = .ok (.getfield 12, 3) := dk_180 0 12 (dk_at dksX0_ofDeed_1 14 rfl rfl)
theorem dX0_ofDeed_41 : decode cX0_ofDeed 41 = .ok (.getfield 88, 3) := dk_180 0 88 (dk_at dksX0_ofDeed_1 17 rfl rfl)
theorem dX0_ofDeed_44 : decode cX0_ofDeed 44 = .ok (.iload_n 1, 1) := dk_27 (dk_at dksX0_ofDeed_1 20 rfl rfl)
theorem dX0_ofDeed_45 : decode cX0_ofDeed 45 = .ok (.aaload, 1) := dk_50 (dk_at dksX0_ofDeed_1 21 rfl rfl)
theorem dX0_ofDeed_46 : decode cX0_ofDeed 46 = .ok (.iload_n 2, 1) := dk_28 (dk_at dksX0_ofDeed_1 22 rfl rfl)
theorem dX0_ofDeed_47 : decode cX0_ofDeed 47 = .ok (.iaload, 1) := dk_46 (dk_at dksX0_ofDeed_1 23 rfl rfl)
theorem dX0_ofDeed_48 : decode cX0_ofDeed 48 = .ok (.ireturn, 1) := dk_172 (dk_at dksX0_ofDeed_2 0 rfl rfl)
abbrev cX0_isSo : ByteArray := prog_1_method_53_code
def yX0_isSo : MethodName := ⟨RX0, "isSo", "(II)I"⟩
def dkwX0_isSo_1 : List UInt8 := [182, 1, 60, 153, 0, 7, 4, 167, 0, 4, 3, 172]
abbrev dktX0_isSo_1 : List UInt8 := dkwX0_isSo_1 ++ []
def dkwX0_isSo_0 : List UInt8 := [42, 27, 182, 0, 231, 153, 0, 11, 42, 28, 182, 0, 84, 154, 0, 7, 2, 167, 0, 17, 42, 27, 28]
abbrev dktX0_isSo_0 : List UInt8 := dkwX0_isSo_0 ++ dktX0_isSo_1
theorem dksX0_isSo_0 : cX0_isSo.data.toList.drop 0 = dktX0_isSo_0 := by decide +kernel
theorem dksX0_isSo_1 : cX0_isSo.data.toList.drop 23 = dktX0_isSo_1 := dk_seg dksX0_isSo_0 23 rfl rfl
theorem dX0_isSo_0 : decode cX0_isSo 0 = .ok (.aload_n 0, 1) := dk_42 (dk_at dksX0_isSo_0 0 rfl rfl)
theorem dX0_isSo_1 : decode cX0_isSo 1 = .ok (.iload_n 1, 1) := dk_27 (dk_at dksX0_isSo_0 1 rfl rfl)
theorem dX0_isSo_2 : decode cX0_isSo 2 = .ok (.invokevirtual 231, 3) := dk_182 0 231 (dk_at dksX0_isSo_0 2 rfl rfl)
theorem dX0_isSo_5 : decode cX0_isSo 5 = .ok (.ifCond .eq 11, 3) := dk_153 0 11 (dk_at dksX0_isSo_0 5 rfl rfl)
theorem dX0_isSo_8 : decode cX0_isSo 8 = .ok (.aload_n 0, 1) := dk_42 (dk_at dksX0_isSo_0 8 rfl rfl)
theorem dX0_isSo_9 : decode cX0_isSo 9 = .ok (.iload_n 2, 1) := dk_28 (dk_at dksX0_isSo_0 9 rfl rfl)
theorem dX0_isSo_10 : decode cX0_isSo 10 = .ok (.invokevirtual 84, 3) := dk_182 0 84 (dk_at dksX0_isSo_0 10 rfl rfl)
theorem dX0_isSo_13 : decode cX0_isSo 13 = .ok (.ifCond .ne 7, 3) := dk_154 0 7 (dk_at dksX0_isSo_0 13 rfl rfl)
theorem dX0_isSo_16 : decode cX0_isSo 16 = .ok (.iconst (-1), 1) := dk_2 (dk_at dksX0_isSo_0 16 rfl rfl)
theorem dX0_isSo_17 : decode cX0_isSo 17 = .ok (.goto 17, 3) := dk_167 0 17 (dk_at dksX0_isSo_0 17 rfl rfl)
theorem dX0_isSo_20 : decode cX0_isSo 20 = .ok (.aload_n 0, 1) := dk_42 (dk_at dksX0_isSo_0 20 rfl rfl)
theorem dX0_isSo_21 : decode cX0_isSo 21 = .ok (.iload_n 1, 1) := dk_27 (dk_at dksX0_isSo_0 21 rfl rfl)
theorem dX0_isSo_22 : decode cX0_isSo 22 = .ok (.iload_n 2, 1) := dk_28 (dk_at dksX0_isSo_0 22 rfl rfl)
theorem dX0_isSo_23 : decode cX0_isSo 23 = .ok (.invokevirtual 316, 3) := dk_182 1 60 (dk_at dksX0_isSo_1 0 rfl rfl)
theorem dX0_isSo_26 : decode cX0_isSo 26 = .ok (.ifCond .eq 7, 3) := dk_153 0 7 (dk_at dksX0_isSo_1 3 rfl rfl)
theorem dX0_isSo_29 : decode cX0_isSo 29 = .ok (.iconst 1, 1) := dk_4 (dk_at dksX0_isSo_1 6 rfl rfl)
theorem dX0_isSo_30 : decode cX0_isSo 30 = .ok (.goto 4, 3) := dk_167 0 4 (dk_at dksX0_isSo_1 7 rfl rfl)
theorem dX0_isSo_33 : decode cX0_isSo 33 = .ok (.iconst 0, 1) := dk_3 (dk_at dksX0_isSo_1 10 rfl rfl)
theorem dX0_isSo_34 : decode cX0_isSo 34 = .ok (.ireturn, 1) := dk_172 (dk_at dksX0_isSo_1 11 rfl rfl)
abbrev cX0_book : ByteArray := prog_1_method_54_code
def yX0_book : MethodName := ⟨RX0, "book", "(II)I"⟩
def dkwX0_book_2 : List UInt8 := [180, 0, 12, 180, 0, 203, 16, 45, 8, 27, 104, 96, 28, 96, 46, 167, 0, 5, 18, 212, 172]
abbrev dktX0_book_2 : List UInt8 := dkwX0_book_2 ++ []
def dkwX0_book_1 : List UInt8 := [180, 0, 203, 16, 44, 46, 4, 100, 184, 0, 77, 153, 0, 31, 28, 3, 7, 184, 0, 77, 153, 0, 22, 42]
abbrev dktX0_book_1 : List UInt8 := dkwX0_book_1 ++ dktX0_book_2
def dkwX0_book_0 : List UInt8 := [27, 2, 160, 0, 14, 42, 180, 0, 12, 180, 0, 203, 16, 44, 46, 172, 27, 3, 42, 180, 0, 12]
abbrev dktX0_book_0 : List UInt8 := dkwX0_book_0 ++ dktX0_book_1
theorem dksX0_book_0 : cX0_book.data.toList.drop 0 = dktX0_book_0 := by decide +kernel
theorem dksX0_book_1 : cX0_book.data.toList.drop 22 = dktX0_book_1 := dk_seg dksX0_book_0 22 rfl rfl
theorem dksX0_book_2 : cX0_book.data.toList.drop 46 = dktX0_book_2 := dk_seg dksX0_book_1 24 rfl rfl
theorem dX0_book_0 : decode cX0_book 0 = .ok (.iload_n 1, 1) := dk_27 (dk_at dksX0_book_0 0 rfl rfl)
theorem dX0_book_1 : decode cX0_book 1 = .ok (.iconst (-1), 1) := dk_2 (dk_at dksX0_book_0 1 rfl rfl)
theorem dX0_book_2 : decode cX0_book 2 = .ok (.if_icmp .ne 14, 3) := dk_160 0 14 (dk_at dksX0_book_0 2 rfl rfl)
theorem dX0_book_5 : decode cX0_book 5 = .ok (.aload_n 0, 1) := dk_42 (dk_at dksX0_book_0 5 rfl rfl)
theorem dX0_book_6 : decode cX0_book 6 = .ok (.getfield 12, 3) := dk_180 0 12 (dk_at dksX0_book_0 6 rfl rfl)
theorem dX0_book_9 : decode cX0_book 9 = .ok (.getfield 203, 3) := dk_180 0 203 (dk_at dksX0_book_0 9 rfl rfl)
theorem dX0_book_12 : decode cX0_book 12 = .ok (.bipush 44, 2) := dk_16 44 (dk_at dksX0_book_0 12 rfl rfl)
theorem dX0_book_14 : decode cX0_book 14 = .ok (.iaload, 1) := dk_46 (dk_at dksX0_book_0 14 rfl rfl)
theorem dX0_book_15 : decode cX0_book 15 = .ok (.ireturn, 1) := dk_172 (dk_at dksX0_book_0 15 rfl rfl)
theorem dX0_book_16 : decode cX0_book 16 = .ok (.iload_n 1, 1) := dk_27 (dk_at dksX0_book_0 16 rfl rfl)
theorem dX0_book_17 : decode cX0_book 17 = .ok (.iconst 0, 1) := dk_3 (dk_at dksX0_book_0 17 rfl rfl)
theorem dX0_book_18 : decode cX0_book 18 = .ok (.aload_n 0, 1) := dk_42 (dk_at dksX0_book_0 18 rfl rfl)
theorem dX0_book_19 : decode cX0_book 19 = .ok (.getfield 12, 3) := dk_180 0 12 (dk_at dksX0_book_0 19 rfl rfl)
theorem dX0_book_22 : decode cX0_book 22 = .ok (.getfield 203, 3) := dk_180 0 203 (dk_at dksX0_book_1 0 rfl rfl)
theorem dX0_book_25 : decode cX0_book 25 = .ok (.bipush 44, 2) := dk_16 44 (dk_at dksX0_book_1 3 rfl rfl)
theorem dX0_book_27 : decode cX0_book 27 = .ok (.iaload, 1) := dk_46 (dk_at dksX0_book_1 5 rfl rfl)
theorem dX0_book_28 : decode cX0_book 28 = .ok (.iconst 1, 1) := dk_4 (dk_at dksX0_book_1 6 rfl rfl)
theorem dX0_book_29 : decode cX0_book 29 = .ok (.isub, 1) := dk_100 (dk_at dksX0_book_1 7 rfl rfl)
theorem dX0_book_30 : decode cX0_book 30 = .ok (.invokestatic 77, 3) := dk_184 0 77 (dk_at dksX0_book_1 8 rfl rfl)
theorem dX0_book_33 : decode cX0_book 33 = .ok (.ifCond .eq 31, 3) := dk_153 0 31 (dk_at dksX0_book_1 11 rfl rfl)
theorem dX0_book_36 : decode cX0_book 36 = .ok (.iload_n 2, 1) := dk_28 (dk_at dksX0_book_1 14 rfl rfl)
theorem dX0_book_37 : decode cX0_book 37 = .ok (.iconst 0, 1) := dk_3 (dk_at dksX0_book_1 15 rfl rfl)
theorem dX0_book_38 : decode cX0_book 38 = .ok (.iconst 4, 1) := dk_7 (dk_at dksX0_book_1 16 rfl rfl)
theorem dX0_book_39 : decode cX0_book 39 = .ok (.invokestatic 77, 3) := dk_184 0 77 (dk_at dksX0_book_1 17 rfl rfl)
theorem dX0_book_42 : decode cX0_book 42 = .ok (.ifCond .eq 22, 3) := dk_153 0 22 (dk_at dksX0_book_1 20 rfl rfl)
theorem dX0_book_45 : decode cX0_book 45 = .ok (.aload_n 0, 1) := dk_42 (dk_at dksX0_book_1 23 rfl rfl)
theorem dX0_book_46 : decode cX0_book 46 = .ok (.getfield 12, 3) := dk_180 0 12 (dk_at dksX0_book_2 0 rfl rfl)
theorem dX0_book_49 : decode cX0_book 49 = .ok (.getfield 203, 3) := dk_180 0 203 (dk_at dksX0_book_2 3 rfl rfl)
theorem dX0_book_52 : decode cX0_book 52 = .ok (.bipush 45, 2) := dk_16 45 (dk_at dksX0_book_2 6 rfl rfl)
theorem dX0_book_54 : decode cX0_book 54 = .ok (.iconst 5, 1) := dk_8 (dk_at dksX0_book_2 8 rfl rfl)
theorem dX0_book_55 : decode cX0_book 55 = .ok (.iload_n 1, 1) := dk_27 (dk_at dksX0_book_2 9 rfl rfl)
theorem dX0_book_56 : decode cX0_book 56 = .ok (.imul, 1) := dk_104 (dk_at dksX0_book_2 10 rfl rfl)
theorem dX0_book_57 : decode cX0_book 57 = .ok (.iadd, 1) := dk_96 (dk_at dksX0_book_2 11 rfl rfl)
theorem dX0_book_58 : decode cX0_book 58 = .ok (.iload_n 2, 1) := dk_28 (dk_at dksX0_book_2 12 rfl rfl)
theorem dX0_book_59 : decode cX0_book 59 = .ok (.iadd, 1) := dk_96 (dk_at dksX0_book_2 13 rfl rfl)
theorem dX0_book_60 : decode cX0_book 60 = .ok (.iaload, 1) := dk_46 (dk_at dksX0_book_2 14 rfl rfl)
theorem dX0_book_61 : decode cX0_book 61 = .ok (.goto 5, 3) := dk_167 0 5 (dk_at dksX0_book_2 15 rfl rfl)
theorem dX0_book_64 : decode cX0_book 64 = .ok (.ldc 212, 2) := dk_18 212 (dk_at dksX0_book_2 18 rfl rfl)
theorem dX0_book_66 : decode cX0_book 66 = .ok (.ireturn, 1) := dk_172 (dk_at dksX0_book_2 20 rfl rfl)
abbrev cX0_lightest : ByteArray := prog_1_method_58_code
def yX0_lightest : MethodName := ⟨RX0, "lightest", "(IZI)I"⟩
def dkwX0_lightest_3 : List UInt8 := [180, 0, 43, 29, 46, 172]
abbrev dktX0_lightest_3 : List UInt8 := dkwX0_lightest_3 ++ []
def dkwX0_lightest_2 : List UInt8 := [180, 1, 79, 181, 1, 87, 29, 2, 160, 0, 8, 42, 180, 1, 87, 172, 42, 27, 4, 182, 1, 112, 42]
abbrev dktX0_lightest_2 : List UInt8 := dkwX0_lightest_2 ++ dktX0_lightest_3
def dkwX0_lightest_1 : List UInt8 := [18, 212, 172, 42, 27, 3, 182, 1, 112, 42, 28, 153, 0, 10, 42, 180, 1, 82, 167, 0, 7, 42]
abbrev dktX0_lightest_1 : List UInt8 := dkwX0_lightest_1 ++ dktX0_lightest_2
def dkwX0_lightest_0 : List UInt8 := [42, 27, 16, 7, 182, 1, 109, 153, 0, 17, 29, 2, 42, 180, 1, 51, 4, 100, 184, 0, 77, 154, 0, 6]
abbrev dktX0_lightest_0 : List UInt8 := dkwX0_lightest_0 ++ dktX0_lightest_1
theorem dksX0_lightest_0 : cX0_lightest.data.toList.drop 0 = dktX0_lightest_0 := by decide +kernel
theorem dksX0_lightest_1 : cX0_lightest.data.toList.drop 24 = dktX0_lightest_1 := dk_seg dksX0_lightest_0 24 rfl rfl
theorem dksX0_lightest_2 : cX0_lightest.data.toList.drop 46 = dktX0_lightest_2 := dk_seg dksX0_lightest_1 22 rfl rfl
theorem dksX0_lightest_3 : cX0_lightest.data.toList.drop 69 = dktX0_lightest_3 := dk_seg dksX0_lightest_2 23 rfl rfl
theorem dX0_lightest_0 : decode cX0_lightest 0 = .ok (.aload_n 0, 1) := dk_42 (dk_at dksX0_lightest_0 0 rfl rfl)
theorem dX0_lightest_1 : decode cX0_lightest 1 = .ok (.iload_n 1, 1) := dk_27 (dk_at dksX0_lightest_0 1 rfl rfl)
theorem dX0_lightest_2 : decode cX0_lightest 2 = .ok (.bipush 7, 2) := dk_16 7 (dk_at dksX0_lightest_0 2 rfl rfl)
theorem dX0_lightest_4 : decode cX0_lightest 4 = .ok (.invokevirtual 365, 3) := dk_182 1 109 (dk_at dksX0_lightest_0 4 rfl rfl)
theorem dX0_lightest_7 : decode cX0_lightest 7 = .ok (.ifCond .eq 17, 3) := dk_153 0 17 (dk_at dksX0_lightest_0 7 rfl rfl)
theorem dX0_lightest_10 : decode cX0_lightest 10 = .ok (.iload_n 3, 1) := dk_29 (dk_at dksX0_lightest_0 10 rfl rfl)
theorem dX0_lightest_11 : decode cX0_lightest 11 = .ok (.iconst (-1), 1) := dk_2 (dk_at dksX0_lightest_0 11 rfl rfl)
theorem dX0_lightest_12 : decode cX0_lightest 12 = .ok (.aload_n 0, 1) := dk_42 (dk_at dksX0_lightest_0 12 rfl rfl)
theorem dX0_lightest_13 : decode cX0_lightest 13 = .ok (.getfield 307, 3) := dk_180 1 51 (dk_at dksX0_lightest_0 13 rfl rfl)
theorem dX0_lightest_16 : decode cX0_lightest 16 = .ok (.iconst 1, 1) := dk_4 (dk_at dksX0_lightest_0 16 rfl rfl)
theorem dX0_lightest_17 : decode cX0_lightest 17 = .ok (.isub, 1) := dk_100 (dk_at dksX0_lightest_0 17 rfl rfl)
theorem dX0_lightest_18 : decode cX0_lightest 18 = .ok (.invokestatic 77, 3) := dk_184 0 77 (dk_at dksX0_lightest_0 18 rfl rfl)
theorem dX0_lightest_21 : decode cX0_lightest 21 = .ok (.ifCond .ne 6, 3) := dk_154 0 6 (dk_at dksX0_lightest_0 21 rfl rfl)
theorem dX0_lightest_24 : decode cX0_lightest 24 = .ok (.ldc 212, 2) := dk_18 212 (dk_at dksX0_lightest_1 0 rfl rfl)
theorem dX0_lightest_26 : decode cX0_lightest 26 = .ok (.ireturn, 1) := dk_172 (dk_at dksX0_lightest_1 2 rfl rfl)
theorem dX0_lightest_27 : decode cX0_lightest 27 = .ok (.aload_n 0, 1) := dk_42 (dk_at dksX0_lightest_1 3 rfl rfl)
theorem dX0_lightest_28 : decode cX0_lightest 28 = .ok (.iload_n 1, 1) := dk_27 (dk_at dksX0_lightest_1 4 rfl rfl)
theorem dX0_lightest_29 : decode cX0_lightest 29 = .ok (.iconst 0, 1) := dk_3 (dk_at dksX0_lightest_1 5 rfl rfl)
theorem dX0_lightest_30 : decode cX0_lightest 30 = .ok (.invokevirtual 368, 3) := dk_182 1 112 (dk_at dksX0_lightest_1 6 rfl rfl)
theorem dX0_lightest_33 : decode cX0_lightest 33 = .ok (.aload_n 0, 1) := dk_42 (dk_at dksX0_lightest_1 9 rfl rfl)
theorem dX0_lightest_34 : decode cX0_lightest 34 = .ok (.iload_n 2, 1) := dk_28 (dk_at dksX0_lightest_1 10 rfl rfl)
theorem dX0_lightest_35 : decode cX0_lightest 35 = .ok (.ifCond .eq 10, 3) := dk_153 0 10 (dk_at dksX0_lightest_1 11 rfl rfl)
theorem dX0_lightest_38 : decode cX0_lightest 38 = .ok (.aload_n 0, 1) := dk_42 (dk_at dksX0_lightest_1 14 rfl rfl)
theorem dX0_lightest_39 : decode cX0_lightest 39 = .ok (.getfield 338, 3) := dk_180 1 82 (dk_at dksX0_lightest_1 15 rfl rfl)
theorem dX0_lightest_42 : decode cX0_lightest 42 = .ok (.goto 7, 3) := dk_167 0 7 (dk_at dksX0_lightest_1 18 rfl rfl)
theorem dX0_lightest_45 : decode cX0_lightest 45 = .ok (.aload_n 0, 1) := dk_42 (dk_at dksX0_lightest_1 21 rfl rfl)
theorem dX0_lightest_46 : decode cX0_lightest 46 = .ok (.getfield 335, 3) := dk_180 1 79 (dk_at dksX0_lightest_2 0 rfl rfl)
theorem dX0_lightest_49 : decode cX0_lightest 49 = .ok (.putfield 343, 3) := dk_181 1 87 (dk_at dksX0_lightest_2 3 rfl rfl)
theorem dX0_lightest_52 : decode cX0_lightest 52 = .ok (.iload_n 3, 1) := dk_29 (dk_at dksX0_lightest_2 6 rfl rfl)
theorem dX0_lightest_53 : decode cX0_lightest 53 = .ok (.iconst (-1), 1) := dk_2 (dk_at dksX0_lightest_2 7 rfl rfl)
theorem dX0_lightest_54 : decode cX0_lightest 54 = .ok (.if_icmp .ne 8, 3) := dk_160 0 8 (dk_at dksX0_lightest_2 8 rfl rfl)
theorem dX0_lightest_57 : decode cX0_lightest 57 = .ok (.aload_n 0, 1) := dk_42 (dk_at dksX0_lightest_2 11 rfl rfl)
theorem dX0_lightest_58 : decode cX0_lightest 58 = .ok (.getfield 343, 3) := dk_180 1 87 (dk_at dksX0_lightest_2 12 rfl rfl)
theorem dX0_lightest_61 : decode cX0_lightest 61 = .ok (.ireturn, 1) := dk_172 (dk_at dksX0_lightest_2 15 rfl rfl)
theorem dX0_lightest_62 : decode cX0_lightest 62 = .ok (.aload_n 0, 1) := dk_42 (dk_at dksX0_lightest_2 16 rfl rfl)
theorem dX0_lightest_63 : decode cX0_lightest 63 = .ok (.iload_n 1, 1) := dk_27 (dk_at dksX0_lightest_2 17 rfl rfl)
theorem dX0_lightest_64 : decode cX0_lightest 64 = .ok (.iconst 1, 1) := dk_4 (dk_at dksX0_lightest_2 18 rfl rfl)
theorem dX0_lightest_65 : decode cX0_lightest 65 = .ok (.invokevirtual 368, 3) := dk_182 1 112 (dk_at dksX0_lightest_2 19 rfl rfl)
theorem dX0_lightest_68 : decode cX0_lightest 68 = .ok (.aload_n 0, 1) := dk_42 (dk_at dksX0_lightest_2 22 rfl rfl)
theorem dX0_lightest_69 : decode cX0_lightest 69 = .ok (.getfield 43, 3) := dk_180 0 43 (dk_at dksX0_lightest_3 0 rfl rfl)
theorem dX0_lightest_72 : decode cX0_lightest 72 = .ok (.iload_n 3, 1) := dk_29 (dk_at dksX0_lightest_3 3 rfl rfl)
theorem dX0_lightest_73 : decode cX0_lightest 73 = .ok (.iaload, 1) := dk_46 (dk_at dksX0_lightest_3 4 rfl rfl)
theorem dX0_lightest_74 : decode cX0_lightest 74 = .ok (.ireturn, 1) := dk_172 (dk_at dksX0_lightest_3 5 rfl rfl)
abbrev cX0_canOrder : ByteArray := prog_1_method_55_code
def yX0_canOrder : MethodName := ⟨RX0, "canOrder", "(II)Z"⟩
def dkwX0_canOrder_2 : List UInt8 := [167, 255, 229, 42, 180, 1, 51, 28, 163, 0, 7, 4, 167, 0, 4, 3, 172]
abbrev dktX0_canOrder_2 : List UInt8 := dkwX0_canOrder_2 ++ []
def dkwX0_canOrder_1 : List UInt8 := [162, 0, 25, 42, 180, 0, 37, 29, 42, 42, 180, 0, 34, 29, 46, 182, 0, 181, 79, 132, 3, 1]
abbrev dktX0_canOrder_1 : List UInt8 := dkwX0_canOrder_1 ++ dktX0_canOrder_2
def dkwX0_canOrder_0 : List UInt8 := [42, 27, 182, 0, 84, 154, 0, 5, 3, 172, 42, 27, 182, 1, 57, 3, 62, 29, 42, 180, 1, 51]
abbrev dktX0_canOrder_0 : List UInt8 := dkwX0_canOrder_0 ++ dktX0_canOrder_1
theorem dksX0_canOrder_0 : cX0_canOrder.data.toList.drop 0 = dktX0_canOrder_0 := by decide +kernel
theorem dksX0_canOrder_1 : cX0_canOrder.data.toList.drop 22 = dktX0_canOrder_1 := dk_seg dksX0_canOrder_0 22 rfl rfl
theorem dksX0_canOrder_2 : cX0_canOrder.data.toList.drop 44 = dktX0_canOrder_2 := dk_seg dksX0_canOrder_1 22 rfl rfl
theorem dX0_canOrder_0 : decode cX0_canOrder 0 = .ok (.aload_n 0, 1) := dk_42 (dk_at dksX0_canOrder_0 0 rfl rfl)
theorem dX0_canOrder_1 : decode cX0_canOrder 1 = .ok (.iload_n 1, 1) := dk_27 (dk_at dksX0_canOrder_0 1 rfl rfl)
theorem dX0_canOrder_2 : decode cX0_canOrder 2 = .ok (.invokevirtual 84, 3) := dk_182 0 84 (dk_at dksX0_canOrder_0 2 rfl rfl)
theorem dX0_canOrder_5 : decode cX0_canOrder 5 = .ok (.ifCond .ne 5, 3) := dk_154 0 5 (dk_at dksX0_canOrder_0 5 rfl rfl)
theorem dX0_canOrder_8 : decode cX0_canOrder 8 = .ok (.iconst 0, 1) := dk_3 (dk_at dksX0_canOrder_0 8 rfl rfl)
theorem dX0_canOrder_9 : decode cX0_canOrder 9 = .ok (.ireturn, 1) := dk_172 (dk_at dksX0_canOrder_0 9 rfl rfl)
theorem dX0_canOrder_10 : decode cX0_canOrder 10 = .ok (.aload_n 0, 1) := dk_42 (dk_at dksX0_canOrder_0 10 rfl rfl)
theorem dX0_canOrder_11 : decode cX0_canOrder 11 = .ok (.iload_n 1, 1) := dk_27 (dk_at dksX0_canOrder_0 11 rfl rfl)
theorem dX0_canOrder_12 : decode cX0_canOrder 12 = .ok (.invokevirtual 313, 3) := dk_182 1 57 (dk_at dksX0_canOrder_0 12 rfl rfl)
theorem dX0_canOrder_15 : decode cX0_canOrder 15 = .ok (.iconst 0, 1) := dk_3 (dk_at dksX0_canOrder_0 15 rfl rfl)
theorem dX0_canOrder_16 : decode cX0_canOrder 16 = .ok (.istore_n 3, 1) := dk_62 (dk_at dksX0_canOrder_0 16 rfl rfl)
theorem dX0_canOrder_17 : decode cX0_canOrder 17 = .ok (.iload_n 3, 1) := dk_29 (dk_at dksX0_canOrder_0 17 rfl rfl)
theorem dX0_canOrder_18 : decode cX0_canOrder 18 = .ok (.aload_n 0, 1) := dk_42 (dk_at dksX0_canOrder_0 18 rfl rfl)
theorem dX0_canOrder_19 : decode cX0_canOrder 19 = .ok (.getfield 307, 3) := dk_180 1 51 (dk_at dksX0_canOrder_0 19 rfl rfl)
theorem dX0_canOrder_22 : decode cX0_canOrder 22 = .ok (.if_icmp .ge 25, 3) := dk_162 0 25 (dk_at dksX0_canOrder_1 0 rfl rfl)
theorem dX0_canOrder_25 : decode cX0_canOrder 25 = .ok (.aload_n 0, 1) := dk_42 (dk_at dksX0_canOrder_1 3 rfl rfl)
theorem dX0_canOrder_26 : decode cX0_canOrder 26 = .ok (.getfield 37, 3) := dk_180 0 37 (dk_at dksX0_canOrder_1 4 rfl rfl)
theorem dX0_canOrder_29 : decode cX0_canOrder 29 = .ok (.iload_n 3, 1) := dk_29 (dk_at dksX0_canOrder_1 7 rfl rfl)
theorem dX0_canOrder_30 : decode cX0_canOrder 30 = .ok (.aload_n 0, 1) := dk_42 (dk_at dksX0_canOrder_1 8 rfl rfl)
theorem dX0_canOrder_31 : decode cX0_canOrder 31 = .ok (.aload_n 0, 1) := dk_42 (dk_at dksX0_canOrder_1 9 rfl rfl)
theorem dX0_canOrder_32 : decode cX0_canOrder 32 = .ok (.getfield 34, 3) := dk_180 0 34 (dk_at dksX0_canOrder_1 10 rfl rfl)
theorem dX0_canOrder_35 : decode cX0_canOrder 35 = .ok (.iload_n 3, 1) := dk_29 (dk_at dksX0_canOrder_1 13 rfl rfl)
theorem dX0_canOrder_36 : decode cX0_canOrder 36 = .ok (.iaload, 1) := dk_46 (dk_at dksX0_canOrder_1 14 rfl rfl)
theorem dX0_canOrder_37 : decode cX0_canOrder 37 = .ok (.invokevirtual 181, 3) := dk_182 0 181 (dk_at dksX0_canOrder_1 15 rfl rfl)
theorem dX0_canOrder_40 : decode cX0_canOrder 40 = .ok (.iastore, 1) := dk_79 (dk_at dksX0_canOrder_1 18 rfl rfl)
theorem dX0_canOrder_41 : decode cX0_canOrder 41 = .ok (.iinc 3 1, 3) := dk_132 3 1 (dk_at dksX0_canOrder_1 19 rfl rfl)
theorem dX0_canOrder_44 : decode cX0_canOrder 44 = .ok (.goto (-27), 3) := dk_167 255 229 (dk_at dksX0_canOrder_2 0 rfl rfl)
theorem dX0_canOrder_47 : decode cX0_canOrder 47 = .ok (.aload_n 0, 1) := dk_42 (dk_at dksX0_canOrder_2 3 rfl rfl)
theorem dX0_canOrder_48 : decode cX0_canOrder 48 = .ok (.getfield 307, 3) := dk_180 1 51 (dk_at dksX0_canOrder_2 4 rfl rfl)
theorem dX0_canOrder_51 : decode cX0_canOrder 51 = .ok (.iload_n 2, 1) := dk_28 (dk_at dksX0_canOrder_2 7 rfl rfl)
theorem dX0_canOrder_52 : decode cX0_canOrder 52 = .ok (.if_icmp .gt 7, 3) := dk_163 0 7 (dk_at dksX0_canOrder_2 8 rfl rfl)
theorem dX0_canOrder_55 : decode cX0_canOrder 55 = .ok (.iconst 1, 1) := dk_4 (dk_at dksX0_canOrder_2 11 rfl rfl)
theorem dX0_canOrder_56 : decode cX0_canOrder 56 = .ok (.goto 4, 3) := dk_167 0 4 (dk_at dksX0_canOrder_2 12 rfl rfl)
theorem dX0_canOrder_59 : decode cX0_canOrder 59 = .ok (.iconst 0, 1) := dk_3 (dk_at dksX0_canOrder_2 15 rfl rfl)
theorem dX0_canOrder_60 : decode cX0_canOrder 60 = .ok (.ireturn, 1) := dk_172 (dk_at dksX0_canOrder_2 16 rfl rfl)
abbrev cX0_looks : ByteArray := prog_1_method_57_code
def yX0_looks : MethodName := ⟨RX0, "looks", "(II)V"⟩
def dkwX0_looks_2 : List UInt8 := [29, 167, 0, 4, 3, 182, 1, 103, 177]
abbrev dktX0_looks_2 : List UInt8 := dkwX0_looks_2 ++ []
def dkwX0_looks_1 : List UInt8 := [182, 1, 72, 62, 42, 27, 28, 3, 3, 29, 29, 184, 1, 96, 42, 27, 3, 3, 182, 1, 99, 164, 0, 7]
abbrev dktX0_looks_1 : List UInt8 := dkwX0_looks_1 ++ dktX0_looks_2
def dkwX0_looks_0 : List UInt8 := [42, 3, 181, 1, 75, 42, 19, 1, 107, 181, 1, 79, 42, 19, 1, 108, 181, 1, 82, 42, 180, 0, 12, 27]
abbrev dktX0_looks_0 : List UInt8 := dkwX0_looks_0 ++ dktX0_looks_1
theorem dksX0_looks_0 : cX0_looks.data.toList.drop 0 = dktX0_looks_0 := by decide +kernel
theorem dksX0_looks_1 : cX0_looks.data.toList.drop 24 = dktX0_looks_1 := dk_seg dksX0_looks_0 24 rfl rfl
theorem dksX0_looks_2 : cX0_looks.data.toList.drop 48 = dktX0_looks_2 := dk_seg dksX0_looks_1 24 rfl rfl
theorem dX0_looks_0 : decode cX0_looks 0 = .ok (.aload_n 0, 1) := dk_42 (dk_at dksX0_looks_0 0 rfl rfl)
theorem dX0_looks_1 : decode cX0_looks 1 = .ok (.iconst 0, 1) := dk_3 (dk_at dksX0_looks_0 1 rfl rfl)
theorem dX0_looks_2 : decode cX0_looks 2 = .ok (.putfield 331, 3) := dk_181 1 75 (dk_at dksX0_looks_0 2 rfl rfl)
theorem dX0_looks_5 : decode cX0_looks 5 = .ok (.aload_n 0, 1) := dk_42 (dk_at dksX0_looks_0 5 rfl rfl)
theorem dX0_looks_6 : decode cX0_looks 6 = .ok (.ldc_w 363, 3) := dk_19 1 107 (dk_at dksX0_looks_0 6 rfl rfl)
theorem dX0_looks_9 : decode cX0_looks 9 = .ok (.putfield 335, 3) := dk_181 1 79 (dk_at dksX0_looks_0 9 rfl rfl)
theorem dX0_looks_12 : decode cX0_looks 12 = .ok (.aload_n 0, 1) := dk_42 (dk_at dksX0_looks_0 12 rfl rfl)
theorem dX0_looks_13 : decode cX0_looks 13 = .ok (.ldc_w 364, 3) := dk_19 1 108 (dk_at dksX0_looks_0 13 rfl rfl)
theorem dX0_looks_16 : decode cX0_looks 16 = .ok (.putfield 338, 3) := dk_181 1 82 (dk_at dksX0_looks_0 16 rfl rfl)
theorem dX0_looks_19 : decode cX0_looks 19 = .ok (.aload_n 0, 1) := dk_42 (dk_at dksX0_looks_0 19 rfl rfl)
theorem dX0_looks_20 : decode cX0_looks 20 = .ok (.getfield 12, 3) := dk_180 0 12 (dk_at dksX0_looks_0 20 rfl rfl)
theorem dX0_looks_23 : decode cX0_looks 23 = .ok (.iload_n 1, 1) := dk_27 (dk_at dksX0_looks_0 23 rfl rfl)
theorem dX0_looks_24 : decode cX0_looks 24 = .ok (.invokevirtual 328, 3) := dk_182 1 72 (dk_at dksX0_looks_1 0 rfl rfl)
theorem dX0_looks_27 : decode cX0_looks 27 = .ok (.istore_n 3, 1) := dk_62 (dk_at dksX0_looks_1 3 rfl rfl)
theorem dX0_looks_28 : decode cX0_looks 28 = .ok (.aload_n 0, 1) := dk_42 (dk_at dksX0_looks_1 4 rfl rfl)
theorem dX0_looks_29 : decode cX0_looks 29 = .ok (.iload_n 1, 1) := dk_27 (dk_at dksX0_looks_1 5 rfl rfl)
theorem dX0_looks_30 : decode cX0_looks 30 = .ok (.iload_n 2, 1) := dk_28 (dk_at dksX0_looks_1 6 rfl rfl)
theorem dX0_looks_31 : decode cX0_looks 31 = .ok (.iconst 0, 1) := dk_3 (dk_at dksX0_looks_1 7 rfl rfl)
theorem dX0_looks_32 : decode cX0_looks 32 = .ok (.iconst 0, 1) := dk_3 (dk_at dksX0_looks_1 8 rfl rfl)
theorem dX0_looks_33 : decode cX0_looks 33 = .ok (.iload_n 3, 1) := dk_29 (dk_at dksX0_looks_1 9 rfl rfl)
theorem dX0_looks_34 : decode cX0_looks 34 = .ok (.iload_n 3, 1) := dk_29 (dk_at dksX0_looks_1 10 rfl rfl)
theorem dX0_looks_35 : decode cX0_looks 35 = .ok (.invokestatic 352, 3) := dk_184 1 96 (dk_at dksX0_looks_1 11 rfl rfl)
theorem dX0_looks_38 : decode cX0_looks 38 = .ok (.aload_n 0, 1) := dk_42 (dk_at dksX0_looks_1 14 rfl rfl)
theorem dX0_looks_39 : decode cX0_looks 39 = .ok (.iload_n 1, 1) := dk_27 (dk_at dksX0_looks_1 15 rfl rfl)
theorem dX0_looks_40 : decode cX0_looks 40 = .ok (.iconst 0, 1) := dk_3 (dk_at dksX0_looks_1 16 rfl rfl)
theorem dX0_looks_41 : decode cX0_looks 41 = .ok (.iconst 0, 1) := dk_3 (dk_at dksX0_looks_1 17 rfl rfl)
theorem dX0_looks_42 : decode cX0_looks 42 = .ok (.invokevirtual 355, 3) := dk_182 1 99 (dk_at dksX0_looks_1 18 rfl rfl)
theorem dX0_looks_45 : decode cX0_looks 45 = .ok (.if_icmp .le 7, 3) := dk_164 0 7 (dk_at dksX0_looks_1 21 rfl rfl)
theorem dX0_looks_48 : decode cX0_looks 48 = .ok (.iload_n 3, 1) := dk_29 (dk_at dksX0_looks_2 0 rfl rfl)
theorem dX0_looks_49 : decode cX0_looks 49 = .ok (.goto 4, 3) := dk_167 0 4 (dk_at dksX0_looks_2 1 rfl rfl)
theorem dX0_looks_52 : decode cX0_looks 52 = .ok (.iconst 0, 1) := dk_3 (dk_at dksX0_looks_2 4 rfl rfl)
theorem dX0_looks_53 : decode cX0_looks 53 = .ok (.invokevirtual 359, 3) := dk_182 1 103 (dk_at dksX0_looks_2 5 rfl rfl)
theorem dX0_looks_56 : decode cX0_looks 56 = .ok (.return_, 1) := dk_177 (dk_at dksX0_looks_2 8 rfl rfl)
abbrev cX0_goes : ByteArray := prog_1_method_56_code
def yX0_goes : MethodName := ⟨RX0, "goes", "(IIIIII)V"⟩
def dkwX0_goes_8 : List UInt8 := [21, 8, 167, 0, 5, 21, 6, 182, 1, 103, 132, 7, 1, 167, 255, 160, 177]
abbrev dktX0_goes_8 : List UInt8 := dkwX0_goes_8 ++ []
def dkwX0_goes_7 : List UInt8 := [21, 8, 21, 6, 21, 8, 100, 184, 1, 96, 42, 27, 21, 6, 29, 4, 96, 182, 1, 99, 164, 0, 8]
abbrev dktX0_goes_7 : List UInt8 := dkwX0_goes_7 ++ dktX0_goes_8
def dkwX0_goes_6 : List UInt8 := [42, 180, 0, 37, 21, 7, 46, 96, 54, 8, 42, 27, 28, 29, 4, 96, 21, 4, 4, 21, 7, 120, 128]
abbrev dktX0_goes_6 : List UInt8 := dkwX0_goes_6 ++ dktX0_goes_7
def dkwX0_goes_5 : List UInt8 := [184, 0, 174, 153, 0, 6, 167, 0, 74, 42, 180, 0, 40, 29, 42, 180, 0, 34, 21, 7, 46, 79, 21, 5]
abbrev dktX0_goes_5 : List UInt8 := dkwX0_goes_5 ++ dktX0_goes_6
def dkwX0_goes_4 : List UInt8 := [180, 1, 51, 184, 1, 90, 177, 3, 54, 7, 21, 7, 42, 180, 1, 51, 162, 0, 93, 21, 4, 21, 7]
abbrev dktX0_goes_4 : List UInt8 := dkwX0_goes_4 ++ dktX0_goes_5
def dkwX0_goes_3 : List UInt8 := [21, 6, 182, 0, 235, 153, 0, 25, 42, 4, 181, 1, 75, 42, 180, 0, 40, 3, 42, 180, 0, 43, 3, 42]
abbrev dktX0_goes_3 : List UInt8 := dkwX0_goes_3 ++ dktX0_goes_4
def dkwX0_goes_2 : List UInt8 := [28, 4, 160, 0, 15, 21, 6, 42, 180, 1, 87, 160, 0, 43, 167, 0, 18, 28, 5, 160, 0, 35, 42, 27]
abbrev dktX0_goes_2 : List UInt8 := dkwX0_goes_2 ++ dktX0_goes_3
def dkwX0_goes_1 : List UInt8 := [180, 1, 79, 21, 6, 184, 0, 238, 181, 1, 79, 42, 42, 180, 1, 82, 21, 6, 184, 1, 85, 181, 1, 82]
abbrev dktX0_goes_1 : List UInt8 := dkwX0_goes_1 ++ dktX0_goes_2
def dkwX0_goes_0 : List UInt8 := [28, 153, 0, 11, 42, 180, 1, 75, 153, 0, 4, 177, 29, 42, 180, 1, 51, 160, 0, 84, 42, 42]
abbrev dktX0_goes_0 : List UInt8 := dkwX0_goes_0 ++ dktX0_goes_1
theorem dksX0_goes_0 : cX0_goes.data.toList.drop 0 = dktX0_goes_0 := by decide +kernel
theorem dksX0_goes_1 : cX0_goes.data.toList.drop 22 = dktX0_goes_1 := dk_seg dksX0_goes_0 22 rfl rfl
theorem dksX0_goes_2 : cX0_goes.data.toList.drop 46 = dktX0_goes_2 := dk_seg dksX0_goes_1 24 rfl rfl
theorem dksX0_goes_3 : cX0_goes.data.toList.drop 70 = dktX0_goes_3 := dk_seg dksX0_goes_2 24 rfl rfl
theorem dksX0_goes_4 : cX0_goes.data.toList.drop 94 = dktX0_goes_4 := dk_seg dksX0_goes_3 24 rfl rfl
theorem dksX0_goes_5 : cX0_goes.data.toList.drop 117 = dktX0_goes_5 := dk_seg dksX0_goes_4 23 rfl rfl
theorem dksX0_goes_6 : cX0_goes.data.toList.drop 141 = dktX0_goes_6 := dk_seg dksX0_goes_5 24 rfl rfl
theorem dksX0_goes_7 : cX0_goes.data.toList.drop 164 = dktX0_goes_7 := dk_seg dksX0_goes_6 23 rfl rfl
theorem dksX0_goes_8 : cX0_goes.data.toList.drop 187 = dktX0_goes_8 := dk_seg dksX0_goes_7 23 rfl rfl
theorem dX0_goes_0 : decode cX0_goes 0 = .ok (.iload_n 2, 1) := dk_28 (dk_at dksX0_goes_0 0 rfl rfl)
theorem dX0_goes_1 : decode cX0_goes 1 = .ok (.ifCond .eq 11, 3) := dk_153 0 11 (dk_at dksX0_goes_0 1 rfl rfl)
theorem dX0_goes_4 : decode cX0_goes 4 = .ok (.aload_n 0, 1) := dk_42 (dk_at dksX0_goes_0 4 rfl rfl)
theorem dX0_goes_5 : decode cX0_goes 5 = .ok (.getfield 331, 3) := dk_180 1 75 (dk_at dksX0_goes_0 5 rfl rfl)
theorem dX0_goes_8 : decode cX0_goes 8 = .ok (.ifCond .eq 4, 3) := dk_153 0 4 (dk_at dksX0_goes_0 8 rfl rfl)
theorem dX0_goes_11 : decode cX0_goes 11 = .ok (.return_, 1) := dk_177 (dk_at dksX0_goes_0 11 rfl rfl)
theorem dX0_goes_12 : decode cX0_goes 12 = .ok (.iload_n 3, 1) := dk_29 (dk_at dksX0_goes_0 12 rfl rfl)
theorem dX0_goes_13 : decode cX0_goes 13 = .ok (.aload_n 0, 1) := dk_42 (dk_at dksX0_goes_0 13 rfl rfl)
theorem dX0_goes_14 : decode cX0_goes 14 = .ok (.getfield 307, 3) := dk_180 1 51 (dk_at dksX0_goes_0 14 rfl rfl)
theorem dX0_goes_17 : decode cX0_goes 17 = .ok (.if_icmp .ne 84, 3) := dk_160 0 84 (dk_at dksX0_goes_0 17 rfl rfl)
theorem dX0_goes_20 : decode cX0_goes 20 = .ok (.aload_n 0, 1) := dk_42 (dk_at dksX0_goes_0 20 rfl rfl)
theorem dX0_goes_21 : decode cX0_goes 21 = .ok (.aload_n 0, 1) := dk_42 (dk_at dksX0_goes_0 21 rfl rfl)
theorem dX0_goes_22 : decode cX0_goes 22 = .ok (.getfield 335, 3) := dk_180 1 79 (dk_at dksX0_goes_1 0 rfl rfl)
theorem dX0_goes_25 : decode cX0_goes 25 = .ok (.iload 6, 2) := dk_21 6 (dk_at dksX0_goes_1 3 rfl rfl)
theorem dX0_goes_27 : decode cX0_goes 27 = .ok (.invokestatic 238, 3) := dk_184 0 238 (dk_at dksX0_goes_1 5 rfl rfl)
theorem dX0_goes_30 : decode cX0_goes 30 = .ok (.putfield 335, 3) := dk_181 1 79 (dk_at dksX0_goes_1 8 rfl rfl)
theorem dX0_goes_33 : decode cX0_goes 33 = .ok (.aload_n 0, 1) := dk_42 (dk_at dksX0_goes_1 11 rfl rfl)
theorem dX0_goes_34 : decode cX0_goes 34 = .ok (.aload_n 0, 1) := dk_42 (dk_at dksX0_goes_1 12 rfl rfl)
theorem dX0_goes_35 : decode cX0_goes 35 = .ok (.getfield 338, 3) := dk_180 1 82 (dk_at dksX0_goes_1 13 rfl rfl)
theorem dX0_goes_38 : decode cX0_goes 38 = .ok (.iload 6, 2) := dk_21 6 (dk_at dksX0_goes_1 16 rfl rfl)
theorem dX0_goes_40 : decode cX0_goes 40 = .ok (.invokestatic 341, 3) := dk_184 1 85 (dk_at dksX0_goes_1 18 rfl rfl)
theorem dX0_goes_43 : decode cX0_goes 43 = .ok (.putfield 338, 3) := dk_181 1 82 (dk_at dksX0_goes_1 21 rfl rfl)
theorem dX0_goes_46 : decode cX0_goes 46 = .ok (.iload_n 2, 1) := dk_28 (dk_at dksX0_goes_2 0 rfl rfl)
theorem dX0_goes_47 : decode cX0_goes 47 = .ok (.iconst 1, 1) := dk_4 (dk_at dksX0_goes_2 1 rfl rfl)
theorem dX0_goes_48 : decode cX0_goes 48 = .ok (.if_icmp .ne 15, 3) := dk_160 0 15 (dk_at dksX0_goes_2 2 rfl rfl)
theorem dX0_goes_51 : decode cX0_goes 51 = .ok (.iload 6, 2) := dk_21 6 (dk_at dksX0_goes_2 5 rfl rfl)
theorem dX0_goes_53 : decode cX0_goes 53 = .ok (.aload_n 0, 1) := dk_42 (dk_at dksX0_goes_2 7 rfl rfl)
theorem dX0_goes_54 : decode cX0_goes 54 = .ok (.getfield 343, 3) := dk_180 1 87 (dk_at dksX0_goes_2 8 rfl rfl)
theorem dX0_goes_57 : decode cX0_goes 57 = .ok (.if_icmp .ne 43, 3) := dk_160 0 43 (dk_at dksX0_goes_2 11 rfl rfl)
theorem dX0_goes_60 : decode cX0_goes 60 = .ok (.goto 18, 3) := dk_167 0 18 (dk_at dksX0_goes_2 14 rfl rfl)
theorem dX0_goes_63 : decode cX0_goes 63 = .ok (.iload_n 2, 1) := dk_28 (dk_at dksX0_goes_2 17 rfl rfl)
theorem dX0_goes_64 : decode cX0_goes 64 = .ok (.iconst 2, 1) := dk_5 (dk_at dksX0_goes_2 18 rfl rfl)
theorem dX0_goes_65 : decode cX0_goes 65 = .ok (.if_icmp .ne 35, 3) := dk_160 0 35 (dk_at dksX0_goes_2 19 rfl rfl)
theorem dX0_goes_68 : decode cX0_goes 68 = .ok (.aload_n 0, 1) := dk_42 (dk_at dksX0_goes_2 22 rfl rfl)
theorem dX0_goes_69 : decode cX0_goes 69 = .ok (.iload_n 1, 1) := dk_27 (dk_at dksX0_goes_2 23 rfl rfl)
theorem dX0_goes_70 : decode cX0_goes 70 = .ok (.iload 6, 2) := dk_21 6 (dk_at dksX0_goes_3 0 rfl rfl)
theorem dX0_goes_72 : decode cX0_goes 72 = .ok (.invokevirtual 235, 3) := dk_182 0 235 (dk_at dksX0_goes_3 2 rfl rfl)
theorem dX0_goes_75 : decode cX0_goes 75 = .ok (.ifCond .eq 25, 3) := dk_153 0 25 (dk_at dksX0_goes_3 5 rfl rfl)
theorem dX0_goes_78 : decode cX0_goes 78 = .ok (.aload_n 0, 1) := dk_42 (dk_at dksX0_goes_3 8 rfl rfl)
theorem dX0_goes_79 : decode cX0_goes 79 = .ok (.iconst 1, 1) := dk_4 (dk_at dksX0_goes_3 9 rfl rfl)
theorem dX0_goes_80 : decode cX0_goes 80 = .ok (.putfield 331, 3) := dk_181 1 75 (dk_at dksX0_goes_3 10 rfl rfl)
theorem dX0_goes_83 : decode cX0_goes 83 = .ok (.aload_n 0, 1) := dk_42 (dk_at dksX0_goes_3 13 rfl rfl)
theorem dX0_goes_84 : decode cX0_goes 84 = .ok (.getfield 40, 3) := dk_180 0 40 (dk_at dksX0_goes_3 14 rfl rfl)
theorem dX0_goes_87 : decode cX0_goes 87 = .ok (.iconst 0, 1) := dk_3 (dk_at dksX0_goes_3 17 rfl rfl)
theorem dX0_goes_88 : decode cX0_goes 88 = .ok (.aload_n 0, 1) := dk_42 (dk_at dksX0_goes_3 18 rfl rfl)
theorem dX0_goes_89 : decode cX0_goes 89 = .ok (.getfield 43, 3) := dk_180 0 43 (dk_at dksX0_goes_3 19 rfl rfl)
theorem dX0_goes_92 : decode cX0_goes 92 = .ok (.iconst 0, 1) := dk_3 (dk_at dksX0_goes_3 22 rfl rfl)
theorem dX0_goes_93 : decode cX0_goes 93 = .ok (.aload_n 0, 1) := dk_42 (dk_at dksX0_goes_3 23 rfl rfl)
theorem dX0_goes_94 : decode cX0_goes 94 = .ok (.getfield 307, 3) := dk_180 1 51 (dk_at dksX0_goes_4 0 rfl rfl)
theorem dX0_goes_97 : decode cX0_goes 97 = .ok (.invokestatic 346, 3) := dk_184 1 90 (dk_at dksX0_goes_4 3 rfl rfl)
theorem dX0_goes_100 : decode cX0_goes 100 = .ok (.return_, 1) := dk_177 (dk_at dksX0_goes_4 6 rfl rfl)
theorem dX0_goes_101 : decode cX0_goes 101 = .ok (.iconst 0, 1) := dk_3 (dk_at dksX0_goes_4 7 rfl rfl)
theorem dX0_goes_102 : decode cX0_goes 102 = .ok (.istore 7, 2) := dk_54 7 (dk_at dksX0_goes_4 8 rfl rfl)
theorem dX0_goes_104 : decode cX0_goes 104 = .ok (.iload 7, 2) := dk_21 7 (dk_at dksX0_goes_4 10 rfl rfl)
theorem dX0_goes_106 : decode cX0_goes 106 = .ok (.aload_n 0, 1) := dk_42 (dk_at dksX0_goes_4 12 rfl rfl)
theorem dX0_goes_107 : decode cX0_goes 107 = .ok (.getfield 307, 3) := dk_180 1 51 (dk_at dksX0_goes_4 13 rfl rfl)
theorem dX0_goes_110 : decode cX0_goes 110 = .ok (.if_icmp .ge 93, 3) := dk_162 0 93 (dk_at dksX0_goes_4 16 rfl rfl)
theorem dX0_goes_113 : decode cX0_goes 113 = .ok (.iload 4, 2) := dk_21 4 (dk_at dksX0_goes_4 19 rfl rfl)
theorem dX0_goes_115 : decode cX0_goes 115 = .ok (.iload 7, 2) := dk_21 7 (dk_at dksX0_goes_4 21 rfl rfl)
theorem dX0_goes_117 : decode cX0_goes 117 = .ok (.invokestatic 174, 3) := dk_184 0 174 (dk_at dksX0_goes_5 0 rfl rfl)
theorem dX0_goes_120 : decode cX0_goes 120 = .ok (.ifCond .eq 6, 3) := dk_153 0 6 (dk_at dksX0_goes_5 3 rfl rfl)
theorem dX0_goes_123 : decode cX0_goes 123 = .ok (.goto 74, 3) := dk_167 0 74 (dk_at dksX0_goes_5 6 rfl rfl)
theorem dX0_goes_126 : decode cX0_goes 126 = .ok (.aload_n 0, 1) := dk_42 (dk_at dksX0_goes_5 9 rfl rfl)
theorem dX0_goes_127 : decode cX0_goes 127 = .ok (.getfield 40, 3) := dk_180 0 40 (dk_at dksX0_goes_5 10 rfl rfl)
theorem dX0_goes_130 : decode cX0_goes 130 = .ok (.iload_n 3, 1) := dk_29 (dk_at dksX0_goes_5 13 rfl rfl)
theorem dX0_goes_131 : decode cX0_goes 131 = .ok (.aload_n 0, 1) := dk_42 (dk_at dksX0_goes_5 14 rfl rfl)
theorem dX0_goes_132 : decode cX0_goes 132 = .ok (.getfield 34, 3) := dk_180 0 34 (dk_at dksX0_goes_5 15 rfl rfl)
theorem dX0_goes_135 : decode cX0_goes 135 = .ok (.iload 7, 2) := dk_21 7 (dk_at dksX0_goes_5 18 rfl rfl)
theorem dX0_goes_137 : decode cX0_goes 137 = .ok (.iaload, 1) := dk_46 (dk_at dksX0_goes_5 20 rfl rfl)
theorem dX0_goes_138 : decode cX0_goes 138 = .ok (.iastore, 1) := dk_79 (dk_at dksX0_goes_5 21 rfl rfl)
theorem dX0_goes_139 : decode cX0_goes 139 = .ok (.iload 5, 2) := dk_21 5 (dk_at dksX0_goes_5 22 rfl rfl)
theorem dX0_goes_141 : decode cX0_goes 141 = .ok (.aload_n 0, 1) := dk_42 (dk_at dksX0_goes_6 0 rfl rfl)
theorem dX0_goes_142 : decode cX0_goes 142 = .ok (.getfield 37, 3) := dk_180 0 37 (dk_at dksX0_goes_6 1 rfl rfl)
theorem dX0_goes_145 : decode cX0_goes 145 = .ok (.iload 7, 2) := dk_21 7 (dk_at dksX0_goes_6 4 rfl rfl)
theorem dX0_goes_147 : decode cX0_goes 147 = .ok (.iaload, 1) := dk_46 (dk_at dksX0_goes_6 6 rfl rfl)
theorem dX0_goes_148 : decode cX0_goes 148 = .ok (.iadd, 1) := dk_96 (dk_at dksX0_goes_6 7 rfl rfl)
theorem dX0_goes_149 : decode cX0_goes 149 = .ok (.istore 8, 2) := dk_54 8 (dk_at dksX0_goes_6 8 rfl rfl)
theorem dX0_goes_151 : decode cX0_goes 151 = .ok (.aload_n 0, 1) := dk_42 (dk_at dksX0_goes_6 10 rfl rfl)
theorem dX0_goes_152 : decode cX0_goes 152 = .ok (.iload_n 1, 1) := dk_27 (dk_at dksX0_goes_6 11 rfl rfl)
theorem dX0_goes_153 : decode cX0_goes 153 = .ok (.iload_n 2, 1) := dk_28 (dk_at dksX0_goes_6 12 rfl rfl)
theorem dX0_goes_154 : decode cX0_goes 154 = .ok (.iload_n 3, 1) := dk_29 (dk_at dksX0_goes_6 13 rfl rfl)
theorem dX0_goes_155 : decode cX0_goes 155 = .ok (.iconst 1, 1) := dk_4 (dk_at dksX0_goes_6 14 rfl rfl)
theorem dX0_goes_156 : decode cX0_goes 156 = .ok (.iadd, 1) := dk_96 (dk_at dksX0_goes_6 15 rfl rfl)
theorem dX0_goes_157 : decode cX0_goes 157 = .ok (.iload 4, 2) := dk_21 4 (dk_at dksX0_goes_6 16 rfl rfl)
theorem dX0_goes_159 : decode cX0_goes 159 = .ok (.iconst 1, 1) := dk_4 (dk_at dksX0_goes_6 18 rfl rfl)
theorem dX0_goes_160 : decode cX0_goes 160 = .ok (.iload 7, 2) := dk_21 7 (dk_at dksX0_goes_6 19 rfl rfl)
theorem dX0_goes_162 : decode cX0_goes 162 = .ok (.ishl, 1) := dk_120 (dk_at dksX0_goes_6 21 rfl rfl)
theorem dX0_goes_163 : decode cX0_goes 163 = .ok (.ior, 1) := dk_128 (dk_at dksX0_goes_6 22 rfl rfl)
theorem dX0_goes_164 : decode cX0_goes 164 = .ok (.iload 8, 2) := dk_21 8 (dk_at dksX0_goes_7 0 rfl rfl)
theorem dX0_goes_166 : decode cX0_goes 166 = .ok (.iload 6, 2) := dk_21 6 (dk_at dksX0_goes_7 2 rfl rfl)
theorem dX0_goes_168 : decode cX0_goes 168 = .ok (.iload 8, 2) := dk_21 8 (dk_at dksX0_goes_7 4 rfl rfl)
theorem dX0_goes_170 : decode cX0_goes 170 = .ok (.isub, 1) := dk_100 (dk_at dksX0_goes_7 6 rfl rfl)
theorem dX0_goes_171 : decode cX0_goes 171 = .ok (.invokestatic 352, 3) := dk_184 1 96 (dk_at dksX0_goes_7 7 rfl rfl)
theorem dX0_goes_174 : decode cX0_goes 174 = .ok (.aload_n 0, 1) := dk_42 (dk_at dksX0_goes_7 10 rfl rfl)
theorem dX0_goes_175 : decode cX0_goes 175 = .ok (.iload_n 1, 1) := dk_27 (dk_at dksX0_goes_7 11 rfl rfl)
theorem dX0_goes_176 : decode cX0_goes 176 = .ok (.iload 6, 2) := dk_21 6 (dk_at dksX0_goes_7 12 rfl rfl)
theorem dX0_goes_178 : decode cX0_goes 178 = .ok (.iload_n 3, 1) := dk_29 (dk_at dksX0_goes_7 14 rfl rfl)
theorem dX0_goes_179 : decode cX0_goes 179 = .ok (.iconst 1, 1) := dk_4 (dk_at dksX0_goes_7 15 rfl rfl)
theorem dX0_goes_180 : decode cX0_goes 180 = .ok (.iadd, 1) := dk_96 (dk_at dksX0_goes_7 16 rfl rfl)
theorem dX0_goes_181 : decode cX0_goes 181 = .ok (.invokevirtual 355, 3) := dk_182 1 99 (dk_at dksX0_goes_7 17 rfl rfl)
theorem dX0_goes_184 : decode cX0_goes 184 = .ok (.if_icmp .le 8, 3) := dk_164 0 8 (dk_at dksX0_goes_7 20 rfl rfl)
theorem dX0_goes_187 : decode cX0_goes 187 = .ok (.iload 8, 2) := dk_21 8 (dk_at dksX0_goes_8 0 rfl rfl)
theorem dX0_goes_189 : decode cX0_goes 189 = .ok (.goto 5, 3) := dk_167 0 5 (dk_at dksX0_goes_8 2 rfl rfl)
theorem dX0_goes_192 : decode cX0_goes 192 = .ok (.iload 6, 2) := dk_21 6 (dk_at dksX0_goes_8 5 rfl rfl)
theorem dX0_goes_194 : decode cX0_goes 194 = .ok (.invokevirtual 359, 3) := dk_182 1 103 (dk_at dksX0_goes_8 7 rfl rfl)
theorem dX0_goes_197 : decode cX0_goes 197 = .ok (.iinc 7 1, 3) := dk_132 7 1 (dk_at dksX0_goes_8 10 rfl rfl)
theorem dX0_goes_200 : decode cX0_goes 200 = .ok (.goto (-96), 3) := dk_167 255 160 (dk_at dksX0_goes_8 13 rfl rfl)
theorem dX0_goes_203 : decode cX0_goes 203 = .ok (.return_, 1) := dk_177 (dk_at dksX0_goes_8 16 rfl rfl)
abbrev cX0_passing : ByteArray := prog_1_method_59_code
def yX0_passing : MethodName := ⟨RX0, "passing", "(II)I"⟩
def dkwX0_passing_3 : List UInt8 := [16, 254, 172]
abbrev dktX0_passing_3 : List UInt8 := dkwX0_passing_3 ++ []
def dkwX0_passing_2 : List UInt8 := [167, 0, 25, 3, 167, 0, 21, 42, 180, 1, 75, 153, 0, 12, 42, 180, 0, 43, 28, 46, 167, 0, 5]
abbrev dktX0_passing_2 : List UInt8 := dkwX0_passing_2 ++ dktX0_passing_3
def dkwX0_passing_1 : List UInt8 := [16, 254, 172, 42, 27, 5, 182, 1, 112, 28, 2, 160, 0, 18, 42, 180, 1, 75, 153, 0, 7, 4]
abbrev dktX0_passing_1 : List UInt8 := dkwX0_passing_1 ++ dktX0_passing_2
def dkwX0_passing_0 : List UInt8 := [42, 27, 16, 7, 182, 1, 109, 153, 0, 17, 28, 2, 42, 180, 1, 51, 4, 100, 184, 0, 77, 154, 0, 6]
abbrev dktX0_passing_0 : List UInt8 := dkwX0_passing_0 ++ dktX0_passing_1
theorem dksX0_passing_0 : cX0_passing.data.toList.drop 0 = dktX0_passing_0 := by decide +kernel
theorem dksX0_passing_1 : cX0_passing.data.toList.drop 24 = dktX0_passing_1 := dk_seg dksX0_passing_0 24 rfl rfl
theorem dksX0_passing_2 : cX0_passing.data.toList.drop 46 = dktX0_passing_2 := dk_seg dksX0_passing_1 22 rfl rfl
theorem dksX0_passing_3 : cX0_passing.data.toList.drop 69 = dktX0_passing_3 := dk_seg dksX0_passing_2 23 rfl rfl
theorem dX0_passing_0 : decode cX0_passing 0 = .ok (.aload_n 0, 1) := dk_42 (dk_at dksX0_passing_0 0 rfl rfl)
theorem dX0_passing_1 : decode cX0_passing 1 = .ok (.iload_n 1, 1) := dk_27 (dk_at dksX0_passing_0 1 rfl rfl)
theorem dX0_passing_2 : decode cX0_passing 2 = .ok (.bipush 7, 2) := dk_16 7 (dk_at dksX0_passing_0 2 rfl rfl)
theorem dX0_passing_4 : decode cX0_passing 4 = .ok (.invokevirtual 365, 3) := dk_182 1 109 (dk_at dksX0_passing_0 4 rfl rfl)
theorem dX0_passing_7 : decode cX0_passing 7 = .ok (.ifCond .eq 17, 3) := dk_153 0 17 (dk_at dksX0_passing_0 7 rfl rfl)
theorem dX0_passing_10 : decode cX0_passing 10 = .ok (.iload_n 2, 1) := dk_28 (dk_at dksX0_passing_0 10 rfl rfl)
theorem dX0_passing_11 : decode cX0_passing 11 = .ok (.iconst (-1), 1) := dk_2 (dk_at dksX0_passing_0 11 rfl rfl)
theorem dX0_passing_12 : decode cX0_passing 12 = .ok (.aload_n 0, 1) := dk_42 (dk_at dksX0_passing_0 12 rfl rfl)
theorem dX0_passing_13 : decode cX0_passing 13 = .ok (.getfield 307, 3) := dk_180 1 51 (dk_at dksX0_passing_0 13 rfl rfl)
theorem dX0_passing_16 : decode cX0_passing 16 = .ok (.iconst 1, 1) := dk_4 (dk_at dksX0_passing_0 16 rfl rfl)
theorem dX0_passing_17 : decode cX0_passing 17 = .ok (.isub, 1) := dk_100 (dk_at dksX0_passing_0 17 rfl rfl)
theorem dX0_passing_18 : decode cX0_passing 18 = .ok (.invokestatic 77, 3) := dk_184 0 77 (dk_at dksX0_passing_0 18 rfl rfl)
theorem dX0_passing_21 : decode cX0_passing 21 = .ok (.ifCond .ne 6, 3) := dk_154 0 6 (dk_at dksX0_passing_0 21 rfl rfl)
theorem dX0_passing_24 : decode cX0_passing 24 = .ok (.bipush (-2), 2) := dk_16 254 (dk_at dksX0_passing_1 0 rfl rfl)
theorem dX0_passing_26 : decode cX0_passing 26 = .ok (.ireturn, 1) := dk_172 (dk_at dksX0_passing_1 2 rfl rfl)
theorem dX0_passing_27 : decode cX0_passing 27 = .ok (.aload_n 0, 1) := dk_42 (dk_at dksX0_passing_1 3 rfl rfl)
theorem dX0_passing_28 : decode cX0_passing 28 = .ok (.iload_n 1, 1) := dk_27 (dk_at dksX0_passing_1 4 rfl rfl)
theorem dX0_passing_29 : decode cX0_passing 29 = .ok (.iconst 2, 1) := dk_5 (dk_at dksX0_passing_1 5 rfl rfl)
theorem dX0_passing_30 : decode cX0_passing 30 = .ok (.invokevirtual 368, 3) := dk_182 1 112 (dk_at dksX0_passing_1 6 rfl rfl)
theorem dX0_passing_33 : decode cX0_passing 33 = .ok (.iload_n 2, 1) := dk_28 (dk_at dksX0_passing_1 9 rfl rfl)
theorem dX0_passing_34 : decode cX0_passing 34 = .ok (.iconst (-1), 1) := dk_2 (dk_at dksX0_passing_1 10 rfl rfl)
theorem dX0_passing_35 : decode cX0_passing 35 = .ok (.if_icmp .ne 18, 3) := dk_160 0 18 (dk_at dksX0_passing_1 11 rfl rfl)
theorem dX0_passing_38 : decode cX0_passing 38 = .ok (.aload_n 0, 1) := dk_42 (dk_at dksX0_passing_1 14 rfl rfl)
theorem dX0_passing_39 : decode cX0_passing 39 = .ok (.getfield 331, 3) := dk_180 1 75 (dk_at dksX0_passing_1 15 rfl rfl)
theorem dX0_passing_42 : decode cX0_passing 42 = .ok (.ifCond .eq 7, 3) := dk_153 0 7 (dk_at dksX0_passing_1 18 rfl rfl)
theorem dX0_passing_45 : decode cX0_passing 45 = .ok (.iconst 1, 1) := dk_4 (dk_at dksX0_passing_1 21 rfl rfl)
theorem dX0_passing_46 : decode cX0_passing 46 = .ok (.goto 25, 3) := dk_167 0 25 (dk_at dksX0_passing_2 0 rfl rfl)
theorem dX0_passing_49 : decode cX0_passing 49 = .ok (.iconst 0, 1) := dk_3 (dk_at dksX0_passing_2 3 rfl rfl)
theorem dX0_passing_50 : decode cX0_passing 50 = .ok (.goto 21, 3) := dk_167 0 21 (dk_at dksX0_passing_2 4 rfl rfl)
theorem dX0_passing_53 : decode cX0_passing 53 = .ok (.aload_n 0, 1) := dk_42 (dk_at dksX0_passing_2 7 rfl rfl)
theorem dX0_passing_54 : decode cX0_passing 54 = .ok (.getfield 331, 3) := dk_180 1 75 (dk_at dksX0_passing_2 8 rfl rfl)
theorem dX0_passing_57 : decode cX0_passing 57 = .ok (.ifCond .eq 12, 3) := dk_153 0 12 (dk_at dksX0_passing_2 11 rfl rfl)
theorem dX0_passing_60 : decode cX0_passing 60 = .ok (.aload_n 0, 1) := dk_42 (dk_at dksX0_passing_2 14 rfl rfl)
theorem dX0_passing_61 : decode cX0_passing 61 = .ok (.getfield 43, 3) := dk_180 0 43 (dk_at dksX0_passing_2 15 rfl rfl)
theorem dX0_passing_64 : decode cX0_passing 64 = .ok (.iload_n 2, 1) := dk_28 (dk_at dksX0_passing_2 18 rfl rfl)
theorem dX0_passing_65 : decode cX0_passing 65 = .ok (.iaload, 1) := dk_46 (dk_at dksX0_passing_2 19 rfl rfl)
theorem dX0_passing_66 : decode cX0_passing 66 = .ok (.goto 5, 3) := dk_167 0 5 (dk_at dksX0_passing_2 20 rfl rfl)
theorem dX0_passing_69 : decode cX0_passing 69 = .ok (.bipush (-2), 2) := dk_16 254 (dk_at dksX0_passing_3 0 rfl rfl)
theorem dX0_passing_71 : decode cX0_passing 71 = .ok (.ireturn, 1) := dk_172 (dk_at dksX0_passing_3 2 rfl rfl)
abbrev cX0_orderless : ByteArray := prog_1_method_61_code
def yX0_orderless : MethodName := ⟨RX0, "orderless", "(I)I"⟩
def dkwX0_orderless_1 : List UInt8 := [167, 0, 4, 3, 172]
abbrev dktX0_orderless_1 : List UInt8 := dkwX0_orderless_1 ++ []
def dkwX0_orderless_0 : List UInt8 := [42, 27, 16, 7, 182, 1, 109, 154, 0, 7, 2, 167, 0, 16, 42, 27, 182, 1, 116, 153, 0, 7, 4]
abbrev dktX0_orderless_0 : List UInt8 := dkwX0_orderless_0 ++ dktX0_orderless_1
theorem dksX0_orderless_0 : cX0_orderless.data.toList.drop 0 = dktX0_orderless_0 := by decide +kernel
theorem dksX0_orderless_1 : cX0_orderless.data.toList.drop 23 = dktX0_orderless_1 := dk_seg dksX0_orderless_0 23 rfl rfl
theorem dX0_orderless_0 : decode cX0_orderless 0 = .ok (.aload_n 0, 1) := dk_42 (dk_at dksX0_orderless_0 0 rfl rfl)
theorem dX0_orderless_1 : decode cX0_orderless 1 = .ok (.iload_n 1, 1) := dk_27 (dk_at dksX0_orderless_0 1 rfl rfl)
theorem dX0_orderless_2 : decode cX0_orderless 2 = .ok (.bipush 7, 2) := dk_16 7 (dk_at dksX0_orderless_0 2 rfl rfl)
theorem dX0_orderless_4 : decode cX0_orderless 4 = .ok (.invokevirtual 365, 3) := dk_182 1 109 (dk_at dksX0_orderless_0 4 rfl rfl)
theorem dX0_orderless_7 : decode cX0_orderless 7 = .ok (.ifCond .ne 7, 3) := dk_154 0 7 (dk_at dksX0_orderless_0 7 rfl rfl)
theorem dX0_orderless_10 : decode cX0_orderless 10 = .ok (.iconst (-1), 1) := dk_2 (dk_at dksX0_orderless_0 10 rfl rfl)
theorem dX0_orderless_11 : decode cX0_orderless 11 = .ok (.goto 16, 3) := dk_167 0 16 (dk_at dksX0_orderless_0 11 rfl rfl)
theorem dX0_orderless_14 : decode cX0_orderless 14 = .ok (.aload_n 0, 1) := dk_42 (dk_at dksX0_orderless_0 14 rfl rfl)
theorem dX0_orderless_15 : decode cX0_orderless 15 = .ok (.iload_n 1, 1) := dk_27 (dk_at dksX0_orderless_0 15 rfl rfl)
theorem dX0_orderless_16 : decode cX0_orderless 16 = .ok (.invokevirtual 372, 3) := dk_182 1 116 (dk_at dksX0_orderless_0 16 rfl rfl)
theorem dX0_orderless_19 : decode cX0_orderless 19 = .ok (.ifCond .eq 7, 3) := dk_153 0 7 (dk_at dksX0_orderless_0 19 rfl rfl)
theorem dX0_orderless_22 : decode cX0_orderless 22 = .ok (.iconst 1, 1) := dk_4 (dk_at dksX0_orderless_0 22 rfl rfl)
theorem dX0_orderless_23 : decode cX0_orderless 23 = .ok (.goto 4, 3) := dk_167 0 4 (dk_at dksX0_orderless_1 0 rfl rfl)
theorem dX0_orderless_26 : decode cX0_orderless 26 = .ok (.iconst 0, 1) := dk_3 (dk_at dksX0_orderless_1 3 rfl rfl)
theorem dX0_orderless_27 : decode cX0_orderless 27 = .ok (.ireturn, 1) := dk_172 (dk_at dksX0_orderless_1 4 rfl rfl)
abbrev cX0_isOrderless : ByteArray := prog_1_method_60_code
def yX0_isOrderless : MethodName := ⟨RX0, "isOrderless", "(I)Z"⟩
def dkwX0_isOrderless_0 : List UInt8 := [42, 27, 3, 182, 1, 112, 42, 180, 1, 79, 42, 180, 1, 82, 160, 0, 7, 4, 167, 0, 4, 3, 172]
abbrev dktX0_isOrderless_0 : List UInt8 := dkwX0_isOrderless_0 ++ []
theorem dksX0_isOrderless_0 : cX0_isOrderless.data.toList.drop 0 = dktX0_isOrderless_0 := by decide +kernel
theorem dX0_isOrderless_0 : decode cX0_isOrderless 0 = .ok (.aload_n 0, 1) := dk_42 (dk_at dksX0_isOrderless_0 0 rfl rfl)
theorem dX0_isOrderless_1 : decode cX0_isOrderless 1 = .ok (.iload_n 1, 1) := dk_27 (dk_at dksX0_isOrderless_0 1 rfl rfl)
theorem dX0_isOrderless_2 : decode cX0_isOrderless 2 = .ok (.iconst 0, 1) := dk_3 (dk_at dksX0_isOrderless_0 2 rfl rfl)
theorem dX0_isOrderless_3 : decode cX0_isOrderless 3 = .ok (.invokevirtual 368, 3) := dk_182 1 112 (dk_at dksX0_isOrderless_0 3 rfl rfl)
theorem dX0_isOrderless_6 : decode cX0_isOrderless 6 = .ok (.aload_n 0, 1) := dk_42 (dk_at dksX0_isOrderless_0 6 rfl rfl)
theorem dX0_isOrderless_7 : decode cX0_isOrderless 7 = .ok (.getfield 335, 3) := dk_180 1 79 (dk_at dksX0_isOrderless_0 7 rfl rfl)
theorem dX0_isOrderless_10 : decode cX0_isOrderless 10 = .ok (.aload_n 0, 1) := dk_42 (dk_at dksX0_isOrderless_0 10 rfl rfl)
theorem dX0_isOrderless_11 : decode cX0_isOrderless 11 = .ok (.getfield 338, 3) := dk_180 1 82 (dk_at dksX0_isOrderless_0 11 rfl rfl)
theorem dX0_isOrderless_14 : decode cX0_isOrderless 14 = .ok (.if_icmp .ne 7, 3) := dk_160 0 7 (dk_at dksX0_isOrderless_0 14 rfl rfl)
theorem dX0_isOrderless_17 : decode cX0_isOrderless 17 = .ok (.iconst 1, 1) := dk_4 (dk_at dksX0_isOrderless_0 17 rfl rfl)
theorem dX0_isOrderless_18 : decode cX0_isOrderless 18 = .ok (.goto 4, 3) := dk_167 0 4 (dk_at dksX0_isOrderless_0 18 rfl rfl)
theorem dX0_isOrderless_21 : decode cX0_isOrderless 21 = .ok (.iconst 0, 1) := dk_3 (dk_at dksX0_isOrderless_0 21 rfl rfl)
theorem dX0_isOrderless_22 : decode cX0_isOrderless 22 = .ok (.ireturn, 1) := dk_172 (dk_at dksX0_isOrderless_0 22 rfl rfl)
abbrev cX0_sticking : ByteArray := prog_1_method_62_code
def yX0_sticking : MethodName := ⟨RX0, "sticking", "(I)I"⟩
def dkwX0_sticking_4 : List UInt8 := [79, 29, 172]
abbrev dktX0_sticking_4 : List UInt8 := dkwX0_sticking_4 ++ []
def dkwX0_sticking_3 : List UInt8 := [21, 4, 153, 0, 7, 4, 167, 0, 4, 3, 96, 62, 167, 255, 213, 42, 180, 0, 12, 180, 0, 74, 6, 28]
abbrev dktX0_sticking_3 : List UInt8 := dkwX0_sticking_3 ++ dktX0_sticking_4
def dkwX0_sticking_2 : List UInt8 := [162, 0, 38, 42, 180, 0, 12, 180, 0, 74, 6, 29, 4, 96, 79, 42, 27, 182, 1, 116, 54, 4, 29]
abbrev dktX0_sticking_2 : List UInt8 := dkwX0_sticking_2 ++ dktX0_sticking_3
def dkwX0_sticking_1 : List UInt8 := [180, 0, 12, 180, 0, 74, 6, 46, 61, 2, 62, 4, 54, 4, 21, 4, 153, 0, 44, 29, 16, 99]
abbrev dktX0_sticking_1 : List UInt8 := dkwX0_sticking_1 ++ dktX0_sticking_2
def dkwX0_sticking_0 : List UInt8 := [42, 27, 8, 182, 1, 109, 153, 0, 15, 42, 182, 0, 167, 180, 0, 141, 4, 50, 198, 0, 5, 2, 172, 42]
abbrev dktX0_sticking_0 : List UInt8 := dkwX0_sticking_0 ++ dktX0_sticking_1
theorem dksX0_sticking_0 : cX0_sticking.data.toList.drop 0 = dktX0_sticking_0 := by decide +kernel
theorem dksX0_sticking_1 : cX0_sticking.data.toList.drop 24 = dktX0_sticking_1 := dk_seg dksX0_sticking_0 24 rfl rfl
theorem dksX0_sticking_2 : cX0_sticking.data.toList.drop 46 = dktX0_sticking_2 := dk_seg dksX0_sticking_1 22 rfl rfl
theorem dksX0_sticking_3 : cX0_sticking.data.toList.drop 69 = dktX0_sticking_3 := dk_seg dksX0_sticking_2 23 rfl rfl
theorem dksX0_sticking_4 : cX0_sticking.data.toList.drop 93 = dktX0_sticking_4 := dk_seg dksX0_sticking_3 24 rfl rfl
theorem dX0_sticking_0 : decode cX0_sticking 0 = .ok (.aload_n 0, 1) := dk_42 (dk_at dksX0_sticking_0 0 rfl rfl)
theorem dX0_sticking_1 : decode cX0_sticking 1 = .ok (.iload_n 1, 1) := dk_27 (dk_at dksX0_sticking_0 1 rfl rfl)
theorem dX0_sticking_2 : decode cX0_sticking 2 = .ok (.iconst 5, 1) := dk_8 (dk_at dksX0_sticking_0 2 rfl rfl)
theorem dX0_sticking_3 : decode cX0_sticking 3 = .ok (.invokevirtual 365, 3) := dk_182 1 109 (dk_at dksX0_sticking_0 3 rfl rfl)
theorem dX0_sticking_6 : decode cX0_sticking 6 = .ok (.ifCond .eq 15, 3) := dk_153 0 15 (dk_at dksX0_sticking_0 6 rfl rfl)
theorem dX0_sticking_9 : decode cX0_sticking 9 = .ok (.aload_n 0, 1) := dk_42 (dk_at dksX0_sticking_0 9 rfl rfl)
theorem dX0_sticking_10 : decode cX0_sticking 10 = .ok (.invokevirtual 167, 3) := dk_182 0 167 (dk_at dksX0_sticking_0 10 rfl rfl)
theorem dX0_sticking_13 : decode cX0_sticking 13 = .ok (.getfield 141, 3) := dk_180 0 141 (dk_at dksX0_sticking_0 13 rfl rfl)
theorem dX0_sticking_16 : decode cX0_sticking 16 = .ok (.iconst 1, 1) := dk_4 (dk_at dksX0_sticking_0 16 rfl rfl)
theorem dX0_sticking_17 : decode cX0_sticking 17 = .ok (.aaload, 1) := dk_50 (dk_at dksX0_sticking_0 17 rfl rfl)
theorem dX0_sticking_18 : decode cX0_sticking 18 = .ok (.ifnull 5, 3) := dk_198 0 5 (dk_at dksX0_sticking_0 18 rfl rfl)
theorem dX0_sticking_21 : decode cX0_sticking 21 = .ok (.iconst (-1), 1) := dk_2 (dk_at dksX0_sticking_0 21 rfl rfl)
theorem dX0_sticking_22 : decode cX0_sticking 22 = .ok (.ireturn, 1) := dk_172 (dk_at dksX0_sticking_0 22 rfl rfl)
theorem dX0_sticking_23 : decode cX0_sticking 23 = .ok (.aload_n 0, 1) := dk_42 (dk_at dksX0_sticking_0 23 rfl rfl)
theorem dX0_sticking_24 : decode cX0_sticking 24 = .ok (.getfield 12, 3) := dk_180 0 12 (dk_at dksX0_sticking_1 0 rfl rfl)
theorem dX0_sticking_27 : decode cX0_sticking 27 = .ok (.getfield 74, 3) := dk_180 0 74 (dk_at dksX0_sticking_1 3 rfl rfl)
theorem dX0_sticking_30 : decode cX0_sticking 30 = .ok (.iconst 3, 1) := dk_6 (dk_at dksX0_sticking_1 6 rfl rfl)
theorem dX0_sticking_31 : decode cX0_sticking 31 = .ok (.iaload, 1) := dk_46 (dk_at dksX0_sticking_1 7 rfl rfl)
theorem dX0_sticking_32 : decode cX0_sticking 32 = .ok (.istore_n 2, 1) := dk_61 (dk_at dksX0_sticking_1 8 rfl rfl)
theorem dX0_sticking_33 : decode cX0_sticking 33 = .ok (.iconst (-1), 1) := dk_2 (dk_at dksX0_sticking_1 9 rfl rfl)
theorem dX0_sticking_34 : decode cX0_sticking 34 = .ok (.istore_n 3, 1) := dk_62 (dk_at dksX0_sticking_1 10 rfl rfl)
theorem dX0_sticking_35 : decode cX0_sticking 35 = .ok (.iconst 1, 1) := dk_4 (dk_at dksX0_sticking_1 11 rfl rfl)
theorem dX0_sticking_36 : decode cX0_sticking 36 = .ok (.istore 4, 2) := dk_54 4 (dk_at dksX0_sticking_1 12 rfl rfl)
theorem dX0_sticking_38 : decode cX0_sticking 38 = .ok (.iload 4, 2) := dk_21 4 (dk_at dksX0_sticking_1 14 rfl rfl)
theorem dX0_sticking_40 : decode cX0_sticking 40 = .ok (.ifCond .eq 44, 3) := dk_153 0 44 (dk_at dksX0_sticking_1 16 rfl rfl)
theorem dX0_sticking_43 : decode cX0_sticking 43 = .ok (.iload_n 3, 1) := dk_29 (dk_at dksX0_sticking_1 19 rfl rfl)
theorem dX0_sticking_44 : decode cX0_sticking 44 = .ok (.bipush 99, 2) := dk_16 99 (dk_at dksX0_sticking_1 20 rfl rfl)
theorem dX0_sticking_46 : decode cX0_sticking 46 = .ok (.if_icmp .ge 38, 3) := dk_162 0 38 (dk_at dksX0_sticking_2 0 rfl rfl)
theorem dX0_sticking_49 : decode cX0_sticking 49 = .ok (.aload_n 0, 1) := dk_42 (dk_at dksX0_sticking_2 3 rfl rfl)
theorem dX0_sticking_50 : decode cX0_sticking 50 = .ok (.getfield 12, 3) := dk_180 0 12 (dk_at dksX0_sticking_2 4 rfl rfl)
theorem dX0_sticking_53 : decode cX0_sticking 53 = .ok (.getfield 74, 3) := dk_180 0 74 (dk_at dksX0_sticking_2 7 rfl rfl)
theorem dX0_sticking_56 : decode cX0_sticking 56 = .ok (.iconst 3, 1) := dk_6 (dk_at dksX0_sticking_2 10 rfl rfl)
theorem dX0_sticking_57 : decode cX0_sticking 57 = .ok (.iload_n 3, 1) := dk_29 (dk_at dksX0_sticking_2 11 rfl rfl)
theorem dX0_sticking_58 : decode cX0_sticking 58 = .ok (.iconst 1, 1) := dk_4 (dk_at dksX0_sticking_2 12 rfl rfl)
theorem dX0_sticking_59 : decode cX0_sticking 59 = .ok (.iadd, 1) := dk_96 (dk_at dksX0_sticking_2 13 rfl rfl)
theorem dX0_sticking_60 : decode cX0_sticking 60 = .ok (.iastore, 1) := dk_79 (dk_at dksX0_sticking_2 14 rfl rfl)
theorem dX0_sticking_61 : decode cX0_sticking 61 = .ok (.aload_n 0, 1) := dk_42 (dk_at dksX0_sticking_2 15 rfl rfl)
theorem dX0_sticking_62 : decode cX0_sticking 62 = .ok (.iload_n 1, 1) := dk_27 (dk_at dksX0_sticking_2 16 rfl rfl)
theorem dX0_sticking_63 : decode cX0_sticking 63 = .ok (.invokevirtual 372, 3) := dk_182 1 116 (dk_at dksX0_sticking_2 17 rfl rfl)
theorem dX0_sticking_66 : decode cX0_sticking 66 = .ok (.istore 4, 2) := dk_54 4 (dk_at dksX0_sticking_2 20 rfl rfl)
theorem dX0_sticking_68 : decode cX0_sticking 68 = .ok (.iload_n 3, 1) := dk_29 (dk_at dksX0_sticking_2 22 rfl rfl)
theorem dX0_sticking_69 : decode cX0_sticking 69 = .ok (.iload 4, 2) := dk_21 4 (dk_at dksX0_sticking_3 0 rfl rfl)
theorem dX0_sticking_71 : decode cX0_sticking 71 = .ok (.ifCond .eq 7, 3) := dk_153 0 7 (dk_at dksX0_sticking_3 2 rfl rfl)
theorem dX0_sticking_74 : decode cX0_sticking 74 = .ok (.iconst 1, 1) := dk_4 (dk_at dksX0_sticking_3 5 rfl rfl)
theorem dX0_sticking_75 : decode cX0_sticking 75 = .ok (.goto 4, 3) := dk_167 0 4 (dk_at dksX0_sticking_3 6 rfl rfl)
theorem dX0_sticking_78 : decode cX0_sticking 78 = .ok (.iconst 0, 1) := dk_3 (dk_at dksX0_sticking_3 9 rfl rfl)
theorem dX0_sticking_79 : decode cX0_sticking 79 = .ok (.iadd, 1) := dk_96 (dk_at dksX0_sticking_3 10 rfl rfl)
theorem dX0_sticking_80 : decode cX0_sticking 80 = .ok (.istore_n 3, 1) := dk_62 (dk_at dksX0_sticking_3 11 rfl rfl)
theorem dX0_sticking_81 : decode cX0_sticking 81 = .ok (.goto (-43), 3) := dk_167 255 213 (dk_at dksX0_sticking_3 12 rfl rfl)
theorem dX0_sticking_84 : decode cX0_sticking 84 = .ok (.aload_n 0, 1) := dk_42 (dk_at dksX0_sticking_3 15 rfl rfl)
theorem dX0_sticking_85 : decode cX0_sticking 85 = .ok (.getfield 12, 3) := dk_180 0 12 (dk_at dksX0_sticking_3 16 rfl rfl)
theorem dX0_sticking_88 : decode cX0_sticking 88 = .ok (.getfield 74, 3) := dk_180 0 74 (dk_at dksX0_sticking_3 19 rfl rfl)
theorem dX0_sticking_91 : decode cX0_sticking 91 = .ok (.iconst 3, 1) := dk_6 (dk_at dksX0_sticking_3 22 rfl rfl)
theorem dX0_sticking_92 : decode cX0_sticking 92 = .ok (.iload_n 2, 1) := dk_28 (dk_at dksX0_sticking_3 23 rfl rfl)
theorem dX0_sticking_93 : decode cX0_sticking 93 = .ok (.iastore, 1) := dk_79 (dk_at dksX0_sticking_4 0 rfl rfl)
theorem dX0_sticking_94 : decode cX0_sticking 94 = .ok (.iload_n 3, 1) := dk_29 (dk_at dksX0_sticking_4 1 rfl rfl)
theorem dX0_sticking_95 : decode cX0_sticking 95 = .ok (.ireturn, 1) := dk_172 (dk_at dksX0_sticking_4 2 rfl rfl)
abbrev cX0_truly : ByteArray := prog_1_method_63_code
def yX0_truly : MethodName := ⟨RX0, "truly", "(I)I"⟩
def dkwX0_truly_2 : List UInt8 := [132, 3, 1, 167, 255, 221, 28, 172]
abbrev dktX0_truly_2 : List UInt8 := dkwX0_truly_2 ++ []
def dkwX0_truly_1 : List UInt8 := [162, 0, 28, 28, 42, 29, 27, 182, 1, 60, 153, 0, 7, 3, 167, 0, 6, 4, 29, 120, 128, 61]
abbrev dktX0_truly_1 : List UInt8 := dkwX0_truly_1 ++ dktX0_truly_2
def dkwX0_truly_0 : List UInt8 := [42, 27, 182, 0, 84, 154, 0, 5, 2, 172, 3, 61, 3, 62, 29, 42, 180, 0, 12, 180, 0, 74, 5, 46]
abbrev dktX0_truly_0 : List UInt8 := dkwX0_truly_0 ++ dktX0_truly_1
theorem dksX0_truly_0 : cX0_truly.data.toList.drop 0 = dktX0_truly_0 := by decide +kernel
theorem dksX0_truly_1 : cX0_truly.data.toList.drop 24 = dktX0_truly_1 := dk_seg dksX0_truly_0 24 rfl rfl
theorem dksX0_truly_2 : cX0_truly.data.toList.drop 46 = dktX0_truly_2 := dk_seg dksX0_truly_1 22 rfl rfl
theorem dX0_truly_0 : decode cX0_truly 0 = .ok (.aload_n 0, 1) := dk_42 (dk_at dksX0_truly_0 0 rfl rfl)
theorem dX0_truly_1 : decode cX0_truly 1 = .ok (.iload_n 1, 1) := dk_27 (dk_at dksX0_truly_0 1 rfl rfl)
theorem dX0_truly_2 : decode cX0_truly 2 = .ok (.invokevirtual 84, 3) := dk_182 0 84 (dk_at dksX0_truly_0 2 rfl rfl)
theorem dX0_truly_5 : decode cX0_truly 5 = .ok (.ifCond .ne 5, 3) := dk_154 0 5 (dk_at dksX0_truly_0 5 rfl rfl)
theorem dX0_truly_8 : decode cX0_truly 8 = .ok (.iconst (-1), 1) := dk_2 (dk_at dksX0_truly_0 8 rfl rfl)
theorem dX0_truly_9 : decode cX0_truly 9 = .ok (.ireturn, 1) := dk_172 (dk_at dksX0_truly_0 9 rfl rfl)
theorem dX0_truly_10 : decode cX0_truly 10 = .ok (.iconst 0, 1) := dk_3 (dk_at dksX0_truly_0 10 rfl rfl)
theorem dX0_truly_11 : decode cX0_truly 11 = .ok (.istore_n 2, 1) := dk_61 (dk_at dksX0_truly_0 11 rfl rfl)
theorem dX0_truly_12 : decode cX0_truly 12 = .ok (.iconst 0, 1) := dk_3 (dk_at dksX0_truly_0 12 rfl rfl)
theorem dX0_truly_13 : decode cX0_truly 13 = .ok (.istore_n 3, 1) := dk_62 (dk_at dksX0_truly_0 13 rfl rfl)
theorem dX0_truly_14 : decode cX0_truly 14 = .ok (.iload_n 3, 1) := dk_29 (dk_at dksX0_truly_0 14 rfl rfl)
theorem dX0_truly_15 : decode cX0_truly 15 = .ok (.aload_n 0, 1) := dk_42 (dk_at dksX0_truly_0 15 rfl rfl)
theorem dX0_truly_16 : decode cX0_truly 16 = .ok (.getfield 12, 3) := dk_180 0 12 (dk_at dksX0_truly_0 16 rfl rfl)
theorem dX0_truly_19 : decode cX0_truly 19 = .ok (.getfield 74, 3) := dk_180 0 74 (dk_at dksX0_truly_0 19 rfl rfl)
theorem dX0_truly_22 : decode cX0_truly 22 = .ok (.iconst 2, 1) := dk_5 (dk_at dksX0_truly_0 22 rfl rfl)
theorem dX0_truly_23 : decode cX0_truly 23 = .ok (.iaload, 1) := dk_46 (dk_at dksX0_truly_0 23 rfl rfl)
theorem dX0_truly_24 : decode cX0_truly 24 = .ok (.if_icmp .ge 28, 3) := dk_162 0 28 (dk_at dksX0_truly_1 0 rfl rfl)
theorem dX0_truly_27 : decode cX0_truly 27 = .ok (.iload_n 2, 1) := dk_28 (dk_at dksX0_truly_1 3 rfl rfl)
theorem dX0_truly_28 : decode cX0_truly 28 = .ok (.aload_n 0, 1) := dk_42 (dk_at dksX0_truly_1 4 rfl rfl)
theorem dX0_truly_29 : decode cX0_truly 29 = .ok (.iload_n 3, 1) := dk_29 (dk_at dksX0_truly_1 5 rfl rfl)
theorem dX0_truly_30 : decode cX0_truly 30 = .ok (.iload_n 1, 1) := dk_27 (dk_at dksX0_truly_1 6 rfl rfl)
theorem dX0_truly_31 : decode cX0_truly 31 = .ok (.invokevirtual 316, 3) := dk_182 1 60 (dk_at dksX0_truly_1 7 rfl rfl)
theorem dX0_truly_34 : decode cX0_truly 34 = .ok (.ifCond .eq 7, 3) := dk_153 0 7 (dk_at dksX0_truly_1 10 rfl rfl)
theorem dX0_truly_37 : decode cX0_truly 37 = .ok (.iconst 0, 1) := dk_3 (dk_at dksX0_truly_1 13 rfl rfl)
theorem dX0_truly_38 : decode cX0_truly 38 = .ok (.goto 6, 3) := dk_167 0 6 (dk_at dksX0_truly_1 14 rfl rfl)
theorem dX0_truly_41 : decode cX0_truly 41 = .ok (.iconst 1, 1) := dk_4 (dk_at dksX0_truly_1 17 rfl rfl)
theorem dX0_truly_42 : decode cX0_truly 42 = .ok (.iload_n 3, 1) := dk_29 (dk_at dksX0_truly_1 18 rfl rfl)
theorem dX0_truly_43 : decode cX0_truly 43 = .ok (.ishl, 1) := dk_120 (dk_at dksX0_truly_1 19 rfl rfl)
theorem dX0_truly_44 : decode cX0_truly 44 = .ok (.ior, 1) := dk_128 (dk_at dksX0_truly_1 20 rfl rfl)
theorem dX0_truly_45 : decode cX0_truly 45 = .ok (.istore_n 2, 1) := dk_61 (dk_at dksX0_truly_1 21 rfl rfl)
theorem dX0_truly_46 : decode cX0_truly 46 = .ok (.iinc 3 1, 3) := dk_132 3 1 (dk_at dksX0_truly_2 0 rfl rfl)
theorem dX0_truly_49 : decode cX0_truly 49 = .ok (.goto (-35), 3) := dk_167 255 221 (dk_at dksX0_truly_2 3 rfl rfl)
theorem dX0_truly_52 : decode cX0_truly 52 = .ok (.iload_n 2, 1) := dk_28 (dk_at dksX0_truly_2 6 rfl rfl)
theorem dX0_truly_53 : decode cX0_truly 53 = .ok (.ireturn, 1) := dk_172 (dk_at dksX0_truly_2 7 rfl rfl)
abbrev cX0_lies : ByteArray := prog_1_method_65_code
def yX0_lies : MethodName := ⟨RX0, "lies", "(II)I"⟩
def dkwX0_lies_5 : List UInt8 := [182, 1, 125, 153, 0, 7, 21, 5, 54, 4, 132, 5, 1, 167, 255, 179, 21, 4, 172]
abbrev dktX0_lies_5 : List UInt8 := dkwX0_lies_5 ++ []
def dkwX0_lies_4 : List UInt8 := [2, 159, 0, 19, 21, 5, 184, 0, 185, 21, 4, 184, 0, 185, 161, 0, 6, 167, 0, 17, 42, 27, 21, 5]
abbrev dktX0_lies_4 : List UInt8 := dkwX0_lies_4 ++ dktX0_lies_5
def dkwX0_lies_3 : List UInt8 := [21, 5, 29, 2, 130, 126, 154, 0, 52, 29, 21, 5, 2, 130, 126, 184, 0, 185, 28, 163, 0, 39, 21, 4]
abbrev dktX0_lies_3 : List UInt8 := dkwX0_lies_3 ++ dktX0_lies_4
def dkwX0_lies_2 : List UInt8 := [62, 2, 54, 4, 3, 54, 5, 21, 5, 4, 42, 180, 0, 12, 180, 0, 74, 5, 46, 120, 162, 0, 67]
abbrev dktX0_lies_2 : List UInt8 := dkwX0_lies_2 ++ dktX0_lies_3
def dkwX0_lies_1 : List UInt8 := [182, 1, 57, 4, 42, 180, 0, 12, 180, 0, 74, 5, 46, 120, 4, 100, 42, 27, 182, 1, 122, 2, 130, 126]
abbrev dktX0_lies_1 : List UInt8 := dkwX0_lies_1 ++ dktX0_lies_2
def dkwX0_lies_0 : List UInt8 := [42, 27, 182, 0, 84, 153, 0, 13, 28, 3, 16, 8, 184, 0, 77, 154, 0, 5, 2, 172, 42, 27]
abbrev dktX0_lies_0 : List UInt8 := dkwX0_lies_0 ++ dktX0_lies_1
theorem dksX0_lies_0 : cX0_lies.data.toList.drop 0 = dktX0_lies_0 := by decide +kernel
theorem dksX0_lies_1 : cX0_lies.data.toList.drop 22 = dktX0_lies_1 := dk_seg dksX0_lies_0 22 rfl rfl
theorem dksX0_lies_2 : cX0_lies.data.toList.drop 46 = dktX0_lies_2 := dk_seg dksX0_lies_1 24 rfl rfl
theorem dksX0_lies_3 : cX0_lies.data.toList.drop 69 = dktX0_lies_3 := dk_seg dksX0_lies_2 23 rfl rfl
theorem dksX0_lies_4 : cX0_lies.data.toList.drop 93 = dktX0_lies_4 := dk_seg dksX0_lies_3 24 rfl rfl
theorem dksX0_lies_5 : cX0_lies.data.toList.drop 117 = dktX0_lies_5 := dk_seg dksX0_lies_4 24 rfl rfl
theorem dX0_lies_0 : decode cX0_lies 0 = .ok (.aload_n 0, 1) := dk_42 (dk_at dksX0_lies_0 0 rfl rfl)
theorem dX0_lies_1 : decode cX0_lies 1 = .ok (.iload_n 1, 1) := dk_27 (dk_at dksX0_lies_0 1 rfl rfl)
theorem dX0_lies_2 : decode cX0_lies 2 = .ok (.invokevirtual 84, 3) := dk_182 0 84 (dk_at dksX0_lies_0 2 rfl rfl)
theorem dX0_lies_5 : decode cX0_lies 5 = .ok (.ifCond .eq 13, 3) := dk_153 0 13 (dk_at dksX0_lies_0 5 rfl rfl)
theorem dX0_lies_8 : decode cX0_lies 8 = .ok (.iload_n 2, 1) := dk_28 (dk_at dksX0_lies_0 8 rfl rfl)
theorem dX0_lies_9 : decode cX0_lies 9 = .ok (.iconst 0, 1) := dk_3 (dk_at dksX0_lies_0 9 rfl rfl)
theorem dX0_lies_10 : decode cX0_lies 10 = .ok (.bipush 8, 2) := dk_16 8 (dk_at dksX0_lies_0 10 rfl rfl)
theorem dX0_lies_12 : decode cX0_lies 12 = .ok (.invokestatic 77, 3) := dk_184 0 77 (dk_at dksX0_lies_0 12 rfl rfl)
theorem dX0_lies_15 : decode cX0_lies 15 = .ok (.ifCond .ne 5, 3) := dk_154 0 5 (dk_at dksX0_lies_0 15 rfl rfl)
theorem dX0_lies_18 : decode cX0_lies 18 = .ok (.iconst (-1), 1) := dk_2 (dk_at dksX0_lies_0 18 rfl rfl)
theorem dX0_lies_19 : decode cX0_lies 19 = .ok (.ireturn, 1) := dk_172 (dk_at dksX0_lies_0 19 rfl rfl)
theorem dX0_lies_20 : decode cX0_lies 20 = .ok (.aload_n 0, 1) := dk_42 (dk_at dksX0_lies_0 20 rfl rfl)
theorem dX0_lies_21 : decode cX0_lies 21 = .ok (.iload_n 1, 1) := dk_27 (dk_at dksX0_lies_0 21 rfl rfl)
theorem dX0_lies_22 : decode cX0_lies 22 = .ok (.invokevirtual 313, 3) := dk_182 1 57 (dk_at dksX0_lies_1 0 rfl rfl)
theorem dX0_lies_25 : decode cX0_lies 25 = .ok (.iconst 1, 1) := dk_4 (dk_at dksX0_lies_1 3 rfl rfl)
theorem dX0_lies_26 : decode cX0_lies 26 = .ok (.aload_n 0, 1) := dk_42 (dk_at dksX0_lies_1 4 rfl rfl)
theorem dX0_lies_27 : decode cX0_lies 27 = .ok (.getfield 12, 3) := dk_180 0 12 (dk_at dksX0_lies_1 5 rfl rfl)
theorem dX0_lies_30 : decode cX0_lies 30 = .ok (.getfield 74, 3) := dk_180 0 74 (dk_at dksX0_lies_1 8 rfl rfl)
theorem dX0_lies_33 : decode cX0_lies 33 = .ok (.iconst 2, 1) := dk_5 (dk_at dksX0_lies_1 11 rfl rfl)
theorem dX0_lies_34 : decode cX0_lies 34 = .ok (.iaload, 1) := dk_46 (dk_at dksX0_lies_1 12 rfl rfl)
theorem dX0_lies_35 : decode cX0_lies 35 = .ok (.ishl, 1) := dk_120 (dk_at dksX0_lies_1 13 rfl rfl)
theorem dX0_lies_36 : decode cX0_lies 36 = .ok (.iconst 1, 1) := dk_4 (dk_at dksX0_lies_1 14 rfl rfl)
theorem dX0_lies_37 : decode cX0_lies 37 = .ok (.isub, 1) := dk_100 (dk_at dksX0_lies_1 15 rfl rfl)
theorem dX0_lies_38 : decode cX0_lies 38 = .ok (.aload_n 0, 1) := dk_42 (dk_at dksX0_lies_1 16 rfl rfl)
theorem dX0_lies_39 : decode cX0_lies 39 = .ok (.iload_n 1, 1) := dk_27 (dk_at dksX0_lies_1 17 rfl rfl)
theorem dX0_lies_40 : decode cX0_lies 40 = .ok (.invokevirtual 378, 3) := dk_182 1 122 (dk_at dksX0_lies_1 18 rfl rfl)
theorem dX0_lies_43 : decode cX0_lies 43 = .ok (.iconst (-1), 1) := dk_2 (dk_at dksX0_lies_1 21 rfl rfl)
theorem dX0_lies_44 : decode cX0_lies 44 = .ok (.ixor, 1) := dk_130 (dk_at dksX0_lies_1 22 rfl rfl)
theorem dX0_lies_45 : decode cX0_lies 45 = .ok (.iand, 1) := dk_126 (dk_at dksX0_lies_1 23 rfl rfl)
theorem dX0_lies_46 : decode cX0_lies 46 = .ok (.istore_n 3, 1) := dk_62 (dk_at dksX0_lies_2 0 rfl rfl)
theorem dX0_lies_47 : decode cX0_lies 47 = .ok (.iconst (-1), 1) := dk_2 (dk_at dksX0_lies_2 1 rfl rfl)
theorem dX0_lies_48 : decode cX0_lies 48 = .ok (.istore 4, 2) := dk_54 4 (dk_at dksX0_lies_2 2 rfl rfl)
theorem dX0_lies_50 : decode cX0_lies 50 = .ok (.iconst 0, 1) := dk_3 (dk_at dksX0_lies_2 4 rfl rfl)
theorem dX0_lies_51 : decode cX0_lies 51 = .ok (.istore 5, 2) := dk_54 5 (dk_at dksX0_lies_2 5 rfl rfl)
theorem dX0_lies_53 : decode cX0_lies 53 = .ok (.iload 5, 2) := dk_21 5 (dk_at dksX0_lies_2 7 rfl rfl)
theorem dX0_lies_55 : decode cX0_lies 55 = .ok (.iconst 1, 1) := dk_4 (dk_at dksX0_lies_2 9 rfl rfl)
theorem dX0_lies_56 : decode cX0_lies 56 = .ok (.aload_n 0, 1) := dk_42 (dk_at dksX0_lies_2 10 rfl rfl)
theorem dX0_lies_57 : decode cX0_lies 57 = .ok (.getfield 12, 3) := dk_180 0 12 (dk_at dksX0_lies_2 11 rfl rfl)
theorem dX0_lies_60 : decode cX0_lies 60 = .ok (.getfield 74, 3) := dk_180 0 74 (dk_at dksX0_lies_2 14 rfl rfl)
theorem dX0_lies_63 : decode cX0_lies 63 = .ok (.iconst 2, 1) := dk_5 (dk_at dksX0_lies_2 17 rfl rfl)
theorem dX0_lies_64 : decode cX0_lies 64 = .ok (.iaload, 1) := dk_46 (dk_at dksX0_lies_2 18 rfl rfl)
theorem dX0_lies_65 : decode cX0_lies 65 = .ok (.ishl, 1) := dk_120 (dk_at dksX0_lies_2 19 rfl rfl)
theorem dX0_lies_66 : decode cX0_lies 66 = .ok (.if_icmp .ge 67, 3) := dk_162 0 67 (dk_at dksX0_lies_2 20 rfl rfl)
theorem dX0_lies_69 : decode cX0_lies 69 = .ok (.iload 5, 2) := dk_21 5 (dk_at dksX0_lies_3 0 rfl rfl)
theorem dX0_lies_71 : decode cX0_lies 71 = .ok (.iload_n 3, 1) := dk_29 (dk_at dksX0_lies_3 2 rfl rfl)
theorem dX0_lies_72 : decode cX0_lies 72 = .ok (.iconst (-1), 1) := dk_2 (dk_at dksX0_lies_3 3 rfl rfl)
theorem dX0_lies_73 : decode cX0_lies 73 = .ok (.ixor, 1) := dk_130 (dk_at dksX0_lies_3 4 rfl rfl)
theorem dX0_lies_74 : decode cX0_lies 74 = .ok (.iand, 1) := dk_126 (dk_at dksX0_lies_3 5 rfl rfl)
theorem dX0_lies_75 : decode cX0_lies 75 = .ok (.ifCond .ne 52, 3) := dk_154 0 52 (dk_at dksX0_lies_3 6 rfl rfl)
theorem dX0_lies_78 : decode cX0_lies 78 = .ok (.iload_n 3, 1) := dk_29 (dk_at dksX0_lies_3 9 rfl rfl)
theorem dX0_lies_79 : decode cX0_lies 79 = .ok (.iload 5, 2) := dk_21 5 (dk_at dksX0_lies_3 10 rfl rfl)
theorem dX0_lies_81 : decode cX0_lies 81 = .ok (.iconst (-1), 1) := dk_2 (dk_at dksX0_lies_3 12 rfl rfl)
theorem dX0_lies_82 : decode cX0_lies 82 = .ok (.ixor, 1) := dk_130 (dk_at dksX0_lies_3 13 rfl rfl)
theorem dX0_lies_83 : decode cX0_lies 83 = .ok (.iand, 1) := dk_126 (dk_at dksX0_lies_3 14 rfl rfl)
theorem dX0_lies_84 : decode cX0_lies 84 = .ok (.invokestatic 185, 3) := dk_184 0 185 (dk_at dksX0_lies_3 15 rfl rfl)
theorem dX0_lies_87 : decode cX0_lies 87 = .ok (.iload_n 2, 1) := dk_28 (dk_at dksX0_lies_3 18 rfl rfl)
theorem dX0_lies_88 : decode cX0_lies 88 = .ok (.if_icmp .gt 39, 3) := dk_163 0 39 (dk_at dksX0_lies_3 19 rfl rfl)
theorem dX0_lies_91 : decode cX0_lies 91 = .ok (.iload 4, 2) := dk_21 4 (dk_at dksX0_lies_3 22 rfl rfl)
theorem dX0_lies_93 : decode cX0_lies 93 = .ok (.iconst (-1), 1) := dk_2 (dk_at dksX0_lies_4 0 rfl rfl)
theorem dX0_lies_94 : decode cX0_lies 94 = .ok (.if_icmp .eq 19, 3) := dk_159 0 19 (dk_at dksX0_lies_4 1 rfl rfl)
theorem dX0_lies_97 : decode cX0_lies 97 = .ok (.iload 5, 2) := dk_21 5 (dk_at dksX0_lies_4 4 rfl rfl)
theorem dX0_lies_99 : decode cX0_lies 99 = .ok (.invokestatic 185, 3) := dk_184 0 185 (dk_at dksX0_lies_4 6 rfl rfl)
theorem dX0_lies_102 : decode cX0_lies 102 = .ok (.iload 4, 2) := dk_21 4 (dk_at dksX0_lies_4 9 rfl rfl)
theorem dX0_lies_104 : decode cX0_lies 104 = .ok (.invokestatic 185, 3) := dk_184 0 185 (dk_at dksX0_lies_4 11 rfl rfl)
theorem dX0_lies_107 : decode cX0_lies 107 = .ok (.if_icmp .lt 6, 3) := dk_161 0 6 (dk_at dksX0_lies_4 14 rfl rfl)
theorem dX0_lies_110 : decode cX0_lies 110 = .ok (.goto 17, 3) := dk_167 0 17 (dk_at dksX0_lies_4 17 rfl rfl)
theorem dX0_lies_113 : decode cX0_lies 113 = .ok (.aload_n 0, 1) := dk_42 (dk_at dksX0_lies_4 20 rfl rfl)
theorem dX0_lies_114 : decode cX0_lies 114 = .ok (.iload_n 1, 1) := dk_27 (dk_at dksX0_lies_4 21 rfl rfl)
theorem dX0_lies_115 : decode cX0_lies 115 = .ok (.iload 5, 2) := dk_21 5 (dk_at dksX0_lies_4 22 rfl rfl)
theorem dX0_lies_117 : decode cX0_lies 117 = .ok (.invokevirtual 381, 3) := dk_182 1 125 (dk_at dksX0_lies_5 0 rfl rfl)
theorem dX0_lies_120 : decode cX0_lies 120 = .ok (.ifCond .eq 7, 3) := dk_153 0 7 (dk_at dksX0_lies_5 3 rfl rfl)
theorem dX0_lies_123 : decode cX0_lies 123 = .ok (.iload 5, 2) := dk_21 5 (dk_at dksX0_lies_5 6 rfl rfl)
theorem dX0_lies_125 : decode cX0_lies 125 = .ok (.istore 4, 2) := dk_54 4 (dk_at dksX0_lies_5 8 rfl rfl)
theorem dX0_lies_127 : decode cX0_lies 127 = .ok (.iinc 5 1, 3) := dk_132 5 1 (dk_at dksX0_lies_5 10 rfl rfl)
theorem dX0_lies_130 : decode cX0_lies 130 = .ok (.goto (-77), 3) := dk_167 255 179 (dk_at dksX0_lies_5 13 rfl rfl)
theorem dX0_lies_133 : decode cX0_lies 133 = .ok (.iload 4, 2) := dk_21 4 (dk_at dksX0_lies_5 16 rfl rfl)
theorem dX0_lies_135 : decode cX0_lies 135 = .ok (.ireturn, 1) := dk_172 (dk_at dksX0_lies_5 18 rfl rfl)
abbrev cX0_getsBy : ByteArray := prog_1_method_64_code
def yX0_getsBy : MethodName := ⟨RX0, "getsBy", "(II)Z"⟩
def dkwX0_getsBy_4 : List UInt8 := [167, 0, 4, 3, 172]
abbrev dktX0_getsBy_4 : List UInt8 := dkwX0_getsBy_4 ++ []
def dkwX0_getsBy_3 : List UInt8 := [182, 0, 227, 87, 132, 4, 1, 167, 255, 219, 42, 27, 45, 180, 1, 119, 182, 0, 235, 153, 0, 7, 4]
abbrev dktX0_getsBy_3 : List UInt8 := dkwX0_getsBy_3 ++ dktX0_getsBy_4
def dkwX0_getsBy_2 : List UInt8 := [180, 0, 74, 5, 46, 162, 0, 29, 28, 21, 4, 184, 0, 174, 154, 0, 6, 167, 0, 11, 45, 21, 4, 3]
abbrev dktX0_getsBy_2 : List UInt8 := dkwX0_getsBy_2 ++ dktX0_getsBy_3
def dkwX0_getsBy_1 : List UInt8 := [180, 0, 34, 21, 4, 46, 182, 0, 219, 132, 4, 1, 167, 255, 233, 3, 54, 4, 21, 4, 42, 180, 0, 12]
abbrev dktX0_getsBy_1 : List UInt8 := dkwX0_getsBy_1 ++ dktX0_getsBy_2
def dkwX0_getsBy_0 : List UInt8 := [187, 0, 206, 89, 42, 27, 183, 0, 208, 78, 3, 54, 4, 21, 4, 42, 180, 1, 51, 162, 0, 20, 45, 42]
abbrev dktX0_getsBy_0 : List UInt8 := dkwX0_getsBy_0 ++ dktX0_getsBy_1
theorem dksX0_getsBy_0 : cX0_getsBy.data.toList.drop 0 = dktX0_getsBy_0 := by decide +kernel
theorem dksX0_getsBy_1 : cX0_getsBy.data.toList.drop 24 = dktX0_getsBy_1 := dk_seg dksX0_getsBy_0 24 rfl rfl
theorem dksX0_getsBy_2 : cX0_getsBy.data.toList.drop 48 = dktX0_getsBy_2 := dk_seg dksX0_getsBy_1 24 rfl rfl
theorem dksX0_getsBy_3 : cX0_getsBy.data.toList.drop 72 = dktX0_getsBy_3 := dk_seg dksX0_getsBy_2 24 rfl rfl
theorem dksX0_getsBy_4 : cX0_getsBy.data.toList.drop 95 = dktX0_getsBy_4 := dk_seg dksX0_getsBy_3 23 rfl rfl
theorem dX0_getsBy_0 : decode cX0_getsBy 0 = .ok (.new 206, 3) := dk_187 0 206 (dk_at dksX0_getsBy_0 0 rfl rfl)
theorem dX0_getsBy_3 : decode cX0_getsBy 3 = .ok (.dup, 1) := dk_89 (dk_at dksX0_getsBy_0 3 rfl rfl)
theorem dX0_getsBy_4 : decode cX0_getsBy 4 = .ok (.aload_n 0, 1) := dk_42 (dk_at dksX0_getsBy_0 4 rfl rfl)
theorem dX0_getsBy_5 : decode cX0_getsBy 5 = .ok (.iload_n 1, 1) := dk_27 (dk_at dksX0_getsBy_0 5 rfl rfl)
theorem dX0_getsBy_6 : decode cX0_getsBy 6 = .ok (.invokespecial 208, 3) := dk_183 0 208 (dk_at dksX0_getsBy_0 6 rfl rfl)
theorem dX0_getsBy_9 : decode cX0_getsBy 9 = .ok (.astore_n 3, 1) := dk_78 (dk_at dksX0_getsBy_0 9 rfl rfl)
theorem dX0_getsBy_10 : decode cX0_getsBy 10 = .ok (.iconst 0, 1) := dk_3 (dk_at dksX0_getsBy_0 10 rfl rfl)
theorem dX0_getsBy_11 : decode cX0_getsBy 11 = .ok (.istore 4, 2) := dk_54 4 (dk_at dksX0_getsBy_0 11 rfl rfl)
theorem dX0_getsBy_13 : decode cX0_getsBy 13 = .ok (.iload 4, 2) := dk_21 4 (dk_at dksX0_getsBy_0 13 rfl rfl)
theorem dX0_getsBy_15 : decode cX0_getsBy 15 = .ok (.aload_n 0, 1) := dk_42 (dk_at dksX0_getsBy_0 15 rfl rfl)
theorem dX0_getsBy_16 : decode cX0_getsBy 16 = .ok (.getfield 307, 3) := dk_180 1 51 (dk_at dksX0_getsBy_0 16 rfl rfl)
theorem dX0_getsBy_19 : decode cX0_getsBy 19 = .ok (.if_icmp .ge 20, 3) := dk_162 0 20 (dk_at dksX0_getsBy_0 19 rfl rfl)
theorem dX0_getsBy_22 : decode cX0_getsBy 22 = .ok (.aload_n 3, 1) := dk_45 (dk_at dksX0_getsBy_0 22 rfl rfl)
theorem dX0_getsBy_23 : decode cX0_getsBy 23 = .ok (.aload_n 0, 1) := dk_42 (dk_at dksX0_getsBy_0 23 rfl rfl)
theorem dX0_getsBy_24 : decode cX0_getsBy 24 = .ok (.getfield 34, 3) := dk_180 0 34 (dk_at dksX0_getsBy_1 0 rfl rfl)
theorem dX0_getsBy_27 : decode cX0_getsBy 27 = .ok (.iload 4, 2) := dk_21 4 (dk_at dksX0_getsBy_1 3 rfl rfl)
theorem dX0_getsBy_29 : decode cX0_getsBy 29 = .ok (.iaload, 1) := dk_46 (dk_at dksX0_getsBy_1 5 rfl rfl)
theorem dX0_getsBy_30 : decode cX0_getsBy 30 = .ok (.invokevirtual 219, 3) := dk_182 0 219 (dk_at dksX0_getsBy_1 6 rfl rfl)
theorem dX0_getsBy_33 : decode cX0_getsBy 33 = .ok (.iinc 4 1, 3) := dk_132 4 1 (dk_at dksX0_getsBy_1 9 rfl rfl)
theorem dX0_getsBy_36 : decode cX0_getsBy 36 = .ok (.goto (-23), 3) := dk_167 255 233 (dk_at dksX0_getsBy_1 12 rfl rfl)
theorem dX0_getsBy_39 : decode cX0_getsBy 39 = .ok (.iconst 0, 1) := dk_3 (dk_at dksX0_getsBy_1 15 rfl rfl)
theorem dX0_getsBy_40 : decode cX0_getsBy 40 = .ok (.istore 4, 2) := dk_54 4 (dk_at dksX0_getsBy_1 16 rfl rfl)
theorem dX0_getsBy_42 : decode cX0_getsBy 42 = .ok (.iload 4, 2) := dk_21 4 (dk_at dksX0_getsBy_1 18 rfl rfl)
theorem dX0_getsBy_44 : decode cX0_getsBy 44 = .ok (.aload_n 0, 1) := dk_42 (dk_at dksX0_getsBy_1 20 rfl rfl)
theorem dX0_getsBy_45 : decode cX0_getsBy 45 = .ok (.getfield 12, 3) := dk_180 0 12 (dk_at dksX0_getsBy_1 21 rfl rfl)
theorem dX0_getsBy_48 : decode cX0_getsBy 48 = .ok (.getfield 74, 3) := dk_180 0 74 (dk_at dksX0_getsBy_2 0 rfl rfl)
theorem dX0_getsBy_51 : decode cX0_getsBy 51 = .ok (.iconst 2, 1) := dk_5 (dk_at dksX0_getsBy_2 3 rfl rfl)
theorem dX0_getsBy_52 : decode cX0_getsBy 52 = .ok (.iaload, 1) := dk_46 (dk_at dksX0_getsBy_2 4 rfl rfl)
theorem dX0_getsBy_53 : decode cX0_getsBy 53 = .ok (.if_icmp .ge 29, 3) := dk_162 0 29 (dk_at dksX0_getsBy_2 5 rfl rfl)
theorem dX0_getsBy_56 : decode cX0_getsBy 56 = .ok (.iload_n 2, 1) := dk_28 (dk_at dksX0_getsBy_2 8 rfl rfl)
theorem dX0_getsBy_57 : decode cX0_getsBy 57 = .ok (.iload 4, 2) := dk_21 4 (dk_at dksX0_getsBy_2 9 rfl rfl)
theorem dX0_getsBy_59 : decode cX0_getsBy 59 = .ok (.invokestatic 174, 3) := dk_184 0 174 (dk_at dksX0_getsBy_2 11 rfl rfl)
theorem dX0_getsBy_62 : decode cX0_getsBy 62 = .ok (.ifCond .ne 6, 3) := dk_154 0 6 (dk_at dksX0_getsBy_2 14 rfl rfl)
theorem dX0_getsBy_65 : decode cX0_getsBy 65 = .ok (.goto 11, 3) := dk_167 0 11 (dk_at dksX0_getsBy_2 17 rfl rfl)
theorem dX0_getsBy_68 : decode cX0_getsBy 68 = .ok (.aload_n 3, 1) := dk_45 (dk_at dksX0_getsBy_2 20 rfl rfl)
theorem dX0_getsBy_69 : decode cX0_getsBy 69 = .ok (.iload 4, 2) := dk_21 4 (dk_at dksX0_getsBy_2 21 rfl rfl)
theorem dX0_getsBy_71 : decode cX0_getsBy 71 = .ok (.iconst 0, 1) := dk_3 (dk_at dksX0_getsBy_2 23 rfl rfl)
theorem dX0_getsBy_72 : decode cX0_getsBy 72 = .ok (.invokevirtual 227, 3) := dk_182 0 227 (dk_at dksX0_getsBy_3 0 rfl rfl)
theorem dX0_getsBy_75 : decode cX0_getsBy 75 = .ok (.pop, 1) := dk_87 (dk_at dksX0_getsBy_3 3 rfl rfl)
theorem dX0_getsBy_76 : decode cX0_getsBy 76 = .ok (.iinc 4 1, 3) := dk_132 4 1 (dk_at dksX0_getsBy_3 4 rfl rfl)
theorem dX0_getsBy_79 : decode cX0_getsBy 79 = .ok (.goto (-37), 3) := dk_167 255 219 (dk_at dksX0_getsBy_3 7 rfl rfl)
theorem dX0_getsBy_82 : decode cX0_getsBy 82 = .ok (.aload_n 0, 1) := dk_42 (dk_at dksX0_getsBy_3 10 rfl rfl)
theorem dX0_getsBy_83 : decode cX0_getsBy 83 = .ok (.iload_n 1, 1) := dk_27 (dk_at dksX0_getsBy_3 11 rfl rfl)
theorem dX0_getsBy_84 : decode cX0_getsBy 84 = .ok (.aload_n 3, 1) := dk_45 (dk_at dksX0_getsBy_3 12 rfl rfl)
theorem dX0_getsBy_85 : decode cX0_getsBy 85 = .ok (.getfield 375, 3) := dk_180 1 119 (dk_at dksX0_getsBy_3 13 rfl rfl)
theorem dX0_getsBy_88 : decode cX0_getsBy 88 = .ok (.invokevirtual 235, 3) := dk_182 0 235 (dk_at dksX0_getsBy_3 16 rfl rfl)
theorem dX0_getsBy_91 : decode cX0_getsBy 91 = .ok (.ifCond .eq 7, 3) := dk_153 0 7 (dk_at dksX0_getsBy_3 19 rfl rfl)
theorem dX0_getsBy_94 : decode cX0_getsBy 94 = .ok (.iconst 1, 1) := dk_4 (dk_at dksX0_getsBy_3 22 rfl rfl)
theorem dX0_getsBy_95 : decode cX0_getsBy 95 = .ok (.goto 4, 3) := dk_167 0 4 (dk_at dksX0_getsBy_4 0 rfl rfl)
theorem dX0_getsBy_98 : decode cX0_getsBy 98 = .ok (.iconst 0, 1) := dk_3 (dk_at dksX0_getsBy_4 3 rfl rfl)
theorem dX0_getsBy_99 : decode cX0_getsBy 99 = .ok (.ireturn, 1) := dk_172 (dk_at dksX0_getsBy_4 4 rfl rfl)
abbrev cX0_lending : ByteArray := prog_1_method_71_code
def yX0_lending : MethodName := ⟨RX0, "lending", "(II)I"⟩
def dkwX0_lending_2 : List UInt8 := [180, 0, 57, 27, 50, 28, 46, 167, 0, 4, 2, 172]
abbrev dktX0_lending_2 : List UInt8 := dkwX0_lending_2 ++ []
def dkwX0_lending_1 : List UInt8 := [153, 0, 34, 42, 28, 182, 0, 84, 153, 0, 26, 27, 28, 159, 0, 21, 42, 182, 1, 140, 153, 0, 14, 42]
abbrev dktX0_lending_1 : List UInt8 := dkwX0_lending_1 ++ dktX0_lending_2
def dkwX0_lending_0 : List UInt8 := [27, 2, 160, 0, 16, 42, 182, 1, 140, 153, 0, 7, 4, 167, 0, 4, 3, 172, 42, 27, 182, 0, 84]
abbrev dktX0_lending_0 : List UInt8 := dkwX0_lending_0 ++ dktX0_lending_1
theorem dksX0_lending_0 : cX0_lending.data.toList.drop 0 = dktX0_lending_0 := by decide +kernel
theorem dksX0_lending_1 : cX0_lending.data.toList.drop 23 = dktX0_lending_1 := dk_seg dksX0_lending_0 23 rfl rfl
theorem dksX0_lending_2 : cX0_lending.data.toList.drop 47 = dktX0_lending_2 := dk_seg dksX0_lending_1 24 rfl rfl
theorem dX0_lending_0 : decode cX0_lending 0 = .ok (.iload_n 1, 1) := dk_27 (dk_at dksX0_lending_0 0 rfl rfl)
theorem dX0_lending_1 : decode cX0_lending 1 = .ok (.iconst (-1), 1) := dk_2 (dk_at dksX0_lending_0 1 rfl rfl)
theorem dX0_lending_2 : decode cX0_lending 2 = .ok (.if_icmp .ne 16, 3) := dk_160 0 16 (dk_at dksX0_lending_0 2 rfl rfl)
theorem dX0_lending_5 : decode cX0_lending 5 = .ok (.aload_n 0, 1) := dk_42 (dk_at dksX0_lending_0 5 rfl rfl)
theorem dX0_lending_6 : decode cX0_lending 6 = .ok (.invokevirtual 396, 3) := dk_182 1 140 (dk_at dksX0_lending_0 6 rfl rfl)
theorem dX0_lending_9 : decode cX0_lending 9 = .ok (.ifCond .eq 7, 3) := dk_153 0 7 (dk_at dksX0_lending_0 9 rfl rfl)
theorem dX0_lending_12 : decode cX0_lending 12 = .ok (.iconst 1, 1) := dk_4 (dk_at dksX0_lending_0 12 rfl rfl)
theorem dX0_lending_13 : decode cX0_lending 13 = .ok (.goto 4, 3) := dk_167 0 4 (dk_at dksX0_lending_0 13 rfl rfl)
theorem dX0_lending_16 : decode cX0_lending 16 = .ok (.iconst 0, 1) := dk_3 (dk_at dksX0_lending_0 16 rfl rfl)
theorem dX0_lending_17 : decode cX0_lending 17 = .ok (.ireturn, 1) := dk_172 (dk_at dksX0_lending_0 17 rfl rfl)
theorem dX0_lending_18 : decode cX0_lending 18 = .ok (.aload_n 0, 1) := dk_42 (dk_at dksX0_lending_0 18 rfl rfl)
theorem dX0_lending_19 : decode cX0_lending 19 = .ok (.iload_n 1, 1) := dk_27 (dk_at dksX0_lending_0 19 rfl rfl)
theorem dX0_lending_20 : decode cX0_lending 20 = .ok (.invokevirtual 84, 3) := dk_182 0 84 (dk_at dksX0_lending_0 20 rfl rfl)
theorem dX0_lending_23 : decode cX0_lending 23 = .ok (.ifCond .eq 34, 3) := dk_153 0 34 (dk_at dksX0_lending_1 0 rfl rfl)
theorem dX0_lending_26 : decode cX0_lending 26 = .ok (.aload_n 0, 1) := dk_42 (dk_at dksX0_lending_1 3 rfl rfl)
theorem dX0_lending_27 : decode cX0_lending 27 = .ok (.iload_n 2, 1) := dk_28 (dk_at dksX0_lending_1 4 rfl rfl)
theorem dX0_lending_28 : decode cX0_lending 28 = .ok (.invokevirtual 84, 3) := dk_182 0 84 (dk_at dksX0_lending_1 5 rfl rfl)
theorem dX0_lending_31 : decode cX0_lending 31 = .ok (.ifCond .eq 26, 3) := dk_153 0 26 (dk_at dksX0_lending_1 8 rfl rfl)
theorem dX0_lending_34 : decode cX0_lending 34 = .ok (.iload_n 1, 1) := dk_27 (dk_at dksX0_lending_1 11 rfl rfl)
theorem dX0_lending_35 : decode cX0_lending 35 = .ok (.iload_n 2, 1) := dk_28 (dk_at dksX0_lending_1 12 rfl rfl)
theorem dX0_lending_36 : decode cX0_lending 36 = .ok (.if_icmp .eq 21, 3) := dk_159 0 21 (dk_at dksX0_lending_1 13 rfl rfl)
theorem dX0_lending_39 : decode cX0_lending 39 = .ok (.aload_n 0, 1) := dk_42 (dk_at dksX0_lending_1 16 rfl rfl)
theorem dX0_lending_40 : decode cX0_lending 40 = .ok (.invokevirtual 396, 3) := dk_182 1 140 (dk_at dksX0_lending_1 17 rfl rfl)
theorem dX0_lending_43 : decode cX0_lending 43 = .ok (.ifCond .eq 14, 3) := dk_153 0 14 (dk_at dksX0_lending_1 20 rfl rfl)
theorem dX0_lending_46 : decode cX0_lending 46 = .ok (.aload_n 0, 1) := dk_42 (dk_at dksX0_lending_1 23 rfl rfl)
theorem dX0_lending_47 : decode cX0_lending 47 = .ok (.getfield 57, 3) := dk_180 0 57 (dk_at dksX0_lending_2 0 rfl rfl)
theorem dX0_lending_50 : decode cX0_lending 50 = .ok (.iload_n 1, 1) := dk_27 (dk_at dksX0_lending_2 3 rfl rfl)
theorem dX0_lending_51 : decode cX0_lending 51 = .ok (.aaload, 1) := dk_50 (dk_at dksX0_lending_2 4 rfl rfl)
theorem dX0_lending_52 : decode cX0_lending 52 = .ok (.iload_n 2, 1) := dk_28 (dk_at dksX0_lending_2 5 rfl rfl)
theorem dX0_lending_53 : decode cX0_lending 53 = .ok (.iaload, 1) := dk_46 (dk_at dksX0_lending_2 6 rfl rfl)
theorem dX0_lending_54 : decode cX0_lending 54 = .ok (.goto 4, 3) := dk_167 0 4 (dk_at dksX0_lending_2 7 rfl rfl)
theorem dX0_lending_57 : decode cX0_lending 57 = .ok (.iconst (-1), 1) := dk_2 (dk_at dksX0_lending_2 10 rfl rfl)
theorem dX0_lending_58 : decode cX0_lending 58 = .ok (.ireturn, 1) := dk_172 (dk_at dksX0_lending_2 11 rfl rfl)
abbrev cX0_lendsAll : ByteArray := prog_1_method_70_code
def yX0_lendsAll : MethodName := ⟨RX0, "lendsAll", "()Z"⟩
def dkwX0_lendsAll_3 : List UInt8 := [167, 255, 216, 132, 1, 1, 167, 255, 195, 4, 172]
abbrev dktX0_lendsAll_3 : List UInt8 := dkwX0_lendsAll_3 ++ []
def dkwX0_lendsAll_2 : List UInt8 := [27, 46, 158, 0, 18, 42, 180, 0, 49, 28, 46, 158, 0, 9, 42, 27, 28, 182, 1, 137, 132, 2, 1]
abbrev dktX0_lendsAll_2 : List UInt8 := dkwX0_lendsAll_2 ++ dktX0_lendsAll_3
def dkwX0_lendsAll_1 : List UInt8 := [3, 46, 162, 0, 54, 3, 61, 28, 42, 180, 0, 12, 180, 0, 74, 3, 46, 162, 0, 33, 42, 180, 0, 46]
abbrev dktX0_lendsAll_1 : List UInt8 := dkwX0_lendsAll_1 ++ dktX0_lendsAll_2
def dkwX0_lendsAll_0 : List UInt8 := [42, 182, 1, 134, 42, 182, 1, 131, 2, 159, 0, 5, 3, 172, 3, 60, 27, 42, 180, 0, 12, 180, 0, 74]
abbrev dktX0_lendsAll_0 : List UInt8 := dkwX0_lendsAll_0 ++ dktX0_lendsAll_1
theorem dksX0_lendsAll_0 : cX0_lendsAll.data.toList.drop 0 = dktX0_lendsAll_0 := by decide +kernel
theorem dksX0_lendsAll_1 : cX0_lendsAll.data.toList.drop 24 = dktX0_lendsAll_1 := dk_seg dksX0_lendsAll_0 24 rfl rfl
theorem dksX0_lendsAll_2 : cX0_lendsAll.data.toList.drop 48 = dktX0_lendsAll_2 := dk_seg dksX0_lendsAll_1 24 rfl rfl
theorem dksX0_lendsAll_3 : cX0_lendsAll.data.toList.drop 71 = dktX0_lendsAll_3 := dk_seg dksX0_lendsAll_2 23 rfl rfl
theorem dX0_lendsAll_0 : decode cX0_lendsAll 0 = .ok (.aload_n 0, 1) := dk_42 (dk_at dksX0_lendsAll_0 0 rfl rfl)
theorem dX0_lendsAll_1 : decode cX0_lendsAll 1 = .ok (.invokevirtual 390, 3) := dk_182 1 134 (dk_at dksX0_lendsAll_0 1 rfl rfl)
theorem dX0_lendsAll_4 : decode cX0_lendsAll 4 = .ok (.aload_n 0, 1) := dk_42 (dk_at dksX0_lendsAll_0 4 rfl rfl)
theorem dX0_lendsAll_5 : decode cX0_lendsAll 5 = .ok (.invokevirtual 387, 3) := dk_182 1 131 (dk_at dksX0_lendsAll_0 5 rfl rfl)
theorem dX0_lendsAll_8 : decode cX0_lendsAll 8 = .ok (.iconst (-1), 1) := dk_2 (dk_at dksX0_lendsAll_0 8 rfl rfl)
theorem dX0_lendsAll_9 : decode cX0_lendsAll 9 = .ok (.if_icmp .eq 5, 3) := dk_159 0 5 (dk_at dksX0_lendsAll_0 9 rfl rfl)
theorem dX0_lendsAll_12 : decode cX0_lendsAll 12 = .ok (.iconst 0, 1) := dk_3 (dk_at dksX0_lendsAll_0 12 rfl rfl)
theorem dX0_lendsAll_13 : decode cX0_lendsAll 13 = .ok (.ireturn, 1) := dk_172 (dk_at dksX0_lendsAll_0 13 rfl rfl)
theorem dX0_lendsAll_14 : decode cX0_lendsAll 14 = .ok (.iconst 0, 1) := dk_3 (dk_at dksX0_lendsAll_0 14 rfl rfl)
theorem dX0_lendsAll_15 : decode cX0_lendsAll 15 = .ok (.istore_n 1, 1) := dk_60 (dk_at dksX0_lendsAll_0 15 rfl rfl)
theorem dX0_lendsAll_16 : decode cX0_lendsAll 16 = .ok (.iload_n 1, 1) := dk_27 (dk_at dksX0_lendsAll_0 16 rfl rfl)
theorem dX0_lendsAll_17 : decode cX0_lendsAll 17 = .ok (.aload_n 0, 1) := dk_42 (dk_at dksX0_lendsAll_0 17 rfl rfl)
theorem dX0_lendsAll_18 : decode cX0_lendsAll 18 = .ok (.getfield 12, 3) := dk_180 0 12 (dk_at dksX0_lendsAll_0 18 rfl rfl)
theorem dX0_lendsAll_21 : decode cX0_lendsAll 21 = .ok (.getfield 74, 3) := dk_180 0 74 (dk_at dksX0_lendsAll_0 21 rfl rfl)
theorem dX0_lendsAll_24 : decode cX0_lendsAll 24 = .ok (.iconst 0, 1) := dk_3 (dk_at dksX0_lendsAll_1 0 rfl rfl)
theorem dX0_lendsAll_25 : decode cX0_lendsAll 25 = .ok (.iaload, 1) := dk_46 (dk_at dksX0_lendsAll_1 1 rfl rfl)
theorem dX0_lendsAll_26 : decode cX0_lendsAll 26 = .ok (.if_icmp .ge 54, 3) := dk_162 0 54 (dk_at dksX0_lendsAll_1 2 rfl rfl)
theorem dX0_lendsAll_29 : decode cX0_lendsAll 29 = .ok (.iconst 0, 1) := dk_3 (dk_at dksX0_lendsAll_1 5 rfl rfl)
theorem dX0_lendsAll_30 : decode cX0_lendsAll 30 = .ok (.istore_n 2, 1) := dk_61 (dk_at dksX0_lendsAll_1 6 rfl rfl)
theorem dX0_lendsAll_31 : decode cX0_lendsAll 31 = .ok (.iload_n 2, 1) := dk_28 (dk_at dksX0_lendsAll_1 7 rfl rfl)
theorem dX0_lendsAll_32 : decode cX0_lendsAll 32 = .ok (.aload_n 0, 1) := dk_42 (dk_at dksX0_lendsAll_1 8 rfl rfl)
theorem dX0_lendsAll_33 : decode cX0_lendsAll 33 = .ok (.getfield 12, 3) := dk_180 0 12 (dk_at dksX0_lendsAll_1 9 rfl rfl)
theorem dX0_lendsAll_36 : decode cX0_lendsAll 36 = .ok (.getfield 74, 3) := dk_180 0 74 (dk_at dksX0_lendsAll_1 12 rfl rfl)
theorem dX0_lendsAll_39 : decode cX0_lendsAll 39 = .ok (.iconst 0, 1) := dk_3 (dk_at dksX0_lendsAll_1 15 rfl rfl)
theorem dX0_lendsAll_40 : decode cX0_lendsAll 40 = .ok (.iaload, 1) := dk_46 (dk_at dksX0_lendsAll_1 16 rfl rfl)
theorem dX0_lendsAll_41 : decode cX0_lendsAll 41 = .ok (.if_icmp .ge 33, 3) := dk_162 0 33 (dk_at dksX0_lendsAll_1 17 rfl rfl)
theorem dX0_lendsAll_44 : decode cX0_lendsAll 44 = .ok (.aload_n 0, 1) := dk_42 (dk_at dksX0_lendsAll_1 20 rfl rfl)
theorem dX0_lendsAll_45 : decode cX0_lendsAll 45 = .ok (.getfield 46, 3) := dk_180 0 46 (dk_at dksX0_lendsAll_1 21 rfl rfl)
theorem dX0_lendsAll_48 : decode cX0_lendsAll 48 = .ok (.iload_n 1, 1) := dk_27 (dk_at dksX0_lendsAll_2 0 rfl rfl)
theorem dX0_lendsAll_49 : decode cX0_lendsAll 49 = .ok (.iaload, 1) := dk_46 (dk_at dksX0_lendsAll_2 1 rfl rfl)
theorem dX0_lendsAll_50 : decode cX0_lendsAll 50 = .ok (.ifCond .le 18, 3) := dk_158 0 18 (dk_at dksX0_lendsAll_2 2 rfl rfl)
theorem dX0_lendsAll_53 : decode cX0_lendsAll 53 = .ok (.aload_n 0, 1) := dk_42 (dk_at dksX0_lendsAll_2 5 rfl rfl)
theorem dX0_lendsAll_54 : decode cX0_lendsAll 54 = .ok (.getfield 49, 3) := dk_180 0 49 (dk_at dksX0_lendsAll_2 6 rfl rfl)
theorem dX0_lendsAll_57 : decode cX0_lendsAll 57 = .ok (.iload_n 2, 1) := dk_28 (dk_at dksX0_lendsAll_2 9 rfl rfl)
theorem dX0_lendsAll_58 : decode cX0_lendsAll 58 = .ok (.iaload, 1) := dk_46 (dk_at dksX0_lendsAll_2 10 rfl rfl)
theorem dX0_lendsAll_59 : decode cX0_lendsAll 59 = .ok (.ifCond .le 9, 3) := dk_158 0 9 (dk_at dksX0_lendsAll_2 11 rfl rfl)
theorem dX0_lendsAll_62 : decode cX0_lendsAll 62 = .ok (.aload_n 0, 1) := dk_42 (dk_at dksX0_lendsAll_2 14 rfl rfl)
theorem dX0_lendsAll_63 : decode cX0_lendsAll 63 = .ok (.iload_n 1, 1) := dk_27 (dk_at dksX0_lendsAll_2 15 rfl rfl)
theorem dX0_lendsAll_64 : decode cX0_lendsAll 64 = .ok (.iload_n 2, 1) := dk_28 (dk_at dksX0_lendsAll_2 16 rfl rfl)
theorem dX0_lendsAll_65 : decode cX0_lendsAll 65 = .ok (.invokevirtual 393, 3) := dk_182 1 137 (dk_at dksX0_lendsAll_2 17 rfl rfl)
theorem dX0_lendsAll_68 : decode cX0_lendsAll 68 = .ok (.iinc 2 1, 3) := dk_132 2 1 (dk_at dksX0_lendsAll_2 20 rfl rfl)
theorem dX0_lendsAll_71 : decode cX0_lendsAll 71 = .ok (.goto (-40), 3) := dk_167 255 216 (dk_at dksX0_lendsAll_3 0 rfl rfl)
theorem dX0_lendsAll_74 : decode cX0_lendsAll 74 = .ok (.iinc 1 1, 3) := dk_132 1 1 (dk_at dksX0_lendsAll_3 3 rfl rfl)
theorem dX0_lendsAll_77 : decode cX0_lendsAll 77 = .ok (.goto (-61), 3) := dk_167 255 195 (dk_at dksX0_lendsAll_3 6 rfl rfl)
theorem dX0_lendsAll_80 : decode cX0_lendsAll 80 = .ok (.iconst 1, 1) := dk_4 (dk_at dksX0_lendsAll_3 9 rfl rfl)
theorem dX0_lendsAll_81 : decode cX0_lendsAll 81 = .ok (.ireturn, 1) := dk_172 (dk_at dksX0_lendsAll_3 10 rfl rfl)
abbrev cX0_laysLending : ByteArray := prog_1_method_66_code
def yX0_laysLending : MethodName := ⟨RX0, "laysLending", "()V"⟩
def dkwX0_laysLending_4 : List UInt8 := [132, 1, 1, 167, 255, 162, 177]
abbrev dktX0_laysLending_4 : List UInt8 := dkwX0_laysLending_4 ++ []
def dkwX0_laysLending_3 : List UInt8 := [180, 0, 105, 27, 50, 29, 46, 79, 42, 180, 0, 57, 27, 50, 29, 3, 79, 132, 3, 1, 167, 255, 212]
abbrev dktX0_laysLending_3 : List UInt8 := dkwX0_laysLending_3 ++ dktX0_laysLending_4
def dkwX0_laysLending_2 : List UInt8 := [29, 42, 180, 0, 12, 180, 0, 74, 3, 46, 162, 0, 37, 42, 180, 0, 54, 27, 50, 29, 42, 180, 0, 12]
abbrev dktX0_laysLending_2 : List UInt8 := dkwX0_laysLending_2 ++ dktX0_laysLending_3
def dkwX0_laysLending_1 : List UInt8 := [180, 0, 46, 27, 3, 28, 116, 184, 1, 85, 79, 42, 180, 0, 49, 27, 3, 28, 184, 1, 85, 79, 3, 62]
abbrev dktX0_laysLending_1 : List UInt8 := dkwX0_laysLending_1 ++ dktX0_laysLending_2
def dkwX0_laysLending_0 : List UInt8 := [3, 60, 27, 42, 180, 0, 12, 180, 0, 74, 3, 46, 162, 0, 87, 42, 27, 182, 1, 69, 61, 42]
abbrev dktX0_laysLending_0 : List UInt8 := dkwX0_laysLending_0 ++ dktX0_laysLending_1
theorem dksX0_laysLending_0 : cX0_laysLending.data.toList.drop 0 = dktX0_laysLending_0 := by decide +kernel
theorem dksX0_laysLending_1 : cX0_laysLending.data.toList.drop 22 = dktX0_laysLending_1 := dk_seg dksX0_laysLending_0 22 rfl rfl
theorem dksX0_laysLending_2 : cX0_laysLending.data.toList.drop 46 = dktX0_laysLending_2 := dk_seg dksX0_laysLending_1 24 rfl rfl
theorem dksX0_laysLending_3 : cX0_laysLending.data.toList.drop 70 = dktX0_laysLending_3 := dk_seg dksX0_laysLending_2 24 rfl rfl
theorem dksX0_laysLending_4 : cX0_laysLending.data.toList.drop 93 = dktX0_laysLending_4 := dk_seg dksX0_laysLending_3 23 rfl rfl
theorem dX0_laysLending_0 : decode cX0_laysLending 0 = .ok (.iconst 0, 1) := dk_3 (dk_at dksX0_laysLending_0 0 rfl rfl)
theorem dX0_laysLending_1 : decode cX0_laysLending 1 = .ok (.istore_n 1, 1) := dk_60 (dk_at dksX0_laysLending_0 1 rfl rfl)
theorem dX0_laysLending_2 : decode cX0_laysLending 2 = .ok (.iload_n 1, 1) := dk_27 (dk_at dksX0_laysLending_0 2 rfl rfl)
theorem dX0_laysLending_3 : decode cX0_laysLending 3 = .ok (.aload_n 0, 1) := dk_42 (dk_at dksX0_laysLending_0 3 rfl rfl)
theorem dX0_laysLending_4 : decode cX0_laysLending 4 = .ok (.getfield 12, 3) := dk_180 0 12 (dk_at dksX0_laysLending_0 4 rfl rfl)
theorem dX0_laysLending_7 : decode cX0_laysLending 7 = .ok (.getfield 74, 3) := dk_180 0 74 (dk_at dksX0_laysLending_0 7 rfl rfl)
theorem dX0_laysLending_10 : decode cX0_laysLending 10 = .ok (.iconst 0, 1) := dk_3 (dk_at dksX0_laysLending_0 10 rfl rfl)
theorem dX0_laysLending_11 : decode cX0_laysLending 11 = .ok (.iaload, 1) := dk_46 (dk_at dksX0_laysLending_0 11 rfl rfl)
theorem dX0_laysLending_12 : decode cX0_laysLending 12 = .ok (.if_icmp .ge 87, 3) := dk_162 0 87 (dk_at dksX0_laysLending_0 12 rfl rfl)
theorem dX0_laysLending_15 : decode cX0_laysLending 15 = .ok (.aload_n 0, 1) := dk_42 (dk_at dksX0_laysLending_0 15 rfl rfl)
theorem dX0_laysLending_16 : decode cX0_laysLending 16 = .ok (.iload_n 1, 1) := dk_27 (dk_at dksX0_laysLending_0 16 rfl rfl)
theorem dX0_laysLending_17 : decode cX0_laysLending 17 = .ok (.invokevirtual 325, 3) := dk_182 1 69 (dk_at dksX0_laysLending_0 17 rfl rfl)
theorem dX0_laysLending_20 : decode cX0_laysLending 20 = .ok (.istore_n 2, 1) := dk_61 (dk_at dksX0_laysLending_0 20 rfl rfl)
theorem dX0_laysLending_21 : decode cX0_laysLending 21 = .ok (.aload_n 0, 1) := dk_42 (dk_at dksX0_laysLending_0 21 rfl rfl)
theorem dX0_laysLending_22 : decode cX0_laysLending 22 = .ok (.getfield 46, 3) := dk_180 0 46 (dk_at dksX0_laysLending_1 0 rfl rfl)
theorem dX0_laysLending_25 : decode cX0_laysLending 25 = .ok (.iload_n 1, 1) := dk_27 (dk_at dksX0_laysLending_1 3 rfl rfl)
theorem dX0_laysLending_26 : decode cX0_laysLending 26 = .ok (.iconst 0, 1) := dk_3 (dk_at dksX0_laysLending_1 4 rfl rfl)
theorem dX0_laysLending_27 : decode cX0_laysLending 27 = .ok (.iload_n 2, 1) := dk_28 (dk_at dksX0_laysLending_1 5 rfl rfl)
theorem dX0_laysLending_28 : decode cX0_laysLending 28 = .ok (.ineg, 1) := dk_116 (dk_at dksX0_laysLending_1 6 rfl rfl)
theorem dX0_laysLending_29 : decode cX0_laysLending 29 = .ok (.invokestatic 341, 3) := dk_184 1 85 (dk_at dksX0_laysLending_1 7 rfl rfl)
theorem dX0_laysLending_32 : decode cX0_laysLending 32 = .ok (.iastore, 1) := dk_79 (dk_at dksX0_laysLending_1 10 rfl rfl)
theorem dX0_laysLending_33 : decode cX0_laysLending 33 = .ok (.aload_n 0, 1) := dk_42 (dk_at dksX0_laysLending_1 11 rfl rfl)
theorem dX0_laysLending_34 : decode cX0_laysLending 34 = .ok (.getfield 49, 3) := dk_180 0 49 (dk_at dksX0_laysLending_1 12 rfl rfl)
theorem dX0_laysLending_37 : decode cX0_laysLending 37 = .ok (.iload_n 1, 1) := dk_27 (dk_at dksX0_laysLending_1 15 rfl rfl)
theorem dX0_laysLending_38 : decode cX0_laysLending 38 = .ok (.iconst 0, 1) := dk_3 (dk_at dksX0_laysLending_1 16 rfl rfl)
theorem dX0_laysLending_39 : decode cX0_laysLending 39 = .ok (.iload_n 2, 1) := dk_28 (dk_at dksX0_laysLending_1 17 rfl rfl)
theorem dX0_laysLending_40 : decode cX0_laysLending 40 = .ok (.invokestatic 341, 3) := dk_184 1 85 (dk_at dksX0_laysLending_1 18 rfl rfl)
theorem dX0_laysLending_43 : decode cX0_laysLending 43 = .ok (.iastore, 1) := dk_79 (dk_at dksX0_laysLending_1 21 rfl rfl)
theorem dX0_laysLending_44 : decode cX0_laysLending 44 = .ok (.iconst 0, 1) := dk_3 (dk_at dksX0_laysLending_1 22 rfl rfl)
theorem dX0_laysLending_45 : decode cX0_laysLending 45 = .ok (.istore_n 3, 1) := dk_62 (dk_at dksX0_laysLending_1 23 rfl rfl)
theorem dX0_laysLending_46 : decode cX0_laysLending 46 = .ok (.iload_n 3, 1) := dk_29 (dk_at dksX0_laysLending_2 0 rfl rfl)
theorem dX0_laysLending_47 : decode cX0_laysLending 47 = .ok (.aload_n 0, 1) := dk_42 (dk_at dksX0_laysLending_2 1 rfl rfl)
theorem dX0_laysLending_48 : decode cX0_laysLending 48 = .ok (.getfield 12, 3) := dk_180 0 12 (dk_at dksX0_laysLending_2 2 rfl rfl)
theorem dX0_laysLending_51 : decode cX0_laysLending 51 = .ok (.getfield 74, 3) := dk_180 0 74 (dk_at dksX0_laysLending_2 5 rfl rfl)
theorem dX0_laysLending_54 : decode cX0_laysLending 54 = .ok (.iconst 0, 1) := dk_3 (dk_at dksX0_laysLending_2 8 rfl rfl)
theorem dX0_laysLending_55 : decode cX0_laysLending 55 = .ok (.iaload, 1) := dk_46 (dk_at dksX0_laysLending_2 9 rfl rfl)
theorem dX0_laysLending_56 : decode cX0_laysLending 56 = .ok (.if_icmp .ge 37, 3) := dk_162 0 37 (dk_at dksX0_laysLending_2 10 rfl rfl)
theorem dX0_laysLending_59 : decode cX0_laysLending 59 = .ok (.aload_n 0, 1) := dk_42 (dk_at dksX0_laysLending_2 13 rfl rfl)
theorem dX0_laysLending_60 : decode cX0_laysLending 60 = .ok (.getfield 54, 3) := dk_180 0 54 (dk_at dksX0_laysLending_2 14 rfl rfl)
theorem dX0_laysLending_63 : decode cX0_laysLending 63 = .ok (.iload_n 1, 1) := dk_27 (dk_at dksX0_laysLending_2 17 rfl rfl)
theorem dX0_laysLending_64 : decode cX0_laysLending 64 = .ok (.aaload, 1) := dk_50 (dk_at dksX0_laysLending_2 18 rfl rfl)
theorem dX0_laysLending_65 : decode cX0_laysLending 65 = .ok (.iload_n 3, 1) := dk_29 (dk_at dksX0_laysLending_2 19 rfl rfl)
theorem dX0_laysLending_66 : decode cX0_laysLending 66 = .ok (.aload_n 0, 1) := dk_42 (dk_at dksX0_laysLending_2 20 rfl rfl)
theorem dX0_laysLending_67 : decode cX0_laysLending 67 = .ok (.getfield 12, 3) := dk_180 0 12 (dk_at dksX0_laysLending_2 21 rfl rfl)
theorem dX0_laysLending_70 : decode cX0_laysLending 70 = .ok (.getfield 105, 3) := dk_180 0 105 (dk_at dksX0_laysLending_3 0 rfl rfl)
theorem dX0_laysLending_73 : decode cX0_laysLending 73 = .ok (.iload_n 1, 1) := dk_27 (dk_at dksX0_laysLending_3 3 rfl rfl)
theorem dX0_laysLending_74 : decode cX0_laysLending 74 = .ok (.aaload, 1) := dk_50 (dk_at dksX0_laysLending_3 4 rfl rfl)
theorem dX0_laysLending_75 : decode cX0_laysLending 75 = .ok (.iload_n 3, 1) := dk_29 (dk_at dksX0_laysLending_3 5 rfl rfl)
theorem dX0_laysLending_76 : decode cX0_laysLending 76 = .ok (.iaload, 1) := dk_46 (dk_at dksX0_laysLending_3 6 rfl rfl)
theorem dX0_laysLending_77 : decode cX0_laysLending 77 = .ok (.iastore, 1) := dk_79 (dk_at dksX0_laysLending_3 7 rfl rfl)
theorem dX0_laysLending_78 : decode cX0_laysLending 78 = .ok (.aload_n 0, 1) := dk_42 (dk_at dksX0_laysLending_3 8 rfl rfl)
theorem dX0_laysLending_79 : decode cX0_laysLending 79 = .ok (.getfield 57, 3) := dk_180 0 57 (dk_at dksX0_laysLending_3 9 rfl rfl)
theorem dX0_laysLending_82 : decode cX0_laysLending 82 = .ok (.iload_n 1, 1) := dk_27 (dk_at dksX0_laysLending_3 12 rfl rfl)
theorem dX0_laysLending_83 : decode cX0_laysLending 83 = .ok (.aaload, 1) := dk_50 (dk_at dksX0_laysLending_3 13 rfl rfl)
theorem dX0_laysLending_84 : decode cX0_laysLending 84 = .ok (.iload_n 3, 1) := dk_29 (dk_at dksX0_laysLending_3 14 rfl rfl)
theorem dX0_laysLending_85 : decode cX0_laysLending 85 = .ok (.iconst 0, 1) := dk_3 (dk_at dksX0_laysLending_3 15 rfl rfl)
theorem dX0_laysLending_86 : decode cX0_laysLending 86 = .ok (.iastore, 1) := dk_79 (dk_at dksX0_laysLending_3 16 rfl rfl)
theorem dX0_laysLending_87 : decode cX0_laysLending 87 = .ok (.iinc 3 1, 3) := dk_132 3 1 (dk_at dksX0_laysLending_3 17 rfl rfl)
theorem dX0_laysLending_90 : decode cX0_laysLending 90 = .ok (.goto (-44), 3) := dk_167 255 212 (dk_at dksX0_laysLending_3 20 rfl rfl)
theorem dX0_laysLending_93 : decode cX0_laysLending 93 = .ok (.iinc 1 1, 3) := dk_132 1 1 (dk_at dksX0_laysLending_4 0 rfl rfl)
theorem dX0_laysLending_96 : decode cX0_laysLending 96 = .ok (.goto (-94), 3) := dk_167 255 162 (dk_at dksX0_laysLending_4 3 rfl rfl)
theorem dX0_laysLending_99 : decode cX0_laysLending 99 = .ok (.return_, 1) := dk_177 (dk_at dksX0_laysLending_4 6 rfl rfl)
abbrev cX0_tooHeavy : ByteArray := prog_1_method_67_code
def yX0_tooHeavy : MethodName := ⟨RX0, "tooHeavy", "()I"⟩
def dkwX0_tooHeavy_4 : List UInt8 := [132, 1, 1, 167, 255, 163, 2, 172]
abbrev dktX0_tooHeavy_4 : List UInt8 := dkwX0_tooHeavy_4 ++ []
def dkwX0_tooHeavy_3 : List UInt8 := [126, 62, 132, 4, 1, 167, 255, 199, 29, 153, 0, 14, 28, 42, 27, 182, 1, 128, 164, 0, 5, 27, 172]
abbrev dktX0_tooHeavy_3 : List UInt8 := dkwX0_tooHeavy_3 ++ dktX0_tooHeavy_4
def dkwX0_tooHeavy_2 : List UInt8 := [180, 0, 46, 21, 4, 46, 96, 61, 29, 42, 180, 0, 46, 21, 4, 46, 158, 0, 7, 4, 167, 0, 4, 3]
abbrev dktX0_tooHeavy_2 : List UInt8 := dkwX0_tooHeavy_2 ++ dktX0_tooHeavy_3
def dkwX0_tooHeavy_1 : List UInt8 := [180, 0, 74, 3, 46, 162, 0, 49, 27, 21, 4, 184, 0, 174, 154, 0, 6, 167, 0, 31, 28, 42]
abbrev dktX0_tooHeavy_1 : List UInt8 := dkwX0_tooHeavy_1 ++ dktX0_tooHeavy_2
def dkwX0_tooHeavy_0 : List UInt8 := [4, 60, 27, 42, 182, 0, 98, 163, 0, 91, 3, 61, 4, 62, 3, 54, 4, 21, 4, 42, 180, 0, 12]
abbrev dktX0_tooHeavy_0 : List UInt8 := dkwX0_tooHeavy_0 ++ dktX0_tooHeavy_1
theorem dksX0_tooHeavy_0 : cX0_tooHeavy.data.toList.drop 0 = dktX0_tooHeavy_0 := by decide +kernel
theorem dksX0_tooHeavy_1 : cX0_tooHeavy.data.toList.drop 23 = dktX0_tooHeavy_1 := dk_seg dksX0_tooHeavy_0 23 rfl rfl
theorem dksX0_tooHeavy_2 : cX0_tooHeavy.data.toList.drop 45 = dktX0_tooHeavy_2 := dk_seg dksX0_tooHeavy_1 22 rfl rfl
theorem dksX0_tooHeavy_3 : cX0_tooHeavy.data.toList.drop 69 = dktX0_tooHeavy_3 := dk_seg dksX0_tooHeavy_2 24 rfl rfl
theorem dksX0_tooHeavy_4 : cX0_tooHeavy.data.toList.drop 92 = dktX0_tooHeavy_4 := dk_seg dksX0_tooHeavy_3 23 rfl rfl
theorem dX0_tooHeavy_0 : decode cX0_tooHeavy 0 = .ok (.iconst 1, 1) := dk_4 (dk_at dksX0_tooHeavy_0 0 rfl rfl)
theorem dX0_tooHeavy_1 : decode cX0_tooHeavy 1 = .ok (.istore_n 1, 1) := dk_60 (dk_at dksX0_tooHeavy_0 1 rfl rfl)
theorem dX0_tooHeavy_2 : decode cX0_tooHeavy 2 = .ok (.iload_n 1, 1) := dk_27 (dk_at dksX0_tooHeavy_0 2 rfl rfl)
theorem dX0_tooHeavy_3 : decode cX0_tooHeavy 3 = .ok (.aload_n 0, 1) := dk_42 (dk_at dksX0_tooHeavy_0 3 rfl rfl)
theorem dX0_tooHeavy_4 : decode cX0_tooHeavy 4 = .ok (.invokevirtual 98, 3) := dk_182 0 98 (dk_at dksX0_tooHeavy_0 4 rfl rfl)
theorem dX0_tooHeavy_7 : decode cX0_tooHeavy 7 = .ok (.if_icmp .gt 91, 3) := dk_163 0 91 (dk_at dksX0_tooHeavy_0 7 rfl rfl)
theorem dX0_tooHeavy_10 : decode cX0_tooHeavy 10 = .ok (.iconst 0, 1) := dk_3 (dk_at dksX0_tooHeavy_0 10 rfl rfl)
theorem dX0_tooHeavy_11 : decode cX0_tooHeavy 11 = .ok (.istore_n 2, 1) := dk_61 (dk_at dksX0_tooHeavy_0 11 rfl rfl)
theorem dX0_tooHeavy_12 : decode cX0_tooHeavy 12 = .ok (.iconst 1, 1) := dk_4 (dk_at dksX0_tooHeavy_0 12 rfl rfl)
theorem dX0_tooHeavy_13 : decode cX0_tooHeavy 13 = .ok (.istore_n 3, 1) := dk_62 (dk_at dksX0_tooHeavy_0 13 rfl rfl)
theorem dX0_tooHeavy_14 : decode cX0_tooHeavy 14 = .ok (.iconst 0, 1) := dk_3 (dk_at dksX0_tooHeavy_0 14 rfl rfl)
theorem dX0_tooHeavy_15 : decode cX0_tooHeavy 15 = .ok (.istore 4, 2) := dk_54 4 (dk_at dksX0_tooHeavy_0 15 rfl rfl)
theorem dX0_tooHeavy_17 : decode cX0_tooHeavy 17 = .ok (.iload 4, 2) := dk_21 4 (dk_at dksX0_tooHeavy_0 17 rfl rfl)
theorem dX0_tooHeavy_19 : decode cX0_tooHeavy 19 = .ok (.aload_n 0, 1) := dk_42 (dk_at dksX0_tooHeavy_0 19 rfl rfl)
theorem dX0_tooHeavy_20 : decode cX0_tooHeavy 20 = .ok (.getfield 12, 3) := dk_180 0 12 (dk_at dksX0_tooHeavy_0 20 rfl rfl)
theorem dX0_tooHeavy_23 : decode cX0_tooHeavy 23 = .ok (.getfield 74, 3) := dk_180 0 74 (dk_at dksX0_tooHeavy_1 0 rfl rfl)
theorem dX0_tooHeavy_26 : decode cX0_tooHeavy 26 = .ok (.iconst 0, 1) := dk_3 (dk_at dksX0_tooHeavy_1 3 rfl rfl)
theorem dX0_tooHeavy_27 : decode cX0_tooHeavy 27 = .ok (.iaload, 1) := dk_46 (dk_at dksX0_tooHeavy_1 4 rfl rfl)
theorem dX0_tooHeavy_28 : decode cX0_tooHeavy 28 = .ok (.if_icmp .ge 49, 3) := dk_162 0 49 (dk_at dksX0_tooHeavy_1 5 rfl rfl)
theorem dX0_tooHeavy_31 : decode cX0_tooHeavy 31 = .ok (.iload_n 1, 1) := dk_27 (dk_at dksX0_tooHeavy_1 8 rfl rfl)
theorem dX0_tooHeavy_32 : decode cX0_tooHeavy 32 = .ok (.iload 4, 2) := dk_21 4 (dk_at dksX0_tooHeavy_1 9 rfl rfl)
theorem dX0_tooHeavy_34 : decode cX0_tooHeavy 34 = .ok (.invokestatic 174, 3) := dk_184 0 174 (dk_at dksX0_tooHeavy_1 11 rfl rfl)
theorem dX0_tooHeavy_37 : decode cX0_tooHeavy 37 = .ok (.ifCond .ne 6, 3) := dk_154 0 6 (dk_at dksX0_tooHeavy_1 14 rfl rfl)
theorem dX0_tooHeavy_40 : decode cX0_tooHeavy 40 = .ok (.goto 31, 3) := dk_167 0 31 (dk_at dksX0_tooHeavy_1 17 rfl rfl)
theorem dX0_tooHeavy_43 : decode cX0_tooHeavy 43 = .ok (.iload_n 2, 1) := dk_28 (dk_at dksX0_tooHeavy_1 20 rfl rfl)
theorem dX0_tooHeavy_44 : decode cX0_tooHeavy 44 = .ok (.aload_n 0, 1) := dk_42 (dk_at dksX0_tooHeavy_1 21 rfl rfl)
theorem dX0_tooHeavy_45 : decode cX0_tooHeavy 45 = .ok (.getfield 46, 3) := dk_180 0 46 (dk_at dksX0_tooHeavy_2 0 rfl rfl)
theorem dX0_tooHeavy_48 : decode cX0_tooHeavy 48 = .ok (.iload 4, 2) := dk_21 4 (dk_at dksX0_tooHeavy_2 3 rfl rfl)
theorem dX0_tooHeavy_50 : decode cX0_tooHeavy 50 = .ok (.iaload, 1) := dk_46 (dk_at dksX0_tooHeavy_2 5 rfl rfl)
theorem dX0_tooHeavy_51 : decode cX0_tooHeavy 51 = .ok (.iadd, 1) := dk_96 (dk_at dksX0_tooHeavy_2 6 rfl rfl)
theorem dX0_tooHeavy_52 : decode cX0_tooHeavy 52 = .ok (.istore_n 2, 1) := dk_61 (dk_at dksX0_tooHeavy_2 7 rfl rfl)
theorem dX0_tooHeavy_53 : decode cX0_tooHeavy 53 = .ok (.iload_n 3, 1) := dk_29 (dk_at dksX0_tooHeavy_2 8 rfl rfl)
theorem dX0_tooHeavy_54 : decode cX0_tooHeavy 54 = .ok (.aload_n 0, 1) := dk_42 (dk_at dksX0_tooHeavy_2 9 rfl rfl)
theorem dX0_tooHeavy_55 : decode cX0_tooHeavy 55 = .ok (.getfield 46, 3) := dk_180 0 46 (dk_at dksX0_tooHeavy_2 10 rfl rfl)
theorem dX0_tooHeavy_58 : decode cX0_tooHeavy 58 = .ok (.iload 4, 2) := dk_21 4 (dk_at dksX0_tooHeavy_2 13 rfl rfl)
theorem dX0_tooHeavy_60 : decode cX0_tooHeavy 60 = .ok (.iaload, 1) := dk_46 (dk_at dksX0_tooHeavy_2 15 rfl rfl)
theorem dX0_tooHeavy_61 : decode cX0_tooHeavy 61 = .ok (.ifCond .le 7, 3) := dk_158 0 7 (dk_at dksX0_tooHeavy_2 16 rfl rfl)
theorem dX0_tooHeavy_64 : decode cX0_tooHeavy 64 = .ok (.iconst 1, 1) := dk_4 (dk_at dksX0_tooHeavy_2 19 rfl rfl)
theorem dX0_tooHeavy_65 : decode cX0_tooHeavy 65 = .ok (.goto 4, 3) := dk_167 0 4 (dk_at dksX0_tooHeavy_2 20 rfl rfl)
theorem dX0_tooHeavy_68 : decode cX0_tooHeavy 68 = .ok (.iconst 0, 1) := dk_3 (dk_at dksX0_tooHeavy_2 23 rfl rfl)
theorem dX0_tooHeavy_69 : decode cX0_tooHeavy 69 = .ok (.iand, 1) := dk_126 (dk_at dksX0_tooHeavy_3 0 rfl rfl)
theorem dX0_tooHeavy_70 : decode cX0_tooHeavy 70 = .ok (.istore_n 3, 1) := dk_62 (dk_at dksX0_tooHeavy_3 1 rfl rfl)
theorem dX0_tooHeavy_71 : decode cX0_tooHeavy 71 = .ok (.iinc 4 1, 3) := dk_132 4 1 (dk_at dksX0_tooHeavy_3 2 rfl rfl)
theorem dX0_tooHeavy_74 : decode cX0_tooHeavy 74 = .ok (.goto (-57), 3) := dk_167 255 199 (dk_at dksX0_tooHeavy_3 5 rfl rfl)
theorem dX0_tooHeavy_77 : decode cX0_tooHeavy 77 = .ok (.iload_n 3, 1) := dk_29 (dk_at dksX0_tooHeavy_3 8 rfl rfl)
theorem dX0_tooHeavy_78 : decode cX0_tooHeavy 78 = .ok (.ifCond .eq 14, 3) := dk_153 0 14 (dk_at dksX0_tooHeavy_3 9 rfl rfl)
theorem dX0_tooHeavy_81 : decode cX0_tooHeavy 81 = .ok (.iload_n 2, 1) := dk_28 (dk_at dksX0_tooHeavy_3 12 rfl rfl)
theorem dX0_tooHeavy_82 : decode cX0_tooHeavy 82 = .ok (.aload_n 0, 1) := dk_42 (dk_at dksX0_tooHeavy_3 13 rfl rfl)
theorem dX0_tooHeavy_83 : decode cX0_tooHeavy 83 = .ok (.iload_n 1, 1) := dk_27 (dk_at dksX0_tooHeavy_3 14 rfl rfl)
theorem dX0_tooHeavy_84 : decode cX0_tooHeavy 84 = .ok (.invokevirtual 384, 3) := dk_182 1 128 (dk_at dksX0_tooHeavy_3 15 rfl rfl)
theorem dX0_tooHeavy_87 : decode cX0_tooHeavy 87 = .ok (.if_icmp .le 5, 3) := dk_164 0 5 (dk_at dksX0_tooHeavy_3 18 rfl rfl)
theorem dX0_tooHeavy_90 : decode cX0_tooHeavy 90 = .ok (.iload_n 1, 1) := dk_27 (dk_at dksX0_tooHeavy_3 21 rfl rfl)
theorem dX0_tooHeavy_91 : decode cX0_tooHeavy 91 = .ok (.ireturn, 1) := dk_172 (dk_at dksX0_tooHeavy_3 22 rfl rfl)
theorem dX0_tooHeavy_92 : decode cX0_tooHeavy 92 = .ok (.iinc 1 1, 3) := dk_132 1 1 (dk_at dksX0_tooHeavy_4 0 rfl rfl)
theorem dX0_tooHeavy_95 : decode cX0_tooHeavy 95 = .ok (.goto (-93), 3) := dk_167 255 163 (dk_at dksX0_tooHeavy_4 3 rfl rfl)
theorem dX0_tooHeavy_98 : decode cX0_tooHeavy 98 = .ok (.iconst (-1), 1) := dk_2 (dk_at dksX0_tooHeavy_4 6 rfl rfl)
theorem dX0_tooHeavy_99 : decode cX0_tooHeavy 99 = .ok (.ireturn, 1) := dk_172 (dk_at dksX0_tooHeavy_4 7 rfl rfl)
abbrev cX0_takenOf : ByteArray := prog_1_method_68_code
def yX0_takenOf : MethodName := ⟨RX0, "takenOf", "(I)I"⟩
def dkwX0_takenOf_4 : List UInt8 := [172]
abbrev dktX0_takenOf_4 : List UInt8 := dkwX0_takenOf_4 ++ []
def dkwX0_takenOf_3 : List UInt8 := [167, 255, 212, 28, 42, 180, 0, 49, 29, 46, 21, 4, 184, 0, 238, 96, 61, 132, 3, 1, 167, 255, 173, 28]
abbrev dktX0_takenOf_3 : List UInt8 := dkwX0_takenOf_3 ++ dktX0_takenOf_4
def dkwX0_takenOf_2 : List UInt8 := [153, 0, 15, 42, 180, 0, 54, 21, 5, 50, 29, 46, 167, 0, 4, 3, 96, 54, 4, 132, 5, 1]
abbrev dktX0_takenOf_2 : List UInt8 := dkwX0_takenOf_2 ++ dktX0_takenOf_3
def dkwX0_takenOf_1 : List UInt8 := [21, 5, 42, 180, 0, 12, 180, 0, 74, 3, 46, 162, 0, 36, 21, 4, 27, 21, 5, 184, 0, 174]
abbrev dktX0_takenOf_1 : List UInt8 := dkwX0_takenOf_1 ++ dktX0_takenOf_2
def dkwX0_takenOf_0 : List UInt8 := [3, 61, 3, 62, 29, 42, 180, 0, 12, 180, 0, 74, 3, 46, 162, 0, 76, 3, 54, 4, 3, 54, 5]
abbrev dktX0_takenOf_0 : List UInt8 := dkwX0_takenOf_0 ++ dktX0_takenOf_1
theorem dksX0_takenOf_0 : cX0_takenOf.data.toList.drop 0 = dktX0_takenOf_0 := by decide +kernel
theorem dksX0_takenOf_1 : cX0_takenOf.data.toList.drop 23 = dktX0_takenOf_1 := dk_seg dksX0_takenOf_0 23 rfl rfl
theorem dksX0_takenOf_2 : cX0_takenOf.data.toList.drop 45 = dktX0_takenOf_2 := dk_seg dksX0_takenOf_1 22 rfl rfl
theorem dksX0_takenOf_3 : cX0_takenOf.data.toList.drop 67 = dktX0_takenOf_3 := dk_seg dksX0_takenOf_2 22 rfl rfl
theorem dksX0_takenOf_4 : cX0_takenOf.data.toList.drop 91 = dktX0_takenOf_4 := dk_seg dksX0_takenOf_3 24 rfl rfl
theorem dX0_takenOf_0 : decode cX0_takenOf 0 = .ok (.iconst 0, 1) := dk_3 (dk_at dksX0_takenOf_0 0 rfl rfl)
theorem dX0_takenOf_1 : decode cX0_takenOf 1 = .ok (.istore_n 2, 1) := dk_61 (dk_at dksX0_takenOf_0 1 rfl rfl)
theorem dX0_takenOf_2 : decode cX0_takenOf 2 = .ok (.iconst 0, 1) := dk_3 (dk_at dksX0_takenOf_0 2 rfl rfl)
theorem dX0_takenOf_3 : decode cX0_takenOf 3 = .ok (.istore_n 3, 1) := dk_62 (dk_at dksX0_takenOf_0 3 rfl rfl)
theorem dX0_takenOf_4 : decode cX0_takenOf 4 = .ok (.iload_n 3, 1) := dk_29 (dk_at dksX0_takenOf_0 4 rfl rfl)
theorem dX0_takenOf_5 : decode cX0_takenOf 5 = .ok (.aload_n 0, 1) := dk_42 (dk_at dksX0_takenOf_0 5 rfl rfl)
theorem dX0_takenOf_6 : decode cX0_takenOf 6 = .ok (.getfield 12, 3) := dk_180 0 12 (dk_at dksX0_takenOf_0 6 rfl rfl)
theorem dX0_takenOf_9 : decode cX0_takenOf 9 = .ok (.getfield 74, 3) := dk_180 0 74 (dk_at dksX0_takenOf_0 9 rfl rfl)
theorem dX0_takenOf_12 : decode cX0_takenOf 12 = .ok (.iconst 0, 1) := dk_3 (dk_at dksX0_takenOf_0 12 rfl rfl)
theorem dX0_takenOf_13 : decode cX0_takenOf 13 = .ok (.iaload, 1) := dk_46 (dk_at dksX0_takenOf_0 13 rfl rfl)
theorem dX0_takenOf_14 : decode cX0_takenOf 14 = .ok (.if_icmp .ge 76, 3) := dk_162 0 76 (dk_at dksX0_takenOf_0 14 rfl rfl)
theorem dX0_takenOf_17 : decode cX0_takenOf 17 = .ok (.iconst 0, 1) := dk_3 (dk_at dksX0_takenOf_0 17 rfl rfl)
theorem dX0_takenOf_18 : decode cX0_takenOf 18 = .ok (.istore 4, 2) := dk_54 4 (dk_at dksX0_takenOf_0 18 rfl rfl)
theorem dX0_takenOf_20 : decode cX0_takenOf 20 = .ok (.iconst 0, 1) := dk_3 (dk_at dksX0_takenOf_0 20 rfl rfl)
theorem dX0_takenOf_21 : decode cX0_takenOf 21 = .ok (.istore 5, 2) := dk_54 5 (dk_at dksX0_takenOf_0 21 rfl rfl)
theorem dX0_takenOf_23 : decode cX0_takenOf 23 = .ok (.iload 5, 2) := dk_21 5 (dk_at dksX0_takenOf_1 0 rfl rfl)
theorem dX0_takenOf_25 : decode cX0_takenOf 25 = .ok (.aload_n 0, 1) := dk_42 (dk_at dksX0_takenOf_1 2 rfl rfl)
theorem dX0_takenOf_26 : decode cX0_takenOf 26 = .ok (.getfield 12, 3) := dk_180 0 12 (dk_at dksX0_takenOf_1 3 rfl rfl)
theorem dX0_takenOf_29 : decode cX0_takenOf 29 = .ok (.getfield 74, 3) := dk_180 0 74 (dk_at dksX0_takenOf_1 6 rfl rfl)
theorem dX0_takenOf_32 : decode cX0_takenOf 32 = .ok (.iconst 0, 1) := dk_3 (dk_at dksX0_takenOf_1 9 rfl rfl)
theorem dX0_takenOf_33 : decode cX0_takenOf 33 = .ok (.iaload, 1) := dk_46 (dk_at dksX0_takenOf_1 10 rfl rfl)
theorem dX0_takenOf_34 : decode cX0_takenOf 34 = .ok (.if_icmp .ge 36, 3) := dk_162 0 36 (dk_at dksX0_takenOf_1 11 rfl rfl)
theorem dX0_takenOf_37 : decode cX0_takenOf 37 = .ok (.iload 4, 2) := dk_21 4 (dk_at dksX0_takenOf_1 14 rfl rfl)
theorem dX0_takenOf_39 : decode cX0_takenOf 39 = .ok (.iload_n 1, 1) := dk_27 (dk_at dksX0_takenOf_1 16 rfl rfl)
theorem dX0_takenOf_40 : decode cX0_takenOf 40 = .ok (.iload 5, 2) := dk_21 5 (dk_at dksX0_takenOf_1 17 rfl rfl)
theorem dX0_takenOf_42 : decode cX0_takenOf 42 = .ok (.invokestatic 174, 3) := dk_184 0 174 (dk_at dksX0_takenOf_1 19 rfl rfl)
theorem dX0_takenOf_45 : decode cX0_takenOf 45 = .ok (.ifCond .eq 15, 3) := dk_153 0 15 (dk_at dksX0_takenOf_2 0 rfl rfl)
theorem dX0_takenOf_48 : decode cX0_takenOf 48 = .ok (.aload_n 0, 1) := dk_42 (dk_at dksX0_takenOf_2 3 rfl rfl)
theorem dX0_takenOf_49 : decode cX0_takenOf 49 = .ok (.getfield 54, 3) := dk_180 0 54 (dk_at dksX0_takenOf_2 4 rfl rfl)
theorem dX0_takenOf_52 : decode cX0_takenOf 52 = .ok (.iload 5, 2) := dk_21 5 (dk_at dksX0_takenOf_2 7 rfl rfl)
theorem dX0_takenOf_54 : decode cX0_takenOf 54 = .ok (.aaload, 1) := dk_50 (dk_at dksX0_takenOf_2 9 rfl rfl)
theorem dX0_takenOf_55 : decode cX0_takenOf 55 = .ok (.iload_n 3, 1) := dk_29 (dk_at dksX0_takenOf_2 10 rfl rfl)
theorem dX0_takenOf_56 : decode cX0_takenOf 56 = .ok (.iaload, 1) := dk_46 (dk_at dksX0_takenOf_2 11 rfl rfl)
theorem dX0_takenOf_57 : decode cX0_takenOf 57 = .ok (.goto 4, 3) := dk_167 0 4 (dk_at dksX0_takenOf_2 12 rfl rfl)
theorem dX0_takenOf_60 : decode cX0_takenOf 60 = .ok (.iconst 0, 1) := dk_3 (dk_at dksX0_takenOf_2 15 rfl rfl)
theorem dX0_takenOf_61 : decode cX0_takenOf 61 = .ok (.iadd, 1) := dk_96 (dk_at dksX0_takenOf_2 16 rfl rfl)
theorem dX0_takenOf_62 : decode cX0_takenOf 62 = .ok (.istore 4, 2) := dk_54 4 (dk_at dksX0_takenOf_2 17 rfl rfl)
theorem dX0_takenOf_64 : decode cX0_takenOf 64 = .ok (.iinc 5 1, 3) := dk_132 5 1 (dk_at dksX0_takenOf_2 19 rfl rfl)
theorem dX0_takenOf_67 : decode cX0_takenOf 67 = .ok (.goto (-44), 3) := dk_167 255 212 (dk_at dksX0_takenOf_3 0 rfl rfl)
theorem dX0_takenOf_70 : decode cX0_takenOf 70 = .ok (.iload_n 2, 1) := dk_28 (dk_at dksX0_takenOf_3 3 rfl rfl)
theorem dX0_takenOf_71 : decode cX0_takenOf 71 = .ok (.aload_n 0, 1) := dk_42 (dk_at dksX0_takenOf_3 4 rfl rfl)
theorem dX0_takenOf_72 : decode cX0_takenOf 72 = .ok (.getfield 49, 3) := dk_180 0 49 (dk_at dksX0_takenOf_3 5 rfl rfl)
theorem dX0_takenOf_75 : decode cX0_takenOf 75 = .ok (.iload_n 3, 1) := dk_29 (dk_at dksX0_takenOf_3 8 rfl rfl)
theorem dX0_takenOf_76 : decode cX0_takenOf 76 = .ok (.iaload, 1) := dk_46 (dk_at dksX0_takenOf_3 9 rfl rfl)
theorem dX0_takenOf_77 : decode cX0_takenOf 77 = .ok (.iload 4, 2) := dk_21 4 (dk_at dksX0_takenOf_3 10 rfl rfl)
theorem dX0_takenOf_79 : decode cX0_takenOf 79 = .ok (.invokestatic 238, 3) := dk_184 0 238 (dk_at dksX0_takenOf_3 12 rfl rfl)
theorem dX0_takenOf_82 : decode cX0_takenOf 82 = .ok (.iadd, 1) := dk_96 (dk_at dksX0_takenOf_3 15 rfl rfl)
theorem dX0_takenOf_83 : decode cX0_takenOf 83 = .ok (.istore_n 2, 1) := dk_61 (dk_at dksX0_takenOf_3 16 rfl rfl)
theorem dX0_takenOf_84 : decode cX0_takenOf 84 = .ok (.iinc 3 1, 3) := dk_132 3 1 (dk_at dksX0_takenOf_3 17 rfl rfl)
theorem dX0_takenOf_87 : decode cX0_takenOf 87 = .ok (.goto (-83), 3) := dk_167 255 173 (dk_at dksX0_takenOf_3 20 rfl rfl)
theorem dX0_takenOf_90 : decode cX0_takenOf 90 = .ok (.iload_n 2, 1) := dk_28 (dk_at dksX0_takenOf_3 23 rfl rfl)
theorem dX0_takenOf_91 : decode cX0_takenOf 91 = .ok (.ireturn, 1) := dk_172 (dk_at dksX0_takenOf_4 0 rfl rfl)
abbrev cX0_lendsLeast : ByteArray := prog_1_method_69_code
def yX0_lendsLeast : MethodName := ⟨RX0, "lendsLeast", "(II)V"⟩
def dkwX0_lendsLeast_3 : List UInt8 := [21, 5, 21, 6, 100, 79, 167, 255, 219, 42, 180, 0, 57, 27, 50, 28, 21, 6, 29, 184, 0, 238, 79, 177]
abbrev dktX0_lendsLeast_3 : List UInt8 := dkwX0_lendsLeast_3 ++ []
def dkwX0_lendsLeast_2 : List UInt8 := [132, 6, 1, 42, 180, 0, 46, 27, 3, 21, 4, 21, 6, 100, 184, 1, 85, 79, 42, 180, 0, 49, 28]
abbrev dktX0_lendsLeast_2 : List UInt8 := dkwX0_lendsLeast_2 ++ dktX0_lendsLeast_3
def dkwX0_lendsLeast_1 : List UInt8 := [54, 5, 42, 180, 0, 54, 27, 50, 28, 3, 79, 3, 54, 6, 42, 182, 1, 131, 2, 159, 0, 35]
abbrev dktX0_lendsLeast_1 : List UInt8 := dkwX0_lendsLeast_1 ++ dktX0_lendsLeast_2
def dkwX0_lendsLeast_0 : List UInt8 := [42, 180, 0, 54, 27, 50, 28, 46, 62, 42, 180, 0, 46, 27, 46, 54, 4, 42, 180, 0, 49, 28, 46]
abbrev dktX0_lendsLeast_0 : List UInt8 := dkwX0_lendsLeast_0 ++ dktX0_lendsLeast_1
theorem dksX0_lendsLeast_0 : cX0_lendsLeast.data.toList.drop 0 = dktX0_lendsLeast_0 := by decide +kernel
theorem dksX0_lendsLeast_1 : cX0_lendsLeast.data.toList.drop 23 = dktX0_lendsLeast_1 := dk_seg dksX0_lendsLeast_0 23 rfl rfl
theorem dksX0_lendsLeast_2 : cX0_lendsLeast.data.toList.drop 45 = dktX0_lendsLeast_2 := dk_seg dksX0_lendsLeast_1 22 rfl rfl
theorem dksX0_lendsLeast_3 : cX0_lendsLeast.data.toList.drop 68 = dktX0_lendsLeast_3 := dk_seg dksX0_lendsLeast_2 23 rfl rfl
theorem dX0_lendsLeast_0 : decode cX0_lendsLeast 0 = .ok (.aload_n 0, 1) := dk_42 (dk_at dksX0_lendsLeast_0 0 rfl rfl)
theorem dX0_lendsLeast_1 : decode cX0_lendsLeast 1 = .ok (.getfield 54, 3) := dk_180 0 54 (dk_at dksX0_lendsLeast_0 1 rfl rfl)
theorem dX0_lendsLeast_4 : decode cX0_lendsLeast 4 = .ok (.iload_n 1, 1) := dk_27 (dk_at dksX0_lendsLeast_0 4 rfl rfl)
theorem dX0_lendsLeast_5 : decode cX0_lendsLeast 5 = .ok (.aaload, 1) := dk_50 (dk_at dksX0_lendsLeast_0 5 rfl rfl)
theorem dX0_lendsLeast_6 : decode cX0_lendsLeast 6 = .ok (.iload_n 2, 1) := dk_28 (dk_at dksX0_lendsLeast_0 6 rfl rfl)
theorem dX0_lendsLeast_7 : decode cX0_lendsLeast 7 = .ok (.iaload, 1) := dk_46 (dk_at dksX0_lendsLeast_0 7 rfl rfl)
theorem dX0_lendsLeast_8 : decode cX0_lendsLeast 8 = .ok (.istore_n 3, 1) := dk_62 (dk_at dksX0_lendsLeast_0 8 rfl rfl)
theorem dX0_lendsLeast_9 : decode cX0_lendsLeast 9 = .ok (.aload_n 0, 1) := dk_42 (dk_at dksX0_lendsLeast_0 9 rfl rfl)
theorem dX0_lendsLeast_10 : decode cX0_lendsLeast 10 = .ok (.getfield 46, 3) := dk_180 0 46 (dk_at dksX0_lendsLeast_0 10 rfl rfl)
theorem dX0_lendsLeast_13 : decode cX0_lendsLeast 13 = .ok (.iload_n 1, 1) := dk_27 (dk_at dksX0_lendsLeast_0 13 rfl rfl)
theorem dX0_lendsLeast_14 : decode cX0_lendsLeast 14 = .ok (.iaload, 1) := dk_46 (dk_at dksX0_lendsLeast_0 14 rfl rfl)
theorem dX0_lendsLeast_15 : decode cX0_lendsLeast 15 = .ok (.istore 4, 2) := dk_54 4 (dk_at dksX0_lendsLeast_0 15 rfl rfl)
theorem dX0_lendsLeast_17 : decode cX0_lendsLeast 17 = .ok (.aload_n 0, 1) := dk_42 (dk_at dksX0_lendsLeast_0 17 rfl rfl)
theorem dX0_lendsLeast_18 : decode cX0_lendsLeast 18 = .ok (.getfield 49, 3) := dk_180 0 49 (dk_at dksX0_lendsLeast_0 18 rfl rfl)
theorem dX0_lendsLeast_21 : decode cX0_lendsLeast 21 = .ok (.iload_n 2, 1) := dk_28 (dk_at dksX0_lendsLeast_0 21 rfl rfl)
theorem dX0_lendsLeast_22 : decode cX0_lendsLeast 22 = .ok (.iaload, 1) := dk_46 (dk_at dksX0_lendsLeast_0 22 rfl rfl)
theorem dX0_lendsLeast_23 : decode cX0_lendsLeast 23 = .ok (.istore 5, 2) := dk_54 5 (dk_at dksX0_lendsLeast_1 0 rfl rfl)
theorem dX0_lendsLeast_25 : decode cX0_lendsLeast 25 = .ok (.aload_n 0, 1) := dk_42 (dk_at dksX0_lendsLeast_1 2 rfl rfl)
theorem dX0_lendsLeast_26 : decode cX0_lendsLeast 26 = .ok (.getfield 54, 3) := dk_180 0 54 (dk_at dksX0_lendsLeast_1 3 rfl rfl)
theorem dX0_lendsLeast_29 : decode cX0_lendsLeast 29 = .ok (.iload_n 1, 1) := dk_27 (dk_at dksX0_lendsLeast_1 6 rfl rfl)
theorem dX0_lendsLeast_30 : decode cX0_lendsLeast 30 = .ok (.aaload, 1) := dk_50 (dk_at dksX0_lendsLeast_1 7 rfl rfl)
theorem dX0_lendsLeast_31 : decode cX0_lendsLeast 31 = .ok (.iload_n 2, 1) := dk_28 (dk_at dksX0_lendsLeast_1 8 rfl rfl)
theorem dX0_lendsLeast_32 : decode cX0_lendsLeast 32 = .ok (.iconst 0, 1) := dk_3 (dk_at dksX0_lendsLeast_1 9 rfl rfl)
theorem dX0_lendsLeast_33 : decode cX0_lendsLeast 33 = .ok (.iastore, 1) := dk_79 (dk_at dksX0_lendsLeast_1 10 rfl rfl)
theorem dX0_lendsLeast_34 : decode cX0_lendsLeast 34 = .ok (.iconst 0, 1) := dk_3 (dk_at dksX0_lendsLeast_1 11 rfl rfl)
theorem dX0_lendsLeast_35 : decode cX0_lendsLeast 35 = .ok (.istore 6, 2) := dk_54 6 (dk_at dksX0_lendsLeast_1 12 rfl rfl)
theorem dX0_lendsLeast_37 : decode cX0_lendsLeast 37 = .ok (.aload_n 0, 1) := dk_42 (dk_at dksX0_lendsLeast_1 14 rfl rfl)
theorem dX0_lendsLeast_38 : decode cX0_lendsLeast 38 = .ok (.invokevirtual 387, 3) := dk_182 1 131 (dk_at dksX0_lendsLeast_1 15 rfl rfl)
theorem dX0_lendsLeast_41 : decode cX0_lendsLeast 41 = .ok (.iconst (-1), 1) := dk_2 (dk_at dksX0_lendsLeast_1 18 rfl rfl)
theorem dX0_lendsLeast_42 : decode cX0_lendsLeast 42 = .ok (.if_icmp .eq 35, 3) := dk_159 0 35 (dk_at dksX0_lendsLeast_1 19 rfl rfl)
theorem dX0_lendsLeast_45 : decode cX0_lendsLeast 45 = .ok (.iinc 6 1, 3) := dk_132 6 1 (dk_at dksX0_lendsLeast_2 0 rfl rfl)
theorem dX0_lendsLeast_48 : decode cX0_lendsLeast 48 = .ok (.aload_n 0, 1) := dk_42 (dk_at dksX0_lendsLeast_2 3 rfl rfl)
theorem dX0_lendsLeast_49 : decode cX0_lendsLeast 49 = .ok (.getfield 46, 3) := dk_180 0 46 (dk_at dksX0_lendsLeast_2 4 rfl rfl)
theorem dX0_lendsLeast_52 : decode cX0_lendsLeast 52 = .ok (.iload_n 1, 1) := dk_27 (dk_at dksX0_lendsLeast_2 7 rfl rfl)
theorem dX0_lendsLeast_53 : decode cX0_lendsLeast 53 = .ok (.iconst 0, 1) := dk_3 (dk_at dksX0_lendsLeast_2 8 rfl rfl)
theorem dX0_lendsLeast_54 : decode cX0_lendsLeast 54 = .ok (.iload 4, 2) := dk_21 4 (dk_at dksX0_lendsLeast_2 9 rfl rfl)
theorem dX0_lendsLeast_56 : decode cX0_lendsLeast 56 = .ok (.iload 6, 2) := dk_21 6 (dk_at dksX0_lendsLeast_2 11 rfl rfl)
theorem dX0_lendsLeast_58 : decode cX0_lendsLeast 58 = .ok (.isub, 1) := dk_100 (dk_at dksX0_lendsLeast_2 13 rfl rfl)
theorem dX0_lendsLeast_59 : decode cX0_lendsLeast 59 = .ok (.invokestatic 341, 3) := dk_184 1 85 (dk_at dksX0_lendsLeast_2 14 rfl rfl)
theorem dX0_lendsLeast_62 : decode cX0_lendsLeast 62 = .ok (.iastore, 1) := dk_79 (dk_at dksX0_lendsLeast_2 17 rfl rfl)
theorem dX0_lendsLeast_63 : decode cX0_lendsLeast 63 = .ok (.aload_n 0, 1) := dk_42 (dk_at dksX0_lendsLeast_2 18 rfl rfl)
theorem dX0_lendsLeast_64 : decode cX0_lendsLeast 64 = .ok (.getfield 49, 3) := dk_180 0 49 (dk_at dksX0_lendsLeast_2 19 rfl rfl)
theorem dX0_lendsLeast_67 : decode cX0_lendsLeast 67 = .ok (.iload_n 2, 1) := dk_28 (dk_at dksX0_lendsLeast_2 22 rfl rfl)
theorem dX0_lendsLeast_68 : decode cX0_lendsLeast 68 = .ok (.iload 5, 2) := dk_21 5 (dk_at dksX0_lendsLeast_3 0 rfl rfl)
theorem dX0_lendsLeast_70 : decode cX0_lendsLeast 70 = .ok (.iload 6, 2) := dk_21 6 (dk_at dksX0_lendsLeast_3 2 rfl rfl)
theorem dX0_lendsLeast_72 : decode cX0_lendsLeast 72 = .ok (.isub, 1) := dk_100 (dk_at dksX0_lendsLeast_3 4 rfl rfl)
theorem dX0_lendsLeast_73 : decode cX0_lendsLeast 73 = .ok (.iastore, 1) := dk_79 (dk_at dksX0_lendsLeast_3 5 rfl rfl)
theorem dX0_lendsLeast_74 : decode cX0_lendsLeast 74 = .ok (.goto (-37), 3) := dk_167 255 219 (dk_at dksX0_lendsLeast_3 6 rfl rfl)
theorem dX0_lendsLeast_77 : decode cX0_lendsLeast 77 = .ok (.aload_n 0, 1) := dk_42 (dk_at dksX0_lendsLeast_3 9 rfl rfl)
theorem dX0_lendsLeast_78 : decode cX0_lendsLeast 78 = .ok (.getfield 57, 3) := dk_180 0 57 (dk_at dksX0_lendsLeast_3 10 rfl rfl)
theorem dX0_lendsLeast_81 : decode cX0_lendsLeast 81 = .ok (.iload_n 1, 1) := dk_27 (dk_at dksX0_lendsLeast_3 13 rfl rfl)
theorem dX0_lendsLeast_82 : decode cX0_lendsLeast 82 = .ok (.aaload, 1) := dk_50 (dk_at dksX0_lendsLeast_3 14 rfl rfl)
theorem dX0_lendsLeast_83 : decode cX0_lendsLeast 83 = .ok (.iload_n 2, 1) := dk_28 (dk_at dksX0_lendsLeast_3 15 rfl rfl)
theorem dX0_lendsLeast_84 : decode cX0_lendsLeast 84 = .ok (.iload 6, 2) := dk_21 6 (dk_at dksX0_lendsLeast_3 16 rfl rfl)
theorem dX0_lendsLeast_86 : decode cX0_lendsLeast 86 = .ok (.iload_n 3, 1) := dk_29 (dk_at dksX0_lendsLeast_3 18 rfl rfl)
theorem dX0_lendsLeast_87 : decode cX0_lendsLeast 87 = .ok (.invokestatic 238, 3) := dk_184 0 238 (dk_at dksX0_lendsLeast_3 19 rfl rfl)
theorem dX0_lendsLeast_90 : decode cX0_lendsLeast 90 = .ok (.iastore, 1) := dk_79 (dk_at dksX0_lendsLeast_3 22 rfl rfl)
theorem dX0_lendsLeast_91 : decode cX0_lendsLeast 91 = .ok (.return_, 1) := dk_177 (dk_at dksX0_lendsLeast_3 23 rfl rfl)
abbrev cX0_whoCannot : ByteArray := prog_1_method_72_code
def yX0_whoCannot : MethodName := ⟨RX0, "whoCannot", "()I"⟩
def dkwX0_whoCannot_0 : List UInt8 := [42, 182, 1, 134, 42, 182, 1, 131, 172]
abbrev dktX0_whoCannot_0 : List UInt8 := dkwX0_whoCannot_0 ++ []
theorem dksX0_whoCannot_0 : cX0_whoCannot.data.toList.drop 0 = dktX0_whoCannot_0 := by decide +kernel
theorem dX0_whoCannot_0 : decode cX0_whoCannot 0 = .ok (.aload_n 0, 1) := dk_42 (dk_at dksX0_whoCannot_0 0 rfl rfl)
theorem dX0_whoCannot_1 : decode cX0_whoCannot 1 = .ok (.invokevirtual 390, 3) := dk_182 1 134 (dk_at dksX0_whoCannot_0 1 rfl rfl)
theorem dX0_whoCannot_4 : decode cX0_whoCannot 4 = .ok (.aload_n 0, 1) := dk_42 (dk_at dksX0_whoCannot_0 4 rfl rfl)
theorem dX0_whoCannot_5 : decode cX0_whoCannot 5 = .ok (.invokevirtual 387, 3) := dk_182 1 131 (dk_at dksX0_whoCannot_0 5 rfl rfl)
theorem dX0_whoCannot_8 : decode cX0_whoCannot 8 = .ok (.ireturn, 1) := dk_172 (dk_at dksX0_whoCannot_0 8 rfl rfl)
abbrev cX0_kindness : ByteArray := prog_1_method_74_code
def yX0_kindness : MethodName := ⟨RX0, "kindness", "(I)I"⟩
def dkwX0_kindness_5 : List UInt8 := [132, 3, 1, 167, 255, 161, 28, 172]
abbrev dktX0_kindness_5 : List UInt8 := dkwX0_kindness_5 ++ []
def dkwX0_kindness_4 : List UInt8 := [153, 0, 7, 4, 167, 0, 4, 3, 54, 4, 132, 5, 1, 167, 255, 208, 21, 4, 153, 0, 5, 29, 61]
abbrev dktX0_kindness_4 : List UInt8 := dkwX0_kindness_4 ++ dktX0_kindness_5
def dkwX0_kindness_3 : List UInt8 := [162, 0, 40, 21, 4, 153, 0, 35, 27, 21, 5, 184, 0, 174, 153, 0, 13, 42, 21, 5, 29, 182, 1, 143]
abbrev dktX0_kindness_3 : List UInt8 := dkwX0_kindness_3 ++ dktX0_kindness_4
def dkwX0_kindness_2 : List UInt8 := [162, 0, 7, 4, 167, 0, 4, 3, 54, 4, 3, 54, 5, 21, 5, 42, 180, 0, 12, 180, 0, 74, 4, 46]
abbrev dktX0_kindness_2 : List UInt8 := dkwX0_kindness_2 ++ dktX0_kindness_3
def dkwX0_kindness_1 : List UInt8 := [61, 3, 62, 29, 42, 182, 0, 98, 163, 0, 93, 28, 2, 159, 0, 14, 29, 184, 0, 185, 28, 184, 0, 185]
abbrev dktX0_kindness_1 : List UInt8 := dkwX0_kindness_1 ++ dktX0_kindness_2
def dkwX0_kindness_0 : List UInt8 := [27, 4, 4, 42, 180, 0, 12, 180, 0, 74, 4, 46, 120, 4, 100, 184, 0, 77, 154, 0, 5, 2, 172, 2]
abbrev dktX0_kindness_0 : List UInt8 := dkwX0_kindness_0 ++ dktX0_kindness_1
theorem dksX0_kindness_0 : cX0_kindness.data.toList.drop 0 = dktX0_kindness_0 := by decide +kernel
theorem dksX0_kindness_1 : cX0_kindness.data.toList.drop 24 = dktX0_kindness_1 := dk_seg dksX0_kindness_0 24 rfl rfl
theorem dksX0_kindness_2 : cX0_kindness.data.toList.drop 48 = dktX0_kindness_2 := dk_seg dksX0_kindness_1 24 rfl rfl
theorem dksX0_kindness_3 : cX0_kindness.data.toList.drop 72 = dktX0_kindness_3 := dk_seg dksX0_kindness_2 24 rfl rfl
theorem dksX0_kindness_4 : cX0_kindness.data.toList.drop 96 = dktX0_kindness_4 := dk_seg dksX0_kindness_3 24 rfl rfl
theorem dksX0_kindness_5 : cX0_kindness.data.toList.drop 119 = dktX0_kindness_5 := dk_seg dksX0_kindness_4 23 rfl rfl
theorem dX0_kindness_0 : decode cX0_kindness 0 = .ok (.iload_n 1, 1) := dk_27 (dk_at dksX0_kindness_0 0 rfl rfl)
theorem dX0_kindness_1 : decode cX0_kindness 1 = .ok (.iconst 1, 1) := dk_4 (dk_at dksX0_kindness_0 1 rfl rfl)
theorem dX0_kindness_2 : decode cX0_kindness 2 = .ok (.iconst 1, 1) := dk_4 (dk_at dksX0_kindness_0 2 rfl rfl)
theorem dX0_kindness_3 : decode cX0_kindness 3 = .ok (.aload_n 0, 1) := dk_42 (dk_at dksX0_kindness_0 3 rfl rfl)
theorem dX0_kindness_4 : decode cX0_kindness 4 = .ok (.getfield 12, 3) := dk_180 0 12 (dk_at dksX0_kindness_0 4 rfl rfl)
theorem dX0_kindness_7 : decode cX0_kindness 7 = .ok (.getfield 74, 3) := dk_180 0 74 (dk_at dksX0_kindness_0 7 rfl rfl)
theorem dX0_kindness_10 : decode cX0_kindness 10 = .ok (.iconst 1, 1) := dk_4 (dk_at dksX0_kindness_0 10 rfl rfl)
theorem dX0_kindness_11 : decode cX0_kindness 11 = .ok (.iaload, 1) := dk_46 (dk_at dksX0_kindness_0 11 rfl rfl)
theorem dX0_kindness_12 : decode cX0_kindness 12 = .ok (.ishl, 1) := dk_120 (dk_at dksX0_kindness_0 12 rfl rfl)
theorem dX0_kindness_13 : decode cX0_kindness 13 = .ok (.iconst 1, 1) := dk_4 (dk_at dksX0_kindness_0 13 rfl rfl)
theorem dX0_kindness_14 : decode cX0_kindness 14 = .ok (.isub, 1) := dk_100 (dk_at dksX0_kindness_0 14 rfl rfl)
theorem dX0_kindness_15 : decode cX0_kindness 15 = .ok (.invokestatic 77, 3) := dk_184 0 77 (dk_at dksX0_kindness_0 15 rfl rfl)
theorem dX0_kindness_18 : decode cX0_kindness 18 = .ok (.ifCond .ne 5, 3) := dk_154 0 5 (dk_at dksX0_kindness_0 18 rfl rfl)
theorem dX0_kindness_21 : decode cX0_kindness 21 = .ok (.iconst (-1), 1) := dk_2 (dk_at dksX0_kindness_0 21 rfl rfl)
theorem dX0_kindness_22 : decode cX0_kindness 22 = .ok (.ireturn, 1) := dk_172 (dk_at dksX0_kindness_0 22 rfl rfl)
theorem dX0_kindness_23 : decode cX0_kindness 23 = .ok (.iconst (-1), 1) := dk_2 (dk_at dksX0_kindness_0 23 rfl rfl)
theorem dX0_kindness_24 : decode cX0_kindness 24 = .ok (.istore_n 2, 1) := dk_61 (dk_at dksX0_kindness_1 0 rfl rfl)
theorem dX0_kindness_25 : decode cX0_kindness 25 = .ok (.iconst 0, 1) := dk_3 (dk_at dksX0_kindness_1 1 rfl rfl)
theorem dX0_kindness_26 : decode cX0_kindness 26 = .ok (.istore_n 3, 1) := dk_62 (dk_at dksX0_kindness_1 2 rfl rfl)
theorem dX0_kindness_27 : decode cX0_kindness 27 = .ok (.iload_n 3, 1) := dk_29 (dk_at dksX0_kindness_1 3 rfl rfl)
theorem dX0_kindness_28 : decode cX0_kindness 28 = .ok (.aload_n 0, 1) := dk_42 (dk_at dksX0_kindness_1 4 rfl rfl)
theorem dX0_kindness_29 : decode cX0_kindness 29 = .ok (.invokevirtual 98, 3) := dk_182 0 98 (dk_at dksX0_kindness_1 5 rfl rfl)
theorem dX0_kindness_32 : decode cX0_kindness 32 = .ok (.if_icmp .gt 93, 3) := dk_163 0 93 (dk_at dksX0_kindness_1 8 rfl rfl)
theorem dX0_kindness_35 : decode cX0_kindness 35 = .ok (.iload_n 2, 1) := dk_28 (dk_at dksX0_kindness_1 11 rfl rfl)
theorem dX0_kindness_36 : decode cX0_kindness 36 = .ok (.iconst (-1), 1) := dk_2 (dk_at dksX0_kindness_1 12 rfl rfl)
theorem dX0_kindness_37 : decode cX0_kindness 37 = .ok (.if_icmp .eq 14, 3) := dk_159 0 14 (dk_at dksX0_kindness_1 13 rfl rfl)
theorem dX0_kindness_40 : decode cX0_kindness 40 = .ok (.iload_n 3, 1) := dk_29 (dk_at dksX0_kindness_1 16 rfl rfl)
theorem dX0_kindness_41 : decode cX0_kindness 41 = .ok (.invokestatic 185, 3) := dk_184 0 185 (dk_at dksX0_kindness_1 17 rfl rfl)
theorem dX0_kindness_44 : decode cX0_kindness 44 = .ok (.iload_n 2, 1) := dk_28 (dk_at dksX0_kindness_1 20 rfl rfl)
theorem dX0_kindness_45 : decode cX0_kindness 45 = .ok (.invokestatic 185, 3) := dk_184 0 185 (dk_at dksX0_kindness_1 21 rfl rfl)
theorem dX0_kindness_48 : decode cX0_kindness 48 = .ok (.if_icmp .ge 7, 3) := dk_162 0 7 (dk_at dksX0_kindness_2 0 rfl rfl)
theorem dX0_kindness_51 : decode cX0_kindness 51 = .ok (.iconst 1, 1) := dk_4 (dk_at dksX0_kindness_2 3 rfl rfl)
theorem dX0_kindness_52 : decode cX0_kindness 52 = .ok (.goto 4, 3) := dk_167 0 4 (dk_at dksX0_kindness_2 4 rfl rfl)
theorem dX0_kindness_55 : decode cX0_kindness 55 = .ok (.iconst 0, 1) := dk_3 (dk_at dksX0_kindness_2 7 rfl rfl)
theorem dX0_kindness_56 : decode cX0_kindness 56 = .ok (.istore 4, 2) := dk_54 4 (dk_at dksX0_kindness_2 8 rfl rfl)
theorem dX0_kindness_58 : decode cX0_kindness 58 = .ok (.iconst 0, 1) := dk_3 (dk_at dksX0_kindness_2 10 rfl rfl)
theorem dX0_kindness_59 : decode cX0_kindness 59 = .ok (.istore 5, 2) := dk_54 5 (dk_at dksX0_kindness_2 11 rfl rfl)
theorem dX0_kindness_61 : decode cX0_kindness 61 = .ok (.iload 5, 2) := dk_21 5 (dk_at dksX0_kindness_2 13 rfl rfl)
theorem dX0_kindness_63 : decode cX0_kindness 63 = .ok (.aload_n 0, 1) := dk_42 (dk_at dksX0_kindness_2 15 rfl rfl)
theorem dX0_kindness_64 : decode cX0_kindness 64 = .ok (.getfield 12, 3) := dk_180 0 12 (dk_at dksX0_kindness_2 16 rfl rfl)
theorem dX0_kindness_67 : decode cX0_kindness 67 = .ok (.getfield 74, 3) := dk_180 0 74 (dk_at dksX0_kindness_2 19 rfl rfl)
theorem dX0_kindness_70 : decode cX0_kindness 70 = .ok (.iconst 1, 1) := dk_4 (dk_at dksX0_kindness_2 22 rfl rfl)
theorem dX0_kindness_71 : decode cX0_kindness 71 = .ok (.iaload, 1) := dk_46 (dk_at dksX0_kindness_2 23 rfl rfl)
theorem dX0_kindness_72 : decode cX0_kindness 72 = .ok (.if_icmp .ge 40, 3) := dk_162 0 40 (dk_at dksX0_kindness_3 0 rfl rfl)
theorem dX0_kindness_75 : decode cX0_kindness 75 = .ok (.iload 4, 2) := dk_21 4 (dk_at dksX0_kindness_3 3 rfl rfl)
theorem dX0_kindness_77 : decode cX0_kindness 77 = .ok (.ifCond .eq 35, 3) := dk_153 0 35 (dk_at dksX0_kindness_3 5 rfl rfl)
theorem dX0_kindness_80 : decode cX0_kindness 80 = .ok (.iload_n 1, 1) := dk_27 (dk_at dksX0_kindness_3 8 rfl rfl)
theorem dX0_kindness_81 : decode cX0_kindness 81 = .ok (.iload 5, 2) := dk_21 5 (dk_at dksX0_kindness_3 9 rfl rfl)
theorem dX0_kindness_83 : decode cX0_kindness 83 = .ok (.invokestatic 174, 3) := dk_184 0 174 (dk_at dksX0_kindness_3 11 rfl rfl)
theorem dX0_kindness_86 : decode cX0_kindness 86 = .ok (.ifCond .eq 13, 3) := dk_153 0 13 (dk_at dksX0_kindness_3 14 rfl rfl)
theorem dX0_kindness_89 : decode cX0_kindness 89 = .ok (.aload_n 0, 1) := dk_42 (dk_at dksX0_kindness_3 17 rfl rfl)
theorem dX0_kindness_90 : decode cX0_kindness 90 = .ok (.iload 5, 2) := dk_21 5 (dk_at dksX0_kindness_3 18 rfl rfl)
theorem dX0_kindness_92 : decode cX0_kindness 92 = .ok (.iload_n 3, 1) := dk_29 (dk_at dksX0_kindness_3 20 rfl rfl)
theorem dX0_kindness_93 : decode cX0_kindness 93 = .ok (.invokevirtual 399, 3) := dk_182 1 143 (dk_at dksX0_kindness_3 21 rfl rfl)
theorem dX0_kindness_96 : decode cX0_kindness 96 = .ok (.ifCond .eq 7, 3) := dk_153 0 7 (dk_at dksX0_kindness_4 0 rfl rfl)
theorem dX0_kindness_99 : decode cX0_kindness 99 = .ok (.iconst 1, 1) := dk_4 (dk_at dksX0_kindness_4 3 rfl rfl)
theorem dX0_kindness_100 : decode cX0_kindness 100 = .ok (.goto 4, 3) := dk_167 0 4 (dk_at dksX0_kindness_4 4 rfl rfl)
theorem dX0_kindness_103 : decode cX0_kindness 103 = .ok (.iconst 0, 1) := dk_3 (dk_at dksX0_kindness_4 7 rfl rfl)
theorem dX0_kindness_104 : decode cX0_kindness 104 = .ok (.istore 4, 2) := dk_54 4 (dk_at dksX0_kindness_4 8 rfl rfl)
theorem dX0_kindness_106 : decode cX0_kindness 106 = .ok (.iinc 5 1, 3) := dk_132 5 1 (dk_at dksX0_kindness_4 10 rfl rfl)
theorem dX0_kindness_109 : decode cX0_kindness 109 = .ok (.goto (-48), 3) := dk_167 255 208 (dk_at dksX0_kindness_4 13 rfl rfl)
theorem dX0_kindness_112 : decode cX0_kindness 112 = .ok (.iload 4, 2) := dk_21 4 (dk_at dksX0_kindness_4 16 rfl rfl)
theorem dX0_kindness_114 : decode cX0_kindness 114 = .ok (.ifCond .eq 5, 3) := dk_153 0 5 (dk_at dksX0_kindness_4 18 rfl rfl)
theorem dX0_kindness_117 : decode cX0_kindness 117 = .ok (.iload_n 3, 1) := dk_29 (dk_at dksX0_kindness_4 21 rfl rfl)
theorem dX0_kindness_118 : decode cX0_kindness 118 = .ok (.istore_n 2, 1) := dk_61 (dk_at dksX0_kindness_4 22 rfl rfl)
theorem dX0_kindness_119 : decode cX0_kindness 119 = .ok (.iinc 3 1, 3) := dk_132 3 1 (dk_at dksX0_kindness_5 0 rfl rfl)
theorem dX0_kindness_122 : decode cX0_kindness 122 = .ok (.goto (-95), 3) := dk_167 255 161 (dk_at dksX0_kindness_5 3 rfl rfl)
theorem dX0_kindness_125 : decode cX0_kindness 125 = .ok (.iload_n 2, 1) := dk_28 (dk_at dksX0_kindness_5 6 rfl rfl)
theorem dX0_kindness_126 : decode cX0_kindness 126 = .ok (.ireturn, 1) := dk_172 (dk_at dksX0_kindness_5 7 rfl rfl)
abbrev cX0_isRemembered : ByteArray := prog_1_method_73_code
def yX0_isRemembered : MethodName := ⟨RX0, "isRemembered", "(II)Z"⟩
def dkwX0_isRemembered_1 : List UInt8 := [46, 120, 2, 130, 126, 153, 0, 7, 4, 167, 0, 4, 3, 172]
abbrev dktX0_isRemembered_1 : List UInt8 := dkwX0_isRemembered_1 ++ []
def dkwX0_isRemembered_0 : List UInt8 := [42, 180, 0, 12, 180, 0, 88, 27, 50, 8, 46, 28, 126, 4, 42, 180, 0, 12, 180, 0, 88, 27, 50, 3]
abbrev dktX0_isRemembered_0 : List UInt8 := dkwX0_isRemembered_0 ++ dktX0_isRemembered_1
theorem dksX0_isRemembered_0 : cX0_isRemembered.data.toList.drop 0 = dktX0_isRemembered_0 := by decide +kernel
theorem dksX0_isRemembered_1 : cX0_isRemembered.data.toList.drop 24 = dktX0_isRemembered_1 := dk_seg dksX0_isRemembered_0 24 rfl rfl
theorem dX0_isRemembered_0 : decode cX0_isRemembered 0 = .ok (.aload_n 0, 1) := dk_42 (dk_at dksX0_isRemembered_0 0 rfl rfl)
theorem dX0_isRemembered_1 : decode cX0_isRemembered 1 = .ok (.getfield 12, 3) := dk_180 0 12 (dk_at dksX0_isRemembered_0 1 rfl rfl)
theorem dX0_isRemembered_4 : decode cX0_isRemembered 4 = .ok (.getfield 88, 3) := dk_180 0 88 (dk_at dksX0_isRemembered_0 4 rfl rfl)
theorem dX0_isRemembered_7 : decode cX0_isRemembered 7 = .ok (.iload_n 1, 1) := dk_27 (dk_at dksX0_isRemembered_0 7 rfl rfl)
theorem dX0_isRemembered_8 : decode cX0_isRemembered 8 = .ok (.aaload, 1) := dk_50 (dk_at dksX0_isRemembered_0 8 rfl rfl)
theorem dX0_isRemembered_9 : decode cX0_isRemembered 9 = .ok (.iconst 5, 1) := dk_8 (dk_at dksX0_isRemembered_0 9 rfl rfl)
theorem dX0_isRemembered_10 : decode cX0_isRemembered 10 = .ok (.iaload, 1) := dk_46 (dk_at dksX0_isRemembered_0 10 rfl rfl)
theorem dX0_isRemembered_11 : decode cX0_isRemembered 11 = .ok (.iload_n 2, 1) := dk_28 (dk_at dksX0_isRemembered_0 11 rfl rfl)
theorem dX0_isRemembered_12 : decode cX0_isRemembered 12 = .ok (.iand, 1) := dk_126 (dk_at dksX0_isRemembered_0 12 rfl rfl)
theorem dX0_isRemembered_13 : decode cX0_isRemembered 13 = .ok (.iconst 1, 1) := dk_4 (dk_at dksX0_isRemembered_0 13 rfl rfl)
theorem dX0_isRemembered_14 : decode cX0_isRemembered 14 = .ok (.aload_n 0, 1) := dk_42 (dk_at dksX0_isRemembered_0 14 rfl rfl)
theorem dX0_isRemembered_15 : decode cX0_isRemembered 15 = .ok (.getfield 12, 3) := dk_180 0 12 (dk_at dksX0_isRemembered_0 15 rfl rfl)
theorem dX0_isRemembered_18 : decode cX0_isRemembered 18 = .ok (.getfield 88, 3) := dk_180 0 88 (dk_at dksX0_isRemembered_0 18 rfl rfl)
theorem dX0_isRemembered_21 : decode cX0_isRemembered 21 = .ok (.iload_n 1, 1) := dk_27 (dk_at dksX0_isRemembered_0 21 rfl rfl)
theorem dX0_isRemembered_22 : decode cX0_isRemembered 22 = .ok (.aaload, 1) := dk_50 (dk_at dksX0_isRemembered_0 22 rfl rfl)
theorem dX0_isRemembered_23 : decode cX0_isRemembered 23 = .ok (.iconst 0, 1) := dk_3 (dk_at dksX0_isRemembered_0 23 rfl rfl)
theorem dX0_isRemembered_24 : decode cX0_isRemembered 24 = .ok (.iaload, 1) := dk_46 (dk_at dksX0_isRemembered_1 0 rfl rfl)
theorem dX0_isRemembered_25 : decode cX0_isRemembered 25 = .ok (.ishl, 1) := dk_120 (dk_at dksX0_isRemembered_1 1 rfl rfl)
theorem dX0_isRemembered_26 : decode cX0_isRemembered 26 = .ok (.iconst (-1), 1) := dk_2 (dk_at dksX0_isRemembered_1 2 rfl rfl)
theorem dX0_isRemembered_27 : decode cX0_isRemembered 27 = .ok (.ixor, 1) := dk_130 (dk_at dksX0_isRemembered_1 3 rfl rfl)
theorem dX0_isRemembered_28 : decode cX0_isRemembered 28 = .ok (.iand, 1) := dk_126 (dk_at dksX0_isRemembered_1 4 rfl rfl)
theorem dX0_isRemembered_29 : decode cX0_isRemembered 29 = .ok (.ifCond .eq 7, 3) := dk_153 0 7 (dk_at dksX0_isRemembered_1 5 rfl rfl)
theorem dX0_isRemembered_32 : decode cX0_isRemembered 32 = .ok (.iconst 1, 1) := dk_4 (dk_at dksX0_isRemembered_1 8 rfl rfl)
theorem dX0_isRemembered_33 : decode cX0_isRemembered 33 = .ok (.goto 4, 3) := dk_167 0 4 (dk_at dksX0_isRemembered_1 9 rfl rfl)
theorem dX0_isRemembered_36 : decode cX0_isRemembered 36 = .ok (.iconst 0, 1) := dk_3 (dk_at dksX0_isRemembered_1 12 rfl rfl)
theorem dX0_isRemembered_37 : decode cX0_isRemembered 37 = .ok (.ireturn, 1) := dk_172 (dk_at dksX0_isRemembered_1 13 rfl rfl)
abbrev cX0_known : ByteArray := prog_1_method_75_code
def yX0_known : MethodName := ⟨RX0, "known", "(II)I"⟩
def dkwX0_known_5 : List UInt8 := [180, 0, 12, 180, 0, 74, 16, 7, 46, 172]
abbrev dktX0_known_5 : List UInt8 := dkwX0_known_5 ++ []
def dkwX0_known_4 : List UInt8 := [16, 7, 46, 50, 4, 28, 79, 42, 180, 0, 12, 180, 0, 74, 16, 7, 92, 46, 4, 96, 79, 42]
abbrev dktX0_known_4 : List UInt8 := dkwX0_known_4 ++ dktX0_known_5
def dkwX0_known_3 : List UInt8 := [180, 0, 74, 16, 7, 46, 50, 3, 27, 79, 42, 180, 0, 12, 180, 1, 146, 42, 180, 0, 12, 180, 0, 74]
abbrev dktX0_known_3 : List UInt8 := dkwX0_known_3 ++ dktX0_known_4
def dkwX0_known_2 : List UInt8 := [16, 7, 46, 16, 8, 160, 0, 6, 16, 254, 172, 42, 180, 0, 12, 180, 1, 146, 42, 180, 0, 12]
abbrev dktX0_known_2 : List UInt8 := dkwX0_known_2 ++ dktX0_known_3
def dkwX0_known_1 : List UInt8 := [153, 0, 31, 28, 17, 216, 241, 17, 39, 15, 184, 0, 77, 153, 0, 18, 42, 180, 0, 12, 180, 0, 74]
abbrev dktX0_known_1 : List UInt8 := dkwX0_known_1 ++ dktX0_known_2
def dkwX0_known_0 : List UInt8 := [27, 2, 160, 0, 16, 42, 180, 0, 12, 180, 0, 74, 16, 7, 3, 79, 3, 172, 42, 27, 182, 0, 84]
abbrev dktX0_known_0 : List UInt8 := dkwX0_known_0 ++ dktX0_known_1
theorem dksX0_known_0 : cX0_known.data.toList.drop 0 = dktX0_known_0 := by decide +kernel
theorem dksX0_known_1 : cX0_known.data.toList.drop 23 = dktX0_known_1 := dk_seg dksX0_known_0 23 rfl rfl
theorem dksX0_known_2 : cX0_known.data.toList.drop 46 = dktX0_known_2 := dk_seg dksX0_known_1 23 rfl rfl
theorem dksX0_known_3 : cX0_known.data.toList.drop 68 = dktX0_known_3 := dk_seg dksX0_known_2 22 rfl rfl
theorem dksX0_known_4 : cX0_known.data.toList.drop 92 = dktX0_known_4 := dk_seg dksX0_known_3 24 rfl rfl
theorem dksX0_known_5 : cX0_known.data.toList.drop 114 = dktX0_known_5 := dk_seg dksX0_known_4 22 rfl rfl
theorem dX0_known_0 : decode cX0_known 0 = .ok (.iload_n 1, 1) := dk_27 (dk_at dksX0_known_0 0 rfl rfl)
theorem dX0_known_1 : decode cX0_known 1 = .ok (.iconst (-1), 1) := dk_2 (dk_at dksX0_known_0 1 rfl rfl)
theorem dX0_known_2 : decode cX0_known 2 = .ok (.if_icmp .ne 16, 3) := dk_160 0 16 (dk_at dksX0_known_0 2 rfl rfl)
theorem dX0_known_5 : decode cX0_known 5 = .ok (.aload_n 0, 1) := dk_42 (dk_at dksX0_known_0 5 rfl rfl)
theorem dX0_known_6 : decode cX0_known 6 = .ok (.getfield 12, 3) := dk_180 0 12 (dk_at dksX0_known_0 6 rfl rfl)
theorem dX0_known_9 : decode cX0_known 9 = .ok (.getfield 74, 3) := dk_180 0 74 (dk_at dksX0_known_0 9 rfl rfl)
theorem dX0_known_12 : decode cX0_known 12 = .ok (.bipush 7, 2) := dk_16 7 (dk_at dksX0_known_0 12 rfl rfl)
theorem dX0_known_14 : decode cX0_known 14 = .ok (.iconst 0, 1) := dk_3 (dk_at dksX0_known_0 14 rfl rfl)
theorem dX0_known_15 : decode cX0_known 15 = .ok (.iastore, 1) := dk_79 (dk_at dksX0_known_0 15 rfl rfl)
theorem dX0_known_16 : decode cX0_known 16 = .ok (.iconst 0, 1) := dk_3 (dk_at dksX0_known_0 16 rfl rfl)
theorem dX0_known_17 : decode cX0_known 17 = .ok (.ireturn, 1) := dk_172 (dk_at dksX0_known_0 17 rfl rfl)
theorem dX0_known_18 : decode cX0_known 18 = .ok (.aload_n 0, 1) := dk_42 (dk_at dksX0_known_0 18 rfl rfl)
theorem dX0_known_19 : decode cX0_known 19 = .ok (.iload_n 1, 1) := dk_27 (dk_at dksX0_known_0 19 rfl rfl)
theorem dX0_known_20 : decode cX0_known 20 = .ok (.invokevirtual 84, 3) := dk_182 0 84 (dk_at dksX0_known_0 20 rfl rfl)
theorem dX0_known_23 : decode cX0_known 23 = .ok (.ifCond .eq 31, 3) := dk_153 0 31 (dk_at dksX0_known_1 0 rfl rfl)
theorem dX0_known_26 : decode cX0_known 26 = .ok (.iload_n 2, 1) := dk_28 (dk_at dksX0_known_1 3 rfl rfl)
theorem dX0_known_27 : decode cX0_known 27 = .ok (.sipush (-9999), 3) := dk_17 216 241 (dk_at dksX0_known_1 4 rfl rfl)
theorem dX0_known_30 : decode cX0_known 30 = .ok (.sipush 9999, 3) := dk_17 39 15 (dk_at dksX0_known_1 7 rfl rfl)
theorem dX0_known_33 : decode cX0_known 33 = .ok (.invokestatic 77, 3) := dk_184 0 77 (dk_at dksX0_known_1 10 rfl rfl)
theorem dX0_known_36 : decode cX0_known 36 = .ok (.ifCond .eq 18, 3) := dk_153 0 18 (dk_at dksX0_known_1 13 rfl rfl)
theorem dX0_known_39 : decode cX0_known 39 = .ok (.aload_n 0, 1) := dk_42 (dk_at dksX0_known_1 16 rfl rfl)
theorem dX0_known_40 : decode cX0_known 40 = .ok (.getfield 12, 3) := dk_180 0 12 (dk_at dksX0_known_1 17 rfl rfl)
theorem dX0_known_43 : decode cX0_known 43 = .ok (.getfield 74, 3) := dk_180 0 74 (dk_at dksX0_known_1 20 rfl rfl)
theorem dX0_known_46 : decode cX0_known 46 = .ok (.bipush 7, 2) := dk_16 7 (dk_at dksX0_known_2 0 rfl rfl)
theorem dX0_known_48 : decode cX0_known 48 = .ok (.iaload, 1) := dk_46 (dk_at dksX0_known_2 2 rfl rfl)
theorem dX0_known_49 : decode cX0_known 49 = .ok (.bipush 8, 2) := dk_16 8 (dk_at dksX0_known_2 3 rfl rfl)
theorem dX0_known_51 : decode cX0_known 51 = .ok (.if_icmp .ne 6, 3) := dk_160 0 6 (dk_at dksX0_known_2 5 rfl rfl)
theorem dX0_known_54 : decode cX0_known 54 = .ok (.bipush (-2), 2) := dk_16 254 (dk_at dksX0_known_2 8 rfl rfl)
theorem dX0_known_56 : decode cX0_known 56 = .ok (.ireturn, 1) := dk_172 (dk_at dksX0_known_2 10 rfl rfl)
theorem dX0_known_57 : decode cX0_known 57 = .ok (.aload_n 0, 1) := dk_42 (dk_at dksX0_known_2 11 rfl rfl)
theorem dX0_known_58 : decode cX0_known 58 = .ok (.getfield 12, 3) := dk_180 0 12 (dk_at dksX0_known_2 12 rfl rfl)
theorem dX0_known_61 : decode cX0_known 61 = .ok (.getfield 402, 3) := dk_180 1 146 (dk_at dksX0_known_2 15 rfl rfl)
theorem dX0_known_64 : decode cX0_known 64 = .ok (.aload_n 0, 1) := dk_42 (dk_at dksX0_known_2 18 rfl rfl)
theorem dX0_known_65 : decode cX0_known 65 = .ok (.getfield 12, 3) := dk_180 0 12 (dk_at dksX0_known_2 19 rfl rfl)
theorem dX0_known_68 : decode cX0_known 68 = .ok (.getfield 74, 3) := dk_180 0 74 (dk_at dksX0_known_3 0 rfl rfl)
theorem dX0_known_71 : decode cX0_known 71 = .ok (.bipush 7, 2) := dk_16 7 (dk_at dksX0_known_3 3 rfl rfl)
theorem dX0_known_73 : decode cX0_known 73 = .ok (.iaload, 1) := dk_46 (dk_at dksX0_known_3 5 rfl rfl)
theorem dX0_known_74 : decode cX0_known 74 = .ok (.aaload, 1) := dk_50 (dk_at dksX0_known_3 6 rfl rfl)
theorem dX0_known_75 : decode cX0_known 75 = .ok (.iconst 0, 1) := dk_3 (dk_at dksX0_known_3 7 rfl rfl)
theorem dX0_known_76 : decode cX0_known 76 = .ok (.iload_n 1, 1) := dk_27 (dk_at dksX0_known_3 8 rfl rfl)
theorem dX0_known_77 : decode cX0_known 77 = .ok (.iastore, 1) := dk_79 (dk_at dksX0_known_3 9 rfl rfl)
theorem dX0_known_78 : decode cX0_known 78 = .ok (.aload_n 0, 1) := dk_42 (dk_at dksX0_known_3 10 rfl rfl)
theorem dX0_known_79 : decode cX0_known 79 = .ok (.getfield 12, 3) := dk_180 0 12 (dk_at dksX0_known_3 11 rfl rfl)
theorem dX0_known_82 : decode cX0_known 82 = .ok (.getfield 402, 3) := dk_180 1 146 (dk_at dksX0_known_3 14 rfl rfl)
theorem dX0_known_85 : decode cX0_known 85 = .ok (.aload_n 0, 1) := dk_42 (dk_at dksX0_known_3 17 rfl rfl)
theorem dX0_known_86 : decode cX0_known 86 = .ok (.getfield 12, 3) := dk_180 0 12 (dk_at dksX0_known_3 18 rfl rfl)
theorem dX0_known_89 : decode cX0_known 89 = .ok (.getfield 74, 3) := dk_180 0 74 (dk_at dksX0_known_3 21 rfl rfl)
theorem dX0_known_92 : decode cX0_known 92 = .ok (.bipush 7, 2) := dk_16 7 (dk_at dksX0_known_4 0 rfl rfl)
theorem dX0_known_94 : decode cX0_known 94 = .ok (.iaload, 1) := dk_46 (dk_at dksX0_known_4 2 rfl rfl)
theorem dX0_known_95 : decode cX0_known 95 = .ok (.aaload, 1) := dk_50 (dk_at dksX0_known_4 3 rfl rfl)
theorem dX0_known_96 : decode cX0_known 96 = .ok (.iconst 1, 1) := dk_4 (dk_at dksX0_known_4 4 rfl rfl)
theorem dX0_known_97 : decode cX0_known 97 = .ok (.iload_n 2, 1) := dk_28 (dk_at dksX0_known_4 5 rfl rfl)
theorem dX0_known_98 : decode cX0_known 98 = .ok (.iastore, 1) := dk_79 (dk_at dksX0_known_4 6 rfl rfl)
theorem dX0_known_99 : decode cX0_known 99 = .ok (.aload_n 0, 1) := dk_42 (dk_at dksX0_known_4 7 rfl rfl)
theorem dX0_known_100 : decode cX0_known 100 = .ok (.getfield 12, 3) := dk_180 0 12 (dk_at dksX0_known_4 8 rfl rfl)
theorem dX0_known_103 : decode cX0_known 103 = .ok (.getfield 74, 3) := dk_180 0 74 (dk_at dksX0_known_4 11 rfl rfl)
theorem dX0_known_106 : decode cX0_known 106 = .ok (.bipush 7, 2) := dk_16 7 (dk_at dksX0_known_4 14 rfl rfl)
theorem dX0_known_108 : decode cX0_known 108 = .ok (.dup2, 1) := dk_92 (dk_at dksX0_known_4 16 rfl rfl)
theorem dX0_known_109 : decode cX0_known 109 = .ok (.iaload, 1) := dk_46 (dk_at dksX0_known_4 17 rfl rfl)
theorem dX0_known_110 : decode cX0_known 110 = .ok (.iconst 1, 1) := dk_4 (dk_at dksX0_known_4 18 rfl rfl)
theorem dX0_known_111 : decode cX0_known 111 = .ok (.iadd, 1) := dk_96 (dk_at dksX0_known_4 19 rfl rfl)
theorem dX0_known_112 : decode cX0_known 112 = .ok (.iastore, 1) := dk_79 (dk_at dksX0_known_4 20 rfl rfl)
theorem dX0_known_113 : decode cX0_known 113 = .ok (.aload_n 0, 1) := dk_42 (dk_at dksX0_known_4 21 rfl rfl)
theorem dX0_known_114 : decode cX0_known 114 = .ok (.getfield 12, 3) := dk_180 0 12 (dk_at dksX0_known_5 0 rfl rfl)
theorem dX0_known_117 : decode cX0_known 117 = .ok (.getfield 74, 3) := dk_180 0 74 (dk_at dksX0_known_5 3 rfl rfl)
theorem dX0_known_120 : decode cX0_known 120 = .ok (.bipush 7, 2) := dk_16 7 (dk_at dksX0_known_5 6 rfl rfl)
theorem dX0_known_122 : decode cX0_known 122 = .ok (.iaload, 1) := dk_46 (dk_at dksX0_known_5 8 rfl rfl)
theorem dX0_known_123 : decode cX0_known 123 = .ok (.ireturn, 1) := dk_172 (dk_at dksX0_known_5 9 rfl rfl)
abbrev cX0_fit : ByteArray := prog_1_method_77_code
def yX0_fit : MethodName := ⟨RX0, "fit", "()I"⟩
def dkwX0_fit_2 : List UInt8 := [167, 255, 214, 27, 172]
abbrev dktX0_fit_2 : List UInt8 := dkwX0_fit_2 ++ []
def dkwX0_fit_1 : List UInt8 := [180, 0, 115, 28, 50, 182, 1, 149, 153, 0, 9, 4, 28, 120, 167, 0, 4, 3, 128, 60, 132, 2, 1]
abbrev dktX0_fit_1 : List UInt8 := dkwX0_fit_1 ++ dktX0_fit_2
def dkwX0_fit_0 : List UInt8 := [3, 60, 3, 61, 28, 42, 180, 0, 12, 180, 0, 74, 7, 46, 162, 0, 35, 27, 42, 42, 180, 0, 12]
abbrev dktX0_fit_0 : List UInt8 := dkwX0_fit_0 ++ dktX0_fit_1
theorem dksX0_fit_0 : cX0_fit.data.toList.drop 0 = dktX0_fit_0 := by decide +kernel
theorem dksX0_fit_1 : cX0_fit.data.toList.drop 23 = dktX0_fit_1 := dk_seg dksX0_fit_0 23 rfl rfl
theorem dksX0_fit_2 : cX0_fit.data.toList.drop 46 = dktX0_fit_2 := dk_seg dksX0_fit_1 23 rfl rfl
theorem dX0_fit_0 : decode cX0_fit 0 = .ok (.iconst 0, 1) := dk_3 (dk_at dksX0_fit_0 0 rfl rfl)
theorem dX0_fit_1 : decode cX0_fit 1 = .ok (.istore_n 1, 1) := dk_60 (dk_at dksX0_fit_0 1 rfl rfl)
theorem dX0_fit_2 : decode cX0_fit 2 = .ok (.iconst 0, 1) := dk_3 (dk_at dksX0_fit_0 2 rfl rfl)
theorem dX0_fit_3 : decode cX0_fit 3 = .ok (.istore_n 2, 1) := dk_61 (dk_at dksX0_fit_0 3 rfl rfl)
theorem dX0_fit_4 : decode cX0_fit 4 = .ok (.iload_n 2, 1) := dk_28 (dk_at dksX0_fit_0 4 rfl rfl)
theorem dX0_fit_5 : decode cX0_fit 5 = .ok (.aload_n 0, 1) := dk_42 (dk_at dksX0_fit_0 5 rfl rfl)
theorem dX0_fit_6 : decode cX0_fit 6 = .ok (.getfield 12, 3) := dk_180 0 12 (dk_at dksX0_fit_0 6 rfl rfl)
theorem dX0_fit_9 : decode cX0_fit 9 = .ok (.getfield 74, 3) := dk_180 0 74 (dk_at dksX0_fit_0 9 rfl rfl)
theorem dX0_fit_12 : decode cX0_fit 12 = .ok (.iconst 4, 1) := dk_7 (dk_at dksX0_fit_0 12 rfl rfl)
theorem dX0_fit_13 : decode cX0_fit 13 = .ok (.iaload, 1) := dk_46 (dk_at dksX0_fit_0 13 rfl rfl)
theorem dX0_fit_14 : decode cX0_fit 14 = .ok (.if_icmp .ge 35, 3) := dk_162 0 35 (dk_at dksX0_fit_0 14 rfl rfl)
theorem dX0_fit_17 : decode cX0_fit 17 = .ok (.iload_n 1, 1) := dk_27 (dk_at dksX0_fit_0 17 rfl rfl)
theorem dX0_fit_18 : decode cX0_fit 18 = .ok (.aload_n 0, 1) := dk_42 (dk_at dksX0_fit_0 18 rfl rfl)
theorem dX0_fit_19 : decode cX0_fit 19 = .ok (.aload_n 0, 1) := dk_42 (dk_at dksX0_fit_0 19 rfl rfl)
theorem dX0_fit_20 : decode cX0_fit 20 = .ok (.getfield 12, 3) := dk_180 0 12 (dk_at dksX0_fit_0 20 rfl rfl)
theorem dX0_fit_23 : decode cX0_fit 23 = .ok (.getfield 115, 3) := dk_180 0 115 (dk_at dksX0_fit_1 0 rfl rfl)
theorem dX0_fit_26 : decode cX0_fit 26 = .ok (.iload_n 2, 1) := dk_28 (dk_at dksX0_fit_1 3 rfl rfl)
theorem dX0_fit_27 : decode cX0_fit 27 = .ok (.aaload, 1) := dk_50 (dk_at dksX0_fit_1 4 rfl rfl)
theorem dX0_fit_28 : decode cX0_fit 28 = .ok (.invokevirtual 405, 3) := dk_182 1 149 (dk_at dksX0_fit_1 5 rfl rfl)
theorem dX0_fit_31 : decode cX0_fit 31 = .ok (.ifCond .eq 9, 3) := dk_153 0 9 (dk_at dksX0_fit_1 8 rfl rfl)
theorem dX0_fit_34 : decode cX0_fit 34 = .ok (.iconst 1, 1) := dk_4 (dk_at dksX0_fit_1 11 rfl rfl)
theorem dX0_fit_35 : decode cX0_fit 35 = .ok (.iload_n 2, 1) := dk_28 (dk_at dksX0_fit_1 12 rfl rfl)
theorem dX0_fit_36 : decode cX0_fit 36 = .ok (.ishl, 1) := dk_120 (dk_at dksX0_fit_1 13 rfl rfl)
theorem dX0_fit_37 : decode cX0_fit 37 = .ok (.goto 4, 3) := dk_167 0 4 (dk_at dksX0_fit_1 14 rfl rfl)
theorem dX0_fit_40 : decode cX0_fit 40 = .ok (.iconst 0, 1) := dk_3 (dk_at dksX0_fit_1 17 rfl rfl)
theorem dX0_fit_41 : decode cX0_fit 41 = .ok (.ior, 1) := dk_128 (dk_at dksX0_fit_1 18 rfl rfl)
theorem dX0_fit_42 : decode cX0_fit 42 = .ok (.istore_n 1, 1) := dk_60 (dk_at dksX0_fit_1 19 rfl rfl)
theorem dX0_fit_43 : decode cX0_fit 43 = .ok (.iinc 2 1, 3) := dk_132 2 1 (dk_at dksX0_fit_1 20 rfl rfl)
theorem dX0_fit_46 : decode cX0_fit 46 = .ok (.goto (-42), 3) := dk_167 255 214 (dk_at dksX0_fit_2 0 rfl rfl)
theorem dX0_fit_49 : decode cX0_fit 49 = .ok (.iload_n 1, 1) := dk_27 (dk_at dksX0_fit_2 3 rfl rfl)
theorem dX0_fit_50 : decode cX0_fit 50 = .ok (.ireturn, 1) := dk_172 (dk_at dksX0_fit_2 4 rfl rfl)
abbrev cX0_fits : ByteArray := prog_1_method_76_code
def yX0_fits : MethodName := ⟨RX0, "fits", "(LAgainstFeather$Text;)Z"⟩
def dkwX0_fits_4 : List UInt8 := [3, 172, 132, 2, 1, 167, 255, 157, 4, 172]
abbrev dktX0_fits_4 : List UInt8 := dkwX0_fits_4 ++ []
def dkwX0_fits_3 : List UInt8 := [3, 96, 62, 132, 4, 1, 167, 255, 199, 29, 42, 180, 0, 12, 180, 1, 146, 28, 50, 4, 46, 159, 0, 5]
abbrev dktX0_fits_3 : List UInt8 := dkwX0_fits_3 ++ dktX0_fits_4
def dkwX0_fits_2 : List UInt8 := [42, 180, 0, 12, 180, 1, 146, 28, 50, 3, 46, 160, 0, 13, 42, 43, 21, 4, 182, 0, 170, 167, 0, 4]
abbrev dktX0_fits_2 : List UInt8 := dkwX0_fits_2 ++ dktX0_fits_3
def dkwX0_fits_1 : List UInt8 := [180, 0, 12, 180, 0, 74, 4, 46, 162, 0, 49, 29, 42, 180, 0, 12, 180, 0, 88, 21, 4, 50, 3, 46]
abbrev dktX0_fits_1 : List UInt8 := dkwX0_fits_1 ++ dktX0_fits_2
def dkwX0_fits_0 : List UInt8 := [3, 61, 28, 42, 180, 0, 12, 180, 0, 74, 16, 7, 46, 162, 0, 91, 3, 62, 3, 54, 4, 21, 4, 42]
abbrev dktX0_fits_0 : List UInt8 := dkwX0_fits_0 ++ dktX0_fits_1
theorem dksX0_fits_0 : cX0_fits.data.toList.drop 0 = dktX0_fits_0 := by decide +kernel
theorem dksX0_fits_1 : cX0_fits.data.toList.drop 24 = dktX0_fits_1 := dk_seg dksX0_fits_0 24 rfl rfl
theorem dksX0_fits_2 : cX0_fits.data.toList.drop 48 = dktX0_fits_2 := dk_seg dksX0_fits_1 24 rfl rfl
theorem dksX0_fits_3 : cX0_fits.data.toList.drop 72 = dktX0_fits_3 := dk_seg dksX0_fits_2 24 rfl rfl
theorem dksX0_fits_4 : cX0_fits.data.toList.drop 96 = dktX0_fits_4 := dk_seg dksX0_fits_3 24 rfl rfl
theorem dX0_fits_0 : decode cX0_fits 0 = .ok (.iconst 0, 1) := dk_3 (dk_at dksX0_fits_0 0 rfl rfl)
theorem dX0_fits_1 : decode cX0_fits 1 = .ok (.istore_n 2, 1) := dk_61 (dk_at dksX0_fits_0 1 rfl rfl)
theorem dX0_fits_2 : decode cX0_fits 2 = .ok (.iload_n 2, 1) := dk_28 (dk_at dksX0_fits_0 2 rfl rfl)
theorem dX0_fits_3 : decode cX0_fits 3 = .ok (.aload_n 0, 1) := dk_42 (dk_at dksX0_fits_0 3 rfl rfl)
theorem dX0_fits_4 : decode cX0_fits 4 = .ok (.getfield 12, 3) := dk_180 0 12 (dk_at dksX0_fits_0 4 rfl rfl)
theorem dX0_fits_7 : decode cX0_fits 7 = .ok (.getfield 74, 3) := dk_180 0 74 (dk_at dksX0_fits_0 7 rfl rfl)
theorem dX0_fits_10 : decode cX0_fits 10 = .ok (.bipush 7, 2) := dk_16 7 (dk_at dksX0_fits_0 10 rfl rfl)
theorem dX0_fits_12 : decode cX0_fits 12 = .ok (.iaload, 1) := dk_46 (dk_at dksX0_fits_0 12 rfl rfl)
theorem dX0_fits_13 : decode cX0_fits 13 = .ok (.if_icmp .ge 91, 3) := dk_162 0 91 (dk_at dksX0_fits_0 13 rfl rfl)
theorem dX0_fits_16 : decode cX0_fits 16 = .ok (.iconst 0, 1) := dk_3 (dk_at dksX0_fits_0 16 rfl rfl)
theorem dX0_fits_17 : decode cX0_fits 17 = .ok (.istore_n 3, 1) := dk_62 (dk_at dksX0_fits_0 17 rfl rfl)
theorem dX0_fits_18 : decode cX0_fits 18 = .ok (.iconst 0, 1) := dk_3 (dk_at dksX0_fits_0 18 rfl rfl)
theorem dX0_fits_19 : decode cX0_fits 19 = .ok (.istore 4, 2) := dk_54 4 (dk_at dksX0_fits_0 19 rfl rfl)
theorem dX0_fits_21 : decode cX0_fits 21 = .ok (.iload 4, 2) := dk_21 4 (dk_at dksX0_fits_0 21 rfl rfl)
theorem dX0_fits_23 : decode cX0_fits 23 = .ok (.aload_n 0, 1) := dk_42 (dk_at dksX0_fits_0 23 rfl rfl)
theorem dX0_fits_24 : decode cX0_fits 24 = .ok (.getfield 12, 3) := dk_180 0 12 (dk_at dksX0_fits_1 0 rfl rfl)
theorem dX0_fits_27 : decode cX0_fits 27 = .ok (.getfield 74, 3) := dk_180 0 74 (dk_at dksX0_fits_1 3 rfl rfl)
theorem dX0_fits_30 : decode cX0_fits 30 = .ok (.iconst 1, 1) := dk_4 (dk_at dksX0_fits_1 6 rfl rfl)
theorem dX0_fits_31 : decode cX0_fits 31 = .ok (.iaload, 1) := dk_46 (dk_at dksX0_fits_1 7 rfl rfl)
theorem dX0_fits_32 : decode cX0_fits 32 = .ok (.if_icmp .ge 49, 3) := dk_162 0 49 (dk_at dksX0_fits_1 8 rfl rfl)
theorem dX0_fits_35 : decode cX0_fits 35 = .ok (.iload_n 3, 1) := dk_29 (dk_at dksX0_fits_1 11 rfl rfl)
theorem dX0_fits_36 : decode cX0_fits 36 = .ok (.aload_n 0, 1) := dk_42 (dk_at dksX0_fits_1 12 rfl rfl)
theorem dX0_fits_37 : decode cX0_fits 37 = .ok (.getfield 12, 3) := dk_180 0 12 (dk_at dksX0_fits_1 13 rfl rfl)
theorem dX0_fits_40 : decode cX0_fits 40 = .ok (.getfield 88, 3) := dk_180 0 88 (dk_at dksX0_fits_1 16 rfl rfl)
theorem dX0_fits_43 : decode cX0_fits 43 = .ok (.iload 4, 2) := dk_21 4 (dk_at dksX0_fits_1 19 rfl rfl)
theorem dX0_fits_45 : decode cX0_fits 45 = .ok (.aaload, 1) := dk_50 (dk_at dksX0_fits_1 21 rfl rfl)
theorem dX0_fits_46 : decode cX0_fits 46 = .ok (.iconst 0, 1) := dk_3 (dk_at dksX0_fits_1 22 rfl rfl)
theorem dX0_fits_47 : decode cX0_fits 47 = .ok (.iaload, 1) := dk_46 (dk_at dksX0_fits_1 23 rfl rfl)
theorem dX0_fits_48 : decode cX0_fits 48 = .ok (.aload_n 0, 1) := dk_42 (dk_at dksX0_fits_2 0 rfl rfl)
theorem dX0_fits_49 : decode cX0_fits 49 = .ok (.getfield 12, 3) := dk_180 0 12 (dk_at dksX0_fits_2 1 rfl rfl)
theorem dX0_fits_52 : decode cX0_fits 52 = .ok (.getfield 402, 3) := dk_180 1 146 (dk_at dksX0_fits_2 4 rfl rfl)
theorem dX0_fits_55 : decode cX0_fits 55 = .ok (.iload_n 2, 1) := dk_28 (dk_at dksX0_fits_2 7 rfl rfl)
theorem dX0_fits_56 : decode cX0_fits 56 = .ok (.aaload, 1) := dk_50 (dk_at dksX0_fits_2 8 rfl rfl)
theorem dX0_fits_57 : decode cX0_fits 57 = .ok (.iconst 0, 1) := dk_3 (dk_at dksX0_fits_2 9 rfl rfl)
theorem dX0_fits_58 : decode cX0_fits 58 = .ok (.iaload, 1) := dk_46 (dk_at dksX0_fits_2 10 rfl rfl)
theorem dX0_fits_59 : decode cX0_fits 59 = .ok (.if_icmp .ne 13, 3) := dk_160 0 13 (dk_at dksX0_fits_2 11 rfl rfl)
theorem dX0_fits_62 : decode cX0_fits 62 = .ok (.aload_n 0, 1) := dk_42 (dk_at dksX0_fits_2 14 rfl rfl)
theorem dX0_fits_63 : decode cX0_fits 63 = .ok (.aload_n 1, 1) := dk_43 (dk_at dksX0_fits_2 15 rfl rfl)
theorem dX0_fits_64 : decode cX0_fits 64 = .ok (.iload 4, 2) := dk_21 4 (dk_at dksX0_fits_2 16 rfl rfl)
theorem dX0_fits_66 : decode cX0_fits 66 = .ok (.invokevirtual 170, 3) := dk_182 0 170 (dk_at dksX0_fits_2 18 rfl rfl)
theorem dX0_fits_69 : decode cX0_fits 69 = .ok (.goto 4, 3) := dk_167 0 4 (dk_at dksX0_fits_2 21 rfl rfl)
theorem dX0_fits_72 : decode cX0_fits 72 = .ok (.iconst 0, 1) := dk_3 (dk_at dksX0_fits_3 0 rfl rfl)
theorem dX0_fits_73 : decode cX0_fits 73 = .ok (.iadd, 1) := dk_96 (dk_at dksX0_fits_3 1 rfl rfl)
theorem dX0_fits_74 : decode cX0_fits 74 = .ok (.istore_n 3, 1) := dk_62 (dk_at dksX0_fits_3 2 rfl rfl)
theorem dX0_fits_75 : decode cX0_fits 75 = .ok (.iinc 4 1, 3) := dk_132 4 1 (dk_at dksX0_fits_3 3 rfl rfl)
theorem dX0_fits_78 : decode cX0_fits 78 = .ok (.goto (-57), 3) := dk_167 255 199 (dk_at dksX0_fits_3 6 rfl rfl)
theorem dX0_fits_81 : decode cX0_fits 81 = .ok (.iload_n 3, 1) := dk_29 (dk_at dksX0_fits_3 9 rfl rfl)
theorem dX0_fits_82 : decode cX0_fits 82 = .ok (.aload_n 0, 1) := dk_42 (dk_at dksX0_fits_3 10 rfl rfl)
theorem dX0_fits_83 : decode cX0_fits 83 = .ok (.getfield 12, 3) := dk_180 0 12 (dk_at dksX0_fits_3 11 rfl rfl)
theorem dX0_fits_86 : decode cX0_fits 86 = .ok (.getfield 402, 3) := dk_180 1 146 (dk_at dksX0_fits_3 14 rfl rfl)
theorem dX0_fits_89 : decode cX0_fits 89 = .ok (.iload_n 2, 1) := dk_28 (dk_at dksX0_fits_3 17 rfl rfl)
theorem dX0_fits_90 : decode cX0_fits 90 = .ok (.aaload, 1) := dk_50 (dk_at dksX0_fits_3 18 rfl rfl)
theorem dX0_fits_91 : decode cX0_fits 91 = .ok (.iconst 1, 1) := dk_4 (dk_at dksX0_fits_3 19 rfl rfl)
theorem dX0_fits_92 : decode cX0_fits 92 = .ok (.iaload, 1) := dk_46 (dk_at dksX0_fits_3 20 rfl rfl)
theorem dX0_fits_93 : decode cX0_fits 93 = .ok (.if_icmp .eq 5, 3) := dk_159 0 5 (dk_at dksX0_fits_3 21 rfl rfl)
theorem dX0_fits_96 : decode cX0_fits 96 = .ok (.iconst 0, 1) := dk_3 (dk_at dksX0_fits_4 0 rfl rfl)
theorem dX0_fits_97 : decode cX0_fits 97 = .ok (.ireturn, 1) := dk_172 (dk_at dksX0_fits_4 1 rfl rfl)
theorem dX0_fits_98 : decode cX0_fits 98 = .ok (.iinc 2 1, 3) := dk_132 2 1 (dk_at dksX0_fits_4 2 rfl rfl)
theorem dX0_fits_101 : decode cX0_fits 101 = .ok (.goto (-99), 3) := dk_167 255 157 (dk_at dksX0_fits_4 5 rfl rfl)
theorem dX0_fits_104 : decode cX0_fits 104 = .ok (.iconst 1, 1) := dk_4 (dk_at dksX0_fits_4 8 rfl rfl)
theorem dX0_fits_105 : decode cX0_fits 105 = .ok (.ireturn, 1) := dk_172 (dk_at dksX0_fits_4 9 rfl rfl)
abbrev cX0_smallest : ByteArray := prog_1_method_81_code
def yX0_smallest : MethodName := ⟨RX0, "smallest", "(I)I"⟩
def dkwX0_smallest_5 : List UInt8 := [160, 0, 8, 16, 156, 167, 0, 9, 42, 180, 0, 63, 27, 46, 172]
abbrev dktX0_smallest_5 : List UInt8 := dkwX0_smallest_5 ++ []
def dkwX0_smallest_4 : List UInt8 := [182, 1, 156, 61, 42, 180, 0, 60, 42, 180, 0, 63, 184, 0, 91, 132, 4, 1, 167, 255, 165, 28, 2]
abbrev dktX0_smallest_4 : List UInt8 := dkwX0_smallest_4 ++ dktX0_smallest_5
def dkwX0_smallest_3 : List UInt8 := [159, 0, 11, 42, 182, 1, 156, 28, 162, 0, 29, 42, 182, 1, 159, 154, 0, 6, 167, 0, 19, 42]
abbrev dktX0_smallest_3 : List UInt8 := dkwX0_smallest_3 ++ dktX0_smallest_4
def dkwX0_smallest_2 : List UInt8 := [21, 5, 21, 6, 29, 112, 6, 100, 79, 132, 5, 255, 21, 6, 29, 108, 54, 6, 167, 255, 229, 28, 2]
abbrev dktX0_smallest_2 : List UInt8 := dkwX0_smallest_2 ++ dktX0_smallest_3
def dkwX0_smallest_1 : List UInt8 := [104, 29, 104, 29, 104, 162, 0, 85, 6, 54, 5, 21, 4, 54, 6, 21, 5, 155, 0, 28, 42, 180, 0, 60]
abbrev dktX0_smallest_1 : List UInt8 := dkwX0_smallest_1 ++ dktX0_smallest_2
def dkwX0_smallest_0 : List UInt8 := [27, 3, 6, 184, 0, 77, 154, 0, 6, 16, 156, 172, 2, 61, 16, 7, 62, 3, 54, 4, 21, 4, 29, 29]
abbrev dktX0_smallest_0 : List UInt8 := dkwX0_smallest_0 ++ dktX0_smallest_1
theorem dksX0_smallest_0 : cX0_smallest.data.toList.drop 0 = dktX0_smallest_0 := by decide +kernel
theorem dksX0_smallest_1 : cX0_smallest.data.toList.drop 24 = dktX0_smallest_1 := dk_seg dksX0_smallest_0 24 rfl rfl
theorem dksX0_smallest_2 : cX0_smallest.data.toList.drop 48 = dktX0_smallest_2 := dk_seg dksX0_smallest_1 24 rfl rfl
theorem dksX0_smallest_3 : cX0_smallest.data.toList.drop 71 = dktX0_smallest_3 := dk_seg dksX0_smallest_2 23 rfl rfl
theorem dksX0_smallest_4 : cX0_smallest.data.toList.drop 93 = dktX0_smallest_4 := dk_seg dksX0_smallest_3 22 rfl rfl
theorem dksX0_smallest_5 : cX0_smallest.data.toList.drop 116 = dktX0_smallest_5 := dk_seg dksX0_smallest_4 23 rfl rfl
theorem dX0_smallest_0 : decode cX0_smallest 0 = .ok (.iload_n 1, 1) := dk_27 (dk_at dksX0_smallest_0 0 rfl rfl)
theorem dX0_smallest_1 : decode cX0_smallest 1 = .ok (.iconst 0, 1) := dk_3 (dk_at dksX0_smallest_0 1 rfl rfl)
theorem dX0_smallest_2 : decode cX0_smallest 2 = .ok (.iconst 3, 1) := dk_6 (dk_at dksX0_smallest_0 2 rfl rfl)
theorem dX0_smallest_3 : decode cX0_smallest 3 = .ok (.invokestatic 77, 3) := dk_184 0 77 (dk_at dksX0_smallest_0 3 rfl rfl)
theorem dX0_smallest_6 : decode cX0_smallest 6 = .ok (.ifCond .ne 6, 3) := dk_154 0 6 (dk_at dksX0_smallest_0 6 rfl rfl)
theorem dX0_smallest_9 : decode cX0_smallest 9 = .ok (.bipush (-100), 2) := dk_16 156 (dk_at dksX0_smallest_0 9 rfl rfl)
theorem dX0_smallest_11 : decode cX0_smallest 11 = .ok (.ireturn, 1) := dk_172 (dk_at dksX0_smallest_0 11 rfl rfl)
theorem dX0_smallest_12 : decode cX0_smallest 12 = .ok (.iconst (-1), 1) := dk_2 (dk_at dksX0_smallest_0 12 rfl rfl)
theorem dX0_smallest_13 : decode cX0_smallest 13 = .ok (.istore_n 2, 1) := dk_61 (dk_at dksX0_smallest_0 13 rfl rfl)
theorem dX0_smallest_14 : decode cX0_smallest 14 = .ok (.bipush 7, 2) := dk_16 7 (dk_at dksX0_smallest_0 14 rfl rfl)
theorem dX0_smallest_16 : decode cX0_smallest 16 = .ok (.istore_n 3, 1) := dk_62 (dk_at dksX0_smallest_0 16 rfl rfl)
theorem dX0_smallest_17 : decode cX0_smallest 17 = .ok (.iconst 0, 1) := dk_3 (dk_at dksX0_smallest_0 17 rfl rfl)
theorem dX0_smallest_18 : decode cX0_smallest 18 = .ok (.istore 4, 2) := dk_54 4 (dk_at dksX0_smallest_0 18 rfl rfl)
theorem dX0_smallest_20 : decode cX0_smallest 20 = .ok (.iload 4, 2) := dk_21 4 (dk_at dksX0_smallest_0 20 rfl rfl)
theorem dX0_smallest_22 : decode cX0_smallest 22 = .ok (.iload_n 3, 1) := dk_29 (dk_at dksX0_smallest_0 22 rfl rfl)
theorem dX0_smallest_23 : decode cX0_smallest 23 = .ok (.iload_n 3, 1) := dk_29 (dk_at dksX0_smallest_0 23 rfl rfl)
theorem dX0_smallest_24 : decode cX0_smallest 24 = .ok (.imul, 1) := dk_104 (dk_at dksX0_smallest_1 0 rfl rfl)
theorem dX0_smallest_25 : decode cX0_smallest 25 = .ok (.iload_n 3, 1) := dk_29 (dk_at dksX0_smallest_1 1 rfl rfl)
theorem dX0_smallest_26 : decode cX0_smallest 26 = .ok (.imul, 1) := dk_104 (dk_at dksX0_smallest_1 2 rfl rfl)
theorem dX0_smallest_27 : decode cX0_smallest 27 = .ok (.iload_n 3, 1) := dk_29 (dk_at dksX0_smallest_1 3 rfl rfl)
theorem dX0_smallest_28 : decode cX0_smallest 28 = .ok (.imul, 1) := dk_104 (dk_at dksX0_smallest_1 4 rfl rfl)
theorem dX0_smallest_29 : decode cX0_smallest 29 = .ok (.if_icmp .ge 85, 3) := dk_162 0 85 (dk_at dksX0_smallest_1 5 rfl rfl)
theorem dX0_smallest_32 : decode cX0_smallest 32 = .ok (.iconst 3, 1) := dk_6 (dk_at dksX0_smallest_1 8 rfl rfl)
theorem dX0_smallest_33 : decode cX0_smallest 33 = .ok (.istore 5, 2) := dk_54 5 (dk_at dksX0_smallest_1 9 rfl rfl)
theorem dX0_smallest_35 : decode cX0_smallest 35 = .ok (.iload 4, 2) := dk_21 4 (dk_at dksX0_smallest_1 11 rfl rfl)
theorem dX0_smallest_37 : decode cX0_smallest 37 = .ok (.istore 6, 2) := dk_54 6 (dk_at dksX0_smallest_1 13 rfl rfl)
theorem dX0_smallest_39 : decode cX0_smallest 39 = .ok (.iload 5, 2) := dk_21 5 (dk_at dksX0_smallest_1 15 rfl rfl)
theorem dX0_smallest_41 : decode cX0_smallest 41 = .ok (.ifCond .lt 28, 3) := dk_155 0 28 (dk_at dksX0_smallest_1 17 rfl rfl)
theorem dX0_smallest_44 : decode cX0_smallest 44 = .ok (.aload_n 0, 1) := dk_42 (dk_at dksX0_smallest_1 20 rfl rfl)
theorem dX0_smallest_45 : decode cX0_smallest 45 = .ok (.getfield 60, 3) := dk_180 0 60 (dk_at dksX0_smallest_1 21 rfl rfl)
theorem dX0_smallest_48 : decode cX0_smallest 48 = .ok (.iload 5, 2) := dk_21 5 (dk_at dksX0_smallest_2 0 rfl rfl)
theorem dX0_smallest_50 : decode cX0_smallest 50 = .ok (.iload 6, 2) := dk_21 6 (dk_at dksX0_smallest_2 2 rfl rfl)
theorem dX0_smallest_52 : decode cX0_smallest 52 = .ok (.iload_n 3, 1) := dk_29 (dk_at dksX0_smallest_2 4 rfl rfl)
theorem dX0_smallest_53 : decode cX0_smallest 53 = .ok (.irem, 1) := dk_112 (dk_at dksX0_smallest_2 5 rfl rfl)
theorem dX0_smallest_54 : decode cX0_smallest 54 = .ok (.iconst 3, 1) := dk_6 (dk_at dksX0_smallest_2 6 rfl rfl)
theorem dX0_smallest_55 : decode cX0_smallest 55 = .ok (.isub, 1) := dk_100 (dk_at dksX0_smallest_2 7 rfl rfl)
theorem dX0_smallest_56 : decode cX0_smallest 56 = .ok (.iastore, 1) := dk_79 (dk_at dksX0_smallest_2 8 rfl rfl)
theorem dX0_smallest_57 : decode cX0_smallest 57 = .ok (.iinc 5 (-1), 3) := dk_132 5 255 (dk_at dksX0_smallest_2 9 rfl rfl)
theorem dX0_smallest_60 : decode cX0_smallest 60 = .ok (.iload 6, 2) := dk_21 6 (dk_at dksX0_smallest_2 12 rfl rfl)
theorem dX0_smallest_62 : decode cX0_smallest 62 = .ok (.iload_n 3, 1) := dk_29 (dk_at dksX0_smallest_2 14 rfl rfl)
theorem dX0_smallest_63 : decode cX0_smallest 63 = .ok (.idiv, 1) := dk_108 (dk_at dksX0_smallest_2 15 rfl rfl)
theorem dX0_smallest_64 : decode cX0_smallest 64 = .ok (.istore 6, 2) := dk_54 6 (dk_at dksX0_smallest_2 16 rfl rfl)
theorem dX0_smallest_66 : decode cX0_smallest 66 = .ok (.goto (-27), 3) := dk_167 255 229 (dk_at dksX0_smallest_2 18 rfl rfl)
theorem dX0_smallest_69 : decode cX0_smallest 69 = .ok (.iload_n 2, 1) := dk_28 (dk_at dksX0_smallest_2 21 rfl rfl)
theorem dX0_smallest_70 : decode cX0_smallest 70 = .ok (.iconst (-1), 1) := dk_2 (dk_at dksX0_smallest_2 22 rfl rfl)
theorem dX0_smallest_71 : decode cX0_smallest 71 = .ok (.if_icmp .eq 11, 3) := dk_159 0 11 (dk_at dksX0_smallest_3 0 rfl rfl)
theorem dX0_smallest_74 : decode cX0_smallest 74 = .ok (.aload_n 0, 1) := dk_42 (dk_at dksX0_smallest_3 3 rfl rfl)
theorem dX0_smallest_75 : decode cX0_smallest 75 = .ok (.invokevirtual 412, 3) := dk_182 1 156 (dk_at dksX0_smallest_3 4 rfl rfl)
theorem dX0_smallest_78 : decode cX0_smallest 78 = .ok (.iload_n 2, 1) := dk_28 (dk_at dksX0_smallest_3 7 rfl rfl)
theorem dX0_smallest_79 : decode cX0_smallest 79 = .ok (.if_icmp .ge 29, 3) := dk_162 0 29 (dk_at dksX0_smallest_3 8 rfl rfl)
theorem dX0_smallest_82 : decode cX0_smallest 82 = .ok (.aload_n 0, 1) := dk_42 (dk_at dksX0_smallest_3 11 rfl rfl)
theorem dX0_smallest_83 : decode cX0_smallest 83 = .ok (.invokevirtual 415, 3) := dk_182 1 159 (dk_at dksX0_smallest_3 12 rfl rfl)
theorem dX0_smallest_86 : decode cX0_smallest 86 = .ok (.ifCond .ne 6, 3) := dk_154 0 6 (dk_at dksX0_smallest_3 15 rfl rfl)
theorem dX0_smallest_89 : decode cX0_smallest 89 = .ok (.goto 19, 3) := dk_167 0 19 (dk_at dksX0_smallest_3 18 rfl rfl)
theorem dX0_smallest_92 : decode cX0_smallest 92 = .ok (.aload_n 0, 1) := dk_42 (dk_at dksX0_smallest_3 21 rfl rfl)
theorem dX0_smallest_93 : decode cX0_smallest 93 = .ok (.invokevirtual 412, 3) := dk_182 1 156 (dk_at dksX0_smallest_4 0 rfl rfl)
theorem dX0_smallest_96 : decode cX0_smallest 96 = .ok (.istore_n 2, 1) := dk_61 (dk_at dksX0_smallest_4 3 rfl rfl)
theorem dX0_smallest_97 : decode cX0_smallest 97 = .ok (.aload_n 0, 1) := dk_42 (dk_at dksX0_smallest_4 4 rfl rfl)
theorem dX0_smallest_98 : decode cX0_smallest 98 = .ok (.getfield 60, 3) := dk_180 0 60 (dk_at dksX0_smallest_4 5 rfl rfl)
theorem dX0_smallest_101 : decode cX0_smallest 101 = .ok (.aload_n 0, 1) := dk_42 (dk_at dksX0_smallest_4 8 rfl rfl)
theorem dX0_smallest_102 : decode cX0_smallest 102 = .ok (.getfield 63, 3) := dk_180 0 63 (dk_at dksX0_smallest_4 9 rfl rfl)
theorem dX0_smallest_105 : decode cX0_smallest 105 = .ok (.invokestatic 91, 3) := dk_184 0 91 (dk_at dksX0_smallest_4 12 rfl rfl)
theorem dX0_smallest_108 : decode cX0_smallest 108 = .ok (.iinc 4 1, 3) := dk_132 4 1 (dk_at dksX0_smallest_4 15 rfl rfl)
theorem dX0_smallest_111 : decode cX0_smallest 111 = .ok (.goto (-91), 3) := dk_167 255 165 (dk_at dksX0_smallest_4 18 rfl rfl)
theorem dX0_smallest_114 : decode cX0_smallest 114 = .ok (.iload_n 2, 1) := dk_28 (dk_at dksX0_smallest_4 21 rfl rfl)
theorem dX0_smallest_115 : decode cX0_smallest 115 = .ok (.iconst (-1), 1) := dk_2 (dk_at dksX0_smallest_4 22 rfl rfl)
theorem dX0_smallest_116 : decode cX0_smallest 116 = .ok (.if_icmp .ne 8, 3) := dk_160 0 8 (dk_at dksX0_smallest_5 0 rfl rfl)
theorem dX0_smallest_119 : decode cX0_smallest 119 = .ok (.bipush (-100), 2) := dk_16 156 (dk_at dksX0_smallest_5 3 rfl rfl)
theorem dX0_smallest_121 : decode cX0_smallest 121 = .ok (.goto 9, 3) := dk_167 0 9 (dk_at dksX0_smallest_5 5 rfl rfl)
theorem dX0_smallest_124 : decode cX0_smallest 124 = .ok (.aload_n 0, 1) := dk_42 (dk_at dksX0_smallest_5 8 rfl rfl)
theorem dX0_smallest_125 : decode cX0_smallest 125 = .ok (.getfield 63, 3) := dk_180 0 63 (dk_at dksX0_smallest_5 9 rfl rfl)
theorem dX0_smallest_128 : decode cX0_smallest 128 = .ok (.iload_n 1, 1) := dk_27 (dk_at dksX0_smallest_5 12 rfl rfl)
theorem dX0_smallest_129 : decode cX0_smallest 129 = .ok (.iaload, 1) := dk_46 (dk_at dksX0_smallest_5 13 rfl rfl)
theorem dX0_smallest_130 : decode cX0_smallest 130 = .ok (.ireturn, 1) := dk_172 (dk_at dksX0_smallest_5 14 rfl rfl)
abbrev cX0_sizeOfFactors : ByteArray := prog_1_method_80_code
def yX0_sizeOfFactors : MethodName := ⟨RX0, "sizeOfFactors", "()I"⟩
def dkwX0_sizeOfFactors_1 : List UInt8 := [46, 184, 1, 96, 96, 42, 180, 0, 60, 6, 46, 184, 1, 96, 96, 172]
abbrev dktX0_sizeOfFactors_1 : List UInt8 := dkwX0_sizeOfFactors_1 ++ []
def dkwX0_sizeOfFactors_0 : List UInt8 := [42, 180, 0, 60, 3, 46, 184, 1, 96, 42, 180, 0, 60, 4, 46, 184, 1, 96, 96, 42, 180, 0, 60, 5]
abbrev dktX0_sizeOfFactors_0 : List UInt8 := dkwX0_sizeOfFactors_0 ++ dktX0_sizeOfFactors_1
theorem dksX0_sizeOfFactors_0 : cX0_sizeOfFactors.data.toList.drop 0 = dktX0_sizeOfFactors_0 := by decide +kernel
theorem dksX0_sizeOfFactors_1 : cX0_sizeOfFactors.data.toList.drop 24 = dktX0_sizeOfFactors_1 := dk_seg dksX0_sizeOfFactors_0 24 rfl rfl
theorem dX0_sizeOfFactors_0 : decode cX0_sizeOfFactors 0 = .ok (.aload_n 0, 1) := dk_42 (dk_at dksX0_sizeOfFactors_0 0 rfl rfl)
theorem dX0_sizeOfFactors_1 : decode cX0_sizeOfFactors 1 = .ok (.getfield 60, 3) := dk_180 0 60 (dk_at dksX0_sizeOfFactors_0 1 rfl rfl)
theorem dX0_sizeOfFactors_4 : decode cX0_sizeOfFactors 4 = .ok (.iconst 0, 1) := dk_3 (dk_at dksX0_sizeOfFactors_0 4 rfl rfl)
theorem dX0_sizeOfFactors_5 : decode cX0_sizeOfFactors 5 = .ok (.iaload, 1) := dk_46 (dk_at dksX0_sizeOfFactors_0 5 rfl rfl)
theorem dX0_sizeOfFactors_6 : decode cX0_sizeOfFactors 6 = .ok (.invokestatic 352, 3) := dk_184 1 96 (dk_at dksX0_sizeOfFactors_0 6 rfl rfl)
theorem dX0_sizeOfFactors_9 : decode cX0_sizeOfFactors 9 = .ok (.aload_n 0, 1) := dk_42 (dk_at dksX0_sizeOfFactors_0 9 rfl rfl)
theorem dX0_sizeOfFactors_10 : decode cX0_sizeOfFactors 10 = .ok (.getfield 60, 3) := dk_180 0 60 (dk_at dksX0_sizeOfFactors_0 10 rfl rfl)
theorem dX0_sizeOfFactors_13 : decode cX0_sizeOfFactors 13 = .ok (.iconst 1, 1) := dk_4 (dk_at dksX0_sizeOfFactors_0 13 rfl rfl)
theorem dX0_sizeOfFactors_14 : decode cX0_sizeOfFactors 14 = .ok (.iaload, 1) := dk_46 (dk_at dksX0_sizeOfFactors_0 14 rfl rfl)
theorem dX0_sizeOfFactors_15 : decode cX0_sizeOfFactors 15 = .ok (.invokestatic 352, 3) := dk_184 1 96 (dk_at dksX0_sizeOfFactors_0 15 rfl rfl)
theorem dX0_sizeOfFactors_18 : decode cX0_sizeOfFactors 18 = .ok (.iadd, 1) := dk_96 (dk_at dksX0_sizeOfFactors_0 18 rfl rfl)
theorem dX0_sizeOfFactors_19 : decode cX0_sizeOfFactors 19 = .ok (.aload_n 0, 1) := dk_42 (dk_at dksX0_sizeOfFactors_0 19 rfl rfl)
theorem dX0_sizeOfFactors_20 : decode cX0_sizeOfFactors 20 = .ok (.getfield 60, 3) := dk_180 0 60 (dk_at dksX0_sizeOfFactors_0 20 rfl rfl)
theorem dX0_sizeOfFactors_23 : decode cX0_sizeOfFactors 23 = .ok (.iconst 2, 1) := dk_5 (dk_at dksX0_sizeOfFactors_0 23 rfl rfl)
theorem dX0_sizeOfFactors_24 : decode cX0_sizeOfFactors 24 = .ok (.iaload, 1) := dk_46 (dk_at dksX0_sizeOfFactors_1 0 rfl rfl)
theorem dX0_sizeOfFactors_25 : decode cX0_sizeOfFactors 25 = .ok (.invokestatic 352, 3) := dk_184 1 96 (dk_at dksX0_sizeOfFactors_1 1 rfl rfl)
theorem dX0_sizeOfFactors_28 : decode cX0_sizeOfFactors 28 = .ok (.iadd, 1) := dk_96 (dk_at dksX0_sizeOfFactors_1 4 rfl rfl)
theorem dX0_sizeOfFactors_29 : decode cX0_sizeOfFactors 29 = .ok (.aload_n 0, 1) := dk_42 (dk_at dksX0_sizeOfFactors_1 5 rfl rfl)
theorem dX0_sizeOfFactors_30 : decode cX0_sizeOfFactors 30 = .ok (.getfield 60, 3) := dk_180 0 60 (dk_at dksX0_sizeOfFactors_1 6 rfl rfl)
theorem dX0_sizeOfFactors_33 : decode cX0_sizeOfFactors 33 = .ok (.iconst 3, 1) := dk_6 (dk_at dksX0_sizeOfFactors_1 9 rfl rfl)
theorem dX0_sizeOfFactors_34 : decode cX0_sizeOfFactors 34 = .ok (.iaload, 1) := dk_46 (dk_at dksX0_sizeOfFactors_1 10 rfl rfl)
theorem dX0_sizeOfFactors_35 : decode cX0_sizeOfFactors 35 = .ok (.invokestatic 352, 3) := dk_184 1 96 (dk_at dksX0_sizeOfFactors_1 11 rfl rfl)
theorem dX0_sizeOfFactors_38 : decode cX0_sizeOfFactors 38 = .ok (.iadd, 1) := dk_96 (dk_at dksX0_sizeOfFactors_1 14 rfl rfl)
theorem dX0_sizeOfFactors_39 : decode cX0_sizeOfFactors 39 = .ok (.ireturn, 1) := dk_172 (dk_at dksX0_sizeOfFactors_1 15 rfl rfl)
abbrev cX0_fitsFactors : ByteArray := prog_1_method_79_code
def yX0_fitsFactors : MethodName := ⟨RX0, "fitsFactors", "()Z"⟩
def dkwX0_fitsFactors_2 : List UInt8 := [132, 1, 1, 167, 255, 208, 4, 172]
abbrev dktX0_fitsFactors_2 : List UInt8 := dkwX0_fitsFactors_2 ++ []
def dkwX0_fitsFactors_1 : List UInt8 := [27, 50, 3, 46, 182, 1, 153, 42, 180, 0, 12, 180, 1, 146, 27, 50, 4, 46, 159, 0, 5, 3, 172]
abbrev dktX0_fitsFactors_1 : List UInt8 := dkwX0_fitsFactors_1 ++ dktX0_fitsFactors_2
def dkwX0_fitsFactors_0 : List UInt8 := [3, 60, 27, 42, 180, 0, 12, 180, 0, 74, 16, 7, 46, 162, 0, 40, 42, 42, 180, 0, 12, 180, 1, 146]
abbrev dktX0_fitsFactors_0 : List UInt8 := dkwX0_fitsFactors_0 ++ dktX0_fitsFactors_1
theorem dksX0_fitsFactors_0 : cX0_fitsFactors.data.toList.drop 0 = dktX0_fitsFactors_0 := by decide +kernel
theorem dksX0_fitsFactors_1 : cX0_fitsFactors.data.toList.drop 24 = dktX0_fitsFactors_1 := dk_seg dksX0_fitsFactors_0 24 rfl rfl
theorem dksX0_fitsFactors_2 : cX0_fitsFactors.data.toList.drop 47 = dktX0_fitsFactors_2 := dk_seg dksX0_fitsFactors_1 23 rfl rfl
theorem dX0_fitsFactors_0 : decode cX0_fitsFactors 0 = .ok (.iconst 0, 1) := dk_3 (dk_at dksX0_fitsFactors_0 0 rfl rfl)
theorem dX0_fitsFactors_1 : decode cX0_fitsFactors 1 = .ok (.istore_n 1, 1) := dk_60 (dk_at dksX0_fitsFactors_0 1 rfl rfl)
theorem dX0_fitsFactors_2 : decode cX0_fitsFactors 2 = .ok (.iload_n 1, 1) := dk_27 (dk_at dksX0_fitsFactors_0 2 rfl rfl)
theorem dX0_fitsFactors_3 : decode cX0_fitsFactors 3 = .ok (.aload_n 0, 1) := dk_42 (dk_at dksX0_fitsFactors_0 3 rfl rfl)
theorem dX0_fitsFactors_4 : decode cX0_fitsFactors 4 = .ok (.getfield 12, 3) := dk_180 0 12 (dk_at dksX0_fitsFactors_0 4 rfl rfl)
theorem dX0_fitsFactors_7 : decode cX0_fitsFactors 7 = .ok (.getfield 74, 3) := dk_180 0 74 (dk_at dksX0_fitsFactors_0 7 rfl rfl)
theorem dX0_fitsFactors_10 : decode cX0_fitsFactors 10 = .ok (.bipush 7, 2) := dk_16 7 (dk_at dksX0_fitsFactors_0 10 rfl rfl)
theorem dX0_fitsFactors_12 : decode cX0_fitsFactors 12 = .ok (.iaload, 1) := dk_46 (dk_at dksX0_fitsFactors_0 12 rfl rfl)
theorem dX0_fitsFactors_13 : decode cX0_fitsFactors 13 = .ok (.if_icmp .ge 40, 3) := dk_162 0 40 (dk_at dksX0_fitsFactors_0 13 rfl rfl)
theorem dX0_fitsFactors_16 : decode cX0_fitsFactors 16 = .ok (.aload_n 0, 1) := dk_42 (dk_at dksX0_fitsFactors_0 16 rfl rfl)
theorem dX0_fitsFactors_17 : decode cX0_fitsFactors 17 = .ok (.aload_n 0, 1) := dk_42 (dk_at dksX0_fitsFactors_0 17 rfl rfl)
theorem dX0_fitsFactors_18 : decode cX0_fitsFactors 18 = .ok (.getfield 12, 3) := dk_180 0 12 (dk_at dksX0_fitsFactors_0 18 rfl rfl)
theorem dX0_fitsFactors_21 : decode cX0_fitsFactors 21 = .ok (.getfield 402, 3) := dk_180 1 146 (dk_at dksX0_fitsFactors_0 21 rfl rfl)
theorem dX0_fitsFactors_24 : decode cX0_fitsFactors 24 = .ok (.iload_n 1, 1) := dk_27 (dk_at dksX0_fitsFactors_1 0 rfl rfl)
theorem dX0_fitsFactors_25 : decode cX0_fitsFactors 25 = .ok (.aaload, 1) := dk_50 (dk_at dksX0_fitsFactors_1 1 rfl rfl)
theorem dX0_fitsFactors_26 : decode cX0_fitsFactors 26 = .ok (.iconst 0, 1) := dk_3 (dk_at dksX0_fitsFactors_1 2 rfl rfl)
theorem dX0_fitsFactors_27 : decode cX0_fitsFactors 27 = .ok (.iaload, 1) := dk_46 (dk_at dksX0_fitsFactors_1 3 rfl rfl)
theorem dX0_fitsFactors_28 : decode cX0_fitsFactors 28 = .ok (.invokevirtual 409, 3) := dk_182 1 153 (dk_at dksX0_fitsFactors_1 4 rfl rfl)
theorem dX0_fitsFactors_31 : decode cX0_fitsFactors 31 = .ok (.aload_n 0, 1) := dk_42 (dk_at dksX0_fitsFactors_1 7 rfl rfl)
theorem dX0_fitsFactors_32 : decode cX0_fitsFactors 32 = .ok (.getfield 12, 3) := dk_180 0 12 (dk_at dksX0_fitsFactors_1 8 rfl rfl)
theorem dX0_fitsFactors_35 : decode cX0_fitsFactors 35 = .ok (.getfield 402, 3) := dk_180 1 146 (dk_at dksX0_fitsFactors_1 11 rfl rfl)
theorem dX0_fitsFactors_38 : decode cX0_fitsFactors 38 = .ok (.iload_n 1, 1) := dk_27 (dk_at dksX0_fitsFactors_1 14 rfl rfl)
theorem dX0_fitsFactors_39 : decode cX0_fitsFactors 39 = .ok (.aaload, 1) := dk_50 (dk_at dksX0_fitsFactors_1 15 rfl rfl)
theorem dX0_fitsFactors_40 : decode cX0_fitsFactors 40 = .ok (.iconst 1, 1) := dk_4 (dk_at dksX0_fitsFactors_1 16 rfl rfl)
theorem dX0_fitsFactors_41 : decode cX0_fitsFactors 41 = .ok (.iaload, 1) := dk_46 (dk_at dksX0_fitsFactors_1 17 rfl rfl)
theorem dX0_fitsFactors_42 : decode cX0_fitsFactors 42 = .ok (.if_icmp .eq 5, 3) := dk_159 0 5 (dk_at dksX0_fitsFactors_1 18 rfl rfl)
theorem dX0_fitsFactors_45 : decode cX0_fitsFactors 45 = .ok (.iconst 0, 1) := dk_3 (dk_at dksX0_fitsFactors_1 21 rfl rfl)
theorem dX0_fitsFactors_46 : decode cX0_fitsFactors 46 = .ok (.ireturn, 1) := dk_172 (dk_at dksX0_fitsFactors_1 22 rfl rfl)
theorem dX0_fitsFactors_47 : decode cX0_fitsFactors 47 = .ok (.iinc 1 1, 3) := dk_132 1 1 (dk_at dksX0_fitsFactors_2 0 rfl rfl)
theorem dX0_fitsFactors_50 : decode cX0_fitsFactors 50 = .ok (.goto (-48), 3) := dk_167 255 208 (dk_at dksX0_fitsFactors_2 3 rfl rfl)
theorem dX0_fitsFactors_53 : decode cX0_fitsFactors 53 = .ok (.iconst 1, 1) := dk_4 (dk_at dksX0_fitsFactors_2 6 rfl rfl)
theorem dX0_fitsFactors_54 : decode cX0_fitsFactors 54 = .ok (.ireturn, 1) := dk_172 (dk_at dksX0_fitsFactors_2 7 rfl rfl)
abbrev cX0_byFactors : ByteArray := prog_1_method_78_code
def yX0_byFactors : MethodName := ⟨RX0, "byFactors", "(I)I"⟩
def dkwX0_byFactors_4 : List UInt8 := [132, 3, 1, 167, 255, 161, 28, 172]
abbrev dktX0_byFactors_4 : List UInt8 := dkwX0_byFactors_4 ++ []
def dkwX0_byFactors_3 : List UInt8 := [153, 0, 15, 42, 180, 0, 60, 21, 5, 4, 96, 46, 167, 0, 4, 3, 96, 61, 132, 5, 1, 167, 255, 219]
abbrev dktX0_byFactors_3 : List UInt8 := dkwX0_byFactors_3 ++ dktX0_byFactors_4
def dkwX0_byFactors_2 : List UInt8 := [5, 46, 104, 96, 61, 3, 54, 5, 21, 5, 6, 162, 0, 37, 28, 25, 4, 6, 46, 21, 5, 184, 0, 174]
abbrev dktX0_byFactors_2 : List UInt8 := dkwX0_byFactors_2 ++ dktX0_byFactors_3
def dkwX0_byFactors_1 : List UInt8 := [29, 50, 58, 4, 25, 4, 3, 46, 27, 159, 0, 6, 167, 0, 60, 28, 42, 180, 0, 60, 3, 46, 25, 4]
abbrev dktX0_byFactors_1 : List UInt8 := dkwX0_byFactors_1 ++ dktX0_byFactors_2
def dkwX0_byFactors_0 : List UInt8 := [3, 61, 3, 62, 29, 42, 180, 0, 12, 180, 0, 74, 4, 46, 162, 0, 88, 42, 180, 0, 12, 180, 0, 88]
abbrev dktX0_byFactors_0 : List UInt8 := dkwX0_byFactors_0 ++ dktX0_byFactors_1
theorem dksX0_byFactors_0 : cX0_byFactors.data.toList.drop 0 = dktX0_byFactors_0 := by decide +kernel
theorem dksX0_byFactors_1 : cX0_byFactors.data.toList.drop 24 = dktX0_byFactors_1 := dk_seg dksX0_byFactors_0 24 rfl rfl
theorem dksX0_byFactors_2 : cX0_byFactors.data.toList.drop 48 = dktX0_byFactors_2 := dk_seg dksX0_byFactors_1 24 rfl rfl
theorem dksX0_byFactors_3 : cX0_byFactors.data.toList.drop 72 = dktX0_byFactors_3 := dk_seg dksX0_byFactors_2 24 rfl rfl
theorem dksX0_byFactors_4 : cX0_byFactors.data.toList.drop 96 = dktX0_byFactors_4 := dk_seg dksX0_byFactors_3 24 rfl rfl
theorem dX0_byFactors_0 : decode cX0_byFactors 0 = .ok (.iconst 0, 1) := dk_3 (dk_at dksX0_byFactors_0 0 rfl rfl)
theorem dX0_byFactors_1 : decode cX0_byFactors 1 = .ok (.istore_n 2, 1) := dk_61 (dk_at dksX0_byFactors_0 1 rfl rfl)
theorem dX0_byFactors_2 : decode cX0_byFactors 2 = .ok (.iconst 0, 1) := dk_3 (dk_at dksX0_byFactors_0 2 rfl rfl)
theorem dX0_byFactors_3 : decode cX0_byFactors 3 = .ok (.istore_n 3, 1) := dk_62 (dk_at dksX0_byFactors_0 3 rfl rfl)
theorem dX0_byFactors_4 : decode cX0_byFactors 4 = .ok (.iload_n 3, 1) := dk_29 (dk_at dksX0_byFactors_0 4 rfl rfl)
theorem dX0_byFactors_5 : decode cX0_byFactors 5 = .ok (.aload_n 0, 1) := dk_42 (dk_at dksX0_byFactors_0 5 rfl rfl)
theorem dX0_byFactors_6 : decode cX0_byFactors 6 = .ok (.getfield 12, 3) := dk_180 0 12 (dk_at dksX0_byFactors_0 6 rfl rfl)
theorem dX0_byFactors_9 : decode cX0_byFactors 9 = .ok (.getfield 74, 3) := dk_180 0 74 (dk_at dksX0_byFactors_0 9 rfl rfl)
theorem dX0_byFactors_12 : decode cX0_byFactors 12 = .ok (.iconst 1, 1) := dk_4 (dk_at dksX0_byFactors_0 12 rfl rfl)
theorem dX0_byFactors_13 : decode cX0_byFactors 13 = .ok (.iaload, 1) := dk_46 (dk_at dksX0_byFactors_0 13 rfl rfl)
theorem dX0_byFactors_14 : decode cX0_byFactors 14 = .ok (.if_icmp .ge 88, 3) := dk_162 0 88 (dk_at dksX0_byFactors_0 14 rfl rfl)
theorem dX0_byFactors_17 : decode cX0_byFactors 17 = .ok (.aload_n 0, 1) := dk_42 (dk_at dksX0_byFactors_0 17 rfl rfl)
theorem dX0_byFactors_18 : decode cX0_byFactors 18 = .ok (.getfield 12, 3) := dk_180 0 12 (dk_at dksX0_byFactors_0 18 rfl rfl)
theorem dX0_byFactors_21 : decode cX0_byFactors 21 = .ok (.getfield 88, 3) := dk_180 0 88 (dk_at dksX0_byFactors_0 21 rfl rfl)
theorem dX0_byFactors_24 : decode cX0_byFactors 24 = .ok (.iload_n 3, 1) := dk_29 (dk_at dksX0_byFactors_1 0 rfl rfl)
theorem dX0_byFactors_25 : decode cX0_byFactors 25 = .ok (.aaload, 1) := dk_50 (dk_at dksX0_byFactors_1 1 rfl rfl)
theorem dX0_byFactors_26 : decode cX0_byFactors 26 = .ok (.astore 4, 2) := dk_58 4 (dk_at dksX0_byFactors_1 2 rfl rfl)
theorem dX0_byFactors_28 : decode cX0_byFactors 28 = .ok (.aload 4, 2) := dk_25 4 (dk_at dksX0_byFactors_1 4 rfl rfl)
theorem dX0_byFactors_30 : decode cX0_byFactors 30 = .ok (.iconst 0, 1) := dk_3 (dk_at dksX0_byFactors_1 6 rfl rfl)
theorem dX0_byFactors_31 : decode cX0_byFactors 31 = .ok (.iaload, 1) := dk_46 (dk_at dksX0_byFactors_1 7 rfl rfl)
theorem dX0_byFactors_32 : decode cX0_byFactors 32 = .ok (.iload_n 1, 1) := dk_27 (dk_at dksX0_byFactors_1 8 rfl rfl)
theorem dX0_byFactors_33 : decode cX0_byFactors 33 = .ok (.if_icmp .eq 6, 3) := dk_159 0 6 (dk_at dksX0_byFactors_1 9 rfl rfl)
theorem dX0_byFactors_36 : decode cX0_byFactors 36 = .ok (.goto 60, 3) := dk_167 0 60 (dk_at dksX0_byFactors_1 12 rfl rfl)
theorem dX0_byFactors_39 : decode cX0_byFactors 39 = .ok (.iload_n 2, 1) := dk_28 (dk_at dksX0_byFactors_1 15 rfl rfl)
theorem dX0_byFactors_40 : decode cX0_byFactors 40 = .ok (.aload_n 0, 1) := dk_42 (dk_at dksX0_byFactors_1 16 rfl rfl)
theorem dX0_byFactors_41 : decode cX0_byFactors 41 = .ok (.getfield 60, 3) := dk_180 0 60 (dk_at dksX0_byFactors_1 17 rfl rfl)
theorem dX0_byFactors_44 : decode cX0_byFactors 44 = .ok (.iconst 0, 1) := dk_3 (dk_at dksX0_byFactors_1 20 rfl rfl)
theorem dX0_byFactors_45 : decode cX0_byFactors 45 = .ok (.iaload, 1) := dk_46 (dk_at dksX0_byFactors_1 21 rfl rfl)
theorem dX0_byFactors_46 : decode cX0_byFactors 46 = .ok (.aload 4, 2) := dk_25 4 (dk_at dksX0_byFactors_1 22 rfl rfl)
theorem dX0_byFactors_48 : decode cX0_byFactors 48 = .ok (.iconst 2, 1) := dk_5 (dk_at dksX0_byFactors_2 0 rfl rfl)
theorem dX0_byFactors_49 : decode cX0_byFactors 49 = .ok (.iaload, 1) := dk_46 (dk_at dksX0_byFactors_2 1 rfl rfl)
theorem dX0_byFactors_50 : decode cX0_byFactors 50 = .ok (.imul, 1) := dk_104 (dk_at dksX0_byFactors_2 2 rfl rfl)
theorem dX0_byFactors_51 : decode cX0_byFactors 51 = .ok (.iadd, 1) := dk_96 (dk_at dksX0_byFactors_2 3 rfl rfl)
theorem dX0_byFactors_52 : decode cX0_byFactors 52 = .ok (.istore_n 2, 1) := dk_61 (dk_at dksX0_byFactors_2 4 rfl rfl)
theorem dX0_byFactors_53 : decode cX0_byFactors 53 = .ok (.iconst 0, 1) := dk_3 (dk_at dksX0_byFactors_2 5 rfl rfl)
theorem dX0_byFactors_54 : decode cX0_byFactors 54 = .ok (.istore 5, 2) := dk_54 5 (dk_at dksX0_byFactors_2 6 rfl rfl)
theorem dX0_byFactors_56 : decode cX0_byFactors 56 = .ok (.iload 5, 2) := dk_21 5 (dk_at dksX0_byFactors_2 8 rfl rfl)
theorem dX0_byFactors_58 : decode cX0_byFactors 58 = .ok (.iconst 3, 1) := dk_6 (dk_at dksX0_byFactors_2 10 rfl rfl)
theorem dX0_byFactors_59 : decode cX0_byFactors 59 = .ok (.if_icmp .ge 37, 3) := dk_162 0 37 (dk_at dksX0_byFactors_2 11 rfl rfl)
theorem dX0_byFactors_62 : decode cX0_byFactors 62 = .ok (.iload_n 2, 1) := dk_28 (dk_at dksX0_byFactors_2 14 rfl rfl)
theorem dX0_byFactors_63 : decode cX0_byFactors 63 = .ok (.aload 4, 2) := dk_25 4 (dk_at dksX0_byFactors_2 15 rfl rfl)
theorem dX0_byFactors_65 : decode cX0_byFactors 65 = .ok (.iconst 3, 1) := dk_6 (dk_at dksX0_byFactors_2 17 rfl rfl)
theorem dX0_byFactors_66 : decode cX0_byFactors 66 = .ok (.iaload, 1) := dk_46 (dk_at dksX0_byFactors_2 18 rfl rfl)
theorem dX0_byFactors_67 : decode cX0_byFactors 67 = .ok (.iload 5, 2) := dk_21 5 (dk_at dksX0_byFactors_2 19 rfl rfl)
theorem dX0_byFactors_69 : decode cX0_byFactors 69 = .ok (.invokestatic 174, 3) := dk_184 0 174 (dk_at dksX0_byFactors_2 21 rfl rfl)
theorem dX0_byFactors_72 : decode cX0_byFactors 72 = .ok (.ifCond .eq 15, 3) := dk_153 0 15 (dk_at dksX0_byFactors_3 0 rfl rfl)
theorem dX0_byFactors_75 : decode cX0_byFactors 75 = .ok (.aload_n 0, 1) := dk_42 (dk_at dksX0_byFactors_3 3 rfl rfl)
theorem dX0_byFactors_76 : decode cX0_byFactors 76 = .ok (.getfield 60, 3) := dk_180 0 60 (dk_at dksX0_byFactors_3 4 rfl rfl)
theorem dX0_byFactors_79 : decode cX0_byFactors 79 = .ok (.iload 5, 2) := dk_21 5 (dk_at dksX0_byFactors_3 7 rfl rfl)
theorem dX0_byFactors_81 : decode cX0_byFactors 81 = .ok (.iconst 1, 1) := dk_4 (dk_at dksX0_byFactors_3 9 rfl rfl)
theorem dX0_byFactors_82 : decode cX0_byFactors 82 = .ok (.iadd, 1) := dk_96 (dk_at dksX0_byFactors_3 10 rfl rfl)
theorem dX0_byFactors_83 : decode cX0_byFactors 83 = .ok (.iaload, 1) := dk_46 (dk_at dksX0_byFactors_3 11 rfl rfl)
theorem dX0_byFactors_84 : decode cX0_byFactors 84 = .ok (.goto 4, 3) := dk_167 0 4 (dk_at dksX0_byFactors_3 12 rfl rfl)
theorem dX0_byFactors_87 : decode cX0_byFactors 87 = .ok (.iconst 0, 1) := dk_3 (dk_at dksX0_byFactors_3 15 rfl rfl)
theorem dX0_byFactors_88 : decode cX0_byFactors 88 = .ok (.iadd, 1) := dk_96 (dk_at dksX0_byFactors_3 16 rfl rfl)
theorem dX0_byFactors_89 : decode cX0_byFactors 89 = .ok (.istore_n 2, 1) := dk_61 (dk_at dksX0_byFactors_3 17 rfl rfl)
theorem dX0_byFactors_90 : decode cX0_byFactors 90 = .ok (.iinc 5 1, 3) := dk_132 5 1 (dk_at dksX0_byFactors_3 18 rfl rfl)
theorem dX0_byFactors_93 : decode cX0_byFactors 93 = .ok (.goto (-37), 3) := dk_167 255 219 (dk_at dksX0_byFactors_3 21 rfl rfl)
theorem dX0_byFactors_96 : decode cX0_byFactors 96 = .ok (.iinc 3 1, 3) := dk_132 3 1 (dk_at dksX0_byFactors_4 0 rfl rfl)
theorem dX0_byFactors_99 : decode cX0_byFactors 99 = .ok (.goto (-95), 3) := dk_167 255 161 (dk_at dksX0_byFactors_4 3 rfl rfl)
theorem dX0_byFactors_102 : decode cX0_byFactors 102 = .ok (.iload_n 2, 1) := dk_28 (dk_at dksX0_byFactors_4 6 rfl rfl)
theorem dX0_byFactors_103 : decode cX0_byFactors 103 = .ok (.ireturn, 1) := dk_172 (dk_at dksX0_byFactors_4 7 rfl rfl)
abbrev cX0_tells : ByteArray := prog_1_method_83_code
def yX0_tells : MethodName := ⟨RX0, "tells", "()I"⟩
def dkwX0_tells_2 : List UInt8 := [167, 0, 9, 21, 5, 62, 21, 4, 61, 132, 4, 1, 167, 255, 211, 28, 172]
abbrev dktX0_tells_2 : List UInt8 := dkwX0_tells_2 ++ []
def dkwX0_tells_1 : List UInt8 := [162, 0, 37, 27, 153, 0, 33, 42, 27, 21, 4, 182, 1, 165, 54, 5, 21, 5, 29, 161, 0, 6]
abbrev dktX0_tells_1 : List UInt8 := dkwX0_tells_1 ++ dktX0_tells_2
def dkwX0_tells_0 : List UInt8 := [42, 182, 1, 162, 60, 2, 61, 8, 62, 3, 54, 4, 21, 4, 42, 180, 0, 12, 180, 0, 74, 4, 46]
abbrev dktX0_tells_0 : List UInt8 := dkwX0_tells_0 ++ dktX0_tells_1
theorem dksX0_tells_0 : cX0_tells.data.toList.drop 0 = dktX0_tells_0 := by decide +kernel
theorem dksX0_tells_1 : cX0_tells.data.toList.drop 23 = dktX0_tells_1 := dk_seg dksX0_tells_0 23 rfl rfl
theorem dksX0_tells_2 : cX0_tells.data.toList.drop 45 = dktX0_tells_2 := dk_seg dksX0_tells_1 22 rfl rfl
theorem dX0_tells_0 : decode cX0_tells 0 = .ok (.aload_n 0, 1) := dk_42 (dk_at dksX0_tells_0 0 rfl rfl)
theorem dX0_tells_1 : decode cX0_tells 1 = .ok (.invokevirtual 418, 3) := dk_182 1 162 (dk_at dksX0_tells_0 1 rfl rfl)
theorem dX0_tells_4 : decode cX0_tells 4 = .ok (.istore_n 1, 1) := dk_60 (dk_at dksX0_tells_0 4 rfl rfl)
theorem dX0_tells_5 : decode cX0_tells 5 = .ok (.iconst (-1), 1) := dk_2 (dk_at dksX0_tells_0 5 rfl rfl)
theorem dX0_tells_6 : decode cX0_tells 6 = .ok (.istore_n 2, 1) := dk_61 (dk_at dksX0_tells_0 6 rfl rfl)
theorem dX0_tells_7 : decode cX0_tells 7 = .ok (.iconst 5, 1) := dk_8 (dk_at dksX0_tells_0 7 rfl rfl)
theorem dX0_tells_8 : decode cX0_tells 8 = .ok (.istore_n 3, 1) := dk_62 (dk_at dksX0_tells_0 8 rfl rfl)
theorem dX0_tells_9 : decode cX0_tells 9 = .ok (.iconst 0, 1) := dk_3 (dk_at dksX0_tells_0 9 rfl rfl)
theorem dX0_tells_10 : decode cX0_tells 10 = .ok (.istore 4, 2) := dk_54 4 (dk_at dksX0_tells_0 10 rfl rfl)
theorem dX0_tells_12 : decode cX0_tells 12 = .ok (.iload 4, 2) := dk_21 4 (dk_at dksX0_tells_0 12 rfl rfl)
theorem dX0_tells_14 : decode cX0_tells 14 = .ok (.aload_n 0, 1) := dk_42 (dk_at dksX0_tells_0 14 rfl rfl)
theorem dX0_tells_15 : decode cX0_tells 15 = .ok (.getfield 12, 3) := dk_180 0 12 (dk_at dksX0_tells_0 15 rfl rfl)
theorem dX0_tells_18 : decode cX0_tells 18 = .ok (.getfield 74, 3) := dk_180 0 74 (dk_at dksX0_tells_0 18 rfl rfl)
theorem dX0_tells_21 : decode cX0_tells 21 = .ok (.iconst 1, 1) := dk_4 (dk_at dksX0_tells_0 21 rfl rfl)
theorem dX0_tells_22 : decode cX0_tells 22 = .ok (.iaload, 1) := dk_46 (dk_at dksX0_tells_0 22 rfl rfl)
theorem dX0_tells_23 : decode cX0_tells 23 = .ok (.if_icmp .ge 37, 3) := dk_162 0 37 (dk_at dksX0_tells_1 0 rfl rfl)
theorem dX0_tells_26 : decode cX0_tells 26 = .ok (.iload_n 1, 1) := dk_27 (dk_at dksX0_tells_1 3 rfl rfl)
theorem dX0_tells_27 : decode cX0_tells 27 = .ok (.ifCond .eq 33, 3) := dk_153 0 33 (dk_at dksX0_tells_1 4 rfl rfl)
theorem dX0_tells_30 : decode cX0_tells 30 = .ok (.aload_n 0, 1) := dk_42 (dk_at dksX0_tells_1 7 rfl rfl)
theorem dX0_tells_31 : decode cX0_tells 31 = .ok (.iload_n 1, 1) := dk_27 (dk_at dksX0_tells_1 8 rfl rfl)
theorem dX0_tells_32 : decode cX0_tells 32 = .ok (.iload 4, 2) := dk_21 4 (dk_at dksX0_tells_1 9 rfl rfl)
theorem dX0_tells_34 : decode cX0_tells 34 = .ok (.invokevirtual 421, 3) := dk_182 1 165 (dk_at dksX0_tells_1 11 rfl rfl)
theorem dX0_tells_37 : decode cX0_tells 37 = .ok (.istore 5, 2) := dk_54 5 (dk_at dksX0_tells_1 14 rfl rfl)
theorem dX0_tells_39 : decode cX0_tells 39 = .ok (.iload 5, 2) := dk_21 5 (dk_at dksX0_tells_1 16 rfl rfl)
theorem dX0_tells_41 : decode cX0_tells 41 = .ok (.iload_n 3, 1) := dk_29 (dk_at dksX0_tells_1 18 rfl rfl)
theorem dX0_tells_42 : decode cX0_tells 42 = .ok (.if_icmp .lt 6, 3) := dk_161 0 6 (dk_at dksX0_tells_1 19 rfl rfl)
theorem dX0_tells_45 : decode cX0_tells 45 = .ok (.goto 9, 3) := dk_167 0 9 (dk_at dksX0_tells_2 0 rfl rfl)
theorem dX0_tells_48 : decode cX0_tells 48 = .ok (.iload 5, 2) := dk_21 5 (dk_at dksX0_tells_2 3 rfl rfl)
theorem dX0_tells_50 : decode cX0_tells 50 = .ok (.istore_n 3, 1) := dk_62 (dk_at dksX0_tells_2 5 rfl rfl)
theorem dX0_tells_51 : decode cX0_tells 51 = .ok (.iload 4, 2) := dk_21 4 (dk_at dksX0_tells_2 6 rfl rfl)
theorem dX0_tells_53 : decode cX0_tells 53 = .ok (.istore_n 2, 1) := dk_61 (dk_at dksX0_tells_2 8 rfl rfl)
theorem dX0_tells_54 : decode cX0_tells 54 = .ok (.iinc 4 1, 3) := dk_132 4 1 (dk_at dksX0_tells_2 9 rfl rfl)
theorem dX0_tells_57 : decode cX0_tells 57 = .ok (.goto (-45), 3) := dk_167 255 211 (dk_at dksX0_tells_2 12 rfl rfl)
theorem dX0_tells_60 : decode cX0_tells 60 = .ok (.iload_n 2, 1) := dk_28 (dk_at dksX0_tells_2 15 rfl rfl)
theorem dX0_tells_61 : decode cX0_tells 61 = .ok (.ireturn, 1) := dk_172 (dk_at dksX0_tells_2 16 rfl rfl)
abbrev cX0_alike : ByteArray := prog_1_method_82_code
def yX0_alike : MethodName := ⟨RX0, "alike", "(II)I"⟩
def dkwX0_alike_5 : List UInt8 := [167, 255, 145, 29, 172]
abbrev dktX0_alike_5 : List UInt8 := dkwX0_alike_5 ++ []
def dkwX0_alike_4 : List UInt8 := [167, 0, 4, 3, 96, 54, 5, 132, 6, 1, 167, 255, 178, 29, 21, 5, 184, 1, 85, 62, 132, 4, 1]
abbrev dktX0_alike_4 : List UInt8 := dkwX0_alike_4 ++ dktX0_alike_5
def dkwX0_alike_3 : List UInt8 := [50, 28, 182, 0, 170, 42, 42, 180, 0, 12, 180, 0, 115, 21, 6, 50, 28, 182, 0, 170, 160, 0, 7, 4]
abbrev dktX0_alike_3 : List UInt8 := dkwX0_alike_3 ++ dktX0_alike_4
def dkwX0_alike_2 : List UInt8 := [153, 0, 61, 21, 5, 27, 21, 6, 184, 0, 174, 153, 0, 40, 42, 42, 180, 0, 12, 180, 0, 115, 21, 4]
abbrev dktX0_alike_2 : List UInt8 := dkwX0_alike_2 ++ dktX0_alike_3
def dkwX0_alike_1 : List UInt8 := [54, 6, 21, 6, 42, 180, 0, 12, 180, 0, 74, 7, 46, 162, 0, 70, 27, 21, 4, 184, 0, 174]
abbrev dktX0_alike_1 : List UInt8 := dkwX0_alike_1 ++ dktX0_alike_2
def dkwX0_alike_0 : List UInt8 := [3, 62, 3, 54, 4, 21, 4, 42, 180, 0, 12, 180, 0, 74, 7, 46, 162, 0, 103, 3, 54, 5, 3]
abbrev dktX0_alike_0 : List UInt8 := dkwX0_alike_0 ++ dktX0_alike_1
theorem dksX0_alike_0 : cX0_alike.data.toList.drop 0 = dktX0_alike_0 := by decide +kernel
theorem dksX0_alike_1 : cX0_alike.data.toList.drop 23 = dktX0_alike_1 := dk_seg dksX0_alike_0 23 rfl rfl
theorem dksX0_alike_2 : cX0_alike.data.toList.drop 45 = dktX0_alike_2 := dk_seg dksX0_alike_1 22 rfl rfl
theorem dksX0_alike_3 : cX0_alike.data.toList.drop 69 = dktX0_alike_3 := dk_seg dksX0_alike_2 24 rfl rfl
theorem dksX0_alike_4 : cX0_alike.data.toList.drop 93 = dktX0_alike_4 := dk_seg dksX0_alike_3 24 rfl rfl
theorem dksX0_alike_5 : cX0_alike.data.toList.drop 116 = dktX0_alike_5 := dk_seg dksX0_alike_4 23 rfl rfl
theorem dX0_alike_0 : decode cX0_alike 0 = .ok (.iconst 0, 1) := dk_3 (dk_at dksX0_alike_0 0 rfl rfl)
theorem dX0_alike_1 : decode cX0_alike 1 = .ok (.istore_n 3, 1) := dk_62 (dk_at dksX0_alike_0 1 rfl rfl)
theorem dX0_alike_2 : decode cX0_alike 2 = .ok (.iconst 0, 1) := dk_3 (dk_at dksX0_alike_0 2 rfl rfl)
theorem dX0_alike_3 : decode cX0_alike 3 = .ok (.istore 4, 2) := dk_54 4 (dk_at dksX0_alike_0 3 rfl rfl)
theorem dX0_alike_5 : decode cX0_alike 5 = .ok (.iload 4, 2) := dk_21 4 (dk_at dksX0_alike_0 5 rfl rfl)
theorem dX0_alike_7 : decode cX0_alike 7 = .ok (.aload_n 0, 1) := dk_42 (dk_at dksX0_alike_0 7 rfl rfl)
theorem dX0_alike_8 : decode cX0_alike 8 = .ok (.getfield 12, 3) := dk_180 0 12 (dk_at dksX0_alike_0 8 rfl rfl)
theorem dX0_alike_11 : decode cX0_alike 11 = .ok (.getfield 74, 3) := dk_180 0 74 (dk_at dksX0_alike_0 11 rfl rfl)
theorem dX0_alike_14 : decode cX0_alike 14 = .ok (.iconst 4, 1) := dk_7 (dk_at dksX0_alike_0 14 rfl rfl)
theorem dX0_alike_15 : decode cX0_alike 15 = .ok (.iaload, 1) := dk_46 (dk_at dksX0_alike_0 15 rfl rfl)
theorem dX0_alike_16 : decode cX0_alike 16 = .ok (.if_icmp .ge 103, 3) := dk_162 0 103 (dk_at dksX0_alike_0 16 rfl rfl)
theorem dX0_alike_19 : decode cX0_alike 19 = .ok (.iconst 0, 1) := dk_3 (dk_at dksX0_alike_0 19 rfl rfl)
theorem dX0_alike_20 : decode cX0_alike 20 = .ok (.istore 5, 2) := dk_54 5 (dk_at dksX0_alike_0 20 rfl rfl)
theorem dX0_alike_22 : decode cX0_alike 22 = .ok (.iconst 0, 1) := dk_3 (dk_at dksX0_alike_0 22 rfl rfl)
theorem dX0_alike_23 : decode cX0_alike 23 = .ok (.istore 6, 2) := dk_54 6 (dk_at dksX0_alike_1 0 rfl rfl)
theorem dX0_alike_25 : decode cX0_alike 25 = .ok (.iload 6, 2) := dk_21 6 (dk_at dksX0_alike_1 2 rfl rfl)
theorem dX0_alike_27 : decode cX0_alike 27 = .ok (.aload_n 0, 1) := dk_42 (dk_at dksX0_alike_1 4 rfl rfl)
theorem dX0_alike_28 : decode cX0_alike 28 = .ok (.getfield 12, 3) := dk_180 0 12 (dk_at dksX0_alike_1 5 rfl rfl)
theorem dX0_alike_31 : decode cX0_alike 31 = .ok (.getfield 74, 3) := dk_180 0 74 (dk_at dksX0_alike_1 8 rfl rfl)
theorem dX0_alike_34 : decode cX0_alike 34 = .ok (.iconst 4, 1) := dk_7 (dk_at dksX0_alike_1 11 rfl rfl)
theorem dX0_alike_35 : decode cX0_alike 35 = .ok (.iaload, 1) := dk_46 (dk_at dksX0_alike_1 12 rfl rfl)
theorem dX0_alike_36 : decode cX0_alike 36 = .ok (.if_icmp .ge 70, 3) := dk_162 0 70 (dk_at dksX0_alike_1 13 rfl rfl)
theorem dX0_alike_39 : decode cX0_alike 39 = .ok (.iload_n 1, 1) := dk_27 (dk_at dksX0_alike_1 16 rfl rfl)
theorem dX0_alike_40 : decode cX0_alike 40 = .ok (.iload 4, 2) := dk_21 4 (dk_at dksX0_alike_1 17 rfl rfl)
theorem dX0_alike_42 : decode cX0_alike 42 = .ok (.invokestatic 174, 3) := dk_184 0 174 (dk_at dksX0_alike_1 19 rfl rfl)
theorem dX0_alike_45 : decode cX0_alike 45 = .ok (.ifCond .eq 61, 3) := dk_153 0 61 (dk_at dksX0_alike_2 0 rfl rfl)
theorem dX0_alike_48 : decode cX0_alike 48 = .ok (.iload 5, 2) := dk_21 5 (dk_at dksX0_alike_2 3 rfl rfl)
theorem dX0_alike_50 : decode cX0_alike 50 = .ok (.iload_n 1, 1) := dk_27 (dk_at dksX0_alike_2 5 rfl rfl)
theorem dX0_alike_51 : decode cX0_alike 51 = .ok (.iload 6, 2) := dk_21 6 (dk_at dksX0_alike_2 6 rfl rfl)
theorem dX0_alike_53 : decode cX0_alike 53 = .ok (.invokestatic 174, 3) := dk_184 0 174 (dk_at dksX0_alike_2 8 rfl rfl)
theorem dX0_alike_56 : decode cX0_alike 56 = .ok (.ifCond .eq 40, 3) := dk_153 0 40 (dk_at dksX0_alike_2 11 rfl rfl)
theorem dX0_alike_59 : decode cX0_alike 59 = .ok (.aload_n 0, 1) := dk_42 (dk_at dksX0_alike_2 14 rfl rfl)
theorem dX0_alike_60 : decode cX0_alike 60 = .ok (.aload_n 0, 1) := dk_42 (dk_at dksX0_alike_2 15 rfl rfl)
theorem dX0_alike_61 : decode cX0_alike 61 = .ok (.getfield 12, 3) := dk_180 0 12 (dk_at dksX0_alike_2 16 rfl rfl)
theorem dX0_alike_64 : decode cX0_alike 64 = .ok (.getfield 115, 3) := dk_180 0 115 (dk_at dksX0_alike_2 19 rfl rfl)
theorem dX0_alike_67 : decode cX0_alike 67 = .ok (.iload 4, 2) := dk_21 4 (dk_at dksX0_alike_2 22 rfl rfl)
theorem dX0_alike_69 : decode cX0_alike 69 = .ok (.aaload, 1) := dk_50 (dk_at dksX0_alike_3 0 rfl rfl)
theorem dX0_alike_70 : decode cX0_alike 70 = .ok (.iload_n 2, 1) := dk_28 (dk_at dksX0_alike_3 1 rfl rfl)
theorem dX0_alike_71 : decode cX0_alike 71 = .ok (.invokevirtual 170, 3) := dk_182 0 170 (dk_at dksX0_alike_3 2 rfl rfl)
theorem dX0_alike_74 : decode cX0_alike 74 = .ok (.aload_n 0, 1) := dk_42 (dk_at dksX0_alike_3 5 rfl rfl)
theorem dX0_alike_75 : decode cX0_alike 75 = .ok (.aload_n 0, 1) := dk_42 (dk_at dksX0_alike_3 6 rfl rfl)
theorem dX0_alike_76 : decode cX0_alike 76 = .ok (.getfield 12, 3) := dk_180 0 12 (dk_at dksX0_alike_3 7 rfl rfl)
theorem dX0_alike_79 : decode cX0_alike 79 = .ok (.getfield 115, 3) := dk_180 0 115 (dk_at dksX0_alike_3 10 rfl rfl)
theorem dX0_alike_82 : decode cX0_alike 82 = .ok (.iload 6, 2) := dk_21 6 (dk_at dksX0_alike_3 13 rfl rfl)
theorem dX0_alike_84 : decode cX0_alike 84 = .ok (.aaload, 1) := dk_50 (dk_at dksX0_alike_3 15 rfl rfl)
theorem dX0_alike_85 : decode cX0_alike 85 = .ok (.iload_n 2, 1) := dk_28 (dk_at dksX0_alike_3 16 rfl rfl)
theorem dX0_alike_86 : decode cX0_alike 86 = .ok (.invokevirtual 170, 3) := dk_182 0 170 (dk_at dksX0_alike_3 17 rfl rfl)
theorem dX0_alike_89 : decode cX0_alike 89 = .ok (.if_icmp .ne 7, 3) := dk_160 0 7 (dk_at dksX0_alike_3 20 rfl rfl)
theorem dX0_alike_92 : decode cX0_alike 92 = .ok (.iconst 1, 1) := dk_4 (dk_at dksX0_alike_3 23 rfl rfl)
theorem dX0_alike_93 : decode cX0_alike 93 = .ok (.goto 4, 3) := dk_167 0 4 (dk_at dksX0_alike_4 0 rfl rfl)
theorem dX0_alike_96 : decode cX0_alike 96 = .ok (.iconst 0, 1) := dk_3 (dk_at dksX0_alike_4 3 rfl rfl)
theorem dX0_alike_97 : decode cX0_alike 97 = .ok (.iadd, 1) := dk_96 (dk_at dksX0_alike_4 4 rfl rfl)
theorem dX0_alike_98 : decode cX0_alike 98 = .ok (.istore 5, 2) := dk_54 5 (dk_at dksX0_alike_4 5 rfl rfl)
theorem dX0_alike_100 : decode cX0_alike 100 = .ok (.iinc 6 1, 3) := dk_132 6 1 (dk_at dksX0_alike_4 7 rfl rfl)
theorem dX0_alike_103 : decode cX0_alike 103 = .ok (.goto (-78), 3) := dk_167 255 178 (dk_at dksX0_alike_4 10 rfl rfl)
theorem dX0_alike_106 : decode cX0_alike 106 = .ok (.iload_n 3, 1) := dk_29 (dk_at dksX0_alike_4 13 rfl rfl)
theorem dX0_alike_107 : decode cX0_alike 107 = .ok (.iload 5, 2) := dk_21 5 (dk_at dksX0_alike_4 14 rfl rfl)
theorem dX0_alike_109 : decode cX0_alike 109 = .ok (.invokestatic 341, 3) := dk_184 1 85 (dk_at dksX0_alike_4 16 rfl rfl)
theorem dX0_alike_112 : decode cX0_alike 112 = .ok (.istore_n 3, 1) := dk_62 (dk_at dksX0_alike_4 19 rfl rfl)
theorem dX0_alike_113 : decode cX0_alike 113 = .ok (.iinc 4 1, 3) := dk_132 4 1 (dk_at dksX0_alike_4 20 rfl rfl)
theorem dX0_alike_116 : decode cX0_alike 116 = .ok (.goto (-111), 3) := dk_167 255 145 (dk_at dksX0_alike_5 0 rfl rfl)
theorem dX0_alike_119 : decode cX0_alike 119 = .ok (.iload_n 3, 1) := dk_29 (dk_at dksX0_alike_5 3 rfl rfl)
theorem dX0_alike_120 : decode cX0_alike 120 = .ok (.ireturn, 1) := dk_172 (dk_at dksX0_alike_5 4 rfl rfl)
abbrev cX0_should : ByteArray := prog_1_method_84_code
def yX0_should : MethodName := ⟨RX0, "should", "(I)Z"⟩
def dkwX0_should_1 : List UInt8 := [79, 4, 172]
abbrev dktX0_should_1 : List UInt8 := dkwX0_should_1 ++ []
def dkwX0_should_0 : List UInt8 := [27, 3, 42, 182, 0, 98, 184, 0, 77, 154, 0, 5, 3, 172, 42, 180, 0, 12, 180, 0, 74, 16, 8, 27]
abbrev dktX0_should_0 : List UInt8 := dkwX0_should_0 ++ dktX0_should_1
theorem dksX0_should_0 : cX0_should.data.toList.drop 0 = dktX0_should_0 := by decide +kernel
theorem dksX0_should_1 : cX0_should.data.toList.drop 24 = dktX0_should_1 := dk_seg dksX0_should_0 24 rfl rfl
theorem dX0_should_0 : decode cX0_should 0 = .ok (.iload_n 1, 1) := dk_27 (dk_at dksX0_should_0 0 rfl rfl)
theorem dX0_should_1 : decode cX0_should 1 = .ok (.iconst 0, 1) := dk_3 (dk_at dksX0_should_0 1 rfl rfl)
theorem dX0_should_2 : decode cX0_should 2 = .ok (.aload_n 0, 1) := dk_42 (dk_at dksX0_should_0 2 rfl rfl)
theorem dX0_should_3 : decode cX0_should 3 = .ok (.invokevirtual 98, 3) := dk_182 0 98 (dk_at dksX0_should_0 3 rfl rfl)
theorem dX0_should_6 : decode cX0_should 6 = .ok (.invokestatic 77, 3) := dk_184 0 77 (dk_at dksX0_should_0 6 rfl rfl)
theorem dX0_should_9 : decode cX0_should 9 = .ok (.ifCond .ne 5, 3) := dk_154 0 5 (dk_at dksX0_should_0 9 rfl rfl)
theorem dX0_should_12 : decode cX0_should 12 = .ok (.iconst 0, 1) := dk_3 (dk_at dksX0_should_0 12 rfl rfl)
theorem dX0_should_13 : decode cX0_should 13 = .ok (.ireturn, 1) := dk_172 (dk_at dksX0_should_0 13 rfl rfl)
theorem dX0_should_14 : decode cX0_should 14 = .ok (.aload_n 0, 1) := dk_42 (dk_at dksX0_should_0 14 rfl rfl)
theorem dX0_should_15 : decode cX0_should 15 = .ok (.getfield 12, 3) := dk_180 0 12 (dk_at dksX0_should_0 15 rfl rfl)
theorem dX0_should_18 : decode cX0_should 18 = .ok (.getfield 74, 3) := dk_180 0 74 (dk_at dksX0_should_0 18 rfl rfl)
theorem dX0_should_21 : decode cX0_should 21 = .ok (.bipush 8, 2) := dk_16 8 (dk_at dksX0_should_0 21 rfl rfl)
theorem dX0_should_23 : decode cX0_should 23 = .ok (.iload_n 1, 1) := dk_27 (dk_at dksX0_should_0 23 rfl rfl)
theorem dX0_should_24 : decode cX0_should 24 = .ok (.iastore, 1) := dk_79 (dk_at dksX0_should_1 0 rfl rfl)
theorem dX0_should_25 : decode cX0_should 25 = .ok (.iconst 1, 1) := dk_4 (dk_at dksX0_should_1 1 rfl rfl)
theorem dX0_should_26 : decode cX0_should 26 = .ok (.ireturn, 1) := dk_172 (dk_at dksX0_should_1 2 rfl rfl)
abbrev cX0_featherForAll : ByteArray := prog_1_method_85_code
def yX0_featherForAll : MethodName := ⟨RX0, "featherForAll", "(Z)I"⟩
def dkwX0_featherForAll_6 : List UInt8 := [167, 255, 160, 27, 153, 0, 8, 21, 4, 167, 0, 4, 29, 172]
abbrev dktX0_featherForAll_6 : List UInt8 := dkwX0_featherForAll_6 ++ []
def dkwX0_featherForAll_5 : List UInt8 := [167, 255, 197, 21, 6, 21, 4, 161, 0, 6, 167, 0, 10, 21, 6, 54, 4, 21, 5, 62, 132, 5, 1]
abbrev dktX0_featherForAll_5 : List UInt8 := dkwX0_featherForAll_5 ++ dktX0_featherForAll_6
def dkwX0_featherForAll_4 : List UInt8 := [16, 8, 46, 21, 7, 184, 0, 174, 160, 0, 7, 3, 167, 0, 4, 4, 96, 54, 6, 132, 7, 1]
abbrev dktX0_featherForAll_4 : List UInt8 := dkwX0_featherForAll_4 ++ dktX0_featherForAll_5
def dkwX0_featherForAll_3 : List UInt8 := [21, 6, 44, 21, 7, 46, 21, 5, 163, 0, 7, 4, 167, 0, 4, 3, 42, 180, 0, 12, 180, 0, 74]
abbrev dktX0_featherForAll_3 : List UInt8 := dkwX0_featherForAll_3 ++ dktX0_featherForAll_4
def dkwX0_featherForAll_2 : List UInt8 := [163, 0, 94, 3, 54, 6, 3, 54, 7, 21, 7, 42, 180, 0, 12, 180, 0, 74, 3, 46, 162, 0, 51]
abbrev dktX0_featherForAll_2 : List UInt8 := dkwX0_featherForAll_2 ++ dktX0_featherForAll_3
def dkwX0_featherForAll_1 : List UInt8 := [182, 1, 66, 79, 132, 3, 1, 167, 255, 232, 3, 62, 16, 7, 54, 4, 3, 54, 5, 21, 5, 17, 3, 231]
abbrev dktX0_featherForAll_1 : List UInt8 := dkwX0_featherForAll_1 ++ dktX0_featherForAll_2
def dkwX0_featherForAll_0 : List UInt8 := [16, 6, 188, 10, 77, 3, 62, 29, 42, 180, 0, 12, 180, 0, 74, 3, 46, 162, 0, 17, 44, 29, 42, 29]
abbrev dktX0_featherForAll_0 : List UInt8 := dkwX0_featherForAll_0 ++ dktX0_featherForAll_1
theorem dksX0_featherForAll_0 : cX0_featherForAll.data.toList.drop 0 = dktX0_featherForAll_0 := by decide +kernel
theorem dksX0_featherForAll_1 : cX0_featherForAll.data.toList.drop 24 = dktX0_featherForAll_1 := dk_seg dksX0_featherForAll_0 24 rfl rfl
theorem dksX0_featherForAll_2 : cX0_featherForAll.data.toList.drop 48 = dktX0_featherForAll_2 := dk_seg dksX0_featherForAll_1 24 rfl rfl
theorem dksX0_featherForAll_3 : cX0_featherForAll.data.toList.drop 71 = dktX0_featherForAll_3 := dk_seg dksX0_featherForAll_2 23 rfl rfl
theorem dksX0_featherForAll_4 : cX0_featherForAll.data.toList.drop 94 = dktX0_featherForAll_4 := dk_seg dksX0_featherForAll_3 23 rfl rfl
theorem dksX0_featherForAll_5 : cX0_featherForAll.data.toList.drop 116 = dktX0_featherForAll_5 := dk_seg dksX0_featherForAll_4 22 rfl rfl
theorem dksX0_featherForAll_6 : cX0_featherForAll.data.toList.drop 139 = dktX0_featherForAll_6 := dk_seg dksX0_featherForAll_5 23 rfl rfl
theorem dX0_featherForAll_0 : decode cX0_featherForAll 0 = .ok (.bipush 6, 2) := dk_16 6 (dk_at dksX0_featherForAll_0 0 rfl rfl)
theorem dX0_featherForAll_2 : decode cX0_featherForAll 2 = .ok (.newarray .int, 2) := dk_188_10 (dk_at dksX0_featherForAll_0 2 rfl rfl)
theorem dX0_featherForAll_4 : decode cX0_featherForAll 4 = .ok (.astore_n 2, 1) := dk_77 (dk_at dksX0_featherForAll_0 4 rfl rfl)
theorem dX0_featherForAll_5 : decode cX0_featherForAll 5 = .ok (.iconst 0, 1) := dk_3 (dk_at dksX0_featherForAll_0 5 rfl rfl)
theorem dX0_featherForAll_6 : decode cX0_featherForAll 6 = .ok (.istore_n 3, 1) := dk_62 (dk_at dksX0_featherForAll_0 6 rfl rfl)
theorem dX0_featherForAll_7 : decode cX0_featherForAll 7 = .ok (.iload_n 3, 1) := dk_29 (dk_at dksX0_featherForAll_0 7 rfl rfl)
theorem dX0_featherForAll_8 : decode cX0_featherForAll 8 = .ok (.aload_n 0, 1) := dk_42 (dk_at dksX0_featherForAll_0 8 rfl rfl)
theorem dX0_featherForAll_9 : decode cX0_featherForAll 9 = .ok (.getfield 12, 3) := dk_180 0 12 (dk_at dksX0_featherForAll_0 9 rfl rfl)
theorem dX0_featherForAll_12 : decode cX0_featherForAll 12 = .ok (.getfield 74, 3) := dk_180 0 74 (dk_at dksX0_featherForAll_0 12 rfl rfl)
theorem dX0_featherForAll_15 : decode cX0_featherForAll 15 = .ok (.iconst 0, 1) := dk_3 (dk_at dksX0_featherForAll_0 15 rfl rfl)
theorem dX0_featherForAll_16 : decode cX0_featherForAll 16 = .ok (.iaload, 1) := dk_46 (dk_at dksX0_featherForAll_0 16 rfl rfl)
theorem dX0_featherForAll_17 : decode cX0_featherForAll 17 = .ok (.if_icmp .ge 17, 3) := dk_162 0 17 (dk_at dksX0_featherForAll_0 17 rfl rfl)
theorem dX0_featherForAll_20 : decode cX0_featherForAll 20 = .ok (.aload_n 2, 1) := dk_44 (dk_at dksX0_featherForAll_0 20 rfl rfl)
theorem dX0_featherForAll_21 : decode cX0_featherForAll 21 = .ok (.iload_n 3, 1) := dk_29 (dk_at dksX0_featherForAll_0 21 rfl rfl)
theorem dX0_featherForAll_22 : decode cX0_featherForAll 22 = .ok (.aload_n 0, 1) := dk_42 (dk_at dksX0_featherForAll_0 22 rfl rfl)
theorem dX0_featherForAll_23 : decode cX0_featherForAll 23 = .ok (.iload_n 3, 1) := dk_29 (dk_at dksX0_featherForAll_0 23 rfl rfl)
theorem dX0_featherForAll_24 : decode cX0_featherForAll 24 = .ok (.invokevirtual 322, 3) := dk_182 1 66 (dk_at dksX0_featherForAll_1 0 rfl rfl)
theorem dX0_featherForAll_27 : decode cX0_featherForAll 27 = .ok (.iastore, 1) := dk_79 (dk_at dksX0_featherForAll_1 3 rfl rfl)
theorem dX0_featherForAll_28 : decode cX0_featherForAll 28 = .ok (.iinc 3 1, 3) := dk_132 3 1 (dk_at dksX0_featherForAll_1 4 rfl rfl)
theorem dX0_featherForAll_31 : decode cX0_featherForAll 31 = .ok (.goto (-24), 3) := dk_167 255 232 (dk_at dksX0_featherForAll_1 7 rfl rfl)
theorem dX0_featherForAll_34 : decode cX0_featherForAll 34 = .ok (.iconst 0, 1) := dk_3 (dk_at dksX0_featherForAll_1 10 rfl rfl)
theorem dX0_featherForAll_35 : decode cX0_featherForAll 35 = .ok (.istore_n 3, 1) := dk_62 (dk_at dksX0_featherForAll_1 11 rfl rfl)
theorem dX0_featherForAll_36 : decode cX0_featherForAll 36 = .ok (.bipush 7, 2) := dk_16 7 (dk_at dksX0_featherForAll_1 12 rfl rfl)
theorem dX0_featherForAll_38 : decode cX0_featherForAll 38 = .ok (.istore 4, 2) := dk_54 4 (dk_at dksX0_featherForAll_1 14 rfl rfl)
theorem dX0_featherForAll_40 : decode cX0_featherForAll 40 = .ok (.iconst 0, 1) := dk_3 (dk_at dksX0_featherForAll_1 16 rfl rfl)
theorem dX0_featherForAll_41 : decode cX0_featherForAll 41 = .ok (.istore 5, 2) := dk_54 5 (dk_at dksX0_featherForAll_1 17 rfl rfl)
theorem dX0_featherForAll_43 : decode cX0_featherForAll 43 = .ok (.iload 5, 2) := dk_21 5 (dk_at dksX0_featherForAll_1 19 rfl rfl)
theorem dX0_featherForAll_45 : decode cX0_featherForAll 45 = .ok (.sipush 999, 3) := dk_17 3 231 (dk_at dksX0_featherForAll_1 21 rfl rfl)
theorem dX0_featherForAll_48 : decode cX0_featherForAll 48 = .ok (.if_icmp .gt 94, 3) := dk_163 0 94 (dk_at dksX0_featherForAll_2 0 rfl rfl)
theorem dX0_featherForAll_51 : decode cX0_featherForAll 51 = .ok (.iconst 0, 1) := dk_3 (dk_at dksX0_featherForAll_2 3 rfl rfl)
theorem dX0_featherForAll_52 : decode cX0_featherForAll 52 = .ok (.istore 6, 2) := dk_54 6 (dk_at dksX0_featherForAll_2 4 rfl rfl)
theorem dX0_featherForAll_54 : decode cX0_featherForAll 54 = .ok (.iconst 0, 1) := dk_3 (dk_at dksX0_featherForAll_2 6 rfl rfl)
theorem dX0_featherForAll_55 : decode cX0_featherForAll 55 = .ok (.istore 7, 2) := dk_54 7 (dk_at dksX0_featherForAll_2 7 rfl rfl)
theorem dX0_featherForAll_57 : decode cX0_featherForAll 57 = .ok (.iload 7, 2) := dk_21 7 (dk_at dksX0_featherForAll_2 9 rfl rfl)
theorem dX0_featherForAll_59 : decode cX0_featherForAll 59 = .ok (.aload_n 0, 1) := dk_42 (dk_at dksX0_featherForAll_2 11 rfl rfl)
theorem dX0_featherForAll_60 : decode cX0_featherForAll 60 = .ok (.getfield 12, 3) := dk_180 0 12 (dk_at dksX0_featherForAll_2 12 rfl rfl)
theorem dX0_featherForAll_63 : decode cX0_featherForAll 63 = .ok (.getfield 74, 3) := dk_180 0 74 (dk_at dksX0_featherForAll_2 15 rfl rfl)
theorem dX0_featherForAll_66 : decode cX0_featherForAll 66 = .ok (.iconst 0, 1) := dk_3 (dk_at dksX0_featherForAll_2 18 rfl rfl)
theorem dX0_featherForAll_67 : decode cX0_featherForAll 67 = .ok (.iaload, 1) := dk_46 (dk_at dksX0_featherForAll_2 19 rfl rfl)
theorem dX0_featherForAll_68 : decode cX0_featherForAll 68 = .ok (.if_icmp .ge 51, 3) := dk_162 0 51 (dk_at dksX0_featherForAll_2 20 rfl rfl)
theorem dX0_featherForAll_71 : decode cX0_featherForAll 71 = .ok (.iload 6, 2) := dk_21 6 (dk_at dksX0_featherForAll_3 0 rfl rfl)
theorem dX0_featherForAll_73 : decode cX0_featherForAll 73 = .ok (.aload_n 2, 1) := dk_44 (dk_at dksX0_featherForAll_3 2 rfl rfl)
theorem dX0_featherForAll_74 : decode cX0_featherForAll 74 = .ok (.iload 7, 2) := dk_21 7 (dk_at dksX0_featherForAll_3 3 rfl rfl)
theorem dX0_featherForAll_76 : decode cX0_featherForAll 76 = .ok (.iaload, 1) := dk_46 (dk_at dksX0_featherForAll_3 5 rfl rfl)
theorem dX0_featherForAll_77 : decode cX0_featherForAll 77 = .ok (.iload 5, 2) := dk_21 5 (dk_at dksX0_featherForAll_3 6 rfl rfl)
theorem dX0_featherForAll_79 : decode cX0_featherForAll 79 = .ok (.if_icmp .gt 7, 3) := dk_163 0 7 (dk_at dksX0_featherForAll_3 8 rfl rfl)
theorem dX0_featherForAll_82 : decode cX0_featherForAll 82 = .ok (.iconst 1, 1) := dk_4 (dk_at dksX0_featherForAll_3 11 rfl rfl)
theorem dX0_featherForAll_83 : decode cX0_featherForAll 83 = .ok (.goto 4, 3) := dk_167 0 4 (dk_at dksX0_featherForAll_3 12 rfl rfl)
theorem dX0_featherForAll_86 : decode cX0_featherForAll 86 = .ok (.iconst 0, 1) := dk_3 (dk_at dksX0_featherForAll_3 15 rfl rfl)
theorem dX0_featherForAll_87 : decode cX0_featherForAll 87 = .ok (.aload_n 0, 1) := dk_42 (dk_at dksX0_featherForAll_3 16 rfl rfl)
theorem dX0_featherForAll_88 : decode cX0_featherForAll 88 = .ok (.getfield 12, 3) := dk_180 0 12 (dk_at dksX0_featherForAll_3 17 rfl rfl)
theorem dX0_featherForAll_91 : decode cX0_featherForAll 91 = .ok (.getfield 74, 3) := dk_180 0 74 (dk_at dksX0_featherForAll_3 20 rfl rfl)
theorem dX0_featherForAll_94 : decode cX0_featherForAll 94 = .ok (.bipush 8, 2) := dk_16 8 (dk_at dksX0_featherForAll_4 0 rfl rfl)
theorem dX0_featherForAll_96 : decode cX0_featherForAll 96 = .ok (.iaload, 1) := dk_46 (dk_at dksX0_featherForAll_4 2 rfl rfl)
theorem dX0_featherForAll_97 : decode cX0_featherForAll 97 = .ok (.iload 7, 2) := dk_21 7 (dk_at dksX0_featherForAll_4 3 rfl rfl)
theorem dX0_featherForAll_99 : decode cX0_featherForAll 99 = .ok (.invokestatic 174, 3) := dk_184 0 174 (dk_at dksX0_featherForAll_4 5 rfl rfl)
theorem dX0_featherForAll_102 : decode cX0_featherForAll 102 = .ok (.if_icmp .ne 7, 3) := dk_160 0 7 (dk_at dksX0_featherForAll_4 8 rfl rfl)
theorem dX0_featherForAll_105 : decode cX0_featherForAll 105 = .ok (.iconst 0, 1) := dk_3 (dk_at dksX0_featherForAll_4 11 rfl rfl)
theorem dX0_featherForAll_106 : decode cX0_featherForAll 106 = .ok (.goto 4, 3) := dk_167 0 4 (dk_at dksX0_featherForAll_4 12 rfl rfl)
theorem dX0_featherForAll_109 : decode cX0_featherForAll 109 = .ok (.iconst 1, 1) := dk_4 (dk_at dksX0_featherForAll_4 15 rfl rfl)
theorem dX0_featherForAll_110 : decode cX0_featherForAll 110 = .ok (.iadd, 1) := dk_96 (dk_at dksX0_featherForAll_4 16 rfl rfl)
theorem dX0_featherForAll_111 : decode cX0_featherForAll 111 = .ok (.istore 6, 2) := dk_54 6 (dk_at dksX0_featherForAll_4 17 rfl rfl)
theorem dX0_featherForAll_113 : decode cX0_featherForAll 113 = .ok (.iinc 7 1, 3) := dk_132 7 1 (dk_at dksX0_featherForAll_4 19 rfl rfl)
theorem dX0_featherForAll_116 : decode cX0_featherForAll 116 = .ok (.goto (-59), 3) := dk_167 255 197 (dk_at dksX0_featherForAll_5 0 rfl rfl)
theorem dX0_featherForAll_119 : decode cX0_featherForAll 119 = .ok (.iload 6, 2) := dk_21 6 (dk_at dksX0_featherForAll_5 3 rfl rfl)
theorem dX0_featherForAll_121 : decode cX0_featherForAll 121 = .ok (.iload 4, 2) := dk_21 4 (dk_at dksX0_featherForAll_5 5 rfl rfl)
theorem dX0_featherForAll_123 : decode cX0_featherForAll 123 = .ok (.if_icmp .lt 6, 3) := dk_161 0 6 (dk_at dksX0_featherForAll_5 7 rfl rfl)
theorem dX0_featherForAll_126 : decode cX0_featherForAll 126 = .ok (.goto 10, 3) := dk_167 0 10 (dk_at dksX0_featherForAll_5 10 rfl rfl)
theorem dX0_featherForAll_129 : decode cX0_featherForAll 129 = .ok (.iload 6, 2) := dk_21 6 (dk_at dksX0_featherForAll_5 13 rfl rfl)
theorem dX0_featherForAll_131 : decode cX0_featherForAll 131 = .ok (.istore 4, 2) := dk_54 4 (dk_at dksX0_featherForAll_5 15 rfl rfl)
theorem dX0_featherForAll_133 : decode cX0_featherForAll 133 = .ok (.iload 5, 2) := dk_21 5 (dk_at dksX0_featherForAll_5 17 rfl rfl)
theorem dX0_featherForAll_135 : decode cX0_featherForAll 135 = .ok (.istore_n 3, 1) := dk_62 (dk_at dksX0_featherForAll_5 19 rfl rfl)
theorem dX0_featherForAll_136 : decode cX0_featherForAll 136 = .ok (.iinc 5 1, 3) := dk_132 5 1 (dk_at dksX0_featherForAll_5 20 rfl rfl)
theorem dX0_featherForAll_139 : decode cX0_featherForAll 139 = .ok (.goto (-96), 3) := dk_167 255 160 (dk_at dksX0_featherForAll_6 0 rfl rfl)
theorem dX0_featherForAll_142 : decode cX0_featherForAll 142 = .ok (.iload_n 1, 1) := dk_27 (dk_at dksX0_featherForAll_6 3 rfl rfl)
theorem dX0_featherForAll_143 : decode cX0_featherForAll 143 = .ok (.ifCond .eq 8, 3) := dk_153 0 8 (dk_at dksX0_featherForAll_6 4 rfl rfl)
theorem dX0_featherForAll_146 : decode cX0_featherForAll 146 = .ok (.iload 4, 2) := dk_21 4 (dk_at dksX0_featherForAll_6 7 rfl rfl)
theorem dX0_featherForAll_148 : decode cX0_featherForAll 148 = .ok (.goto 4, 3) := dk_167 0 4 (dk_at dksX0_featherForAll_6 9 rfl rfl)
theorem dX0_featherForAll_151 : decode cX0_featherForAll 151 = .ok (.iload_n 3, 1) := dk_29 (dk_at dksX0_featherForAll_6 12 rfl rfl)
theorem dX0_featherForAll_152 : decode cX0_featherForAll 152 = .ok (.ireturn, 1) := dk_172 (dk_at dksX0_featherForAll_6 13 rfl rfl)
abbrev cX0_odds : ByteArray := prog_1_method_90_code
def yX0_odds : MethodName := ⟨RX0, "odds", "(IIZ)J"⟩
def dkwX0_odds_1 : List UInt8 := [160, 0, 20, 42, 27, 28, 182, 1, 183, 28, 184, 1, 173, 29, 184, 1, 187, 167, 0, 6, 20, 1, 191, 173]
abbrev dktX0_odds_1 : List UInt8 := dkwX0_odds_1 ++ []
def dkwX0_odds_0 : List UInt8 := [27, 3, 16, 10, 184, 0, 77, 153, 0, 37, 28, 4, 16, 15, 184, 0, 77, 153, 0, 27, 28, 5, 112, 4]
abbrev dktX0_odds_0 : List UInt8 := dkwX0_odds_0 ++ dktX0_odds_1
theorem dksX0_odds_0 : cX0_odds.data.toList.drop 0 = dktX0_odds_0 := by decide +kernel
theorem dksX0_odds_1 : cX0_odds.data.toList.drop 24 = dktX0_odds_1 := dk_seg dksX0_odds_0 24 rfl rfl
theorem dX0_odds_0 : decode cX0_odds 0 = .ok (.iload_n 1, 1) := dk_27 (dk_at dksX0_odds_0 0 rfl rfl)
theorem dX0_odds_1 : decode cX0_odds 1 = .ok (.iconst 0, 1) := dk_3 (dk_at dksX0_odds_0 1 rfl rfl)
theorem dX0_odds_2 : decode cX0_odds 2 = .ok (.bipush 10, 2) := dk_16 10 (dk_at dksX0_odds_0 2 rfl rfl)
theorem dX0_odds_4 : decode cX0_odds 4 = .ok (.invokestatic 77, 3) := dk_184 0 77 (dk_at dksX0_odds_0 4 rfl rfl)
theorem dX0_odds_7 : decode cX0_odds 7 = .ok (.ifCond .eq 37, 3) := dk_153 0 37 (dk_at dksX0_odds_0 7 rfl rfl)
theorem dX0_odds_10 : decode cX0_odds 10 = .ok (.iload_n 2, 1) := dk_28 (dk_at dksX0_odds_0 10 rfl rfl)
theorem dX0_odds_11 : decode cX0_odds 11 = .ok (.iconst 1, 1) := dk_4 (dk_at dksX0_odds_0 11 rfl rfl)
theorem dX0_odds_12 : decode cX0_odds 12 = .ok (.bipush 15, 2) := dk_16 15 (dk_at dksX0_odds_0 12 rfl rfl)
theorem dX0_odds_14 : decode cX0_odds 14 = .ok (.invokestatic 77, 3) := dk_184 0 77 (dk_at dksX0_odds_0 14 rfl rfl)
theorem dX0_odds_17 : decode cX0_odds 17 = .ok (.ifCond .eq 27, 3) := dk_153 0 27 (dk_at dksX0_odds_0 17 rfl rfl)
theorem dX0_odds_20 : decode cX0_odds 20 = .ok (.iload_n 2, 1) := dk_28 (dk_at dksX0_odds_0 20 rfl rfl)
theorem dX0_odds_21 : decode cX0_odds 21 = .ok (.iconst 2, 1) := dk_5 (dk_at dksX0_odds_0 21 rfl rfl)
theorem dX0_odds_22 : decode cX0_odds 22 = .ok (.irem, 1) := dk_112 (dk_at dksX0_odds_0 22 rfl rfl)
theorem dX0_odds_23 : decode cX0_odds 23 = .ok (.iconst 1, 1) := dk_4 (dk_at dksX0_odds_0 23 rfl rfl)
theorem dX0_odds_24 : decode cX0_odds 24 = .ok (.if_icmp .ne 20, 3) := dk_160 0 20 (dk_at dksX0_odds_1 0 rfl rfl)
theorem dX0_odds_27 : decode cX0_odds 27 = .ok (.aload_n 0, 1) := dk_42 (dk_at dksX0_odds_1 3 rfl rfl)
theorem dX0_odds_28 : decode cX0_odds 28 = .ok (.iload_n 1, 1) := dk_27 (dk_at dksX0_odds_1 4 rfl rfl)
theorem dX0_odds_29 : decode cX0_odds 29 = .ok (.iload_n 2, 1) := dk_28 (dk_at dksX0_odds_1 5 rfl rfl)
theorem dX0_odds_30 : decode cX0_odds 30 = .ok (.invokevirtual 439, 3) := dk_182 1 183 (dk_at dksX0_odds_1 6 rfl rfl)
theorem dX0_odds_33 : decode cX0_odds 33 = .ok (.iload_n 2, 1) := dk_28 (dk_at dksX0_odds_1 9 rfl rfl)
theorem dX0_odds_34 : decode cX0_odds 34 = .ok (.invokestatic 429, 3) := dk_184 1 173 (dk_at dksX0_odds_1 10 rfl rfl)
theorem dX0_odds_37 : decode cX0_odds 37 = .ok (.iload_n 3, 1) := dk_29 (dk_at dksX0_odds_1 13 rfl rfl)
theorem dX0_odds_38 : decode cX0_odds 38 = .ok (.invokestatic 443, 3) := dk_184 1 187 (dk_at dksX0_odds_1 14 rfl rfl)
theorem dX0_odds_41 : decode cX0_odds 41 = .ok (.goto 6, 3) := dk_167 0 6 (dk_at dksX0_odds_1 17 rfl rfl)
theorem dX0_odds_44 : decode cX0_odds 44 = .ok (.ldc2_w 447, 3) := dk_20 1 191 (dk_at dksX0_odds_1 20 rfl rfl)
theorem dX0_odds_47 : decode cX0_odds 47 = .ok (.lreturn, 1) := dk_173 (dk_at dksX0_odds_1 23 rfl rfl)
abbrev cX0_mostRight : ByteArray := prog_1_method_89_code
def yX0_mostRight : MethodName := ⟨RX0, "mostRight", "(II)J"⟩
def dkwX0_mostRight_4 : List UInt8 := [21, 5, 28, 163, 0, 19, 33, 42, 180, 0, 66, 21, 5, 47, 97, 66, 132, 5, 1, 167, 255, 237, 33, 173]
abbrev dktX0_mostRight_4 : List UInt8 := dkwX0_mostRight_4 ++ []
def dkwX0_mostRight_3 : List UInt8 := [97, 80, 132, 4, 255, 167, 255, 206, 132, 3, 1, 167, 255, 192, 9, 66, 28, 5, 108, 4, 96, 54, 5]
abbrev dktX0_mostRight_3 : List UInt8 := dkwX0_mostRight_3 ++ dktX0_mostRight_4
def dkwX0_mostRight_2 : List UInt8 := [21, 4, 158, 0, 21, 42, 180, 0, 66, 21, 4, 4, 100, 47, 16, 10, 27, 100, 133, 105, 167, 0, 4, 9]
abbrev dktX0_mostRight_2 : List UInt8 := dkwX0_mostRight_2 ++ dktX0_mostRight_3
def dkwX0_mostRight_1 : List UInt8 := [54, 4, 21, 4, 155, 0, 51, 42, 180, 0, 66, 21, 4, 42, 180, 0, 66, 21, 4, 47, 27, 133, 105]
abbrev dktX0_mostRight_1 : List UInt8 := dkwX0_mostRight_1 ++ dktX0_mostRight_2
def dkwX0_mostRight_0 : List UInt8 := [42, 180, 0, 66, 9, 184, 1, 177, 42, 180, 0, 66, 3, 10, 80, 4, 62, 29, 28, 163, 0, 65, 29]
abbrev dktX0_mostRight_0 : List UInt8 := dkwX0_mostRight_0 ++ dktX0_mostRight_1
theorem dksX0_mostRight_0 : cX0_mostRight.data.toList.drop 0 = dktX0_mostRight_0 := by decide +kernel
theorem dksX0_mostRight_1 : cX0_mostRight.data.toList.drop 23 = dktX0_mostRight_1 := dk_seg dksX0_mostRight_0 23 rfl rfl
theorem dksX0_mostRight_2 : cX0_mostRight.data.toList.drop 46 = dktX0_mostRight_2 := dk_seg dksX0_mostRight_1 23 rfl rfl
theorem dksX0_mostRight_3 : cX0_mostRight.data.toList.drop 70 = dktX0_mostRight_3 := dk_seg dksX0_mostRight_2 24 rfl rfl
theorem dksX0_mostRight_4 : cX0_mostRight.data.toList.drop 93 = dktX0_mostRight_4 := dk_seg dksX0_mostRight_3 23 rfl rfl
theorem dX0_mostRight_0 : decode cX0_mostRight 0 = .ok (.aload_n 0, 1) := dk_42 (dk_at dksX0_mostRight_0 0 rfl rfl)
theorem dX0_mostRight_1 : decode cX0_mostRight 1 = .ok (.getfield 66, 3) := dk_180 0 66 (dk_at dksX0_mostRight_0 1 rfl rfl)
theorem dX0_mostRight_4 : decode cX0_mostRight 4 = .ok (.lconst 0, 1) := dk_9 (dk_at dksX0_mostRight_0 4 rfl rfl)
theorem dX0_mostRight_5 : decode cX0_mostRight 5 = .ok (.invokestatic 433, 3) := dk_184 1 177 (dk_at dksX0_mostRight_0 5 rfl rfl)
theorem dX0_mostRight_8 : decode cX0_mostRight 8 = .ok (.aload_n 0, 1) := dk_42 (dk_at dksX0_mostRight_0 8 rfl rfl)
theorem dX0_mostRight_9 : decode cX0_mostRight 9 = .ok (.getfield 66, 3) := dk_180 0 66 (dk_at dksX0_mostRight_0 9 rfl rfl)
theorem dX0_mostRight_12 : decode cX0_mostRight 12 = .ok (.iconst 0, 1) := dk_3 (dk_at dksX0_mostRight_0 12 rfl rfl)
theorem dX0_mostRight_13 : decode cX0_mostRight 13 = .ok (.lconst 1, 1) := dk_10 (dk_at dksX0_mostRight_0 13 rfl rfl)
theorem dX0_mostRight_14 : decode cX0_mostRight 14 = .ok (.lastore, 1) := dk_80 (dk_at dksX0_mostRight_0 14 rfl rfl)
theorem dX0_mostRight_15 : decode cX0_mostRight 15 = .ok (.iconst 1, 1) := dk_4 (dk_at dksX0_mostRight_0 15 rfl rfl)
theorem dX0_mostRight_16 : decode cX0_mostRight 16 = .ok (.istore_n 3, 1) := dk_62 (dk_at dksX0_mostRight_0 16 rfl rfl)
theorem dX0_mostRight_17 : decode cX0_mostRight 17 = .ok (.iload_n 3, 1) := dk_29 (dk_at dksX0_mostRight_0 17 rfl rfl)
theorem dX0_mostRight_18 : decode cX0_mostRight 18 = .ok (.iload_n 2, 1) := dk_28 (dk_at dksX0_mostRight_0 18 rfl rfl)
theorem dX0_mostRight_19 : decode cX0_mostRight 19 = .ok (.if_icmp .gt 65, 3) := dk_163 0 65 (dk_at dksX0_mostRight_0 19 rfl rfl)
theorem dX0_mostRight_22 : decode cX0_mostRight 22 = .ok (.iload_n 3, 1) := dk_29 (dk_at dksX0_mostRight_0 22 rfl rfl)
theorem dX0_mostRight_23 : decode cX0_mostRight 23 = .ok (.istore 4, 2) := dk_54 4 (dk_at dksX0_mostRight_1 0 rfl rfl)
theorem dX0_mostRight_25 : decode cX0_mostRight 25 = .ok (.iload 4, 2) := dk_21 4 (dk_at dksX0_mostRight_1 2 rfl rfl)
theorem dX0_mostRight_27 : decode cX0_mostRight 27 = .ok (.ifCond .lt 51, 3) := dk_155 0 51 (dk_at dksX0_mostRight_1 4 rfl rfl)
theorem dX0_mostRight_30 : decode cX0_mostRight 30 = .ok (.aload_n 0, 1) := dk_42 (dk_at dksX0_mostRight_1 7 rfl rfl)
theorem dX0_mostRight_31 : decode cX0_mostRight 31 = .ok (.getfield 66, 3) := dk_180 0 66 (dk_at dksX0_mostRight_1 8 rfl rfl)
theorem dX0_mostRight_34 : decode cX0_mostRight 34 = .ok (.iload 4, 2) := dk_21 4 (dk_at dksX0_mostRight_1 11 rfl rfl)
theorem dX0_mostRight_36 : decode cX0_mostRight 36 = .ok (.aload_n 0, 1) := dk_42 (dk_at dksX0_mostRight_1 13 rfl rfl)
theorem dX0_mostRight_37 : decode cX0_mostRight 37 = .ok (.getfield 66, 3) := dk_180 0 66 (dk_at dksX0_mostRight_1 14 rfl rfl)
theorem dX0_mostRight_40 : decode cX0_mostRight 40 = .ok (.iload 4, 2) := dk_21 4 (dk_at dksX0_mostRight_1 17 rfl rfl)
theorem dX0_mostRight_42 : decode cX0_mostRight 42 = .ok (.laload, 1) := dk_47 (dk_at dksX0_mostRight_1 19 rfl rfl)
theorem dX0_mostRight_43 : decode cX0_mostRight 43 = .ok (.iload_n 1, 1) := dk_27 (dk_at dksX0_mostRight_1 20 rfl rfl)
theorem dX0_mostRight_44 : decode cX0_mostRight 44 = .ok (.i2l, 1) := dk_133 (dk_at dksX0_mostRight_1 21 rfl rfl)
theorem dX0_mostRight_45 : decode cX0_mostRight 45 = .ok (.lmul, 1) := dk_105 (dk_at dksX0_mostRight_1 22 rfl rfl)
theorem dX0_mostRight_46 : decode cX0_mostRight 46 = .ok (.iload 4, 2) := dk_21 4 (dk_at dksX0_mostRight_2 0 rfl rfl)
theorem dX0_mostRight_48 : decode cX0_mostRight 48 = .ok (.ifCond .le 21, 3) := dk_158 0 21 (dk_at dksX0_mostRight_2 2 rfl rfl)
theorem dX0_mostRight_51 : decode cX0_mostRight 51 = .ok (.aload_n 0, 1) := dk_42 (dk_at dksX0_mostRight_2 5 rfl rfl)
theorem dX0_mostRight_52 : decode cX0_mostRight 52 = .ok (.getfield 66, 3) := dk_180 0 66 (dk_at dksX0_mostRight_2 6 rfl rfl)
theorem dX0_mostRight_55 : decode cX0_mostRight 55 = .ok (.iload 4, 2) := dk_21 4 (dk_at dksX0_mostRight_2 9 rfl rfl)
theorem dX0_mostRight_57 : decode cX0_mostRight 57 = .ok (.iconst 1, 1) := dk_4 (dk_at dksX0_mostRight_2 11 rfl rfl)
theorem dX0_mostRight_58 : decode cX0_mostRight 58 = .ok (.isub, 1) := dk_100 (dk_at dksX0_mostRight_2 12 rfl rfl)
theorem dX0_mostRight_59 : decode cX0_mostRight 59 = .ok (.laload, 1) := dk_47 (dk_at dksX0_mostRight_2 13 rfl rfl)
theorem dX0_mostRight_60 : decode cX0_mostRight 60 = .ok (.bipush 10, 2) := dk_16 10 (dk_at dksX0_mostRight_2 14 rfl rfl)
theorem dX0_mostRight_62 : decode cX0_mostRight 62 = .ok (.iload_n 1, 1) := dk_27 (dk_at dksX0_mostRight_2 16 rfl rfl)
theorem dX0_mostRight_63 : decode cX0_mostRight 63 = .ok (.isub, 1) := dk_100 (dk_at dksX0_mostRight_2 17 rfl rfl)
theorem dX0_mostRight_64 : decode cX0_mostRight 64 = .ok (.i2l, 1) := dk_133 (dk_at dksX0_mostRight_2 18 rfl rfl)
theorem dX0_mostRight_65 : decode cX0_mostRight 65 = .ok (.lmul, 1) := dk_105 (dk_at dksX0_mostRight_2 19 rfl rfl)
theorem dX0_mostRight_66 : decode cX0_mostRight 66 = .ok (.goto 4, 3) := dk_167 0 4 (dk_at dksX0_mostRight_2 20 rfl rfl)
theorem dX0_mostRight_69 : decode cX0_mostRight 69 = .ok (.lconst 0, 1) := dk_9 (dk_at dksX0_mostRight_2 23 rfl rfl)
theorem dX0_mostRight_70 : decode cX0_mostRight 70 = .ok (.ladd, 1) := dk_97 (dk_at dksX0_mostRight_3 0 rfl rfl)
theorem dX0_mostRight_71 : decode cX0_mostRight 71 = .ok (.lastore, 1) := dk_80 (dk_at dksX0_mostRight_3 1 rfl rfl)
theorem dX0_mostRight_72 : decode cX0_mostRight 72 = .ok (.iinc 4 (-1), 3) := dk_132 4 255 (dk_at dksX0_mostRight_3 2 rfl rfl)
theorem dX0_mostRight_75 : decode cX0_mostRight 75 = .ok (.goto (-50), 3) := dk_167 255 206 (dk_at dksX0_mostRight_3 5 rfl rfl)
theorem dX0_mostRight_78 : decode cX0_mostRight 78 = .ok (.iinc 3 1, 3) := dk_132 3 1 (dk_at dksX0_mostRight_3 8 rfl rfl)
theorem dX0_mostRight_81 : decode cX0_mostRight 81 = .ok (.goto (-64), 3) := dk_167 255 192 (dk_at dksX0_mostRight_3 11 rfl rfl)
theorem dX0_mostRight_84 : decode cX0_mostRight 84 = .ok (.lconst 0, 1) := dk_9 (dk_at dksX0_mostRight_3 14 rfl rfl)
theorem dX0_mostRight_85 : decode cX0_mostRight 85 = .ok (.lstore_n 3, 1) := dk_66 (dk_at dksX0_mostRight_3 15 rfl rfl)
theorem dX0_mostRight_86 : decode cX0_mostRight 86 = .ok (.iload_n 2, 1) := dk_28 (dk_at dksX0_mostRight_3 16 rfl rfl)
theorem dX0_mostRight_87 : decode cX0_mostRight 87 = .ok (.iconst 2, 1) := dk_5 (dk_at dksX0_mostRight_3 17 rfl rfl)
theorem dX0_mostRight_88 : decode cX0_mostRight 88 = .ok (.idiv, 1) := dk_108 (dk_at dksX0_mostRight_3 18 rfl rfl)
theorem dX0_mostRight_89 : decode cX0_mostRight 89 = .ok (.iconst 1, 1) := dk_4 (dk_at dksX0_mostRight_3 19 rfl rfl)
theorem dX0_mostRight_90 : decode cX0_mostRight 90 = .ok (.iadd, 1) := dk_96 (dk_at dksX0_mostRight_3 20 rfl rfl)
theorem dX0_mostRight_91 : decode cX0_mostRight 91 = .ok (.istore 5, 2) := dk_54 5 (dk_at dksX0_mostRight_3 21 rfl rfl)
theorem dX0_mostRight_93 : decode cX0_mostRight 93 = .ok (.iload 5, 2) := dk_21 5 (dk_at dksX0_mostRight_4 0 rfl rfl)
theorem dX0_mostRight_95 : decode cX0_mostRight 95 = .ok (.iload_n 2, 1) := dk_28 (dk_at dksX0_mostRight_4 2 rfl rfl)
theorem dX0_mostRight_96 : decode cX0_mostRight 96 = .ok (.if_icmp .gt 19, 3) := dk_163 0 19 (dk_at dksX0_mostRight_4 3 rfl rfl)
theorem dX0_mostRight_99 : decode cX0_mostRight 99 = .ok (.lload_n 3, 1) := dk_33 (dk_at dksX0_mostRight_4 6 rfl rfl)
theorem dX0_mostRight_100 : decode cX0_mostRight 100 = .ok (.aload_n 0, 1) := dk_42 (dk_at dksX0_mostRight_4 7 rfl rfl)
theorem dX0_mostRight_101 : decode cX0_mostRight 101 = .ok (.getfield 66, 3) := dk_180 0 66 (dk_at dksX0_mostRight_4 8 rfl rfl)
theorem dX0_mostRight_104 : decode cX0_mostRight 104 = .ok (.iload 5, 2) := dk_21 5 (dk_at dksX0_mostRight_4 11 rfl rfl)
theorem dX0_mostRight_106 : decode cX0_mostRight 106 = .ok (.laload, 1) := dk_47 (dk_at dksX0_mostRight_4 13 rfl rfl)
theorem dX0_mostRight_107 : decode cX0_mostRight 107 = .ok (.ladd, 1) := dk_97 (dk_at dksX0_mostRight_4 14 rfl rfl)
theorem dX0_mostRight_108 : decode cX0_mostRight 108 = .ok (.lstore_n 3, 1) := dk_66 (dk_at dksX0_mostRight_4 15 rfl rfl)
theorem dX0_mostRight_109 : decode cX0_mostRight 109 = .ok (.iinc 5 1, 3) := dk_132 5 1 (dk_at dksX0_mostRight_4 16 rfl rfl)
theorem dX0_mostRight_112 : decode cX0_mostRight 112 = .ok (.goto (-19), 3) := dk_167 255 237 (dk_at dksX0_mostRight_4 19 rfl rfl)
theorem dX0_mostRight_115 : decode cX0_mostRight 115 = .ok (.lload_n 3, 1) := dk_33 (dk_at dksX0_mostRight_4 22 rfl rfl)
theorem dX0_mostRight_116 : decode cX0_mostRight 116 = .ok (.lreturn, 1) := dk_173 (dk_at dksX0_mostRight_4 23 rfl rfl)
abbrev cX0_tens : ByteArray := prog_1_method_88_code
def yX0_tens : MethodName := ⟨RX0, "tens", "(I)J"⟩
def dkwX0_tens_0 : List UInt8 := [26, 154, 0, 7, 10, 167, 0, 13, 20, 1, 171, 26, 4, 100, 184, 1, 173, 105, 173]
abbrev dktX0_tens_0 : List UInt8 := dkwX0_tens_0 ++ []
theorem dksX0_tens_0 : cX0_tens.data.toList.drop 0 = dktX0_tens_0 := by decide +kernel
theorem dX0_tens_0 : decode cX0_tens 0 = .ok (.iload_n 0, 1) := dk_26 (dk_at dksX0_tens_0 0 rfl rfl)
theorem dX0_tens_1 : decode cX0_tens 1 = .ok (.ifCond .ne 7, 3) := dk_154 0 7 (dk_at dksX0_tens_0 1 rfl rfl)
theorem dX0_tens_4 : decode cX0_tens 4 = .ok (.lconst 1, 1) := dk_10 (dk_at dksX0_tens_0 4 rfl rfl)
theorem dX0_tens_5 : decode cX0_tens 5 = .ok (.goto 13, 3) := dk_167 0 13 (dk_at dksX0_tens_0 5 rfl rfl)
theorem dX0_tens_8 : decode cX0_tens 8 = .ok (.ldc2_w 427, 3) := dk_20 1 171 (dk_at dksX0_tens_0 8 rfl rfl)
theorem dX0_tens_11 : decode cX0_tens 11 = .ok (.iload_n 0, 1) := dk_26 (dk_at dksX0_tens_0 11 rfl rfl)
theorem dX0_tens_12 : decode cX0_tens 12 = .ok (.iconst 1, 1) := dk_4 (dk_at dksX0_tens_0 12 rfl rfl)
theorem dX0_tens_13 : decode cX0_tens 13 = .ok (.isub, 1) := dk_100 (dk_at dksX0_tens_0 13 rfl rfl)
theorem dX0_tens_14 : decode cX0_tens 14 = .ok (.invokestatic 429, 3) := dk_184 1 173 (dk_at dksX0_tens_0 14 rfl rfl)
theorem dX0_tens_17 : decode cX0_tens 17 = .ok (.lmul, 1) := dk_105 (dk_at dksX0_tens_0 17 rfl rfl)
theorem dX0_tens_18 : decode cX0_tens 18 = .ok (.lreturn, 1) := dk_173 (dk_at dksX0_tens_0 18 rfl rfl)
abbrev cX0_inLowest : ByteArray := prog_1_method_87_code
def yX0_inLowest : MethodName := ⟨RX0, "inLowest", "(JJZ)J"⟩
def dkwX0_inLowest_0 : List UInt8 := [32, 30, 184, 1, 168, 55, 5, 21, 4, 153, 0, 10, 32, 22, 5, 109, 167, 0, 7, 30, 22, 5, 109, 173]
abbrev dktX0_inLowest_0 : List UInt8 := dkwX0_inLowest_0 ++ []
theorem dksX0_inLowest_0 : cX0_inLowest.data.toList.drop 0 = dktX0_inLowest_0 := by decide +kernel
theorem dX0_inLowest_0 : decode cX0_inLowest 0 = .ok (.lload_n 2, 1) := dk_32 (dk_at dksX0_inLowest_0 0 rfl rfl)
theorem dX0_inLowest_1 : decode cX0_inLowest 1 = .ok (.lload_n 0, 1) := dk_30 (dk_at dksX0_inLowest_0 1 rfl rfl)
theorem dX0_inLowest_2 : decode cX0_inLowest 2 = .ok (.invokestatic 424, 3) := dk_184 1 168 (dk_at dksX0_inLowest_0 2 rfl rfl)
theorem dX0_inLowest_5 : decode cX0_inLowest 5 = .ok (.lstore 5, 2) := dk_55 5 (dk_at dksX0_inLowest_0 5 rfl rfl)
theorem dX0_inLowest_7 : decode cX0_inLowest 7 = .ok (.iload 4, 2) := dk_21 4 (dk_at dksX0_inLowest_0 7 rfl rfl)
theorem dX0_inLowest_9 : decode cX0_inLowest 9 = .ok (.ifCond .eq 10, 3) := dk_153 0 10 (dk_at dksX0_inLowest_0 9 rfl rfl)
theorem dX0_inLowest_12 : decode cX0_inLowest 12 = .ok (.lload_n 2, 1) := dk_32 (dk_at dksX0_inLowest_0 12 rfl rfl)
theorem dX0_inLowest_13 : decode cX0_inLowest 13 = .ok (.lload 5, 2) := dk_22 5 (dk_at dksX0_inLowest_0 13 rfl rfl)
theorem dX0_inLowest_15 : decode cX0_inLowest 15 = .ok (.ldiv, 1) := dk_109 (dk_at dksX0_inLowest_0 15 rfl rfl)
theorem dX0_inLowest_16 : decode cX0_inLowest 16 = .ok (.goto 7, 3) := dk_167 0 7 (dk_at dksX0_inLowest_0 16 rfl rfl)
theorem dX0_inLowest_19 : decode cX0_inLowest 19 = .ok (.lload_n 0, 1) := dk_30 (dk_at dksX0_inLowest_0 19 rfl rfl)
theorem dX0_inLowest_20 : decode cX0_inLowest 20 = .ok (.lload 5, 2) := dk_22 5 (dk_at dksX0_inLowest_0 20 rfl rfl)
theorem dX0_inLowest_22 : decode cX0_inLowest 22 = .ok (.ldiv, 1) := dk_109 (dk_at dksX0_inLowest_0 22 rfl rfl)
theorem dX0_inLowest_23 : decode cX0_inLowest 23 = .ok (.lreturn, 1) := dk_173 (dk_at dksX0_inLowest_0 23 rfl rfl)
abbrev cX0_common : ByteArray := prog_1_method_86_code
def yX0_common : MethodName := ⟨RX0, "common", "(JJ)J"⟩
def dkwX0_common_0 : List UInt8 := [32, 9, 148, 154, 0, 7, 30, 167, 0, 10, 32, 30, 32, 113, 184, 1, 168, 173]
abbrev dktX0_common_0 : List UInt8 := dkwX0_common_0 ++ []
theorem dksX0_common_0 : cX0_common.data.toList.drop 0 = dktX0_common_0 := by decide +kernel
theorem dX0_common_0 : decode cX0_common 0 = .ok (.lload_n 2, 1) := dk_32 (dk_at dksX0_common_0 0 rfl rfl)
theorem dX0_common_1 : decode cX0_common 1 = .ok (.lconst 0, 1) := dk_9 (dk_at dksX0_common_0 1 rfl rfl)
theorem dX0_common_2 : decode cX0_common 2 = .ok (.lcmp, 1) := dk_148 (dk_at dksX0_common_0 2 rfl rfl)
theorem dX0_common_3 : decode cX0_common 3 = .ok (.ifCond .ne 7, 3) := dk_154 0 7 (dk_at dksX0_common_0 3 rfl rfl)
theorem dX0_common_6 : decode cX0_common 6 = .ok (.lload_n 0, 1) := dk_30 (dk_at dksX0_common_0 6 rfl rfl)
theorem dX0_common_7 : decode cX0_common 7 = .ok (.goto 10, 3) := dk_167 0 10 (dk_at dksX0_common_0 7 rfl rfl)
theorem dX0_common_10 : decode cX0_common 10 = .ok (.lload_n 2, 1) := dk_32 (dk_at dksX0_common_0 10 rfl rfl)
theorem dX0_common_11 : decode cX0_common 11 = .ok (.lload_n 0, 1) := dk_30 (dk_at dksX0_common_0 11 rfl rfl)
theorem dX0_common_12 : decode cX0_common 12 = .ok (.lload_n 2, 1) := dk_32 (dk_at dksX0_common_0 12 rfl rfl)
theorem dX0_common_13 : decode cX0_common 13 = .ok (.lrem, 1) := dk_113 (dk_at dksX0_common_0 13 rfl rfl)
theorem dX0_common_14 : decode cX0_common 14 = .ok (.invokestatic 424, 3) := dk_184 1 168 (dk_at dksX0_common_0 14 rfl rfl)
theorem dX0_common_17 : decode cX0_common 17 = .ok (.lreturn, 1) := dk_173 (dk_at dksX0_common_0 17 rfl rfl)
abbrev cX0_often : ByteArray := prog_1_method_91_code
def yX0_often : MethodName := ⟨RX0, "often", "(II)I"⟩
def dkwX0_often_2 : List UInt8 := [155, 0, 5, 29, 172, 132, 3, 2, 167, 255, 224, 2, 172]
abbrev dktX0_often_2 : List UInt8 := dkwX0_often_2 ++ []
def dkwX0_often_1 : List UInt8 := [29, 16, 15, 163, 0, 32, 20, 1, 193, 42, 27, 29, 182, 1, 183, 105, 28, 133, 29, 184, 1, 173, 105, 148]
abbrev dktX0_often_1 : List UInt8 := dkwX0_often_1 ++ dktX0_often_2
def dkwX0_often_0 : List UInt8 := [27, 3, 16, 10, 184, 0, 77, 153, 0, 13, 28, 4, 16, 100, 184, 0, 77, 154, 0, 5, 2, 172, 4, 62]
abbrev dktX0_often_0 : List UInt8 := dkwX0_often_0 ++ dktX0_often_1
theorem dksX0_often_0 : cX0_often.data.toList.drop 0 = dktX0_often_0 := by decide +kernel
theorem dksX0_often_1 : cX0_often.data.toList.drop 24 = dktX0_often_1 := dk_seg dksX0_often_0 24 rfl rfl
theorem dksX0_often_2 : cX0_often.data.toList.drop 48 = dktX0_often_2 := dk_seg dksX0_often_1 24 rfl rfl
theorem dX0_often_0 : decode cX0_often 0 = .ok (.iload_n 1, 1) := dk_27 (dk_at dksX0_often_0 0 rfl rfl)
theorem dX0_often_1 : decode cX0_often 1 = .ok (.iconst 0, 1) := dk_3 (dk_at dksX0_often_0 1 rfl rfl)
theorem dX0_often_2 : decode cX0_often 2 = .ok (.bipush 10, 2) := dk_16 10 (dk_at dksX0_often_0 2 rfl rfl)
theorem dX0_often_4 : decode cX0_often 4 = .ok (.invokestatic 77, 3) := dk_184 0 77 (dk_at dksX0_often_0 4 rfl rfl)
theorem dX0_often_7 : decode cX0_often 7 = .ok (.ifCond .eq 13, 3) := dk_153 0 13 (dk_at dksX0_often_0 7 rfl rfl)
theorem dX0_often_10 : decode cX0_often 10 = .ok (.iload_n 2, 1) := dk_28 (dk_at dksX0_often_0 10 rfl rfl)
theorem dX0_often_11 : decode cX0_often 11 = .ok (.iconst 1, 1) := dk_4 (dk_at dksX0_often_0 11 rfl rfl)
theorem dX0_often_12 : decode cX0_often 12 = .ok (.bipush 100, 2) := dk_16 100 (dk_at dksX0_often_0 12 rfl rfl)
theorem dX0_often_14 : decode cX0_often 14 = .ok (.invokestatic 77, 3) := dk_184 0 77 (dk_at dksX0_often_0 14 rfl rfl)
theorem dX0_often_17 : decode cX0_often 17 = .ok (.ifCond .ne 5, 3) := dk_154 0 5 (dk_at dksX0_often_0 17 rfl rfl)
theorem dX0_often_20 : decode cX0_often 20 = .ok (.iconst (-1), 1) := dk_2 (dk_at dksX0_often_0 20 rfl rfl)
theorem dX0_often_21 : decode cX0_often 21 = .ok (.ireturn, 1) := dk_172 (dk_at dksX0_often_0 21 rfl rfl)
theorem dX0_often_22 : decode cX0_often 22 = .ok (.iconst 1, 1) := dk_4 (dk_at dksX0_often_0 22 rfl rfl)
theorem dX0_often_23 : decode cX0_often 23 = .ok (.istore_n 3, 1) := dk_62 (dk_at dksX0_often_0 23 rfl rfl)
theorem dX0_often_24 : decode cX0_often 24 = .ok (.iload_n 3, 1) := dk_29 (dk_at dksX0_often_1 0 rfl rfl)
theorem dX0_often_25 : decode cX0_often 25 = .ok (.bipush 15, 2) := dk_16 15 (dk_at dksX0_often_1 1 rfl rfl)
theorem dX0_often_27 : decode cX0_often 27 = .ok (.if_icmp .gt 32, 3) := dk_163 0 32 (dk_at dksX0_often_1 3 rfl rfl)
theorem dX0_often_30 : decode cX0_often 30 = .ok (.ldc2_w 449, 3) := dk_20 1 193 (dk_at dksX0_often_1 6 rfl rfl)
theorem dX0_often_33 : decode cX0_often 33 = .ok (.aload_n 0, 1) := dk_42 (dk_at dksX0_often_1 9 rfl rfl)
theorem dX0_often_34 : decode cX0_often 34 = .ok (.iload_n 1, 1) := dk_27 (dk_at dksX0_often_1 10 rfl rfl)
theorem dX0_often_35 : decode cX0_often 35 = .ok (.iload_n 3, 1) := dk_29 (dk_at dksX0_often_1 11 rfl rfl)
theorem dX0_often_36 : decode cX0_often 36 = .ok (.invokevirtual 439, 3) := dk_182 1 183 (dk_at dksX0_often_1 12 rfl rfl)
theorem dX0_often_39 : decode cX0_often 39 = .ok (.lmul, 1) := dk_105 (dk_at dksX0_often_1 15 rfl rfl)
theorem dX0_often_40 : decode cX0_often 40 = .ok (.iload_n 2, 1) := dk_28 (dk_at dksX0_often_1 16 rfl rfl)
theorem dX0_often_41 : decode cX0_often 41 = .ok (.i2l, 1) := dk_133 (dk_at dksX0_often_1 17 rfl rfl)
theorem dX0_often_42 : decode cX0_often 42 = .ok (.iload_n 3, 1) := dk_29 (dk_at dksX0_often_1 18 rfl rfl)
theorem dX0_often_43 : decode cX0_often 43 = .ok (.invokestatic 429, 3) := dk_184 1 173 (dk_at dksX0_often_1 19 rfl rfl)
theorem dX0_often_46 : decode cX0_often 46 = .ok (.lmul, 1) := dk_105 (dk_at dksX0_often_1 22 rfl rfl)
theorem dX0_often_47 : decode cX0_often 47 = .ok (.lcmp, 1) := dk_148 (dk_at dksX0_often_1 23 rfl rfl)
theorem dX0_often_48 : decode cX0_often 48 = .ok (.ifCond .lt 5, 3) := dk_155 0 5 (dk_at dksX0_often_2 0 rfl rfl)
theorem dX0_often_51 : decode cX0_often 51 = .ok (.iload_n 3, 1) := dk_29 (dk_at dksX0_often_2 3 rfl rfl)
theorem dX0_often_52 : decode cX0_often 52 = .ok (.ireturn, 1) := dk_172 (dk_at dksX0_often_2 4 rfl rfl)
theorem dX0_often_53 : decode cX0_often 53 = .ok (.iinc 3 2, 3) := dk_132 3 2 (dk_at dksX0_often_2 5 rfl rfl)
theorem dX0_often_56 : decode cX0_often 56 = .ok (.goto (-32), 3) := dk_167 255 224 (dk_at dksX0_often_2 8 rfl rfl)
theorem dX0_often_59 : decode cX0_often 59 = .ok (.iconst (-1), 1) := dk_2 (dk_at dksX0_often_2 11 rfl rfl)
theorem dX0_often_60 : decode cX0_often 60 = .ok (.ireturn, 1) := dk_172 (dk_at dksX0_often_2 12 rfl rfl)
abbrev cX0_image : ByteArray := prog_1_method_92_code
def yX0_image : MethodName := ⟨RX0, "image", "()I"⟩
def dkwX0_image_0 : List UInt8 := [42, 180, 0, 16, 42, 180, 0, 12, 182, 0, 70, 42, 180, 0, 12, 180, 0, 203, 16, 6, 46, 172]
abbrev dktX0_image_0 : List UInt8 := dkwX0_image_0 ++ []
theorem dksX0_image_0 : cX0_image.data.toList.drop 0 = dktX0_image_0 := by decide +kernel
theorem dX0_image_0 : decode cX0_image 0 = .ok (.aload_n 0, 1) := dk_42 (dk_at dksX0_image_0 0 rfl rfl)
theorem dX0_image_1 : decode cX0_image 1 = .ok (.getfield 16, 3) := dk_180 0 16 (dk_at dksX0_image_0 1 rfl rfl)
theorem dX0_image_4 : decode cX0_image 4 = .ok (.aload_n 0, 1) := dk_42 (dk_at dksX0_image_0 4 rfl rfl)
theorem dX0_image_5 : decode cX0_image 5 = .ok (.getfield 12, 3) := dk_180 0 12 (dk_at dksX0_image_0 5 rfl rfl)
theorem dX0_image_8 : decode cX0_image 8 = .ok (.invokevirtual 70, 3) := dk_182 0 70 (dk_at dksX0_image_0 8 rfl rfl)
theorem dX0_image_11 : decode cX0_image 11 = .ok (.aload_n 0, 1) := dk_42 (dk_at dksX0_image_0 11 rfl rfl)
theorem dX0_image_12 : decode cX0_image 12 = .ok (.getfield 12, 3) := dk_180 0 12 (dk_at dksX0_image_0 12 rfl rfl)
theorem dX0_image_15 : decode cX0_image 15 = .ok (.getfield 203, 3) := dk_180 0 203 (dk_at dksX0_image_0 15 rfl rfl)
theorem dX0_image_18 : decode cX0_image 18 = .ok (.bipush 6, 2) := dk_16 6 (dk_at dksX0_image_0 18 rfl rfl)
theorem dX0_image_20 : decode cX0_image 20 = .ok (.iaload, 1) := dk_46 (dk_at dksX0_image_0 20 rfl rfl)
theorem dX0_image_21 : decode cX0_image 21 = .ok (.ireturn, 1) := dk_172 (dk_at dksX0_image_0 21 rfl rfl)
abbrev cX0_back : ByteArray := prog_1_method_93_code
def yX0_back : MethodName := ⟨RX0, "back", "()I"⟩
def dkwX0_back_0 : List UInt8 := [42, 180, 0, 12, 42, 180, 0, 16, 182, 0, 70, 42, 180, 0, 12, 180, 0, 203, 16, 6, 46, 172]
abbrev dktX0_back_0 : List UInt8 := dkwX0_back_0 ++ []
theorem dksX0_back_0 : cX0_back.data.toList.drop 0 = dktX0_back_0 := by decide +kernel
theorem dX0_back_0 : decode cX0_back 0 = .ok (.aload_n 0, 1) := dk_42 (dk_at dksX0_back_0 0 rfl rfl)
theorem dX0_back_1 : decode cX0_back 1 = .ok (.getfield 12, 3) := dk_180 0 12 (dk_at dksX0_back_0 1 rfl rfl)
theorem dX0_back_4 : decode cX0_back 4 = .ok (.aload_n 0, 1) := dk_42 (dk_at dksX0_back_0 4 rfl rfl)
theorem dX0_back_5 : decode cX0_back 5 = .ok (.getfield 16, 3) := dk_180 0 16 (dk_at dksX0_back_0 5 rfl rfl)
theorem dX0_back_8 : decode cX0_back 8 = .ok (.invokevirtual 70, 3) := dk_182 0 70 (dk_at dksX0_back_0 8 rfl rfl)
theorem dX0_back_11 : decode cX0_back 11 = .ok (.aload_n 0, 1) := dk_42 (dk_at dksX0_back_0 11 rfl rfl)
theorem dX0_back_12 : decode cX0_back 12 = .ok (.getfield 12, 3) := dk_180 0 12 (dk_at dksX0_back_0 12 rfl rfl)
theorem dX0_back_15 : decode cX0_back 15 = .ok (.getfield 203, 3) := dk_180 0 203 (dk_at dksX0_back_0 15 rfl rfl)
theorem dX0_back_18 : decode cX0_back 18 = .ok (.bipush 6, 2) := dk_16 6 (dk_at dksX0_back_0 18 rfl rfl)
theorem dX0_back_20 : decode cX0_back 20 = .ok (.iaload, 1) := dk_46 (dk_at dksX0_back_0 20 rfl rfl)
theorem dX0_back_21 : decode cX0_back 21 = .ok (.ireturn, 1) := dk_172 (dk_at dksX0_back_0 21 rfl rfl)
abbrev cX0_about : ByteArray := prog_1_method_94_code
def yX0_about : MethodName := ⟨RX0, "about", "(I)I"⟩
def dkwX0_about_7 : List UInt8 := [180, 0, 108, 172, 16, 254, 172]
abbrev dktX0_about_7 : List UInt8 := dkwX0_about_7 ++ []
def dkwX0_about_6 : List UInt8 := [180, 0, 12, 180, 0, 74, 16, 7, 46, 172, 42, 180, 0, 12, 180, 0, 74, 16, 8, 46, 172, 42]
abbrev dktX0_about_6 : List UInt8 := dkwX0_about_6 ++ dktX0_about_7
def dkwX0_about_5 : List UInt8 := [172, 42, 180, 0, 12, 180, 0, 74, 8, 46, 172, 42, 180, 0, 12, 180, 0, 74, 16, 6, 46, 172, 42]
abbrev dktX0_about_5 : List UInt8 := dkwX0_about_5 ++ dktX0_about_6
def dkwX0_about_4 : List UInt8 := [16, 6, 46, 172, 42, 180, 0, 12, 180, 0, 203, 16, 7, 46, 172, 42, 180, 0, 12, 180, 0, 74, 7, 46]
abbrev dktX0_about_4 : List UInt8 := dkwX0_about_4 ++ dktX0_about_5
def dkwX0_about_3 : List UInt8 := [180, 0, 74, 5, 46, 172, 42, 180, 0, 12, 180, 0, 74, 6, 46, 172, 42, 180, 0, 12, 180, 0, 203]
abbrev dktX0_about_3 : List UInt8 := dkwX0_about_3 ++ dktX0_about_4
def dkwX0_about_2 : List UInt8 := [42, 180, 0, 12, 180, 0, 74, 3, 46, 172, 42, 180, 0, 12, 180, 0, 74, 4, 46, 172, 42, 180, 0, 12]
abbrev dktX0_about_2 : List UInt8 := dkwX0_about_2 ++ dktX0_about_3
def dkwX0_about_1 : List UInt8 := [170, 0, 0, 0, 0, 0, 183, 0, 0, 0, 0, 0, 0, 0, 11, 0, 0, 0, 63, 0, 0, 0, 73, 0, 0, 0, 83, 0, 0, 0, 93, 0, 0, 0, 103, 0, 0, 0, 114, 0, 0, 0, 125, 0, 0, 0, 135, 0, 0, 0, 145, 0, 0, 0, 156, 0, 0, 0, 167, 0, 0, 0, 178]
abbrev dktX0_about_1 : List UInt8 := dkwX0_about_1 ++ dktX0_about_2
def dkwX0_about_0 : List UInt8 := [27]
abbrev dktX0_about_0 : List UInt8 := dkwX0_about_0 ++ dktX0_about_1
theorem dksX0_about_0 : cX0_about.data.toList.drop 0 = dktX0_about_0 := by decide +kernel
theorem dksX0_about_1 : cX0_about.data.toList.drop 1 = dktX0_about_1 := dk_seg dksX0_about_0 1 rfl rfl
theorem dksX0_about_2 : cX0_about.data.toList.drop 64 = dktX0_about_2 := dk_seg dksX0_about_1 63 rfl rfl
theorem dksX0_about_3 : cX0_about.data.toList.drop 88 = dktX0_about_3 := dk_seg dksX0_about_2 24 rfl rfl
theorem dksX0_about_4 : cX0_about.data.toList.drop 111 = dktX0_about_4 := dk_seg dksX0_about_3 23 rfl rfl
theorem dksX0_about_5 : cX0_about.data.toList.drop 135 = dktX0_about_5 := dk_seg dksX0_about_4 24 rfl rfl
theorem dksX0_about_6 : cX0_about.data.toList.drop 158 = dktX0_about_6 := dk_seg dksX0_about_5 23 rfl rfl
theorem dksX0_about_7 : cX0_about.data.toList.drop 180 = dktX0_about_7 := dk_seg dksX0_about_6 22 rfl rfl
theorem dX0_about_0 : decode cX0_about 0 = .ok (.iload_n 1, 1) := dk_27 (dk_at dksX0_about_0 0 rfl rfl)
theorem dX0_about_1 : decode cX0_about 1 = .ok (.tableswitch 183 0 11 #[63, 73, 83, 93, 103, 114, 125, 135, 145, 156, 167, 178], 63) := by decide +kernel
theorem dX0_about_64 : decode cX0_about 64 = .ok (.aload_n 0, 1) := dk_42 (dk_at dksX0_about_2 0 rfl rfl)
theorem dX0_about_65 : decode cX0_about 65 = .ok (.getfield 12, 3) := dk_180 0 12 (dk_at dksX0_about_2 1 rfl rfl)
theorem dX0_about_68 : decode cX0_about 68 = .ok (.getfield 74, 3) := dk_180 0 74 (dk_at dksX0_about_2 4 rfl rfl)
theorem dX0_about_71 : decode cX0_about 71 = .ok (.iconst 0, 1) := dk_3 (dk_at dksX0_about_2 7 rfl rfl)
theorem dX0_about_72 : decode cX0_about 72 = .ok (.iaload, 1) := dk_46 (dk_at dksX0_about_2 8 rfl rfl)
theorem dX0_about_73 : decode cX0_about 73 = .ok (.ireturn, 1) := dk_172 (dk_at dksX0_about_2 9 rfl rfl)
theorem dX0_about_74 : decode cX0_about 74 = .ok (.aload_n 0, 1) := dk_42 (dk_at dksX0_about_2 10 rfl rfl)
theorem dX0_about_75 : decode cX0_about 75 = .ok (.getfield 12, 3) := dk_180 0 12 (dk_at dksX0_about_2 11 rfl rfl)
theorem dX0_about_78 : decode cX0_about 78 = .ok (.getfield 74, 3) := dk_180 0 74 (dk_at dksX0_about_2 14 rfl rfl)
theorem dX0_about_81 : decode cX0_about 81 = .ok (.iconst 1, 1) := dk_4 (dk_at dksX0_about_2 17 rfl rfl)
theorem dX0_about_82 : decode cX0_about 82 = .ok (.iaload, 1) := dk_46 (dk_at dksX0_about_2 18 rfl rfl)
theorem dX0_about_83 : decode cX0_about 83 = .ok (.ireturn, 1) := dk_172 (dk_at dksX0_about_2 19 rfl rfl)
theorem dX0_about_84 : decode cX0_about 84 = .ok (.aload_n 0, 1) := dk_42 (dk_at dksX0_about_2 20 rfl rfl)
theorem dX0_about_85 : decode cX0_about 85 = .ok (.getfield 12, 3) := dk_180 0 12 (dk_at dksX0_about_2 21 rfl rfl)
theorem dX0_about_88 : decode cX0_about 88 = .ok (.getfield 74, 3) := dk_180 0 74 (dk_at dksX0_about_3 0 rfl rfl)
theorem dX0_about_91 : decode cX0_about 91 = .ok (.iconst 2, 1) := dk_5 (dk_at dksX0_about_3 3 rfl rfl)
theorem dX0_about_92 : decode cX0_about 92 = .ok (.iaload, 1) := dk_46 (dk_at dksX0_about_3 4 rfl rfl)
theorem dX0_about_93 : decode cX0_about 93 = .ok (.ireturn, 1) := dk_172 (dk_at dksX0_about_3 5 rfl rfl)
theorem dX0_about_94 : decode cX0_about 94 = .ok (.aload_n 0, 1) := dk_42 (dk_at dksX0_about_3 6 rfl rfl)
theorem dX0_about_95 : decode cX0_about 95 = .ok (.getfield 12, 3) := dk_180 0 12 (dk_at dksX0_about_3 7 rfl rfl)
theorem dX0_about_98 : decode cX0_about 98 = .ok (.getfield 74, 3) := dk_180 0 74 (dk_at dksX0_about_3 10 rfl rfl)
theorem dX0_about_101 : decode cX0_about 101 = .ok (.iconst 3, 1) := dk_6 (dk_at dksX0_about_3 13 rfl rfl)
theorem dX0_about_102 : decode cX0_about 102 = .ok (.iaload, 1) := dk_46 (dk_at dksX0_about_3 14 rfl rfl)
theorem dX0_about_103 : decode cX0_about 103 = .ok (.ireturn, 1) := dk_172 (dk_at dksX0_about_3 15 rfl rfl)
theorem dX0_about_104 : decode cX0_about 104 = .ok (.aload_n 0, 1) := dk_42 (dk_at dksX0_about_3 16 rfl rfl)
theorem dX0_about_105 : decode cX0_about 105 = .ok (.getfield 12, 3) := dk_180 0 12 (dk_at dksX0_about_3 17 rfl rfl)
theorem dX0_about_108 : decode cX0_about 108 = .ok (.getfield 203, 3) := dk_180 0 203 (dk_at dksX0_about_3 20 rfl rfl)
theorem dX0_about_111 : decode cX0_about 111 = .ok (.bipush 6, 2) := dk_16 6 (dk_at dksX0_about_4 0 rfl rfl)
theorem dX0_about_113 : decode cX0_about 113 = .ok (.iaload, 1) := dk_46 (dk_at dksX0_about_4 2 rfl rfl)
theorem dX0_about_114 : decode cX0_about 114 = .ok (.ireturn, 1) := dk_172 (dk_at dksX0_about_4 3 rfl rfl)
theorem dX0_about_115 : decode cX0_about 115 = .ok (.aload_n 0, 1) := dk_42 (dk_at dksX0_about_4 4 rfl rfl)
theorem dX0_about_116 : decode cX0_about 116 = .ok (.getfield 12, 3) := dk_180 0 12 (dk_at dksX0_about_4 5 rfl rfl)
theorem dX0_about_119 : decode cX0_about 119 = .ok (.getfield 203, 3) := dk_180 0 203 (dk_at dksX0_about_4 8 rfl rfl)
theorem dX0_about_122 : decode cX0_about 122 = .ok (.bipush 7, 2) := dk_16 7 (dk_at dksX0_about_4 11 rfl rfl)
theorem dX0_about_124 : decode cX0_about 124 = .ok (.iaload, 1) := dk_46 (dk_at dksX0_about_4 13 rfl rfl)
theorem dX0_about_125 : decode cX0_about 125 = .ok (.ireturn, 1) := dk_172 (dk_at dksX0_about_4 14 rfl rfl)
theorem dX0_about_126 : decode cX0_about 126 = .ok (.aload_n 0, 1) := dk_42 (dk_at dksX0_about_4 15 rfl rfl)
theorem dX0_about_127 : decode cX0_about 127 = .ok (.getfield 12, 3) := dk_180 0 12 (dk_at dksX0_about_4 16 rfl rfl)
theorem dX0_about_130 : decode cX0_about 130 = .ok (.getfield 74, 3) := dk_180 0 74 (dk_at dksX0_about_4 19 rfl rfl)
theorem dX0_about_133 : decode cX0_about 133 = .ok (.iconst 4, 1) := dk_7 (dk_at dksX0_about_4 22 rfl rfl)
theorem dX0_about_134 : decode cX0_about 134 = .ok (.iaload, 1) := dk_46 (dk_at dksX0_about_4 23 rfl rfl)
theorem dX0_about_135 : decode cX0_about 135 = .ok (.ireturn, 1) := dk_172 (dk_at dksX0_about_5 0 rfl rfl)
theorem dX0_about_136 : decode cX0_about 136 = .ok (.aload_n 0, 1) := dk_42 (dk_at dksX0_about_5 1 rfl rfl)
theorem dX0_about_137 : decode cX0_about 137 = .ok (.getfield 12, 3) := dk_180 0 12 (dk_at dksX0_about_5 2 rfl rfl)
theorem dX0_about_140 : decode cX0_about 140 = .ok (.getfield 74, 3) := dk_180 0 74 (dk_at dksX0_about_5 5 rfl rfl)
theorem dX0_about_143 : decode cX0_about 143 = .ok (.iconst 5, 1) := dk_8 (dk_at dksX0_about_5 8 rfl rfl)
theorem dX0_about_144 : decode cX0_about 144 = .ok (.iaload, 1) := dk_46 (dk_at dksX0_about_5 9 rfl rfl)
theorem dX0_about_145 : decode cX0_about 145 = .ok (.ireturn, 1) := dk_172 (dk_at dksX0_about_5 10 rfl rfl)
theorem dX0_about_146 : decode cX0_about 146 = .ok (.aload_n 0, 1) := dk_42 (dk_at dksX0_about_5 11 rfl rfl)
theorem dX0_about_147 : decode cX0_about 147 = .ok (.getfield 12, 3) := dk_180 0 12 (dk_at dksX0_about_5 12 rfl rfl)
theorem dX0_about_150 : decode cX0_about 150 = .ok (.getfield 74, 3) := dk_180 0 74 (dk_at dksX0_about_5 15 rfl rfl)
theorem dX0_about_153 : decode cX0_about 153 = .ok (.bipush 6, 2) := dk_16 6 (dk_at dksX0_about_5 18 rfl rfl)
theorem dX0_about_155 : decode cX0_about 155 = .ok (.iaload, 1) := dk_46 (dk_at dksX0_about_5 20 rfl rfl)
theorem dX0_about_156 : decode cX0_about 156 = .ok (.ireturn, 1) := dk_172 (dk_at dksX0_about_5 21 rfl rfl)
theorem dX0_about_157 : decode cX0_about 157 = .ok (.aload_n 0, 1) := dk_42 (dk_at dksX0_about_5 22 rfl rfl)
theorem dX0_about_158 : decode cX0_about 158 = .ok (.getfield 12, 3) := dk_180 0 12 (dk_at dksX0_about_6 0 rfl rfl)
theorem dX0_about_161 : decode cX0_about 161 = .ok (.getfield 74, 3) := dk_180 0 74 (dk_at dksX0_about_6 3 rfl rfl)
theorem dX0_about_164 : decode cX0_about 164 = .ok (.bipush 7, 2) := dk_16 7 (dk_at dksX0_about_6 6 rfl rfl)
theorem dX0_about_166 : decode cX0_about 166 = .ok (.iaload, 1) := dk_46 (dk_at dksX0_about_6 8 rfl rfl)
theorem dX0_about_167 : decode cX0_about 167 = .ok (.ireturn, 1) := dk_172 (dk_at dksX0_about_6 9 rfl rfl)
theorem dX0_about_168 : decode cX0_about 168 = .ok (.aload_n 0, 1) := dk_42 (dk_at dksX0_about_6 10 rfl rfl)
theorem dX0_about_169 : decode cX0_about 169 = .ok (.getfield 12, 3) := dk_180 0 12 (dk_at dksX0_about_6 11 rfl rfl)
theorem dX0_about_172 : decode cX0_about 172 = .ok (.getfield 74, 3) := dk_180 0 74 (dk_at dksX0_about_6 14 rfl rfl)
theorem dX0_about_175 : decode cX0_about 175 = .ok (.bipush 8, 2) := dk_16 8 (dk_at dksX0_about_6 17 rfl rfl)
theorem dX0_about_177 : decode cX0_about 177 = .ok (.iaload, 1) := dk_46 (dk_at dksX0_about_6 19 rfl rfl)
theorem dX0_about_178 : decode cX0_about 178 = .ok (.ireturn, 1) := dk_172 (dk_at dksX0_about_6 20 rfl rfl)
theorem dX0_about_179 : decode cX0_about 179 = .ok (.aload_n 0, 1) := dk_42 (dk_at dksX0_about_6 21 rfl rfl)
theorem dX0_about_180 : decode cX0_about 180 = .ok (.getfield 108, 3) := dk_180 0 108 (dk_at dksX0_about_7 0 rfl rfl)
theorem dX0_about_183 : decode cX0_about 183 = .ok (.ireturn, 1) := dk_172 (dk_at dksX0_about_7 3 rfl rfl)
theorem dX0_about_184 : decode cX0_about 184 = .ok (.bipush (-2), 2) := dk_16 254 (dk_at dksX0_about_7 4 rfl rfl)
theorem dX0_about_186 : decode cX0_about 186 = .ok (.ireturn, 1) := dk_172 (dk_at dksX0_about_7 6 rfl rfl)
theorem q137 : (Jvm.Cond.initialized "AgainstFeather") ∈ lw_all := lw_g (lw_at lw_m1 1 rfl) rfl
theorem q169 : (Jvm.Cond.instantiable "AgainstFeather" (23 : Nat)) ∈ lw_all := lw_g (lw_at lw_m1 33 rfl) rfl
theorem q171 : (Jvm.Cond.instanceMethod ({ cls := "AgainstFeather", name := "<init>", desc := "()V" } : Jvm.MethodName)) ∈ lw_all := lw_g (lw_at lw_m1 35 rfl) rfl
theorem q172 : (Jvm.Cond.code ({ cls := "AgainstFeather", name := "<init>", desc := "()V" } : Jvm.MethodName) prog_1_method_3_code (1 : Nat) (Option.none : Option Jvm.ClassFile.FieldType)) ∈ lw_all := lw_g (lw_at lw_m1 36 rfl) rfl
theorem q173 : (Jvm.Cond.methodLink "AgainstFeather" (3 : Nat) ({ cls := "java/lang/Object", name := "<init>", desc := "()V" } : Jvm.MethodName)) ∈ lw_all := lw_g (lw_at lw_m1 37 rfl) rfl
theorem q176 : (Jvm.Cond.classLink "AgainstFeather" (9 : Nat) "AgainstFeather$State") ∈ lw_all := lw_g (lw_at lw_m1 40 rfl) rfl
theorem q178 : (Jvm.Cond.methodLink "AgainstFeather" (11 : Nat) ({ cls := "AgainstFeather$State", name := "<init>", desc := "()V" } : Jvm.MethodName)) ∈ lw_all := lw_g (lw_at lw_m1 42 rfl) rfl
theorem q187 : (Jvm.Cond.fieldLinkNest "AgainstFeather" (74 : Nat) "AgainstFeather$State" "n" "[I" "AgainstFeather") ∈ lw_tbl := lw_at lw_m1 51 rfl
theorem q189 : (Jvm.Cond.fieldLinkNest "AgainstFeather" (81 : Nat) "AgainstFeather$State" "feather" "[I" "AgainstFeather") ∈ lw_tbl := lw_at lw_m1 53 rfl
theorem q191 : (Jvm.Cond.fieldLinkNest "AgainstFeather" (102 : Nat) "AgainstFeather$State" "judge" "[I" "AgainstFeather") ∈ lw_tbl := lw_at lw_m1 55 rfl
theorem q194 : (Jvm.Cond.fieldLinkNest "AgainstFeather" (203 : Nat) "AgainstFeather$State" "row" "[I" "AgainstFeather") ∈ lw_tbl := lw_at lw_m1 58 rfl
theorem q196 : (Jvm.Cond.fieldLinkNest "AgainstFeather" (88 : Nat) "AgainstFeather$State" "deed" "[[I" "AgainstFeather") ∈ lw_tbl := lw_at lw_m1 60 rfl
theorem q198 : (Jvm.Cond.fieldLinkNest "AgainstFeather" (105 : Nat) "AgainstFeather$State" "bond" "[[I" "AgainstFeather") ∈ lw_tbl := lw_at lw_m1 62 rfl
theorem q200 : (Jvm.Cond.fieldLinkNest "AgainstFeather" (402 : Nat) "AgainstFeather$State" "known" "[[I" "AgainstFeather") ∈ lw_tbl := lw_at lw_m1 64 rfl
theorem q202 : (Jvm.Cond.fieldLinkNest "AgainstFeather" (319 : Nat) "AgainstFeather$State" "step" "[[I" "AgainstFeather") ∈ lw_tbl := lw_at lw_m1 66 rfl
theorem q204 : (Jvm.Cond.fieldLinkNest "AgainstFeather" (115 : Nat) "AgainstFeather$State" "text" "[LAgainstFeather$Text;" "AgainstFeather") ∈ lw_tbl := lw_at lw_m1 68 rfl
theorem q225 : (Jvm.Cond.classLink "AgainstFeather" (52 : Nat) "[[I") ∈ lw_all := lw_g (lw_at lw_m1 89 rfl) rfl
theorem q226 : (Jvm.Cond.methodLink "AgainstFeather" (70 : Nat) ({ cls := "AgainstFeather$State", name := "be", desc := "(LAgainstFeather$State;)V" } : Jvm.MethodName)) ∈ lw_all := lw_g (lw_at lw_m1 90 rfl) rfl
theorem q240 : (Jvm.Cond.fieldLink "AgainstFeather" (12 : Nat) "AgainstFeather" "now" "LAgainstFeather$State;") ∈ lw_all := lw_g (lw_at lw_m1 104 rfl) rfl
theorem q241 : (Jvm.Cond.fieldLink "AgainstFeather" (16 : Nat) "AgainstFeather" "image" "LAgainstFeather$State;") ∈ lw_all := lw_g (lw_at lw_m1 105 rfl) rfl
theorem q242 : (Jvm.Cond.fieldLink "AgainstFeather" (19 : Nat) "AgainstFeather" "tape" "[B") ∈ lw_all := lw_g (lw_at lw_m1 106 rfl) rfl
theorem q243 : (Jvm.Cond.fieldLink "AgainstFeather" (108 : Nat) "AgainstFeather" "taped" "I") ∈ lw_all := lw_g (lw_at lw_m1 107 rfl) rfl
theorem q244 : (Jvm.Cond.fieldLink "AgainstFeather" (23 : Nat) "AgainstFeather" "fault" "I") ∈ lw_all := lw_g (lw_at lw_m1 108 rfl) rfl
theorem q245 : (Jvm.Cond.fieldLink "AgainstFeather" (27 : Nat) "AgainstFeather" "faultAt" "I") ∈ lw_all := lw_g (lw_at lw_m1 109 rfl) rfl
theorem q246 : (Jvm.Cond.fieldLink "AgainstFeather" (30 : Nat) "AgainstFeather" "names" "[I") ∈ lw_all := lw_g (lw_at lw_m1 110 rfl) rfl
theorem q247 : (Jvm.Cond.fieldLink "AgainstFeather" (34 : Nat) "AgainstFeather" "mine" "[I") ∈ lw_all := lw_g (lw_at lw_m1 111 rfl) rfl
theorem q248 : (Jvm.Cond.fieldLink "AgainstFeather" (307 : Nat) "AgainstFeather" "many" "I") ∈ lw_all := lw_g (lw_at lw_m1 112 rfl) rfl
theorem q249 : (Jvm.Cond.fieldLink "AgainstFeather" (37 : Nat) "AgainstFeather" "weights" "[I") ∈ lw_all := lw_g (lw_at lw_m1 113 rfl) rfl
theorem q250 : (Jvm.Cond.fieldLink "AgainstFeather" (40 : Nat) "AgainstFeather" "tried" "[I") ∈ lw_all := lw_g (lw_at lw_m1 114 rfl) rfl
theorem q251 : (Jvm.Cond.fieldLink "AgainstFeather" (43 : Nat) "AgainstFeather" "found" "[I") ∈ lw_all := lw_g (lw_at lw_m1 115 rfl) rfl
theorem q252 : (Jvm.Cond.fieldLink "AgainstFeather" (335 : Nat) "AgainstFeather" "least" "I") ∈ lw_all := lw_g (lw_at lw_m1 116 rfl) rfl
theorem q253 : (Jvm.Cond.fieldLink "AgainstFeather" (338 : Nat) "AgainstFeather" "greatest" "I") ∈ lw_all := lw_g (lw_at lw_m1 117 rfl) rfl
theorem q254 : (Jvm.Cond.fieldLink "AgainstFeather" (343 : Nat) "AgainstFeather" "wanted" "I") ∈ lw_all := lw_g (lw_at lw_m1 118 rfl) rfl
theorem q255 : (Jvm.Cond.fieldLink "AgainstFeather" (331 : Nat) "AgainstFeather" "isFound" "Z") ∈ lw_all := lw_g (lw_at lw_m1 119 rfl) rfl
theorem q256 : (Jvm.Cond.fieldLink "AgainstFeather" (46 : Nat) "AgainstFeather" "lacks" "[I") ∈ lw_all := lw_g (lw_at lw_m1 120 rfl) rfl
theorem q257 : (Jvm.Cond.fieldLink "AgainstFeather" (49 : Nat) "AgainstFeather" "takes" "[I") ∈ lw_all := lw_g (lw_at lw_m1 121 rfl) rfl
theorem q258 : (Jvm.Cond.fieldLink "AgainstFeather" (54 : Nat) "AgainstFeather" "may" "[[I") ∈ lw_all := lw_g (lw_at lw_m1 122 rfl) rfl
theorem q259 : (Jvm.Cond.fieldLink "AgainstFeather" (57 : Nat) "AgainstFeather" "lends" "[[I") ∈ lw_all := lw_g (lw_at lw_m1 123 rfl) rfl
theorem q260 : (Jvm.Cond.fieldLink "AgainstFeather" (60 : Nat) "AgainstFeather" "factor" "[I") ∈ lw_all := lw_g (lw_at lw_m1 124 rfl) rfl
theorem q261 : (Jvm.Cond.fieldLink "AgainstFeather" (63 : Nat) "AgainstFeather" "smallest" "[I") ∈ lw_all := lw_g (lw_at lw_m1 125 rfl) rfl
theorem q262 : (Jvm.Cond.fieldLink "AgainstFeather" (66 : Nat) "AgainstFeather" "right" "[J") ∈ lw_all := lw_g (lw_at lw_m1 126 rfl) rfl
theorem q263 : (Jvm.Cond.laysFinal "AgainstFeather" "AgainstFeather" "now" "LAgainstFeather$State;") ∈ lw_all := lw_g (lw_at lw_m1 127 rfl) rfl
theorem q264 : (Jvm.Cond.soleField "AgainstFeather" "now") ∈ lw_all := lw_g (lw_at lw_m1 128 rfl) rfl
theorem q265 : (Jvm.Cond.laysFinal "AgainstFeather" "AgainstFeather" "image" "LAgainstFeather$State;") ∈ lw_all := lw_g (lw_at lw_m1 129 rfl) rfl
theorem q266 : (Jvm.Cond.soleField "AgainstFeather" "image") ∈ lw_all := lw_g (lw_at lw_m1 130 rfl) rfl
theorem q267 : (Jvm.Cond.laysFinal "AgainstFeather" "AgainstFeather" "tape" "[B") ∈ lw_all := lw_g (lw_at lw_m1 131 rfl) rfl
theorem q268 : (Jvm.Cond.soleField "AgainstFeather" "tape") ∈ lw_all := lw_g (lw_at lw_m1 132 rfl) rfl
theorem q269 : (Jvm.Cond.lays "AgainstFeather" "AgainstFeather" "taped" "I") ∈ lw_all := lw_g (lw_at lw_m1 133 rfl) rfl
theorem q270 : (Jvm.Cond.soleField "AgainstFeather" "taped") ∈ lw_all := lw_g (lw_at lw_m1 134 rfl) rfl
theorem q271 : (Jvm.Cond.lays "AgainstFeather" "AgainstFeather" "fault" "I") ∈ lw_all := lw_g (lw_at lw_m1 135 rfl) rfl
theorem q272 : (Jvm.Cond.soleField "AgainstFeather" "fault") ∈ lw_all := lw_g (lw_at lw_m1 136 rfl) rfl
theorem q273 : (Jvm.Cond.lays "AgainstFeather" "AgainstFeather" "faultAt" "I") ∈ lw_all := lw_g (lw_at lw_m1 137 rfl) rfl
theorem q274 : (Jvm.Cond.soleField "AgainstFeather" "faultAt") ∈ lw_all := lw_g (lw_at lw_m1 138 rfl) rfl
theorem q275 : (Jvm.Cond.laysFinal "AgainstFeather" "AgainstFeather" "names" "[I") ∈ lw_all := lw_g (lw_at lw_m1 139 rfl) rfl
theorem q276 : (Jvm.Cond.soleField "AgainstFeather" "names") ∈ lw_all := lw_g (lw_at lw_m1 140 rfl) rfl
theorem q277 : (Jvm.Cond.laysFinal "AgainstFeather" "AgainstFeather" "mine" "[I") ∈ lw_all := lw_g (lw_at lw_m1 141 rfl) rfl
theorem q278 : (Jvm.Cond.soleField "AgainstFeather" "mine") ∈ lw_all := lw_g (lw_at lw_m1 142 rfl) rfl
theorem q279 : (Jvm.Cond.lays "AgainstFeather" "AgainstFeather" "many" "I") ∈ lw_all := lw_g (lw_at lw_m1 143 rfl) rfl
theorem q280 : (Jvm.Cond.soleField "AgainstFeather" "many") ∈ lw_all := lw_g (lw_at lw_m1 144 rfl) rfl
theorem q281 : (Jvm.Cond.laysFinal "AgainstFeather" "AgainstFeather" "weights" "[I") ∈ lw_all := lw_g (lw_at lw_m1 145 rfl) rfl
theorem q282 : (Jvm.Cond.soleField "AgainstFeather" "weights") ∈ lw_all := lw_g (lw_at lw_m1 146 rfl) rfl
theorem q283 : (Jvm.Cond.laysFinal "AgainstFeather" "AgainstFeather" "tried" "[I") ∈ lw_all := lw_g (lw_at lw_m1 147 rfl) rfl
theorem q284 : (Jvm.Cond.soleField "AgainstFeather" "tried") ∈ lw_all := lw_g (lw_at lw_m1 148 rfl) rfl
theorem q285 : (Jvm.Cond.laysFinal "AgainstFeather" "AgainstFeather" "found" "[I") ∈ lw_all := lw_g (lw_at lw_m1 149 rfl) rfl
theorem q286 : (Jvm.Cond.soleField "AgainstFeather" "found") ∈ lw_all := lw_g (lw_at lw_m1 150 rfl) rfl
theorem q287 : (Jvm.Cond.lays "AgainstFeather" "AgainstFeather" "least" "I") ∈ lw_all := lw_g (lw_at lw_m1 151 rfl) rfl
theorem q288 : (Jvm.Cond.soleField "AgainstFeather" "least") ∈ lw_all := lw_g (lw_at lw_m1 152 rfl) rfl
theorem q289 : (Jvm.Cond.lays "AgainstFeather" "AgainstFeather" "greatest" "I") ∈ lw_all := lw_g (lw_at lw_m1 153 rfl) rfl
theorem q290 : (Jvm.Cond.soleField "AgainstFeather" "greatest") ∈ lw_all := lw_g (lw_at lw_m1 154 rfl) rfl
theorem q291 : (Jvm.Cond.lays "AgainstFeather" "AgainstFeather" "wanted" "I") ∈ lw_all := lw_g (lw_at lw_m1 155 rfl) rfl
theorem q292 : (Jvm.Cond.soleField "AgainstFeather" "wanted") ∈ lw_all := lw_g (lw_at lw_m1 156 rfl) rfl
theorem q293 : (Jvm.Cond.lays "AgainstFeather" "AgainstFeather" "isFound" "Z") ∈ lw_all := lw_g (lw_at lw_m1 157 rfl) rfl
theorem q294 : (Jvm.Cond.soleField "AgainstFeather" "isFound") ∈ lw_all := lw_g (lw_at lw_m1 158 rfl) rfl
theorem q295 : (Jvm.Cond.laysFinal "AgainstFeather" "AgainstFeather" "lacks" "[I") ∈ lw_all := lw_g (lw_at lw_m1 159 rfl) rfl
theorem q296 : (Jvm.Cond.soleField "AgainstFeather" "lacks") ∈ lw_all := lw_g (lw_at lw_m1 160 rfl) rfl
theorem q297 : (Jvm.Cond.laysFinal "AgainstFeather" "AgainstFeather" "takes" "[I") ∈ lw_all := lw_g (lw_at lw_m1 161 rfl) rfl
theorem q298 : (Jvm.Cond.soleField "AgainstFeather" "takes") ∈ lw_all := lw_g (lw_at lw_m1 162 rfl) rfl
theorem q299 : (Jvm.Cond.laysFinal "AgainstFeather" "AgainstFeather" "may" "[[I") ∈ lw_all := lw_g (lw_at lw_m1 163 rfl) rfl
theorem q300 : (Jvm.Cond.soleField "AgainstFeather" "may") ∈ lw_all := lw_g (lw_at lw_m1 164 rfl) rfl
theorem q301 : (Jvm.Cond.laysFinal "AgainstFeather" "AgainstFeather" "lends" "[[I") ∈ lw_all := lw_g (lw_at lw_m1 165 rfl) rfl
theorem q302 : (Jvm.Cond.soleField "AgainstFeather" "lends") ∈ lw_all := lw_g (lw_at lw_m1 166 rfl) rfl
theorem q303 : (Jvm.Cond.laysFinal "AgainstFeather" "AgainstFeather" "factor" "[I") ∈ lw_all := lw_g (lw_at lw_m1 167 rfl) rfl
theorem q304 : (Jvm.Cond.soleField "AgainstFeather" "factor") ∈ lw_all := lw_g (lw_at lw_m1 168 rfl) rfl
theorem q305 : (Jvm.Cond.laysFinal "AgainstFeather" "AgainstFeather" "smallest" "[I") ∈ lw_all := lw_g (lw_at lw_m1 169 rfl) rfl
theorem q306 : (Jvm.Cond.soleField "AgainstFeather" "smallest") ∈ lw_all := lw_g (lw_at lw_m1 170 rfl) rfl
theorem q307 : (Jvm.Cond.laysFinal "AgainstFeather" "AgainstFeather" "right" "[J") ∈ lw_all := lw_g (lw_at lw_m1 171 rfl) rfl
theorem q308 : (Jvm.Cond.soleField "AgainstFeather" "right") ∈ lw_all := lw_g (lw_at lw_m1 172 rfl) rfl
theorem q309 : (Jvm.Cond.superclass "AgainstFeather" "java/lang/Object") ∈ lw_all := lw_g (lw_at lw_m1 173 rfl) rfl
theorem q313 : (Jvm.Cond.instanceMethod ({ cls := "AgainstFeather", name := "heart", desc := "(I)I" } : Jvm.MethodName)) ∈ lw_all := lw_g (lw_at lw_m1 177 rfl) rfl
theorem q314 : (Jvm.Cond.selects "AgainstFeather" ({ cls := "AgainstFeather", name := "heart", desc := "(I)I" } : Jvm.MethodName) ({ cls := "AgainstFeather", name := "heart", desc := "(I)I" } : Jvm.MethodName)) ∈ lw_all := lw_g (lw_at lw_m1 178 rfl) rfl
theorem q315 : (Jvm.Cond.code ({ cls := "AgainstFeather", name := "heart", desc := "(I)I" } : Jvm.MethodName) prog_1_method_8_code (2 : Nat) (Option.some Jvm.ClassFile.FieldType.int)) ∈ lw_all := lw_g (lw_at lw_m1 179 rfl) rfl
theorem q316 : (Jvm.Cond.methodLink "AgainstFeather" (77 : Nat) ({ cls := "AgainstFeather", name := "in", desc := "(III)Z" } : Jvm.MethodName)) ∈ lw_all := lw_g (lw_at lw_m1 180 rfl) rfl
theorem q317 : (Jvm.Cond.static ({ cls := "AgainstFeather", name := "in", desc := "(III)Z" } : Jvm.MethodName)) ∈ lw_all := lw_g (lw_at lw_m1 181 rfl) rfl
theorem q318 : (Jvm.Cond.code ({ cls := "AgainstFeather", name := "in", desc := "(III)Z" } : Jvm.MethodName) prog_1_method_1_code (3 : Nat) (Option.some Jvm.ClassFile.FieldType.boolean)) ∈ lw_all := lw_g (lw_at lw_m1 182 rfl) rfl
theorem q320 : (Jvm.Cond.instanceMethod ({ cls := "AgainstFeather", name := "deed", desc := "(IIIII)I" } : Jvm.MethodName)) ∈ lw_all := lw_g (lw_at lw_m1 184 rfl) rfl
theorem q321 : (Jvm.Cond.selects "AgainstFeather" ({ cls := "AgainstFeather", name := "deed", desc := "(IIIII)I" } : Jvm.MethodName) ({ cls := "AgainstFeather", name := "deed", desc := "(IIIII)I" } : Jvm.MethodName)) ∈ lw_all := lw_g (lw_at lw_m1 185 rfl) rfl
theorem q322 : (Jvm.Cond.code ({ cls := "AgainstFeather", name := "deed", desc := "(IIIII)I" } : Jvm.MethodName) prog_1_method_9_code (8 : Nat) (Option.some Jvm.ClassFile.FieldType.int)) ∈ lw_all := lw_g (lw_at lw_m1 186 rfl) rfl
theorem q323 : (Jvm.Cond.methodLink "AgainstFeather" (84 : Nat) ({ cls := "AgainstFeather", name := "isHeart", desc := "(I)Z" } : Jvm.MethodName)) ∈ lw_all := lw_g (lw_at lw_m1 187 rfl) rfl
theorem q324 : (Jvm.Cond.privateMethod ({ cls := "AgainstFeather", name := "isHeart", desc := "(I)Z" } : Jvm.MethodName)) ∈ lw_tbl := lw_at lw_m1 188 rfl
theorem q325 : (Jvm.Cond.instanceMethod ({ cls := "AgainstFeather", name := "isHeart", desc := "(I)Z" } : Jvm.MethodName)) ∈ lw_all := lw_g (lw_at lw_m1 189 rfl) rfl
theorem q326 : (Jvm.Cond.code ({ cls := "AgainstFeather", name := "isHeart", desc := "(I)Z" } : Jvm.MethodName) prog_1_method_4_code (2 : Nat) (Option.some Jvm.ClassFile.FieldType.boolean)) ∈ lw_all := lw_g (lw_at lw_m1 190 rfl) rfl
theorem q327 : (Jvm.Cond.methodLinkNest "AgainstFeather" (91 : Nat) ({ cls := "AgainstFeather$State", name := "copy", desc := "([I[I)V" } : Jvm.MethodName) "AgainstFeather") ∈ lw_tbl := lw_at lw_m1 191 rfl
theorem q329 : (Jvm.Cond.instanceMethod ({ cls := "AgainstFeather", name := "witness", desc := "(II)Z" } : Jvm.MethodName)) ∈ lw_all := lw_g (lw_at lw_m1 193 rfl) rfl
theorem q330 : (Jvm.Cond.selects "AgainstFeather" ({ cls := "AgainstFeather", name := "witness", desc := "(II)Z" } : Jvm.MethodName) ({ cls := "AgainstFeather", name := "witness", desc := "(II)Z" } : Jvm.MethodName)) ∈ lw_all := lw_g (lw_at lw_m1 194 rfl) rfl
theorem q331 : (Jvm.Cond.code ({ cls := "AgainstFeather", name := "witness", desc := "(II)Z" } : Jvm.MethodName) prog_1_method_10_code (3 : Nat) (Option.some Jvm.ClassFile.FieldType.boolean)) ∈ lw_all := lw_g (lw_at lw_m1 195 rfl) rfl
theorem q332 : (Jvm.Cond.methodLink "AgainstFeather" (95 : Nat) ({ cls := "AgainstFeather", name := "isDeed", desc := "(I)Z" } : Jvm.MethodName)) ∈ lw_all := lw_g (lw_at lw_m1 196 rfl) rfl
theorem q333 : (Jvm.Cond.privateMethod ({ cls := "AgainstFeather", name := "isDeed", desc := "(I)Z" } : Jvm.MethodName)) ∈ lw_tbl := lw_at lw_m1 197 rfl
theorem q334 : (Jvm.Cond.instanceMethod ({ cls := "AgainstFeather", name := "isDeed", desc := "(I)Z" } : Jvm.MethodName)) ∈ lw_all := lw_g (lw_at lw_m1 198 rfl) rfl
theorem q335 : (Jvm.Cond.code ({ cls := "AgainstFeather", name := "isDeed", desc := "(I)Z" } : Jvm.MethodName) prog_1_method_5_code (2 : Nat) (Option.some Jvm.ClassFile.FieldType.boolean)) ∈ lw_all := lw_g (lw_at lw_m1 199 rfl) rfl
theorem q336 : (Jvm.Cond.methodLink "AgainstFeather" (98 : Nat) ({ cls := "AgainstFeather", name := "allHearts", desc := "()I" } : Jvm.MethodName)) ∈ lw_all := lw_g (lw_at lw_m1 200 rfl) rfl
theorem q337 : (Jvm.Cond.privateMethod ({ cls := "AgainstFeather", name := "allHearts", desc := "()I" } : Jvm.MethodName)) ∈ lw_tbl := lw_at lw_m1 201 rfl
theorem q338 : (Jvm.Cond.instanceMethod ({ cls := "AgainstFeather", name := "allHearts", desc := "()I" } : Jvm.MethodName)) ∈ lw_all := lw_g (lw_at lw_m1 202 rfl) rfl
theorem q339 : (Jvm.Cond.code ({ cls := "AgainstFeather", name := "allHearts", desc := "()I" } : Jvm.MethodName) prog_1_method_7_code (1 : Nat) (Option.some Jvm.ClassFile.FieldType.int)) ∈ lw_all := lw_g (lw_at lw_m1 203 rfl) rfl
theorem q341 : (Jvm.Cond.instanceMethod ({ cls := "AgainstFeather", name := "judge", desc := "(I)I" } : Jvm.MethodName)) ∈ lw_all := lw_g (lw_at lw_m1 205 rfl) rfl
theorem q342 : (Jvm.Cond.selects "AgainstFeather" ({ cls := "AgainstFeather", name := "judge", desc := "(I)I" } : Jvm.MethodName) ({ cls := "AgainstFeather", name := "judge", desc := "(I)I" } : Jvm.MethodName)) ∈ lw_all := lw_g (lw_at lw_m1 206 rfl) rfl
theorem q343 : (Jvm.Cond.code ({ cls := "AgainstFeather", name := "judge", desc := "(I)I" } : Jvm.MethodName) prog_1_method_11_code (2 : Nat) (Option.some Jvm.ClassFile.FieldType.int)) ∈ lw_all := lw_g (lw_at lw_m1 207 rfl) rfl
theorem q345 : (Jvm.Cond.instanceMethod ({ cls := "AgainstFeather", name := "stick", desc := "(I)Z" } : Jvm.MethodName)) ∈ lw_all := lw_g (lw_at lw_m1 209 rfl) rfl
theorem q346 : (Jvm.Cond.selects "AgainstFeather" ({ cls := "AgainstFeather", name := "stick", desc := "(I)Z" } : Jvm.MethodName) ({ cls := "AgainstFeather", name := "stick", desc := "(I)Z" } : Jvm.MethodName)) ∈ lw_all := lw_g (lw_at lw_m1 210 rfl) rfl
theorem q347 : (Jvm.Cond.code ({ cls := "AgainstFeather", name := "stick", desc := "(I)Z" } : Jvm.MethodName) prog_1_method_12_code (2 : Nat) (Option.some Jvm.ClassFile.FieldType.boolean)) ∈ lw_all := lw_g (lw_at lw_m1 211 rfl) rfl
theorem q349 : (Jvm.Cond.instanceMethod ({ cls := "AgainstFeather", name := "bond", desc := "(III)Z" } : Jvm.MethodName)) ∈ lw_all := lw_g (lw_at lw_m1 213 rfl) rfl
theorem q350 : (Jvm.Cond.selects "AgainstFeather" ({ cls := "AgainstFeather", name := "bond", desc := "(III)Z" } : Jvm.MethodName) ({ cls := "AgainstFeather", name := "bond", desc := "(III)Z" } : Jvm.MethodName)) ∈ lw_all := lw_g (lw_at lw_m1 214 rfl) rfl
theorem q351 : (Jvm.Cond.code ({ cls := "AgainstFeather", name := "bond", desc := "(III)Z" } : Jvm.MethodName) prog_1_method_13_code (4 : Nat) (Option.some Jvm.ClassFile.FieldType.boolean)) ∈ lw_all := lw_g (lw_at lw_m1 215 rfl) rfl
theorem q353 : (Jvm.Cond.instanceMethod ({ cls := "AgainstFeather", name := "feed", desc := "(IIIII)I" } : Jvm.MethodName)) ∈ lw_all := lw_g (lw_at lw_m1 217 rfl) rfl
theorem q354 : (Jvm.Cond.selects "AgainstFeather" ({ cls := "AgainstFeather", name := "feed", desc := "(IIIII)I" } : Jvm.MethodName) ({ cls := "AgainstFeather", name := "feed", desc := "(IIIII)I" } : Jvm.MethodName)) ∈ lw_all := lw_g (lw_at lw_m1 218 rfl) rfl
theorem q355 : (Jvm.Cond.code ({ cls := "AgainstFeather", name := "feed", desc := "(IIIII)I" } : Jvm.MethodName) prog_1_method_15_code (6 : Nat) (Option.some Jvm.ClassFile.FieldType.int)) ∈ lw_all := lw_g (lw_at lw_m1 219 rfl) rfl
theorem q356 : (Jvm.Cond.methodLink "AgainstFeather" (111 : Nat) ({ cls := "AgainstFeather", name := "put", desc := "(I)V" } : Jvm.MethodName)) ∈ lw_all := lw_g (lw_at lw_m1 220 rfl) rfl
theorem q357 : (Jvm.Cond.privateMethod ({ cls := "AgainstFeather", name := "put", desc := "(I)V" } : Jvm.MethodName)) ∈ lw_tbl := lw_at lw_m1 221 rfl
theorem q358 : (Jvm.Cond.instanceMethod ({ cls := "AgainstFeather", name := "put", desc := "(I)V" } : Jvm.MethodName)) ∈ lw_all := lw_g (lw_at lw_m1 222 rfl) rfl
theorem q359 : (Jvm.Cond.code ({ cls := "AgainstFeather", name := "put", desc := "(I)V" } : Jvm.MethodName) prog_1_method_14_code (3 : Nat) (Option.none : Option Jvm.ClassFile.FieldType)) ∈ lw_all := lw_g (lw_at lw_m1 223 rfl) rfl
theorem q361 : (Jvm.Cond.instanceMethod ({ cls := "AgainstFeather", name := "end", desc := "(I)I" } : Jvm.MethodName)) ∈ lw_all := lw_g (lw_at lw_m1 225 rfl) rfl
theorem q362 : (Jvm.Cond.selects "AgainstFeather" ({ cls := "AgainstFeather", name := "end", desc := "(I)I" } : Jvm.MethodName) ({ cls := "AgainstFeather", name := "end", desc := "(I)I" } : Jvm.MethodName)) ∈ lw_all := lw_g (lw_at lw_m1 226 rfl) rfl
theorem q363 : (Jvm.Cond.code ({ cls := "AgainstFeather", name := "end", desc := "(I)I" } : Jvm.MethodName) prog_1_method_16_code (2 : Nat) (Option.some Jvm.ClassFile.FieldType.int)) ∈ lw_all := lw_g (lw_at lw_m1 227 rfl) rfl
theorem q365 : (Jvm.Cond.instanceMethod ({ cls := "AgainstFeather", name := "text", desc := "()I" } : Jvm.MethodName)) ∈ lw_all := lw_g (lw_at lw_m1 229 rfl) rfl
theorem q366 : (Jvm.Cond.selects "AgainstFeather" ({ cls := "AgainstFeather", name := "text", desc := "()I" } : Jvm.MethodName) ({ cls := "AgainstFeather", name := "text", desc := "()I" } : Jvm.MethodName)) ∈ lw_all := lw_g (lw_at lw_m1 230 rfl) rfl
theorem q367 : (Jvm.Cond.codeWith ({ cls := "AgainstFeather", name := "text", desc := "()I" } : Jvm.MethodName) prog_1_method_17_code (5 : Nat) (Option.some Jvm.ClassFile.FieldType.int) [((30 : Nat), (62 : Nat), (70 : Nat), (128 : Nat)), ((30 : Nat), (62 : Nat), (96 : Nat), (0 : Nat)), ((70 : Nat), (89 : Nat), (96 : Nat), (0 : Nat)), ((96 : Nat), (98 : Nat), (96 : Nat), (0 : Nat))]) ∈ lw_all := lw_g (lw_at lw_m1 231 rfl) rfl
theorem q368 : (Jvm.Cond.classLink "AgainstFeather" (128 : Nat) "AgainstFeather$Wrong") ∈ lw_all := lw_g (lw_at lw_m1 232 rfl) rfl
theorem q369 : (Jvm.Cond.classLink "AgainstFeather" (119 : Nat) "AgainstFeather$Tokens") ∈ lw_all := lw_g (lw_at lw_m1 233 rfl) rfl
theorem q371 : (Jvm.Cond.methodLink "AgainstFeather" (121 : Nat) ({ cls := "AgainstFeather$Tokens", name := "<init>", desc := "([BI)V" } : Jvm.MethodName)) ∈ lw_all := lw_g (lw_at lw_m1 235 rfl) rfl
theorem q400 : (Jvm.Cond.methodLink "AgainstFeather" (124 : Nat) ({ cls := "AgainstFeather$Tokens", name := "read", desc := "()LAgainstFeather$Text;" } : Jvm.MethodName)) ∈ lw_all := lw_g (lw_at lw_m2 24 rfl) rfl
theorem q440 : (Jvm.Cond.fieldLinkNest "AgainstFeather" (141 : Nat) "AgainstFeather$Text" "law" "[LAgainstFeather$Sum;" "AgainstFeather") ∈ lw_tbl := lw_at lw_m2 64 rfl
theorem q444 : (Jvm.Cond.fieldLinkNest "AgainstFeather" (287 : Nat) "AgainstFeather$Text" "doings" "Ljava/util/ArrayList;" "AgainstFeather") ∈ lw_tbl := lw_at lw_m2 68 rfl
theorem q570 : (Jvm.Cond.fieldLinkNest "AgainstFeather" (130 : Nat) "AgainstFeather$Wrong" "fault" "I" "AgainstFeather") ∈ lw_tbl := lw_at lw_m2 194 rfl
theorem q572 : (Jvm.Cond.fieldLinkNest "AgainstFeather" (131 : Nat) "AgainstFeather$Wrong" "place" "I" "AgainstFeather") ∈ lw_tbl := lw_at lw_m2 196 rfl
theorem q738 : (Jvm.Cond.selects "AgainstFeather" ({ cls := "java/lang/Object", name := "getClass", desc := "()Ljava/lang/Class;" } : Jvm.MethodName) ({ cls := "java/lang/Object", name := "getClass", desc := "()Ljava/lang/Class;" } : Jvm.MethodName)) ∈ lw_all := lw_g (lw_at lw_m3 122 rfl) rfl
theorem q815 : (Jvm.Cond.instanceMethod ({ cls := "AgainstFeather", name := "fault", desc := "(I)I" } : Jvm.MethodName)) ∈ lw_all := lw_g (lw_at lw_m3 199 rfl) rfl
theorem q816 : (Jvm.Cond.selects "AgainstFeather" ({ cls := "AgainstFeather", name := "fault", desc := "(I)I" } : Jvm.MethodName) ({ cls := "AgainstFeather", name := "fault", desc := "(I)I" } : Jvm.MethodName)) ∈ lw_all := lw_g (lw_at lw_m3 200 rfl) rfl
theorem q817 : (Jvm.Cond.code ({ cls := "AgainstFeather", name := "fault", desc := "(I)I" } : Jvm.MethodName) prog_1_method_18_code (2 : Nat) (Option.some Jvm.ClassFile.FieldType.int)) ∈ lw_all := lw_g (lw_at lw_m3 201 rfl) rfl
theorem q819 : (Jvm.Cond.instanceMethod ({ cls := "AgainstFeather", name := "by", desc := "(I)Z" } : Jvm.MethodName)) ∈ lw_all := lw_g (lw_at lw_m3 203 rfl) rfl
theorem q820 : (Jvm.Cond.selects "AgainstFeather" ({ cls := "AgainstFeather", name := "by", desc := "(I)Z" } : Jvm.MethodName) ({ cls := "AgainstFeather", name := "by", desc := "(I)Z" } : Jvm.MethodName)) ∈ lw_all := lw_g (lw_at lw_m3 204 rfl) rfl
theorem q821 : (Jvm.Cond.code ({ cls := "AgainstFeather", name := "by", desc := "(I)Z" } : Jvm.MethodName) prog_1_method_20_code (2 : Nat) (Option.some Jvm.ClassFile.FieldType.boolean)) ∈ lw_all := lw_g (lw_at lw_m3 205 rfl) rfl
theorem q822 : (Jvm.Cond.methodLink "AgainstFeather" (134 : Nat) ({ cls := "AgainstFeather", name := "isText", desc := "(I)Z" } : Jvm.MethodName)) ∈ lw_all := lw_g (lw_at lw_m3 206 rfl) rfl
theorem q823 : (Jvm.Cond.privateMethod ({ cls := "AgainstFeather", name := "isText", desc := "(I)Z" } : Jvm.MethodName)) ∈ lw_tbl := lw_at lw_m3 207 rfl
theorem q824 : (Jvm.Cond.instanceMethod ({ cls := "AgainstFeather", name := "isText", desc := "(I)Z" } : Jvm.MethodName)) ∈ lw_all := lw_g (lw_at lw_m3 208 rfl) rfl
theorem q825 : (Jvm.Cond.code ({ cls := "AgainstFeather", name := "isText", desc := "(I)Z" } : Jvm.MethodName) prog_1_method_19_code (2 : Nat) (Option.some Jvm.ClassFile.FieldType.boolean)) ∈ lw_all := lw_g (lw_at lw_m3 209 rfl) rfl
theorem q827 : (Jvm.Cond.instanceMethod ({ cls := "AgainstFeather", name := "lend", desc := "(III)Z" } : Jvm.MethodName)) ∈ lw_all := lw_g (lw_at lw_m3 211 rfl) rfl
theorem q828 : (Jvm.Cond.selects "AgainstFeather" ({ cls := "AgainstFeather", name := "lend", desc := "(III)Z" } : Jvm.MethodName) ({ cls := "AgainstFeather", name := "lend", desc := "(III)Z" } : Jvm.MethodName)) ∈ lw_all := lw_g (lw_at lw_m3 212 rfl) rfl
theorem q829 : (Jvm.Cond.code ({ cls := "AgainstFeather", name := "lend", desc := "(III)Z" } : Jvm.MethodName) prog_1_method_32_code (4 : Nat) (Option.some Jvm.ClassFile.FieldType.boolean)) ∈ lw_all := lw_g (lw_at lw_m3 213 rfl) rfl
theorem q830 : (Jvm.Cond.methodLink "AgainstFeather" (196 : Nat) ({ cls := "AgainstFeather$State", name := "owes", desc := "(II)I" } : Jvm.MethodName)) ∈ lw_all := lw_g (lw_at lw_m3 214 rfl) rfl
theorem q834 : (Jvm.Cond.methodLink "AgainstFeather" (200 : Nat) ({ cls := "AgainstFeather$State", name := "keeps", desc := "()V" } : Jvm.MethodName)) ∈ lw_all := lw_g (lw_at lw_m3 218 rfl) rfl
theorem q839 : (Jvm.Cond.instanceMethod ({ cls := "AgainstFeather", name := "weigh", desc := "(I)I" } : Jvm.MethodName)) ∈ lw_all := lw_g (lw_at lw_m3 223 rfl) rfl
theorem q840 : (Jvm.Cond.selects "AgainstFeather" ({ cls := "AgainstFeather", name := "weigh", desc := "(I)I" } : Jvm.MethodName) ({ cls := "AgainstFeather", name := "weigh", desc := "(I)I" } : Jvm.MethodName)) ∈ lw_all := lw_g (lw_at lw_m3 224 rfl) rfl
theorem q841 : (Jvm.Cond.code ({ cls := "AgainstFeather", name := "weigh", desc := "(I)I" } : Jvm.MethodName) prog_1_method_34_code (2 : Nat) (Option.some Jvm.ClassFile.FieldType.int)) ∈ lw_all := lw_g (lw_at lw_m3 225 rfl) rfl
theorem q842 : (Jvm.Cond.constant "AgainstFeather" (212 : Nat) (-100000 : Int32)) ∈ lw_all := lw_g (lw_at lw_m3 226 rfl) rfl
theorem q843 : (Jvm.Cond.methodLink "AgainstFeather" (213 : Nat) ({ cls := "AgainstFeather", name := "weighs", desc := "(I)V" } : Jvm.MethodName)) ∈ lw_all := lw_g (lw_at lw_m3 227 rfl) rfl
theorem q844 : (Jvm.Cond.privateMethod ({ cls := "AgainstFeather", name := "weighs", desc := "(I)V" } : Jvm.MethodName)) ∈ lw_tbl := lw_at lw_m3 228 rfl
theorem q845 : (Jvm.Cond.instanceMethod ({ cls := "AgainstFeather", name := "weighs", desc := "(I)V" } : Jvm.MethodName)) ∈ lw_all := lw_g (lw_at lw_m3 229 rfl) rfl
theorem q846 : (Jvm.Cond.code ({ cls := "AgainstFeather", name := "weighs", desc := "(I)V" } : Jvm.MethodName) prog_1_method_33_code (2 : Nat) (Option.none : Option Jvm.ClassFile.FieldType)) ∈ lw_all := lw_g (lw_at lw_m3 230 rfl) rfl
theorem q847 : (Jvm.Cond.classLink "AgainstFeather" (206 : Nat) "AgainstFeather$Pan") ∈ lw_all := lw_g (lw_at lw_m3 231 rfl) rfl
theorem q849 : (Jvm.Cond.methodLink "AgainstFeather" (208 : Nat) ({ cls := "AgainstFeather$Pan", name := "<init>", desc := "(LAgainstFeather;I)V" } : Jvm.MethodName)) ∈ lw_all := lw_g (lw_at lw_m3 233 rfl) rfl
theorem q872 : (Jvm.Cond.privateMethod ({ cls := "AgainstFeather", name := "sticksOf", desc := "(III)I" } : Jvm.MethodName)) ∈ lw_tbl := lw_at lw_m4 16 rfl
theorem q873 : (Jvm.Cond.instanceMethod ({ cls := "AgainstFeather", name := "sticksOf", desc := "(III)I" } : Jvm.MethodName)) ∈ lw_all := lw_g (lw_at lw_m4 17 rfl) rfl
theorem q874 : (Jvm.Cond.code ({ cls := "AgainstFeather", name := "sticksOf", desc := "(III)I" } : Jvm.MethodName) prog_1_method_26_code (4 : Nat) (Option.some Jvm.ClassFile.FieldType.int)) ∈ lw_all := lw_g (lw_at lw_m4 18 rfl) rfl
theorem q875 : (Jvm.Cond.methodLink "AgainstFeather" (162 : Nat) ({ cls := "AgainstFeather", name := "names", desc := "(I)V" } : Jvm.MethodName)) ∈ lw_all := lw_g (lw_at lw_m4 19 rfl) rfl
theorem q876 : (Jvm.Cond.privateMethod ({ cls := "AgainstFeather", name := "names", desc := "(I)V" } : Jvm.MethodName)) ∈ lw_tbl := lw_at lw_m4 20 rfl
theorem q877 : (Jvm.Cond.instanceMethod ({ cls := "AgainstFeather", name := "names", desc := "(I)V" } : Jvm.MethodName)) ∈ lw_all := lw_g (lw_at lw_m4 21 rfl) rfl
theorem q878 : (Jvm.Cond.code ({ cls := "AgainstFeather", name := "names", desc := "(I)V" } : Jvm.MethodName) prog_1_method_22_code (2 : Nat) (Option.none : Option Jvm.ClassFile.FieldType)) ∈ lw_all := lw_g (lw_at lw_m4 22 rfl) rfl
theorem q879 : (Jvm.Cond.methodLink "AgainstFeather" (167 : Nat) ({ cls := "AgainstFeather", name := "rules", desc := "()LAgainstFeather$Text;" } : Jvm.MethodName)) ∈ lw_all := lw_g (lw_at lw_m4 23 rfl) rfl
theorem q880 : (Jvm.Cond.privateMethod ({ cls := "AgainstFeather", name := "rules", desc := "()LAgainstFeather$Text;" } : Jvm.MethodName)) ∈ lw_tbl := lw_at lw_m4 24 rfl
theorem q881 : (Jvm.Cond.instanceMethod ({ cls := "AgainstFeather", name := "rules", desc := "()LAgainstFeather$Text;" } : Jvm.MethodName)) ∈ lw_all := lw_g (lw_at lw_m4 25 rfl) rfl
theorem q882 : (Jvm.Cond.code ({ cls := "AgainstFeather", name := "rules", desc := "()LAgainstFeather$Text;" } : Jvm.MethodName) prog_1_method_21_code (1 : Nat) (Option.some (Jvm.ClassFile.FieldType.object "AgainstFeather$Text"))) ∈ lw_all := lw_g (lw_at lw_m4 26 rfl) rfl
theorem q883 : (Jvm.Cond.fieldLink "AgainstFeather" (137 : Nat) "AgainstFeather" "NOTHING" "LAgainstFeather$Text;") ∈ lw_all := lw_g (lw_at lw_m4 27 rfl) rfl
theorem q884 : (Jvm.Cond.laysStatic "AgainstFeather" "NOTHING" "LAgainstFeather$Text;") ∈ lw_tbl := lw_at lw_m4 28 rfl
theorem q885 : (Jvm.Cond.methodLink "AgainstFeather" (164 : Nat) ({ cls := "AgainstFeather", name := "law", desc := "(LAgainstFeather$Text;IIII)I" } : Jvm.MethodName)) ∈ lw_all := lw_g (lw_at lw_m4 29 rfl) rfl
theorem q886 : (Jvm.Cond.privateMethod ({ cls := "AgainstFeather", name := "law", desc := "(LAgainstFeather$Text;IIII)I" } : Jvm.MethodName)) ∈ lw_tbl := lw_at lw_m4 30 rfl
theorem q887 : (Jvm.Cond.instanceMethod ({ cls := "AgainstFeather", name := "law", desc := "(LAgainstFeather$Text;IIII)I" } : Jvm.MethodName)) ∈ lw_all := lw_g (lw_at lw_m4 31 rfl) rfl
theorem q888 : (Jvm.Cond.code ({ cls := "AgainstFeather", name := "law", desc := "(LAgainstFeather$Text;IIII)I" } : Jvm.MethodName) prog_1_method_23_code (6 : Nat) (Option.some Jvm.ClassFile.FieldType.int)) ∈ lw_all := lw_g (lw_at lw_m4 32 rfl) rfl
theorem q889 : (Jvm.Cond.interfaceEntry "AgainstFeather" (147 : Nat)) ∈ lw_tbl := lw_at lw_m4 33 rfl
theorem q890 : (Jvm.Cond.methodLink "AgainstFeather" (147 : Nat) ({ cls := "AgainstFeather$Sum", name := "of", desc := "([I)J" } : Jvm.MethodName)) ∈ lw_all := lw_g (lw_at lw_m4 34 rfl) rfl
theorem q962 : (Jvm.Cond.methodLink "AgainstFeather" (153 : Nat) ({ cls := "java/lang/Math", name := "min", desc := "(JJ)J" } : Jvm.MethodName)) ∈ lw_all := lw_g (lw_at lw_m4 106 rfl) rfl
theorem q963 : (Jvm.Cond.methodLink "AgainstFeather" (159 : Nat) ({ cls := "java/lang/Math", name := "max", desc := "(JJ)J" } : Jvm.MethodName)) ∈ lw_all := lw_g (lw_at lw_m4 107 rfl) rfl
theorem q967 : (Jvm.Cond.fieldLinkNest "AgainstFeather" (375 : Nat) "AgainstFeather$Pan" "shown" "I" "AgainstFeather") ∈ lw_tbl := lw_at lw_m4 111 rfl
theorem q984 : (Jvm.Cond.methodLink "AgainstFeather" (211 : Nat) ({ cls := "AgainstFeather$Pan", name := "keeps", desc := "()V" } : Jvm.MethodName)) ∈ lw_all := lw_g (lw_at lw_m4 128 rfl) rfl
theorem q989 : (Jvm.Cond.instanceMethod ({ cls := "AgainstFeather", name := "lay", desc := "(I)I" } : Jvm.MethodName)) ∈ lw_all := lw_g (lw_at lw_m4 133 rfl) rfl
theorem q990 : (Jvm.Cond.selects "AgainstFeather" ({ cls := "AgainstFeather", name := "lay", desc := "(I)I" } : Jvm.MethodName) ({ cls := "AgainstFeather", name := "lay", desc := "(I)I" } : Jvm.MethodName)) ∈ lw_all := lw_g (lw_at lw_m4 134 rfl) rfl
theorem q991 : (Jvm.Cond.code ({ cls := "AgainstFeather", name := "lay", desc := "(I)I" } : Jvm.MethodName) prog_1_method_37_code (2 : Nat) (Option.some Jvm.ClassFile.FieldType.int)) ∈ lw_all := lw_g (lw_at lw_m4 135 rfl) rfl
theorem q992 : (Jvm.Cond.methodLink "AgainstFeather" (222 : Nat) ({ cls := "AgainstFeather", name := "isWeighing", desc := "()Z" } : Jvm.MethodName)) ∈ lw_all := lw_g (lw_at lw_m4 136 rfl) rfl
theorem q993 : (Jvm.Cond.privateMethod ({ cls := "AgainstFeather", name := "isWeighing", desc := "()Z" } : Jvm.MethodName)) ∈ lw_tbl := lw_at lw_m4 137 rfl
theorem q994 : (Jvm.Cond.instanceMethod ({ cls := "AgainstFeather", name := "isWeighing", desc := "()Z" } : Jvm.MethodName)) ∈ lw_all := lw_g (lw_at lw_m4 138 rfl) rfl
theorem q995 : (Jvm.Cond.code ({ cls := "AgainstFeather", name := "isWeighing", desc := "()Z" } : Jvm.MethodName) prog_1_method_35_code (1 : Nat) (Option.some Jvm.ClassFile.FieldType.boolean)) ∈ lw_all := lw_g (lw_at lw_m4 139 rfl) rfl
theorem q996 : (Jvm.Cond.methodLink "AgainstFeather" (174 : Nat) ({ cls := "AgainstFeather", name := "has", desc := "(II)Z" } : Jvm.MethodName)) ∈ lw_all := lw_g (lw_at lw_m4 140 rfl) rfl
theorem q997 : (Jvm.Cond.static ({ cls := "AgainstFeather", name := "has", desc := "(II)Z" } : Jvm.MethodName)) ∈ lw_all := lw_g (lw_at lw_m4 141 rfl) rfl
theorem q998 : (Jvm.Cond.code ({ cls := "AgainstFeather", name := "has", desc := "(II)Z" } : Jvm.MethodName) prog_1_method_2_code (2 : Nat) (Option.some Jvm.ClassFile.FieldType.boolean)) ∈ lw_all := lw_g (lw_at lw_m4 142 rfl) rfl
theorem q999 : (Jvm.Cond.methodLink "AgainstFeather" (226 : Nat) ({ cls := "AgainstFeather", name := "lays", desc := "(I)V" } : Jvm.MethodName)) ∈ lw_all := lw_g (lw_at lw_m4 143 rfl) rfl
theorem q1000 : (Jvm.Cond.privateMethod ({ cls := "AgainstFeather", name := "lays", desc := "(I)V" } : Jvm.MethodName)) ∈ lw_tbl := lw_at lw_m4 144 rfl
theorem q1001 : (Jvm.Cond.instanceMethod ({ cls := "AgainstFeather", name := "lays", desc := "(I)V" } : Jvm.MethodName)) ∈ lw_all := lw_g (lw_at lw_m4 145 rfl) rfl
theorem q1002 : (Jvm.Cond.code ({ cls := "AgainstFeather", name := "lays", desc := "(I)V" } : Jvm.MethodName) prog_1_method_36_code (3 : Nat) (Option.none : Option Jvm.ClassFile.FieldType)) ∈ lw_all := lw_g (lw_at lw_m4 146 rfl) rfl
theorem q1003 : (Jvm.Cond.methodLink "AgainstFeather" (216 : Nat) ({ cls := "AgainstFeather$Pan", name := "<init>", desc := "(LAgainstFeather;)V" } : Jvm.MethodName)) ∈ lw_all := lw_g (lw_at lw_m4 147 rfl) rfl
theorem q1006 : (Jvm.Cond.methodLink "AgainstFeather" (219 : Nat) ({ cls := "AgainstFeather$Pan", name := "lays", desc := "(I)V" } : Jvm.MethodName)) ∈ lw_all := lw_g (lw_at lw_m4 150 rfl) rfl
theorem q1011 : (Jvm.Cond.privateMethod ({ cls := "AgainstFeather", name := "weightOf", desc := "(I)I" } : Jvm.MethodName)) ∈ lw_tbl := lw_at lw_m4 155 rfl
theorem q1012 : (Jvm.Cond.instanceMethod ({ cls := "AgainstFeather", name := "weightOf", desc := "(I)I" } : Jvm.MethodName)) ∈ lw_all := lw_g (lw_at lw_m4 156 rfl) rfl
theorem q1013 : (Jvm.Cond.code ({ cls := "AgainstFeather", name := "weightOf", desc := "(I)I" } : Jvm.MethodName) prog_1_method_25_code (2 : Nat) (Option.some Jvm.ClassFile.FieldType.int)) ∈ lw_all := lw_g (lw_at lw_m4 157 rfl) rfl
theorem q1014 : (Jvm.Cond.methodLink "AgainstFeather" (170 : Nat) ({ cls := "AgainstFeather", name := "weightBy", desc := "(LAgainstFeather$Text;I)I" } : Jvm.MethodName)) ∈ lw_all := lw_g (lw_at lw_m4 158 rfl) rfl
theorem q1015 : (Jvm.Cond.privateMethod ({ cls := "AgainstFeather", name := "weightBy", desc := "(LAgainstFeather$Text;I)I" } : Jvm.MethodName)) ∈ lw_tbl := lw_at lw_m4 159 rfl
theorem q1016 : (Jvm.Cond.instanceMethod ({ cls := "AgainstFeather", name := "weightBy", desc := "(LAgainstFeather$Text;I)I" } : Jvm.MethodName)) ∈ lw_all := lw_g (lw_at lw_m4 160 rfl) rfl
theorem q1017 : (Jvm.Cond.code ({ cls := "AgainstFeather", name := "weightBy", desc := "(LAgainstFeather$Text;I)I" } : Jvm.MethodName) prog_1_method_24_code (4 : Nat) (Option.some Jvm.ClassFile.FieldType.int)) ∈ lw_all := lw_g (lw_at lw_m4 161 rfl) rfl
theorem q1019 : (Jvm.Cond.instanceMethod ({ cls := "AgainstFeather", name := "answer", desc := "(IZ)I" } : Jvm.MethodName)) ∈ lw_all := lw_g (lw_at lw_m4 163 rfl) rfl
theorem q1020 : (Jvm.Cond.selects "AgainstFeather" ({ cls := "AgainstFeather", name := "answer", desc := "(IZ)I" } : Jvm.MethodName) ({ cls := "AgainstFeather", name := "answer", desc := "(IZ)I" } : Jvm.MethodName)) ∈ lw_all := lw_g (lw_at lw_m4 164 rfl) rfl
theorem q1021 : (Jvm.Cond.code ({ cls := "AgainstFeather", name := "answer", desc := "(IZ)I" } : Jvm.MethodName) prog_1_method_39_code (3 : Nat) (Option.some Jvm.ClassFile.FieldType.int)) ∈ lw_all := lw_g (lw_at lw_m4 165 rfl) rfl
theorem q1022 : (Jvm.Cond.methodLink "AgainstFeather" (231 : Nat) ({ cls := "AgainstFeather", name := "isJudge", desc := "(I)Z" } : Jvm.MethodName)) ∈ lw_all := lw_g (lw_at lw_m4 166 rfl) rfl
theorem q1023 : (Jvm.Cond.privateMethod ({ cls := "AgainstFeather", name := "isJudge", desc := "(I)Z" } : Jvm.MethodName)) ∈ lw_tbl := lw_at lw_m4 167 rfl
theorem q1024 : (Jvm.Cond.instanceMethod ({ cls := "AgainstFeather", name := "isJudge", desc := "(I)Z" } : Jvm.MethodName)) ∈ lw_all := lw_g (lw_at lw_m4 168 rfl) rfl
theorem q1025 : (Jvm.Cond.code ({ cls := "AgainstFeather", name := "isJudge", desc := "(I)Z" } : Jvm.MethodName) prog_1_method_6_code (2 : Nat) (Option.some Jvm.ClassFile.FieldType.boolean)) ∈ lw_all := lw_g (lw_at lw_m4 169 rfl) rfl
theorem q1026 : (Jvm.Cond.methodLink "AgainstFeather" (234 : Nat) ({ cls := "AgainstFeather", name := "hears", desc := "(IZ)Z" } : Jvm.MethodName)) ∈ lw_all := lw_g (lw_at lw_m4 170 rfl) rfl
theorem q1027 : (Jvm.Cond.privateMethod ({ cls := "AgainstFeather", name := "hears", desc := "(IZ)Z" } : Jvm.MethodName)) ∈ lw_tbl := lw_at lw_m4 171 rfl
theorem q1028 : (Jvm.Cond.instanceMethod ({ cls := "AgainstFeather", name := "hears", desc := "(IZ)Z" } : Jvm.MethodName)) ∈ lw_all := lw_g (lw_at lw_m4 172 rfl) rfl
theorem q1029 : (Jvm.Cond.code ({ cls := "AgainstFeather", name := "hears", desc := "(IZ)Z" } : Jvm.MethodName) prog_1_method_38_code (5 : Nat) (Option.some Jvm.ClassFile.FieldType.boolean)) ∈ lw_all := lw_g (lw_at lw_m4 173 rfl) rfl
theorem q1030 : (Jvm.Cond.methodLink "AgainstFeather" (227 : Nat) ({ cls := "AgainstFeather$Pan", name := "hears", desc := "(IZ)Z" } : Jvm.MethodName)) ∈ lw_all := lw_g (lw_at lw_m4 174 rfl) rfl
theorem q1035 : (Jvm.Cond.privateMethod ({ cls := "AgainstFeather", name := "isSoOf", desc := "(II)Z" } : Jvm.MethodName)) ∈ lw_tbl := lw_at lw_m4 179 rfl
theorem q1036 : (Jvm.Cond.instanceMethod ({ cls := "AgainstFeather", name := "isSoOf", desc := "(II)Z" } : Jvm.MethodName)) ∈ lw_all := lw_g (lw_at lw_m4 180 rfl) rfl
theorem q1037 : (Jvm.Cond.code ({ cls := "AgainstFeather", name := "isSoOf", desc := "(II)Z" } : Jvm.MethodName) prog_1_method_28_code (4 : Nat) (Option.some Jvm.ClassFile.FieldType.boolean)) ∈ lw_all := lw_g (lw_at lw_m4 181 rfl) rfl
theorem q1038 : (Jvm.Cond.methodLink "AgainstFeather" (178 : Nat) ({ cls := "AgainstFeather", name := "isAskedOf", desc := "(II)Z" } : Jvm.MethodName)) ∈ lw_all := lw_g (lw_at lw_m4 182 rfl) rfl
theorem q1039 : (Jvm.Cond.privateMethod ({ cls := "AgainstFeather", name := "isAskedOf", desc := "(II)Z" } : Jvm.MethodName)) ∈ lw_tbl := lw_at lw_m4 183 rfl
theorem q1040 : (Jvm.Cond.instanceMethod ({ cls := "AgainstFeather", name := "isAskedOf", desc := "(II)Z" } : Jvm.MethodName)) ∈ lw_all := lw_g (lw_at lw_m4 184 rfl) rfl
theorem q1041 : (Jvm.Cond.code ({ cls := "AgainstFeather", name := "isAskedOf", desc := "(II)Z" } : Jvm.MethodName) prog_1_method_27_code (3 : Nat) (Option.some Jvm.ClassFile.FieldType.boolean)) ∈ lw_all := lw_g (lw_at lw_m4 185 rfl) rfl
theorem q1042 : (Jvm.Cond.methodLink "AgainstFeather" (181 : Nat) ({ cls := "AgainstFeather", name := "weightOf", desc := "(I)I" } : Jvm.MethodName)) ∈ lw_all := lw_g (lw_at lw_m4 186 rfl) rfl
theorem q1044 : (Jvm.Cond.privateMethod ({ cls := "AgainstFeather", name := "lieOf", desc := "(III)I" } : Jvm.MethodName)) ∈ lw_tbl := lw_at lw_m4 188 rfl
theorem q1045 : (Jvm.Cond.instanceMethod ({ cls := "AgainstFeather", name := "lieOf", desc := "(III)I" } : Jvm.MethodName)) ∈ lw_all := lw_g (lw_at lw_m4 189 rfl) rfl
theorem q1046 : (Jvm.Cond.code ({ cls := "AgainstFeather", name := "lieOf", desc := "(III)I" } : Jvm.MethodName) prog_1_method_29_code (6 : Nat) (Option.some Jvm.ClassFile.FieldType.int)) ∈ lw_all := lw_g (lw_at lw_m4 190 rfl) rfl
theorem q1047 : (Jvm.Cond.methodLink "AgainstFeather" (185 : Nat) ({ cls := "java/lang/Integer", name := "bitCount", desc := "(I)I" } : Jvm.MethodName)) ∈ lw_all := lw_g (lw_at lw_m4 191 rfl) rfl
theorem q1049 : (Jvm.Cond.instanceMethod ({ cls := "AgainstFeather", name := "judged", desc := "()I" } : Jvm.MethodName)) ∈ lw_all := lw_g (lw_at lw_m4 193 rfl) rfl
theorem q1050 : (Jvm.Cond.selects "AgainstFeather" ({ cls := "AgainstFeather", name := "judged", desc := "()I" } : Jvm.MethodName) ({ cls := "AgainstFeather", name := "judged", desc := "()I" } : Jvm.MethodName)) ∈ lw_all := lw_g (lw_at lw_m4 194 rfl) rfl
theorem q1051 : (Jvm.Cond.code ({ cls := "AgainstFeather", name := "judged", desc := "()I" } : Jvm.MethodName) prog_1_method_41_code (1 : Nat) (Option.some Jvm.ClassFile.FieldType.int)) ∈ lw_all := lw_g (lw_at lw_m4 195 rfl) rfl
theorem q1052 : (Jvm.Cond.methodLink "AgainstFeather" (243 : Nat) ({ cls := "AgainstFeather", name := "judges", desc := "()I" } : Jvm.MethodName)) ∈ lw_all := lw_g (lw_at lw_m4 196 rfl) rfl
theorem q1053 : (Jvm.Cond.privateMethod ({ cls := "AgainstFeather", name := "judges", desc := "()I" } : Jvm.MethodName)) ∈ lw_tbl := lw_at lw_m4 197 rfl
theorem q1054 : (Jvm.Cond.instanceMethod ({ cls := "AgainstFeather", name := "judges", desc := "()I" } : Jvm.MethodName)) ∈ lw_all := lw_g (lw_at lw_m4 198 rfl) rfl
theorem q1055 : (Jvm.Cond.code ({ cls := "AgainstFeather", name := "judges", desc := "()I" } : Jvm.MethodName) prog_1_method_40_code (3 : Nat) (Option.some Jvm.ClassFile.FieldType.int)) ∈ lw_all := lw_g (lw_at lw_m4 199 rfl) rfl
theorem q1056 : (Jvm.Cond.methodLink "AgainstFeather" (235 : Nat) ({ cls := "AgainstFeather", name := "judgedAt", desc := "(II)I" } : Jvm.MethodName)) ∈ lw_all := lw_g (lw_at lw_m4 200 rfl) rfl
theorem q1057 : (Jvm.Cond.privateMethod ({ cls := "AgainstFeather", name := "judgedAt", desc := "(II)I" } : Jvm.MethodName)) ∈ lw_tbl := lw_at lw_m4 201 rfl
theorem q1058 : (Jvm.Cond.instanceMethod ({ cls := "AgainstFeather", name := "judgedAt", desc := "(II)I" } : Jvm.MethodName)) ∈ lw_all := lw_g (lw_at lw_m4 202 rfl) rfl
theorem q1059 : (Jvm.Cond.code ({ cls := "AgainstFeather", name := "judgedAt", desc := "(II)I" } : Jvm.MethodName) prog_1_method_31_code (3 : Nat) (Option.some Jvm.ClassFile.FieldType.int)) ∈ lw_all := lw_g (lw_at lw_m4 203 rfl) rfl
theorem q1060 : (Jvm.Cond.methodLink "AgainstFeather" (193 : Nat) ({ cls := "AgainstFeather", name := "upOf", desc := "(I)I" } : Jvm.MethodName)) ∈ lw_all := lw_g (lw_at lw_m4 204 rfl) rfl
theorem q1061 : (Jvm.Cond.privateMethod ({ cls := "AgainstFeather", name := "upOf", desc := "(I)I" } : Jvm.MethodName)) ∈ lw_tbl := lw_at lw_m4 205 rfl
theorem q1062 : (Jvm.Cond.instanceMethod ({ cls := "AgainstFeather", name := "upOf", desc := "(I)I" } : Jvm.MethodName)) ∈ lw_all := lw_g (lw_at lw_m4 206 rfl) rfl
theorem q1063 : (Jvm.Cond.code ({ cls := "AgainstFeather", name := "upOf", desc := "(I)I" } : Jvm.MethodName) prog_1_method_30_code (2 : Nat) (Option.some Jvm.ClassFile.FieldType.int)) ∈ lw_all := lw_g (lw_at lw_m4 207 rfl) rfl
theorem q1064 : (Jvm.Cond.methodLink "AgainstFeather" (190 : Nat) ({ cls := "AgainstFeather$State", name := "deedsOf", desc := "(I)I" } : Jvm.MethodName)) ∈ lw_all := lw_g (lw_at lw_m4 208 rfl) rfl
theorem q1068 : (Jvm.Cond.methodLink "AgainstFeather" (238 : Nat) ({ cls := "java/lang/Math", name := "min", desc := "(II)I" } : Jvm.MethodName)) ∈ lw_all := lw_g (lw_at lw_m4 212 rfl) rfl
theorem q1069 : (Jvm.Cond.methodLink "AgainstFeather" (240 : Nat) ({ cls := "AgainstFeather$State", name := "writes", desc := "(I)V" } : Jvm.MethodName)) ∈ lw_all := lw_g (lw_at lw_m4 213 rfl) rfl
theorem q1074 : (Jvm.Cond.instanceMethod ({ cls := "AgainstFeather", name := "played", desc := "(I)I" } : Jvm.MethodName)) ∈ lw_all := lw_g (lw_at lw_m4 218 rfl) rfl
theorem q1075 : (Jvm.Cond.selects "AgainstFeather" ({ cls := "AgainstFeather", name := "played", desc := "(I)I" } : Jvm.MethodName) ({ cls := "AgainstFeather", name := "played", desc := "(I)I" } : Jvm.MethodName)) ∈ lw_all := lw_g (lw_at lw_m4 219 rfl) rfl
theorem q1076 : (Jvm.Cond.code ({ cls := "AgainstFeather", name := "played", desc := "(I)I" } : Jvm.MethodName) prog_1_method_43_code (4 : Nat) (Option.some Jvm.ClassFile.FieldType.int)) ∈ lw_all := lw_g (lw_at lw_m4 220 rfl) rfl
theorem q1077 : (Jvm.Cond.methodLink "AgainstFeather" (291 : Nat) ({ cls := "java/util/ArrayList", name := "size", desc := "()I" } : Jvm.MethodName)) ∈ lw_all := lw_g (lw_at lw_m4 221 rfl) rfl
theorem q1078 : (Jvm.Cond.methodLink "AgainstFeather" (296 : Nat) ({ cls := "java/util/ArrayList", name := "get", desc := "(I)Ljava/lang/Object;" } : Jvm.MethodName)) ∈ lw_all := lw_g (lw_at lw_m4 222 rfl) rfl
theorem q1079 : (Jvm.Cond.classLink "AgainstFeather" (247 : Nat) "AgainstFeather$Doing") ∈ lw_all := lw_g (lw_at lw_m4 223 rfl) rfl
theorem q1080 : (Jvm.Cond.methodLink "AgainstFeather" (300 : Nat) ({ cls := "AgainstFeather", name := "does", desc := "(LAgainstFeather$Doing;)Z" } : Jvm.MethodName)) ∈ lw_all := lw_g (lw_at lw_m4 224 rfl) rfl
theorem q1081 : (Jvm.Cond.privateMethod ({ cls := "AgainstFeather", name := "does", desc := "(LAgainstFeather$Doing;)Z" } : Jvm.MethodName)) ∈ lw_tbl := lw_at lw_m4 225 rfl
theorem q1082 : (Jvm.Cond.instanceMethod ({ cls := "AgainstFeather", name := "does", desc := "(LAgainstFeather$Doing;)Z" } : Jvm.MethodName)) ∈ lw_all := lw_g (lw_at lw_m4 226 rfl) rfl
theorem q1083 : (Jvm.Cond.code ({ cls := "AgainstFeather", name := "does", desc := "(LAgainstFeather$Doing;)Z" } : Jvm.MethodName) prog_1_method_42_code (2 : Nat) (Option.some Jvm.ClassFile.FieldType.boolean)) ∈ lw_all := lw_g (lw_at lw_m4 227 rfl) rfl
theorem q1084 : (Jvm.Cond.methodLink "AgainstFeather" (246 : Nat) ({ cls := "AgainstFeather$Doing", name := "sort", desc := "()I" } : Jvm.MethodName)) ∈ lw_all := lw_g (lw_at lw_m4 228 rfl) rfl
theorem q1088 : (Jvm.Cond.methodLink "AgainstFeather" (251 : Nat) ({ cls := "AgainstFeather$Doing", name := "a", desc := "()I" } : Jvm.MethodName)) ∈ lw_all := lw_g (lw_at lw_m4 232 rfl) rfl
theorem q1092 : (Jvm.Cond.methodLink "AgainstFeather" (254 : Nat) ({ cls := "AgainstFeather", name := "heart", desc := "(I)I" } : Jvm.MethodName)) ∈ lw_all := lw_g (lw_at lw_m4 236 rfl) rfl
theorem q1093 : (Jvm.Cond.methodLink "AgainstFeather" (257 : Nat) ({ cls := "AgainstFeather$Doing", name := "b", desc := "()I" } : Jvm.MethodName)) ∈ lw_all := lw_g (lw_at lw_m4 237 rfl) rfl
theorem q1097 : (Jvm.Cond.methodLink "AgainstFeather" (260 : Nat) ({ cls := "AgainstFeather$Doing", name := "c", desc := "()I" } : Jvm.MethodName)) ∈ lw_all := lw_g (lw_at lw_m5 1 rfl) rfl
theorem q1101 : (Jvm.Cond.methodLink "AgainstFeather" (263 : Nat) ({ cls := "AgainstFeather$Doing", name := "marks", desc := "()I" } : Jvm.MethodName)) ∈ lw_all := lw_g (lw_at lw_m5 5 rfl) rfl
theorem q1105 : (Jvm.Cond.methodLink "AgainstFeather" (266 : Nat) ({ cls := "AgainstFeather", name := "deed", desc := "(IIIII)I" } : Jvm.MethodName)) ∈ lw_all := lw_g (lw_at lw_m5 9 rfl) rfl
theorem q1106 : (Jvm.Cond.methodLink "AgainstFeather" (269 : Nat) ({ cls := "AgainstFeather", name := "judge", desc := "(I)I" } : Jvm.MethodName)) ∈ lw_all := lw_g (lw_at lw_m5 10 rfl) rfl
theorem q1107 : (Jvm.Cond.methodLink "AgainstFeather" (271 : Nat) ({ cls := "AgainstFeather", name := "lend", desc := "(III)Z" } : Jvm.MethodName)) ∈ lw_all := lw_g (lw_at lw_m5 11 rfl) rfl
theorem q1108 : (Jvm.Cond.methodLink "AgainstFeather" (274 : Nat) ({ cls := "AgainstFeather", name := "weigh", desc := "(I)I" } : Jvm.MethodName)) ∈ lw_all := lw_g (lw_at lw_m5 12 rfl) rfl
theorem q1109 : (Jvm.Cond.methodLink "AgainstFeather" (277 : Nat) ({ cls := "AgainstFeather", name := "lay", desc := "(I)I" } : Jvm.MethodName)) ∈ lw_all := lw_g (lw_at lw_m5 13 rfl) rfl
theorem q1110 : (Jvm.Cond.methodLink "AgainstFeather" (280 : Nat) ({ cls := "AgainstFeather", name := "answer", desc := "(IZ)I" } : Jvm.MethodName)) ∈ lw_all := lw_g (lw_at lw_m5 14 rfl) rfl
theorem q1111 : (Jvm.Cond.methodLink "AgainstFeather" (284 : Nat) ({ cls := "AgainstFeather", name := "judged", desc := "()I" } : Jvm.MethodName)) ∈ lw_all := lw_g (lw_at lw_m5 15 rfl) rfl
theorem q1112 : (Jvm.Cond.methodLink "AgainstFeather" (304 : Nat) ({ cls := "AgainstFeather$Doing", name := "number", desc := "()I" } : Jvm.MethodName)) ∈ lw_all := lw_g (lw_at lw_m5 16 rfl) rfl
theorem q1117 : (Jvm.Cond.instanceMethod ({ cls := "AgainstFeather", name := "day", desc := "(II)I" } : Jvm.MethodName)) ∈ lw_all := lw_g (lw_at lw_m5 21 rfl) rfl
theorem q1118 : (Jvm.Cond.selects "AgainstFeather" ({ cls := "AgainstFeather", name := "day", desc := "(II)I" } : Jvm.MethodName) ({ cls := "AgainstFeather", name := "day", desc := "(II)I" } : Jvm.MethodName)) ∈ lw_all := lw_g (lw_at lw_m5 22 rfl) rfl
theorem q1119 : (Jvm.Cond.code ({ cls := "AgainstFeather", name := "day", desc := "(II)I" } : Jvm.MethodName) prog_1_method_46_code (10 : Nat) (Option.some Jvm.ClassFile.FieldType.int)) ∈ lw_all := lw_g (lw_at lw_m5 23 rfl) rfl
theorem q1120 : (Jvm.Cond.methodLink "AgainstFeather" (310 : Nat) ({ cls := "AgainstFeather", name := "drawn", desc := "()I" } : Jvm.MethodName)) ∈ lw_all := lw_g (lw_at lw_m5 24 rfl) rfl
theorem q1121 : (Jvm.Cond.privateMethod ({ cls := "AgainstFeather", name := "drawn", desc := "()I" } : Jvm.MethodName)) ∈ lw_tbl := lw_at lw_m5 25 rfl
theorem q1122 : (Jvm.Cond.instanceMethod ({ cls := "AgainstFeather", name := "drawn", desc := "()I" } : Jvm.MethodName)) ∈ lw_all := lw_g (lw_at lw_m5 26 rfl) rfl
theorem q1123 : (Jvm.Cond.code ({ cls := "AgainstFeather", name := "drawn", desc := "()I" } : Jvm.MethodName) prog_1_method_44_code (2 : Nat) (Option.some Jvm.ClassFile.FieldType.int)) ∈ lw_all := lw_g (lw_at lw_m5 27 rfl) rfl
theorem q1124 : (Jvm.Cond.methodLink "AgainstFeather" (313 : Nat) ({ cls := "AgainstFeather", name := "laysMine", desc := "(I)V" } : Jvm.MethodName)) ∈ lw_all := lw_g (lw_at lw_m5 28 rfl) rfl
theorem q1125 : (Jvm.Cond.privateMethod ({ cls := "AgainstFeather", name := "laysMine", desc := "(I)V" } : Jvm.MethodName)) ∈ lw_tbl := lw_at lw_m5 29 rfl
theorem q1126 : (Jvm.Cond.instanceMethod ({ cls := "AgainstFeather", name := "laysMine", desc := "(I)V" } : Jvm.MethodName)) ∈ lw_all := lw_g (lw_at lw_m5 30 rfl) rfl
theorem q1127 : (Jvm.Cond.code ({ cls := "AgainstFeather", name := "laysMine", desc := "(I)V" } : Jvm.MethodName) prog_1_method_45_code (3 : Nat) (Option.none : Option Jvm.ClassFile.FieldType)) ∈ lw_all := lw_g (lw_at lw_m5 31 rfl) rfl
theorem q1128 : (Jvm.Cond.methodLink "AgainstFeather" (316 : Nat) ({ cls := "AgainstFeather", name := "isSoOf", desc := "(II)Z" } : Jvm.MethodName)) ∈ lw_all := lw_g (lw_at lw_m5 32 rfl) rfl
theorem q1130 : (Jvm.Cond.instanceMethod ({ cls := "AgainstFeather", name := "undo", desc := "()I" } : Jvm.MethodName)) ∈ lw_all := lw_g (lw_at lw_m5 34 rfl) rfl
theorem q1131 : (Jvm.Cond.selects "AgainstFeather" ({ cls := "AgainstFeather", name := "undo", desc := "()I" } : Jvm.MethodName) ({ cls := "AgainstFeather", name := "undo", desc := "()I" } : Jvm.MethodName)) ∈ lw_all := lw_g (lw_at lw_m5 35 rfl) rfl
theorem q1132 : (Jvm.Cond.code ({ cls := "AgainstFeather", name := "undo", desc := "()I" } : Jvm.MethodName) prog_1_method_47_code (1 : Nat) (Option.some Jvm.ClassFile.FieldType.int)) ∈ lw_all := lw_g (lw_at lw_m5 36 rfl) rfl
theorem q1134 : (Jvm.Cond.instanceMethod ({ cls := "AgainstFeather", name := "scale", desc := "(I)I" } : Jvm.MethodName)) ∈ lw_all := lw_g (lw_at lw_m5 38 rfl) rfl
theorem q1135 : (Jvm.Cond.selects "AgainstFeather" ({ cls := "AgainstFeather", name := "scale", desc := "(I)I" } : Jvm.MethodName) ({ cls := "AgainstFeather", name := "scale", desc := "(I)I" } : Jvm.MethodName)) ∈ lw_all := lw_g (lw_at lw_m5 39 rfl) rfl
theorem q1136 : (Jvm.Cond.code ({ cls := "AgainstFeather", name := "scale", desc := "(I)I" } : Jvm.MethodName) prog_1_method_48_code (2 : Nat) (Option.some Jvm.ClassFile.FieldType.int)) ∈ lw_all := lw_g (lw_at lw_m5 40 rfl) rfl
theorem q1138 : (Jvm.Cond.instanceMethod ({ cls := "AgainstFeather", name := "ofHeart", desc := "(II)I" } : Jvm.MethodName)) ∈ lw_all := lw_g (lw_at lw_m5 42 rfl) rfl
theorem q1139 : (Jvm.Cond.selects "AgainstFeather" ({ cls := "AgainstFeather", name := "ofHeart", desc := "(II)I" } : Jvm.MethodName) ({ cls := "AgainstFeather", name := "ofHeart", desc := "(II)I" } : Jvm.MethodName)) ∈ lw_all := lw_g (lw_at lw_m5 43 rfl) rfl
theorem q1140 : (Jvm.Cond.code ({ cls := "AgainstFeather", name := "ofHeart", desc := "(II)I" } : Jvm.MethodName) prog_1_method_51_code (3 : Nat) (Option.some Jvm.ClassFile.FieldType.int)) ∈ lw_all := lw_g (lw_at lw_m5 44 rfl) rfl
theorem q1141 : (Jvm.Cond.methodLink "AgainstFeather" (322 : Nat) ({ cls := "AgainstFeather", name := "burdenOf", desc := "(I)I" } : Jvm.MethodName)) ∈ lw_all := lw_g (lw_at lw_m5 45 rfl) rfl
theorem q1142 : (Jvm.Cond.privateMethod ({ cls := "AgainstFeather", name := "burdenOf", desc := "(I)I" } : Jvm.MethodName)) ∈ lw_tbl := lw_at lw_m5 46 rfl
theorem q1143 : (Jvm.Cond.instanceMethod ({ cls := "AgainstFeather", name := "burdenOf", desc := "(I)I" } : Jvm.MethodName)) ∈ lw_all := lw_g (lw_at lw_m5 47 rfl) rfl
theorem q1144 : (Jvm.Cond.code ({ cls := "AgainstFeather", name := "burdenOf", desc := "(I)I" } : Jvm.MethodName) prog_1_method_49_code (4 : Nat) (Option.some Jvm.ClassFile.FieldType.int)) ∈ lw_all := lw_g (lw_at lw_m5 48 rfl) rfl
theorem q1145 : (Jvm.Cond.methodLink "AgainstFeather" (325 : Nat) ({ cls := "AgainstFeather", name := "balanceOf", desc := "(I)I" } : Jvm.MethodName)) ∈ lw_all := lw_g (lw_at lw_m5 49 rfl) rfl
theorem q1146 : (Jvm.Cond.privateMethod ({ cls := "AgainstFeather", name := "balanceOf", desc := "(I)I" } : Jvm.MethodName)) ∈ lw_tbl := lw_at lw_m5 50 rfl
theorem q1147 : (Jvm.Cond.instanceMethod ({ cls := "AgainstFeather", name := "balanceOf", desc := "(I)I" } : Jvm.MethodName)) ∈ lw_all := lw_g (lw_at lw_m5 51 rfl) rfl
theorem q1148 : (Jvm.Cond.code ({ cls := "AgainstFeather", name := "balanceOf", desc := "(I)I" } : Jvm.MethodName) prog_1_method_50_code (2 : Nat) (Option.some Jvm.ClassFile.FieldType.int)) ∈ lw_all := lw_g (lw_at lw_m5 52 rfl) rfl
theorem q1149 : (Jvm.Cond.methodLink "AgainstFeather" (328 : Nat) ({ cls := "AgainstFeather$State", name := "lentTo", desc := "(I)I" } : Jvm.MethodName)) ∈ lw_all := lw_g (lw_at lw_m5 53 rfl) rfl
theorem q1151 : (Jvm.Cond.instanceMethod ({ cls := "AgainstFeather", name := "ofDeed", desc := "(II)I" } : Jvm.MethodName)) ∈ lw_all := lw_g (lw_at lw_m5 55 rfl) rfl
theorem q1152 : (Jvm.Cond.selects "AgainstFeather" ({ cls := "AgainstFeather", name := "ofDeed", desc := "(II)I" } : Jvm.MethodName) ({ cls := "AgainstFeather", name := "ofDeed", desc := "(II)I" } : Jvm.MethodName)) ∈ lw_all := lw_g (lw_at lw_m5 56 rfl) rfl
theorem q1153 : (Jvm.Cond.code ({ cls := "AgainstFeather", name := "ofDeed", desc := "(II)I" } : Jvm.MethodName) prog_1_method_52_code (3 : Nat) (Option.some Jvm.ClassFile.FieldType.int)) ∈ lw_all := lw_g (lw_at lw_m5 57 rfl) rfl
theorem q1155 : (Jvm.Cond.instanceMethod ({ cls := "AgainstFeather", name := "isSo", desc := "(II)I" } : Jvm.MethodName)) ∈ lw_all := lw_g (lw_at lw_m5 59 rfl) rfl
theorem q1156 : (Jvm.Cond.selects "AgainstFeather" ({ cls := "AgainstFeather", name := "isSo", desc := "(II)I" } : Jvm.MethodName) ({ cls := "AgainstFeather", name := "isSo", desc := "(II)I" } : Jvm.MethodName)) ∈ lw_all := lw_g (lw_at lw_m5 60 rfl) rfl
theorem q1157 : (Jvm.Cond.code ({ cls := "AgainstFeather", name := "isSo", desc := "(II)I" } : Jvm.MethodName) prog_1_method_53_code (3 : Nat) (Option.some Jvm.ClassFile.FieldType.int)) ∈ lw_all := lw_g (lw_at lw_m5 61 rfl) rfl
theorem q1159 : (Jvm.Cond.instanceMethod ({ cls := "AgainstFeather", name := "book", desc := "(II)I" } : Jvm.MethodName)) ∈ lw_all := lw_g (lw_at lw_m5 63 rfl) rfl
theorem q1160 : (Jvm.Cond.selects "AgainstFeather" ({ cls := "AgainstFeather", name := "book", desc := "(II)I" } : Jvm.MethodName) ({ cls := "AgainstFeather", name := "book", desc := "(II)I" } : Jvm.MethodName)) ∈ lw_all := lw_g (lw_at lw_m5 64 rfl) rfl
theorem q1161 : (Jvm.Cond.code ({ cls := "AgainstFeather", name := "book", desc := "(II)I" } : Jvm.MethodName) prog_1_method_54_code (3 : Nat) (Option.some Jvm.ClassFile.FieldType.int)) ∈ lw_all := lw_g (lw_at lw_m5 65 rfl) rfl
theorem q1163 : (Jvm.Cond.instanceMethod ({ cls := "AgainstFeather", name := "lightest", desc := "(IZI)I" } : Jvm.MethodName)) ∈ lw_all := lw_g (lw_at lw_m5 67 rfl) rfl
theorem q1164 : (Jvm.Cond.selects "AgainstFeather" ({ cls := "AgainstFeather", name := "lightest", desc := "(IZI)I" } : Jvm.MethodName) ({ cls := "AgainstFeather", name := "lightest", desc := "(IZI)I" } : Jvm.MethodName)) ∈ lw_all := lw_g (lw_at lw_m5 68 rfl) rfl
theorem q1165 : (Jvm.Cond.code ({ cls := "AgainstFeather", name := "lightest", desc := "(IZI)I" } : Jvm.MethodName) prog_1_method_58_code (4 : Nat) (Option.some Jvm.ClassFile.FieldType.int)) ∈ lw_all := lw_g (lw_at lw_m5 69 rfl) rfl
theorem q1166 : (Jvm.Cond.methodLink "AgainstFeather" (365 : Nat) ({ cls := "AgainstFeather", name := "canOrder", desc := "(II)Z" } : Jvm.MethodName)) ∈ lw_all := lw_g (lw_at lw_m5 70 rfl) rfl
theorem q1167 : (Jvm.Cond.privateMethod ({ cls := "AgainstFeather", name := "canOrder", desc := "(II)Z" } : Jvm.MethodName)) ∈ lw_tbl := lw_at lw_m5 71 rfl
theorem q1168 : (Jvm.Cond.instanceMethod ({ cls := "AgainstFeather", name := "canOrder", desc := "(II)Z" } : Jvm.MethodName)) ∈ lw_all := lw_g (lw_at lw_m5 72 rfl) rfl
theorem q1169 : (Jvm.Cond.code ({ cls := "AgainstFeather", name := "canOrder", desc := "(II)Z" } : Jvm.MethodName) prog_1_method_55_code (4 : Nat) (Option.some Jvm.ClassFile.FieldType.boolean)) ∈ lw_all := lw_g (lw_at lw_m5 73 rfl) rfl
theorem q1170 : (Jvm.Cond.methodLink "AgainstFeather" (368 : Nat) ({ cls := "AgainstFeather", name := "looks", desc := "(II)V" } : Jvm.MethodName)) ∈ lw_all := lw_g (lw_at lw_m5 74 rfl) rfl
theorem q1171 : (Jvm.Cond.privateMethod ({ cls := "AgainstFeather", name := "looks", desc := "(II)V" } : Jvm.MethodName)) ∈ lw_tbl := lw_at lw_m5 75 rfl
theorem q1172 : (Jvm.Cond.instanceMethod ({ cls := "AgainstFeather", name := "looks", desc := "(II)V" } : Jvm.MethodName)) ∈ lw_all := lw_g (lw_at lw_m5 76 rfl) rfl
theorem q1173 : (Jvm.Cond.code ({ cls := "AgainstFeather", name := "looks", desc := "(II)V" } : Jvm.MethodName) prog_1_method_57_code (4 : Nat) (Option.none : Option Jvm.ClassFile.FieldType)) ∈ lw_all := lw_g (lw_at lw_m5 77 rfl) rfl
theorem q1174 : (Jvm.Cond.constant "AgainstFeather" (363 : Nat) (2147483647 : Int32)) ∈ lw_all := lw_g (lw_at lw_m5 78 rfl) rfl
theorem q1175 : (Jvm.Cond.constant "AgainstFeather" (364 : Nat) (-2147483648 : Int32)) ∈ lw_all := lw_g (lw_at lw_m5 79 rfl) rfl
theorem q1176 : (Jvm.Cond.methodLink "AgainstFeather" (352 : Nat) ({ cls := "java/lang/Math", name := "abs", desc := "(I)I" } : Jvm.MethodName)) ∈ lw_all := lw_g (lw_at lw_m5 80 rfl) rfl
theorem q1177 : (Jvm.Cond.methodLink "AgainstFeather" (355 : Nat) ({ cls := "AgainstFeather", name := "sticksOf", desc := "(III)I" } : Jvm.MethodName)) ∈ lw_all := lw_g (lw_at lw_m5 81 rfl) rfl
theorem q1178 : (Jvm.Cond.methodLink "AgainstFeather" (359 : Nat) ({ cls := "AgainstFeather", name := "goes", desc := "(IIIIII)V" } : Jvm.MethodName)) ∈ lw_all := lw_g (lw_at lw_m5 82 rfl) rfl
theorem q1179 : (Jvm.Cond.privateMethod ({ cls := "AgainstFeather", name := "goes", desc := "(IIIIII)V" } : Jvm.MethodName)) ∈ lw_tbl := lw_at lw_m5 83 rfl
theorem q1180 : (Jvm.Cond.instanceMethod ({ cls := "AgainstFeather", name := "goes", desc := "(IIIIII)V" } : Jvm.MethodName)) ∈ lw_all := lw_g (lw_at lw_m5 84 rfl) rfl
theorem q1181 : (Jvm.Cond.code ({ cls := "AgainstFeather", name := "goes", desc := "(IIIIII)V" } : Jvm.MethodName) prog_1_method_56_code (9 : Nat) (Option.none : Option Jvm.ClassFile.FieldType)) ∈ lw_all := lw_g (lw_at lw_m5 85 rfl) rfl
theorem q1182 : (Jvm.Cond.methodLink "AgainstFeather" (341 : Nat) ({ cls := "java/lang/Math", name := "max", desc := "(II)I" } : Jvm.MethodName)) ∈ lw_all := lw_g (lw_at lw_m5 86 rfl) rfl
theorem q1183 : (Jvm.Cond.methodLink "AgainstFeather" (346 : Nat) ({ cls := "java/lang/System", name := "arraycopy", desc := "(Ljava/lang/Object;ILjava/lang/Object;II)V" } : Jvm.MethodName)) ∈ lw_all := lw_g (lw_at lw_m5 87 rfl) rfl
theorem q1185 : (Jvm.Cond.instanceMethod ({ cls := "AgainstFeather", name := "passing", desc := "(II)I" } : Jvm.MethodName)) ∈ lw_all := lw_g (lw_at lw_m5 89 rfl) rfl
theorem q1186 : (Jvm.Cond.selects "AgainstFeather" ({ cls := "AgainstFeather", name := "passing", desc := "(II)I" } : Jvm.MethodName) ({ cls := "AgainstFeather", name := "passing", desc := "(II)I" } : Jvm.MethodName)) ∈ lw_all := lw_g (lw_at lw_m5 90 rfl) rfl
theorem q1187 : (Jvm.Cond.code ({ cls := "AgainstFeather", name := "passing", desc := "(II)I" } : Jvm.MethodName) prog_1_method_59_code (3 : Nat) (Option.some Jvm.ClassFile.FieldType.int)) ∈ lw_all := lw_g (lw_at lw_m5 91 rfl) rfl
theorem q1189 : (Jvm.Cond.instanceMethod ({ cls := "AgainstFeather", name := "orderless", desc := "(I)I" } : Jvm.MethodName)) ∈ lw_all := lw_g (lw_at lw_m5 93 rfl) rfl
theorem q1190 : (Jvm.Cond.selects "AgainstFeather" ({ cls := "AgainstFeather", name := "orderless", desc := "(I)I" } : Jvm.MethodName) ({ cls := "AgainstFeather", name := "orderless", desc := "(I)I" } : Jvm.MethodName)) ∈ lw_all := lw_g (lw_at lw_m5 94 rfl) rfl
theorem q1191 : (Jvm.Cond.code ({ cls := "AgainstFeather", name := "orderless", desc := "(I)I" } : Jvm.MethodName) prog_1_method_61_code (2 : Nat) (Option.some Jvm.ClassFile.FieldType.int)) ∈ lw_all := lw_g (lw_at lw_m5 95 rfl) rfl
theorem q1192 : (Jvm.Cond.methodLink "AgainstFeather" (372 : Nat) ({ cls := "AgainstFeather", name := "isOrderless", desc := "(I)Z" } : Jvm.MethodName)) ∈ lw_all := lw_g (lw_at lw_m5 96 rfl) rfl
theorem q1193 : (Jvm.Cond.privateMethod ({ cls := "AgainstFeather", name := "isOrderless", desc := "(I)Z" } : Jvm.MethodName)) ∈ lw_tbl := lw_at lw_m5 97 rfl
theorem q1194 : (Jvm.Cond.instanceMethod ({ cls := "AgainstFeather", name := "isOrderless", desc := "(I)Z" } : Jvm.MethodName)) ∈ lw_all := lw_g (lw_at lw_m5 98 rfl) rfl
theorem q1195 : (Jvm.Cond.code ({ cls := "AgainstFeather", name := "isOrderless", desc := "(I)Z" } : Jvm.MethodName) prog_1_method_60_code (2 : Nat) (Option.some Jvm.ClassFile.FieldType.boolean)) ∈ lw_all := lw_g (lw_at lw_m5 99 rfl) rfl
theorem q1197 : (Jvm.Cond.instanceMethod ({ cls := "AgainstFeather", name := "sticking", desc := "(I)I" } : Jvm.MethodName)) ∈ lw_all := lw_g (lw_at lw_m5 101 rfl) rfl
theorem q1198 : (Jvm.Cond.selects "AgainstFeather" ({ cls := "AgainstFeather", name := "sticking", desc := "(I)I" } : Jvm.MethodName) ({ cls := "AgainstFeather", name := "sticking", desc := "(I)I" } : Jvm.MethodName)) ∈ lw_all := lw_g (lw_at lw_m5 102 rfl) rfl
theorem q1199 : (Jvm.Cond.code ({ cls := "AgainstFeather", name := "sticking", desc := "(I)I" } : Jvm.MethodName) prog_1_method_62_code (5 : Nat) (Option.some Jvm.ClassFile.FieldType.int)) ∈ lw_all := lw_g (lw_at lw_m5 103 rfl) rfl
theorem q1201 : (Jvm.Cond.instanceMethod ({ cls := "AgainstFeather", name := "truly", desc := "(I)I" } : Jvm.MethodName)) ∈ lw_all := lw_g (lw_at lw_m5 105 rfl) rfl
theorem q1202 : (Jvm.Cond.selects "AgainstFeather" ({ cls := "AgainstFeather", name := "truly", desc := "(I)I" } : Jvm.MethodName) ({ cls := "AgainstFeather", name := "truly", desc := "(I)I" } : Jvm.MethodName)) ∈ lw_all := lw_g (lw_at lw_m5 106 rfl) rfl
theorem q1203 : (Jvm.Cond.code ({ cls := "AgainstFeather", name := "truly", desc := "(I)I" } : Jvm.MethodName) prog_1_method_63_code (4 : Nat) (Option.some Jvm.ClassFile.FieldType.int)) ∈ lw_all := lw_g (lw_at lw_m5 107 rfl) rfl
theorem q1205 : (Jvm.Cond.instanceMethod ({ cls := "AgainstFeather", name := "lies", desc := "(II)I" } : Jvm.MethodName)) ∈ lw_all := lw_g (lw_at lw_m5 109 rfl) rfl
theorem q1206 : (Jvm.Cond.selects "AgainstFeather" ({ cls := "AgainstFeather", name := "lies", desc := "(II)I" } : Jvm.MethodName) ({ cls := "AgainstFeather", name := "lies", desc := "(II)I" } : Jvm.MethodName)) ∈ lw_all := lw_g (lw_at lw_m5 110 rfl) rfl
theorem q1207 : (Jvm.Cond.code ({ cls := "AgainstFeather", name := "lies", desc := "(II)I" } : Jvm.MethodName) prog_1_method_65_code (6 : Nat) (Option.some Jvm.ClassFile.FieldType.int)) ∈ lw_all := lw_g (lw_at lw_m5 111 rfl) rfl
theorem q1208 : (Jvm.Cond.methodLink "AgainstFeather" (378 : Nat) ({ cls := "AgainstFeather", name := "truly", desc := "(I)I" } : Jvm.MethodName)) ∈ lw_all := lw_g (lw_at lw_m5 112 rfl) rfl
theorem q1209 : (Jvm.Cond.methodLink "AgainstFeather" (381 : Nat) ({ cls := "AgainstFeather", name := "getsBy", desc := "(II)Z" } : Jvm.MethodName)) ∈ lw_all := lw_g (lw_at lw_m5 113 rfl) rfl
theorem q1210 : (Jvm.Cond.privateMethod ({ cls := "AgainstFeather", name := "getsBy", desc := "(II)Z" } : Jvm.MethodName)) ∈ lw_tbl := lw_at lw_m5 114 rfl
theorem q1211 : (Jvm.Cond.instanceMethod ({ cls := "AgainstFeather", name := "getsBy", desc := "(II)Z" } : Jvm.MethodName)) ∈ lw_all := lw_g (lw_at lw_m5 115 rfl) rfl
theorem q1212 : (Jvm.Cond.code ({ cls := "AgainstFeather", name := "getsBy", desc := "(II)Z" } : Jvm.MethodName) prog_1_method_64_code (5 : Nat) (Option.some Jvm.ClassFile.FieldType.boolean)) ∈ lw_all := lw_g (lw_at lw_m5 116 rfl) rfl
theorem q1214 : (Jvm.Cond.instanceMethod ({ cls := "AgainstFeather", name := "lending", desc := "(II)I" } : Jvm.MethodName)) ∈ lw_all := lw_g (lw_at lw_m5 118 rfl) rfl
theorem q1215 : (Jvm.Cond.selects "AgainstFeather" ({ cls := "AgainstFeather", name := "lending", desc := "(II)I" } : Jvm.MethodName) ({ cls := "AgainstFeather", name := "lending", desc := "(II)I" } : Jvm.MethodName)) ∈ lw_all := lw_g (lw_at lw_m5 119 rfl) rfl
theorem q1216 : (Jvm.Cond.code ({ cls := "AgainstFeather", name := "lending", desc := "(II)I" } : Jvm.MethodName) prog_1_method_71_code (3 : Nat) (Option.some Jvm.ClassFile.FieldType.int)) ∈ lw_all := lw_g (lw_at lw_m5 120 rfl) rfl
theorem q1217 : (Jvm.Cond.methodLink "AgainstFeather" (396 : Nat) ({ cls := "AgainstFeather", name := "lendsAll", desc := "()Z" } : Jvm.MethodName)) ∈ lw_all := lw_g (lw_at lw_m5 121 rfl) rfl
theorem q1218 : (Jvm.Cond.privateMethod ({ cls := "AgainstFeather", name := "lendsAll", desc := "()Z" } : Jvm.MethodName)) ∈ lw_tbl := lw_at lw_m5 122 rfl
theorem q1219 : (Jvm.Cond.instanceMethod ({ cls := "AgainstFeather", name := "lendsAll", desc := "()Z" } : Jvm.MethodName)) ∈ lw_all := lw_g (lw_at lw_m5 123 rfl) rfl
theorem q1220 : (Jvm.Cond.code ({ cls := "AgainstFeather", name := "lendsAll", desc := "()Z" } : Jvm.MethodName) prog_1_method_70_code (3 : Nat) (Option.some Jvm.ClassFile.FieldType.boolean)) ∈ lw_all := lw_g (lw_at lw_m5 124 rfl) rfl
theorem q1221 : (Jvm.Cond.methodLink "AgainstFeather" (390 : Nat) ({ cls := "AgainstFeather", name := "laysLending", desc := "()V" } : Jvm.MethodName)) ∈ lw_all := lw_g (lw_at lw_m5 125 rfl) rfl
theorem q1222 : (Jvm.Cond.privateMethod ({ cls := "AgainstFeather", name := "laysLending", desc := "()V" } : Jvm.MethodName)) ∈ lw_tbl := lw_at lw_m5 126 rfl
theorem q1223 : (Jvm.Cond.instanceMethod ({ cls := "AgainstFeather", name := "laysLending", desc := "()V" } : Jvm.MethodName)) ∈ lw_all := lw_g (lw_at lw_m5 127 rfl) rfl
theorem q1224 : (Jvm.Cond.code ({ cls := "AgainstFeather", name := "laysLending", desc := "()V" } : Jvm.MethodName) prog_1_method_66_code (4 : Nat) (Option.none : Option Jvm.ClassFile.FieldType)) ∈ lw_all := lw_g (lw_at lw_m5 128 rfl) rfl
theorem q1225 : (Jvm.Cond.methodLink "AgainstFeather" (387 : Nat) ({ cls := "AgainstFeather", name := "tooHeavy", desc := "()I" } : Jvm.MethodName)) ∈ lw_all := lw_g (lw_at lw_m5 129 rfl) rfl
theorem q1226 : (Jvm.Cond.privateMethod ({ cls := "AgainstFeather", name := "tooHeavy", desc := "()I" } : Jvm.MethodName)) ∈ lw_tbl := lw_at lw_m5 130 rfl
theorem q1227 : (Jvm.Cond.instanceMethod ({ cls := "AgainstFeather", name := "tooHeavy", desc := "()I" } : Jvm.MethodName)) ∈ lw_all := lw_g (lw_at lw_m5 131 rfl) rfl
theorem q1228 : (Jvm.Cond.code ({ cls := "AgainstFeather", name := "tooHeavy", desc := "()I" } : Jvm.MethodName) prog_1_method_67_code (5 : Nat) (Option.some Jvm.ClassFile.FieldType.int)) ∈ lw_all := lw_g (lw_at lw_m5 132 rfl) rfl
theorem q1229 : (Jvm.Cond.methodLink "AgainstFeather" (384 : Nat) ({ cls := "AgainstFeather", name := "takenOf", desc := "(I)I" } : Jvm.MethodName)) ∈ lw_all := lw_g (lw_at lw_m5 133 rfl) rfl
theorem q1230 : (Jvm.Cond.privateMethod ({ cls := "AgainstFeather", name := "takenOf", desc := "(I)I" } : Jvm.MethodName)) ∈ lw_tbl := lw_at lw_m5 134 rfl
theorem q1231 : (Jvm.Cond.instanceMethod ({ cls := "AgainstFeather", name := "takenOf", desc := "(I)I" } : Jvm.MethodName)) ∈ lw_all := lw_g (lw_at lw_m5 135 rfl) rfl
theorem q1232 : (Jvm.Cond.code ({ cls := "AgainstFeather", name := "takenOf", desc := "(I)I" } : Jvm.MethodName) prog_1_method_68_code (6 : Nat) (Option.some Jvm.ClassFile.FieldType.int)) ∈ lw_all := lw_g (lw_at lw_m5 136 rfl) rfl
theorem q1233 : (Jvm.Cond.methodLink "AgainstFeather" (393 : Nat) ({ cls := "AgainstFeather", name := "lendsLeast", desc := "(II)V" } : Jvm.MethodName)) ∈ lw_all := lw_g (lw_at lw_m5 137 rfl) rfl
theorem q1234 : (Jvm.Cond.privateMethod ({ cls := "AgainstFeather", name := "lendsLeast", desc := "(II)V" } : Jvm.MethodName)) ∈ lw_tbl := lw_at lw_m5 138 rfl
theorem q1235 : (Jvm.Cond.instanceMethod ({ cls := "AgainstFeather", name := "lendsLeast", desc := "(II)V" } : Jvm.MethodName)) ∈ lw_all := lw_g (lw_at lw_m5 139 rfl) rfl
theorem q1236 : (Jvm.Cond.code ({ cls := "AgainstFeather", name := "lendsLeast", desc := "(II)V" } : Jvm.MethodName) prog_1_method_69_code (7 : Nat) (Option.none : Option Jvm.ClassFile.FieldType)) ∈ lw_all := lw_g (lw_at lw_m5 140 rfl) rfl
theorem q1238 : (Jvm.Cond.instanceMethod ({ cls := "AgainstFeather", name := "whoCannot", desc := "()I" } : Jvm.MethodName)) ∈ lw_all := lw_g (lw_at lw_m5 142 rfl) rfl
theorem q1239 : (Jvm.Cond.selects "AgainstFeather" ({ cls := "AgainstFeather", name := "whoCannot", desc := "()I" } : Jvm.MethodName) ({ cls := "AgainstFeather", name := "whoCannot", desc := "()I" } : Jvm.MethodName)) ∈ lw_all := lw_g (lw_at lw_m5 143 rfl) rfl
theorem q1240 : (Jvm.Cond.code ({ cls := "AgainstFeather", name := "whoCannot", desc := "()I" } : Jvm.MethodName) prog_1_method_72_code (1 : Nat) (Option.some Jvm.ClassFile.FieldType.int)) ∈ lw_all := lw_g (lw_at lw_m5 144 rfl) rfl
theorem q1242 : (Jvm.Cond.instanceMethod ({ cls := "AgainstFeather", name := "kindness", desc := "(I)I" } : Jvm.MethodName)) ∈ lw_all := lw_g (lw_at lw_m5 146 rfl) rfl
theorem q1243 : (Jvm.Cond.selects "AgainstFeather" ({ cls := "AgainstFeather", name := "kindness", desc := "(I)I" } : Jvm.MethodName) ({ cls := "AgainstFeather", name := "kindness", desc := "(I)I" } : Jvm.MethodName)) ∈ lw_all := lw_g (lw_at lw_m5 147 rfl) rfl
theorem q1244 : (Jvm.Cond.code ({ cls := "AgainstFeather", name := "kindness", desc := "(I)I" } : Jvm.MethodName) prog_1_method_74_code (6 : Nat) (Option.some Jvm.ClassFile.FieldType.int)) ∈ lw_all := lw_g (lw_at lw_m5 148 rfl) rfl
theorem q1245 : (Jvm.Cond.methodLink "AgainstFeather" (399 : Nat) ({ cls := "AgainstFeather", name := "isRemembered", desc := "(II)Z" } : Jvm.MethodName)) ∈ lw_all := lw_g (lw_at lw_m5 149 rfl) rfl
theorem q1246 : (Jvm.Cond.privateMethod ({ cls := "AgainstFeather", name := "isRemembered", desc := "(II)Z" } : Jvm.MethodName)) ∈ lw_tbl := lw_at lw_m5 150 rfl
theorem q1247 : (Jvm.Cond.instanceMethod ({ cls := "AgainstFeather", name := "isRemembered", desc := "(II)Z" } : Jvm.MethodName)) ∈ lw_all := lw_g (lw_at lw_m5 151 rfl) rfl
theorem q1248 : (Jvm.Cond.code ({ cls := "AgainstFeather", name := "isRemembered", desc := "(II)Z" } : Jvm.MethodName) prog_1_method_73_code (3 : Nat) (Option.some Jvm.ClassFile.FieldType.boolean)) ∈ lw_all := lw_g (lw_at lw_m5 152 rfl) rfl
theorem q1250 : (Jvm.Cond.instanceMethod ({ cls := "AgainstFeather", name := "known", desc := "(II)I" } : Jvm.MethodName)) ∈ lw_all := lw_g (lw_at lw_m5 154 rfl) rfl
theorem q1251 : (Jvm.Cond.selects "AgainstFeather" ({ cls := "AgainstFeather", name := "known", desc := "(II)I" } : Jvm.MethodName) ({ cls := "AgainstFeather", name := "known", desc := "(II)I" } : Jvm.MethodName)) ∈ lw_all := lw_g (lw_at lw_m5 155 rfl) rfl
theorem q1252 : (Jvm.Cond.code ({ cls := "AgainstFeather", name := "known", desc := "(II)I" } : Jvm.MethodName) prog_1_method_75_code (3 : Nat) (Option.some Jvm.ClassFile.FieldType.int)) ∈ lw_all := lw_g (lw_at lw_m5 156 rfl) rfl
theorem q1254 : (Jvm.Cond.instanceMethod ({ cls := "AgainstFeather", name := "fit", desc := "()I" } : Jvm.MethodName)) ∈ lw_all := lw_g (lw_at lw_m5 158 rfl) rfl
theorem q1255 : (Jvm.Cond.selects "AgainstFeather" ({ cls := "AgainstFeather", name := "fit", desc := "()I" } : Jvm.MethodName) ({ cls := "AgainstFeather", name := "fit", desc := "()I" } : Jvm.MethodName)) ∈ lw_all := lw_g (lw_at lw_m5 159 rfl) rfl
theorem q1256 : (Jvm.Cond.code ({ cls := "AgainstFeather", name := "fit", desc := "()I" } : Jvm.MethodName) prog_1_method_77_code (3 : Nat) (Option.some Jvm.ClassFile.FieldType.int)) ∈ lw_all := lw_g (lw_at lw_m5 160 rfl) rfl
theorem q1257 : (Jvm.Cond.methodLink "AgainstFeather" (405 : Nat) ({ cls := "AgainstFeather", name := "fits", desc := "(LAgainstFeather$Text;)Z" } : Jvm.MethodName)) ∈ lw_all := lw_g (lw_at lw_m5 161 rfl) rfl
theorem q1258 : (Jvm.Cond.privateMethod ({ cls := "AgainstFeather", name := "fits", desc := "(LAgainstFeather$Text;)Z" } : Jvm.MethodName)) ∈ lw_tbl := lw_at lw_m5 162 rfl
theorem q1259 : (Jvm.Cond.instanceMethod ({ cls := "AgainstFeather", name := "fits", desc := "(LAgainstFeather$Text;)Z" } : Jvm.MethodName)) ∈ lw_all := lw_g (lw_at lw_m5 163 rfl) rfl
theorem q1260 : (Jvm.Cond.code ({ cls := "AgainstFeather", name := "fits", desc := "(LAgainstFeather$Text;)Z" } : Jvm.MethodName) prog_1_method_76_code (5 : Nat) (Option.some Jvm.ClassFile.FieldType.boolean)) ∈ lw_all := lw_g (lw_at lw_m5 164 rfl) rfl
theorem q1262 : (Jvm.Cond.instanceMethod ({ cls := "AgainstFeather", name := "smallest", desc := "(I)I" } : Jvm.MethodName)) ∈ lw_all := lw_g (lw_at lw_m5 166 rfl) rfl
theorem q1263 : (Jvm.Cond.selects "AgainstFeather" ({ cls := "AgainstFeather", name := "smallest", desc := "(I)I" } : Jvm.MethodName) ({ cls := "AgainstFeather", name := "smallest", desc := "(I)I" } : Jvm.MethodName)) ∈ lw_all := lw_g (lw_at lw_m5 167 rfl) rfl
theorem q1264 : (Jvm.Cond.code ({ cls := "AgainstFeather", name := "smallest", desc := "(I)I" } : Jvm.MethodName) prog_1_method_81_code (7 : Nat) (Option.some Jvm.ClassFile.FieldType.int)) ∈ lw_all := lw_g (lw_at lw_m5 168 rfl) rfl
theorem q1265 : (Jvm.Cond.methodLink "AgainstFeather" (412 : Nat) ({ cls := "AgainstFeather", name := "sizeOfFactors", desc := "()I" } : Jvm.MethodName)) ∈ lw_all := lw_g (lw_at lw_m5 169 rfl) rfl
theorem q1266 : (Jvm.Cond.privateMethod ({ cls := "AgainstFeather", name := "sizeOfFactors", desc := "()I" } : Jvm.MethodName)) ∈ lw_tbl := lw_at lw_m5 170 rfl
theorem q1267 : (Jvm.Cond.instanceMethod ({ cls := "AgainstFeather", name := "sizeOfFactors", desc := "()I" } : Jvm.MethodName)) ∈ lw_all := lw_g (lw_at lw_m5 171 rfl) rfl
theorem q1268 : (Jvm.Cond.code ({ cls := "AgainstFeather", name := "sizeOfFactors", desc := "()I" } : Jvm.MethodName) prog_1_method_80_code (1 : Nat) (Option.some Jvm.ClassFile.FieldType.int)) ∈ lw_all := lw_g (lw_at lw_m5 172 rfl) rfl
theorem q1269 : (Jvm.Cond.methodLink "AgainstFeather" (415 : Nat) ({ cls := "AgainstFeather", name := "fitsFactors", desc := "()Z" } : Jvm.MethodName)) ∈ lw_all := lw_g (lw_at lw_m5 173 rfl) rfl
theorem q1270 : (Jvm.Cond.privateMethod ({ cls := "AgainstFeather", name := "fitsFactors", desc := "()Z" } : Jvm.MethodName)) ∈ lw_tbl := lw_at lw_m5 174 rfl
theorem q1271 : (Jvm.Cond.instanceMethod ({ cls := "AgainstFeather", name := "fitsFactors", desc := "()Z" } : Jvm.MethodName)) ∈ lw_all := lw_g (lw_at lw_m5 175 rfl) rfl
theorem q1272 : (Jvm.Cond.code ({ cls := "AgainstFeather", name := "fitsFactors", desc := "()Z" } : Jvm.MethodName) prog_1_method_79_code (2 : Nat) (Option.some Jvm.ClassFile.FieldType.boolean)) ∈ lw_all := lw_g (lw_at lw_m5 176 rfl) rfl
theorem q1273 : (Jvm.Cond.methodLink "AgainstFeather" (409 : Nat) ({ cls := "AgainstFeather", name := "byFactors", desc := "(I)I" } : Jvm.MethodName)) ∈ lw_all := lw_g (lw_at lw_m5 177 rfl) rfl
theorem q1274 : (Jvm.Cond.privateMethod ({ cls := "AgainstFeather", name := "byFactors", desc := "(I)I" } : Jvm.MethodName)) ∈ lw_tbl := lw_at lw_m5 178 rfl
theorem q1275 : (Jvm.Cond.instanceMethod ({ cls := "AgainstFeather", name := "byFactors", desc := "(I)I" } : Jvm.MethodName)) ∈ lw_all := lw_g (lw_at lw_m5 179 rfl) rfl
theorem q1276 : (Jvm.Cond.code ({ cls := "AgainstFeather", name := "byFactors", desc := "(I)I" } : Jvm.MethodName) prog_1_method_78_code (6 : Nat) (Option.some Jvm.ClassFile.FieldType.int)) ∈ lw_all := lw_g (lw_at lw_m5 180 rfl) rfl
theorem q1278 : (Jvm.Cond.instanceMethod ({ cls := "AgainstFeather", name := "tells", desc := "()I" } : Jvm.MethodName)) ∈ lw_all := lw_g (lw_at lw_m5 182 rfl) rfl
theorem q1279 : (Jvm.Cond.selects "AgainstFeather" ({ cls := "AgainstFeather", name := "tells", desc := "()I" } : Jvm.MethodName) ({ cls := "AgainstFeather", name := "tells", desc := "()I" } : Jvm.MethodName)) ∈ lw_all := lw_g (lw_at lw_m5 183 rfl) rfl
theorem q1280 : (Jvm.Cond.code ({ cls := "AgainstFeather", name := "tells", desc := "()I" } : Jvm.MethodName) prog_1_method_83_code (6 : Nat) (Option.some Jvm.ClassFile.FieldType.int)) ∈ lw_all := lw_g (lw_at lw_m5 184 rfl) rfl
theorem q1281 : (Jvm.Cond.methodLink "AgainstFeather" (418 : Nat) ({ cls := "AgainstFeather", name := "fit", desc := "()I" } : Jvm.MethodName)) ∈ lw_all := lw_g (lw_at lw_m5 185 rfl) rfl
theorem q1282 : (Jvm.Cond.methodLink "AgainstFeather" (421 : Nat) ({ cls := "AgainstFeather", name := "alike", desc := "(II)I" } : Jvm.MethodName)) ∈ lw_all := lw_g (lw_at lw_m5 186 rfl) rfl
theorem q1283 : (Jvm.Cond.privateMethod ({ cls := "AgainstFeather", name := "alike", desc := "(II)I" } : Jvm.MethodName)) ∈ lw_tbl := lw_at lw_m5 187 rfl
theorem q1284 : (Jvm.Cond.instanceMethod ({ cls := "AgainstFeather", name := "alike", desc := "(II)I" } : Jvm.MethodName)) ∈ lw_all := lw_g (lw_at lw_m5 188 rfl) rfl
theorem q1285 : (Jvm.Cond.code ({ cls := "AgainstFeather", name := "alike", desc := "(II)I" } : Jvm.MethodName) prog_1_method_82_code (7 : Nat) (Option.some Jvm.ClassFile.FieldType.int)) ∈ lw_all := lw_g (lw_at lw_m5 189 rfl) rfl
theorem q1287 : (Jvm.Cond.instanceMethod ({ cls := "AgainstFeather", name := "should", desc := "(I)Z" } : Jvm.MethodName)) ∈ lw_all := lw_g (lw_at lw_m5 191 rfl) rfl
theorem q1288 : (Jvm.Cond.selects "AgainstFeather" ({ cls := "AgainstFeather", name := "should", desc := "(I)Z" } : Jvm.MethodName) ({ cls := "AgainstFeather", name := "should", desc := "(I)Z" } : Jvm.MethodName)) ∈ lw_all := lw_g (lw_at lw_m5 192 rfl) rfl
theorem q1289 : (Jvm.Cond.code ({ cls := "AgainstFeather", name := "should", desc := "(I)Z" } : Jvm.MethodName) prog_1_method_84_code (2 : Nat) (Option.some Jvm.ClassFile.FieldType.boolean)) ∈ lw_all := lw_g (lw_at lw_m5 193 rfl) rfl
theorem q1291 : (Jvm.Cond.instanceMethod ({ cls := "AgainstFeather", name := "featherForAll", desc := "(Z)I" } : Jvm.MethodName)) ∈ lw_all := lw_g (lw_at lw_m5 195 rfl) rfl
theorem q1292 : (Jvm.Cond.selects "AgainstFeather" ({ cls := "AgainstFeather", name := "featherForAll", desc := "(Z)I" } : Jvm.MethodName) ({ cls := "AgainstFeather", name := "featherForAll", desc := "(Z)I" } : Jvm.MethodName)) ∈ lw_all := lw_g (lw_at lw_m5 196 rfl) rfl
theorem q1293 : (Jvm.Cond.code ({ cls := "AgainstFeather", name := "featherForAll", desc := "(Z)I" } : Jvm.MethodName) prog_1_method_85_code (8 : Nat) (Option.some Jvm.ClassFile.FieldType.int)) ∈ lw_all := lw_g (lw_at lw_m5 197 rfl) rfl
theorem q1295 : (Jvm.Cond.instanceMethod ({ cls := "AgainstFeather", name := "odds", desc := "(IIZ)J" } : Jvm.MethodName)) ∈ lw_all := lw_g (lw_at lw_m5 199 rfl) rfl
theorem q1296 : (Jvm.Cond.selects "AgainstFeather" ({ cls := "AgainstFeather", name := "odds", desc := "(IIZ)J" } : Jvm.MethodName) ({ cls := "AgainstFeather", name := "odds", desc := "(IIZ)J" } : Jvm.MethodName)) ∈ lw_all := lw_g (lw_at lw_m5 200 rfl) rfl
theorem q1297 : (Jvm.Cond.code ({ cls := "AgainstFeather", name := "odds", desc := "(IIZ)J" } : Jvm.MethodName) prog_1_method_90_code (4 : Nat) (Option.some Jvm.ClassFile.FieldType.long)) ∈ lw_all := lw_g (lw_at lw_m5 201 rfl) rfl
theorem q1298 : (Jvm.Cond.methodLink "AgainstFeather" (439 : Nat) ({ cls := "AgainstFeather", name := "mostRight", desc := "(II)J" } : Jvm.MethodName)) ∈ lw_all := lw_g (lw_at lw_m5 202 rfl) rfl
theorem q1299 : (Jvm.Cond.privateMethod ({ cls := "AgainstFeather", name := "mostRight", desc := "(II)J" } : Jvm.MethodName)) ∈ lw_tbl := lw_at lw_m5 203 rfl
theorem q1300 : (Jvm.Cond.instanceMethod ({ cls := "AgainstFeather", name := "mostRight", desc := "(II)J" } : Jvm.MethodName)) ∈ lw_all := lw_g (lw_at lw_m5 204 rfl) rfl
theorem q1301 : (Jvm.Cond.code ({ cls := "AgainstFeather", name := "mostRight", desc := "(II)J" } : Jvm.MethodName) prog_1_method_89_code (6 : Nat) (Option.some Jvm.ClassFile.FieldType.long)) ∈ lw_all := lw_g (lw_at lw_m5 205 rfl) rfl
theorem q1302 : (Jvm.Cond.methodLink "AgainstFeather" (433 : Nat) ({ cls := "java/util/Arrays", name := "fill", desc := "([JJ)V" } : Jvm.MethodName)) ∈ lw_all := lw_g (lw_at lw_m5 206 rfl) rfl
theorem q1305 : (Jvm.Cond.methodLink "AgainstFeather" (429 : Nat) ({ cls := "AgainstFeather", name := "tens", desc := "(I)J" } : Jvm.MethodName)) ∈ lw_all := lw_g (lw_at lw_m5 209 rfl) rfl
theorem q1306 : (Jvm.Cond.static ({ cls := "AgainstFeather", name := "tens", desc := "(I)J" } : Jvm.MethodName)) ∈ lw_all := lw_g (lw_at lw_m5 210 rfl) rfl
theorem q1307 : (Jvm.Cond.code ({ cls := "AgainstFeather", name := "tens", desc := "(I)J" } : Jvm.MethodName) prog_1_method_88_code (1 : Nat) (Option.some Jvm.ClassFile.FieldType.long)) ∈ lw_all := lw_g (lw_at lw_m5 211 rfl) rfl
theorem q1308 : (Jvm.Cond.constantLong "AgainstFeather" (427 : Nat) (10 : Int64)) ∈ lw_all := lw_g (lw_at lw_m5 212 rfl) rfl
theorem q1309 : (Jvm.Cond.methodLink "AgainstFeather" (443 : Nat) ({ cls := "AgainstFeather", name := "inLowest", desc := "(JJZ)J" } : Jvm.MethodName)) ∈ lw_all := lw_g (lw_at lw_m5 213 rfl) rfl
theorem q1310 : (Jvm.Cond.static ({ cls := "AgainstFeather", name := "inLowest", desc := "(JJZ)J" } : Jvm.MethodName)) ∈ lw_all := lw_g (lw_at lw_m5 214 rfl) rfl
theorem q1311 : (Jvm.Cond.code ({ cls := "AgainstFeather", name := "inLowest", desc := "(JJZ)J" } : Jvm.MethodName) prog_1_method_87_code (7 : Nat) (Option.some Jvm.ClassFile.FieldType.long)) ∈ lw_all := lw_g (lw_at lw_m5 215 rfl) rfl
theorem q1312 : (Jvm.Cond.methodLink "AgainstFeather" (424 : Nat) ({ cls := "AgainstFeather", name := "common", desc := "(JJ)J" } : Jvm.MethodName)) ∈ lw_all := lw_g (lw_at lw_m5 216 rfl) rfl
theorem q1313 : (Jvm.Cond.static ({ cls := "AgainstFeather", name := "common", desc := "(JJ)J" } : Jvm.MethodName)) ∈ lw_all := lw_g (lw_at lw_m5 217 rfl) rfl
theorem q1314 : (Jvm.Cond.code ({ cls := "AgainstFeather", name := "common", desc := "(JJ)J" } : Jvm.MethodName) prog_1_method_86_code (4 : Nat) (Option.some Jvm.ClassFile.FieldType.long)) ∈ lw_all := lw_g (lw_at lw_m5 218 rfl) rfl
theorem q1315 : (Jvm.Cond.constantLong "AgainstFeather" (447 : Nat) (-1 : Int64)) ∈ lw_all := lw_g (lw_at lw_m5 219 rfl) rfl
theorem q1317 : (Jvm.Cond.instanceMethod ({ cls := "AgainstFeather", name := "often", desc := "(II)I" } : Jvm.MethodName)) ∈ lw_all := lw_g (lw_at lw_m5 221 rfl) rfl
theorem q1318 : (Jvm.Cond.selects "AgainstFeather" ({ cls := "AgainstFeather", name := "often", desc := "(II)I" } : Jvm.MethodName) ({ cls := "AgainstFeather", name := "often", desc := "(II)I" } : Jvm.MethodName)) ∈ lw_all := lw_g (lw_at lw_m5 222 rfl) rfl
theorem q1319 : (Jvm.Cond.code ({ cls := "AgainstFeather", name := "often", desc := "(II)I" } : Jvm.MethodName) prog_1_method_91_code (4 : Nat) (Option.some Jvm.ClassFile.FieldType.int)) ∈ lw_all := lw_g (lw_at lw_m5 223 rfl) rfl
theorem q1320 : (Jvm.Cond.constantLong "AgainstFeather" (449 : Nat) (100 : Int64)) ∈ lw_all := lw_g (lw_at lw_m5 224 rfl) rfl
theorem q1322 : (Jvm.Cond.instanceMethod ({ cls := "AgainstFeather", name := "image", desc := "()I" } : Jvm.MethodName)) ∈ lw_all := lw_g (lw_at lw_m5 226 rfl) rfl
theorem q1323 : (Jvm.Cond.selects "AgainstFeather" ({ cls := "AgainstFeather", name := "image", desc := "()I" } : Jvm.MethodName) ({ cls := "AgainstFeather", name := "image", desc := "()I" } : Jvm.MethodName)) ∈ lw_all := lw_g (lw_at lw_m5 227 rfl) rfl
theorem q1324 : (Jvm.Cond.code ({ cls := "AgainstFeather", name := "image", desc := "()I" } : Jvm.MethodName) prog_1_method_92_code (1 : Nat) (Option.some Jvm.ClassFile.FieldType.int)) ∈ lw_all := lw_g (lw_at lw_m5 228 rfl) rfl
theorem q1326 : (Jvm.Cond.instanceMethod ({ cls := "AgainstFeather", name := "back", desc := "()I" } : Jvm.MethodName)) ∈ lw_all := lw_g (lw_at lw_m5 230 rfl) rfl
theorem q1327 : (Jvm.Cond.selects "AgainstFeather" ({ cls := "AgainstFeather", name := "back", desc := "()I" } : Jvm.MethodName) ({ cls := "AgainstFeather", name := "back", desc := "()I" } : Jvm.MethodName)) ∈ lw_all := lw_g (lw_at lw_m5 231 rfl) rfl
theorem q1328 : (Jvm.Cond.code ({ cls := "AgainstFeather", name := "back", desc := "()I" } : Jvm.MethodName) prog_1_method_93_code (1 : Nat) (Option.some Jvm.ClassFile.FieldType.int)) ∈ lw_all := lw_g (lw_at lw_m5 232 rfl) rfl
theorem q1330 : (Jvm.Cond.instanceMethod ({ cls := "AgainstFeather", name := "about", desc := "(I)I" } : Jvm.MethodName)) ∈ lw_all := lw_g (lw_at lw_m5 234 rfl) rfl
theorem q1331 : (Jvm.Cond.selects "AgainstFeather" ({ cls := "AgainstFeather", name := "about", desc := "(I)I" } : Jvm.MethodName) ({ cls := "AgainstFeather", name := "about", desc := "(I)I" } : Jvm.MethodName)) ∈ lw_all := lw_g (lw_at lw_m5 235 rfl) rfl
theorem q1332 : (Jvm.Cond.code ({ cls := "AgainstFeather", name := "about", desc := "(I)I" } : Jvm.MethodName) prog_1_method_94_code (2 : Nat) (Option.some Jvm.ClassFile.FieldType.int)) ∈ lw_all := lw_g (lw_at lw_m5 236 rfl) rfl
theorem q1993 : (Jvm.Cond.castable "AgainstFeather" "java/lang/Object") ∈ lw_tbl := lw_at lw_m8 177 rfl
theorem in_X0 : ∀ w ∈ wsX00, w ∈ lw_all := lw_in wsX00 [263, 265, 267, 269, 271, 273, 275, 277, 279, 281, 283, 285, 287, 289, 291, 293, 295, 297, 299, 301, 303, 305, 307] (by decide +kernel) (by decide +kernel)
