/-! AgainstFeatherModel -/
set_option maxRecDepth 100000
def RX2 : String := "AgainstFeatherModel"
def TX2 : u_T := fun k => match k with
  | 0 => ("AgainstFeatherModel", "a", "[I", true)
  | 1 => ("AgainstFeatherModel", "image", "[I", true)
  | 2 => ("AgainstFeatherModel", "texts", "[I", true)
  | 3 => ("AgainstFeatherModel", "tape", "[I", true)
  | 4 => ("AgainstFeatherModel", "taped", "I", false)
  | 5 => ("AgainstFeatherModel", "fault", "I", false)
  | 6 => ("AgainstFeatherModel", "faultPlace", "I", false)
  | 7 => ("AgainstFeatherModel", "at", "I", false)
  | 8 => ("AgainstFeatherModel", "place", "I", false)
  | 9 => ("AgainstFeatherModel", "token", "I", false)
  | 10 => ("AgainstFeatherModel", "number", "I", false)
  | 11 => ("AgainstFeatherModel", "word", "J", false)
  | 12 => ("AgainstFeatherModel", "text0", "I", false)
  | 13 => ("AgainstFeatherModel", "written", "I", false)
  | 14 => ("AgainstFeatherModel", "sort0", "I", false)
  | 15 => ("AgainstFeatherModel", "pile", "[I", true)
  | 16 => ("AgainstFeatherModel", "piled", "I", false)
  | 17 => ("AgainstFeatherModel", "opens", "I", false)
  | 18 => ("AgainstFeatherModel", "isWhole", "Z", false)
  | 19 => ("AgainstFeatherModel", "once", "I", false)
  | 20 => ("AgainstFeatherModel", "named", "[I", true)
  | 21 => ("AgainstFeatherModel", "values", "[J", true)
  | 22 => ("AgainstFeatherModel", "row", "[I", true)
  | 23 => ("AgainstFeatherModel", "many", "I", false)
  | 24 => ("AgainstFeatherModel", "aside", "[I", true)
  | 25 => ("AgainstFeatherModel", "best", "[I", true)
  | 26 => ("AgainstFeatherModel", "lacks", "[I", true)
  | 27 => ("AgainstFeatherModel", "takes", "[I", true)
  | 28 => ("AgainstFeatherModel", "may", "[I", true)
  | 29 => ("AgainstFeatherModel", "lends", "[I", true)
  | 30 => ("AgainstFeatherModel", "balanceBelow", "[Z", true)
  | 31 => ("AgainstFeatherModel", "facts", "[I", true)
  | 32 => ("AgainstFeatherModel", "parts", "[I", true)
  | 33 => ("AgainstFeatherModel", "burdens", "[I", true)
  | _ => ("AgainstFeatherModel", "rights", "[J", true)
def tyX2 : Nat → FieldType := fun k => match k with
  | 0 => .array .int
  | 1 => .array .int
  | 2 => .array .int
  | 3 => .array .int
  | 4 => .int
  | 5 => .int
  | 6 => .int
  | 7 => .int
  | 8 => .int
  | 9 => .int
  | 10 => .int
  | 11 => .long
  | 12 => .int
  | 13 => .int
  | 14 => .int
  | 15 => .array .int
  | 16 => .int
  | 17 => .int
  | 18 => .boolean
  | 19 => .int
  | 20 => .array .int
  | 21 => .array .long
  | 22 => .array .int
  | 23 => .int
  | 24 => .array .int
  | 25 => .array .int
  | 26 => .array .int
  | 27 => .array .int
  | 28 => .array .int
  | 29 => .array .int
  | 30 => .array .boolean
  | 31 => .array .int
  | 32 => .array .int
  | 33 => .array .int
  | _ => .array .long
abbrev wsX20 : List Cond := u_ws RX2 TX2 35
set_option maxRecDepth 100000 in
theorem nmX2 : ∀ a, a < 35 → ∀ b, b < 35 → a ≠ b → (TX2 a).2.1 ≠ (TX2 b).2.1 := by decide +kernel
set_option maxRecDepth 100000 in
theorem tyX2_ok : ∀ k, k < 35 → parseFieldDescriptor (TX2 k).2.2.1 = some (tyX2 k) := by decide +kernel
abbrev cX2_init : ByteArray := prog_15_method_1_code
def yX2_init : MethodName := ⟨RX2, "<init>", "()V"⟩
def dkwX2_init_9 : List UInt8 := [177]
abbrev dktX2_init_9 : List UInt8 := dkwX2_init_9 ++ []
def dkwX2_init_8 : List UInt8 := [16, 7, 2, 79, 42, 180, 0, 7, 17, 0, 242, 2, 79, 42, 180, 0, 7, 42, 180, 0, 13, 184, 0, 76]
abbrev dktX2_init_8 : List UInt8 := dkwX2_init_8 ++ dktX2_init_9
def dkwX2_init_7 : List UInt8 := [188, 11, 181, 0, 73, 42, 180, 0, 7, 6, 4, 79, 42, 180, 0, 7, 8, 16, 19, 79, 42, 180, 0, 7]
abbrev dktX2_init_7 : List UInt8 := dkwX2_init_7 ++ dktX2_init_8
def dkwX2_init_6 : List UInt8 := [188, 10, 181, 0, 64, 42, 7, 188, 10, 181, 0, 67, 42, 16, 6, 188, 10, 181, 0, 70, 42, 16, 17]
abbrev dktX2_init_6 : List UInt8 := dkwX2_init_6 ++ dktX2_init_7
def dkwX2_init_5 : List UInt8 := [188, 10, 181, 0, 54, 42, 16, 36, 188, 10, 181, 0, 57, 42, 16, 6, 188, 4, 181, 0, 60, 42, 16, 32]
abbrev dktX2_init_5 : List UInt8 := dkwX2_init_5 ++ dktX2_init_6
def dkwX2_init_4 : List UInt8 := [188, 10, 181, 0, 45, 42, 16, 6, 188, 10, 181, 0, 48, 42, 16, 6, 188, 10, 181, 0, 51, 42, 16, 36]
abbrev dktX2_init_4 : List UInt8 := dkwX2_init_4 ++ dktX2_init_5
def dkwX2_init_3 : List UInt8 := [188, 11, 181, 0, 35, 42, 16, 24, 188, 10, 181, 0, 39, 42, 16, 6, 188, 10, 181, 0, 42, 42, 16, 24]
abbrev dktX2_init_3 : List UInt8 := dkwX2_init_3 ++ dktX2_init_4
def dkwX2_init_2 : List UInt8 := [181, 0, 26, 42, 17, 0, 160, 188, 10, 181, 0, 29, 42, 16, 15, 188, 10, 181, 0, 32, 42, 17, 1, 74]
abbrev dktX2_init_2 : List UInt8 := dkwX2_init_2 ++ dktX2_init_3
def dkwX2_init_1 : List UInt8 := [17, 11, 196, 188, 10, 181, 0, 16, 42, 17, 1, 44, 188, 10, 181, 0, 19, 42, 2, 181, 0, 22, 42, 2]
abbrev dktX2_init_1 : List UInt8 := dkwX2_init_1 ++ dktX2_init_2
def dkwX2_init_0 : List UInt8 := [42, 183, 0, 1, 42, 17, 21, 168, 188, 10, 181, 0, 7, 42, 17, 21, 168, 188, 10, 181, 0, 13, 42]
abbrev dktX2_init_0 : List UInt8 := dkwX2_init_0 ++ dktX2_init_1
theorem dksX2_init_0 : cX2_init.data.toList.drop 0 = dktX2_init_0 := by decide +kernel
theorem dksX2_init_1 : cX2_init.data.toList.drop 23 = dktX2_init_1 := dk_seg dksX2_init_0 23 rfl rfl
theorem dksX2_init_2 : cX2_init.data.toList.drop 47 = dktX2_init_2 := dk_seg dksX2_init_1 24 rfl rfl
theorem dksX2_init_3 : cX2_init.data.toList.drop 71 = dktX2_init_3 := dk_seg dksX2_init_2 24 rfl rfl
theorem dksX2_init_4 : cX2_init.data.toList.drop 95 = dktX2_init_4 := dk_seg dksX2_init_3 24 rfl rfl
theorem dksX2_init_5 : cX2_init.data.toList.drop 119 = dktX2_init_5 := dk_seg dksX2_init_4 24 rfl rfl
theorem dksX2_init_6 : cX2_init.data.toList.drop 143 = dktX2_init_6 := dk_seg dksX2_init_5 24 rfl rfl
theorem dksX2_init_7 : cX2_init.data.toList.drop 166 = dktX2_init_7 := dk_seg dksX2_init_6 23 rfl rfl
theorem dksX2_init_8 : cX2_init.data.toList.drop 190 = dktX2_init_8 := dk_seg dksX2_init_7 24 rfl rfl
theorem dksX2_init_9 : cX2_init.data.toList.drop 214 = dktX2_init_9 := dk_seg dksX2_init_8 24 rfl rfl
theorem dX2_init_0 : decode cX2_init 0 = .ok (.aload_n 0, 1) := dk_42 (dk_at dksX2_init_0 0 rfl rfl)
theorem dX2_init_1 : decode cX2_init 1 = .ok (.invokespecial 1, 3) := dk_183 0 1 (dk_at dksX2_init_0 1 rfl rfl)
theorem dX2_init_4 : decode cX2_init 4 = .ok (.aload_n 0, 1) := dk_42 (dk_at dksX2_init_0 4 rfl rfl)
theorem dX2_init_5 : decode cX2_init 5 = .ok (.sipush 5544, 3) := dk_17 21 168 (dk_at dksX2_init_0 5 rfl rfl)
theorem dX2_init_8 : decode cX2_init 8 = .ok (.newarray .int, 2) := dk_188_10 (dk_at dksX2_init_0 8 rfl rfl)
theorem dX2_init_10 : decode cX2_init 10 = .ok (.putfield 7, 3) := dk_181 0 7 (dk_at dksX2_init_0 10 rfl rfl)
theorem dX2_init_13 : decode cX2_init 13 = .ok (.aload_n 0, 1) := dk_42 (dk_at dksX2_init_0 13 rfl rfl)
theorem dX2_init_14 : decode cX2_init 14 = .ok (.sipush 5544, 3) := dk_17 21 168 (dk_at dksX2_init_0 14 rfl rfl)
theorem dX2_init_17 : decode cX2_init 17 = .ok (.newarray .int, 2) := dk_188_10 (dk_at dksX2_init_0 17 rfl rfl)
theorem dX2_init_19 : decode cX2_init 19 = .ok (.putfield 13, 3) := dk_181 0 13 (dk_at dksX2_init_0 19 rfl rfl)
theorem dX2_init_22 : decode cX2_init 22 = .ok (.aload_n 0, 1) := dk_42 (dk_at dksX2_init_0 22 rfl rfl)
theorem dX2_init_23 : decode cX2_init 23 = .ok (.sipush 3012, 3) := dk_17 11 196 (dk_at dksX2_init_1 0 rfl rfl)
theorem dX2_init_26 : decode cX2_init 26 = .ok (.newarray .int, 2) := dk_188_10 (dk_at dksX2_init_1 3 rfl rfl)
theorem dX2_init_28 : decode cX2_init 28 = .ok (.putfield 16, 3) := dk_181 0 16 (dk_at dksX2_init_1 5 rfl rfl)
theorem dX2_init_31 : decode cX2_init 31 = .ok (.aload_n 0, 1) := dk_42 (dk_at dksX2_init_1 8 rfl rfl)
theorem dX2_init_32 : decode cX2_init 32 = .ok (.sipush 300, 3) := dk_17 1 44 (dk_at dksX2_init_1 9 rfl rfl)
theorem dX2_init_35 : decode cX2_init 35 = .ok (.newarray .int, 2) := dk_188_10 (dk_at dksX2_init_1 12 rfl rfl)
theorem dX2_init_37 : decode cX2_init 37 = .ok (.putfield 19, 3) := dk_181 0 19 (dk_at dksX2_init_1 14 rfl rfl)
theorem dX2_init_40 : decode cX2_init 40 = .ok (.aload_n 0, 1) := dk_42 (dk_at dksX2_init_1 17 rfl rfl)
theorem dX2_init_41 : decode cX2_init 41 = .ok (.iconst (-1), 1) := dk_2 (dk_at dksX2_init_1 18 rfl rfl)
theorem dX2_init_42 : decode cX2_init 42 = .ok (.putfield 22, 3) := dk_181 0 22 (dk_at dksX2_init_1 19 rfl rfl)
theorem dX2_init_45 : decode cX2_init 45 = .ok (.aload_n 0, 1) := dk_42 (dk_at dksX2_init_1 22 rfl rfl)
theorem dX2_init_46 : decode cX2_init 46 = .ok (.iconst (-1), 1) := dk_2 (dk_at dksX2_init_1 23 rfl rfl)
theorem dX2_init_47 : decode cX2_init 47 = .ok (.putfield 26, 3) := dk_181 0 26 (dk_at dksX2_init_2 0 rfl rfl)
theorem dX2_init_50 : decode cX2_init 50 = .ok (.aload_n 0, 1) := dk_42 (dk_at dksX2_init_2 3 rfl rfl)
theorem dX2_init_51 : decode cX2_init 51 = .ok (.sipush 160, 3) := dk_17 0 160 (dk_at dksX2_init_2 4 rfl rfl)
theorem dX2_init_54 : decode cX2_init 54 = .ok (.newarray .int, 2) := dk_188_10 (dk_at dksX2_init_2 7 rfl rfl)
theorem dX2_init_56 : decode cX2_init 56 = .ok (.putfield 29, 3) := dk_181 0 29 (dk_at dksX2_init_2 9 rfl rfl)
theorem dX2_init_59 : decode cX2_init 59 = .ok (.aload_n 0, 1) := dk_42 (dk_at dksX2_init_2 12 rfl rfl)
theorem dX2_init_60 : decode cX2_init 60 = .ok (.bipush 15, 2) := dk_16 15 (dk_at dksX2_init_2 13 rfl rfl)
theorem dX2_init_62 : decode cX2_init 62 = .ok (.newarray .int, 2) := dk_188_10 (dk_at dksX2_init_2 15 rfl rfl)
theorem dX2_init_64 : decode cX2_init 64 = .ok (.putfield 32, 3) := dk_181 0 32 (dk_at dksX2_init_2 17 rfl rfl)
theorem dX2_init_67 : decode cX2_init 67 = .ok (.aload_n 0, 1) := dk_42 (dk_at dksX2_init_2 20 rfl rfl)
theorem dX2_init_68 : decode cX2_init 68 = .ok (.sipush 330, 3) := dk_17 1 74 (dk_at dksX2_init_2 21 rfl rfl)
theorem dX2_init_71 : decode cX2_init 71 = .ok (.newarray .long, 2) := dk_188_11 (dk_at dksX2_init_3 0 rfl rfl)
theorem dX2_init_73 : decode cX2_init 73 = .ok (.putfield 35, 3) := dk_181 0 35 (dk_at dksX2_init_3 2 rfl rfl)
theorem dX2_init_76 : decode cX2_init 76 = .ok (.aload_n 0, 1) := dk_42 (dk_at dksX2_init_3 5 rfl rfl)
theorem dX2_init_77 : decode cX2_init 77 = .ok (.bipush 24, 2) := dk_16 24 (dk_at dksX2_init_3 6 rfl rfl)
theorem dX2_init_79 : decode cX2_init 79 = .ok (.newarray .int, 2) := dk_188_10 (dk_at dksX2_init_3 8 rfl rfl)
theorem dX2_init_81 : decode cX2_init 81 = .ok (.putfield 39, 3) := dk_181 0 39 (dk_at dksX2_init_3 10 rfl rfl)
theorem dX2_init_84 : decode cX2_init 84 = .ok (.aload_n 0, 1) := dk_42 (dk_at dksX2_init_3 13 rfl rfl)
theorem dX2_init_85 : decode cX2_init 85 = .ok (.bipush 6, 2) := dk_16 6 (dk_at dksX2_init_3 14 rfl rfl)
theorem dX2_init_87 : decode cX2_init 87 = .ok (.newarray .int, 2) := dk_188_10 (dk_at dksX2_init_3 16 rfl rfl)
theorem dX2_init_89 : decode cX2_init 89 = .ok (.putfield 42, 3) := dk_181 0 42 (dk_at dksX2_init_3 18 rfl rfl)
theorem dX2_init_92 : decode cX2_init 92 = .ok (.aload_n 0, 1) := dk_42 (dk_at dksX2_init_3 21 rfl rfl)
theorem dX2_init_93 : decode cX2_init 93 = .ok (.bipush 24, 2) := dk_16 24 (dk_at dksX2_init_3 22 rfl rfl)
theorem dX2_init_95 : decode cX2_init 95 = .ok (.newarray .int, 2) := dk_188_10 (dk_at dksX2_init_4 0 rfl rfl)
theorem dX2_init_97 : decode cX2_init 97 = .ok (.putfield 45, 3) := dk_181 0 45 (dk_at dksX2_init_4 2 rfl rfl)
theorem dX2_init_100 : decode cX2_init 100 = .ok (.aload_n 0, 1) := dk_42 (dk_at dksX2_init_4 5 rfl rfl)
theorem dX2_init_101 : decode cX2_init 101 = .ok (.bipush 6, 2) := dk_16 6 (dk_at dksX2_init_4 6 rfl rfl)
theorem dX2_init_103 : decode cX2_init 103 = .ok (.newarray .int, 2) := dk_188_10 (dk_at dksX2_init_4 8 rfl rfl)
theorem dX2_init_105 : decode cX2_init 105 = .ok (.putfield 48, 3) := dk_181 0 48 (dk_at dksX2_init_4 10 rfl rfl)
theorem dX2_init_108 : decode cX2_init 108 = .ok (.aload_n 0, 1) := dk_42 (dk_at dksX2_init_4 13 rfl rfl)
theorem dX2_init_109 : decode cX2_init 109 = .ok (.bipush 6, 2) := dk_16 6 (dk_at dksX2_init_4 14 rfl rfl)
theorem dX2_init_111 : decode cX2_init 111 = .ok (.newarray .int, 2) := dk_188_10 (dk_at dksX2_init_4 16 rfl rfl)
theorem dX2_init_113 : decode cX2_init 113 = .ok (.putfield 51, 3) := dk_181 0 51 (dk_at dksX2_init_4 18 rfl rfl)
theorem dX2_init_116 : decode cX2_init 116 = .ok (.aload_n 0, 1) := dk_42 (dk_at dksX2_init_4 21 rfl rfl)
theorem dX2_init_117 : decode cX2_init 117 = .ok (.bipush 36, 2) := dk_16 36 (dk_at dksX2_init_4 22 rfl rfl)
theorem dX2_init_119 : decode cX2_init 119 = .ok (.newarray .int, 2) := dk_188_10 (dk_at dksX2_init_5 0 rfl rfl)
theorem dX2_init_121 : decode cX2_init 121 = .ok (.putfield 54, 3) := dk_181 0 54 (dk_at dksX2_init_5 2 rfl rfl)
theorem dX2_init_124 : decode cX2_init 124 = .ok (.aload_n 0, 1) := dk_42 (dk_at dksX2_init_5 5 rfl rfl)
theorem dX2_init_125 : decode cX2_init 125 = .ok (.bipush 36, 2) := dk_16 36 (dk_at dksX2_init_5 6 rfl rfl)
theorem dX2_init_127 : decode cX2_init 127 = .ok (.newarray .int, 2) := dk_188_10 (dk_at dksX2_init_5 8 rfl rfl)
theorem dX2_init_129 : decode cX2_init 129 = .ok (.putfield 57, 3) := dk_181 0 57 (dk_at dksX2_init_5 10 rfl rfl)
theorem dX2_init_132 : decode cX2_init 132 = .ok (.aload_n 0, 1) := dk_42 (dk_at dksX2_init_5 13 rfl rfl)
theorem dX2_init_133 : decode cX2_init 133 = .ok (.bipush 6, 2) := dk_16 6 (dk_at dksX2_init_5 14 rfl rfl)
theorem dX2_init_135 : decode cX2_init 135 = .ok (.newarray .boolean, 2) := dk_188_4 (dk_at dksX2_init_5 16 rfl rfl)
theorem dX2_init_137 : decode cX2_init 137 = .ok (.putfield 60, 3) := dk_181 0 60 (dk_at dksX2_init_5 18 rfl rfl)
theorem dX2_init_140 : decode cX2_init 140 = .ok (.aload_n 0, 1) := dk_42 (dk_at dksX2_init_5 21 rfl rfl)
theorem dX2_init_141 : decode cX2_init 141 = .ok (.bipush 32, 2) := dk_16 32 (dk_at dksX2_init_5 22 rfl rfl)
theorem dX2_init_143 : decode cX2_init 143 = .ok (.newarray .int, 2) := dk_188_10 (dk_at dksX2_init_6 0 rfl rfl)
theorem dX2_init_145 : decode cX2_init 145 = .ok (.putfield 64, 3) := dk_181 0 64 (dk_at dksX2_init_6 2 rfl rfl)
theorem dX2_init_148 : decode cX2_init 148 = .ok (.aload_n 0, 1) := dk_42 (dk_at dksX2_init_6 5 rfl rfl)
theorem dX2_init_149 : decode cX2_init 149 = .ok (.iconst 4, 1) := dk_7 (dk_at dksX2_init_6 6 rfl rfl)
theorem dX2_init_150 : decode cX2_init 150 = .ok (.newarray .int, 2) := dk_188_10 (dk_at dksX2_init_6 7 rfl rfl)
theorem dX2_init_152 : decode cX2_init 152 = .ok (.putfield 67, 3) := dk_181 0 67 (dk_at dksX2_init_6 9 rfl rfl)
theorem dX2_init_155 : decode cX2_init 155 = .ok (.aload_n 0, 1) := dk_42 (dk_at dksX2_init_6 12 rfl rfl)
theorem dX2_init_156 : decode cX2_init 156 = .ok (.bipush 6, 2) := dk_16 6 (dk_at dksX2_init_6 13 rfl rfl)
theorem dX2_init_158 : decode cX2_init 158 = .ok (.newarray .int, 2) := dk_188_10 (dk_at dksX2_init_6 15 rfl rfl)
theorem dX2_init_160 : decode cX2_init 160 = .ok (.putfield 70, 3) := dk_181 0 70 (dk_at dksX2_init_6 17 rfl rfl)
theorem dX2_init_163 : decode cX2_init 163 = .ok (.aload_n 0, 1) := dk_42 (dk_at dksX2_init_6 20 rfl rfl)
theorem dX2_init_164 : decode cX2_init 164 = .ok (.bipush 17, 2) := dk_16 17 (dk_at dksX2_init_6 21 rfl rfl)
theorem dX2_init_166 : decode cX2_init 166 = .ok (.newarray .long, 2) := dk_188_11 (dk_at dksX2_init_7 0 rfl rfl)
theorem dX2_init_168 : decode cX2_init 168 = .ok (.putfield 73, 3) := dk_181 0 73 (dk_at dksX2_init_7 2 rfl rfl)
theorem dX2_init_171 : decode cX2_init 171 = .ok (.aload_n 0, 1) := dk_42 (dk_at dksX2_init_7 5 rfl rfl)
theorem dX2_init_172 : decode cX2_init 172 = .ok (.getfield 7, 3) := dk_180 0 7 (dk_at dksX2_init_7 6 rfl rfl)
theorem dX2_init_175 : decode cX2_init 175 = .ok (.iconst 3, 1) := dk_6 (dk_at dksX2_init_7 9 rfl rfl)
theorem dX2_init_176 : decode cX2_init 176 = .ok (.iconst 1, 1) := dk_4 (dk_at dksX2_init_7 10 rfl rfl)
theorem dX2_init_177 : decode cX2_init 177 = .ok (.iastore, 1) := dk_79 (dk_at dksX2_init_7 11 rfl rfl)
theorem dX2_init_178 : decode cX2_init 178 = .ok (.aload_n 0, 1) := dk_42 (dk_at dksX2_init_7 12 rfl rfl)
theorem dX2_init_179 : decode cX2_init 179 = .ok (.getfield 7, 3) := dk_180 0 7 (dk_at dksX2_init_7 13 rfl rfl)
theorem dX2_init_182 : decode cX2_init 182 = .ok (.iconst 5, 1) := dk_8 (dk_at dksX2_init_7 16 rfl rfl)
theorem dX2_init_183 : decode cX2_init 183 = .ok (.bipush 19, 2) := dk_16 19 (dk_at dksX2_init_7 17 rfl rfl)
theorem dX2_init_185 : decode cX2_init 185 = .ok (.iastore, 1) := dk_79 (dk_at dksX2_init_7 19 rfl rfl)
theorem dX2_init_186 : decode cX2_init 186 = .ok (.aload_n 0, 1) := dk_42 (dk_at dksX2_init_7 20 rfl rfl)
theorem dX2_init_187 : decode cX2_init 187 = .ok (.getfield 7, 3) := dk_180 0 7 (dk_at dksX2_init_7 21 rfl rfl)
theorem dX2_init_190 : decode cX2_init 190 = .ok (.bipush 7, 2) := dk_16 7 (dk_at dksX2_init_8 0 rfl rfl)
theorem dX2_init_192 : decode cX2_init 192 = .ok (.iconst (-1), 1) := dk_2 (dk_at dksX2_init_8 2 rfl rfl)
theorem dX2_init_193 : decode cX2_init 193 = .ok (.iastore, 1) := dk_79 (dk_at dksX2_init_8 3 rfl rfl)
theorem dX2_init_194 : decode cX2_init 194 = .ok (.aload_n 0, 1) := dk_42 (dk_at dksX2_init_8 4 rfl rfl)
theorem dX2_init_195 : decode cX2_init 195 = .ok (.getfield 7, 3) := dk_180 0 7 (dk_at dksX2_init_8 5 rfl rfl)
theorem dX2_init_198 : decode cX2_init 198 = .ok (.sipush 242, 3) := dk_17 0 242 (dk_at dksX2_init_8 8 rfl rfl)
theorem dX2_init_201 : decode cX2_init 201 = .ok (.iconst (-1), 1) := dk_2 (dk_at dksX2_init_8 11 rfl rfl)
theorem dX2_init_202 : decode cX2_init 202 = .ok (.iastore, 1) := dk_79 (dk_at dksX2_init_8 12 rfl rfl)
theorem dX2_init_203 : decode cX2_init 203 = .ok (.aload_n 0, 1) := dk_42 (dk_at dksX2_init_8 13 rfl rfl)
theorem dX2_init_204 : decode cX2_init 204 = .ok (.getfield 7, 3) := dk_180 0 7 (dk_at dksX2_init_8 14 rfl rfl)
theorem dX2_init_207 : decode cX2_init 207 = .ok (.aload_n 0, 1) := dk_42 (dk_at dksX2_init_8 17 rfl rfl)
theorem dX2_init_208 : decode cX2_init 208 = .ok (.getfield 13, 3) := dk_180 0 13 (dk_at dksX2_init_8 18 rfl rfl)
theorem dX2_init_211 : decode cX2_init 211 = .ok (.invokestatic 76, 3) := dk_184 0 76 (dk_at dksX2_init_8 21 rfl rfl)
theorem dX2_init_214 : decode cX2_init 214 = .ok (.return_, 1) := dk_177 (dk_at dksX2_init_9 0 rfl rfl)
abbrev cX2_copy : ByteArray := prog_15_method_2_code
def yX2_copy : MethodName := ⟨RX2, "copy", "([I[I)V"⟩
def dkwX2_copy_0 : List UInt8 := [3, 61, 28, 17, 21, 168, 162, 0, 15, 43, 28, 42, 28, 46, 79, 132, 2, 1, 167, 255, 240, 177]
abbrev dktX2_copy_0 : List UInt8 := dkwX2_copy_0 ++ []
theorem dksX2_copy_0 : cX2_copy.data.toList.drop 0 = dktX2_copy_0 := by decide +kernel
theorem dX2_copy_0 : decode cX2_copy 0 = .ok (.iconst 0, 1) := dk_3 (dk_at dksX2_copy_0 0 rfl rfl)
theorem dX2_copy_1 : decode cX2_copy 1 = .ok (.istore_n 2, 1) := dk_61 (dk_at dksX2_copy_0 1 rfl rfl)
theorem dX2_copy_2 : decode cX2_copy 2 = .ok (.iload_n 2, 1) := dk_28 (dk_at dksX2_copy_0 2 rfl rfl)
theorem dX2_copy_3 : decode cX2_copy 3 = .ok (.sipush 5544, 3) := dk_17 21 168 (dk_at dksX2_copy_0 3 rfl rfl)
theorem dX2_copy_6 : decode cX2_copy 6 = .ok (.if_icmp .ge 15, 3) := dk_162 0 15 (dk_at dksX2_copy_0 6 rfl rfl)
theorem dX2_copy_9 : decode cX2_copy 9 = .ok (.aload_n 1, 1) := dk_43 (dk_at dksX2_copy_0 9 rfl rfl)
theorem dX2_copy_10 : decode cX2_copy 10 = .ok (.iload_n 2, 1) := dk_28 (dk_at dksX2_copy_0 10 rfl rfl)
theorem dX2_copy_11 : decode cX2_copy 11 = .ok (.aload_n 0, 1) := dk_42 (dk_at dksX2_copy_0 11 rfl rfl)
theorem dX2_copy_12 : decode cX2_copy 12 = .ok (.iload_n 2, 1) := dk_28 (dk_at dksX2_copy_0 12 rfl rfl)
theorem dX2_copy_13 : decode cX2_copy 13 = .ok (.iaload, 1) := dk_46 (dk_at dksX2_copy_0 13 rfl rfl)
theorem dX2_copy_14 : decode cX2_copy 14 = .ok (.iastore, 1) := dk_79 (dk_at dksX2_copy_0 14 rfl rfl)
theorem dX2_copy_15 : decode cX2_copy 15 = .ok (.iinc 2 1, 3) := dk_132 2 1 (dk_at dksX2_copy_0 15 rfl rfl)
theorem dX2_copy_18 : decode cX2_copy 18 = .ok (.goto (-16), 3) := dk_167 255 240 (dk_at dksX2_copy_0 18 rfl rfl)
theorem dX2_copy_21 : decode cX2_copy 21 = .ok (.return_, 1) := dk_177 (dk_at dksX2_copy_0 21 rfl rfl)
abbrev cX2_heart : ByteArray := prog_15_method_13_code
def yX2_heart : MethodName := ⟨RX2, "heart", "(I)I"⟩
def dkwX2_heart_4 : List UInt8 := [79, 28, 172]
abbrev dktX2_heart_4 : List UInt8 := dkwX2_heart_4 ++ []
def dkwX2_heart_3 : List UInt8 := [16, 6, 29, 104, 96, 28, 96, 3, 79, 132, 3, 1, 167, 255, 217, 42, 180, 0, 7, 3, 92, 46, 4, 96]
abbrev dktX2_heart_3 : List UInt8 := dkwX2_heart_3 ++ dktX2_heart_4
def dkwX2_heart_2 : List UInt8 := [162, 0, 39, 42, 180, 0, 7, 16, 18, 16, 6, 28, 104, 96, 29, 96, 3, 79, 42, 180, 0, 7, 16, 18]
abbrev dktX2_heart_2 : List UInt8 := dkwX2_heart_2 ++ dktX2_heart_3
def dkwX2_heart_1 : List UInt8 := [42, 180, 0, 7, 3, 46, 61, 42, 180, 0, 7, 16, 12, 28, 96, 27, 79, 3, 62, 29, 16, 6]
abbrev dktX2_heart_1 : List UInt8 := dkwX2_heart_1 ++ dktX2_heart_2
def dkwX2_heart_0 : List UInt8 := [27, 3, 17, 3, 231, 184, 0, 80, 153, 0, 14, 42, 180, 0, 7, 3, 46, 16, 6, 160, 0, 5, 2, 172]
abbrev dktX2_heart_0 : List UInt8 := dkwX2_heart_0 ++ dktX2_heart_1
theorem dksX2_heart_0 : cX2_heart.data.toList.drop 0 = dktX2_heart_0 := by decide +kernel
theorem dksX2_heart_1 : cX2_heart.data.toList.drop 24 = dktX2_heart_1 := dk_seg dksX2_heart_0 24 rfl rfl
theorem dksX2_heart_2 : cX2_heart.data.toList.drop 46 = dktX2_heart_2 := dk_seg dksX2_heart_1 22 rfl rfl
theorem dksX2_heart_3 : cX2_heart.data.toList.drop 70 = dktX2_heart_3 := dk_seg dksX2_heart_2 24 rfl rfl
theorem dksX2_heart_4 : cX2_heart.data.toList.drop 94 = dktX2_heart_4 := dk_seg dksX2_heart_3 24 rfl rfl
theorem dX2_heart_0 : decode cX2_heart 0 = .ok (.iload_n 1, 1) := dk_27 (dk_at dksX2_heart_0 0 rfl rfl)
theorem dX2_heart_1 : decode cX2_heart 1 = .ok (.iconst 0, 1) := dk_3 (dk_at dksX2_heart_0 1 rfl rfl)
theorem dX2_heart_2 : decode cX2_heart 2 = .ok (.sipush 999, 3) := dk_17 3 231 (dk_at dksX2_heart_0 2 rfl rfl)
theorem dX2_heart_5 : decode cX2_heart 5 = .ok (.invokestatic 80, 3) := dk_184 0 80 (dk_at dksX2_heart_0 5 rfl rfl)
theorem dX2_heart_8 : decode cX2_heart 8 = .ok (.ifCond .eq 14, 3) := dk_153 0 14 (dk_at dksX2_heart_0 8 rfl rfl)
theorem dX2_heart_11 : decode cX2_heart 11 = .ok (.aload_n 0, 1) := dk_42 (dk_at dksX2_heart_0 11 rfl rfl)
theorem dX2_heart_12 : decode cX2_heart 12 = .ok (.getfield 7, 3) := dk_180 0 7 (dk_at dksX2_heart_0 12 rfl rfl)
theorem dX2_heart_15 : decode cX2_heart 15 = .ok (.iconst 0, 1) := dk_3 (dk_at dksX2_heart_0 15 rfl rfl)
theorem dX2_heart_16 : decode cX2_heart 16 = .ok (.iaload, 1) := dk_46 (dk_at dksX2_heart_0 16 rfl rfl)
theorem dX2_heart_17 : decode cX2_heart 17 = .ok (.bipush 6, 2) := dk_16 6 (dk_at dksX2_heart_0 17 rfl rfl)
theorem dX2_heart_19 : decode cX2_heart 19 = .ok (.if_icmp .ne 5, 3) := dk_160 0 5 (dk_at dksX2_heart_0 19 rfl rfl)
theorem dX2_heart_22 : decode cX2_heart 22 = .ok (.iconst (-1), 1) := dk_2 (dk_at dksX2_heart_0 22 rfl rfl)
theorem dX2_heart_23 : decode cX2_heart 23 = .ok (.ireturn, 1) := dk_172 (dk_at dksX2_heart_0 23 rfl rfl)
theorem dX2_heart_24 : decode cX2_heart 24 = .ok (.aload_n 0, 1) := dk_42 (dk_at dksX2_heart_1 0 rfl rfl)
theorem dX2_heart_25 : decode cX2_heart 25 = .ok (.getfield 7, 3) := dk_180 0 7 (dk_at dksX2_heart_1 1 rfl rfl)
theorem dX2_heart_28 : decode cX2_heart 28 = .ok (.iconst 0, 1) := dk_3 (dk_at dksX2_heart_1 4 rfl rfl)
theorem dX2_heart_29 : decode cX2_heart 29 = .ok (.iaload, 1) := dk_46 (dk_at dksX2_heart_1 5 rfl rfl)
theorem dX2_heart_30 : decode cX2_heart 30 = .ok (.istore_n 2, 1) := dk_61 (dk_at dksX2_heart_1 6 rfl rfl)
theorem dX2_heart_31 : decode cX2_heart 31 = .ok (.aload_n 0, 1) := dk_42 (dk_at dksX2_heart_1 7 rfl rfl)
theorem dX2_heart_32 : decode cX2_heart 32 = .ok (.getfield 7, 3) := dk_180 0 7 (dk_at dksX2_heart_1 8 rfl rfl)
theorem dX2_heart_35 : decode cX2_heart 35 = .ok (.bipush 12, 2) := dk_16 12 (dk_at dksX2_heart_1 11 rfl rfl)
theorem dX2_heart_37 : decode cX2_heart 37 = .ok (.iload_n 2, 1) := dk_28 (dk_at dksX2_heart_1 13 rfl rfl)
theorem dX2_heart_38 : decode cX2_heart 38 = .ok (.iadd, 1) := dk_96 (dk_at dksX2_heart_1 14 rfl rfl)
theorem dX2_heart_39 : decode cX2_heart 39 = .ok (.iload_n 1, 1) := dk_27 (dk_at dksX2_heart_1 15 rfl rfl)
theorem dX2_heart_40 : decode cX2_heart 40 = .ok (.iastore, 1) := dk_79 (dk_at dksX2_heart_1 16 rfl rfl)
theorem dX2_heart_41 : decode cX2_heart 41 = .ok (.iconst 0, 1) := dk_3 (dk_at dksX2_heart_1 17 rfl rfl)
theorem dX2_heart_42 : decode cX2_heart 42 = .ok (.istore_n 3, 1) := dk_62 (dk_at dksX2_heart_1 18 rfl rfl)
theorem dX2_heart_43 : decode cX2_heart 43 = .ok (.iload_n 3, 1) := dk_29 (dk_at dksX2_heart_1 19 rfl rfl)
theorem dX2_heart_44 : decode cX2_heart 44 = .ok (.bipush 6, 2) := dk_16 6 (dk_at dksX2_heart_1 20 rfl rfl)
theorem dX2_heart_46 : decode cX2_heart 46 = .ok (.if_icmp .ge 39, 3) := dk_162 0 39 (dk_at dksX2_heart_2 0 rfl rfl)
theorem dX2_heart_49 : decode cX2_heart 49 = .ok (.aload_n 0, 1) := dk_42 (dk_at dksX2_heart_2 3 rfl rfl)
theorem dX2_heart_50 : decode cX2_heart 50 = .ok (.getfield 7, 3) := dk_180 0 7 (dk_at dksX2_heart_2 4 rfl rfl)
theorem dX2_heart_53 : decode cX2_heart 53 = .ok (.bipush 18, 2) := dk_16 18 (dk_at dksX2_heart_2 7 rfl rfl)
theorem dX2_heart_55 : decode cX2_heart 55 = .ok (.bipush 6, 2) := dk_16 6 (dk_at dksX2_heart_2 9 rfl rfl)
theorem dX2_heart_57 : decode cX2_heart 57 = .ok (.iload_n 2, 1) := dk_28 (dk_at dksX2_heart_2 11 rfl rfl)
theorem dX2_heart_58 : decode cX2_heart 58 = .ok (.imul, 1) := dk_104 (dk_at dksX2_heart_2 12 rfl rfl)
theorem dX2_heart_59 : decode cX2_heart 59 = .ok (.iadd, 1) := dk_96 (dk_at dksX2_heart_2 13 rfl rfl)
theorem dX2_heart_60 : decode cX2_heart 60 = .ok (.iload_n 3, 1) := dk_29 (dk_at dksX2_heart_2 14 rfl rfl)
theorem dX2_heart_61 : decode cX2_heart 61 = .ok (.iadd, 1) := dk_96 (dk_at dksX2_heart_2 15 rfl rfl)
theorem dX2_heart_62 : decode cX2_heart 62 = .ok (.iconst 0, 1) := dk_3 (dk_at dksX2_heart_2 16 rfl rfl)
theorem dX2_heart_63 : decode cX2_heart 63 = .ok (.iastore, 1) := dk_79 (dk_at dksX2_heart_2 17 rfl rfl)
theorem dX2_heart_64 : decode cX2_heart 64 = .ok (.aload_n 0, 1) := dk_42 (dk_at dksX2_heart_2 18 rfl rfl)
theorem dX2_heart_65 : decode cX2_heart 65 = .ok (.getfield 7, 3) := dk_180 0 7 (dk_at dksX2_heart_2 19 rfl rfl)
theorem dX2_heart_68 : decode cX2_heart 68 = .ok (.bipush 18, 2) := dk_16 18 (dk_at dksX2_heart_2 22 rfl rfl)
theorem dX2_heart_70 : decode cX2_heart 70 = .ok (.bipush 6, 2) := dk_16 6 (dk_at dksX2_heart_3 0 rfl rfl)
theorem dX2_heart_72 : decode cX2_heart 72 = .ok (.iload_n 3, 1) := dk_29 (dk_at dksX2_heart_3 2 rfl rfl)
theorem dX2_heart_73 : decode cX2_heart 73 = .ok (.imul, 1) := dk_104 (dk_at dksX2_heart_3 3 rfl rfl)
theorem dX2_heart_74 : decode cX2_heart 74 = .ok (.iadd, 1) := dk_96 (dk_at dksX2_heart_3 4 rfl rfl)
theorem dX2_heart_75 : decode cX2_heart 75 = .ok (.iload_n 2, 1) := dk_28 (dk_at dksX2_heart_3 5 rfl rfl)
theorem dX2_heart_76 : decode cX2_heart 76 = .ok (.iadd, 1) := dk_96 (dk_at dksX2_heart_3 6 rfl rfl)
theorem dX2_heart_77 : decode cX2_heart 77 = .ok (.iconst 0, 1) := dk_3 (dk_at dksX2_heart_3 7 rfl rfl)
theorem dX2_heart_78 : decode cX2_heart 78 = .ok (.iastore, 1) := dk_79 (dk_at dksX2_heart_3 8 rfl rfl)
theorem dX2_heart_79 : decode cX2_heart 79 = .ok (.iinc 3 1, 3) := dk_132 3 1 (dk_at dksX2_heart_3 9 rfl rfl)
theorem dX2_heart_82 : decode cX2_heart 82 = .ok (.goto (-39), 3) := dk_167 255 217 (dk_at dksX2_heart_3 12 rfl rfl)
theorem dX2_heart_85 : decode cX2_heart 85 = .ok (.aload_n 0, 1) := dk_42 (dk_at dksX2_heart_3 15 rfl rfl)
theorem dX2_heart_86 : decode cX2_heart 86 = .ok (.getfield 7, 3) := dk_180 0 7 (dk_at dksX2_heart_3 16 rfl rfl)
theorem dX2_heart_89 : decode cX2_heart 89 = .ok (.iconst 0, 1) := dk_3 (dk_at dksX2_heart_3 19 rfl rfl)
theorem dX2_heart_90 : decode cX2_heart 90 = .ok (.dup2, 1) := dk_92 (dk_at dksX2_heart_3 20 rfl rfl)
theorem dX2_heart_91 : decode cX2_heart 91 = .ok (.iaload, 1) := dk_46 (dk_at dksX2_heart_3 21 rfl rfl)
theorem dX2_heart_92 : decode cX2_heart 92 = .ok (.iconst 1, 1) := dk_4 (dk_at dksX2_heart_3 22 rfl rfl)
theorem dX2_heart_93 : decode cX2_heart 93 = .ok (.iadd, 1) := dk_96 (dk_at dksX2_heart_3 23 rfl rfl)
theorem dX2_heart_94 : decode cX2_heart 94 = .ok (.iastore, 1) := dk_79 (dk_at dksX2_heart_4 0 rfl rfl)
theorem dX2_heart_95 : decode cX2_heart 95 = .ok (.iload_n 2, 1) := dk_28 (dk_at dksX2_heart_4 1 rfl rfl)
theorem dX2_heart_96 : decode cX2_heart 96 = .ok (.ireturn, 1) := dk_172 (dk_at dksX2_heart_4 2 rfl rfl)
abbrev cX2_isIn : ByteArray := prog_15_method_3_code
def yX2_isIn : MethodName := ⟨RX2, "isIn", "(III)Z"⟩
def dkwX2_isIn_0 : List UInt8 := [26, 27, 161, 0, 12, 26, 28, 163, 0, 7, 4, 167, 0, 4, 3, 172]
abbrev dktX2_isIn_0 : List UInt8 := dkwX2_isIn_0 ++ []
theorem dksX2_isIn_0 : cX2_isIn.data.toList.drop 0 = dktX2_isIn_0 := by decide +kernel
theorem dX2_isIn_0 : decode cX2_isIn 0 = .ok (.iload_n 0, 1) := dk_26 (dk_at dksX2_isIn_0 0 rfl rfl)
theorem dX2_isIn_1 : decode cX2_isIn 1 = .ok (.iload_n 1, 1) := dk_27 (dk_at dksX2_isIn_0 1 rfl rfl)
theorem dX2_isIn_2 : decode cX2_isIn 2 = .ok (.if_icmp .lt 12, 3) := dk_161 0 12 (dk_at dksX2_isIn_0 2 rfl rfl)
theorem dX2_isIn_5 : decode cX2_isIn 5 = .ok (.iload_n 0, 1) := dk_26 (dk_at dksX2_isIn_0 5 rfl rfl)
theorem dX2_isIn_6 : decode cX2_isIn 6 = .ok (.iload_n 2, 1) := dk_28 (dk_at dksX2_isIn_0 6 rfl rfl)
theorem dX2_isIn_7 : decode cX2_isIn 7 = .ok (.if_icmp .gt 7, 3) := dk_163 0 7 (dk_at dksX2_isIn_0 7 rfl rfl)
theorem dX2_isIn_10 : decode cX2_isIn 10 = .ok (.iconst 1, 1) := dk_4 (dk_at dksX2_isIn_0 10 rfl rfl)
theorem dX2_isIn_11 : decode cX2_isIn 11 = .ok (.goto 4, 3) := dk_167 0 4 (dk_at dksX2_isIn_0 11 rfl rfl)
theorem dX2_isIn_14 : decode cX2_isIn 14 = .ok (.iconst 0, 1) := dk_3 (dk_at dksX2_isIn_0 14 rfl rfl)
theorem dX2_isIn_15 : decode cX2_isIn 15 = .ok (.ireturn, 1) := dk_172 (dk_at dksX2_isIn_0 15 rfl rfl)
abbrev cX2_deed : ByteArray := prog_15_method_14_code
def yX2_deed : MethodName := ⟨RX2, "deed", "(IIIII)I"⟩
def dkwX2_deed_7 : List UInt8 := [46, 4, 100, 172]
abbrev dktX2_deed_7 : List UInt8 := dkwX2_deed_7 ++ []
def dkwX2_deed_6 : List UInt8 := [180, 0, 7, 21, 6, 8, 96, 3, 79, 42, 180, 0, 7, 4, 92, 46, 4, 96, 79, 42, 180, 0, 7, 4]
abbrev dktX2_deed_6 : List UInt8 := dkwX2_deed_6 ++ dktX2_deed_7
def dkwX2_deed_5 : List UInt8 := [42, 180, 0, 7, 21, 6, 6, 96, 21, 4, 79, 42, 180, 0, 7, 21, 6, 7, 96, 21, 5, 79, 42]
abbrev dktX2_deed_5 : List UInt8 := dkwX2_deed_5 ++ dktX2_deed_6
def dkwX2_deed_4 : List UInt8 := [21, 6, 27, 79, 42, 180, 0, 7, 21, 6, 4, 96, 28, 79, 42, 180, 0, 7, 21, 6, 5, 96, 29, 79]
abbrev dktX2_deed_4 : List UInt8 := dkwX2_deed_4 ++ dktX2_deed_5
def dkwX2_deed_3 : List UInt8 := [160, 0, 5, 2, 172, 16, 90, 16, 6, 42, 180, 0, 7, 4, 46, 104, 96, 54, 6, 42, 180, 0, 7]
abbrev dktX2_deed_3 : List UInt8 := dkwX2_deed_3 ++ dktX2_deed_4
def dkwX2_deed_2 : List UInt8 := [21, 5, 182, 0, 88, 153, 0, 20, 21, 5, 27, 159, 0, 14, 42, 180, 0, 7, 4, 46, 16, 24]
abbrev dktX2_deed_2 : List UInt8 := dkwX2_deed_2 ++ dktX2_deed_3
def dkwX2_deed_1 : List UInt8 := [184, 0, 80, 153, 0, 46, 21, 4, 3, 16, 7, 184, 0, 80, 153, 0, 35, 21, 5, 2, 159, 0, 18, 42]
abbrev dktX2_deed_1 : List UInt8 := dkwX2_deed_1 ++ dktX2_deed_2
def dkwX2_deed_0 : List UInt8 := [42, 27, 182, 0, 88, 153, 0, 66, 28, 3, 16, 9, 184, 0, 80, 153, 0, 56, 29, 3, 16, 99]
abbrev dktX2_deed_0 : List UInt8 := dkwX2_deed_0 ++ dktX2_deed_1
theorem dksX2_deed_0 : cX2_deed.data.toList.drop 0 = dktX2_deed_0 := by decide +kernel
theorem dksX2_deed_1 : cX2_deed.data.toList.drop 22 = dktX2_deed_1 := dk_seg dksX2_deed_0 22 rfl rfl
theorem dksX2_deed_2 : cX2_deed.data.toList.drop 46 = dktX2_deed_2 := dk_seg dksX2_deed_1 24 rfl rfl
theorem dksX2_deed_3 : cX2_deed.data.toList.drop 68 = dktX2_deed_3 := dk_seg dksX2_deed_2 22 rfl rfl
theorem dksX2_deed_4 : cX2_deed.data.toList.drop 91 = dktX2_deed_4 := dk_seg dksX2_deed_3 23 rfl rfl
theorem dksX2_deed_5 : cX2_deed.data.toList.drop 115 = dktX2_deed_5 := dk_seg dksX2_deed_4 24 rfl rfl
theorem dksX2_deed_6 : cX2_deed.data.toList.drop 138 = dktX2_deed_6 := dk_seg dksX2_deed_5 23 rfl rfl
theorem dksX2_deed_7 : cX2_deed.data.toList.drop 162 = dktX2_deed_7 := dk_seg dksX2_deed_6 24 rfl rfl
theorem dX2_deed_0 : decode cX2_deed 0 = .ok (.aload_n 0, 1) := dk_42 (dk_at dksX2_deed_0 0 rfl rfl)
theorem dX2_deed_1 : decode cX2_deed 1 = .ok (.iload_n 1, 1) := dk_27 (dk_at dksX2_deed_0 1 rfl rfl)
theorem dX2_deed_2 : decode cX2_deed 2 = .ok (.invokevirtual 88, 3) := dk_182 0 88 (dk_at dksX2_deed_0 2 rfl rfl)
theorem dX2_deed_5 : decode cX2_deed 5 = .ok (.ifCond .eq 66, 3) := dk_153 0 66 (dk_at dksX2_deed_0 5 rfl rfl)
theorem dX2_deed_8 : decode cX2_deed 8 = .ok (.iload_n 2, 1) := dk_28 (dk_at dksX2_deed_0 8 rfl rfl)
theorem dX2_deed_9 : decode cX2_deed 9 = .ok (.iconst 0, 1) := dk_3 (dk_at dksX2_deed_0 9 rfl rfl)
theorem dX2_deed_10 : decode cX2_deed 10 = .ok (.bipush 9, 2) := dk_16 9 (dk_at dksX2_deed_0 10 rfl rfl)
theorem dX2_deed_12 : decode cX2_deed 12 = .ok (.invokestatic 80, 3) := dk_184 0 80 (dk_at dksX2_deed_0 12 rfl rfl)
theorem dX2_deed_15 : decode cX2_deed 15 = .ok (.ifCond .eq 56, 3) := dk_153 0 56 (dk_at dksX2_deed_0 15 rfl rfl)
theorem dX2_deed_18 : decode cX2_deed 18 = .ok (.iload_n 3, 1) := dk_29 (dk_at dksX2_deed_0 18 rfl rfl)
theorem dX2_deed_19 : decode cX2_deed 19 = .ok (.iconst 0, 1) := dk_3 (dk_at dksX2_deed_0 19 rfl rfl)
theorem dX2_deed_20 : decode cX2_deed 20 = .ok (.bipush 99, 2) := dk_16 99 (dk_at dksX2_deed_0 20 rfl rfl)
theorem dX2_deed_22 : decode cX2_deed 22 = .ok (.invokestatic 80, 3) := dk_184 0 80 (dk_at dksX2_deed_1 0 rfl rfl)
theorem dX2_deed_25 : decode cX2_deed 25 = .ok (.ifCond .eq 46, 3) := dk_153 0 46 (dk_at dksX2_deed_1 3 rfl rfl)
theorem dX2_deed_28 : decode cX2_deed 28 = .ok (.iload 4, 2) := dk_21 4 (dk_at dksX2_deed_1 6 rfl rfl)
theorem dX2_deed_30 : decode cX2_deed 30 = .ok (.iconst 0, 1) := dk_3 (dk_at dksX2_deed_1 8 rfl rfl)
theorem dX2_deed_31 : decode cX2_deed 31 = .ok (.bipush 7, 2) := dk_16 7 (dk_at dksX2_deed_1 9 rfl rfl)
theorem dX2_deed_33 : decode cX2_deed 33 = .ok (.invokestatic 80, 3) := dk_184 0 80 (dk_at dksX2_deed_1 11 rfl rfl)
theorem dX2_deed_36 : decode cX2_deed 36 = .ok (.ifCond .eq 35, 3) := dk_153 0 35 (dk_at dksX2_deed_1 14 rfl rfl)
theorem dX2_deed_39 : decode cX2_deed 39 = .ok (.iload 5, 2) := dk_21 5 (dk_at dksX2_deed_1 17 rfl rfl)
theorem dX2_deed_41 : decode cX2_deed 41 = .ok (.iconst (-1), 1) := dk_2 (dk_at dksX2_deed_1 19 rfl rfl)
theorem dX2_deed_42 : decode cX2_deed 42 = .ok (.if_icmp .eq 18, 3) := dk_159 0 18 (dk_at dksX2_deed_1 20 rfl rfl)
theorem dX2_deed_45 : decode cX2_deed 45 = .ok (.aload_n 0, 1) := dk_42 (dk_at dksX2_deed_1 23 rfl rfl)
theorem dX2_deed_46 : decode cX2_deed 46 = .ok (.iload 5, 2) := dk_21 5 (dk_at dksX2_deed_2 0 rfl rfl)
theorem dX2_deed_48 : decode cX2_deed 48 = .ok (.invokevirtual 88, 3) := dk_182 0 88 (dk_at dksX2_deed_2 2 rfl rfl)
theorem dX2_deed_51 : decode cX2_deed 51 = .ok (.ifCond .eq 20, 3) := dk_153 0 20 (dk_at dksX2_deed_2 5 rfl rfl)
theorem dX2_deed_54 : decode cX2_deed 54 = .ok (.iload 5, 2) := dk_21 5 (dk_at dksX2_deed_2 8 rfl rfl)
theorem dX2_deed_56 : decode cX2_deed 56 = .ok (.iload_n 1, 1) := dk_27 (dk_at dksX2_deed_2 10 rfl rfl)
theorem dX2_deed_57 : decode cX2_deed 57 = .ok (.if_icmp .eq 14, 3) := dk_159 0 14 (dk_at dksX2_deed_2 11 rfl rfl)
theorem dX2_deed_60 : decode cX2_deed 60 = .ok (.aload_n 0, 1) := dk_42 (dk_at dksX2_deed_2 14 rfl rfl)
theorem dX2_deed_61 : decode cX2_deed 61 = .ok (.getfield 7, 3) := dk_180 0 7 (dk_at dksX2_deed_2 15 rfl rfl)
theorem dX2_deed_64 : decode cX2_deed 64 = .ok (.iconst 1, 1) := dk_4 (dk_at dksX2_deed_2 18 rfl rfl)
theorem dX2_deed_65 : decode cX2_deed 65 = .ok (.iaload, 1) := dk_46 (dk_at dksX2_deed_2 19 rfl rfl)
theorem dX2_deed_66 : decode cX2_deed 66 = .ok (.bipush 24, 2) := dk_16 24 (dk_at dksX2_deed_2 20 rfl rfl)
theorem dX2_deed_68 : decode cX2_deed 68 = .ok (.if_icmp .ne 5, 3) := dk_160 0 5 (dk_at dksX2_deed_3 0 rfl rfl)
theorem dX2_deed_71 : decode cX2_deed 71 = .ok (.iconst (-1), 1) := dk_2 (dk_at dksX2_deed_3 3 rfl rfl)
theorem dX2_deed_72 : decode cX2_deed 72 = .ok (.ireturn, 1) := dk_172 (dk_at dksX2_deed_3 4 rfl rfl)
theorem dX2_deed_73 : decode cX2_deed 73 = .ok (.bipush 90, 2) := dk_16 90 (dk_at dksX2_deed_3 5 rfl rfl)
theorem dX2_deed_75 : decode cX2_deed 75 = .ok (.bipush 6, 2) := dk_16 6 (dk_at dksX2_deed_3 7 rfl rfl)
theorem dX2_deed_77 : decode cX2_deed 77 = .ok (.aload_n 0, 1) := dk_42 (dk_at dksX2_deed_3 9 rfl rfl)
theorem dX2_deed_78 : decode cX2_deed 78 = .ok (.getfield 7, 3) := dk_180 0 7 (dk_at dksX2_deed_3 10 rfl rfl)
theorem dX2_deed_81 : decode cX2_deed 81 = .ok (.iconst 1, 1) := dk_4 (dk_at dksX2_deed_3 13 rfl rfl)
theorem dX2_deed_82 : decode cX2_deed 82 = .ok (.iaload, 1) := dk_46 (dk_at dksX2_deed_3 14 rfl rfl)
theorem dX2_deed_83 : decode cX2_deed 83 = .ok (.imul, 1) := dk_104 (dk_at dksX2_deed_3 15 rfl rfl)
theorem dX2_deed_84 : decode cX2_deed 84 = .ok (.iadd, 1) := dk_96 (dk_at dksX2_deed_3 16 rfl rfl)
theorem dX2_deed_85 : decode cX2_deed 85 = .ok (.istore 6, 2) := dk_54 6 (dk_at dksX2_deed_3 17 rfl rfl)
theorem dX2_deed_87 : decode cX2_deed 87 = .ok (.aload_n 0, 1) := dk_42 (dk_at dksX2_deed_3 19 rfl rfl)
theorem dX2_deed_88 : decode cX2_deed 88 = .ok (.getfield 7, 3) := dk_180 0 7 (dk_at dksX2_deed_3 20 rfl rfl)
theorem dX2_deed_91 : decode cX2_deed 91 = .ok (.iload 6, 2) := dk_21 6 (dk_at dksX2_deed_4 0 rfl rfl)
theorem dX2_deed_93 : decode cX2_deed 93 = .ok (.iload_n 1, 1) := dk_27 (dk_at dksX2_deed_4 2 rfl rfl)
theorem dX2_deed_94 : decode cX2_deed 94 = .ok (.iastore, 1) := dk_79 (dk_at dksX2_deed_4 3 rfl rfl)
theorem dX2_deed_95 : decode cX2_deed 95 = .ok (.aload_n 0, 1) := dk_42 (dk_at dksX2_deed_4 4 rfl rfl)
theorem dX2_deed_96 : decode cX2_deed 96 = .ok (.getfield 7, 3) := dk_180 0 7 (dk_at dksX2_deed_4 5 rfl rfl)
theorem dX2_deed_99 : decode cX2_deed 99 = .ok (.iload 6, 2) := dk_21 6 (dk_at dksX2_deed_4 8 rfl rfl)
theorem dX2_deed_101 : decode cX2_deed 101 = .ok (.iconst 1, 1) := dk_4 (dk_at dksX2_deed_4 10 rfl rfl)
theorem dX2_deed_102 : decode cX2_deed 102 = .ok (.iadd, 1) := dk_96 (dk_at dksX2_deed_4 11 rfl rfl)
theorem dX2_deed_103 : decode cX2_deed 103 = .ok (.iload_n 2, 1) := dk_28 (dk_at dksX2_deed_4 12 rfl rfl)
theorem dX2_deed_104 : decode cX2_deed 104 = .ok (.iastore, 1) := dk_79 (dk_at dksX2_deed_4 13 rfl rfl)
theorem dX2_deed_105 : decode cX2_deed 105 = .ok (.aload_n 0, 1) := dk_42 (dk_at dksX2_deed_4 14 rfl rfl)
theorem dX2_deed_106 : decode cX2_deed 106 = .ok (.getfield 7, 3) := dk_180 0 7 (dk_at dksX2_deed_4 15 rfl rfl)
theorem dX2_deed_109 : decode cX2_deed 109 = .ok (.iload 6, 2) := dk_21 6 (dk_at dksX2_deed_4 18 rfl rfl)
theorem dX2_deed_111 : decode cX2_deed 111 = .ok (.iconst 2, 1) := dk_5 (dk_at dksX2_deed_4 20 rfl rfl)
theorem dX2_deed_112 : decode cX2_deed 112 = .ok (.iadd, 1) := dk_96 (dk_at dksX2_deed_4 21 rfl rfl)
theorem dX2_deed_113 : decode cX2_deed 113 = .ok (.iload_n 3, 1) := dk_29 (dk_at dksX2_deed_4 22 rfl rfl)
theorem dX2_deed_114 : decode cX2_deed 114 = .ok (.iastore, 1) := dk_79 (dk_at dksX2_deed_4 23 rfl rfl)
theorem dX2_deed_115 : decode cX2_deed 115 = .ok (.aload_n 0, 1) := dk_42 (dk_at dksX2_deed_5 0 rfl rfl)
theorem dX2_deed_116 : decode cX2_deed 116 = .ok (.getfield 7, 3) := dk_180 0 7 (dk_at dksX2_deed_5 1 rfl rfl)
theorem dX2_deed_119 : decode cX2_deed 119 = .ok (.iload 6, 2) := dk_21 6 (dk_at dksX2_deed_5 4 rfl rfl)
theorem dX2_deed_121 : decode cX2_deed 121 = .ok (.iconst 3, 1) := dk_6 (dk_at dksX2_deed_5 6 rfl rfl)
theorem dX2_deed_122 : decode cX2_deed 122 = .ok (.iadd, 1) := dk_96 (dk_at dksX2_deed_5 7 rfl rfl)
theorem dX2_deed_123 : decode cX2_deed 123 = .ok (.iload 4, 2) := dk_21 4 (dk_at dksX2_deed_5 8 rfl rfl)
theorem dX2_deed_125 : decode cX2_deed 125 = .ok (.iastore, 1) := dk_79 (dk_at dksX2_deed_5 10 rfl rfl)
theorem dX2_deed_126 : decode cX2_deed 126 = .ok (.aload_n 0, 1) := dk_42 (dk_at dksX2_deed_5 11 rfl rfl)
theorem dX2_deed_127 : decode cX2_deed 127 = .ok (.getfield 7, 3) := dk_180 0 7 (dk_at dksX2_deed_5 12 rfl rfl)
theorem dX2_deed_130 : decode cX2_deed 130 = .ok (.iload 6, 2) := dk_21 6 (dk_at dksX2_deed_5 15 rfl rfl)
theorem dX2_deed_132 : decode cX2_deed 132 = .ok (.iconst 4, 1) := dk_7 (dk_at dksX2_deed_5 17 rfl rfl)
theorem dX2_deed_133 : decode cX2_deed 133 = .ok (.iadd, 1) := dk_96 (dk_at dksX2_deed_5 18 rfl rfl)
theorem dX2_deed_134 : decode cX2_deed 134 = .ok (.iload 5, 2) := dk_21 5 (dk_at dksX2_deed_5 19 rfl rfl)
theorem dX2_deed_136 : decode cX2_deed 136 = .ok (.iastore, 1) := dk_79 (dk_at dksX2_deed_5 21 rfl rfl)
theorem dX2_deed_137 : decode cX2_deed 137 = .ok (.aload_n 0, 1) := dk_42 (dk_at dksX2_deed_5 22 rfl rfl)
theorem dX2_deed_138 : decode cX2_deed 138 = .ok (.getfield 7, 3) := dk_180 0 7 (dk_at dksX2_deed_6 0 rfl rfl)
theorem dX2_deed_141 : decode cX2_deed 141 = .ok (.iload 6, 2) := dk_21 6 (dk_at dksX2_deed_6 3 rfl rfl)
theorem dX2_deed_143 : decode cX2_deed 143 = .ok (.iconst 5, 1) := dk_8 (dk_at dksX2_deed_6 5 rfl rfl)
theorem dX2_deed_144 : decode cX2_deed 144 = .ok (.iadd, 1) := dk_96 (dk_at dksX2_deed_6 6 rfl rfl)
theorem dX2_deed_145 : decode cX2_deed 145 = .ok (.iconst 0, 1) := dk_3 (dk_at dksX2_deed_6 7 rfl rfl)
theorem dX2_deed_146 : decode cX2_deed 146 = .ok (.iastore, 1) := dk_79 (dk_at dksX2_deed_6 8 rfl rfl)
theorem dX2_deed_147 : decode cX2_deed 147 = .ok (.aload_n 0, 1) := dk_42 (dk_at dksX2_deed_6 9 rfl rfl)
theorem dX2_deed_148 : decode cX2_deed 148 = .ok (.getfield 7, 3) := dk_180 0 7 (dk_at dksX2_deed_6 10 rfl rfl)
theorem dX2_deed_151 : decode cX2_deed 151 = .ok (.iconst 1, 1) := dk_4 (dk_at dksX2_deed_6 13 rfl rfl)
theorem dX2_deed_152 : decode cX2_deed 152 = .ok (.dup2, 1) := dk_92 (dk_at dksX2_deed_6 14 rfl rfl)
theorem dX2_deed_153 : decode cX2_deed 153 = .ok (.iaload, 1) := dk_46 (dk_at dksX2_deed_6 15 rfl rfl)
theorem dX2_deed_154 : decode cX2_deed 154 = .ok (.iconst 1, 1) := dk_4 (dk_at dksX2_deed_6 16 rfl rfl)
theorem dX2_deed_155 : decode cX2_deed 155 = .ok (.iadd, 1) := dk_96 (dk_at dksX2_deed_6 17 rfl rfl)
theorem dX2_deed_156 : decode cX2_deed 156 = .ok (.iastore, 1) := dk_79 (dk_at dksX2_deed_6 18 rfl rfl)
theorem dX2_deed_157 : decode cX2_deed 157 = .ok (.aload_n 0, 1) := dk_42 (dk_at dksX2_deed_6 19 rfl rfl)
theorem dX2_deed_158 : decode cX2_deed 158 = .ok (.getfield 7, 3) := dk_180 0 7 (dk_at dksX2_deed_6 20 rfl rfl)
theorem dX2_deed_161 : decode cX2_deed 161 = .ok (.iconst 1, 1) := dk_4 (dk_at dksX2_deed_6 23 rfl rfl)
theorem dX2_deed_162 : decode cX2_deed 162 = .ok (.iaload, 1) := dk_46 (dk_at dksX2_deed_7 0 rfl rfl)
theorem dX2_deed_163 : decode cX2_deed 163 = .ok (.iconst 1, 1) := dk_4 (dk_at dksX2_deed_7 1 rfl rfl)
theorem dX2_deed_164 : decode cX2_deed 164 = .ok (.isub, 1) := dk_100 (dk_at dksX2_deed_7 2 rfl rfl)
theorem dX2_deed_165 : decode cX2_deed 165 = .ok (.ireturn, 1) := dk_172 (dk_at dksX2_deed_7 3 rfl rfl)
abbrev cX2_isHeart : ByteArray := prog_15_method_6_code
def yX2_isHeart : MethodName := ⟨RX2, "isHeart", "(I)Z"⟩
def dkwX2_isHeart_0 : List UInt8 := [27, 3, 42, 180, 0, 7, 3, 46, 4, 100, 184, 0, 80, 172]
abbrev dktX2_isHeart_0 : List UInt8 := dkwX2_isHeart_0 ++ []
theorem dksX2_isHeart_0 : cX2_isHeart.data.toList.drop 0 = dktX2_isHeart_0 := by decide +kernel
theorem dX2_isHeart_0 : decode cX2_isHeart 0 = .ok (.iload_n 1, 1) := dk_27 (dk_at dksX2_isHeart_0 0 rfl rfl)
theorem dX2_isHeart_1 : decode cX2_isHeart 1 = .ok (.iconst 0, 1) := dk_3 (dk_at dksX2_isHeart_0 1 rfl rfl)
theorem dX2_isHeart_2 : decode cX2_isHeart 2 = .ok (.aload_n 0, 1) := dk_42 (dk_at dksX2_isHeart_0 2 rfl rfl)
theorem dX2_isHeart_3 : decode cX2_isHeart 3 = .ok (.getfield 7, 3) := dk_180 0 7 (dk_at dksX2_isHeart_0 3 rfl rfl)
theorem dX2_isHeart_6 : decode cX2_isHeart 6 = .ok (.iconst 0, 1) := dk_3 (dk_at dksX2_isHeart_0 6 rfl rfl)
theorem dX2_isHeart_7 : decode cX2_isHeart 7 = .ok (.iaload, 1) := dk_46 (dk_at dksX2_isHeart_0 7 rfl rfl)
theorem dX2_isHeart_8 : decode cX2_isHeart 8 = .ok (.iconst 1, 1) := dk_4 (dk_at dksX2_isHeart_0 8 rfl rfl)
theorem dX2_isHeart_9 : decode cX2_isHeart 9 = .ok (.isub, 1) := dk_100 (dk_at dksX2_isHeart_0 9 rfl rfl)
theorem dX2_isHeart_10 : decode cX2_isHeart 10 = .ok (.invokestatic 80, 3) := dk_184 0 80 (dk_at dksX2_isHeart_0 10 rfl rfl)
theorem dX2_isHeart_13 : decode cX2_isHeart 13 = .ok (.ireturn, 1) := dk_172 (dk_at dksX2_isHeart_0 13 rfl rfl)
abbrev cX2_witness : ByteArray := prog_15_method_15_code
def yX2_witness : MethodName := ⟨RX2, "witness", "(II)Z"⟩
def dkwX2_witness_1 : List UInt8 := [16, 6, 27, 104, 96, 8, 96, 28, 79, 4, 172]
abbrev dktX2_witness_1 : List UInt8 := dkwX2_witness_1 ++ []
def dkwX2_witness_0 : List UInt8 := [42, 27, 182, 0, 92, 153, 0, 11, 42, 28, 182, 0, 95, 154, 0, 5, 3, 172, 42, 180, 0, 7, 16, 90]
abbrev dktX2_witness_0 : List UInt8 := dkwX2_witness_0 ++ dktX2_witness_1
theorem dksX2_witness_0 : cX2_witness.data.toList.drop 0 = dktX2_witness_0 := by decide +kernel
theorem dksX2_witness_1 : cX2_witness.data.toList.drop 24 = dktX2_witness_1 := dk_seg dksX2_witness_0 24 rfl rfl
theorem dX2_witness_0 : decode cX2_witness 0 = .ok (.aload_n 0, 1) := dk_42 (dk_at dksX2_witness_0 0 rfl rfl)
theorem dX2_witness_1 : decode cX2_witness 1 = .ok (.iload_n 1, 1) := dk_27 (dk_at dksX2_witness_0 1 rfl rfl)
theorem dX2_witness_2 : decode cX2_witness 2 = .ok (.invokevirtual 92, 3) := dk_182 0 92 (dk_at dksX2_witness_0 2 rfl rfl)
theorem dX2_witness_5 : decode cX2_witness 5 = .ok (.ifCond .eq 11, 3) := dk_153 0 11 (dk_at dksX2_witness_0 5 rfl rfl)
theorem dX2_witness_8 : decode cX2_witness 8 = .ok (.aload_n 0, 1) := dk_42 (dk_at dksX2_witness_0 8 rfl rfl)
theorem dX2_witness_9 : decode cX2_witness 9 = .ok (.iload_n 2, 1) := dk_28 (dk_at dksX2_witness_0 9 rfl rfl)
theorem dX2_witness_10 : decode cX2_witness 10 = .ok (.invokevirtual 95, 3) := dk_182 0 95 (dk_at dksX2_witness_0 10 rfl rfl)
theorem dX2_witness_13 : decode cX2_witness 13 = .ok (.ifCond .ne 5, 3) := dk_154 0 5 (dk_at dksX2_witness_0 13 rfl rfl)
theorem dX2_witness_16 : decode cX2_witness 16 = .ok (.iconst 0, 1) := dk_3 (dk_at dksX2_witness_0 16 rfl rfl)
theorem dX2_witness_17 : decode cX2_witness 17 = .ok (.ireturn, 1) := dk_172 (dk_at dksX2_witness_0 17 rfl rfl)
theorem dX2_witness_18 : decode cX2_witness 18 = .ok (.aload_n 0, 1) := dk_42 (dk_at dksX2_witness_0 18 rfl rfl)
theorem dX2_witness_19 : decode cX2_witness 19 = .ok (.getfield 7, 3) := dk_180 0 7 (dk_at dksX2_witness_0 19 rfl rfl)
theorem dX2_witness_22 : decode cX2_witness 22 = .ok (.bipush 90, 2) := dk_16 90 (dk_at dksX2_witness_0 22 rfl rfl)
theorem dX2_witness_24 : decode cX2_witness 24 = .ok (.bipush 6, 2) := dk_16 6 (dk_at dksX2_witness_1 0 rfl rfl)
theorem dX2_witness_26 : decode cX2_witness 26 = .ok (.iload_n 1, 1) := dk_27 (dk_at dksX2_witness_1 2 rfl rfl)
theorem dX2_witness_27 : decode cX2_witness 27 = .ok (.imul, 1) := dk_104 (dk_at dksX2_witness_1 3 rfl rfl)
theorem dX2_witness_28 : decode cX2_witness 28 = .ok (.iadd, 1) := dk_96 (dk_at dksX2_witness_1 4 rfl rfl)
theorem dX2_witness_29 : decode cX2_witness 29 = .ok (.iconst 5, 1) := dk_8 (dk_at dksX2_witness_1 5 rfl rfl)
theorem dX2_witness_30 : decode cX2_witness 30 = .ok (.iadd, 1) := dk_96 (dk_at dksX2_witness_1 6 rfl rfl)
theorem dX2_witness_31 : decode cX2_witness 31 = .ok (.iload_n 2, 1) := dk_28 (dk_at dksX2_witness_1 7 rfl rfl)
theorem dX2_witness_32 : decode cX2_witness 32 = .ok (.iastore, 1) := dk_79 (dk_at dksX2_witness_1 8 rfl rfl)
theorem dX2_witness_33 : decode cX2_witness 33 = .ok (.iconst 1, 1) := dk_4 (dk_at dksX2_witness_1 9 rfl rfl)
theorem dX2_witness_34 : decode cX2_witness 34 = .ok (.ireturn, 1) := dk_172 (dk_at dksX2_witness_1 10 rfl rfl)
abbrev cX2_isDeed : ByteArray := prog_15_method_7_code
def yX2_isDeed : MethodName := ⟨RX2, "isDeed", "(I)Z"⟩
def dkwX2_isDeed_0 : List UInt8 := [27, 3, 42, 180, 0, 7, 4, 46, 4, 100, 184, 0, 80, 172]
abbrev dktX2_isDeed_0 : List UInt8 := dkwX2_isDeed_0 ++ []
theorem dksX2_isDeed_0 : cX2_isDeed.data.toList.drop 0 = dktX2_isDeed_0 := by decide +kernel
theorem dX2_isDeed_0 : decode cX2_isDeed 0 = .ok (.iload_n 1, 1) := dk_27 (dk_at dksX2_isDeed_0 0 rfl rfl)
theorem dX2_isDeed_1 : decode cX2_isDeed 1 = .ok (.iconst 0, 1) := dk_3 (dk_at dksX2_isDeed_0 1 rfl rfl)
theorem dX2_isDeed_2 : decode cX2_isDeed 2 = .ok (.aload_n 0, 1) := dk_42 (dk_at dksX2_isDeed_0 2 rfl rfl)
theorem dX2_isDeed_3 : decode cX2_isDeed 3 = .ok (.getfield 7, 3) := dk_180 0 7 (dk_at dksX2_isDeed_0 3 rfl rfl)
theorem dX2_isDeed_6 : decode cX2_isDeed 6 = .ok (.iconst 1, 1) := dk_4 (dk_at dksX2_isDeed_0 6 rfl rfl)
theorem dX2_isDeed_7 : decode cX2_isDeed 7 = .ok (.iaload, 1) := dk_46 (dk_at dksX2_isDeed_0 7 rfl rfl)
theorem dX2_isDeed_8 : decode cX2_isDeed 8 = .ok (.iconst 1, 1) := dk_4 (dk_at dksX2_isDeed_0 8 rfl rfl)
theorem dX2_isDeed_9 : decode cX2_isDeed 9 = .ok (.isub, 1) := dk_100 (dk_at dksX2_isDeed_0 9 rfl rfl)
theorem dX2_isDeed_10 : decode cX2_isDeed 10 = .ok (.invokestatic 80, 3) := dk_184 0 80 (dk_at dksX2_isDeed_0 10 rfl rfl)
theorem dX2_isDeed_13 : decode cX2_isDeed 13 = .ok (.ireturn, 1) := dk_172 (dk_at dksX2_isDeed_0 13 rfl rfl)
abbrev cX2_areHearts : ByteArray := prog_15_method_9_code
def yX2_areHearts : MethodName := ⟨RX2, "areHearts", "(I)Z"⟩
def dkwX2_areHearts_0 : List UInt8 := [27, 3, 4, 42, 180, 0, 7, 3, 46, 120, 4, 100, 184, 0, 80, 172]
abbrev dktX2_areHearts_0 : List UInt8 := dkwX2_areHearts_0 ++ []
theorem dksX2_areHearts_0 : cX2_areHearts.data.toList.drop 0 = dktX2_areHearts_0 := by decide +kernel
theorem dX2_areHearts_0 : decode cX2_areHearts 0 = .ok (.iload_n 1, 1) := dk_27 (dk_at dksX2_areHearts_0 0 rfl rfl)
theorem dX2_areHearts_1 : decode cX2_areHearts 1 = .ok (.iconst 0, 1) := dk_3 (dk_at dksX2_areHearts_0 1 rfl rfl)
theorem dX2_areHearts_2 : decode cX2_areHearts 2 = .ok (.iconst 1, 1) := dk_4 (dk_at dksX2_areHearts_0 2 rfl rfl)
theorem dX2_areHearts_3 : decode cX2_areHearts 3 = .ok (.aload_n 0, 1) := dk_42 (dk_at dksX2_areHearts_0 3 rfl rfl)
theorem dX2_areHearts_4 : decode cX2_areHearts 4 = .ok (.getfield 7, 3) := dk_180 0 7 (dk_at dksX2_areHearts_0 4 rfl rfl)
theorem dX2_areHearts_7 : decode cX2_areHearts 7 = .ok (.iconst 0, 1) := dk_3 (dk_at dksX2_areHearts_0 7 rfl rfl)
theorem dX2_areHearts_8 : decode cX2_areHearts 8 = .ok (.iaload, 1) := dk_46 (dk_at dksX2_areHearts_0 8 rfl rfl)
theorem dX2_areHearts_9 : decode cX2_areHearts 9 = .ok (.ishl, 1) := dk_120 (dk_at dksX2_areHearts_0 9 rfl rfl)
theorem dX2_areHearts_10 : decode cX2_areHearts 10 = .ok (.iconst 1, 1) := dk_4 (dk_at dksX2_areHearts_0 10 rfl rfl)
theorem dX2_areHearts_11 : decode cX2_areHearts 11 = .ok (.isub, 1) := dk_100 (dk_at dksX2_areHearts_0 11 rfl rfl)
theorem dX2_areHearts_12 : decode cX2_areHearts 12 = .ok (.invokestatic 80, 3) := dk_184 0 80 (dk_at dksX2_areHearts_0 12 rfl rfl)
theorem dX2_areHearts_15 : decode cX2_areHearts 15 = .ok (.ireturn, 1) := dk_172 (dk_at dksX2_areHearts_0 15 rfl rfl)
abbrev cX2_judge : ByteArray := prog_15_method_16_code
def yX2_judge : MethodName := ⟨RX2, "judge", "(I)I"⟩
def dkwX2_judge_2 : List UInt8 := [96, 79, 42, 180, 0, 7, 5, 46, 4, 100, 172]
abbrev dktX2_judge_2 : List UInt8 := dkwX2_judge_2 ++ []
def dkwX2_judge_1 : List UInt8 := [42, 180, 0, 7, 17, 0, 234, 42, 180, 0, 7, 5, 46, 96, 27, 79, 42, 180, 0, 7, 5, 92, 46, 4]
abbrev dktX2_judge_1 : List UInt8 := dkwX2_judge_1 ++ dktX2_judge_2
def dkwX2_judge_0 : List UInt8 := [27, 4, 17, 3, 255, 184, 0, 80, 153, 0, 14, 42, 180, 0, 7, 5, 46, 16, 8, 160, 0, 5, 2, 172]
abbrev dktX2_judge_0 : List UInt8 := dkwX2_judge_0 ++ dktX2_judge_1
theorem dksX2_judge_0 : cX2_judge.data.toList.drop 0 = dktX2_judge_0 := by decide +kernel
theorem dksX2_judge_1 : cX2_judge.data.toList.drop 24 = dktX2_judge_1 := dk_seg dksX2_judge_0 24 rfl rfl
theorem dksX2_judge_2 : cX2_judge.data.toList.drop 48 = dktX2_judge_2 := dk_seg dksX2_judge_1 24 rfl rfl
theorem dX2_judge_0 : decode cX2_judge 0 = .ok (.iload_n 1, 1) := dk_27 (dk_at dksX2_judge_0 0 rfl rfl)
theorem dX2_judge_1 : decode cX2_judge 1 = .ok (.iconst 1, 1) := dk_4 (dk_at dksX2_judge_0 1 rfl rfl)
theorem dX2_judge_2 : decode cX2_judge 2 = .ok (.sipush 1023, 3) := dk_17 3 255 (dk_at dksX2_judge_0 2 rfl rfl)
theorem dX2_judge_5 : decode cX2_judge 5 = .ok (.invokestatic 80, 3) := dk_184 0 80 (dk_at dksX2_judge_0 5 rfl rfl)
theorem dX2_judge_8 : decode cX2_judge 8 = .ok (.ifCond .eq 14, 3) := dk_153 0 14 (dk_at dksX2_judge_0 8 rfl rfl)
theorem dX2_judge_11 : decode cX2_judge 11 = .ok (.aload_n 0, 1) := dk_42 (dk_at dksX2_judge_0 11 rfl rfl)
theorem dX2_judge_12 : decode cX2_judge 12 = .ok (.getfield 7, 3) := dk_180 0 7 (dk_at dksX2_judge_0 12 rfl rfl)
theorem dX2_judge_15 : decode cX2_judge 15 = .ok (.iconst 2, 1) := dk_5 (dk_at dksX2_judge_0 15 rfl rfl)
theorem dX2_judge_16 : decode cX2_judge 16 = .ok (.iaload, 1) := dk_46 (dk_at dksX2_judge_0 16 rfl rfl)
theorem dX2_judge_17 : decode cX2_judge 17 = .ok (.bipush 8, 2) := dk_16 8 (dk_at dksX2_judge_0 17 rfl rfl)
theorem dX2_judge_19 : decode cX2_judge 19 = .ok (.if_icmp .ne 5, 3) := dk_160 0 5 (dk_at dksX2_judge_0 19 rfl rfl)
theorem dX2_judge_22 : decode cX2_judge 22 = .ok (.iconst (-1), 1) := dk_2 (dk_at dksX2_judge_0 22 rfl rfl)
theorem dX2_judge_23 : decode cX2_judge 23 = .ok (.ireturn, 1) := dk_172 (dk_at dksX2_judge_0 23 rfl rfl)
theorem dX2_judge_24 : decode cX2_judge 24 = .ok (.aload_n 0, 1) := dk_42 (dk_at dksX2_judge_1 0 rfl rfl)
theorem dX2_judge_25 : decode cX2_judge 25 = .ok (.getfield 7, 3) := dk_180 0 7 (dk_at dksX2_judge_1 1 rfl rfl)
theorem dX2_judge_28 : decode cX2_judge 28 = .ok (.sipush 234, 3) := dk_17 0 234 (dk_at dksX2_judge_1 4 rfl rfl)
theorem dX2_judge_31 : decode cX2_judge 31 = .ok (.aload_n 0, 1) := dk_42 (dk_at dksX2_judge_1 7 rfl rfl)
theorem dX2_judge_32 : decode cX2_judge 32 = .ok (.getfield 7, 3) := dk_180 0 7 (dk_at dksX2_judge_1 8 rfl rfl)
theorem dX2_judge_35 : decode cX2_judge 35 = .ok (.iconst 2, 1) := dk_5 (dk_at dksX2_judge_1 11 rfl rfl)
theorem dX2_judge_36 : decode cX2_judge 36 = .ok (.iaload, 1) := dk_46 (dk_at dksX2_judge_1 12 rfl rfl)
theorem dX2_judge_37 : decode cX2_judge 37 = .ok (.iadd, 1) := dk_96 (dk_at dksX2_judge_1 13 rfl rfl)
theorem dX2_judge_38 : decode cX2_judge 38 = .ok (.iload_n 1, 1) := dk_27 (dk_at dksX2_judge_1 14 rfl rfl)
theorem dX2_judge_39 : decode cX2_judge 39 = .ok (.iastore, 1) := dk_79 (dk_at dksX2_judge_1 15 rfl rfl)
theorem dX2_judge_40 : decode cX2_judge 40 = .ok (.aload_n 0, 1) := dk_42 (dk_at dksX2_judge_1 16 rfl rfl)
theorem dX2_judge_41 : decode cX2_judge 41 = .ok (.getfield 7, 3) := dk_180 0 7 (dk_at dksX2_judge_1 17 rfl rfl)
theorem dX2_judge_44 : decode cX2_judge 44 = .ok (.iconst 2, 1) := dk_5 (dk_at dksX2_judge_1 20 rfl rfl)
theorem dX2_judge_45 : decode cX2_judge 45 = .ok (.dup2, 1) := dk_92 (dk_at dksX2_judge_1 21 rfl rfl)
theorem dX2_judge_46 : decode cX2_judge 46 = .ok (.iaload, 1) := dk_46 (dk_at dksX2_judge_1 22 rfl rfl)
theorem dX2_judge_47 : decode cX2_judge 47 = .ok (.iconst 1, 1) := dk_4 (dk_at dksX2_judge_1 23 rfl rfl)
theorem dX2_judge_48 : decode cX2_judge 48 = .ok (.iadd, 1) := dk_96 (dk_at dksX2_judge_2 0 rfl rfl)
theorem dX2_judge_49 : decode cX2_judge 49 = .ok (.iastore, 1) := dk_79 (dk_at dksX2_judge_2 1 rfl rfl)
theorem dX2_judge_50 : decode cX2_judge 50 = .ok (.aload_n 0, 1) := dk_42 (dk_at dksX2_judge_2 2 rfl rfl)
theorem dX2_judge_51 : decode cX2_judge 51 = .ok (.getfield 7, 3) := dk_180 0 7 (dk_at dksX2_judge_2 3 rfl rfl)
theorem dX2_judge_54 : decode cX2_judge 54 = .ok (.iconst 2, 1) := dk_5 (dk_at dksX2_judge_2 6 rfl rfl)
theorem dX2_judge_55 : decode cX2_judge 55 = .ok (.iaload, 1) := dk_46 (dk_at dksX2_judge_2 7 rfl rfl)
theorem dX2_judge_56 : decode cX2_judge 56 = .ok (.iconst 1, 1) := dk_4 (dk_at dksX2_judge_2 8 rfl rfl)
theorem dX2_judge_57 : decode cX2_judge 57 = .ok (.isub, 1) := dk_100 (dk_at dksX2_judge_2 9 rfl rfl)
theorem dX2_judge_58 : decode cX2_judge 58 = .ok (.ireturn, 1) := dk_172 (dk_at dksX2_judge_2 10 rfl rfl)
abbrev cX2_stick : ByteArray := prog_15_method_17_code
def yX2_stick : MethodName := ⟨RX2, "stick", "(I)Z"⟩
def dkwX2_stick_0 : List UInt8 := [27, 3, 16, 99, 184, 0, 80, 154, 0, 5, 3, 172, 42, 180, 0, 7, 6, 27, 79, 4, 172]
abbrev dktX2_stick_0 : List UInt8 := dkwX2_stick_0 ++ []
theorem dksX2_stick_0 : cX2_stick.data.toList.drop 0 = dktX2_stick_0 := by decide +kernel
theorem dX2_stick_0 : decode cX2_stick 0 = .ok (.iload_n 1, 1) := dk_27 (dk_at dksX2_stick_0 0 rfl rfl)
theorem dX2_stick_1 : decode cX2_stick 1 = .ok (.iconst 0, 1) := dk_3 (dk_at dksX2_stick_0 1 rfl rfl)
theorem dX2_stick_2 : decode cX2_stick 2 = .ok (.bipush 99, 2) := dk_16 99 (dk_at dksX2_stick_0 2 rfl rfl)
theorem dX2_stick_4 : decode cX2_stick 4 = .ok (.invokestatic 80, 3) := dk_184 0 80 (dk_at dksX2_stick_0 4 rfl rfl)
theorem dX2_stick_7 : decode cX2_stick 7 = .ok (.ifCond .ne 5, 3) := dk_154 0 5 (dk_at dksX2_stick_0 7 rfl rfl)
theorem dX2_stick_10 : decode cX2_stick 10 = .ok (.iconst 0, 1) := dk_3 (dk_at dksX2_stick_0 10 rfl rfl)
theorem dX2_stick_11 : decode cX2_stick 11 = .ok (.ireturn, 1) := dk_172 (dk_at dksX2_stick_0 11 rfl rfl)
theorem dX2_stick_12 : decode cX2_stick 12 = .ok (.aload_n 0, 1) := dk_42 (dk_at dksX2_stick_0 12 rfl rfl)
theorem dX2_stick_13 : decode cX2_stick 13 = .ok (.getfield 7, 3) := dk_180 0 7 (dk_at dksX2_stick_0 13 rfl rfl)
theorem dX2_stick_16 : decode cX2_stick 16 = .ok (.iconst 3, 1) := dk_6 (dk_at dksX2_stick_0 16 rfl rfl)
theorem dX2_stick_17 : decode cX2_stick 17 = .ok (.iload_n 1, 1) := dk_27 (dk_at dksX2_stick_0 17 rfl rfl)
theorem dX2_stick_18 : decode cX2_stick 18 = .ok (.iastore, 1) := dk_79 (dk_at dksX2_stick_0 18 rfl rfl)
theorem dX2_stick_19 : decode cX2_stick 19 = .ok (.iconst 1, 1) := dk_4 (dk_at dksX2_stick_0 19 rfl rfl)
theorem dX2_stick_20 : decode cX2_stick 20 = .ok (.ireturn, 1) := dk_172 (dk_at dksX2_stick_0 20 rfl rfl)
abbrev cX2_bond : ByteArray := prog_15_method_18_code
def yX2_bond : MethodName := ⟨RX2, "bond", "(III)Z"⟩
def dkwX2_bond_2 : List UInt8 := [79, 4, 172]
abbrev dktX2_bond_2 : List UInt8 := dkwX2_bond_2 ++ []
def dkwX2_bond_1 : List UInt8 := [16, 99, 184, 0, 80, 154, 0, 5, 3, 172, 42, 180, 0, 7, 16, 54, 16, 6, 27, 104, 96, 28, 96, 29]
abbrev dktX2_bond_1 : List UInt8 := dkwX2_bond_1 ++ dktX2_bond_2
def dkwX2_bond_0 : List UInt8 := [42, 27, 182, 0, 88, 153, 0, 26, 42, 28, 182, 0, 88, 153, 0, 18, 27, 28, 159, 0, 13, 29, 3]
abbrev dktX2_bond_0 : List UInt8 := dkwX2_bond_0 ++ dktX2_bond_1
theorem dksX2_bond_0 : cX2_bond.data.toList.drop 0 = dktX2_bond_0 := by decide +kernel
theorem dksX2_bond_1 : cX2_bond.data.toList.drop 23 = dktX2_bond_1 := dk_seg dksX2_bond_0 23 rfl rfl
theorem dksX2_bond_2 : cX2_bond.data.toList.drop 47 = dktX2_bond_2 := dk_seg dksX2_bond_1 24 rfl rfl
theorem dX2_bond_0 : decode cX2_bond 0 = .ok (.aload_n 0, 1) := dk_42 (dk_at dksX2_bond_0 0 rfl rfl)
theorem dX2_bond_1 : decode cX2_bond 1 = .ok (.iload_n 1, 1) := dk_27 (dk_at dksX2_bond_0 1 rfl rfl)
theorem dX2_bond_2 : decode cX2_bond 2 = .ok (.invokevirtual 88, 3) := dk_182 0 88 (dk_at dksX2_bond_0 2 rfl rfl)
theorem dX2_bond_5 : decode cX2_bond 5 = .ok (.ifCond .eq 26, 3) := dk_153 0 26 (dk_at dksX2_bond_0 5 rfl rfl)
theorem dX2_bond_8 : decode cX2_bond 8 = .ok (.aload_n 0, 1) := dk_42 (dk_at dksX2_bond_0 8 rfl rfl)
theorem dX2_bond_9 : decode cX2_bond 9 = .ok (.iload_n 2, 1) := dk_28 (dk_at dksX2_bond_0 9 rfl rfl)
theorem dX2_bond_10 : decode cX2_bond 10 = .ok (.invokevirtual 88, 3) := dk_182 0 88 (dk_at dksX2_bond_0 10 rfl rfl)
theorem dX2_bond_13 : decode cX2_bond 13 = .ok (.ifCond .eq 18, 3) := dk_153 0 18 (dk_at dksX2_bond_0 13 rfl rfl)
theorem dX2_bond_16 : decode cX2_bond 16 = .ok (.iload_n 1, 1) := dk_27 (dk_at dksX2_bond_0 16 rfl rfl)
theorem dX2_bond_17 : decode cX2_bond 17 = .ok (.iload_n 2, 1) := dk_28 (dk_at dksX2_bond_0 17 rfl rfl)
theorem dX2_bond_18 : decode cX2_bond 18 = .ok (.if_icmp .eq 13, 3) := dk_159 0 13 (dk_at dksX2_bond_0 18 rfl rfl)
theorem dX2_bond_21 : decode cX2_bond 21 = .ok (.iload_n 3, 1) := dk_29 (dk_at dksX2_bond_0 21 rfl rfl)
theorem dX2_bond_22 : decode cX2_bond 22 = .ok (.iconst 0, 1) := dk_3 (dk_at dksX2_bond_0 22 rfl rfl)
theorem dX2_bond_23 : decode cX2_bond 23 = .ok (.bipush 99, 2) := dk_16 99 (dk_at dksX2_bond_1 0 rfl rfl)
theorem dX2_bond_25 : decode cX2_bond 25 = .ok (.invokestatic 80, 3) := dk_184 0 80 (dk_at dksX2_bond_1 2 rfl rfl)
theorem dX2_bond_28 : decode cX2_bond 28 = .ok (.ifCond .ne 5, 3) := dk_154 0 5 (dk_at dksX2_bond_1 5 rfl rfl)
theorem dX2_bond_31 : decode cX2_bond 31 = .ok (.iconst 0, 1) := dk_3 (dk_at dksX2_bond_1 8 rfl rfl)
theorem dX2_bond_32 : decode cX2_bond 32 = .ok (.ireturn, 1) := dk_172 (dk_at dksX2_bond_1 9 rfl rfl)
theorem dX2_bond_33 : decode cX2_bond 33 = .ok (.aload_n 0, 1) := dk_42 (dk_at dksX2_bond_1 10 rfl rfl)
theorem dX2_bond_34 : decode cX2_bond 34 = .ok (.getfield 7, 3) := dk_180 0 7 (dk_at dksX2_bond_1 11 rfl rfl)
theorem dX2_bond_37 : decode cX2_bond 37 = .ok (.bipush 54, 2) := dk_16 54 (dk_at dksX2_bond_1 14 rfl rfl)
theorem dX2_bond_39 : decode cX2_bond 39 = .ok (.bipush 6, 2) := dk_16 6 (dk_at dksX2_bond_1 16 rfl rfl)
theorem dX2_bond_41 : decode cX2_bond 41 = .ok (.iload_n 1, 1) := dk_27 (dk_at dksX2_bond_1 18 rfl rfl)
theorem dX2_bond_42 : decode cX2_bond 42 = .ok (.imul, 1) := dk_104 (dk_at dksX2_bond_1 19 rfl rfl)
theorem dX2_bond_43 : decode cX2_bond 43 = .ok (.iadd, 1) := dk_96 (dk_at dksX2_bond_1 20 rfl rfl)
theorem dX2_bond_44 : decode cX2_bond 44 = .ok (.iload_n 2, 1) := dk_28 (dk_at dksX2_bond_1 21 rfl rfl)
theorem dX2_bond_45 : decode cX2_bond 45 = .ok (.iadd, 1) := dk_96 (dk_at dksX2_bond_1 22 rfl rfl)
theorem dX2_bond_46 : decode cX2_bond 46 = .ok (.iload_n 3, 1) := dk_29 (dk_at dksX2_bond_1 23 rfl rfl)
theorem dX2_bond_47 : decode cX2_bond 47 = .ok (.iastore, 1) := dk_79 (dk_at dksX2_bond_2 0 rfl rfl)
theorem dX2_bond_48 : decode cX2_bond 48 = .ok (.iconst 1, 1) := dk_4 (dk_at dksX2_bond_2 1 rfl rfl)
theorem dX2_bond_49 : decode cX2_bond 49 = .ok (.ireturn, 1) := dk_172 (dk_at dksX2_bond_2 2 rfl rfl)
abbrev cX2_feed : ByteArray := prog_15_method_20_code
def yX2_feed : MethodName := ⟨RX2, "feed", "(IIIII)I"⟩
def dkwX2_feed_2 : List UInt8 := [172]
abbrev dktX2_feed_2 : List UInt8 := dkwX2_feed_2 ++ []
def dkwX2_feed_1 : List UInt8 := [182, 0, 101, 42, 29, 182, 0, 101, 42, 21, 4, 182, 0, 101, 42, 21, 5, 182, 0, 101, 42, 180, 0, 98]
abbrev dktX2_feed_1 : List UInt8 := dkwX2_feed_1 ++ dktX2_feed_2
def dkwX2_feed_0 : List UInt8 := [42, 180, 0, 98, 16, 20, 96, 17, 1, 44, 164, 0, 5, 2, 172, 42, 27, 182, 0, 101, 42, 28]
abbrev dktX2_feed_0 : List UInt8 := dkwX2_feed_0 ++ dktX2_feed_1
theorem dksX2_feed_0 : cX2_feed.data.toList.drop 0 = dktX2_feed_0 := by decide +kernel
theorem dksX2_feed_1 : cX2_feed.data.toList.drop 22 = dktX2_feed_1 := dk_seg dksX2_feed_0 22 rfl rfl
theorem dksX2_feed_2 : cX2_feed.data.toList.drop 46 = dktX2_feed_2 := dk_seg dksX2_feed_1 24 rfl rfl
theorem dX2_feed_0 : decode cX2_feed 0 = .ok (.aload_n 0, 1) := dk_42 (dk_at dksX2_feed_0 0 rfl rfl)
theorem dX2_feed_1 : decode cX2_feed 1 = .ok (.getfield 98, 3) := dk_180 0 98 (dk_at dksX2_feed_0 1 rfl rfl)
theorem dX2_feed_4 : decode cX2_feed 4 = .ok (.bipush 20, 2) := dk_16 20 (dk_at dksX2_feed_0 4 rfl rfl)
theorem dX2_feed_6 : decode cX2_feed 6 = .ok (.iadd, 1) := dk_96 (dk_at dksX2_feed_0 6 rfl rfl)
theorem dX2_feed_7 : decode cX2_feed 7 = .ok (.sipush 300, 3) := dk_17 1 44 (dk_at dksX2_feed_0 7 rfl rfl)
theorem dX2_feed_10 : decode cX2_feed 10 = .ok (.if_icmp .le 5, 3) := dk_164 0 5 (dk_at dksX2_feed_0 10 rfl rfl)
theorem dX2_feed_13 : decode cX2_feed 13 = .ok (.iconst (-1), 1) := dk_2 (dk_at dksX2_feed_0 13 rfl rfl)
theorem dX2_feed_14 : decode cX2_feed 14 = .ok (.ireturn, 1) := dk_172 (dk_at dksX2_feed_0 14 rfl rfl)
theorem dX2_feed_15 : decode cX2_feed 15 = .ok (.aload_n 0, 1) := dk_42 (dk_at dksX2_feed_0 15 rfl rfl)
theorem dX2_feed_16 : decode cX2_feed 16 = .ok (.iload_n 1, 1) := dk_27 (dk_at dksX2_feed_0 16 rfl rfl)
theorem dX2_feed_17 : decode cX2_feed 17 = .ok (.invokevirtual 101, 3) := dk_182 0 101 (dk_at dksX2_feed_0 17 rfl rfl)
theorem dX2_feed_20 : decode cX2_feed 20 = .ok (.aload_n 0, 1) := dk_42 (dk_at dksX2_feed_0 20 rfl rfl)
theorem dX2_feed_21 : decode cX2_feed 21 = .ok (.iload_n 2, 1) := dk_28 (dk_at dksX2_feed_0 21 rfl rfl)
theorem dX2_feed_22 : decode cX2_feed 22 = .ok (.invokevirtual 101, 3) := dk_182 0 101 (dk_at dksX2_feed_1 0 rfl rfl)
theorem dX2_feed_25 : decode cX2_feed 25 = .ok (.aload_n 0, 1) := dk_42 (dk_at dksX2_feed_1 3 rfl rfl)
theorem dX2_feed_26 : decode cX2_feed 26 = .ok (.iload_n 3, 1) := dk_29 (dk_at dksX2_feed_1 4 rfl rfl)
theorem dX2_feed_27 : decode cX2_feed 27 = .ok (.invokevirtual 101, 3) := dk_182 0 101 (dk_at dksX2_feed_1 5 rfl rfl)
theorem dX2_feed_30 : decode cX2_feed 30 = .ok (.aload_n 0, 1) := dk_42 (dk_at dksX2_feed_1 8 rfl rfl)
theorem dX2_feed_31 : decode cX2_feed 31 = .ok (.iload 4, 2) := dk_21 4 (dk_at dksX2_feed_1 9 rfl rfl)
theorem dX2_feed_33 : decode cX2_feed 33 = .ok (.invokevirtual 101, 3) := dk_182 0 101 (dk_at dksX2_feed_1 11 rfl rfl)
theorem dX2_feed_36 : decode cX2_feed 36 = .ok (.aload_n 0, 1) := dk_42 (dk_at dksX2_feed_1 14 rfl rfl)
theorem dX2_feed_37 : decode cX2_feed 37 = .ok (.iload 5, 2) := dk_21 5 (dk_at dksX2_feed_1 15 rfl rfl)
theorem dX2_feed_39 : decode cX2_feed 39 = .ok (.invokevirtual 101, 3) := dk_182 0 101 (dk_at dksX2_feed_1 17 rfl rfl)
theorem dX2_feed_42 : decode cX2_feed 42 = .ok (.aload_n 0, 1) := dk_42 (dk_at dksX2_feed_1 20 rfl rfl)
theorem dX2_feed_43 : decode cX2_feed 43 = .ok (.getfield 98, 3) := dk_180 0 98 (dk_at dksX2_feed_1 21 rfl rfl)
theorem dX2_feed_46 : decode cX2_feed 46 = .ok (.ireturn, 1) := dk_172 (dk_at dksX2_feed_2 0 rfl rfl)
abbrev cX2_four : ByteArray := prog_15_method_19_code
def yX2_four : MethodName := ⟨RX2, "four", "(I)V"⟩
def dkwX2_four_1 : List UInt8 := [89, 180, 0, 98, 4, 96, 181, 0, 98, 132, 2, 248, 167, 255, 223, 177]
abbrev dktX2_four_1 : List UInt8 := dkwX2_four_1 ++ []
def dkwX2_four_0 : List UInt8 := [16, 24, 61, 28, 155, 0, 35, 42, 180, 0, 19, 42, 180, 0, 98, 27, 28, 122, 17, 0, 255, 126, 79, 42]
abbrev dktX2_four_0 : List UInt8 := dkwX2_four_0 ++ dktX2_four_1
theorem dksX2_four_0 : cX2_four.data.toList.drop 0 = dktX2_four_0 := by decide +kernel
theorem dksX2_four_1 : cX2_four.data.toList.drop 24 = dktX2_four_1 := dk_seg dksX2_four_0 24 rfl rfl
theorem dX2_four_0 : decode cX2_four 0 = .ok (.bipush 24, 2) := dk_16 24 (dk_at dksX2_four_0 0 rfl rfl)
theorem dX2_four_2 : decode cX2_four 2 = .ok (.istore_n 2, 1) := dk_61 (dk_at dksX2_four_0 2 rfl rfl)
theorem dX2_four_3 : decode cX2_four 3 = .ok (.iload_n 2, 1) := dk_28 (dk_at dksX2_four_0 3 rfl rfl)
theorem dX2_four_4 : decode cX2_four 4 = .ok (.ifCond .lt 35, 3) := dk_155 0 35 (dk_at dksX2_four_0 4 rfl rfl)
theorem dX2_four_7 : decode cX2_four 7 = .ok (.aload_n 0, 1) := dk_42 (dk_at dksX2_four_0 7 rfl rfl)
theorem dX2_four_8 : decode cX2_four 8 = .ok (.getfield 19, 3) := dk_180 0 19 (dk_at dksX2_four_0 8 rfl rfl)
theorem dX2_four_11 : decode cX2_four 11 = .ok (.aload_n 0, 1) := dk_42 (dk_at dksX2_four_0 11 rfl rfl)
theorem dX2_four_12 : decode cX2_four 12 = .ok (.getfield 98, 3) := dk_180 0 98 (dk_at dksX2_four_0 12 rfl rfl)
theorem dX2_four_15 : decode cX2_four 15 = .ok (.iload_n 1, 1) := dk_27 (dk_at dksX2_four_0 15 rfl rfl)
theorem dX2_four_16 : decode cX2_four 16 = .ok (.iload_n 2, 1) := dk_28 (dk_at dksX2_four_0 16 rfl rfl)
theorem dX2_four_17 : decode cX2_four 17 = .ok (.ishr, 1) := dk_122 (dk_at dksX2_four_0 17 rfl rfl)
theorem dX2_four_18 : decode cX2_four 18 = .ok (.sipush 255, 3) := dk_17 0 255 (dk_at dksX2_four_0 18 rfl rfl)
theorem dX2_four_21 : decode cX2_four 21 = .ok (.iand, 1) := dk_126 (dk_at dksX2_four_0 21 rfl rfl)
theorem dX2_four_22 : decode cX2_four 22 = .ok (.iastore, 1) := dk_79 (dk_at dksX2_four_0 22 rfl rfl)
theorem dX2_four_23 : decode cX2_four 23 = .ok (.aload_n 0, 1) := dk_42 (dk_at dksX2_four_0 23 rfl rfl)
theorem dX2_four_24 : decode cX2_four 24 = .ok (.dup, 1) := dk_89 (dk_at dksX2_four_1 0 rfl rfl)
theorem dX2_four_25 : decode cX2_four 25 = .ok (.getfield 98, 3) := dk_180 0 98 (dk_at dksX2_four_1 1 rfl rfl)
theorem dX2_four_28 : decode cX2_four 28 = .ok (.iconst 1, 1) := dk_4 (dk_at dksX2_four_1 4 rfl rfl)
theorem dX2_four_29 : decode cX2_four 29 = .ok (.iadd, 1) := dk_96 (dk_at dksX2_four_1 5 rfl rfl)
theorem dX2_four_30 : decode cX2_four 30 = .ok (.putfield 98, 3) := dk_181 0 98 (dk_at dksX2_four_1 6 rfl rfl)
theorem dX2_four_33 : decode cX2_four 33 = .ok (.iinc 2 (-8), 3) := dk_132 2 248 (dk_at dksX2_four_1 9 rfl rfl)
theorem dX2_four_36 : decode cX2_four 36 = .ok (.goto (-33), 3) := dk_167 255 223 (dk_at dksX2_four_1 12 rfl rfl)
theorem dX2_four_39 : decode cX2_four 39 = .ok (.return_, 1) := dk_177 (dk_at dksX2_four_1 15 rfl rfl)
abbrev cX2_end : ByteArray := prog_15_method_21_code
def yX2_end : MethodName := ⟨RX2, "end", "(I)I"⟩
def dkwX2_end_0 : List UInt8 := [27, 3, 42, 180, 0, 98, 184, 0, 80, 154, 0, 5, 2, 172, 42, 27, 181, 0, 98, 27, 172]
abbrev dktX2_end_0 : List UInt8 := dkwX2_end_0 ++ []
theorem dksX2_end_0 : cX2_end.data.toList.drop 0 = dktX2_end_0 := by decide +kernel
theorem dX2_end_0 : decode cX2_end 0 = .ok (.iload_n 1, 1) := dk_27 (dk_at dksX2_end_0 0 rfl rfl)
theorem dX2_end_1 : decode cX2_end 1 = .ok (.iconst 0, 1) := dk_3 (dk_at dksX2_end_0 1 rfl rfl)
theorem dX2_end_2 : decode cX2_end 2 = .ok (.aload_n 0, 1) := dk_42 (dk_at dksX2_end_0 2 rfl rfl)
theorem dX2_end_3 : decode cX2_end 3 = .ok (.getfield 98, 3) := dk_180 0 98 (dk_at dksX2_end_0 3 rfl rfl)
theorem dX2_end_6 : decode cX2_end 6 = .ok (.invokestatic 80, 3) := dk_184 0 80 (dk_at dksX2_end_0 6 rfl rfl)
theorem dX2_end_9 : decode cX2_end 9 = .ok (.ifCond .ne 5, 3) := dk_154 0 5 (dk_at dksX2_end_0 9 rfl rfl)
theorem dX2_end_12 : decode cX2_end 12 = .ok (.iconst (-1), 1) := dk_2 (dk_at dksX2_end_0 12 rfl rfl)
theorem dX2_end_13 : decode cX2_end 13 = .ok (.ireturn, 1) := dk_172 (dk_at dksX2_end_0 13 rfl rfl)
theorem dX2_end_14 : decode cX2_end 14 = .ok (.aload_n 0, 1) := dk_42 (dk_at dksX2_end_0 14 rfl rfl)
theorem dX2_end_15 : decode cX2_end 15 = .ok (.iload_n 1, 1) := dk_27 (dk_at dksX2_end_0 15 rfl rfl)
theorem dX2_end_16 : decode cX2_end 16 = .ok (.putfield 98, 3) := dk_181 0 98 (dk_at dksX2_end_0 16 rfl rfl)
theorem dX2_end_19 : decode cX2_end 19 = .ok (.iload_n 1, 1) := dk_27 (dk_at dksX2_end_0 19 rfl rfl)
theorem dX2_end_20 : decode cX2_end 20 = .ok (.ireturn, 1) := dk_172 (dk_at dksX2_end_0 20 rfl rfl)
abbrev cX2_text : ByteArray := prog_15_method_54_code
def yX2_text : MethodName := ⟨RX2, "text", "()I"⟩
def dkwX2_text_3 : List UInt8 := [16, 6, 46, 4, 100, 172]
abbrev dktX2_text_3 : List UInt8 := dkwX2_text_3 ++ []
def dkwX2_text_2 : List UInt8 := [180, 0, 22, 153, 0, 5, 2, 172, 42, 180, 0, 7, 16, 6, 92, 46, 4, 96, 79, 42, 180, 0, 7]
abbrev dktX2_text_2 : List UInt8 := dkwX2_text_2 ++ dktX2_text_3
def dkwX2_text_1 : List UInt8 := [180, 0, 22, 154, 0, 7, 2, 167, 0, 7, 42, 180, 0, 112, 181, 0, 26, 42, 3, 181, 0, 98, 42]
abbrev dktX2_text_1 : List UInt8 := dkwX2_text_1 ++ dktX2_text_2
def dkwX2_text_0 : List UInt8 := [42, 180, 0, 7, 16, 6, 46, 7, 160, 0, 5, 2, 172, 42, 42, 182, 1, 7, 181, 0, 22, 42, 42]
abbrev dktX2_text_0 : List UInt8 := dkwX2_text_0 ++ dktX2_text_1
theorem dksX2_text_0 : cX2_text.data.toList.drop 0 = dktX2_text_0 := by decide +kernel
theorem dksX2_text_1 : cX2_text.data.toList.drop 23 = dktX2_text_1 := dk_seg dksX2_text_0 23 rfl rfl
theorem dksX2_text_2 : cX2_text.data.toList.drop 46 = dktX2_text_2 := dk_seg dksX2_text_1 23 rfl rfl
theorem dksX2_text_3 : cX2_text.data.toList.drop 69 = dktX2_text_3 := dk_seg dksX2_text_2 23 rfl rfl
theorem dX2_text_0 : decode cX2_text 0 = .ok (.aload_n 0, 1) := dk_42 (dk_at dksX2_text_0 0 rfl rfl)
theorem dX2_text_1 : decode cX2_text 1 = .ok (.getfield 7, 3) := dk_180 0 7 (dk_at dksX2_text_0 1 rfl rfl)
theorem dX2_text_4 : decode cX2_text 4 = .ok (.bipush 6, 2) := dk_16 6 (dk_at dksX2_text_0 4 rfl rfl)
theorem dX2_text_6 : decode cX2_text 6 = .ok (.iaload, 1) := dk_46 (dk_at dksX2_text_0 6 rfl rfl)
theorem dX2_text_7 : decode cX2_text 7 = .ok (.iconst 4, 1) := dk_7 (dk_at dksX2_text_0 7 rfl rfl)
theorem dX2_text_8 : decode cX2_text 8 = .ok (.if_icmp .ne 5, 3) := dk_160 0 5 (dk_at dksX2_text_0 8 rfl rfl)
theorem dX2_text_11 : decode cX2_text 11 = .ok (.iconst (-1), 1) := dk_2 (dk_at dksX2_text_0 11 rfl rfl)
theorem dX2_text_12 : decode cX2_text 12 = .ok (.ireturn, 1) := dk_172 (dk_at dksX2_text_0 12 rfl rfl)
theorem dX2_text_13 : decode cX2_text 13 = .ok (.aload_n 0, 1) := dk_42 (dk_at dksX2_text_0 13 rfl rfl)
theorem dX2_text_14 : decode cX2_text 14 = .ok (.aload_n 0, 1) := dk_42 (dk_at dksX2_text_0 14 rfl rfl)
theorem dX2_text_15 : decode cX2_text 15 = .ok (.invokevirtual 263, 3) := dk_182 1 7 (dk_at dksX2_text_0 15 rfl rfl)
theorem dX2_text_18 : decode cX2_text 18 = .ok (.putfield 22, 3) := dk_181 0 22 (dk_at dksX2_text_0 18 rfl rfl)
theorem dX2_text_21 : decode cX2_text 21 = .ok (.aload_n 0, 1) := dk_42 (dk_at dksX2_text_0 21 rfl rfl)
theorem dX2_text_22 : decode cX2_text 22 = .ok (.aload_n 0, 1) := dk_42 (dk_at dksX2_text_0 22 rfl rfl)
theorem dX2_text_23 : decode cX2_text 23 = .ok (.getfield 22, 3) := dk_180 0 22 (dk_at dksX2_text_1 0 rfl rfl)
theorem dX2_text_26 : decode cX2_text 26 = .ok (.ifCond .ne 7, 3) := dk_154 0 7 (dk_at dksX2_text_1 3 rfl rfl)
theorem dX2_text_29 : decode cX2_text 29 = .ok (.iconst (-1), 1) := dk_2 (dk_at dksX2_text_1 6 rfl rfl)
theorem dX2_text_30 : decode cX2_text 30 = .ok (.goto 7, 3) := dk_167 0 7 (dk_at dksX2_text_1 7 rfl rfl)
theorem dX2_text_33 : decode cX2_text 33 = .ok (.aload_n 0, 1) := dk_42 (dk_at dksX2_text_1 10 rfl rfl)
theorem dX2_text_34 : decode cX2_text 34 = .ok (.getfield 112, 3) := dk_180 0 112 (dk_at dksX2_text_1 11 rfl rfl)
theorem dX2_text_37 : decode cX2_text 37 = .ok (.putfield 26, 3) := dk_181 0 26 (dk_at dksX2_text_1 14 rfl rfl)
theorem dX2_text_40 : decode cX2_text 40 = .ok (.aload_n 0, 1) := dk_42 (dk_at dksX2_text_1 17 rfl rfl)
theorem dX2_text_41 : decode cX2_text 41 = .ok (.iconst 0, 1) := dk_3 (dk_at dksX2_text_1 18 rfl rfl)
theorem dX2_text_42 : decode cX2_text 42 = .ok (.putfield 98, 3) := dk_181 0 98 (dk_at dksX2_text_1 19 rfl rfl)
theorem dX2_text_45 : decode cX2_text 45 = .ok (.aload_n 0, 1) := dk_42 (dk_at dksX2_text_1 22 rfl rfl)
theorem dX2_text_46 : decode cX2_text 46 = .ok (.getfield 22, 3) := dk_180 0 22 (dk_at dksX2_text_2 0 rfl rfl)
theorem dX2_text_49 : decode cX2_text 49 = .ok (.ifCond .eq 5, 3) := dk_153 0 5 (dk_at dksX2_text_2 3 rfl rfl)
theorem dX2_text_52 : decode cX2_text 52 = .ok (.iconst (-1), 1) := dk_2 (dk_at dksX2_text_2 6 rfl rfl)
theorem dX2_text_53 : decode cX2_text 53 = .ok (.ireturn, 1) := dk_172 (dk_at dksX2_text_2 7 rfl rfl)
theorem dX2_text_54 : decode cX2_text 54 = .ok (.aload_n 0, 1) := dk_42 (dk_at dksX2_text_2 8 rfl rfl)
theorem dX2_text_55 : decode cX2_text 55 = .ok (.getfield 7, 3) := dk_180 0 7 (dk_at dksX2_text_2 9 rfl rfl)
theorem dX2_text_58 : decode cX2_text 58 = .ok (.bipush 6, 2) := dk_16 6 (dk_at dksX2_text_2 12 rfl rfl)
theorem dX2_text_60 : decode cX2_text 60 = .ok (.dup2, 1) := dk_92 (dk_at dksX2_text_2 14 rfl rfl)
theorem dX2_text_61 : decode cX2_text 61 = .ok (.iaload, 1) := dk_46 (dk_at dksX2_text_2 15 rfl rfl)
theorem dX2_text_62 : decode cX2_text 62 = .ok (.iconst 1, 1) := dk_4 (dk_at dksX2_text_2 16 rfl rfl)
theorem dX2_text_63 : decode cX2_text 63 = .ok (.iadd, 1) := dk_96 (dk_at dksX2_text_2 17 rfl rfl)
theorem dX2_text_64 : decode cX2_text 64 = .ok (.iastore, 1) := dk_79 (dk_at dksX2_text_2 18 rfl rfl)
theorem dX2_text_65 : decode cX2_text 65 = .ok (.aload_n 0, 1) := dk_42 (dk_at dksX2_text_2 19 rfl rfl)
theorem dX2_text_66 : decode cX2_text 66 = .ok (.getfield 7, 3) := dk_180 0 7 (dk_at dksX2_text_2 20 rfl rfl)
theorem dX2_text_69 : decode cX2_text 69 = .ok (.bipush 6, 2) := dk_16 6 (dk_at dksX2_text_3 0 rfl rfl)
theorem dX2_text_71 : decode cX2_text 71 = .ok (.iaload, 1) := dk_46 (dk_at dksX2_text_3 2 rfl rfl)
theorem dX2_text_72 : decode cX2_text 72 = .ok (.iconst 1, 1) := dk_4 (dk_at dksX2_text_3 3 rfl rfl)
theorem dX2_text_73 : decode cX2_text 73 = .ok (.isub, 1) := dk_100 (dk_at dksX2_text_3 4 rfl rfl)
theorem dX2_text_74 : decode cX2_text 74 = .ok (.ireturn, 1) := dk_172 (dk_at dksX2_text_3 5 rfl rfl)
abbrev cX2_readText : ByteArray := prog_15_method_53_code
def yX2_readText : MethodName := ⟨RX2, "readText", "()I"⟩
def dkwX2_readText_2 : List UInt8 := [153, 0, 17, 42, 182, 1, 4, 60, 27, 153, 0, 5, 27, 172, 167, 255, 238, 3, 172]
abbrev dktX2_readText_2 : List UInt8 := dkwX2_readText_2 ++ []
def dkwX2_readText_1 : List UInt8 := [79, 42, 3, 181, 0, 152, 42, 3, 181, 0, 254, 42, 3, 181, 0, 105, 42, 182, 0, 179, 42, 180, 0, 115]
abbrev dktX2_readText_1 : List UInt8 := dkwX2_readText_1 ++ dktX2_readText_2
def dkwX2_readText_0 : List UInt8 := [42, 17, 2, 241, 42, 180, 0, 7, 16, 6, 46, 104, 181, 0, 149, 42, 180, 0, 16, 42, 180, 0, 149, 3]
abbrev dktX2_readText_0 : List UInt8 := dkwX2_readText_0 ++ dktX2_readText_1
theorem dksX2_readText_0 : cX2_readText.data.toList.drop 0 = dktX2_readText_0 := by decide +kernel
theorem dksX2_readText_1 : cX2_readText.data.toList.drop 24 = dktX2_readText_1 := dk_seg dksX2_readText_0 24 rfl rfl
theorem dksX2_readText_2 : cX2_readText.data.toList.drop 48 = dktX2_readText_2 := dk_seg dksX2_readText_1 24 rfl rfl
theorem dX2_readText_0 : decode cX2_readText 0 = .ok (.aload_n 0, 1) := dk_42 (dk_at dksX2_readText_0 0 rfl rfl)
theorem dX2_readText_1 : decode cX2_readText 1 = .ok (.sipush 753, 3) := dk_17 2 241 (dk_at dksX2_readText_0 1 rfl rfl)
theorem dX2_readText_4 : decode cX2_readText 4 = .ok (.aload_n 0, 1) := dk_42 (dk_at dksX2_readText_0 4 rfl rfl)
theorem dX2_readText_5 : decode cX2_readText 5 = .ok (.getfield 7, 3) := dk_180 0 7 (dk_at dksX2_readText_0 5 rfl rfl)
theorem dX2_readText_8 : decode cX2_readText 8 = .ok (.bipush 6, 2) := dk_16 6 (dk_at dksX2_readText_0 8 rfl rfl)
theorem dX2_readText_10 : decode cX2_readText 10 = .ok (.iaload, 1) := dk_46 (dk_at dksX2_readText_0 10 rfl rfl)
theorem dX2_readText_11 : decode cX2_readText 11 = .ok (.imul, 1) := dk_104 (dk_at dksX2_readText_0 11 rfl rfl)
theorem dX2_readText_12 : decode cX2_readText 12 = .ok (.putfield 149, 3) := dk_181 0 149 (dk_at dksX2_readText_0 12 rfl rfl)
theorem dX2_readText_15 : decode cX2_readText 15 = .ok (.aload_n 0, 1) := dk_42 (dk_at dksX2_readText_0 15 rfl rfl)
theorem dX2_readText_16 : decode cX2_readText 16 = .ok (.getfield 16, 3) := dk_180 0 16 (dk_at dksX2_readText_0 16 rfl rfl)
theorem dX2_readText_19 : decode cX2_readText 19 = .ok (.aload_n 0, 1) := dk_42 (dk_at dksX2_readText_0 19 rfl rfl)
theorem dX2_readText_20 : decode cX2_readText 20 = .ok (.getfield 149, 3) := dk_180 0 149 (dk_at dksX2_readText_0 20 rfl rfl)
theorem dX2_readText_23 : decode cX2_readText 23 = .ok (.iconst 0, 1) := dk_3 (dk_at dksX2_readText_0 23 rfl rfl)
theorem dX2_readText_24 : decode cX2_readText 24 = .ok (.iastore, 1) := dk_79 (dk_at dksX2_readText_1 0 rfl rfl)
theorem dX2_readText_25 : decode cX2_readText 25 = .ok (.aload_n 0, 1) := dk_42 (dk_at dksX2_readText_1 1 rfl rfl)
theorem dX2_readText_26 : decode cX2_readText 26 = .ok (.iconst 0, 1) := dk_3 (dk_at dksX2_readText_1 2 rfl rfl)
theorem dX2_readText_27 : decode cX2_readText 27 = .ok (.putfield 152, 3) := dk_181 0 152 (dk_at dksX2_readText_1 3 rfl rfl)
theorem dX2_readText_30 : decode cX2_readText 30 = .ok (.aload_n 0, 1) := dk_42 (dk_at dksX2_readText_1 6 rfl rfl)
theorem dX2_readText_31 : decode cX2_readText 31 = .ok (.iconst 0, 1) := dk_3 (dk_at dksX2_readText_1 7 rfl rfl)
theorem dX2_readText_32 : decode cX2_readText 32 = .ok (.putfield 254, 3) := dk_181 0 254 (dk_at dksX2_readText_1 8 rfl rfl)
theorem dX2_readText_35 : decode cX2_readText 35 = .ok (.aload_n 0, 1) := dk_42 (dk_at dksX2_readText_1 11 rfl rfl)
theorem dX2_readText_36 : decode cX2_readText 36 = .ok (.iconst 0, 1) := dk_3 (dk_at dksX2_readText_1 12 rfl rfl)
theorem dX2_readText_37 : decode cX2_readText 37 = .ok (.putfield 105, 3) := dk_181 0 105 (dk_at dksX2_readText_1 13 rfl rfl)
theorem dX2_readText_40 : decode cX2_readText 40 = .ok (.aload_n 0, 1) := dk_42 (dk_at dksX2_readText_1 16 rfl rfl)
theorem dX2_readText_41 : decode cX2_readText 41 = .ok (.invokevirtual 179, 3) := dk_182 0 179 (dk_at dksX2_readText_1 17 rfl rfl)
theorem dX2_readText_44 : decode cX2_readText 44 = .ok (.aload_n 0, 1) := dk_42 (dk_at dksX2_readText_1 20 rfl rfl)
theorem dX2_readText_45 : decode cX2_readText 45 = .ok (.getfield 115, 3) := dk_180 0 115 (dk_at dksX2_readText_1 21 rfl rfl)
theorem dX2_readText_48 : decode cX2_readText 48 = .ok (.ifCond .eq 17, 3) := dk_153 0 17 (dk_at dksX2_readText_2 0 rfl rfl)
theorem dX2_readText_51 : decode cX2_readText 51 = .ok (.aload_n 0, 1) := dk_42 (dk_at dksX2_readText_2 3 rfl rfl)
theorem dX2_readText_52 : decode cX2_readText 52 = .ok (.invokevirtual 260, 3) := dk_182 1 4 (dk_at dksX2_readText_2 4 rfl rfl)
theorem dX2_readText_55 : decode cX2_readText 55 = .ok (.istore_n 1, 1) := dk_60 (dk_at dksX2_readText_2 7 rfl rfl)
theorem dX2_readText_56 : decode cX2_readText 56 = .ok (.iload_n 1, 1) := dk_27 (dk_at dksX2_readText_2 8 rfl rfl)
theorem dX2_readText_57 : decode cX2_readText 57 = .ok (.ifCond .eq 5, 3) := dk_153 0 5 (dk_at dksX2_readText_2 9 rfl rfl)
theorem dX2_readText_60 : decode cX2_readText 60 = .ok (.iload_n 1, 1) := dk_27 (dk_at dksX2_readText_2 12 rfl rfl)
theorem dX2_readText_61 : decode cX2_readText 61 = .ok (.ireturn, 1) := dk_172 (dk_at dksX2_readText_2 13 rfl rfl)
theorem dX2_readText_62 : decode cX2_readText 62 = .ok (.goto (-18), 3) := dk_167 255 238 (dk_at dksX2_readText_2 14 rfl rfl)
theorem dX2_readText_65 : decode cX2_readText 65 = .ok (.iconst 0, 1) := dk_3 (dk_at dksX2_readText_2 17 rfl rfl)
theorem dX2_readText_66 : decode cX2_readText 66 = .ok (.ireturn, 1) := dk_172 (dk_at dksX2_readText_2 18 rfl rfl)
abbrev cX2_nextToken : ByteArray := prog_15_method_26_code
def yX2_nextToken : MethodName := ⟨RX2, "nextToken", "()V"⟩
def dkwX2_nextToken_13 : List UInt8 := [180, 0, 105, 4, 96, 181, 0, 105, 177]
abbrev dktX2_nextToken_13 : List UInt8 := dkwX2_nextToken_13 ++ []
def dkwX2_nextToken_12 : List UInt8 := [16, 61, 160, 0, 28, 42, 27, 16, 60, 160, 0, 7, 7, 167, 0, 4, 8, 181, 0, 115, 42, 89]
abbrev dktX2_nextToken_12 : List UInt8 := dkwX2_nextToken_12 ++ dktX2_nextToken_13
def dkwX2_nextToken_11 : List UInt8 := [181, 0, 105, 27, 16, 60, 159, 0, 9, 27, 16, 62, 160, 0, 41, 42, 42, 180, 0, 105, 182, 0, 108]
abbrev dktX2_nextToken_11 : List UInt8 := dkwX2_nextToken_11 ++ dktX2_nextToken_12
def dkwX2_nextToken_10 : List UInt8 := [42, 27, 184, 0, 134, 153, 0, 7, 27, 167, 0, 4, 6, 181, 0, 115, 42, 89, 180, 0, 105, 4, 96]
abbrev dktX2_nextToken_10 : List UInt8 := dkwX2_nextToken_10 ++ dktX2_nextToken_11
def dkwX2_nextToken_9 : List UInt8 := [180, 0, 105, 182, 0, 108, 133, 129, 181, 0, 128, 42, 89, 180, 0, 105, 4, 96, 181, 0, 105, 167, 255, 193]
abbrev dktX2_nextToken_9 : List UInt8 := dkwX2_nextToken_9 ++ dktX2_nextToken_10
def dkwX2_nextToken_8 : List UInt8 := [16, 48, 123, 9, 148, 153, 0, 9, 20, 0, 132, 167, 0, 20, 42, 180, 0, 128, 16, 8, 121, 42, 42]
abbrev dktX2_nextToken_8 : List UInt8 := dkwX2_nextToken_8 ++ dktX2_nextToken_9
def dkwX2_nextToken_7 : List UInt8 := [9, 181, 0, 128, 42, 42, 180, 0, 105, 182, 0, 108, 184, 0, 125, 153, 0, 131, 42, 42, 180, 0, 128]
abbrev dktX2_nextToken_7 : List UInt8 := dkwX2_nextToken_7 ++ dktX2_nextToken_8
def dkwX2_nextToken_6 : List UInt8 := [180, 0, 105, 4, 96, 181, 0, 105, 167, 255, 193, 27, 184, 0, 125, 153, 0, 79, 42, 5, 181, 0, 115, 42]
abbrev dktX2_nextToken_6 : List UInt8 := dkwX2_nextToken_6 ++ dktX2_nextToken_7
def dkwX2_nextToken_5 : List UInt8 := [16, 10, 42, 180, 0, 121, 104, 42, 42, 180, 0, 105, 182, 0, 108, 96, 16, 48, 100, 181, 0, 121, 42, 89]
abbrev dktX2_nextToken_5 : List UInt8 := dkwX2_nextToken_5 ++ dktX2_nextToken_6
def dkwX2_nextToken_4 : List UInt8 := [184, 0, 118, 153, 0, 214, 42, 42, 180, 0, 121, 18, 124, 164, 0, 10, 42, 180, 0, 121, 167, 0, 22]
abbrev dktX2_nextToken_4 : List UInt8 := dkwX2_nextToken_4 ++ dktX2_nextToken_5
def dkwX2_nextToken_3 : List UInt8 := [184, 0, 118, 153, 0, 79, 42, 4, 181, 0, 115, 42, 3, 181, 0, 121, 42, 42, 180, 0, 105, 182, 0, 108]
abbrev dktX2_nextToken_3 : List UInt8 := dkwX2_nextToken_3 ++ dktX2_nextToken_4
def dkwX2_nextToken_2 : List UInt8 := [42, 42, 180, 0, 105, 182, 0, 108, 60, 27, 156, 0, 11, 42, 3, 181, 0, 115, 167, 0, 245, 27]
abbrev dktX2_nextToken_2 : List UInt8 := dkwX2_nextToken_2 ++ dktX2_nextToken_3
def dkwX2_nextToken_1 : List UInt8 := [160, 0, 16, 42, 89, 180, 0, 105, 4, 96, 181, 0, 105, 167, 255, 220, 42, 42, 180, 0, 105, 181, 0, 112]
abbrev dktX2_nextToken_1 : List UInt8 := dkwX2_nextToken_1 ++ dktX2_nextToken_2
def dkwX2_nextToken_0 : List UInt8 := [42, 42, 180, 0, 105, 182, 0, 108, 16, 32, 159, 0, 16, 42, 42, 180, 0, 105, 182, 0, 108, 16, 10]
abbrev dktX2_nextToken_0 : List UInt8 := dkwX2_nextToken_0 ++ dktX2_nextToken_1
theorem dksX2_nextToken_0 : cX2_nextToken.data.toList.drop 0 = dktX2_nextToken_0 := by decide +kernel
theorem dksX2_nextToken_1 : cX2_nextToken.data.toList.drop 23 = dktX2_nextToken_1 := dk_seg dksX2_nextToken_0 23 rfl rfl
theorem dksX2_nextToken_2 : cX2_nextToken.data.toList.drop 47 = dktX2_nextToken_2 := dk_seg dksX2_nextToken_1 24 rfl rfl
theorem dksX2_nextToken_3 : cX2_nextToken.data.toList.drop 69 = dktX2_nextToken_3 := dk_seg dksX2_nextToken_2 22 rfl rfl
theorem dksX2_nextToken_4 : cX2_nextToken.data.toList.drop 93 = dktX2_nextToken_4 := dk_seg dksX2_nextToken_3 24 rfl rfl
theorem dksX2_nextToken_5 : cX2_nextToken.data.toList.drop 116 = dktX2_nextToken_5 := dk_seg dksX2_nextToken_4 23 rfl rfl
theorem dksX2_nextToken_6 : cX2_nextToken.data.toList.drop 140 = dktX2_nextToken_6 := dk_seg dksX2_nextToken_5 24 rfl rfl
theorem dksX2_nextToken_7 : cX2_nextToken.data.toList.drop 164 = dktX2_nextToken_7 := dk_seg dksX2_nextToken_6 24 rfl rfl
theorem dksX2_nextToken_8 : cX2_nextToken.data.toList.drop 187 = dktX2_nextToken_8 := dk_seg dksX2_nextToken_7 23 rfl rfl
theorem dksX2_nextToken_9 : cX2_nextToken.data.toList.drop 210 = dktX2_nextToken_9 := dk_seg dksX2_nextToken_8 23 rfl rfl
theorem dksX2_nextToken_10 : cX2_nextToken.data.toList.drop 234 = dktX2_nextToken_10 := dk_seg dksX2_nextToken_9 24 rfl rfl
theorem dksX2_nextToken_11 : cX2_nextToken.data.toList.drop 257 = dktX2_nextToken_11 := dk_seg dksX2_nextToken_10 23 rfl rfl
theorem dksX2_nextToken_12 : cX2_nextToken.data.toList.drop 280 = dktX2_nextToken_12 := dk_seg dksX2_nextToken_11 23 rfl rfl
theorem dksX2_nextToken_13 : cX2_nextToken.data.toList.drop 302 = dktX2_nextToken_13 := dk_seg dksX2_nextToken_12 22 rfl rfl
theorem dX2_nextToken_0 : decode cX2_nextToken 0 = .ok (.aload_n 0, 1) := dk_42 (dk_at dksX2_nextToken_0 0 rfl rfl)
theorem dX2_nextToken_1 : decode cX2_nextToken 1 = .ok (.aload_n 0, 1) := dk_42 (dk_at dksX2_nextToken_0 1 rfl rfl)
theorem dX2_nextToken_2 : decode cX2_nextToken 2 = .ok (.getfield 105, 3) := dk_180 0 105 (dk_at dksX2_nextToken_0 2 rfl rfl)
theorem dX2_nextToken_5 : decode cX2_nextToken 5 = .ok (.invokevirtual 108, 3) := dk_182 0 108 (dk_at dksX2_nextToken_0 5 rfl rfl)
theorem dX2_nextToken_8 : decode cX2_nextToken 8 = .ok (.bipush 32, 2) := dk_16 32 (dk_at dksX2_nextToken_0 8 rfl rfl)
theorem dX2_nextToken_10 : decode cX2_nextToken 10 = .ok (.if_icmp .eq 16, 3) := dk_159 0 16 (dk_at dksX2_nextToken_0 10 rfl rfl)
theorem dX2_nextToken_13 : decode cX2_nextToken 13 = .ok (.aload_n 0, 1) := dk_42 (dk_at dksX2_nextToken_0 13 rfl rfl)
theorem dX2_nextToken_14 : decode cX2_nextToken 14 = .ok (.aload_n 0, 1) := dk_42 (dk_at dksX2_nextToken_0 14 rfl rfl)
theorem dX2_nextToken_15 : decode cX2_nextToken 15 = .ok (.getfield 105, 3) := dk_180 0 105 (dk_at dksX2_nextToken_0 15 rfl rfl)
theorem dX2_nextToken_18 : decode cX2_nextToken 18 = .ok (.invokevirtual 108, 3) := dk_182 0 108 (dk_at dksX2_nextToken_0 18 rfl rfl)
theorem dX2_nextToken_21 : decode cX2_nextToken 21 = .ok (.bipush 10, 2) := dk_16 10 (dk_at dksX2_nextToken_0 21 rfl rfl)
theorem dX2_nextToken_23 : decode cX2_nextToken 23 = .ok (.if_icmp .ne 16, 3) := dk_160 0 16 (dk_at dksX2_nextToken_1 0 rfl rfl)
theorem dX2_nextToken_26 : decode cX2_nextToken 26 = .ok (.aload_n 0, 1) := dk_42 (dk_at dksX2_nextToken_1 3 rfl rfl)
theorem dX2_nextToken_27 : decode cX2_nextToken 27 = .ok (.dup, 1) := dk_89 (dk_at dksX2_nextToken_1 4 rfl rfl)
theorem dX2_nextToken_28 : decode cX2_nextToken 28 = .ok (.getfield 105, 3) := dk_180 0 105 (dk_at dksX2_nextToken_1 5 rfl rfl)
theorem dX2_nextToken_31 : decode cX2_nextToken 31 = .ok (.iconst 1, 1) := dk_4 (dk_at dksX2_nextToken_1 8 rfl rfl)
theorem dX2_nextToken_32 : decode cX2_nextToken 32 = .ok (.iadd, 1) := dk_96 (dk_at dksX2_nextToken_1 9 rfl rfl)
theorem dX2_nextToken_33 : decode cX2_nextToken 33 = .ok (.putfield 105, 3) := dk_181 0 105 (dk_at dksX2_nextToken_1 10 rfl rfl)
theorem dX2_nextToken_36 : decode cX2_nextToken 36 = .ok (.goto (-36), 3) := dk_167 255 220 (dk_at dksX2_nextToken_1 13 rfl rfl)
theorem dX2_nextToken_39 : decode cX2_nextToken 39 = .ok (.aload_n 0, 1) := dk_42 (dk_at dksX2_nextToken_1 16 rfl rfl)
theorem dX2_nextToken_40 : decode cX2_nextToken 40 = .ok (.aload_n 0, 1) := dk_42 (dk_at dksX2_nextToken_1 17 rfl rfl)
theorem dX2_nextToken_41 : decode cX2_nextToken 41 = .ok (.getfield 105, 3) := dk_180 0 105 (dk_at dksX2_nextToken_1 18 rfl rfl)
theorem dX2_nextToken_44 : decode cX2_nextToken 44 = .ok (.putfield 112, 3) := dk_181 0 112 (dk_at dksX2_nextToken_1 21 rfl rfl)
theorem dX2_nextToken_47 : decode cX2_nextToken 47 = .ok (.aload_n 0, 1) := dk_42 (dk_at dksX2_nextToken_2 0 rfl rfl)
theorem dX2_nextToken_48 : decode cX2_nextToken 48 = .ok (.aload_n 0, 1) := dk_42 (dk_at dksX2_nextToken_2 1 rfl rfl)
theorem dX2_nextToken_49 : decode cX2_nextToken 49 = .ok (.getfield 105, 3) := dk_180 0 105 (dk_at dksX2_nextToken_2 2 rfl rfl)
theorem dX2_nextToken_52 : decode cX2_nextToken 52 = .ok (.invokevirtual 108, 3) := dk_182 0 108 (dk_at dksX2_nextToken_2 5 rfl rfl)
theorem dX2_nextToken_55 : decode cX2_nextToken 55 = .ok (.istore_n 1, 1) := dk_60 (dk_at dksX2_nextToken_2 8 rfl rfl)
theorem dX2_nextToken_56 : decode cX2_nextToken 56 = .ok (.iload_n 1, 1) := dk_27 (dk_at dksX2_nextToken_2 9 rfl rfl)
theorem dX2_nextToken_57 : decode cX2_nextToken 57 = .ok (.ifCond .ge 11, 3) := dk_156 0 11 (dk_at dksX2_nextToken_2 10 rfl rfl)
theorem dX2_nextToken_60 : decode cX2_nextToken 60 = .ok (.aload_n 0, 1) := dk_42 (dk_at dksX2_nextToken_2 13 rfl rfl)
theorem dX2_nextToken_61 : decode cX2_nextToken 61 = .ok (.iconst 0, 1) := dk_3 (dk_at dksX2_nextToken_2 14 rfl rfl)
theorem dX2_nextToken_62 : decode cX2_nextToken 62 = .ok (.putfield 115, 3) := dk_181 0 115 (dk_at dksX2_nextToken_2 15 rfl rfl)
theorem dX2_nextToken_65 : decode cX2_nextToken 65 = .ok (.goto 245, 3) := dk_167 0 245 (dk_at dksX2_nextToken_2 18 rfl rfl)
theorem dX2_nextToken_68 : decode cX2_nextToken 68 = .ok (.iload_n 1, 1) := dk_27 (dk_at dksX2_nextToken_2 21 rfl rfl)
theorem dX2_nextToken_69 : decode cX2_nextToken 69 = .ok (.invokestatic 118, 3) := dk_184 0 118 (dk_at dksX2_nextToken_3 0 rfl rfl)
theorem dX2_nextToken_72 : decode cX2_nextToken 72 = .ok (.ifCond .eq 79, 3) := dk_153 0 79 (dk_at dksX2_nextToken_3 3 rfl rfl)
theorem dX2_nextToken_75 : decode cX2_nextToken 75 = .ok (.aload_n 0, 1) := dk_42 (dk_at dksX2_nextToken_3 6 rfl rfl)
theorem dX2_nextToken_76 : decode cX2_nextToken 76 = .ok (.iconst 1, 1) := dk_4 (dk_at dksX2_nextToken_3 7 rfl rfl)
theorem dX2_nextToken_77 : decode cX2_nextToken 77 = .ok (.putfield 115, 3) := dk_181 0 115 (dk_at dksX2_nextToken_3 8 rfl rfl)
theorem dX2_nextToken_80 : decode cX2_nextToken 80 = .ok (.aload_n 0, 1) := dk_42 (dk_at dksX2_nextToken_3 11 rfl rfl)
theorem dX2_nextToken_81 : decode cX2_nextToken 81 = .ok (.iconst 0, 1) := dk_3 (dk_at dksX2_nextToken_3 12 rfl rfl)
theorem dX2_nextToken_82 : decode cX2_nextToken 82 = .ok (.putfield 121, 3) := dk_181 0 121 (dk_at dksX2_nextToken_3 13 rfl rfl)
theorem dX2_nextToken_85 : decode cX2_nextToken 85 = .ok (.aload_n 0, 1) := dk_42 (dk_at dksX2_nextToken_3 16 rfl rfl)
theorem dX2_nextToken_86 : decode cX2_nextToken 86 = .ok (.aload_n 0, 1) := dk_42 (dk_at dksX2_nextToken_3 17 rfl rfl)
theorem dX2_nextToken_87 : decode cX2_nextToken 87 = .ok (.getfield 105, 3) := dk_180 0 105 (dk_at dksX2_nextToken_3 18 rfl rfl)
theorem dX2_nextToken_90 : decode cX2_nextToken 90 = .ok (.invokevirtual 108, 3) := dk_182 0 108 (dk_at dksX2_nextToken_3 21 rfl rfl)
theorem dX2_nextToken_93 : decode cX2_nextToken 93 = .ok (.invokestatic 118, 3) := dk_184 0 118 (dk_at dksX2_nextToken_4 0 rfl rfl)
theorem dX2_nextToken_96 : decode cX2_nextToken 96 = .ok (.ifCond .eq 214, 3) := dk_153 0 214 (dk_at dksX2_nextToken_4 3 rfl rfl)
theorem dX2_nextToken_99 : decode cX2_nextToken 99 = .ok (.aload_n 0, 1) := dk_42 (dk_at dksX2_nextToken_4 6 rfl rfl)
theorem dX2_nextToken_100 : decode cX2_nextToken 100 = .ok (.aload_n 0, 1) := dk_42 (dk_at dksX2_nextToken_4 7 rfl rfl)
theorem dX2_nextToken_101 : decode cX2_nextToken 101 = .ok (.getfield 121, 3) := dk_180 0 121 (dk_at dksX2_nextToken_4 8 rfl rfl)
theorem dX2_nextToken_104 : decode cX2_nextToken 104 = .ok (.ldc 124, 2) := dk_18 124 (dk_at dksX2_nextToken_4 11 rfl rfl)
theorem dX2_nextToken_106 : decode cX2_nextToken 106 = .ok (.if_icmp .le 10, 3) := dk_164 0 10 (dk_at dksX2_nextToken_4 13 rfl rfl)
theorem dX2_nextToken_109 : decode cX2_nextToken 109 = .ok (.aload_n 0, 1) := dk_42 (dk_at dksX2_nextToken_4 16 rfl rfl)
theorem dX2_nextToken_110 : decode cX2_nextToken 110 = .ok (.getfield 121, 3) := dk_180 0 121 (dk_at dksX2_nextToken_4 17 rfl rfl)
theorem dX2_nextToken_113 : decode cX2_nextToken 113 = .ok (.goto 22, 3) := dk_167 0 22 (dk_at dksX2_nextToken_4 20 rfl rfl)
theorem dX2_nextToken_116 : decode cX2_nextToken 116 = .ok (.bipush 10, 2) := dk_16 10 (dk_at dksX2_nextToken_5 0 rfl rfl)
theorem dX2_nextToken_118 : decode cX2_nextToken 118 = .ok (.aload_n 0, 1) := dk_42 (dk_at dksX2_nextToken_5 2 rfl rfl)
theorem dX2_nextToken_119 : decode cX2_nextToken 119 = .ok (.getfield 121, 3) := dk_180 0 121 (dk_at dksX2_nextToken_5 3 rfl rfl)
theorem dX2_nextToken_122 : decode cX2_nextToken 122 = .ok (.imul, 1) := dk_104 (dk_at dksX2_nextToken_5 6 rfl rfl)
theorem dX2_nextToken_123 : decode cX2_nextToken 123 = .ok (.aload_n 0, 1) := dk_42 (dk_at dksX2_nextToken_5 7 rfl rfl)
theorem dX2_nextToken_124 : decode cX2_nextToken 124 = .ok (.aload_n 0, 1) := dk_42 (dk_at dksX2_nextToken_5 8 rfl rfl)
theorem dX2_nextToken_125 : decode cX2_nextToken 125 = .ok (.getfield 105, 3) := dk_180 0 105 (dk_at dksX2_nextToken_5 9 rfl rfl)
theorem dX2_nextToken_128 : decode cX2_nextToken 128 = .ok (.invokevirtual 108, 3) := dk_182 0 108 (dk_at dksX2_nextToken_5 12 rfl rfl)
theorem dX2_nextToken_131 : decode cX2_nextToken 131 = .ok (.iadd, 1) := dk_96 (dk_at dksX2_nextToken_5 15 rfl rfl)
theorem dX2_nextToken_132 : decode cX2_nextToken 132 = .ok (.bipush 48, 2) := dk_16 48 (dk_at dksX2_nextToken_5 16 rfl rfl)
theorem dX2_nextToken_134 : decode cX2_nextToken 134 = .ok (.isub, 1) := dk_100 (dk_at dksX2_nextToken_5 18 rfl rfl)
theorem dX2_nextToken_135 : decode cX2_nextToken 135 = .ok (.putfield 121, 3) := dk_181 0 121 (dk_at dksX2_nextToken_5 19 rfl rfl)
theorem dX2_nextToken_138 : decode cX2_nextToken 138 = .ok (.aload_n 0, 1) := dk_42 (dk_at dksX2_nextToken_5 22 rfl rfl)
theorem dX2_nextToken_139 : decode cX2_nextToken 139 = .ok (.dup, 1) := dk_89 (dk_at dksX2_nextToken_5 23 rfl rfl)
theorem dX2_nextToken_140 : decode cX2_nextToken 140 = .ok (.getfield 105, 3) := dk_180 0 105 (dk_at dksX2_nextToken_6 0 rfl rfl)
theorem dX2_nextToken_143 : decode cX2_nextToken 143 = .ok (.iconst 1, 1) := dk_4 (dk_at dksX2_nextToken_6 3 rfl rfl)
theorem dX2_nextToken_144 : decode cX2_nextToken 144 = .ok (.iadd, 1) := dk_96 (dk_at dksX2_nextToken_6 4 rfl rfl)
theorem dX2_nextToken_145 : decode cX2_nextToken 145 = .ok (.putfield 105, 3) := dk_181 0 105 (dk_at dksX2_nextToken_6 5 rfl rfl)
theorem dX2_nextToken_148 : decode cX2_nextToken 148 = .ok (.goto (-63), 3) := dk_167 255 193 (dk_at dksX2_nextToken_6 8 rfl rfl)
theorem dX2_nextToken_151 : decode cX2_nextToken 151 = .ok (.iload_n 1, 1) := dk_27 (dk_at dksX2_nextToken_6 11 rfl rfl)
theorem dX2_nextToken_152 : decode cX2_nextToken 152 = .ok (.invokestatic 125, 3) := dk_184 0 125 (dk_at dksX2_nextToken_6 12 rfl rfl)
theorem dX2_nextToken_155 : decode cX2_nextToken 155 = .ok (.ifCond .eq 79, 3) := dk_153 0 79 (dk_at dksX2_nextToken_6 15 rfl rfl)
theorem dX2_nextToken_158 : decode cX2_nextToken 158 = .ok (.aload_n 0, 1) := dk_42 (dk_at dksX2_nextToken_6 18 rfl rfl)
theorem dX2_nextToken_159 : decode cX2_nextToken 159 = .ok (.iconst 2, 1) := dk_5 (dk_at dksX2_nextToken_6 19 rfl rfl)
theorem dX2_nextToken_160 : decode cX2_nextToken 160 = .ok (.putfield 115, 3) := dk_181 0 115 (dk_at dksX2_nextToken_6 20 rfl rfl)
theorem dX2_nextToken_163 : decode cX2_nextToken 163 = .ok (.aload_n 0, 1) := dk_42 (dk_at dksX2_nextToken_6 23 rfl rfl)
theorem dX2_nextToken_164 : decode cX2_nextToken 164 = .ok (.lconst 0, 1) := dk_9 (dk_at dksX2_nextToken_7 0 rfl rfl)
theorem dX2_nextToken_165 : decode cX2_nextToken 165 = .ok (.putfield 128, 3) := dk_181 0 128 (dk_at dksX2_nextToken_7 1 rfl rfl)
theorem dX2_nextToken_168 : decode cX2_nextToken 168 = .ok (.aload_n 0, 1) := dk_42 (dk_at dksX2_nextToken_7 4 rfl rfl)
theorem dX2_nextToken_169 : decode cX2_nextToken 169 = .ok (.aload_n 0, 1) := dk_42 (dk_at dksX2_nextToken_7 5 rfl rfl)
theorem dX2_nextToken_170 : decode cX2_nextToken 170 = .ok (.getfield 105, 3) := dk_180 0 105 (dk_at dksX2_nextToken_7 6 rfl rfl)
theorem dX2_nextToken_173 : decode cX2_nextToken 173 = .ok (.invokevirtual 108, 3) := dk_182 0 108 (dk_at dksX2_nextToken_7 9 rfl rfl)
theorem dX2_nextToken_176 : decode cX2_nextToken 176 = .ok (.invokestatic 125, 3) := dk_184 0 125 (dk_at dksX2_nextToken_7 12 rfl rfl)
theorem dX2_nextToken_179 : decode cX2_nextToken 179 = .ok (.ifCond .eq 131, 3) := dk_153 0 131 (dk_at dksX2_nextToken_7 15 rfl rfl)
theorem dX2_nextToken_182 : decode cX2_nextToken 182 = .ok (.aload_n 0, 1) := dk_42 (dk_at dksX2_nextToken_7 18 rfl rfl)
theorem dX2_nextToken_183 : decode cX2_nextToken 183 = .ok (.aload_n 0, 1) := dk_42 (dk_at dksX2_nextToken_7 19 rfl rfl)
theorem dX2_nextToken_184 : decode cX2_nextToken 184 = .ok (.getfield 128, 3) := dk_180 0 128 (dk_at dksX2_nextToken_7 20 rfl rfl)
theorem dX2_nextToken_187 : decode cX2_nextToken 187 = .ok (.bipush 48, 2) := dk_16 48 (dk_at dksX2_nextToken_8 0 rfl rfl)
theorem dX2_nextToken_189 : decode cX2_nextToken 189 = .ok (.lshr, 1) := dk_123 (dk_at dksX2_nextToken_8 2 rfl rfl)
theorem dX2_nextToken_190 : decode cX2_nextToken 190 = .ok (.lconst 0, 1) := dk_9 (dk_at dksX2_nextToken_8 3 rfl rfl)
theorem dX2_nextToken_191 : decode cX2_nextToken 191 = .ok (.lcmp, 1) := dk_148 (dk_at dksX2_nextToken_8 4 rfl rfl)
theorem dX2_nextToken_192 : decode cX2_nextToken 192 = .ok (.ifCond .eq 9, 3) := dk_153 0 9 (dk_at dksX2_nextToken_8 5 rfl rfl)
theorem dX2_nextToken_195 : decode cX2_nextToken 195 = .ok (.ldc2_w 132, 3) := dk_20 0 132 (dk_at dksX2_nextToken_8 8 rfl rfl)
theorem dX2_nextToken_198 : decode cX2_nextToken 198 = .ok (.goto 20, 3) := dk_167 0 20 (dk_at dksX2_nextToken_8 11 rfl rfl)
theorem dX2_nextToken_201 : decode cX2_nextToken 201 = .ok (.aload_n 0, 1) := dk_42 (dk_at dksX2_nextToken_8 14 rfl rfl)
theorem dX2_nextToken_202 : decode cX2_nextToken 202 = .ok (.getfield 128, 3) := dk_180 0 128 (dk_at dksX2_nextToken_8 15 rfl rfl)
theorem dX2_nextToken_205 : decode cX2_nextToken 205 = .ok (.bipush 8, 2) := dk_16 8 (dk_at dksX2_nextToken_8 18 rfl rfl)
theorem dX2_nextToken_207 : decode cX2_nextToken 207 = .ok (.lshl, 1) := dk_121 (dk_at dksX2_nextToken_8 20 rfl rfl)
theorem dX2_nextToken_208 : decode cX2_nextToken 208 = .ok (.aload_n 0, 1) := dk_42 (dk_at dksX2_nextToken_8 21 rfl rfl)
theorem dX2_nextToken_209 : decode cX2_nextToken 209 = .ok (.aload_n 0, 1) := dk_42 (dk_at dksX2_nextToken_8 22 rfl rfl)
theorem dX2_nextToken_210 : decode cX2_nextToken 210 = .ok (.getfield 105, 3) := dk_180 0 105 (dk_at dksX2_nextToken_9 0 rfl rfl)
theorem dX2_nextToken_213 : decode cX2_nextToken 213 = .ok (.invokevirtual 108, 3) := dk_182 0 108 (dk_at dksX2_nextToken_9 3 rfl rfl)
theorem dX2_nextToken_216 : decode cX2_nextToken 216 = .ok (.i2l, 1) := dk_133 (dk_at dksX2_nextToken_9 6 rfl rfl)
theorem dX2_nextToken_217 : decode cX2_nextToken 217 = .ok (.lor, 1) := dk_129 (dk_at dksX2_nextToken_9 7 rfl rfl)
theorem dX2_nextToken_218 : decode cX2_nextToken 218 = .ok (.putfield 128, 3) := dk_181 0 128 (dk_at dksX2_nextToken_9 8 rfl rfl)
theorem dX2_nextToken_221 : decode cX2_nextToken 221 = .ok (.aload_n 0, 1) := dk_42 (dk_at dksX2_nextToken_9 11 rfl rfl)
theorem dX2_nextToken_222 : decode cX2_nextToken 222 = .ok (.dup, 1) := dk_89 (dk_at dksX2_nextToken_9 12 rfl rfl)
theorem dX2_nextToken_223 : decode cX2_nextToken 223 = .ok (.getfield 105, 3) := dk_180 0 105 (dk_at dksX2_nextToken_9 13 rfl rfl)
theorem dX2_nextToken_226 : decode cX2_nextToken 226 = .ok (.iconst 1, 1) := dk_4 (dk_at dksX2_nextToken_9 16 rfl rfl)
theorem dX2_nextToken_227 : decode cX2_nextToken 227 = .ok (.iadd, 1) := dk_96 (dk_at dksX2_nextToken_9 17 rfl rfl)
theorem dX2_nextToken_228 : decode cX2_nextToken 228 = .ok (.putfield 105, 3) := dk_181 0 105 (dk_at dksX2_nextToken_9 18 rfl rfl)
theorem dX2_nextToken_231 : decode cX2_nextToken 231 = .ok (.goto (-63), 3) := dk_167 255 193 (dk_at dksX2_nextToken_9 21 rfl rfl)
theorem dX2_nextToken_234 : decode cX2_nextToken 234 = .ok (.aload_n 0, 1) := dk_42 (dk_at dksX2_nextToken_10 0 rfl rfl)
theorem dX2_nextToken_235 : decode cX2_nextToken 235 = .ok (.iload_n 1, 1) := dk_27 (dk_at dksX2_nextToken_10 1 rfl rfl)
theorem dX2_nextToken_236 : decode cX2_nextToken 236 = .ok (.invokestatic 134, 3) := dk_184 0 134 (dk_at dksX2_nextToken_10 2 rfl rfl)
theorem dX2_nextToken_239 : decode cX2_nextToken 239 = .ok (.ifCond .eq 7, 3) := dk_153 0 7 (dk_at dksX2_nextToken_10 5 rfl rfl)
theorem dX2_nextToken_242 : decode cX2_nextToken 242 = .ok (.iload_n 1, 1) := dk_27 (dk_at dksX2_nextToken_10 8 rfl rfl)
theorem dX2_nextToken_243 : decode cX2_nextToken 243 = .ok (.goto 4, 3) := dk_167 0 4 (dk_at dksX2_nextToken_10 9 rfl rfl)
theorem dX2_nextToken_246 : decode cX2_nextToken 246 = .ok (.iconst 3, 1) := dk_6 (dk_at dksX2_nextToken_10 12 rfl rfl)
theorem dX2_nextToken_247 : decode cX2_nextToken 247 = .ok (.putfield 115, 3) := dk_181 0 115 (dk_at dksX2_nextToken_10 13 rfl rfl)
theorem dX2_nextToken_250 : decode cX2_nextToken 250 = .ok (.aload_n 0, 1) := dk_42 (dk_at dksX2_nextToken_10 16 rfl rfl)
theorem dX2_nextToken_251 : decode cX2_nextToken 251 = .ok (.dup, 1) := dk_89 (dk_at dksX2_nextToken_10 17 rfl rfl)
theorem dX2_nextToken_252 : decode cX2_nextToken 252 = .ok (.getfield 105, 3) := dk_180 0 105 (dk_at dksX2_nextToken_10 18 rfl rfl)
theorem dX2_nextToken_255 : decode cX2_nextToken 255 = .ok (.iconst 1, 1) := dk_4 (dk_at dksX2_nextToken_10 21 rfl rfl)
theorem dX2_nextToken_256 : decode cX2_nextToken 256 = .ok (.iadd, 1) := dk_96 (dk_at dksX2_nextToken_10 22 rfl rfl)
theorem dX2_nextToken_257 : decode cX2_nextToken 257 = .ok (.putfield 105, 3) := dk_181 0 105 (dk_at dksX2_nextToken_11 0 rfl rfl)
theorem dX2_nextToken_260 : decode cX2_nextToken 260 = .ok (.iload_n 1, 1) := dk_27 (dk_at dksX2_nextToken_11 3 rfl rfl)
theorem dX2_nextToken_261 : decode cX2_nextToken 261 = .ok (.bipush 60, 2) := dk_16 60 (dk_at dksX2_nextToken_11 4 rfl rfl)
theorem dX2_nextToken_263 : decode cX2_nextToken 263 = .ok (.if_icmp .eq 9, 3) := dk_159 0 9 (dk_at dksX2_nextToken_11 6 rfl rfl)
theorem dX2_nextToken_266 : decode cX2_nextToken 266 = .ok (.iload_n 1, 1) := dk_27 (dk_at dksX2_nextToken_11 9 rfl rfl)
theorem dX2_nextToken_267 : decode cX2_nextToken 267 = .ok (.bipush 62, 2) := dk_16 62 (dk_at dksX2_nextToken_11 10 rfl rfl)
theorem dX2_nextToken_269 : decode cX2_nextToken 269 = .ok (.if_icmp .ne 41, 3) := dk_160 0 41 (dk_at dksX2_nextToken_11 12 rfl rfl)
theorem dX2_nextToken_272 : decode cX2_nextToken 272 = .ok (.aload_n 0, 1) := dk_42 (dk_at dksX2_nextToken_11 15 rfl rfl)
theorem dX2_nextToken_273 : decode cX2_nextToken 273 = .ok (.aload_n 0, 1) := dk_42 (dk_at dksX2_nextToken_11 16 rfl rfl)
theorem dX2_nextToken_274 : decode cX2_nextToken 274 = .ok (.getfield 105, 3) := dk_180 0 105 (dk_at dksX2_nextToken_11 17 rfl rfl)
theorem dX2_nextToken_277 : decode cX2_nextToken 277 = .ok (.invokevirtual 108, 3) := dk_182 0 108 (dk_at dksX2_nextToken_11 20 rfl rfl)
theorem dX2_nextToken_280 : decode cX2_nextToken 280 = .ok (.bipush 61, 2) := dk_16 61 (dk_at dksX2_nextToken_12 0 rfl rfl)
theorem dX2_nextToken_282 : decode cX2_nextToken 282 = .ok (.if_icmp .ne 28, 3) := dk_160 0 28 (dk_at dksX2_nextToken_12 2 rfl rfl)
theorem dX2_nextToken_285 : decode cX2_nextToken 285 = .ok (.aload_n 0, 1) := dk_42 (dk_at dksX2_nextToken_12 5 rfl rfl)
theorem dX2_nextToken_286 : decode cX2_nextToken 286 = .ok (.iload_n 1, 1) := dk_27 (dk_at dksX2_nextToken_12 6 rfl rfl)
theorem dX2_nextToken_287 : decode cX2_nextToken 287 = .ok (.bipush 60, 2) := dk_16 60 (dk_at dksX2_nextToken_12 7 rfl rfl)
theorem dX2_nextToken_289 : decode cX2_nextToken 289 = .ok (.if_icmp .ne 7, 3) := dk_160 0 7 (dk_at dksX2_nextToken_12 9 rfl rfl)
theorem dX2_nextToken_292 : decode cX2_nextToken 292 = .ok (.iconst 4, 1) := dk_7 (dk_at dksX2_nextToken_12 12 rfl rfl)
theorem dX2_nextToken_293 : decode cX2_nextToken 293 = .ok (.goto 4, 3) := dk_167 0 4 (dk_at dksX2_nextToken_12 13 rfl rfl)
theorem dX2_nextToken_296 : decode cX2_nextToken 296 = .ok (.iconst 5, 1) := dk_8 (dk_at dksX2_nextToken_12 16 rfl rfl)
theorem dX2_nextToken_297 : decode cX2_nextToken 297 = .ok (.putfield 115, 3) := dk_181 0 115 (dk_at dksX2_nextToken_12 17 rfl rfl)
theorem dX2_nextToken_300 : decode cX2_nextToken 300 = .ok (.aload_n 0, 1) := dk_42 (dk_at dksX2_nextToken_12 20 rfl rfl)
theorem dX2_nextToken_301 : decode cX2_nextToken 301 = .ok (.dup, 1) := dk_89 (dk_at dksX2_nextToken_12 21 rfl rfl)
theorem dX2_nextToken_302 : decode cX2_nextToken 302 = .ok (.getfield 105, 3) := dk_180 0 105 (dk_at dksX2_nextToken_13 0 rfl rfl)
theorem dX2_nextToken_305 : decode cX2_nextToken 305 = .ok (.iconst 1, 1) := dk_4 (dk_at dksX2_nextToken_13 3 rfl rfl)
theorem dX2_nextToken_306 : decode cX2_nextToken 306 = .ok (.iadd, 1) := dk_96 (dk_at dksX2_nextToken_13 4 rfl rfl)
theorem dX2_nextToken_307 : decode cX2_nextToken 307 = .ok (.putfield 105, 3) := dk_181 0 105 (dk_at dksX2_nextToken_13 5 rfl rfl)
theorem dX2_nextToken_310 : decode cX2_nextToken 310 = .ok (.return_, 1) := dk_177 (dk_at dksX2_nextToken_13 8 rfl rfl)
abbrev cX2_byteAt : ByteArray := prog_15_method_22_code
def yX2_byteAt : MethodName := ⟨RX2, "byteAt", "(I)I"⟩
def dkwX2_byteAt_0 : List UInt8 := [27, 42, 180, 0, 98, 162, 0, 12, 42, 180, 0, 19, 27, 46, 167, 0, 4, 2, 172]
abbrev dktX2_byteAt_0 : List UInt8 := dkwX2_byteAt_0 ++ []
theorem dksX2_byteAt_0 : cX2_byteAt.data.toList.drop 0 = dktX2_byteAt_0 := by decide +kernel
theorem dX2_byteAt_0 : decode cX2_byteAt 0 = .ok (.iload_n 1, 1) := dk_27 (dk_at dksX2_byteAt_0 0 rfl rfl)
theorem dX2_byteAt_1 : decode cX2_byteAt 1 = .ok (.aload_n 0, 1) := dk_42 (dk_at dksX2_byteAt_0 1 rfl rfl)
theorem dX2_byteAt_2 : decode cX2_byteAt 2 = .ok (.getfield 98, 3) := dk_180 0 98 (dk_at dksX2_byteAt_0 2 rfl rfl)
theorem dX2_byteAt_5 : decode cX2_byteAt 5 = .ok (.if_icmp .ge 12, 3) := dk_162 0 12 (dk_at dksX2_byteAt_0 5 rfl rfl)
theorem dX2_byteAt_8 : decode cX2_byteAt 8 = .ok (.aload_n 0, 1) := dk_42 (dk_at dksX2_byteAt_0 8 rfl rfl)
theorem dX2_byteAt_9 : decode cX2_byteAt 9 = .ok (.getfield 19, 3) := dk_180 0 19 (dk_at dksX2_byteAt_0 9 rfl rfl)
theorem dX2_byteAt_12 : decode cX2_byteAt 12 = .ok (.iload_n 1, 1) := dk_27 (dk_at dksX2_byteAt_0 12 rfl rfl)
theorem dX2_byteAt_13 : decode cX2_byteAt 13 = .ok (.iaload, 1) := dk_46 (dk_at dksX2_byteAt_0 13 rfl rfl)
theorem dX2_byteAt_14 : decode cX2_byteAt 14 = .ok (.goto 4, 3) := dk_167 0 4 (dk_at dksX2_byteAt_0 14 rfl rfl)
theorem dX2_byteAt_17 : decode cX2_byteAt 17 = .ok (.iconst (-1), 1) := dk_2 (dk_at dksX2_byteAt_0 17 rfl rfl)
theorem dX2_byteAt_18 : decode cX2_byteAt 18 = .ok (.ireturn, 1) := dk_172 (dk_at dksX2_byteAt_0 18 rfl rfl)
abbrev cX2_isFigure : ByteArray := prog_15_method_24_code
def yX2_isFigure : MethodName := ⟨RX2, "isFigure", "(I)Z"⟩
def dkwX2_isFigure_0 : List UInt8 := [26, 16, 48, 161, 0, 13, 26, 16, 57, 163, 0, 7, 4, 167, 0, 4, 3, 172]
abbrev dktX2_isFigure_0 : List UInt8 := dkwX2_isFigure_0 ++ []
theorem dksX2_isFigure_0 : cX2_isFigure.data.toList.drop 0 = dktX2_isFigure_0 := by decide +kernel
theorem dX2_isFigure_0 : decode cX2_isFigure 0 = .ok (.iload_n 0, 1) := dk_26 (dk_at dksX2_isFigure_0 0 rfl rfl)
theorem dX2_isFigure_1 : decode cX2_isFigure 1 = .ok (.bipush 48, 2) := dk_16 48 (dk_at dksX2_isFigure_0 1 rfl rfl)
theorem dX2_isFigure_3 : decode cX2_isFigure 3 = .ok (.if_icmp .lt 13, 3) := dk_161 0 13 (dk_at dksX2_isFigure_0 3 rfl rfl)
theorem dX2_isFigure_6 : decode cX2_isFigure 6 = .ok (.iload_n 0, 1) := dk_26 (dk_at dksX2_isFigure_0 6 rfl rfl)
theorem dX2_isFigure_7 : decode cX2_isFigure 7 = .ok (.bipush 57, 2) := dk_16 57 (dk_at dksX2_isFigure_0 7 rfl rfl)
theorem dX2_isFigure_9 : decode cX2_isFigure 9 = .ok (.if_icmp .gt 7, 3) := dk_163 0 7 (dk_at dksX2_isFigure_0 9 rfl rfl)
theorem dX2_isFigure_12 : decode cX2_isFigure 12 = .ok (.iconst 1, 1) := dk_4 (dk_at dksX2_isFigure_0 12 rfl rfl)
theorem dX2_isFigure_13 : decode cX2_isFigure 13 = .ok (.goto 4, 3) := dk_167 0 4 (dk_at dksX2_isFigure_0 13 rfl rfl)
theorem dX2_isFigure_16 : decode cX2_isFigure 16 = .ok (.iconst 0, 1) := dk_3 (dk_at dksX2_isFigure_0 16 rfl rfl)
theorem dX2_isFigure_17 : decode cX2_isFigure 17 = .ok (.ireturn, 1) := dk_172 (dk_at dksX2_isFigure_0 17 rfl rfl)
abbrev cX2_isLetterByte : ByteArray := prog_15_method_23_code
def yX2_isLetterByte : MethodName := ⟨RX2, "isLetterByte", "(I)Z"⟩
def dkwX2_isLetterByte_1 : List UInt8 := [4, 167, 0, 4, 3, 172]
abbrev dktX2_isLetterByte_1 : List UInt8 := dkwX2_isLetterByte_1 ++ []
def dkwX2_isLetterByte_0 : List UInt8 := [26, 16, 97, 161, 0, 9, 26, 16, 122, 164, 0, 15, 26, 16, 65, 161, 0, 13, 26, 16, 90, 163, 0, 7]
abbrev dktX2_isLetterByte_0 : List UInt8 := dkwX2_isLetterByte_0 ++ dktX2_isLetterByte_1
theorem dksX2_isLetterByte_0 : cX2_isLetterByte.data.toList.drop 0 = dktX2_isLetterByte_0 := by decide +kernel
theorem dksX2_isLetterByte_1 : cX2_isLetterByte.data.toList.drop 24 = dktX2_isLetterByte_1 := dk_seg dksX2_isLetterByte_0 24 rfl rfl
theorem dX2_isLetterByte_0 : decode cX2_isLetterByte 0 = .ok (.iload_n 0, 1) := dk_26 (dk_at dksX2_isLetterByte_0 0 rfl rfl)
theorem dX2_isLetterByte_1 : decode cX2_isLetterByte 1 = .ok (.bipush 97, 2) := dk_16 97 (dk_at dksX2_isLetterByte_0 1 rfl rfl)
theorem dX2_isLetterByte_3 : decode cX2_isLetterByte 3 = .ok (.if_icmp .lt 9, 3) := dk_161 0 9 (dk_at dksX2_isLetterByte_0 3 rfl rfl)
theorem dX2_isLetterByte_6 : decode cX2_isLetterByte 6 = .ok (.iload_n 0, 1) := dk_26 (dk_at dksX2_isLetterByte_0 6 rfl rfl)
theorem dX2_isLetterByte_7 : decode cX2_isLetterByte 7 = .ok (.bipush 122, 2) := dk_16 122 (dk_at dksX2_isLetterByte_0 7 rfl rfl)
theorem dX2_isLetterByte_9 : decode cX2_isLetterByte 9 = .ok (.if_icmp .le 15, 3) := dk_164 0 15 (dk_at dksX2_isLetterByte_0 9 rfl rfl)
theorem dX2_isLetterByte_12 : decode cX2_isLetterByte 12 = .ok (.iload_n 0, 1) := dk_26 (dk_at dksX2_isLetterByte_0 12 rfl rfl)
theorem dX2_isLetterByte_13 : decode cX2_isLetterByte 13 = .ok (.bipush 65, 2) := dk_16 65 (dk_at dksX2_isLetterByte_0 13 rfl rfl)
theorem dX2_isLetterByte_15 : decode cX2_isLetterByte 15 = .ok (.if_icmp .lt 13, 3) := dk_161 0 13 (dk_at dksX2_isLetterByte_0 15 rfl rfl)
theorem dX2_isLetterByte_18 : decode cX2_isLetterByte 18 = .ok (.iload_n 0, 1) := dk_26 (dk_at dksX2_isLetterByte_0 18 rfl rfl)
theorem dX2_isLetterByte_19 : decode cX2_isLetterByte 19 = .ok (.bipush 90, 2) := dk_16 90 (dk_at dksX2_isLetterByte_0 19 rfl rfl)
theorem dX2_isLetterByte_21 : decode cX2_isLetterByte 21 = .ok (.if_icmp .gt 7, 3) := dk_163 0 7 (dk_at dksX2_isLetterByte_0 21 rfl rfl)
theorem dX2_isLetterByte_24 : decode cX2_isLetterByte 24 = .ok (.iconst 1, 1) := dk_4 (dk_at dksX2_isLetterByte_1 0 rfl rfl)
theorem dX2_isLetterByte_25 : decode cX2_isLetterByte 25 = .ok (.goto 4, 3) := dk_167 0 4 (dk_at dksX2_isLetterByte_1 1 rfl rfl)
theorem dX2_isLetterByte_28 : decode cX2_isLetterByte 28 = .ok (.iconst 0, 1) := dk_3 (dk_at dksX2_isLetterByte_1 4 rfl rfl)
theorem dX2_isLetterByte_29 : decode cX2_isLetterByte 29 = .ok (.ireturn, 1) := dk_172 (dk_at dksX2_isLetterByte_1 5 rfl rfl)
abbrev cX2_isSign : ByteArray := prog_15_method_25_code
def yX2_isSign : MethodName := ⟨RX2, "isSign", "(I)Z"⟩
def dkwX2_isSign_2 : List UInt8 := [4, 172, 3, 172]
abbrev dktX2_isSign_2 : List UInt8 := dkwX2_isSign_2 ++ []
def dkwX2_isSign_1 : List UInt8 := [171, 0, 0, 0, 0, 0, 117, 0, 0, 0, 13, 0, 0, 0, 35, 0, 0, 0, 115, 0, 0, 0, 40, 0, 0, 0, 115, 0, 0, 0, 41, 0, 0, 0, 115, 0, 0, 0, 42, 0, 0, 0, 115, 0, 0, 0, 43, 0, 0, 0, 115, 0, 0, 0, 44, 0, 0, 0, 115, 0, 0, 0, 45, 0, 0, 0, 115, 0, 0, 0, 47, 0, 0, 0, 115, 0, 0, 0, 59, 0, 0, 0, 115, 0, 0, 0, 60, 0, 0, 0, 115, 0, 0, 0, 61, 0, 0, 0, 115, 0, 0, 0, 62, 0, 0, 0, 115, 0, 0, 0, 124, 0, 0, 0, 115]
abbrev dktX2_isSign_1 : List UInt8 := dkwX2_isSign_1 ++ dktX2_isSign_2
def dkwX2_isSign_0 : List UInt8 := [26]
abbrev dktX2_isSign_0 : List UInt8 := dkwX2_isSign_0 ++ dktX2_isSign_1
theorem dksX2_isSign_0 : cX2_isSign.data.toList.drop 0 = dktX2_isSign_0 := by decide +kernel
theorem dksX2_isSign_1 : cX2_isSign.data.toList.drop 1 = dktX2_isSign_1 := dk_seg dksX2_isSign_0 1 rfl rfl
theorem dksX2_isSign_2 : cX2_isSign.data.toList.drop 116 = dktX2_isSign_2 := dk_seg dksX2_isSign_1 115 rfl rfl
theorem dX2_isSign_0 : decode cX2_isSign 0 = .ok (.iload_n 0, 1) := dk_26 (dk_at dksX2_isSign_0 0 rfl rfl)
theorem dX2_isSign_1 : decode cX2_isSign 1 = .ok (.lookupswitch 117 #[(35, 115), (40, 115), (41, 115), (42, 115), (43, 115), (44, 115), (45, 115), (47, 115), (59, 115), (60, 115), (61, 115), (62, 115), (124, 115)], 115) := by decide +kernel
theorem dX2_isSign_116 : decode cX2_isSign 116 = .ok (.iconst 1, 1) := dk_4 (dk_at dksX2_isSign_2 0 rfl rfl)
theorem dX2_isSign_117 : decode cX2_isSign 117 = .ok (.ireturn, 1) := dk_172 (dk_at dksX2_isSign_2 1 rfl rfl)
theorem dX2_isSign_118 : decode cX2_isSign 118 = .ok (.iconst 0, 1) := dk_3 (dk_at dksX2_isSign_2 2 rfl rfl)
theorem dX2_isSign_119 : decode cX2_isSign 119 = .ok (.ireturn, 1) := dk_172 (dk_at dksX2_isSign_2 3 rfl rfl)
abbrev cX2_clause : ByteArray := prog_15_method_52_code
def yX2_clause : MethodName := ⟨RX2, "clause", "()I"⟩
def dkwX2_clause_5 : List UInt8 := [4, 96, 79, 42, 180, 0, 115, 16, 59, 159, 0, 5, 4, 172, 42, 182, 0, 179, 3, 172]
abbrev dktX2_clause_5 : List UInt8 := dkwX2_clause_5 ++ []
def dkwX2_clause_4 : List UInt8 := [29, 182, 1, 1, 54, 4, 21, 4, 153, 0, 6, 21, 4, 172, 42, 180, 0, 16, 42, 180, 0, 149, 92, 46]
abbrev dktX2_clause_4 : List UInt8 := dkwX2_clause_4 ++ dktX2_clause_5
def dkwX2_clause_3 : List UInt8 := [182, 0, 179, 42, 180, 0, 149, 4, 96, 16, 6, 28, 104, 96, 62, 42, 180, 0, 16, 29, 27, 79, 42, 27]
abbrev dktX2_clause_3 : List UInt8 := dkwX2_clause_3 ++ dktX2_clause_4
def dkwX2_clause_2 : List UInt8 := [27, 6, 163, 0, 15, 42, 89, 180, 0, 254, 4, 27, 120, 128, 181, 0, 254, 42, 27, 181, 0, 163, 42]
abbrev dktX2_clause_2 : List UInt8 := dkwX2_clause_2 ++ dktX2_clause_3
def dkwX2_clause_1 : List UInt8 := [153, 0, 5, 7, 172, 42, 180, 0, 16, 42, 180, 0, 149, 46, 61, 28, 16, 24, 160, 0, 6, 16, 6, 172]
abbrev dktX2_clause_1 : List UInt8 := dkwX2_clause_1 ++ dktX2_clause_2
def dkwX2_clause_0 : List UInt8 := [42, 182, 0, 251, 60, 27, 156, 0, 5, 4, 172, 27, 6, 163, 0, 16, 42, 180, 0, 254, 27, 184, 0, 224]
abbrev dktX2_clause_0 : List UInt8 := dkwX2_clause_0 ++ dktX2_clause_1
theorem dksX2_clause_0 : cX2_clause.data.toList.drop 0 = dktX2_clause_0 := by decide +kernel
theorem dksX2_clause_1 : cX2_clause.data.toList.drop 24 = dktX2_clause_1 := dk_seg dksX2_clause_0 24 rfl rfl
theorem dksX2_clause_2 : cX2_clause.data.toList.drop 48 = dktX2_clause_2 := dk_seg dksX2_clause_1 24 rfl rfl
theorem dksX2_clause_3 : cX2_clause.data.toList.drop 71 = dktX2_clause_3 := dk_seg dksX2_clause_2 23 rfl rfl
theorem dksX2_clause_4 : cX2_clause.data.toList.drop 95 = dktX2_clause_4 := dk_seg dksX2_clause_3 24 rfl rfl
theorem dksX2_clause_5 : cX2_clause.data.toList.drop 119 = dktX2_clause_5 := dk_seg dksX2_clause_4 24 rfl rfl
theorem dX2_clause_0 : decode cX2_clause 0 = .ok (.aload_n 0, 1) := dk_42 (dk_at dksX2_clause_0 0 rfl rfl)
theorem dX2_clause_1 : decode cX2_clause 1 = .ok (.invokevirtual 251, 3) := dk_182 0 251 (dk_at dksX2_clause_0 1 rfl rfl)
theorem dX2_clause_4 : decode cX2_clause 4 = .ok (.istore_n 1, 1) := dk_60 (dk_at dksX2_clause_0 4 rfl rfl)
theorem dX2_clause_5 : decode cX2_clause 5 = .ok (.iload_n 1, 1) := dk_27 (dk_at dksX2_clause_0 5 rfl rfl)
theorem dX2_clause_6 : decode cX2_clause 6 = .ok (.ifCond .ge 5, 3) := dk_156 0 5 (dk_at dksX2_clause_0 6 rfl rfl)
theorem dX2_clause_9 : decode cX2_clause 9 = .ok (.iconst 1, 1) := dk_4 (dk_at dksX2_clause_0 9 rfl rfl)
theorem dX2_clause_10 : decode cX2_clause 10 = .ok (.ireturn, 1) := dk_172 (dk_at dksX2_clause_0 10 rfl rfl)
theorem dX2_clause_11 : decode cX2_clause 11 = .ok (.iload_n 1, 1) := dk_27 (dk_at dksX2_clause_0 11 rfl rfl)
theorem dX2_clause_12 : decode cX2_clause 12 = .ok (.iconst 3, 1) := dk_6 (dk_at dksX2_clause_0 12 rfl rfl)
theorem dX2_clause_13 : decode cX2_clause 13 = .ok (.if_icmp .gt 16, 3) := dk_163 0 16 (dk_at dksX2_clause_0 13 rfl rfl)
theorem dX2_clause_16 : decode cX2_clause 16 = .ok (.aload_n 0, 1) := dk_42 (dk_at dksX2_clause_0 16 rfl rfl)
theorem dX2_clause_17 : decode cX2_clause 17 = .ok (.getfield 254, 3) := dk_180 0 254 (dk_at dksX2_clause_0 17 rfl rfl)
theorem dX2_clause_20 : decode cX2_clause 20 = .ok (.iload_n 1, 1) := dk_27 (dk_at dksX2_clause_0 20 rfl rfl)
theorem dX2_clause_21 : decode cX2_clause 21 = .ok (.invokestatic 224, 3) := dk_184 0 224 (dk_at dksX2_clause_0 21 rfl rfl)
theorem dX2_clause_24 : decode cX2_clause 24 = .ok (.ifCond .eq 5, 3) := dk_153 0 5 (dk_at dksX2_clause_1 0 rfl rfl)
theorem dX2_clause_27 : decode cX2_clause 27 = .ok (.iconst 4, 1) := dk_7 (dk_at dksX2_clause_1 3 rfl rfl)
theorem dX2_clause_28 : decode cX2_clause 28 = .ok (.ireturn, 1) := dk_172 (dk_at dksX2_clause_1 4 rfl rfl)
theorem dX2_clause_29 : decode cX2_clause 29 = .ok (.aload_n 0, 1) := dk_42 (dk_at dksX2_clause_1 5 rfl rfl)
theorem dX2_clause_30 : decode cX2_clause 30 = .ok (.getfield 16, 3) := dk_180 0 16 (dk_at dksX2_clause_1 6 rfl rfl)
theorem dX2_clause_33 : decode cX2_clause 33 = .ok (.aload_n 0, 1) := dk_42 (dk_at dksX2_clause_1 9 rfl rfl)
theorem dX2_clause_34 : decode cX2_clause 34 = .ok (.getfield 149, 3) := dk_180 0 149 (dk_at dksX2_clause_1 10 rfl rfl)
theorem dX2_clause_37 : decode cX2_clause 37 = .ok (.iaload, 1) := dk_46 (dk_at dksX2_clause_1 13 rfl rfl)
theorem dX2_clause_38 : decode cX2_clause 38 = .ok (.istore_n 2, 1) := dk_61 (dk_at dksX2_clause_1 14 rfl rfl)
theorem dX2_clause_39 : decode cX2_clause 39 = .ok (.iload_n 2, 1) := dk_28 (dk_at dksX2_clause_1 15 rfl rfl)
theorem dX2_clause_40 : decode cX2_clause 40 = .ok (.bipush 24, 2) := dk_16 24 (dk_at dksX2_clause_1 16 rfl rfl)
theorem dX2_clause_42 : decode cX2_clause 42 = .ok (.if_icmp .ne 6, 3) := dk_160 0 6 (dk_at dksX2_clause_1 18 rfl rfl)
theorem dX2_clause_45 : decode cX2_clause 45 = .ok (.bipush 6, 2) := dk_16 6 (dk_at dksX2_clause_1 21 rfl rfl)
theorem dX2_clause_47 : decode cX2_clause 47 = .ok (.ireturn, 1) := dk_172 (dk_at dksX2_clause_1 23 rfl rfl)
theorem dX2_clause_48 : decode cX2_clause 48 = .ok (.iload_n 1, 1) := dk_27 (dk_at dksX2_clause_2 0 rfl rfl)
theorem dX2_clause_49 : decode cX2_clause 49 = .ok (.iconst 3, 1) := dk_6 (dk_at dksX2_clause_2 1 rfl rfl)
theorem dX2_clause_50 : decode cX2_clause 50 = .ok (.if_icmp .gt 15, 3) := dk_163 0 15 (dk_at dksX2_clause_2 2 rfl rfl)
theorem dX2_clause_53 : decode cX2_clause 53 = .ok (.aload_n 0, 1) := dk_42 (dk_at dksX2_clause_2 5 rfl rfl)
theorem dX2_clause_54 : decode cX2_clause 54 = .ok (.dup, 1) := dk_89 (dk_at dksX2_clause_2 6 rfl rfl)
theorem dX2_clause_55 : decode cX2_clause 55 = .ok (.getfield 254, 3) := dk_180 0 254 (dk_at dksX2_clause_2 7 rfl rfl)
theorem dX2_clause_58 : decode cX2_clause 58 = .ok (.iconst 1, 1) := dk_4 (dk_at dksX2_clause_2 10 rfl rfl)
theorem dX2_clause_59 : decode cX2_clause 59 = .ok (.iload_n 1, 1) := dk_27 (dk_at dksX2_clause_2 11 rfl rfl)
theorem dX2_clause_60 : decode cX2_clause 60 = .ok (.ishl, 1) := dk_120 (dk_at dksX2_clause_2 12 rfl rfl)
theorem dX2_clause_61 : decode cX2_clause 61 = .ok (.ior, 1) := dk_128 (dk_at dksX2_clause_2 13 rfl rfl)
theorem dX2_clause_62 : decode cX2_clause 62 = .ok (.putfield 254, 3) := dk_181 0 254 (dk_at dksX2_clause_2 14 rfl rfl)
theorem dX2_clause_65 : decode cX2_clause 65 = .ok (.aload_n 0, 1) := dk_42 (dk_at dksX2_clause_2 17 rfl rfl)
theorem dX2_clause_66 : decode cX2_clause 66 = .ok (.iload_n 1, 1) := dk_27 (dk_at dksX2_clause_2 18 rfl rfl)
theorem dX2_clause_67 : decode cX2_clause 67 = .ok (.putfield 163, 3) := dk_181 0 163 (dk_at dksX2_clause_2 19 rfl rfl)
theorem dX2_clause_70 : decode cX2_clause 70 = .ok (.aload_n 0, 1) := dk_42 (dk_at dksX2_clause_2 22 rfl rfl)
theorem dX2_clause_71 : decode cX2_clause 71 = .ok (.invokevirtual 179, 3) := dk_182 0 179 (dk_at dksX2_clause_3 0 rfl rfl)
theorem dX2_clause_74 : decode cX2_clause 74 = .ok (.aload_n 0, 1) := dk_42 (dk_at dksX2_clause_3 3 rfl rfl)
theorem dX2_clause_75 : decode cX2_clause 75 = .ok (.getfield 149, 3) := dk_180 0 149 (dk_at dksX2_clause_3 4 rfl rfl)
theorem dX2_clause_78 : decode cX2_clause 78 = .ok (.iconst 1, 1) := dk_4 (dk_at dksX2_clause_3 7 rfl rfl)
theorem dX2_clause_79 : decode cX2_clause 79 = .ok (.iadd, 1) := dk_96 (dk_at dksX2_clause_3 8 rfl rfl)
theorem dX2_clause_80 : decode cX2_clause 80 = .ok (.bipush 6, 2) := dk_16 6 (dk_at dksX2_clause_3 9 rfl rfl)
theorem dX2_clause_82 : decode cX2_clause 82 = .ok (.iload_n 2, 1) := dk_28 (dk_at dksX2_clause_3 11 rfl rfl)
theorem dX2_clause_83 : decode cX2_clause 83 = .ok (.imul, 1) := dk_104 (dk_at dksX2_clause_3 12 rfl rfl)
theorem dX2_clause_84 : decode cX2_clause 84 = .ok (.iadd, 1) := dk_96 (dk_at dksX2_clause_3 13 rfl rfl)
theorem dX2_clause_85 : decode cX2_clause 85 = .ok (.istore_n 3, 1) := dk_62 (dk_at dksX2_clause_3 14 rfl rfl)
theorem dX2_clause_86 : decode cX2_clause 86 = .ok (.aload_n 0, 1) := dk_42 (dk_at dksX2_clause_3 15 rfl rfl)
theorem dX2_clause_87 : decode cX2_clause 87 = .ok (.getfield 16, 3) := dk_180 0 16 (dk_at dksX2_clause_3 16 rfl rfl)
theorem dX2_clause_90 : decode cX2_clause 90 = .ok (.iload_n 3, 1) := dk_29 (dk_at dksX2_clause_3 19 rfl rfl)
theorem dX2_clause_91 : decode cX2_clause 91 = .ok (.iload_n 1, 1) := dk_27 (dk_at dksX2_clause_3 20 rfl rfl)
theorem dX2_clause_92 : decode cX2_clause 92 = .ok (.iastore, 1) := dk_79 (dk_at dksX2_clause_3 21 rfl rfl)
theorem dX2_clause_93 : decode cX2_clause 93 = .ok (.aload_n 0, 1) := dk_42 (dk_at dksX2_clause_3 22 rfl rfl)
theorem dX2_clause_94 : decode cX2_clause 94 = .ok (.iload_n 1, 1) := dk_27 (dk_at dksX2_clause_3 23 rfl rfl)
theorem dX2_clause_95 : decode cX2_clause 95 = .ok (.iload_n 3, 1) := dk_29 (dk_at dksX2_clause_4 0 rfl rfl)
theorem dX2_clause_96 : decode cX2_clause 96 = .ok (.invokevirtual 257, 3) := dk_182 1 1 (dk_at dksX2_clause_4 1 rfl rfl)
theorem dX2_clause_99 : decode cX2_clause 99 = .ok (.istore 4, 2) := dk_54 4 (dk_at dksX2_clause_4 4 rfl rfl)
theorem dX2_clause_101 : decode cX2_clause 101 = .ok (.iload 4, 2) := dk_21 4 (dk_at dksX2_clause_4 6 rfl rfl)
theorem dX2_clause_103 : decode cX2_clause 103 = .ok (.ifCond .eq 6, 3) := dk_153 0 6 (dk_at dksX2_clause_4 8 rfl rfl)
theorem dX2_clause_106 : decode cX2_clause 106 = .ok (.iload 4, 2) := dk_21 4 (dk_at dksX2_clause_4 11 rfl rfl)
theorem dX2_clause_108 : decode cX2_clause 108 = .ok (.ireturn, 1) := dk_172 (dk_at dksX2_clause_4 13 rfl rfl)
theorem dX2_clause_109 : decode cX2_clause 109 = .ok (.aload_n 0, 1) := dk_42 (dk_at dksX2_clause_4 14 rfl rfl)
theorem dX2_clause_110 : decode cX2_clause 110 = .ok (.getfield 16, 3) := dk_180 0 16 (dk_at dksX2_clause_4 15 rfl rfl)
theorem dX2_clause_113 : decode cX2_clause 113 = .ok (.aload_n 0, 1) := dk_42 (dk_at dksX2_clause_4 18 rfl rfl)
theorem dX2_clause_114 : decode cX2_clause 114 = .ok (.getfield 149, 3) := dk_180 0 149 (dk_at dksX2_clause_4 19 rfl rfl)
theorem dX2_clause_117 : decode cX2_clause 117 = .ok (.dup2, 1) := dk_92 (dk_at dksX2_clause_4 22 rfl rfl)
theorem dX2_clause_118 : decode cX2_clause 118 = .ok (.iaload, 1) := dk_46 (dk_at dksX2_clause_4 23 rfl rfl)
theorem dX2_clause_119 : decode cX2_clause 119 = .ok (.iconst 1, 1) := dk_4 (dk_at dksX2_clause_5 0 rfl rfl)
theorem dX2_clause_120 : decode cX2_clause 120 = .ok (.iadd, 1) := dk_96 (dk_at dksX2_clause_5 1 rfl rfl)
theorem dX2_clause_121 : decode cX2_clause 121 = .ok (.iastore, 1) := dk_79 (dk_at dksX2_clause_5 2 rfl rfl)
theorem dX2_clause_122 : decode cX2_clause 122 = .ok (.aload_n 0, 1) := dk_42 (dk_at dksX2_clause_5 3 rfl rfl)
theorem dX2_clause_123 : decode cX2_clause 123 = .ok (.getfield 115, 3) := dk_180 0 115 (dk_at dksX2_clause_5 4 rfl rfl)
theorem dX2_clause_126 : decode cX2_clause 126 = .ok (.bipush 59, 2) := dk_16 59 (dk_at dksX2_clause_5 7 rfl rfl)
theorem dX2_clause_128 : decode cX2_clause 128 = .ok (.if_icmp .eq 5, 3) := dk_159 0 5 (dk_at dksX2_clause_5 9 rfl rfl)
theorem dX2_clause_131 : decode cX2_clause 131 = .ok (.iconst 1, 1) := dk_4 (dk_at dksX2_clause_5 12 rfl rfl)
theorem dX2_clause_132 : decode cX2_clause 132 = .ok (.ireturn, 1) := dk_172 (dk_at dksX2_clause_5 13 rfl rfl)
theorem dX2_clause_133 : decode cX2_clause 133 = .ok (.aload_n 0, 1) := dk_42 (dk_at dksX2_clause_5 14 rfl rfl)
theorem dX2_clause_134 : decode cX2_clause 134 = .ok (.invokevirtual 179, 3) := dk_182 0 179 (dk_at dksX2_clause_5 15 rfl rfl)
theorem dX2_clause_137 : decode cX2_clause 137 = .ok (.iconst 0, 1) := dk_3 (dk_at dksX2_clause_5 18 rfl rfl)
theorem dX2_clause_138 : decode cX2_clause 138 = .ok (.ireturn, 1) := dk_172 (dk_at dksX2_clause_5 19 rfl rfl)
abbrev cX2_sortOf : ByteArray := prog_15_method_51_code
def yX2_sortOf : MethodName := ⟨RX2, "sortOf", "()I"⟩
def dkwX2_sortOf_11 : List UInt8 := [153, 0, 8, 16, 12, 167, 0, 4, 2, 172]
abbrev dktX2_sortOf_11 : List UInt8 := dkwX2_sortOf_11 ++ []
def dkwX2_sortOf_10 : List UInt8 := [182, 0, 207, 153, 0, 8, 16, 11, 167, 0, 25, 42, 16, 101, 16, 110, 16, 100, 184, 0, 137, 182, 0, 207]
abbrev dktX2_sortOf_10 : List UInt8 := dkwX2_sortOf_10 ++ dktX2_sortOf_11
def dkwX2_sortOf_9 : List UInt8 := [16, 121, 16, 101, 16, 115, 184, 0, 137, 182, 0, 207, 153, 0, 6, 16, 10, 172, 42, 20, 0, 249]
abbrev dktX2_sortOf_9 : List UInt8 := dkwX2_sortOf_9 ++ dktX2_sortOf_10
def dkwX2_sortOf_8 : List UInt8 := [16, 8, 172, 42, 16, 108, 16, 97, 16, 121, 184, 0, 137, 182, 0, 207, 153, 0, 6, 16, 9, 172, 42]
abbrev dktX2_sortOf_8 : List UInt8 := dkwX2_sortOf_8 ++ dktX2_sortOf_9
def dkwX2_sortOf_7 : List UInt8 := [16, 7, 172, 42, 16, 119, 16, 101, 16, 105, 16, 103, 16, 104, 184, 0, 145, 182, 0, 207, 153, 0, 6]
abbrev dktX2_sortOf_7 : List UInt8 := dkwX2_sortOf_7 ++ dktX2_sortOf_8
def dkwX2_sortOf_6 : List UInt8 := [153, 0, 6, 16, 6, 172, 42, 16, 108, 16, 101, 16, 110, 16, 100, 184, 0, 141, 182, 0, 207, 153, 0, 6]
abbrev dktX2_sortOf_6 : List UInt8 := dkwX2_sortOf_6 ++ dktX2_sortOf_7
def dkwX2_sortOf_5 : List UInt8 := [153, 0, 5, 8, 172, 42, 16, 106, 16, 117, 16, 100, 16, 103, 16, 101, 184, 0, 145, 182, 0, 207]
abbrev dktX2_sortOf_5 : List UInt8 := dkwX2_sortOf_5 ++ dktX2_sortOf_6
def dkwX2_sortOf_4 : List UInt8 := [182, 0, 207, 153, 0, 5, 7, 172, 42, 16, 100, 16, 101, 16, 101, 16, 100, 184, 0, 141, 182, 0, 207]
abbrev dktX2_sortOf_4 : List UInt8 := dkwX2_sortOf_4 ++ dktX2_sortOf_5
def dkwX2_sortOf_3 : List UInt8 := [182, 0, 207, 153, 0, 5, 6, 172, 42, 16, 104, 16, 101, 16, 97, 16, 114, 16, 116, 184, 0, 145]
abbrev dktX2_sortOf_3 : List UInt8 := dkwX2_sortOf_3 ++ dktX2_sortOf_4
def dkwX2_sortOf_2 : List UInt8 := [42, 16, 108, 16, 105, 16, 101, 184, 0, 137, 182, 0, 207, 153, 0, 5, 5, 172, 42, 20, 0, 247]
abbrev dktX2_sortOf_2 : List UInt8 := dkwX2_sortOf_2 ++ dktX2_sortOf_3
def dkwX2_sortOf_1 : List UInt8 := [42, 16, 115, 16, 116, 16, 105, 16, 99, 16, 107, 16, 115, 184, 0, 155, 182, 0, 207, 153, 0, 5, 4, 172]
abbrev dktX2_sortOf_1 : List UInt8 := dkwX2_sortOf_1 ++ dktX2_sortOf_2
def dkwX2_sortOf_0 : List UInt8 := [42, 16, 119, 16, 101, 16, 105, 16, 103, 16, 104, 16, 116, 184, 0, 155, 182, 0, 207, 153, 0, 5, 3, 172]
abbrev dktX2_sortOf_0 : List UInt8 := dkwX2_sortOf_0 ++ dktX2_sortOf_1
theorem dksX2_sortOf_0 : cX2_sortOf.data.toList.drop 0 = dktX2_sortOf_0 := by decide +kernel
theorem dksX2_sortOf_1 : cX2_sortOf.data.toList.drop 24 = dktX2_sortOf_1 := dk_seg dksX2_sortOf_0 24 rfl rfl
theorem dksX2_sortOf_2 : cX2_sortOf.data.toList.drop 48 = dktX2_sortOf_2 := dk_seg dksX2_sortOf_1 24 rfl rfl
theorem dksX2_sortOf_3 : cX2_sortOf.data.toList.drop 70 = dktX2_sortOf_3 := dk_seg dksX2_sortOf_2 22 rfl rfl
theorem dksX2_sortOf_4 : cX2_sortOf.data.toList.drop 92 = dktX2_sortOf_4 := dk_seg dksX2_sortOf_3 22 rfl rfl
theorem dksX2_sortOf_5 : cX2_sortOf.data.toList.drop 115 = dktX2_sortOf_5 := dk_seg dksX2_sortOf_4 23 rfl rfl
theorem dksX2_sortOf_6 : cX2_sortOf.data.toList.drop 137 = dktX2_sortOf_6 := dk_seg dksX2_sortOf_5 22 rfl rfl
theorem dksX2_sortOf_7 : cX2_sortOf.data.toList.drop 161 = dktX2_sortOf_7 := dk_seg dksX2_sortOf_6 24 rfl rfl
theorem dksX2_sortOf_8 : cX2_sortOf.data.toList.drop 184 = dktX2_sortOf_8 := dk_seg dksX2_sortOf_7 23 rfl rfl
theorem dksX2_sortOf_9 : cX2_sortOf.data.toList.drop 207 = dktX2_sortOf_9 := dk_seg dksX2_sortOf_8 23 rfl rfl
theorem dksX2_sortOf_10 : cX2_sortOf.data.toList.drop 229 = dktX2_sortOf_10 := dk_seg dksX2_sortOf_9 22 rfl rfl
theorem dksX2_sortOf_11 : cX2_sortOf.data.toList.drop 253 = dktX2_sortOf_11 := dk_seg dksX2_sortOf_10 24 rfl rfl
theorem dX2_sortOf_0 : decode cX2_sortOf 0 = .ok (.aload_n 0, 1) := dk_42 (dk_at dksX2_sortOf_0 0 rfl rfl)
theorem dX2_sortOf_1 : decode cX2_sortOf 1 = .ok (.bipush 119, 2) := dk_16 119 (dk_at dksX2_sortOf_0 1 rfl rfl)
theorem dX2_sortOf_3 : decode cX2_sortOf 3 = .ok (.bipush 101, 2) := dk_16 101 (dk_at dksX2_sortOf_0 3 rfl rfl)
theorem dX2_sortOf_5 : decode cX2_sortOf 5 = .ok (.bipush 105, 2) := dk_16 105 (dk_at dksX2_sortOf_0 5 rfl rfl)
theorem dX2_sortOf_7 : decode cX2_sortOf 7 = .ok (.bipush 103, 2) := dk_16 103 (dk_at dksX2_sortOf_0 7 rfl rfl)
theorem dX2_sortOf_9 : decode cX2_sortOf 9 = .ok (.bipush 104, 2) := dk_16 104 (dk_at dksX2_sortOf_0 9 rfl rfl)
theorem dX2_sortOf_11 : decode cX2_sortOf 11 = .ok (.bipush 116, 2) := dk_16 116 (dk_at dksX2_sortOf_0 11 rfl rfl)
theorem dX2_sortOf_13 : decode cX2_sortOf 13 = .ok (.invokestatic 155, 3) := dk_184 0 155 (dk_at dksX2_sortOf_0 13 rfl rfl)
theorem dX2_sortOf_16 : decode cX2_sortOf 16 = .ok (.invokevirtual 207, 3) := dk_182 0 207 (dk_at dksX2_sortOf_0 16 rfl rfl)
theorem dX2_sortOf_19 : decode cX2_sortOf 19 = .ok (.ifCond .eq 5, 3) := dk_153 0 5 (dk_at dksX2_sortOf_0 19 rfl rfl)
theorem dX2_sortOf_22 : decode cX2_sortOf 22 = .ok (.iconst 0, 1) := dk_3 (dk_at dksX2_sortOf_0 22 rfl rfl)
theorem dX2_sortOf_23 : decode cX2_sortOf 23 = .ok (.ireturn, 1) := dk_172 (dk_at dksX2_sortOf_0 23 rfl rfl)
theorem dX2_sortOf_24 : decode cX2_sortOf 24 = .ok (.aload_n 0, 1) := dk_42 (dk_at dksX2_sortOf_1 0 rfl rfl)
theorem dX2_sortOf_25 : decode cX2_sortOf 25 = .ok (.bipush 115, 2) := dk_16 115 (dk_at dksX2_sortOf_1 1 rfl rfl)
theorem dX2_sortOf_27 : decode cX2_sortOf 27 = .ok (.bipush 116, 2) := dk_16 116 (dk_at dksX2_sortOf_1 3 rfl rfl)
theorem dX2_sortOf_29 : decode cX2_sortOf 29 = .ok (.bipush 105, 2) := dk_16 105 (dk_at dksX2_sortOf_1 5 rfl rfl)
theorem dX2_sortOf_31 : decode cX2_sortOf 31 = .ok (.bipush 99, 2) := dk_16 99 (dk_at dksX2_sortOf_1 7 rfl rfl)
theorem dX2_sortOf_33 : decode cX2_sortOf 33 = .ok (.bipush 107, 2) := dk_16 107 (dk_at dksX2_sortOf_1 9 rfl rfl)
theorem dX2_sortOf_35 : decode cX2_sortOf 35 = .ok (.bipush 115, 2) := dk_16 115 (dk_at dksX2_sortOf_1 11 rfl rfl)
theorem dX2_sortOf_37 : decode cX2_sortOf 37 = .ok (.invokestatic 155, 3) := dk_184 0 155 (dk_at dksX2_sortOf_1 13 rfl rfl)
theorem dX2_sortOf_40 : decode cX2_sortOf 40 = .ok (.invokevirtual 207, 3) := dk_182 0 207 (dk_at dksX2_sortOf_1 16 rfl rfl)
theorem dX2_sortOf_43 : decode cX2_sortOf 43 = .ok (.ifCond .eq 5, 3) := dk_153 0 5 (dk_at dksX2_sortOf_1 19 rfl rfl)
theorem dX2_sortOf_46 : decode cX2_sortOf 46 = .ok (.iconst 1, 1) := dk_4 (dk_at dksX2_sortOf_1 22 rfl rfl)
theorem dX2_sortOf_47 : decode cX2_sortOf 47 = .ok (.ireturn, 1) := dk_172 (dk_at dksX2_sortOf_1 23 rfl rfl)
theorem dX2_sortOf_48 : decode cX2_sortOf 48 = .ok (.aload_n 0, 1) := dk_42 (dk_at dksX2_sortOf_2 0 rfl rfl)
theorem dX2_sortOf_49 : decode cX2_sortOf 49 = .ok (.bipush 108, 2) := dk_16 108 (dk_at dksX2_sortOf_2 1 rfl rfl)
theorem dX2_sortOf_51 : decode cX2_sortOf 51 = .ok (.bipush 105, 2) := dk_16 105 (dk_at dksX2_sortOf_2 3 rfl rfl)
theorem dX2_sortOf_53 : decode cX2_sortOf 53 = .ok (.bipush 101, 2) := dk_16 101 (dk_at dksX2_sortOf_2 5 rfl rfl)
theorem dX2_sortOf_55 : decode cX2_sortOf 55 = .ok (.invokestatic 137, 3) := dk_184 0 137 (dk_at dksX2_sortOf_2 7 rfl rfl)
theorem dX2_sortOf_58 : decode cX2_sortOf 58 = .ok (.invokevirtual 207, 3) := dk_182 0 207 (dk_at dksX2_sortOf_2 10 rfl rfl)
theorem dX2_sortOf_61 : decode cX2_sortOf 61 = .ok (.ifCond .eq 5, 3) := dk_153 0 5 (dk_at dksX2_sortOf_2 13 rfl rfl)
theorem dX2_sortOf_64 : decode cX2_sortOf 64 = .ok (.iconst 2, 1) := dk_5 (dk_at dksX2_sortOf_2 16 rfl rfl)
theorem dX2_sortOf_65 : decode cX2_sortOf 65 = .ok (.ireturn, 1) := dk_172 (dk_at dksX2_sortOf_2 17 rfl rfl)
theorem dX2_sortOf_66 : decode cX2_sortOf 66 = .ok (.aload_n 0, 1) := dk_42 (dk_at dksX2_sortOf_2 18 rfl rfl)
theorem dX2_sortOf_67 : decode cX2_sortOf 67 = .ok (.ldc2_w 247, 3) := dk_20 0 247 (dk_at dksX2_sortOf_2 19 rfl rfl)
theorem dX2_sortOf_70 : decode cX2_sortOf 70 = .ok (.invokevirtual 207, 3) := dk_182 0 207 (dk_at dksX2_sortOf_3 0 rfl rfl)
theorem dX2_sortOf_73 : decode cX2_sortOf 73 = .ok (.ifCond .eq 5, 3) := dk_153 0 5 (dk_at dksX2_sortOf_3 3 rfl rfl)
theorem dX2_sortOf_76 : decode cX2_sortOf 76 = .ok (.iconst 3, 1) := dk_6 (dk_at dksX2_sortOf_3 6 rfl rfl)
theorem dX2_sortOf_77 : decode cX2_sortOf 77 = .ok (.ireturn, 1) := dk_172 (dk_at dksX2_sortOf_3 7 rfl rfl)
theorem dX2_sortOf_78 : decode cX2_sortOf 78 = .ok (.aload_n 0, 1) := dk_42 (dk_at dksX2_sortOf_3 8 rfl rfl)
theorem dX2_sortOf_79 : decode cX2_sortOf 79 = .ok (.bipush 104, 2) := dk_16 104 (dk_at dksX2_sortOf_3 9 rfl rfl)
theorem dX2_sortOf_81 : decode cX2_sortOf 81 = .ok (.bipush 101, 2) := dk_16 101 (dk_at dksX2_sortOf_3 11 rfl rfl)
theorem dX2_sortOf_83 : decode cX2_sortOf 83 = .ok (.bipush 97, 2) := dk_16 97 (dk_at dksX2_sortOf_3 13 rfl rfl)
theorem dX2_sortOf_85 : decode cX2_sortOf 85 = .ok (.bipush 114, 2) := dk_16 114 (dk_at dksX2_sortOf_3 15 rfl rfl)
theorem dX2_sortOf_87 : decode cX2_sortOf 87 = .ok (.bipush 116, 2) := dk_16 116 (dk_at dksX2_sortOf_3 17 rfl rfl)
theorem dX2_sortOf_89 : decode cX2_sortOf 89 = .ok (.invokestatic 145, 3) := dk_184 0 145 (dk_at dksX2_sortOf_3 19 rfl rfl)
theorem dX2_sortOf_92 : decode cX2_sortOf 92 = .ok (.invokevirtual 207, 3) := dk_182 0 207 (dk_at dksX2_sortOf_4 0 rfl rfl)
theorem dX2_sortOf_95 : decode cX2_sortOf 95 = .ok (.ifCond .eq 5, 3) := dk_153 0 5 (dk_at dksX2_sortOf_4 3 rfl rfl)
theorem dX2_sortOf_98 : decode cX2_sortOf 98 = .ok (.iconst 4, 1) := dk_7 (dk_at dksX2_sortOf_4 6 rfl rfl)
theorem dX2_sortOf_99 : decode cX2_sortOf 99 = .ok (.ireturn, 1) := dk_172 (dk_at dksX2_sortOf_4 7 rfl rfl)
theorem dX2_sortOf_100 : decode cX2_sortOf 100 = .ok (.aload_n 0, 1) := dk_42 (dk_at dksX2_sortOf_4 8 rfl rfl)
theorem dX2_sortOf_101 : decode cX2_sortOf 101 = .ok (.bipush 100, 2) := dk_16 100 (dk_at dksX2_sortOf_4 9 rfl rfl)
theorem dX2_sortOf_103 : decode cX2_sortOf 103 = .ok (.bipush 101, 2) := dk_16 101 (dk_at dksX2_sortOf_4 11 rfl rfl)
theorem dX2_sortOf_105 : decode cX2_sortOf 105 = .ok (.bipush 101, 2) := dk_16 101 (dk_at dksX2_sortOf_4 13 rfl rfl)
theorem dX2_sortOf_107 : decode cX2_sortOf 107 = .ok (.bipush 100, 2) := dk_16 100 (dk_at dksX2_sortOf_4 15 rfl rfl)
theorem dX2_sortOf_109 : decode cX2_sortOf 109 = .ok (.invokestatic 141, 3) := dk_184 0 141 (dk_at dksX2_sortOf_4 17 rfl rfl)
theorem dX2_sortOf_112 : decode cX2_sortOf 112 = .ok (.invokevirtual 207, 3) := dk_182 0 207 (dk_at dksX2_sortOf_4 20 rfl rfl)
theorem dX2_sortOf_115 : decode cX2_sortOf 115 = .ok (.ifCond .eq 5, 3) := dk_153 0 5 (dk_at dksX2_sortOf_5 0 rfl rfl)
theorem dX2_sortOf_118 : decode cX2_sortOf 118 = .ok (.iconst 5, 1) := dk_8 (dk_at dksX2_sortOf_5 3 rfl rfl)
theorem dX2_sortOf_119 : decode cX2_sortOf 119 = .ok (.ireturn, 1) := dk_172 (dk_at dksX2_sortOf_5 4 rfl rfl)
theorem dX2_sortOf_120 : decode cX2_sortOf 120 = .ok (.aload_n 0, 1) := dk_42 (dk_at dksX2_sortOf_5 5 rfl rfl)
theorem dX2_sortOf_121 : decode cX2_sortOf 121 = .ok (.bipush 106, 2) := dk_16 106 (dk_at dksX2_sortOf_5 6 rfl rfl)
theorem dX2_sortOf_123 : decode cX2_sortOf 123 = .ok (.bipush 117, 2) := dk_16 117 (dk_at dksX2_sortOf_5 8 rfl rfl)
theorem dX2_sortOf_125 : decode cX2_sortOf 125 = .ok (.bipush 100, 2) := dk_16 100 (dk_at dksX2_sortOf_5 10 rfl rfl)
theorem dX2_sortOf_127 : decode cX2_sortOf 127 = .ok (.bipush 103, 2) := dk_16 103 (dk_at dksX2_sortOf_5 12 rfl rfl)
theorem dX2_sortOf_129 : decode cX2_sortOf 129 = .ok (.bipush 101, 2) := dk_16 101 (dk_at dksX2_sortOf_5 14 rfl rfl)
theorem dX2_sortOf_131 : decode cX2_sortOf 131 = .ok (.invokestatic 145, 3) := dk_184 0 145 (dk_at dksX2_sortOf_5 16 rfl rfl)
theorem dX2_sortOf_134 : decode cX2_sortOf 134 = .ok (.invokevirtual 207, 3) := dk_182 0 207 (dk_at dksX2_sortOf_5 19 rfl rfl)
theorem dX2_sortOf_137 : decode cX2_sortOf 137 = .ok (.ifCond .eq 6, 3) := dk_153 0 6 (dk_at dksX2_sortOf_6 0 rfl rfl)
theorem dX2_sortOf_140 : decode cX2_sortOf 140 = .ok (.bipush 6, 2) := dk_16 6 (dk_at dksX2_sortOf_6 3 rfl rfl)
theorem dX2_sortOf_142 : decode cX2_sortOf 142 = .ok (.ireturn, 1) := dk_172 (dk_at dksX2_sortOf_6 5 rfl rfl)
theorem dX2_sortOf_143 : decode cX2_sortOf 143 = .ok (.aload_n 0, 1) := dk_42 (dk_at dksX2_sortOf_6 6 rfl rfl)
theorem dX2_sortOf_144 : decode cX2_sortOf 144 = .ok (.bipush 108, 2) := dk_16 108 (dk_at dksX2_sortOf_6 7 rfl rfl)
theorem dX2_sortOf_146 : decode cX2_sortOf 146 = .ok (.bipush 101, 2) := dk_16 101 (dk_at dksX2_sortOf_6 9 rfl rfl)
theorem dX2_sortOf_148 : decode cX2_sortOf 148 = .ok (.bipush 110, 2) := dk_16 110 (dk_at dksX2_sortOf_6 11 rfl rfl)
theorem dX2_sortOf_150 : decode cX2_sortOf 150 = .ok (.bipush 100, 2) := dk_16 100 (dk_at dksX2_sortOf_6 13 rfl rfl)
theorem dX2_sortOf_152 : decode cX2_sortOf 152 = .ok (.invokestatic 141, 3) := dk_184 0 141 (dk_at dksX2_sortOf_6 15 rfl rfl)
theorem dX2_sortOf_155 : decode cX2_sortOf 155 = .ok (.invokevirtual 207, 3) := dk_182 0 207 (dk_at dksX2_sortOf_6 18 rfl rfl)
theorem dX2_sortOf_158 : decode cX2_sortOf 158 = .ok (.ifCond .eq 6, 3) := dk_153 0 6 (dk_at dksX2_sortOf_6 21 rfl rfl)
theorem dX2_sortOf_161 : decode cX2_sortOf 161 = .ok (.bipush 7, 2) := dk_16 7 (dk_at dksX2_sortOf_7 0 rfl rfl)
theorem dX2_sortOf_163 : decode cX2_sortOf 163 = .ok (.ireturn, 1) := dk_172 (dk_at dksX2_sortOf_7 2 rfl rfl)
theorem dX2_sortOf_164 : decode cX2_sortOf 164 = .ok (.aload_n 0, 1) := dk_42 (dk_at dksX2_sortOf_7 3 rfl rfl)
theorem dX2_sortOf_165 : decode cX2_sortOf 165 = .ok (.bipush 119, 2) := dk_16 119 (dk_at dksX2_sortOf_7 4 rfl rfl)
theorem dX2_sortOf_167 : decode cX2_sortOf 167 = .ok (.bipush 101, 2) := dk_16 101 (dk_at dksX2_sortOf_7 6 rfl rfl)
theorem dX2_sortOf_169 : decode cX2_sortOf 169 = .ok (.bipush 105, 2) := dk_16 105 (dk_at dksX2_sortOf_7 8 rfl rfl)
theorem dX2_sortOf_171 : decode cX2_sortOf 171 = .ok (.bipush 103, 2) := dk_16 103 (dk_at dksX2_sortOf_7 10 rfl rfl)
theorem dX2_sortOf_173 : decode cX2_sortOf 173 = .ok (.bipush 104, 2) := dk_16 104 (dk_at dksX2_sortOf_7 12 rfl rfl)
theorem dX2_sortOf_175 : decode cX2_sortOf 175 = .ok (.invokestatic 145, 3) := dk_184 0 145 (dk_at dksX2_sortOf_7 14 rfl rfl)
theorem dX2_sortOf_178 : decode cX2_sortOf 178 = .ok (.invokevirtual 207, 3) := dk_182 0 207 (dk_at dksX2_sortOf_7 17 rfl rfl)
theorem dX2_sortOf_181 : decode cX2_sortOf 181 = .ok (.ifCond .eq 6, 3) := dk_153 0 6 (dk_at dksX2_sortOf_7 20 rfl rfl)
theorem dX2_sortOf_184 : decode cX2_sortOf 184 = .ok (.bipush 8, 2) := dk_16 8 (dk_at dksX2_sortOf_8 0 rfl rfl)
theorem dX2_sortOf_186 : decode cX2_sortOf 186 = .ok (.ireturn, 1) := dk_172 (dk_at dksX2_sortOf_8 2 rfl rfl)
theorem dX2_sortOf_187 : decode cX2_sortOf 187 = .ok (.aload_n 0, 1) := dk_42 (dk_at dksX2_sortOf_8 3 rfl rfl)
theorem dX2_sortOf_188 : decode cX2_sortOf 188 = .ok (.bipush 108, 2) := dk_16 108 (dk_at dksX2_sortOf_8 4 rfl rfl)
theorem dX2_sortOf_190 : decode cX2_sortOf 190 = .ok (.bipush 97, 2) := dk_16 97 (dk_at dksX2_sortOf_8 6 rfl rfl)
theorem dX2_sortOf_192 : decode cX2_sortOf 192 = .ok (.bipush 121, 2) := dk_16 121 (dk_at dksX2_sortOf_8 8 rfl rfl)
theorem dX2_sortOf_194 : decode cX2_sortOf 194 = .ok (.invokestatic 137, 3) := dk_184 0 137 (dk_at dksX2_sortOf_8 10 rfl rfl)
theorem dX2_sortOf_197 : decode cX2_sortOf 197 = .ok (.invokevirtual 207, 3) := dk_182 0 207 (dk_at dksX2_sortOf_8 13 rfl rfl)
theorem dX2_sortOf_200 : decode cX2_sortOf 200 = .ok (.ifCond .eq 6, 3) := dk_153 0 6 (dk_at dksX2_sortOf_8 16 rfl rfl)
theorem dX2_sortOf_203 : decode cX2_sortOf 203 = .ok (.bipush 9, 2) := dk_16 9 (dk_at dksX2_sortOf_8 19 rfl rfl)
theorem dX2_sortOf_205 : decode cX2_sortOf 205 = .ok (.ireturn, 1) := dk_172 (dk_at dksX2_sortOf_8 21 rfl rfl)
theorem dX2_sortOf_206 : decode cX2_sortOf 206 = .ok (.aload_n 0, 1) := dk_42 (dk_at dksX2_sortOf_8 22 rfl rfl)
theorem dX2_sortOf_207 : decode cX2_sortOf 207 = .ok (.bipush 121, 2) := dk_16 121 (dk_at dksX2_sortOf_9 0 rfl rfl)
theorem dX2_sortOf_209 : decode cX2_sortOf 209 = .ok (.bipush 101, 2) := dk_16 101 (dk_at dksX2_sortOf_9 2 rfl rfl)
theorem dX2_sortOf_211 : decode cX2_sortOf 211 = .ok (.bipush 115, 2) := dk_16 115 (dk_at dksX2_sortOf_9 4 rfl rfl)
theorem dX2_sortOf_213 : decode cX2_sortOf 213 = .ok (.invokestatic 137, 3) := dk_184 0 137 (dk_at dksX2_sortOf_9 6 rfl rfl)
theorem dX2_sortOf_216 : decode cX2_sortOf 216 = .ok (.invokevirtual 207, 3) := dk_182 0 207 (dk_at dksX2_sortOf_9 9 rfl rfl)
theorem dX2_sortOf_219 : decode cX2_sortOf 219 = .ok (.ifCond .eq 6, 3) := dk_153 0 6 (dk_at dksX2_sortOf_9 12 rfl rfl)
theorem dX2_sortOf_222 : decode cX2_sortOf 222 = .ok (.bipush 10, 2) := dk_16 10 (dk_at dksX2_sortOf_9 15 rfl rfl)
theorem dX2_sortOf_224 : decode cX2_sortOf 224 = .ok (.ireturn, 1) := dk_172 (dk_at dksX2_sortOf_9 17 rfl rfl)
theorem dX2_sortOf_225 : decode cX2_sortOf 225 = .ok (.aload_n 0, 1) := dk_42 (dk_at dksX2_sortOf_9 18 rfl rfl)
theorem dX2_sortOf_226 : decode cX2_sortOf 226 = .ok (.ldc2_w 249, 3) := dk_20 0 249 (dk_at dksX2_sortOf_9 19 rfl rfl)
theorem dX2_sortOf_229 : decode cX2_sortOf 229 = .ok (.invokevirtual 207, 3) := dk_182 0 207 (dk_at dksX2_sortOf_10 0 rfl rfl)
theorem dX2_sortOf_232 : decode cX2_sortOf 232 = .ok (.ifCond .eq 8, 3) := dk_153 0 8 (dk_at dksX2_sortOf_10 3 rfl rfl)
theorem dX2_sortOf_235 : decode cX2_sortOf 235 = .ok (.bipush 11, 2) := dk_16 11 (dk_at dksX2_sortOf_10 6 rfl rfl)
theorem dX2_sortOf_237 : decode cX2_sortOf 237 = .ok (.goto 25, 3) := dk_167 0 25 (dk_at dksX2_sortOf_10 8 rfl rfl)
theorem dX2_sortOf_240 : decode cX2_sortOf 240 = .ok (.aload_n 0, 1) := dk_42 (dk_at dksX2_sortOf_10 11 rfl rfl)
theorem dX2_sortOf_241 : decode cX2_sortOf 241 = .ok (.bipush 101, 2) := dk_16 101 (dk_at dksX2_sortOf_10 12 rfl rfl)
theorem dX2_sortOf_243 : decode cX2_sortOf 243 = .ok (.bipush 110, 2) := dk_16 110 (dk_at dksX2_sortOf_10 14 rfl rfl)
theorem dX2_sortOf_245 : decode cX2_sortOf 245 = .ok (.bipush 100, 2) := dk_16 100 (dk_at dksX2_sortOf_10 16 rfl rfl)
theorem dX2_sortOf_247 : decode cX2_sortOf 247 = .ok (.invokestatic 137, 3) := dk_184 0 137 (dk_at dksX2_sortOf_10 18 rfl rfl)
theorem dX2_sortOf_250 : decode cX2_sortOf 250 = .ok (.invokevirtual 207, 3) := dk_182 0 207 (dk_at dksX2_sortOf_10 21 rfl rfl)
theorem dX2_sortOf_253 : decode cX2_sortOf 253 = .ok (.ifCond .eq 8, 3) := dk_153 0 8 (dk_at dksX2_sortOf_11 0 rfl rfl)
theorem dX2_sortOf_256 : decode cX2_sortOf 256 = .ok (.bipush 12, 2) := dk_16 12 (dk_at dksX2_sortOf_11 3 rfl rfl)
theorem dX2_sortOf_258 : decode cX2_sortOf 258 = .ok (.goto 4, 3) := dk_167 0 4 (dk_at dksX2_sortOf_11 5 rfl rfl)
theorem dX2_sortOf_261 : decode cX2_sortOf 261 = .ok (.iconst (-1), 1) := dk_2 (dk_at dksX2_sortOf_11 8 rfl rfl)
theorem dX2_sortOf_262 : decode cX2_sortOf 262 = .ok (.ireturn, 1) := dk_172 (dk_at dksX2_sortOf_11 9 rfl rfl)
abbrev cX2_w6 : ByteArray := prog_15_method_30_code
def yX2_w6 : MethodName := ⟨RX2, "w6", "(IIIIII)J"⟩
def dkwX2_w6_0 : List UInt8 := [26, 27, 28, 29, 21, 4, 184, 0, 145, 16, 8, 121, 21, 5, 133, 129, 173]
abbrev dktX2_w6_0 : List UInt8 := dkwX2_w6_0 ++ []
theorem dksX2_w6_0 : cX2_w6.data.toList.drop 0 = dktX2_w6_0 := by decide +kernel
theorem dX2_w6_0 : decode cX2_w6 0 = .ok (.iload_n 0, 1) := dk_26 (dk_at dksX2_w6_0 0 rfl rfl)
theorem dX2_w6_1 : decode cX2_w6 1 = .ok (.iload_n 1, 1) := dk_27 (dk_at dksX2_w6_0 1 rfl rfl)
theorem dX2_w6_2 : decode cX2_w6 2 = .ok (.iload_n 2, 1) := dk_28 (dk_at dksX2_w6_0 2 rfl rfl)
theorem dX2_w6_3 : decode cX2_w6 3 = .ok (.iload_n 3, 1) := dk_29 (dk_at dksX2_w6_0 3 rfl rfl)
theorem dX2_w6_4 : decode cX2_w6 4 = .ok (.iload 4, 2) := dk_21 4 (dk_at dksX2_w6_0 4 rfl rfl)
theorem dX2_w6_6 : decode cX2_w6 6 = .ok (.invokestatic 145, 3) := dk_184 0 145 (dk_at dksX2_w6_0 6 rfl rfl)
theorem dX2_w6_9 : decode cX2_w6 9 = .ok (.bipush 8, 2) := dk_16 8 (dk_at dksX2_w6_0 9 rfl rfl)
theorem dX2_w6_11 : decode cX2_w6 11 = .ok (.lshl, 1) := dk_121 (dk_at dksX2_w6_0 11 rfl rfl)
theorem dX2_w6_12 : decode cX2_w6 12 = .ok (.iload 5, 2) := dk_21 5 (dk_at dksX2_w6_0 12 rfl rfl)
theorem dX2_w6_14 : decode cX2_w6 14 = .ok (.i2l, 1) := dk_133 (dk_at dksX2_w6_0 14 rfl rfl)
theorem dX2_w6_15 : decode cX2_w6 15 = .ok (.lor, 1) := dk_129 (dk_at dksX2_w6_0 15 rfl rfl)
theorem dX2_w6_16 : decode cX2_w6 16 = .ok (.lreturn, 1) := dk_173 (dk_at dksX2_w6_0 16 rfl rfl)
abbrev cX2_w5 : ByteArray := prog_15_method_29_code
def yX2_w5 : MethodName := ⟨RX2, "w5", "(IIIII)J"⟩
def dkwX2_w5_0 : List UInt8 := [26, 27, 28, 29, 184, 0, 141, 16, 8, 121, 21, 4, 133, 129, 173]
abbrev dktX2_w5_0 : List UInt8 := dkwX2_w5_0 ++ []
theorem dksX2_w5_0 : cX2_w5.data.toList.drop 0 = dktX2_w5_0 := by decide +kernel
theorem dX2_w5_0 : decode cX2_w5 0 = .ok (.iload_n 0, 1) := dk_26 (dk_at dksX2_w5_0 0 rfl rfl)
theorem dX2_w5_1 : decode cX2_w5 1 = .ok (.iload_n 1, 1) := dk_27 (dk_at dksX2_w5_0 1 rfl rfl)
theorem dX2_w5_2 : decode cX2_w5 2 = .ok (.iload_n 2, 1) := dk_28 (dk_at dksX2_w5_0 2 rfl rfl)
theorem dX2_w5_3 : decode cX2_w5 3 = .ok (.iload_n 3, 1) := dk_29 (dk_at dksX2_w5_0 3 rfl rfl)
theorem dX2_w5_4 : decode cX2_w5 4 = .ok (.invokestatic 141, 3) := dk_184 0 141 (dk_at dksX2_w5_0 4 rfl rfl)
theorem dX2_w5_7 : decode cX2_w5 7 = .ok (.bipush 8, 2) := dk_16 8 (dk_at dksX2_w5_0 7 rfl rfl)
theorem dX2_w5_9 : decode cX2_w5 9 = .ok (.lshl, 1) := dk_121 (dk_at dksX2_w5_0 9 rfl rfl)
theorem dX2_w5_10 : decode cX2_w5 10 = .ok (.iload 4, 2) := dk_21 4 (dk_at dksX2_w5_0 10 rfl rfl)
theorem dX2_w5_12 : decode cX2_w5 12 = .ok (.i2l, 1) := dk_133 (dk_at dksX2_w5_0 12 rfl rfl)
theorem dX2_w5_13 : decode cX2_w5 13 = .ok (.lor, 1) := dk_129 (dk_at dksX2_w5_0 13 rfl rfl)
theorem dX2_w5_14 : decode cX2_w5 14 = .ok (.lreturn, 1) := dk_173 (dk_at dksX2_w5_0 14 rfl rfl)
abbrev cX2_w4 : ByteArray := prog_15_method_28_code
def yX2_w4 : MethodName := ⟨RX2, "w4", "(IIII)J"⟩
def dkwX2_w4_0 : List UInt8 := [26, 27, 28, 184, 0, 137, 16, 8, 121, 29, 133, 129, 173]
abbrev dktX2_w4_0 : List UInt8 := dkwX2_w4_0 ++ []
theorem dksX2_w4_0 : cX2_w4.data.toList.drop 0 = dktX2_w4_0 := by decide +kernel
theorem dX2_w4_0 : decode cX2_w4 0 = .ok (.iload_n 0, 1) := dk_26 (dk_at dksX2_w4_0 0 rfl rfl)
theorem dX2_w4_1 : decode cX2_w4 1 = .ok (.iload_n 1, 1) := dk_27 (dk_at dksX2_w4_0 1 rfl rfl)
theorem dX2_w4_2 : decode cX2_w4 2 = .ok (.iload_n 2, 1) := dk_28 (dk_at dksX2_w4_0 2 rfl rfl)
theorem dX2_w4_3 : decode cX2_w4 3 = .ok (.invokestatic 137, 3) := dk_184 0 137 (dk_at dksX2_w4_0 3 rfl rfl)
theorem dX2_w4_6 : decode cX2_w4 6 = .ok (.bipush 8, 2) := dk_16 8 (dk_at dksX2_w4_0 6 rfl rfl)
theorem dX2_w4_8 : decode cX2_w4 8 = .ok (.lshl, 1) := dk_121 (dk_at dksX2_w4_0 8 rfl rfl)
theorem dX2_w4_9 : decode cX2_w4 9 = .ok (.iload_n 3, 1) := dk_29 (dk_at dksX2_w4_0 9 rfl rfl)
theorem dX2_w4_10 : decode cX2_w4 10 = .ok (.i2l, 1) := dk_133 (dk_at dksX2_w4_0 10 rfl rfl)
theorem dX2_w4_11 : decode cX2_w4 11 = .ok (.lor, 1) := dk_129 (dk_at dksX2_w4_0 11 rfl rfl)
theorem dX2_w4_12 : decode cX2_w4 12 = .ok (.lreturn, 1) := dk_173 (dk_at dksX2_w4_0 12 rfl rfl)
abbrev cX2_w3 : ByteArray := prog_15_method_27_code
def yX2_w3 : MethodName := ⟨RX2, "w3", "(III)J"⟩
def dkwX2_w3_0 : List UInt8 := [26, 133, 16, 16, 121, 27, 16, 8, 120, 133, 129, 28, 133, 129, 173]
abbrev dktX2_w3_0 : List UInt8 := dkwX2_w3_0 ++ []
theorem dksX2_w3_0 : cX2_w3.data.toList.drop 0 = dktX2_w3_0 := by decide +kernel
theorem dX2_w3_0 : decode cX2_w3 0 = .ok (.iload_n 0, 1) := dk_26 (dk_at dksX2_w3_0 0 rfl rfl)
theorem dX2_w3_1 : decode cX2_w3 1 = .ok (.i2l, 1) := dk_133 (dk_at dksX2_w3_0 1 rfl rfl)
theorem dX2_w3_2 : decode cX2_w3 2 = .ok (.bipush 16, 2) := dk_16 16 (dk_at dksX2_w3_0 2 rfl rfl)
theorem dX2_w3_4 : decode cX2_w3 4 = .ok (.lshl, 1) := dk_121 (dk_at dksX2_w3_0 4 rfl rfl)
theorem dX2_w3_5 : decode cX2_w3 5 = .ok (.iload_n 1, 1) := dk_27 (dk_at dksX2_w3_0 5 rfl rfl)
theorem dX2_w3_6 : decode cX2_w3 6 = .ok (.bipush 8, 2) := dk_16 8 (dk_at dksX2_w3_0 6 rfl rfl)
theorem dX2_w3_8 : decode cX2_w3 8 = .ok (.ishl, 1) := dk_120 (dk_at dksX2_w3_0 8 rfl rfl)
theorem dX2_w3_9 : decode cX2_w3 9 = .ok (.i2l, 1) := dk_133 (dk_at dksX2_w3_0 9 rfl rfl)
theorem dX2_w3_10 : decode cX2_w3 10 = .ok (.lor, 1) := dk_129 (dk_at dksX2_w3_0 10 rfl rfl)
theorem dX2_w3_11 : decode cX2_w3 11 = .ok (.iload_n 2, 1) := dk_28 (dk_at dksX2_w3_0 11 rfl rfl)
theorem dX2_w3_12 : decode cX2_w3 12 = .ok (.i2l, 1) := dk_133 (dk_at dksX2_w3_0 12 rfl rfl)
theorem dX2_w3_13 : decode cX2_w3 13 = .ok (.lor, 1) := dk_129 (dk_at dksX2_w3_0 13 rfl rfl)
theorem dX2_w3_14 : decode cX2_w3 14 = .ok (.lreturn, 1) := dk_173 (dk_at dksX2_w3_0 14 rfl rfl)
abbrev cX2_isWord : ByteArray := prog_15_method_31_code
def yX2_isWord : MethodName := ⟨RX2, "isWord", "(J)Z"⟩
def dkwX2_isWord_0 : List UInt8 := [42, 180, 0, 115, 5, 160, 0, 16, 42, 180, 0, 128, 31, 148, 154, 0, 7, 4, 167, 0, 4, 3, 172]
abbrev dktX2_isWord_0 : List UInt8 := dkwX2_isWord_0 ++ []
theorem dksX2_isWord_0 : cX2_isWord.data.toList.drop 0 = dktX2_isWord_0 := by decide +kernel
theorem dX2_isWord_0 : decode cX2_isWord 0 = .ok (.aload_n 0, 1) := dk_42 (dk_at dksX2_isWord_0 0 rfl rfl)
theorem dX2_isWord_1 : decode cX2_isWord 1 = .ok (.getfield 115, 3) := dk_180 0 115 (dk_at dksX2_isWord_0 1 rfl rfl)
theorem dX2_isWord_4 : decode cX2_isWord 4 = .ok (.iconst 2, 1) := dk_5 (dk_at dksX2_isWord_0 4 rfl rfl)
theorem dX2_isWord_5 : decode cX2_isWord 5 = .ok (.if_icmp .ne 16, 3) := dk_160 0 16 (dk_at dksX2_isWord_0 5 rfl rfl)
theorem dX2_isWord_8 : decode cX2_isWord 8 = .ok (.aload_n 0, 1) := dk_42 (dk_at dksX2_isWord_0 8 rfl rfl)
theorem dX2_isWord_9 : decode cX2_isWord 9 = .ok (.getfield 128, 3) := dk_180 0 128 (dk_at dksX2_isWord_0 9 rfl rfl)
theorem dX2_isWord_12 : decode cX2_isWord 12 = .ok (.lload_n 1, 1) := dk_31 (dk_at dksX2_isWord_0 12 rfl rfl)
theorem dX2_isWord_13 : decode cX2_isWord 13 = .ok (.lcmp, 1) := dk_148 (dk_at dksX2_isWord_0 13 rfl rfl)
theorem dX2_isWord_14 : decode cX2_isWord 14 = .ok (.ifCond .ne 7, 3) := dk_154 0 7 (dk_at dksX2_isWord_0 14 rfl rfl)
theorem dX2_isWord_17 : decode cX2_isWord 17 = .ok (.iconst 1, 1) := dk_4 (dk_at dksX2_isWord_0 17 rfl rfl)
theorem dX2_isWord_18 : decode cX2_isWord 18 = .ok (.goto 4, 3) := dk_167 0 4 (dk_at dksX2_isWord_0 18 rfl rfl)
theorem dX2_isWord_21 : decode cX2_isWord 21 = .ok (.iconst 0, 1) := dk_3 (dk_at dksX2_isWord_0 21 rfl rfl)
theorem dX2_isWord_22 : decode cX2_isWord 22 = .ok (.ireturn, 1) := dk_172 (dk_at dksX2_isWord_0 22 rfl rfl)
abbrev cX2_has : ByteArray := prog_15_method_4_code
def yX2_has : MethodName := ⟨RX2, "has", "(II)Z"⟩
def dkwX2_has_0 : List UInt8 := [26, 27, 122, 4, 126, 4, 160, 0, 7, 4, 167, 0, 4, 3, 172]
abbrev dktX2_has_0 : List UInt8 := dkwX2_has_0 ++ []
theorem dksX2_has_0 : cX2_has.data.toList.drop 0 = dktX2_has_0 := by decide +kernel
theorem dX2_has_0 : decode cX2_has 0 = .ok (.iload_n 0, 1) := dk_26 (dk_at dksX2_has_0 0 rfl rfl)
theorem dX2_has_1 : decode cX2_has 1 = .ok (.iload_n 1, 1) := dk_27 (dk_at dksX2_has_0 1 rfl rfl)
theorem dX2_has_2 : decode cX2_has 2 = .ok (.ishr, 1) := dk_122 (dk_at dksX2_has_0 2 rfl rfl)
theorem dX2_has_3 : decode cX2_has 3 = .ok (.iconst 1, 1) := dk_4 (dk_at dksX2_has_0 3 rfl rfl)
theorem dX2_has_4 : decode cX2_has 4 = .ok (.iand, 1) := dk_126 (dk_at dksX2_has_0 4 rfl rfl)
theorem dX2_has_5 : decode cX2_has 5 = .ok (.iconst 1, 1) := dk_4 (dk_at dksX2_has_0 5 rfl rfl)
theorem dX2_has_6 : decode cX2_has 6 = .ok (.if_icmp .ne 7, 3) := dk_160 0 7 (dk_at dksX2_has_0 6 rfl rfl)
theorem dX2_has_9 : decode cX2_has 9 = .ok (.iconst 1, 1) := dk_4 (dk_at dksX2_has_0 9 rfl rfl)
theorem dX2_has_10 : decode cX2_has 10 = .ok (.goto 4, 3) := dk_167 0 4 (dk_at dksX2_has_0 10 rfl rfl)
theorem dX2_has_13 : decode cX2_has 13 = .ok (.iconst 0, 1) := dk_3 (dk_at dksX2_has_0 13 rfl rfl)
theorem dX2_has_14 : decode cX2_has 14 = .ok (.ireturn, 1) := dk_172 (dk_at dksX2_has_0 14 rfl rfl)
abbrev cX2_body : ByteArray := prog_15_method_50_code
def yX2_body : MethodName := ⟨RX2, "body", "(II)I"⟩
def dkwX2_body_5 : List UInt8 := [182, 0, 211, 172, 3, 172, 42, 28, 182, 0, 244, 172]
abbrev dktX2_body_5 : List UInt8 := dkwX2_body_5 ++ []
def dkwX2_body_4 : List UInt8 := [182, 0, 211, 172, 42, 28, 4, 96, 3, 16, 7, 182, 0, 211, 172, 42, 28, 4, 96, 3, 16, 7]
abbrev dktX2_body_4 : List UInt8 := dkwX2_body_4 ++ dktX2_body_5
def dkwX2_body_3 : List UInt8 := [42, 28, 182, 0, 241, 172, 42, 28, 4, 96, 3, 8, 182, 0, 211, 172, 42, 28, 4, 96, 3, 16, 23]
abbrev dktX2_body_3 : List UInt8 := dkwX2_body_3 ++ dktX2_body_4
def dkwX2_body_2 : List UInt8 := [42, 28, 4, 96, 3, 17, 3, 231, 182, 0, 211, 172, 42, 28, 182, 0, 235, 172, 42, 28, 182, 0, 238, 172]
abbrev dktX2_body_2 : List UInt8 := dkwX2_body_2 ++ dktX2_body_3
def dkwX2_body_1 : List UInt8 := [170, 0, 0, 0, 0, 0, 126, 0, 0, 0, 4, 0, 0, 0, 12, 0, 0, 0, 51, 0, 0, 0, 63, 0, 0, 0, 69, 0, 0, 0, 75, 0, 0, 0, 81, 0, 0, 0, 91, 0, 0, 0, 102, 0, 0, 0, 113, 0, 0, 0, 124]
abbrev dktX2_body_1 : List UInt8 := dkwX2_body_1 ++ dktX2_body_2
def dkwX2_body_0 : List UInt8 := [27]
abbrev dktX2_body_0 : List UInt8 := dkwX2_body_0 ++ dktX2_body_1
theorem dksX2_body_0 : cX2_body.data.toList.drop 0 = dktX2_body_0 := by decide +kernel
theorem dksX2_body_1 : cX2_body.data.toList.drop 1 = dktX2_body_1 := dk_seg dksX2_body_0 1 rfl rfl
theorem dksX2_body_2 : cX2_body.data.toList.drop 52 = dktX2_body_2 := dk_seg dksX2_body_1 51 rfl rfl
theorem dksX2_body_3 : cX2_body.data.toList.drop 76 = dktX2_body_3 := dk_seg dksX2_body_2 24 rfl rfl
theorem dksX2_body_4 : cX2_body.data.toList.drop 99 = dktX2_body_4 := dk_seg dksX2_body_3 23 rfl rfl
theorem dksX2_body_5 : cX2_body.data.toList.drop 121 = dktX2_body_5 := dk_seg dksX2_body_4 22 rfl rfl
theorem dX2_body_0 : decode cX2_body 0 = .ok (.iload_n 1, 1) := dk_27 (dk_at dksX2_body_0 0 rfl rfl)
theorem dX2_body_1 : decode cX2_body 1 = .ok (.tableswitch 126 4 12 #[51, 63, 69, 75, 81, 91, 102, 113, 124], 51) := by decide +kernel
theorem dX2_body_52 : decode cX2_body 52 = .ok (.aload_n 0, 1) := dk_42 (dk_at dksX2_body_2 0 rfl rfl)
theorem dX2_body_53 : decode cX2_body 53 = .ok (.iload_n 2, 1) := dk_28 (dk_at dksX2_body_2 1 rfl rfl)
theorem dX2_body_54 : decode cX2_body 54 = .ok (.iconst 1, 1) := dk_4 (dk_at dksX2_body_2 2 rfl rfl)
theorem dX2_body_55 : decode cX2_body 55 = .ok (.iadd, 1) := dk_96 (dk_at dksX2_body_2 3 rfl rfl)
theorem dX2_body_56 : decode cX2_body 56 = .ok (.iconst 0, 1) := dk_3 (dk_at dksX2_body_2 4 rfl rfl)
theorem dX2_body_57 : decode cX2_body 57 = .ok (.sipush 999, 3) := dk_17 3 231 (dk_at dksX2_body_2 5 rfl rfl)
theorem dX2_body_60 : decode cX2_body 60 = .ok (.invokevirtual 211, 3) := dk_182 0 211 (dk_at dksX2_body_2 8 rfl rfl)
theorem dX2_body_63 : decode cX2_body 63 = .ok (.ireturn, 1) := dk_172 (dk_at dksX2_body_2 11 rfl rfl)
theorem dX2_body_64 : decode cX2_body 64 = .ok (.aload_n 0, 1) := dk_42 (dk_at dksX2_body_2 12 rfl rfl)
theorem dX2_body_65 : decode cX2_body 65 = .ok (.iload_n 2, 1) := dk_28 (dk_at dksX2_body_2 13 rfl rfl)
theorem dX2_body_66 : decode cX2_body 66 = .ok (.invokevirtual 235, 3) := dk_182 0 235 (dk_at dksX2_body_2 14 rfl rfl)
theorem dX2_body_69 : decode cX2_body 69 = .ok (.ireturn, 1) := dk_172 (dk_at dksX2_body_2 17 rfl rfl)
theorem dX2_body_70 : decode cX2_body 70 = .ok (.aload_n 0, 1) := dk_42 (dk_at dksX2_body_2 18 rfl rfl)
theorem dX2_body_71 : decode cX2_body 71 = .ok (.iload_n 2, 1) := dk_28 (dk_at dksX2_body_2 19 rfl rfl)
theorem dX2_body_72 : decode cX2_body 72 = .ok (.invokevirtual 238, 3) := dk_182 0 238 (dk_at dksX2_body_2 20 rfl rfl)
theorem dX2_body_75 : decode cX2_body 75 = .ok (.ireturn, 1) := dk_172 (dk_at dksX2_body_2 23 rfl rfl)
theorem dX2_body_76 : decode cX2_body 76 = .ok (.aload_n 0, 1) := dk_42 (dk_at dksX2_body_3 0 rfl rfl)
theorem dX2_body_77 : decode cX2_body 77 = .ok (.iload_n 2, 1) := dk_28 (dk_at dksX2_body_3 1 rfl rfl)
theorem dX2_body_78 : decode cX2_body 78 = .ok (.invokevirtual 241, 3) := dk_182 0 241 (dk_at dksX2_body_3 2 rfl rfl)
theorem dX2_body_81 : decode cX2_body 81 = .ok (.ireturn, 1) := dk_172 (dk_at dksX2_body_3 5 rfl rfl)
theorem dX2_body_82 : decode cX2_body 82 = .ok (.aload_n 0, 1) := dk_42 (dk_at dksX2_body_3 6 rfl rfl)
theorem dX2_body_83 : decode cX2_body 83 = .ok (.iload_n 2, 1) := dk_28 (dk_at dksX2_body_3 7 rfl rfl)
theorem dX2_body_84 : decode cX2_body 84 = .ok (.iconst 1, 1) := dk_4 (dk_at dksX2_body_3 8 rfl rfl)
theorem dX2_body_85 : decode cX2_body 85 = .ok (.iadd, 1) := dk_96 (dk_at dksX2_body_3 9 rfl rfl)
theorem dX2_body_86 : decode cX2_body 86 = .ok (.iconst 0, 1) := dk_3 (dk_at dksX2_body_3 10 rfl rfl)
theorem dX2_body_87 : decode cX2_body 87 = .ok (.iconst 5, 1) := dk_8 (dk_at dksX2_body_3 11 rfl rfl)
theorem dX2_body_88 : decode cX2_body 88 = .ok (.invokevirtual 211, 3) := dk_182 0 211 (dk_at dksX2_body_3 12 rfl rfl)
theorem dX2_body_91 : decode cX2_body 91 = .ok (.ireturn, 1) := dk_172 (dk_at dksX2_body_3 15 rfl rfl)
theorem dX2_body_92 : decode cX2_body 92 = .ok (.aload_n 0, 1) := dk_42 (dk_at dksX2_body_3 16 rfl rfl)
theorem dX2_body_93 : decode cX2_body 93 = .ok (.iload_n 2, 1) := dk_28 (dk_at dksX2_body_3 17 rfl rfl)
theorem dX2_body_94 : decode cX2_body 94 = .ok (.iconst 1, 1) := dk_4 (dk_at dksX2_body_3 18 rfl rfl)
theorem dX2_body_95 : decode cX2_body 95 = .ok (.iadd, 1) := dk_96 (dk_at dksX2_body_3 19 rfl rfl)
theorem dX2_body_96 : decode cX2_body 96 = .ok (.iconst 0, 1) := dk_3 (dk_at dksX2_body_3 20 rfl rfl)
theorem dX2_body_97 : decode cX2_body 97 = .ok (.bipush 23, 2) := dk_16 23 (dk_at dksX2_body_3 21 rfl rfl)
theorem dX2_body_99 : decode cX2_body 99 = .ok (.invokevirtual 211, 3) := dk_182 0 211 (dk_at dksX2_body_4 0 rfl rfl)
theorem dX2_body_102 : decode cX2_body 102 = .ok (.ireturn, 1) := dk_172 (dk_at dksX2_body_4 3 rfl rfl)
theorem dX2_body_103 : decode cX2_body 103 = .ok (.aload_n 0, 1) := dk_42 (dk_at dksX2_body_4 4 rfl rfl)
theorem dX2_body_104 : decode cX2_body 104 = .ok (.iload_n 2, 1) := dk_28 (dk_at dksX2_body_4 5 rfl rfl)
theorem dX2_body_105 : decode cX2_body 105 = .ok (.iconst 1, 1) := dk_4 (dk_at dksX2_body_4 6 rfl rfl)
theorem dX2_body_106 : decode cX2_body 106 = .ok (.iadd, 1) := dk_96 (dk_at dksX2_body_4 7 rfl rfl)
theorem dX2_body_107 : decode cX2_body 107 = .ok (.iconst 0, 1) := dk_3 (dk_at dksX2_body_4 8 rfl rfl)
theorem dX2_body_108 : decode cX2_body 108 = .ok (.bipush 7, 2) := dk_16 7 (dk_at dksX2_body_4 9 rfl rfl)
theorem dX2_body_110 : decode cX2_body 110 = .ok (.invokevirtual 211, 3) := dk_182 0 211 (dk_at dksX2_body_4 11 rfl rfl)
theorem dX2_body_113 : decode cX2_body 113 = .ok (.ireturn, 1) := dk_172 (dk_at dksX2_body_4 14 rfl rfl)
theorem dX2_body_114 : decode cX2_body 114 = .ok (.aload_n 0, 1) := dk_42 (dk_at dksX2_body_4 15 rfl rfl)
theorem dX2_body_115 : decode cX2_body 115 = .ok (.iload_n 2, 1) := dk_28 (dk_at dksX2_body_4 16 rfl rfl)
theorem dX2_body_116 : decode cX2_body 116 = .ok (.iconst 1, 1) := dk_4 (dk_at dksX2_body_4 17 rfl rfl)
theorem dX2_body_117 : decode cX2_body 117 = .ok (.iadd, 1) := dk_96 (dk_at dksX2_body_4 18 rfl rfl)
theorem dX2_body_118 : decode cX2_body 118 = .ok (.iconst 0, 1) := dk_3 (dk_at dksX2_body_4 19 rfl rfl)
theorem dX2_body_119 : decode cX2_body 119 = .ok (.bipush 7, 2) := dk_16 7 (dk_at dksX2_body_4 20 rfl rfl)
theorem dX2_body_121 : decode cX2_body 121 = .ok (.invokevirtual 211, 3) := dk_182 0 211 (dk_at dksX2_body_5 0 rfl rfl)
theorem dX2_body_124 : decode cX2_body 124 = .ok (.ireturn, 1) := dk_172 (dk_at dksX2_body_5 3 rfl rfl)
theorem dX2_body_125 : decode cX2_body 125 = .ok (.iconst 0, 1) := dk_3 (dk_at dksX2_body_5 4 rfl rfl)
theorem dX2_body_126 : decode cX2_body 126 = .ok (.ireturn, 1) := dk_172 (dk_at dksX2_body_5 5 rfl rfl)
theorem dX2_body_127 : decode cX2_body 127 = .ok (.aload_n 0, 1) := dk_42 (dk_at dksX2_body_5 6 rfl rfl)
theorem dX2_body_128 : decode cX2_body 128 = .ok (.iload_n 2, 1) := dk_28 (dk_at dksX2_body_5 7 rfl rfl)
theorem dX2_body_129 : decode cX2_body 129 = .ok (.invokevirtual 244, 3) := dk_182 0 244 (dk_at dksX2_body_5 8 rfl rfl)
theorem dX2_body_132 : decode cX2_body 132 = .ok (.ireturn, 1) := dk_172 (dk_at dksX2_body_5 11 rfl rfl)
abbrev cX2_figure : ByteArray := prog_15_method_43_code
def yX2_figure : MethodName := ⟨RX2, "figure", "(III)I"⟩
def dkwX2_figure_1 : List UInt8 := [42, 180, 0, 16, 27, 42, 180, 0, 121, 79, 42, 182, 0, 179, 3, 172]
abbrev dktX2_figure_1 : List UInt8 := dkwX2_figure_1 ++ []
def dkwX2_figure_0 : List UInt8 := [42, 180, 0, 115, 4, 159, 0, 5, 4, 172, 42, 180, 0, 121, 28, 29, 184, 0, 80, 154, 0, 5, 5, 172]
abbrev dktX2_figure_0 : List UInt8 := dkwX2_figure_0 ++ dktX2_figure_1
theorem dksX2_figure_0 : cX2_figure.data.toList.drop 0 = dktX2_figure_0 := by decide +kernel
theorem dksX2_figure_1 : cX2_figure.data.toList.drop 24 = dktX2_figure_1 := dk_seg dksX2_figure_0 24 rfl rfl
theorem dX2_figure_0 : decode cX2_figure 0 = .ok (.aload_n 0, 1) := dk_42 (dk_at dksX2_figure_0 0 rfl rfl)
theorem dX2_figure_1 : decode cX2_figure 1 = .ok (.getfield 115, 3) := dk_180 0 115 (dk_at dksX2_figure_0 1 rfl rfl)
theorem dX2_figure_4 : decode cX2_figure 4 = .ok (.iconst 1, 1) := dk_4 (dk_at dksX2_figure_0 4 rfl rfl)
theorem dX2_figure_5 : decode cX2_figure 5 = .ok (.if_icmp .eq 5, 3) := dk_159 0 5 (dk_at dksX2_figure_0 5 rfl rfl)
theorem dX2_figure_8 : decode cX2_figure 8 = .ok (.iconst 1, 1) := dk_4 (dk_at dksX2_figure_0 8 rfl rfl)
theorem dX2_figure_9 : decode cX2_figure 9 = .ok (.ireturn, 1) := dk_172 (dk_at dksX2_figure_0 9 rfl rfl)
theorem dX2_figure_10 : decode cX2_figure 10 = .ok (.aload_n 0, 1) := dk_42 (dk_at dksX2_figure_0 10 rfl rfl)
theorem dX2_figure_11 : decode cX2_figure 11 = .ok (.getfield 121, 3) := dk_180 0 121 (dk_at dksX2_figure_0 11 rfl rfl)
theorem dX2_figure_14 : decode cX2_figure 14 = .ok (.iload_n 2, 1) := dk_28 (dk_at dksX2_figure_0 14 rfl rfl)
theorem dX2_figure_15 : decode cX2_figure 15 = .ok (.iload_n 3, 1) := dk_29 (dk_at dksX2_figure_0 15 rfl rfl)
theorem dX2_figure_16 : decode cX2_figure 16 = .ok (.invokestatic 80, 3) := dk_184 0 80 (dk_at dksX2_figure_0 16 rfl rfl)
theorem dX2_figure_19 : decode cX2_figure 19 = .ok (.ifCond .ne 5, 3) := dk_154 0 5 (dk_at dksX2_figure_0 19 rfl rfl)
theorem dX2_figure_22 : decode cX2_figure 22 = .ok (.iconst 2, 1) := dk_5 (dk_at dksX2_figure_0 22 rfl rfl)
theorem dX2_figure_23 : decode cX2_figure 23 = .ok (.ireturn, 1) := dk_172 (dk_at dksX2_figure_0 23 rfl rfl)
theorem dX2_figure_24 : decode cX2_figure 24 = .ok (.aload_n 0, 1) := dk_42 (dk_at dksX2_figure_1 0 rfl rfl)
theorem dX2_figure_25 : decode cX2_figure 25 = .ok (.getfield 16, 3) := dk_180 0 16 (dk_at dksX2_figure_1 1 rfl rfl)
theorem dX2_figure_28 : decode cX2_figure 28 = .ok (.iload_n 1, 1) := dk_27 (dk_at dksX2_figure_1 4 rfl rfl)
theorem dX2_figure_29 : decode cX2_figure 29 = .ok (.aload_n 0, 1) := dk_42 (dk_at dksX2_figure_1 5 rfl rfl)
theorem dX2_figure_30 : decode cX2_figure 30 = .ok (.getfield 121, 3) := dk_180 0 121 (dk_at dksX2_figure_1 6 rfl rfl)
theorem dX2_figure_33 : decode cX2_figure 33 = .ok (.iastore, 1) := dk_79 (dk_at dksX2_figure_1 9 rfl rfl)
theorem dX2_figure_34 : decode cX2_figure 34 = .ok (.aload_n 0, 1) := dk_42 (dk_at dksX2_figure_1 10 rfl rfl)
theorem dX2_figure_35 : decode cX2_figure 35 = .ok (.invokevirtual 179, 3) := dk_182 0 179 (dk_at dksX2_figure_1 11 rfl rfl)
theorem dX2_figure_38 : decode cX2_figure 38 = .ok (.iconst 0, 1) := dk_3 (dk_at dksX2_figure_1 14 rfl rfl)
theorem dX2_figure_39 : decode cX2_figure 39 = .ok (.ireturn, 1) := dk_172 (dk_at dksX2_figure_1 15 rfl rfl)
abbrev cX2_deedClause : ByteArray := prog_15_method_46_code
def yX2_deedClause : MethodName := ⟨RX2, "deedClause", "(I)I"⟩
def dkwX2_deedClause_5 : List UInt8 := [182, 0, 179, 167, 255, 197, 28, 172]
abbrev dktX2_deedClause_5 : List UInt8 := dkwX2_deedClause_5 ++ []
def dkwX2_deedClause_4 : List UInt8 := [27, 7, 96, 46, 29, 126, 153, 0, 5, 7, 172, 42, 180, 0, 16, 27, 7, 96, 92, 46, 29, 128, 79, 42]
abbrev dktX2_deedClause_4 : List UInt8 := dkwX2_deedClause_4 ++ dktX2_deedClause_5
def dkwX2_deedClause_3 : List UInt8 := [16, 44, 160, 0, 52, 42, 182, 0, 179, 42, 182, 0, 221, 62, 29, 154, 0, 5, 4, 172, 42, 180, 0, 16]
abbrev dktX2_deedClause_3 : List UInt8 := dkwX2_deedClause_3 ++ dktX2_deedClause_4
def dkwX2_deedClause_2 : List UInt8 := [3, 8, 182, 0, 215, 61, 42, 180, 0, 16, 27, 7, 96, 3, 79, 28, 154, 0, 61, 42, 180, 0, 115]
abbrev dktX2_deedClause_2 : List UInt8 := dkwX2_deedClause_2 ++ dktX2_deedClause_3
def dkwX2_deedClause_1 : List UInt8 := [184, 0, 141, 27, 5, 96, 3, 16, 99, 182, 0, 215, 61, 28, 154, 0, 16, 42, 20, 0, 219, 27, 6, 96]
abbrev dktX2_deedClause_1 : List UInt8 := dkwX2_deedClause_1 ++ dktX2_deedClause_2
def dkwX2_deedClause_0 : List UInt8 := [42, 27, 4, 96, 3, 16, 9, 182, 0, 211, 61, 28, 154, 0, 25, 42, 16, 115, 16, 105, 16, 122, 16, 101]
abbrev dktX2_deedClause_0 : List UInt8 := dkwX2_deedClause_0 ++ dktX2_deedClause_1
theorem dksX2_deedClause_0 : cX2_deedClause.data.toList.drop 0 = dktX2_deedClause_0 := by decide +kernel
theorem dksX2_deedClause_1 : cX2_deedClause.data.toList.drop 24 = dktX2_deedClause_1 := dk_seg dksX2_deedClause_0 24 rfl rfl
theorem dksX2_deedClause_2 : cX2_deedClause.data.toList.drop 48 = dktX2_deedClause_2 := dk_seg dksX2_deedClause_1 24 rfl rfl
theorem dksX2_deedClause_3 : cX2_deedClause.data.toList.drop 71 = dktX2_deedClause_3 := dk_seg dksX2_deedClause_2 23 rfl rfl
theorem dksX2_deedClause_4 : cX2_deedClause.data.toList.drop 95 = dktX2_deedClause_4 := dk_seg dksX2_deedClause_3 24 rfl rfl
theorem dksX2_deedClause_5 : cX2_deedClause.data.toList.drop 119 = dktX2_deedClause_5 := dk_seg dksX2_deedClause_4 24 rfl rfl
theorem dX2_deedClause_0 : decode cX2_deedClause 0 = .ok (.aload_n 0, 1) := dk_42 (dk_at dksX2_deedClause_0 0 rfl rfl)
theorem dX2_deedClause_1 : decode cX2_deedClause 1 = .ok (.iload_n 1, 1) := dk_27 (dk_at dksX2_deedClause_0 1 rfl rfl)
theorem dX2_deedClause_2 : decode cX2_deedClause 2 = .ok (.iconst 1, 1) := dk_4 (dk_at dksX2_deedClause_0 2 rfl rfl)
theorem dX2_deedClause_3 : decode cX2_deedClause 3 = .ok (.iadd, 1) := dk_96 (dk_at dksX2_deedClause_0 3 rfl rfl)
theorem dX2_deedClause_4 : decode cX2_deedClause 4 = .ok (.iconst 0, 1) := dk_3 (dk_at dksX2_deedClause_0 4 rfl rfl)
theorem dX2_deedClause_5 : decode cX2_deedClause 5 = .ok (.bipush 9, 2) := dk_16 9 (dk_at dksX2_deedClause_0 5 rfl rfl)
theorem dX2_deedClause_7 : decode cX2_deedClause 7 = .ok (.invokevirtual 211, 3) := dk_182 0 211 (dk_at dksX2_deedClause_0 7 rfl rfl)
theorem dX2_deedClause_10 : decode cX2_deedClause 10 = .ok (.istore_n 2, 1) := dk_61 (dk_at dksX2_deedClause_0 10 rfl rfl)
theorem dX2_deedClause_11 : decode cX2_deedClause 11 = .ok (.iload_n 2, 1) := dk_28 (dk_at dksX2_deedClause_0 11 rfl rfl)
theorem dX2_deedClause_12 : decode cX2_deedClause 12 = .ok (.ifCond .ne 25, 3) := dk_154 0 25 (dk_at dksX2_deedClause_0 12 rfl rfl)
theorem dX2_deedClause_15 : decode cX2_deedClause 15 = .ok (.aload_n 0, 1) := dk_42 (dk_at dksX2_deedClause_0 15 rfl rfl)
theorem dX2_deedClause_16 : decode cX2_deedClause 16 = .ok (.bipush 115, 2) := dk_16 115 (dk_at dksX2_deedClause_0 16 rfl rfl)
theorem dX2_deedClause_18 : decode cX2_deedClause 18 = .ok (.bipush 105, 2) := dk_16 105 (dk_at dksX2_deedClause_0 18 rfl rfl)
theorem dX2_deedClause_20 : decode cX2_deedClause 20 = .ok (.bipush 122, 2) := dk_16 122 (dk_at dksX2_deedClause_0 20 rfl rfl)
theorem dX2_deedClause_22 : decode cX2_deedClause 22 = .ok (.bipush 101, 2) := dk_16 101 (dk_at dksX2_deedClause_0 22 rfl rfl)
theorem dX2_deedClause_24 : decode cX2_deedClause 24 = .ok (.invokestatic 141, 3) := dk_184 0 141 (dk_at dksX2_deedClause_1 0 rfl rfl)
theorem dX2_deedClause_27 : decode cX2_deedClause 27 = .ok (.iload_n 1, 1) := dk_27 (dk_at dksX2_deedClause_1 3 rfl rfl)
theorem dX2_deedClause_28 : decode cX2_deedClause 28 = .ok (.iconst 2, 1) := dk_5 (dk_at dksX2_deedClause_1 4 rfl rfl)
theorem dX2_deedClause_29 : decode cX2_deedClause 29 = .ok (.iadd, 1) := dk_96 (dk_at dksX2_deedClause_1 5 rfl rfl)
theorem dX2_deedClause_30 : decode cX2_deedClause 30 = .ok (.iconst 0, 1) := dk_3 (dk_at dksX2_deedClause_1 6 rfl rfl)
theorem dX2_deedClause_31 : decode cX2_deedClause 31 = .ok (.bipush 99, 2) := dk_16 99 (dk_at dksX2_deedClause_1 7 rfl rfl)
theorem dX2_deedClause_33 : decode cX2_deedClause 33 = .ok (.invokevirtual 215, 3) := dk_182 0 215 (dk_at dksX2_deedClause_1 9 rfl rfl)
theorem dX2_deedClause_36 : decode cX2_deedClause 36 = .ok (.istore_n 2, 1) := dk_61 (dk_at dksX2_deedClause_1 12 rfl rfl)
theorem dX2_deedClause_37 : decode cX2_deedClause 37 = .ok (.iload_n 2, 1) := dk_28 (dk_at dksX2_deedClause_1 13 rfl rfl)
theorem dX2_deedClause_38 : decode cX2_deedClause 38 = .ok (.ifCond .ne 16, 3) := dk_154 0 16 (dk_at dksX2_deedClause_1 14 rfl rfl)
theorem dX2_deedClause_41 : decode cX2_deedClause 41 = .ok (.aload_n 0, 1) := dk_42 (dk_at dksX2_deedClause_1 17 rfl rfl)
theorem dX2_deedClause_42 : decode cX2_deedClause 42 = .ok (.ldc2_w 219, 3) := dk_20 0 219 (dk_at dksX2_deedClause_1 18 rfl rfl)
theorem dX2_deedClause_45 : decode cX2_deedClause 45 = .ok (.iload_n 1, 1) := dk_27 (dk_at dksX2_deedClause_1 21 rfl rfl)
theorem dX2_deedClause_46 : decode cX2_deedClause 46 = .ok (.iconst 3, 1) := dk_6 (dk_at dksX2_deedClause_1 22 rfl rfl)
theorem dX2_deedClause_47 : decode cX2_deedClause 47 = .ok (.iadd, 1) := dk_96 (dk_at dksX2_deedClause_1 23 rfl rfl)
theorem dX2_deedClause_48 : decode cX2_deedClause 48 = .ok (.iconst 0, 1) := dk_3 (dk_at dksX2_deedClause_2 0 rfl rfl)
theorem dX2_deedClause_49 : decode cX2_deedClause 49 = .ok (.iconst 5, 1) := dk_8 (dk_at dksX2_deedClause_2 1 rfl rfl)
theorem dX2_deedClause_50 : decode cX2_deedClause 50 = .ok (.invokevirtual 215, 3) := dk_182 0 215 (dk_at dksX2_deedClause_2 2 rfl rfl)
theorem dX2_deedClause_53 : decode cX2_deedClause 53 = .ok (.istore_n 2, 1) := dk_61 (dk_at dksX2_deedClause_2 5 rfl rfl)
theorem dX2_deedClause_54 : decode cX2_deedClause 54 = .ok (.aload_n 0, 1) := dk_42 (dk_at dksX2_deedClause_2 6 rfl rfl)
theorem dX2_deedClause_55 : decode cX2_deedClause 55 = .ok (.getfield 16, 3) := dk_180 0 16 (dk_at dksX2_deedClause_2 7 rfl rfl)
theorem dX2_deedClause_58 : decode cX2_deedClause 58 = .ok (.iload_n 1, 1) := dk_27 (dk_at dksX2_deedClause_2 10 rfl rfl)
theorem dX2_deedClause_59 : decode cX2_deedClause 59 = .ok (.iconst 4, 1) := dk_7 (dk_at dksX2_deedClause_2 11 rfl rfl)
theorem dX2_deedClause_60 : decode cX2_deedClause 60 = .ok (.iadd, 1) := dk_96 (dk_at dksX2_deedClause_2 12 rfl rfl)
theorem dX2_deedClause_61 : decode cX2_deedClause 61 = .ok (.iconst 0, 1) := dk_3 (dk_at dksX2_deedClause_2 13 rfl rfl)
theorem dX2_deedClause_62 : decode cX2_deedClause 62 = .ok (.iastore, 1) := dk_79 (dk_at dksX2_deedClause_2 14 rfl rfl)
theorem dX2_deedClause_63 : decode cX2_deedClause 63 = .ok (.iload_n 2, 1) := dk_28 (dk_at dksX2_deedClause_2 15 rfl rfl)
theorem dX2_deedClause_64 : decode cX2_deedClause 64 = .ok (.ifCond .ne 61, 3) := dk_154 0 61 (dk_at dksX2_deedClause_2 16 rfl rfl)
theorem dX2_deedClause_67 : decode cX2_deedClause 67 = .ok (.aload_n 0, 1) := dk_42 (dk_at dksX2_deedClause_2 19 rfl rfl)
theorem dX2_deedClause_68 : decode cX2_deedClause 68 = .ok (.getfield 115, 3) := dk_180 0 115 (dk_at dksX2_deedClause_2 20 rfl rfl)
theorem dX2_deedClause_71 : decode cX2_deedClause 71 = .ok (.bipush 44, 2) := dk_16 44 (dk_at dksX2_deedClause_3 0 rfl rfl)
theorem dX2_deedClause_73 : decode cX2_deedClause 73 = .ok (.if_icmp .ne 52, 3) := dk_160 0 52 (dk_at dksX2_deedClause_3 2 rfl rfl)
theorem dX2_deedClause_76 : decode cX2_deedClause 76 = .ok (.aload_n 0, 1) := dk_42 (dk_at dksX2_deedClause_3 5 rfl rfl)
theorem dX2_deedClause_77 : decode cX2_deedClause 77 = .ok (.invokevirtual 179, 3) := dk_182 0 179 (dk_at dksX2_deedClause_3 6 rfl rfl)
theorem dX2_deedClause_80 : decode cX2_deedClause 80 = .ok (.aload_n 0, 1) := dk_42 (dk_at dksX2_deedClause_3 9 rfl rfl)
theorem dX2_deedClause_81 : decode cX2_deedClause 81 = .ok (.invokevirtual 221, 3) := dk_182 0 221 (dk_at dksX2_deedClause_3 10 rfl rfl)
theorem dX2_deedClause_84 : decode cX2_deedClause 84 = .ok (.istore_n 3, 1) := dk_62 (dk_at dksX2_deedClause_3 13 rfl rfl)
theorem dX2_deedClause_85 : decode cX2_deedClause 85 = .ok (.iload_n 3, 1) := dk_29 (dk_at dksX2_deedClause_3 14 rfl rfl)
theorem dX2_deedClause_86 : decode cX2_deedClause 86 = .ok (.ifCond .ne 5, 3) := dk_154 0 5 (dk_at dksX2_deedClause_3 15 rfl rfl)
theorem dX2_deedClause_89 : decode cX2_deedClause 89 = .ok (.iconst 1, 1) := dk_4 (dk_at dksX2_deedClause_3 18 rfl rfl)
theorem dX2_deedClause_90 : decode cX2_deedClause 90 = .ok (.ireturn, 1) := dk_172 (dk_at dksX2_deedClause_3 19 rfl rfl)
theorem dX2_deedClause_91 : decode cX2_deedClause 91 = .ok (.aload_n 0, 1) := dk_42 (dk_at dksX2_deedClause_3 20 rfl rfl)
theorem dX2_deedClause_92 : decode cX2_deedClause 92 = .ok (.getfield 16, 3) := dk_180 0 16 (dk_at dksX2_deedClause_3 21 rfl rfl)
theorem dX2_deedClause_95 : decode cX2_deedClause 95 = .ok (.iload_n 1, 1) := dk_27 (dk_at dksX2_deedClause_4 0 rfl rfl)
theorem dX2_deedClause_96 : decode cX2_deedClause 96 = .ok (.iconst 4, 1) := dk_7 (dk_at dksX2_deedClause_4 1 rfl rfl)
theorem dX2_deedClause_97 : decode cX2_deedClause 97 = .ok (.iadd, 1) := dk_96 (dk_at dksX2_deedClause_4 2 rfl rfl)
theorem dX2_deedClause_98 : decode cX2_deedClause 98 = .ok (.iaload, 1) := dk_46 (dk_at dksX2_deedClause_4 3 rfl rfl)
theorem dX2_deedClause_99 : decode cX2_deedClause 99 = .ok (.iload_n 3, 1) := dk_29 (dk_at dksX2_deedClause_4 4 rfl rfl)
theorem dX2_deedClause_100 : decode cX2_deedClause 100 = .ok (.iand, 1) := dk_126 (dk_at dksX2_deedClause_4 5 rfl rfl)
theorem dX2_deedClause_101 : decode cX2_deedClause 101 = .ok (.ifCond .eq 5, 3) := dk_153 0 5 (dk_at dksX2_deedClause_4 6 rfl rfl)
theorem dX2_deedClause_104 : decode cX2_deedClause 104 = .ok (.iconst 4, 1) := dk_7 (dk_at dksX2_deedClause_4 9 rfl rfl)
theorem dX2_deedClause_105 : decode cX2_deedClause 105 = .ok (.ireturn, 1) := dk_172 (dk_at dksX2_deedClause_4 10 rfl rfl)
theorem dX2_deedClause_106 : decode cX2_deedClause 106 = .ok (.aload_n 0, 1) := dk_42 (dk_at dksX2_deedClause_4 11 rfl rfl)
theorem dX2_deedClause_107 : decode cX2_deedClause 107 = .ok (.getfield 16, 3) := dk_180 0 16 (dk_at dksX2_deedClause_4 12 rfl rfl)
theorem dX2_deedClause_110 : decode cX2_deedClause 110 = .ok (.iload_n 1, 1) := dk_27 (dk_at dksX2_deedClause_4 15 rfl rfl)
theorem dX2_deedClause_111 : decode cX2_deedClause 111 = .ok (.iconst 4, 1) := dk_7 (dk_at dksX2_deedClause_4 16 rfl rfl)
theorem dX2_deedClause_112 : decode cX2_deedClause 112 = .ok (.iadd, 1) := dk_96 (dk_at dksX2_deedClause_4 17 rfl rfl)
theorem dX2_deedClause_113 : decode cX2_deedClause 113 = .ok (.dup2, 1) := dk_92 (dk_at dksX2_deedClause_4 18 rfl rfl)
theorem dX2_deedClause_114 : decode cX2_deedClause 114 = .ok (.iaload, 1) := dk_46 (dk_at dksX2_deedClause_4 19 rfl rfl)
theorem dX2_deedClause_115 : decode cX2_deedClause 115 = .ok (.iload_n 3, 1) := dk_29 (dk_at dksX2_deedClause_4 20 rfl rfl)
theorem dX2_deedClause_116 : decode cX2_deedClause 116 = .ok (.ior, 1) := dk_128 (dk_at dksX2_deedClause_4 21 rfl rfl)
theorem dX2_deedClause_117 : decode cX2_deedClause 117 = .ok (.iastore, 1) := dk_79 (dk_at dksX2_deedClause_4 22 rfl rfl)
theorem dX2_deedClause_118 : decode cX2_deedClause 118 = .ok (.aload_n 0, 1) := dk_42 (dk_at dksX2_deedClause_4 23 rfl rfl)
theorem dX2_deedClause_119 : decode cX2_deedClause 119 = .ok (.invokevirtual 179, 3) := dk_182 0 179 (dk_at dksX2_deedClause_5 0 rfl rfl)
theorem dX2_deedClause_122 : decode cX2_deedClause 122 = .ok (.goto (-59), 3) := dk_167 255 197 (dk_at dksX2_deedClause_5 3 rfl rfl)
theorem dX2_deedClause_125 : decode cX2_deedClause 125 = .ok (.iload_n 2, 1) := dk_28 (dk_at dksX2_deedClause_5 6 rfl rfl)
theorem dX2_deedClause_126 : decode cX2_deedClause 126 = .ok (.ireturn, 1) := dk_172 (dk_at dksX2_deedClause_5 7 rfl rfl)
abbrev cX2_worded : ByteArray := prog_15_method_44_code
def yX2_worded : MethodName := ⟨RX2, "worded", "(JIII)I"⟩
def dkwX2_worded_0 : List UInt8 := [42, 31, 182, 0, 207, 154, 0, 5, 4, 172, 42, 182, 0, 179, 42, 29, 21, 4, 21, 5, 182, 0, 211, 172]
abbrev dktX2_worded_0 : List UInt8 := dkwX2_worded_0 ++ []
theorem dksX2_worded_0 : cX2_worded.data.toList.drop 0 = dktX2_worded_0 := by decide +kernel
theorem dX2_worded_0 : decode cX2_worded 0 = .ok (.aload_n 0, 1) := dk_42 (dk_at dksX2_worded_0 0 rfl rfl)
theorem dX2_worded_1 : decode cX2_worded 1 = .ok (.lload_n 1, 1) := dk_31 (dk_at dksX2_worded_0 1 rfl rfl)
theorem dX2_worded_2 : decode cX2_worded 2 = .ok (.invokevirtual 207, 3) := dk_182 0 207 (dk_at dksX2_worded_0 2 rfl rfl)
theorem dX2_worded_5 : decode cX2_worded 5 = .ok (.ifCond .ne 5, 3) := dk_154 0 5 (dk_at dksX2_worded_0 5 rfl rfl)
theorem dX2_worded_8 : decode cX2_worded 8 = .ok (.iconst 1, 1) := dk_4 (dk_at dksX2_worded_0 8 rfl rfl)
theorem dX2_worded_9 : decode cX2_worded 9 = .ok (.ireturn, 1) := dk_172 (dk_at dksX2_worded_0 9 rfl rfl)
theorem dX2_worded_10 : decode cX2_worded 10 = .ok (.aload_n 0, 1) := dk_42 (dk_at dksX2_worded_0 10 rfl rfl)
theorem dX2_worded_11 : decode cX2_worded 11 = .ok (.invokevirtual 179, 3) := dk_182 0 179 (dk_at dksX2_worded_0 11 rfl rfl)
theorem dX2_worded_14 : decode cX2_worded 14 = .ok (.aload_n 0, 1) := dk_42 (dk_at dksX2_worded_0 14 rfl rfl)
theorem dX2_worded_15 : decode cX2_worded 15 = .ok (.iload_n 3, 1) := dk_29 (dk_at dksX2_worded_0 15 rfl rfl)
theorem dX2_worded_16 : decode cX2_worded 16 = .ok (.iload 4, 2) := dk_21 4 (dk_at dksX2_worded_0 16 rfl rfl)
theorem dX2_worded_18 : decode cX2_worded 18 = .ok (.iload 5, 2) := dk_21 5 (dk_at dksX2_worded_0 18 rfl rfl)
theorem dX2_worded_20 : decode cX2_worded 20 = .ok (.invokevirtual 211, 3) := dk_182 0 211 (dk_at dksX2_worded_0 20 rfl rfl)
theorem dX2_worded_23 : decode cX2_worded 23 = .ok (.ireturn, 1) := dk_172 (dk_at dksX2_worded_0 23 rfl rfl)
abbrev cX2_marksOf : ByteArray := prog_15_method_45_code
def yX2_marksOf : MethodName := ⟨RX2, "marksOf", "()I"⟩
def dkwX2_marksOf_3 : List UInt8 := [167, 0, 4, 3, 172]
abbrev dktX2_marksOf_3 : List UInt8 := dkwX2_marksOf_3 ++ []
def dkwX2_marksOf_2 : List UInt8 := [167, 0, 26, 42, 16, 102, 16, 101, 16, 97, 16, 114, 184, 0, 141, 182, 0, 207, 153, 0, 7, 7]
abbrev dktX2_marksOf_2 : List UInt8 := dkwX2_marksOf_2 ++ dktX2_marksOf_3
def dkwX2_marksOf_1 : List UInt8 := [16, 114, 16, 101, 16, 112, 16, 97, 16, 105, 16, 100, 184, 0, 155, 182, 0, 207, 153, 0, 7, 5]
abbrev dktX2_marksOf_1 : List UInt8 := dkwX2_marksOf_1 ++ dktX2_marksOf_2
def dkwX2_marksOf_0 : List UInt8 := [42, 16, 115, 16, 101, 16, 101, 16, 110, 184, 0, 141, 182, 0, 207, 153, 0, 7, 4, 167, 0, 52, 42]
abbrev dktX2_marksOf_0 : List UInt8 := dkwX2_marksOf_0 ++ dktX2_marksOf_1
theorem dksX2_marksOf_0 : cX2_marksOf.data.toList.drop 0 = dktX2_marksOf_0 := by decide +kernel
theorem dksX2_marksOf_1 : cX2_marksOf.data.toList.drop 23 = dktX2_marksOf_1 := dk_seg dksX2_marksOf_0 23 rfl rfl
theorem dksX2_marksOf_2 : cX2_marksOf.data.toList.drop 45 = dktX2_marksOf_2 := dk_seg dksX2_marksOf_1 22 rfl rfl
theorem dksX2_marksOf_3 : cX2_marksOf.data.toList.drop 67 = dktX2_marksOf_3 := dk_seg dksX2_marksOf_2 22 rfl rfl
theorem dX2_marksOf_0 : decode cX2_marksOf 0 = .ok (.aload_n 0, 1) := dk_42 (dk_at dksX2_marksOf_0 0 rfl rfl)
theorem dX2_marksOf_1 : decode cX2_marksOf 1 = .ok (.bipush 115, 2) := dk_16 115 (dk_at dksX2_marksOf_0 1 rfl rfl)
theorem dX2_marksOf_3 : decode cX2_marksOf 3 = .ok (.bipush 101, 2) := dk_16 101 (dk_at dksX2_marksOf_0 3 rfl rfl)
theorem dX2_marksOf_5 : decode cX2_marksOf 5 = .ok (.bipush 101, 2) := dk_16 101 (dk_at dksX2_marksOf_0 5 rfl rfl)
theorem dX2_marksOf_7 : decode cX2_marksOf 7 = .ok (.bipush 110, 2) := dk_16 110 (dk_at dksX2_marksOf_0 7 rfl rfl)
theorem dX2_marksOf_9 : decode cX2_marksOf 9 = .ok (.invokestatic 141, 3) := dk_184 0 141 (dk_at dksX2_marksOf_0 9 rfl rfl)
theorem dX2_marksOf_12 : decode cX2_marksOf 12 = .ok (.invokevirtual 207, 3) := dk_182 0 207 (dk_at dksX2_marksOf_0 12 rfl rfl)
theorem dX2_marksOf_15 : decode cX2_marksOf 15 = .ok (.ifCond .eq 7, 3) := dk_153 0 7 (dk_at dksX2_marksOf_0 15 rfl rfl)
theorem dX2_marksOf_18 : decode cX2_marksOf 18 = .ok (.iconst 1, 1) := dk_4 (dk_at dksX2_marksOf_0 18 rfl rfl)
theorem dX2_marksOf_19 : decode cX2_marksOf 19 = .ok (.goto 52, 3) := dk_167 0 52 (dk_at dksX2_marksOf_0 19 rfl rfl)
theorem dX2_marksOf_22 : decode cX2_marksOf 22 = .ok (.aload_n 0, 1) := dk_42 (dk_at dksX2_marksOf_0 22 rfl rfl)
theorem dX2_marksOf_23 : decode cX2_marksOf 23 = .ok (.bipush 114, 2) := dk_16 114 (dk_at dksX2_marksOf_1 0 rfl rfl)
theorem dX2_marksOf_25 : decode cX2_marksOf 25 = .ok (.bipush 101, 2) := dk_16 101 (dk_at dksX2_marksOf_1 2 rfl rfl)
theorem dX2_marksOf_27 : decode cX2_marksOf 27 = .ok (.bipush 112, 2) := dk_16 112 (dk_at dksX2_marksOf_1 4 rfl rfl)
theorem dX2_marksOf_29 : decode cX2_marksOf 29 = .ok (.bipush 97, 2) := dk_16 97 (dk_at dksX2_marksOf_1 6 rfl rfl)
theorem dX2_marksOf_31 : decode cX2_marksOf 31 = .ok (.bipush 105, 2) := dk_16 105 (dk_at dksX2_marksOf_1 8 rfl rfl)
theorem dX2_marksOf_33 : decode cX2_marksOf 33 = .ok (.bipush 100, 2) := dk_16 100 (dk_at dksX2_marksOf_1 10 rfl rfl)
theorem dX2_marksOf_35 : decode cX2_marksOf 35 = .ok (.invokestatic 155, 3) := dk_184 0 155 (dk_at dksX2_marksOf_1 12 rfl rfl)
theorem dX2_marksOf_38 : decode cX2_marksOf 38 = .ok (.invokevirtual 207, 3) := dk_182 0 207 (dk_at dksX2_marksOf_1 15 rfl rfl)
theorem dX2_marksOf_41 : decode cX2_marksOf 41 = .ok (.ifCond .eq 7, 3) := dk_153 0 7 (dk_at dksX2_marksOf_1 18 rfl rfl)
theorem dX2_marksOf_44 : decode cX2_marksOf 44 = .ok (.iconst 2, 1) := dk_5 (dk_at dksX2_marksOf_1 21 rfl rfl)
theorem dX2_marksOf_45 : decode cX2_marksOf 45 = .ok (.goto 26, 3) := dk_167 0 26 (dk_at dksX2_marksOf_2 0 rfl rfl)
theorem dX2_marksOf_48 : decode cX2_marksOf 48 = .ok (.aload_n 0, 1) := dk_42 (dk_at dksX2_marksOf_2 3 rfl rfl)
theorem dX2_marksOf_49 : decode cX2_marksOf 49 = .ok (.bipush 102, 2) := dk_16 102 (dk_at dksX2_marksOf_2 4 rfl rfl)
theorem dX2_marksOf_51 : decode cX2_marksOf 51 = .ok (.bipush 101, 2) := dk_16 101 (dk_at dksX2_marksOf_2 6 rfl rfl)
theorem dX2_marksOf_53 : decode cX2_marksOf 53 = .ok (.bipush 97, 2) := dk_16 97 (dk_at dksX2_marksOf_2 8 rfl rfl)
theorem dX2_marksOf_55 : decode cX2_marksOf 55 = .ok (.bipush 114, 2) := dk_16 114 (dk_at dksX2_marksOf_2 10 rfl rfl)
theorem dX2_marksOf_57 : decode cX2_marksOf 57 = .ok (.invokestatic 141, 3) := dk_184 0 141 (dk_at dksX2_marksOf_2 12 rfl rfl)
theorem dX2_marksOf_60 : decode cX2_marksOf 60 = .ok (.invokevirtual 207, 3) := dk_182 0 207 (dk_at dksX2_marksOf_2 15 rfl rfl)
theorem dX2_marksOf_63 : decode cX2_marksOf 63 = .ok (.ifCond .eq 7, 3) := dk_153 0 7 (dk_at dksX2_marksOf_2 18 rfl rfl)
theorem dX2_marksOf_66 : decode cX2_marksOf 66 = .ok (.iconst 4, 1) := dk_7 (dk_at dksX2_marksOf_2 21 rfl rfl)
theorem dX2_marksOf_67 : decode cX2_marksOf 67 = .ok (.goto 4, 3) := dk_167 0 4 (dk_at dksX2_marksOf_3 0 rfl rfl)
theorem dX2_marksOf_70 : decode cX2_marksOf 70 = .ok (.iconst 0, 1) := dk_3 (dk_at dksX2_marksOf_3 3 rfl rfl)
theorem dX2_marksOf_71 : decode cX2_marksOf 71 = .ok (.ireturn, 1) := dk_172 (dk_at dksX2_marksOf_3 4 rfl rfl)
abbrev cX2_judgeClause : ByteArray := prog_15_method_47_code
def yX2_judgeClause : MethodName := ⟨RX2, "judgeClause", "(I)I"⟩
def dkwX2_judgeClause_3 : List UInt8 := [153, 255, 189, 42, 182, 0, 179, 167, 255, 182, 42, 180, 0, 16, 27, 4, 96, 28, 79, 3, 172]
abbrev dktX2_judgeClause_3 : List UInt8 := dkwX2_judgeClause_3 ++ []
def dkwX2_judgeClause_2 : List UInt8 := [120, 128, 61, 42, 182, 0, 179, 42, 180, 0, 115, 16, 44, 160, 0, 7, 4, 167, 0, 4, 3, 62, 29]
abbrev dktX2_judgeClause_2 : List UInt8 := dkwX2_judgeClause_2 ++ dktX2_judgeClause_3
def dkwX2_judgeClause_1 : List UInt8 := [164, 0, 5, 5, 172, 28, 42, 180, 0, 121, 184, 0, 224, 153, 0, 5, 7, 172, 28, 4, 42, 180, 0, 121]
abbrev dktX2_judgeClause_1 : List UInt8 := dkwX2_judgeClause_1 ++ dktX2_judgeClause_2
def dkwX2_judgeClause_0 : List UInt8 := [3, 61, 4, 62, 29, 153, 0, 76, 42, 180, 0, 115, 4, 159, 0, 5, 4, 172, 42, 180, 0, 121, 16, 9]
abbrev dktX2_judgeClause_0 : List UInt8 := dkwX2_judgeClause_0 ++ dktX2_judgeClause_1
theorem dksX2_judgeClause_0 : cX2_judgeClause.data.toList.drop 0 = dktX2_judgeClause_0 := by decide +kernel
theorem dksX2_judgeClause_1 : cX2_judgeClause.data.toList.drop 24 = dktX2_judgeClause_1 := dk_seg dksX2_judgeClause_0 24 rfl rfl
theorem dksX2_judgeClause_2 : cX2_judgeClause.data.toList.drop 48 = dktX2_judgeClause_2 := dk_seg dksX2_judgeClause_1 24 rfl rfl
theorem dksX2_judgeClause_3 : cX2_judgeClause.data.toList.drop 71 = dktX2_judgeClause_3 := dk_seg dksX2_judgeClause_2 23 rfl rfl
theorem dX2_judgeClause_0 : decode cX2_judgeClause 0 = .ok (.iconst 0, 1) := dk_3 (dk_at dksX2_judgeClause_0 0 rfl rfl)
theorem dX2_judgeClause_1 : decode cX2_judgeClause 1 = .ok (.istore_n 2, 1) := dk_61 (dk_at dksX2_judgeClause_0 1 rfl rfl)
theorem dX2_judgeClause_2 : decode cX2_judgeClause 2 = .ok (.iconst 1, 1) := dk_4 (dk_at dksX2_judgeClause_0 2 rfl rfl)
theorem dX2_judgeClause_3 : decode cX2_judgeClause 3 = .ok (.istore_n 3, 1) := dk_62 (dk_at dksX2_judgeClause_0 3 rfl rfl)
theorem dX2_judgeClause_4 : decode cX2_judgeClause 4 = .ok (.iload_n 3, 1) := dk_29 (dk_at dksX2_judgeClause_0 4 rfl rfl)
theorem dX2_judgeClause_5 : decode cX2_judgeClause 5 = .ok (.ifCond .eq 76, 3) := dk_153 0 76 (dk_at dksX2_judgeClause_0 5 rfl rfl)
theorem dX2_judgeClause_8 : decode cX2_judgeClause 8 = .ok (.aload_n 0, 1) := dk_42 (dk_at dksX2_judgeClause_0 8 rfl rfl)
theorem dX2_judgeClause_9 : decode cX2_judgeClause 9 = .ok (.getfield 115, 3) := dk_180 0 115 (dk_at dksX2_judgeClause_0 9 rfl rfl)
theorem dX2_judgeClause_12 : decode cX2_judgeClause 12 = .ok (.iconst 1, 1) := dk_4 (dk_at dksX2_judgeClause_0 12 rfl rfl)
theorem dX2_judgeClause_13 : decode cX2_judgeClause 13 = .ok (.if_icmp .eq 5, 3) := dk_159 0 5 (dk_at dksX2_judgeClause_0 13 rfl rfl)
theorem dX2_judgeClause_16 : decode cX2_judgeClause 16 = .ok (.iconst 1, 1) := dk_4 (dk_at dksX2_judgeClause_0 16 rfl rfl)
theorem dX2_judgeClause_17 : decode cX2_judgeClause 17 = .ok (.ireturn, 1) := dk_172 (dk_at dksX2_judgeClause_0 17 rfl rfl)
theorem dX2_judgeClause_18 : decode cX2_judgeClause 18 = .ok (.aload_n 0, 1) := dk_42 (dk_at dksX2_judgeClause_0 18 rfl rfl)
theorem dX2_judgeClause_19 : decode cX2_judgeClause 19 = .ok (.getfield 121, 3) := dk_180 0 121 (dk_at dksX2_judgeClause_0 19 rfl rfl)
theorem dX2_judgeClause_22 : decode cX2_judgeClause 22 = .ok (.bipush 9, 2) := dk_16 9 (dk_at dksX2_judgeClause_0 22 rfl rfl)
theorem dX2_judgeClause_24 : decode cX2_judgeClause 24 = .ok (.if_icmp .le 5, 3) := dk_164 0 5 (dk_at dksX2_judgeClause_1 0 rfl rfl)
theorem dX2_judgeClause_27 : decode cX2_judgeClause 27 = .ok (.iconst 2, 1) := dk_5 (dk_at dksX2_judgeClause_1 3 rfl rfl)
theorem dX2_judgeClause_28 : decode cX2_judgeClause 28 = .ok (.ireturn, 1) := dk_172 (dk_at dksX2_judgeClause_1 4 rfl rfl)
theorem dX2_judgeClause_29 : decode cX2_judgeClause 29 = .ok (.iload_n 2, 1) := dk_28 (dk_at dksX2_judgeClause_1 5 rfl rfl)
theorem dX2_judgeClause_30 : decode cX2_judgeClause 30 = .ok (.aload_n 0, 1) := dk_42 (dk_at dksX2_judgeClause_1 6 rfl rfl)
theorem dX2_judgeClause_31 : decode cX2_judgeClause 31 = .ok (.getfield 121, 3) := dk_180 0 121 (dk_at dksX2_judgeClause_1 7 rfl rfl)
theorem dX2_judgeClause_34 : decode cX2_judgeClause 34 = .ok (.invokestatic 224, 3) := dk_184 0 224 (dk_at dksX2_judgeClause_1 10 rfl rfl)
theorem dX2_judgeClause_37 : decode cX2_judgeClause 37 = .ok (.ifCond .eq 5, 3) := dk_153 0 5 (dk_at dksX2_judgeClause_1 13 rfl rfl)
theorem dX2_judgeClause_40 : decode cX2_judgeClause 40 = .ok (.iconst 4, 1) := dk_7 (dk_at dksX2_judgeClause_1 16 rfl rfl)
theorem dX2_judgeClause_41 : decode cX2_judgeClause 41 = .ok (.ireturn, 1) := dk_172 (dk_at dksX2_judgeClause_1 17 rfl rfl)
theorem dX2_judgeClause_42 : decode cX2_judgeClause 42 = .ok (.iload_n 2, 1) := dk_28 (dk_at dksX2_judgeClause_1 18 rfl rfl)
theorem dX2_judgeClause_43 : decode cX2_judgeClause 43 = .ok (.iconst 1, 1) := dk_4 (dk_at dksX2_judgeClause_1 19 rfl rfl)
theorem dX2_judgeClause_44 : decode cX2_judgeClause 44 = .ok (.aload_n 0, 1) := dk_42 (dk_at dksX2_judgeClause_1 20 rfl rfl)
theorem dX2_judgeClause_45 : decode cX2_judgeClause 45 = .ok (.getfield 121, 3) := dk_180 0 121 (dk_at dksX2_judgeClause_1 21 rfl rfl)
theorem dX2_judgeClause_48 : decode cX2_judgeClause 48 = .ok (.ishl, 1) := dk_120 (dk_at dksX2_judgeClause_2 0 rfl rfl)
theorem dX2_judgeClause_49 : decode cX2_judgeClause 49 = .ok (.ior, 1) := dk_128 (dk_at dksX2_judgeClause_2 1 rfl rfl)
theorem dX2_judgeClause_50 : decode cX2_judgeClause 50 = .ok (.istore_n 2, 1) := dk_61 (dk_at dksX2_judgeClause_2 2 rfl rfl)
theorem dX2_judgeClause_51 : decode cX2_judgeClause 51 = .ok (.aload_n 0, 1) := dk_42 (dk_at dksX2_judgeClause_2 3 rfl rfl)
theorem dX2_judgeClause_52 : decode cX2_judgeClause 52 = .ok (.invokevirtual 179, 3) := dk_182 0 179 (dk_at dksX2_judgeClause_2 4 rfl rfl)
theorem dX2_judgeClause_55 : decode cX2_judgeClause 55 = .ok (.aload_n 0, 1) := dk_42 (dk_at dksX2_judgeClause_2 7 rfl rfl)
theorem dX2_judgeClause_56 : decode cX2_judgeClause 56 = .ok (.getfield 115, 3) := dk_180 0 115 (dk_at dksX2_judgeClause_2 8 rfl rfl)
theorem dX2_judgeClause_59 : decode cX2_judgeClause 59 = .ok (.bipush 44, 2) := dk_16 44 (dk_at dksX2_judgeClause_2 11 rfl rfl)
theorem dX2_judgeClause_61 : decode cX2_judgeClause 61 = .ok (.if_icmp .ne 7, 3) := dk_160 0 7 (dk_at dksX2_judgeClause_2 13 rfl rfl)
theorem dX2_judgeClause_64 : decode cX2_judgeClause 64 = .ok (.iconst 1, 1) := dk_4 (dk_at dksX2_judgeClause_2 16 rfl rfl)
theorem dX2_judgeClause_65 : decode cX2_judgeClause 65 = .ok (.goto 4, 3) := dk_167 0 4 (dk_at dksX2_judgeClause_2 17 rfl rfl)
theorem dX2_judgeClause_68 : decode cX2_judgeClause 68 = .ok (.iconst 0, 1) := dk_3 (dk_at dksX2_judgeClause_2 20 rfl rfl)
theorem dX2_judgeClause_69 : decode cX2_judgeClause 69 = .ok (.istore_n 3, 1) := dk_62 (dk_at dksX2_judgeClause_2 21 rfl rfl)
theorem dX2_judgeClause_70 : decode cX2_judgeClause 70 = .ok (.iload_n 3, 1) := dk_29 (dk_at dksX2_judgeClause_2 22 rfl rfl)
theorem dX2_judgeClause_71 : decode cX2_judgeClause 71 = .ok (.ifCond .eq (-67), 3) := dk_153 255 189 (dk_at dksX2_judgeClause_3 0 rfl rfl)
theorem dX2_judgeClause_74 : decode cX2_judgeClause 74 = .ok (.aload_n 0, 1) := dk_42 (dk_at dksX2_judgeClause_3 3 rfl rfl)
theorem dX2_judgeClause_75 : decode cX2_judgeClause 75 = .ok (.invokevirtual 179, 3) := dk_182 0 179 (dk_at dksX2_judgeClause_3 4 rfl rfl)
theorem dX2_judgeClause_78 : decode cX2_judgeClause 78 = .ok (.goto (-74), 3) := dk_167 255 182 (dk_at dksX2_judgeClause_3 7 rfl rfl)
theorem dX2_judgeClause_81 : decode cX2_judgeClause 81 = .ok (.aload_n 0, 1) := dk_42 (dk_at dksX2_judgeClause_3 10 rfl rfl)
theorem dX2_judgeClause_82 : decode cX2_judgeClause 82 = .ok (.getfield 16, 3) := dk_180 0 16 (dk_at dksX2_judgeClause_3 11 rfl rfl)
theorem dX2_judgeClause_85 : decode cX2_judgeClause 85 = .ok (.iload_n 1, 1) := dk_27 (dk_at dksX2_judgeClause_3 14 rfl rfl)
theorem dX2_judgeClause_86 : decode cX2_judgeClause 86 = .ok (.iconst 1, 1) := dk_4 (dk_at dksX2_judgeClause_3 15 rfl rfl)
theorem dX2_judgeClause_87 : decode cX2_judgeClause 87 = .ok (.iadd, 1) := dk_96 (dk_at dksX2_judgeClause_3 16 rfl rfl)
theorem dX2_judgeClause_88 : decode cX2_judgeClause 88 = .ok (.iload_n 2, 1) := dk_28 (dk_at dksX2_judgeClause_3 17 rfl rfl)
theorem dX2_judgeClause_89 : decode cX2_judgeClause 89 = .ok (.iastore, 1) := dk_79 (dk_at dksX2_judgeClause_3 18 rfl rfl)
theorem dX2_judgeClause_90 : decode cX2_judgeClause 90 = .ok (.iconst 0, 1) := dk_3 (dk_at dksX2_judgeClause_3 19 rfl rfl)
theorem dX2_judgeClause_91 : decode cX2_judgeClause 91 = .ok (.ireturn, 1) := dk_172 (dk_at dksX2_judgeClause_3 20 rfl rfl)
abbrev cX2_lendClause : ByteArray := prog_15_method_48_code
def yX2_lendClause : MethodName := ⟨RX2, "lendClause", "(I)I"⟩
def dkwX2_lendClause_2 : List UInt8 := [182, 0, 215, 172]
abbrev dktX2_lendClause_2 : List UInt8 := dkwX2_lendClause_2 ++ []
def dkwX2_lendClause_1 : List UInt8 := [182, 0, 215, 61, 28, 153, 0, 7, 28, 167, 0, 16, 42, 20, 0, 230, 27, 6, 96, 3, 16, 99]
abbrev dktX2_lendClause_1 : List UInt8 := dkwX2_lendClause_1 ++ dktX2_lendClause_2
def dkwX2_lendClause_0 : List UInt8 := [42, 27, 4, 96, 3, 8, 182, 0, 211, 61, 28, 154, 0, 16, 42, 20, 0, 228, 27, 5, 96, 3, 8]
abbrev dktX2_lendClause_0 : List UInt8 := dkwX2_lendClause_0 ++ dktX2_lendClause_1
theorem dksX2_lendClause_0 : cX2_lendClause.data.toList.drop 0 = dktX2_lendClause_0 := by decide +kernel
theorem dksX2_lendClause_1 : cX2_lendClause.data.toList.drop 23 = dktX2_lendClause_1 := dk_seg dksX2_lendClause_0 23 rfl rfl
theorem dksX2_lendClause_2 : cX2_lendClause.data.toList.drop 45 = dktX2_lendClause_2 := dk_seg dksX2_lendClause_1 22 rfl rfl
theorem dX2_lendClause_0 : decode cX2_lendClause 0 = .ok (.aload_n 0, 1) := dk_42 (dk_at dksX2_lendClause_0 0 rfl rfl)
theorem dX2_lendClause_1 : decode cX2_lendClause 1 = .ok (.iload_n 1, 1) := dk_27 (dk_at dksX2_lendClause_0 1 rfl rfl)
theorem dX2_lendClause_2 : decode cX2_lendClause 2 = .ok (.iconst 1, 1) := dk_4 (dk_at dksX2_lendClause_0 2 rfl rfl)
theorem dX2_lendClause_3 : decode cX2_lendClause 3 = .ok (.iadd, 1) := dk_96 (dk_at dksX2_lendClause_0 3 rfl rfl)
theorem dX2_lendClause_4 : decode cX2_lendClause 4 = .ok (.iconst 0, 1) := dk_3 (dk_at dksX2_lendClause_0 4 rfl rfl)
theorem dX2_lendClause_5 : decode cX2_lendClause 5 = .ok (.iconst 5, 1) := dk_8 (dk_at dksX2_lendClause_0 5 rfl rfl)
theorem dX2_lendClause_6 : decode cX2_lendClause 6 = .ok (.invokevirtual 211, 3) := dk_182 0 211 (dk_at dksX2_lendClause_0 6 rfl rfl)
theorem dX2_lendClause_9 : decode cX2_lendClause 9 = .ok (.istore_n 2, 1) := dk_61 (dk_at dksX2_lendClause_0 9 rfl rfl)
theorem dX2_lendClause_10 : decode cX2_lendClause 10 = .ok (.iload_n 2, 1) := dk_28 (dk_at dksX2_lendClause_0 10 rfl rfl)
theorem dX2_lendClause_11 : decode cX2_lendClause 11 = .ok (.ifCond .ne 16, 3) := dk_154 0 16 (dk_at dksX2_lendClause_0 11 rfl rfl)
theorem dX2_lendClause_14 : decode cX2_lendClause 14 = .ok (.aload_n 0, 1) := dk_42 (dk_at dksX2_lendClause_0 14 rfl rfl)
theorem dX2_lendClause_15 : decode cX2_lendClause 15 = .ok (.ldc2_w 228, 3) := dk_20 0 228 (dk_at dksX2_lendClause_0 15 rfl rfl)
theorem dX2_lendClause_18 : decode cX2_lendClause 18 = .ok (.iload_n 1, 1) := dk_27 (dk_at dksX2_lendClause_0 18 rfl rfl)
theorem dX2_lendClause_19 : decode cX2_lendClause 19 = .ok (.iconst 2, 1) := dk_5 (dk_at dksX2_lendClause_0 19 rfl rfl)
theorem dX2_lendClause_20 : decode cX2_lendClause 20 = .ok (.iadd, 1) := dk_96 (dk_at dksX2_lendClause_0 20 rfl rfl)
theorem dX2_lendClause_21 : decode cX2_lendClause 21 = .ok (.iconst 0, 1) := dk_3 (dk_at dksX2_lendClause_0 21 rfl rfl)
theorem dX2_lendClause_22 : decode cX2_lendClause 22 = .ok (.iconst 5, 1) := dk_8 (dk_at dksX2_lendClause_0 22 rfl rfl)
theorem dX2_lendClause_23 : decode cX2_lendClause 23 = .ok (.invokevirtual 215, 3) := dk_182 0 215 (dk_at dksX2_lendClause_1 0 rfl rfl)
theorem dX2_lendClause_26 : decode cX2_lendClause 26 = .ok (.istore_n 2, 1) := dk_61 (dk_at dksX2_lendClause_1 3 rfl rfl)
theorem dX2_lendClause_27 : decode cX2_lendClause 27 = .ok (.iload_n 2, 1) := dk_28 (dk_at dksX2_lendClause_1 4 rfl rfl)
theorem dX2_lendClause_28 : decode cX2_lendClause 28 = .ok (.ifCond .eq 7, 3) := dk_153 0 7 (dk_at dksX2_lendClause_1 5 rfl rfl)
theorem dX2_lendClause_31 : decode cX2_lendClause 31 = .ok (.iload_n 2, 1) := dk_28 (dk_at dksX2_lendClause_1 8 rfl rfl)
theorem dX2_lendClause_32 : decode cX2_lendClause 32 = .ok (.goto 16, 3) := dk_167 0 16 (dk_at dksX2_lendClause_1 9 rfl rfl)
theorem dX2_lendClause_35 : decode cX2_lendClause 35 = .ok (.aload_n 0, 1) := dk_42 (dk_at dksX2_lendClause_1 12 rfl rfl)
theorem dX2_lendClause_36 : decode cX2_lendClause 36 = .ok (.ldc2_w 230, 3) := dk_20 0 230 (dk_at dksX2_lendClause_1 13 rfl rfl)
theorem dX2_lendClause_39 : decode cX2_lendClause 39 = .ok (.iload_n 1, 1) := dk_27 (dk_at dksX2_lendClause_1 16 rfl rfl)
theorem dX2_lendClause_40 : decode cX2_lendClause 40 = .ok (.iconst 3, 1) := dk_6 (dk_at dksX2_lendClause_1 17 rfl rfl)
theorem dX2_lendClause_41 : decode cX2_lendClause 41 = .ok (.iadd, 1) := dk_96 (dk_at dksX2_lendClause_1 18 rfl rfl)
theorem dX2_lendClause_42 : decode cX2_lendClause 42 = .ok (.iconst 0, 1) := dk_3 (dk_at dksX2_lendClause_1 19 rfl rfl)
theorem dX2_lendClause_43 : decode cX2_lendClause 43 = .ok (.bipush 99, 2) := dk_16 99 (dk_at dksX2_lendClause_1 20 rfl rfl)
theorem dX2_lendClause_45 : decode cX2_lendClause 45 = .ok (.invokevirtual 215, 3) := dk_182 0 215 (dk_at dksX2_lendClause_2 0 rfl rfl)
theorem dX2_lendClause_48 : decode cX2_lendClause 48 = .ok (.ireturn, 1) := dk_172 (dk_at dksX2_lendClause_2 3 rfl rfl)
abbrev cX2_lawClause : ByteArray := prog_15_method_49_code
def yX2_lawClause : MethodName := ⟨RX2, "lawClause", "(I)I"⟩
def dkwX2_lawClause_1 : List UInt8 := [42, 180, 0, 152, 79, 28, 172]
abbrev dktX2_lawClause_1 : List UInt8 := dkwX2_lawClause_1 ++ []
def dkwX2_lawClause_0 : List UInt8 := [42, 180, 0, 16, 27, 4, 96, 42, 180, 0, 152, 79, 42, 182, 0, 232, 61, 42, 180, 0, 16, 27, 5, 96]
abbrev dktX2_lawClause_0 : List UInt8 := dkwX2_lawClause_0 ++ dktX2_lawClause_1
theorem dksX2_lawClause_0 : cX2_lawClause.data.toList.drop 0 = dktX2_lawClause_0 := by decide +kernel
theorem dksX2_lawClause_1 : cX2_lawClause.data.toList.drop 24 = dktX2_lawClause_1 := dk_seg dksX2_lawClause_0 24 rfl rfl
theorem dX2_lawClause_0 : decode cX2_lawClause 0 = .ok (.aload_n 0, 1) := dk_42 (dk_at dksX2_lawClause_0 0 rfl rfl)
theorem dX2_lawClause_1 : decode cX2_lawClause 1 = .ok (.getfield 16, 3) := dk_180 0 16 (dk_at dksX2_lawClause_0 1 rfl rfl)
theorem dX2_lawClause_4 : decode cX2_lawClause 4 = .ok (.iload_n 1, 1) := dk_27 (dk_at dksX2_lawClause_0 4 rfl rfl)
theorem dX2_lawClause_5 : decode cX2_lawClause 5 = .ok (.iconst 1, 1) := dk_4 (dk_at dksX2_lawClause_0 5 rfl rfl)
theorem dX2_lawClause_6 : decode cX2_lawClause 6 = .ok (.iadd, 1) := dk_96 (dk_at dksX2_lawClause_0 6 rfl rfl)
theorem dX2_lawClause_7 : decode cX2_lawClause 7 = .ok (.aload_n 0, 1) := dk_42 (dk_at dksX2_lawClause_0 7 rfl rfl)
theorem dX2_lawClause_8 : decode cX2_lawClause 8 = .ok (.getfield 152, 3) := dk_180 0 152 (dk_at dksX2_lawClause_0 8 rfl rfl)
theorem dX2_lawClause_11 : decode cX2_lawClause 11 = .ok (.iastore, 1) := dk_79 (dk_at dksX2_lawClause_0 11 rfl rfl)
theorem dX2_lawClause_12 : decode cX2_lawClause 12 = .ok (.aload_n 0, 1) := dk_42 (dk_at dksX2_lawClause_0 12 rfl rfl)
theorem dX2_lawClause_13 : decode cX2_lawClause 13 = .ok (.invokevirtual 232, 3) := dk_182 0 232 (dk_at dksX2_lawClause_0 13 rfl rfl)
theorem dX2_lawClause_16 : decode cX2_lawClause 16 = .ok (.istore_n 2, 1) := dk_61 (dk_at dksX2_lawClause_0 16 rfl rfl)
theorem dX2_lawClause_17 : decode cX2_lawClause 17 = .ok (.aload_n 0, 1) := dk_42 (dk_at dksX2_lawClause_0 17 rfl rfl)
theorem dX2_lawClause_18 : decode cX2_lawClause 18 = .ok (.getfield 16, 3) := dk_180 0 16 (dk_at dksX2_lawClause_0 18 rfl rfl)
theorem dX2_lawClause_21 : decode cX2_lawClause 21 = .ok (.iload_n 1, 1) := dk_27 (dk_at dksX2_lawClause_0 21 rfl rfl)
theorem dX2_lawClause_22 : decode cX2_lawClause 22 = .ok (.iconst 2, 1) := dk_5 (dk_at dksX2_lawClause_0 22 rfl rfl)
theorem dX2_lawClause_23 : decode cX2_lawClause 23 = .ok (.iadd, 1) := dk_96 (dk_at dksX2_lawClause_0 23 rfl rfl)
theorem dX2_lawClause_24 : decode cX2_lawClause 24 = .ok (.aload_n 0, 1) := dk_42 (dk_at dksX2_lawClause_1 0 rfl rfl)
theorem dX2_lawClause_25 : decode cX2_lawClause 25 = .ok (.getfield 152, 3) := dk_180 0 152 (dk_at dksX2_lawClause_1 1 rfl rfl)
theorem dX2_lawClause_28 : decode cX2_lawClause 28 = .ok (.iastore, 1) := dk_79 (dk_at dksX2_lawClause_1 4 rfl rfl)
theorem dX2_lawClause_29 : decode cX2_lawClause 29 = .ok (.iload_n 2, 1) := dk_28 (dk_at dksX2_lawClause_1 5 rfl rfl)
theorem dX2_lawClause_30 : decode cX2_lawClause 30 = .ok (.ireturn, 1) := dk_172 (dk_at dksX2_lawClause_1 6 rfl rfl)
abbrev cX2_summed : ByteArray := prog_15_method_42_code
def yX2_summed : MethodName := ⟨RX2, "summed", "()I"⟩
def dkwX2_summed_3 : List UInt8 := [4, 172, 42, 4, 182, 0, 192, 3, 172]
abbrev dktX2_summed_3 : List UInt8 := dkwX2_summed_3 ++ []
def dkwX2_summed_2 : List UInt8 := [42, 180, 0, 188, 153, 0, 10, 27, 153, 0, 6, 167, 0, 6, 167, 255, 210, 42, 182, 0, 198, 155, 0, 5]
abbrev dktX2_summed_2 : List UInt8 := dkwX2_summed_2 ++ dktX2_summed_3
def dkwX2_summed_1 : List UInt8 := [182, 0, 201, 167, 0, 7, 42, 182, 0, 204, 60, 42, 180, 0, 188, 154, 0, 9, 27, 153, 0, 5, 27, 172]
abbrev dktX2_summed_1 : List UInt8 := dkwX2_summed_1 ++ dktX2_summed_2
def dkwX2_summed_0 : List UInt8 := [42, 3, 181, 0, 166, 42, 3, 181, 0, 176, 42, 3, 181, 0, 188, 42, 180, 0, 188, 153, 0, 10, 42]
abbrev dktX2_summed_0 : List UInt8 := dkwX2_summed_0 ++ dktX2_summed_1
theorem dksX2_summed_0 : cX2_summed.data.toList.drop 0 = dktX2_summed_0 := by decide +kernel
theorem dksX2_summed_1 : cX2_summed.data.toList.drop 23 = dktX2_summed_1 := dk_seg dksX2_summed_0 23 rfl rfl
theorem dksX2_summed_2 : cX2_summed.data.toList.drop 47 = dktX2_summed_2 := dk_seg dksX2_summed_1 24 rfl rfl
theorem dksX2_summed_3 : cX2_summed.data.toList.drop 71 = dktX2_summed_3 := dk_seg dksX2_summed_2 24 rfl rfl
theorem dX2_summed_0 : decode cX2_summed 0 = .ok (.aload_n 0, 1) := dk_42 (dk_at dksX2_summed_0 0 rfl rfl)
theorem dX2_summed_1 : decode cX2_summed 1 = .ok (.iconst 0, 1) := dk_3 (dk_at dksX2_summed_0 1 rfl rfl)
theorem dX2_summed_2 : decode cX2_summed 2 = .ok (.putfield 166, 3) := dk_181 0 166 (dk_at dksX2_summed_0 2 rfl rfl)
theorem dX2_summed_5 : decode cX2_summed 5 = .ok (.aload_n 0, 1) := dk_42 (dk_at dksX2_summed_0 5 rfl rfl)
theorem dX2_summed_6 : decode cX2_summed 6 = .ok (.iconst 0, 1) := dk_3 (dk_at dksX2_summed_0 6 rfl rfl)
theorem dX2_summed_7 : decode cX2_summed 7 = .ok (.putfield 176, 3) := dk_181 0 176 (dk_at dksX2_summed_0 7 rfl rfl)
theorem dX2_summed_10 : decode cX2_summed 10 = .ok (.aload_n 0, 1) := dk_42 (dk_at dksX2_summed_0 10 rfl rfl)
theorem dX2_summed_11 : decode cX2_summed 11 = .ok (.iconst 0, 1) := dk_3 (dk_at dksX2_summed_0 11 rfl rfl)
theorem dX2_summed_12 : decode cX2_summed 12 = .ok (.putfield 188, 3) := dk_181 0 188 (dk_at dksX2_summed_0 12 rfl rfl)
theorem dX2_summed_15 : decode cX2_summed 15 = .ok (.aload_n 0, 1) := dk_42 (dk_at dksX2_summed_0 15 rfl rfl)
theorem dX2_summed_16 : decode cX2_summed 16 = .ok (.getfield 188, 3) := dk_180 0 188 (dk_at dksX2_summed_0 16 rfl rfl)
theorem dX2_summed_19 : decode cX2_summed 19 = .ok (.ifCond .eq 10, 3) := dk_153 0 10 (dk_at dksX2_summed_0 19 rfl rfl)
theorem dX2_summed_22 : decode cX2_summed 22 = .ok (.aload_n 0, 1) := dk_42 (dk_at dksX2_summed_0 22 rfl rfl)
theorem dX2_summed_23 : decode cX2_summed 23 = .ok (.invokevirtual 201, 3) := dk_182 0 201 (dk_at dksX2_summed_1 0 rfl rfl)
theorem dX2_summed_26 : decode cX2_summed 26 = .ok (.goto 7, 3) := dk_167 0 7 (dk_at dksX2_summed_1 3 rfl rfl)
theorem dX2_summed_29 : decode cX2_summed 29 = .ok (.aload_n 0, 1) := dk_42 (dk_at dksX2_summed_1 6 rfl rfl)
theorem dX2_summed_30 : decode cX2_summed 30 = .ok (.invokevirtual 204, 3) := dk_182 0 204 (dk_at dksX2_summed_1 7 rfl rfl)
theorem dX2_summed_33 : decode cX2_summed 33 = .ok (.istore_n 1, 1) := dk_60 (dk_at dksX2_summed_1 10 rfl rfl)
theorem dX2_summed_34 : decode cX2_summed 34 = .ok (.aload_n 0, 1) := dk_42 (dk_at dksX2_summed_1 11 rfl rfl)
theorem dX2_summed_35 : decode cX2_summed 35 = .ok (.getfield 188, 3) := dk_180 0 188 (dk_at dksX2_summed_1 12 rfl rfl)
theorem dX2_summed_38 : decode cX2_summed 38 = .ok (.ifCond .ne 9, 3) := dk_154 0 9 (dk_at dksX2_summed_1 15 rfl rfl)
theorem dX2_summed_41 : decode cX2_summed 41 = .ok (.iload_n 1, 1) := dk_27 (dk_at dksX2_summed_1 18 rfl rfl)
theorem dX2_summed_42 : decode cX2_summed 42 = .ok (.ifCond .eq 5, 3) := dk_153 0 5 (dk_at dksX2_summed_1 19 rfl rfl)
theorem dX2_summed_45 : decode cX2_summed 45 = .ok (.iload_n 1, 1) := dk_27 (dk_at dksX2_summed_1 22 rfl rfl)
theorem dX2_summed_46 : decode cX2_summed 46 = .ok (.ireturn, 1) := dk_172 (dk_at dksX2_summed_1 23 rfl rfl)
theorem dX2_summed_47 : decode cX2_summed 47 = .ok (.aload_n 0, 1) := dk_42 (dk_at dksX2_summed_2 0 rfl rfl)
theorem dX2_summed_48 : decode cX2_summed 48 = .ok (.getfield 188, 3) := dk_180 0 188 (dk_at dksX2_summed_2 1 rfl rfl)
theorem dX2_summed_51 : decode cX2_summed 51 = .ok (.ifCond .eq 10, 3) := dk_153 0 10 (dk_at dksX2_summed_2 4 rfl rfl)
theorem dX2_summed_54 : decode cX2_summed 54 = .ok (.iload_n 1, 1) := dk_27 (dk_at dksX2_summed_2 7 rfl rfl)
theorem dX2_summed_55 : decode cX2_summed 55 = .ok (.ifCond .eq 6, 3) := dk_153 0 6 (dk_at dksX2_summed_2 8 rfl rfl)
theorem dX2_summed_58 : decode cX2_summed 58 = .ok (.goto 6, 3) := dk_167 0 6 (dk_at dksX2_summed_2 11 rfl rfl)
theorem dX2_summed_61 : decode cX2_summed 61 = .ok (.goto (-46), 3) := dk_167 255 210 (dk_at dksX2_summed_2 14 rfl rfl)
theorem dX2_summed_64 : decode cX2_summed 64 = .ok (.aload_n 0, 1) := dk_42 (dk_at dksX2_summed_2 17 rfl rfl)
theorem dX2_summed_65 : decode cX2_summed 65 = .ok (.invokevirtual 198, 3) := dk_182 0 198 (dk_at dksX2_summed_2 18 rfl rfl)
theorem dX2_summed_68 : decode cX2_summed 68 = .ok (.ifCond .lt 5, 3) := dk_155 0 5 (dk_at dksX2_summed_2 21 rfl rfl)
theorem dX2_summed_71 : decode cX2_summed 71 = .ok (.iconst 1, 1) := dk_4 (dk_at dksX2_summed_3 0 rfl rfl)
theorem dX2_summed_72 : decode cX2_summed 72 = .ok (.ireturn, 1) := dk_172 (dk_at dksX2_summed_3 1 rfl rfl)
theorem dX2_summed_73 : decode cX2_summed 73 = .ok (.aload_n 0, 1) := dk_42 (dk_at dksX2_summed_3 2 rfl rfl)
theorem dX2_summed_74 : decode cX2_summed 74 = .ok (.iconst 1, 1) := dk_4 (dk_at dksX2_summed_3 3 rfl rfl)
theorem dX2_summed_75 : decode cX2_summed 75 = .ok (.invokevirtual 192, 3) := dk_182 0 192 (dk_at dksX2_summed_3 4 rfl rfl)
theorem dX2_summed_78 : decode cX2_summed 78 = .ok (.iconst 0, 1) := dk_3 (dk_at dksX2_summed_3 7 rfl rfl)
theorem dX2_summed_79 : decode cX2_summed 79 = .ok (.ireturn, 1) := dk_172 (dk_at dksX2_summed_3 8 rfl rfl)
abbrev cX2_behindOne : ByteArray := prog_15_method_41_code
def yX2_behindOne : MethodName := ⟨RX2, "behindOne", "()I"⟩
def dkwX2_behindOne_7 : List UInt8 := [16, 41, 160, 0, 9, 42, 6, 3, 182, 0, 172, 42, 182, 0, 179, 42, 6, 182, 0, 192, 3, 172]
abbrev dktX2_behindOne_7 : List UInt8 := dkwX2_behindOne_7 ++ []
def dkwX2_behindOne_6 : List UInt8 := [182, 0, 192, 42, 89, 180, 0, 166, 4, 100, 181, 0, 166, 42, 89, 180, 0, 176, 4, 100, 181, 0, 176, 28]
abbrev dktX2_behindOne_6 : List UInt8 := dkwX2_behindOne_6 ++ dktX2_behindOne_7
def dkwX2_behindOne_5 : List UInt8 := [159, 0, 20, 42, 180, 0, 115, 16, 124, 160, 0, 9, 28, 16, 41, 159, 0, 5, 4, 172, 42, 4]
abbrev dktX2_behindOne_5 : List UInt8 := dkwX2_behindOne_5 ++ dktX2_behindOne_6
def dkwX2_behindOne_4 : List UInt8 := [42, 182, 0, 179, 3, 172, 42, 182, 0, 198, 61, 42, 180, 0, 115, 16, 41, 160, 0, 9, 28, 16, 40]
abbrev dktX2_behindOne_4 : List UInt8 := dkwX2_behindOne_4 ++ dktX2_behindOne_5
def dkwX2_behindOne_3 : List UInt8 := [180, 0, 29, 42, 180, 0, 166, 27, 79, 42, 89, 180, 0, 166, 4, 96, 181, 0, 166, 42, 3, 181, 0, 188]
abbrev dktX2_behindOne_3 : List UInt8 := dkwX2_behindOne_3 ++ dktX2_behindOne_4
def dkwX2_behindOne_2 : List UInt8 := [160, 0, 8, 16, 7, 167, 0, 4, 2, 60, 27, 155, 0, 42, 42, 27, 184, 0, 169, 182, 0, 192, 42]
abbrev dktX2_behindOne_2 : List UInt8 := dkwX2_behindOne_2 ++ dktX2_behindOne_3
def dkwX2_behindOne_1 : List UInt8 := [167, 0, 32, 42, 180, 0, 115, 16, 42, 160, 0, 8, 16, 6, 167, 0, 18, 42, 180, 0, 115, 16, 47]
abbrev dktX2_behindOne_1 : List UInt8 := dkwX2_behindOne_1 ++ dktX2_behindOne_2
def dkwX2_behindOne_0 : List UInt8 := [42, 180, 0, 115, 16, 43, 160, 0, 7, 7, 167, 0, 45, 42, 180, 0, 115, 16, 45, 160, 0, 7, 8]
abbrev dktX2_behindOne_0 : List UInt8 := dkwX2_behindOne_0 ++ dktX2_behindOne_1
theorem dksX2_behindOne_0 : cX2_behindOne.data.toList.drop 0 = dktX2_behindOne_0 := by decide +kernel
theorem dksX2_behindOne_1 : cX2_behindOne.data.toList.drop 23 = dktX2_behindOne_1 := dk_seg dksX2_behindOne_0 23 rfl rfl
theorem dksX2_behindOne_2 : cX2_behindOne.data.toList.drop 46 = dktX2_behindOne_2 := dk_seg dksX2_behindOne_1 23 rfl rfl
theorem dksX2_behindOne_3 : cX2_behindOne.data.toList.drop 69 = dktX2_behindOne_3 := dk_seg dksX2_behindOne_2 23 rfl rfl
theorem dksX2_behindOne_4 : cX2_behindOne.data.toList.drop 93 = dktX2_behindOne_4 := dk_seg dksX2_behindOne_3 24 rfl rfl
theorem dksX2_behindOne_5 : cX2_behindOne.data.toList.drop 116 = dktX2_behindOne_5 := dk_seg dksX2_behindOne_4 23 rfl rfl
theorem dksX2_behindOne_6 : cX2_behindOne.data.toList.drop 138 = dktX2_behindOne_6 := dk_seg dksX2_behindOne_5 22 rfl rfl
theorem dksX2_behindOne_7 : cX2_behindOne.data.toList.drop 162 = dktX2_behindOne_7 := dk_seg dksX2_behindOne_6 24 rfl rfl
theorem dX2_behindOne_0 : decode cX2_behindOne 0 = .ok (.aload_n 0, 1) := dk_42 (dk_at dksX2_behindOne_0 0 rfl rfl)
theorem dX2_behindOne_1 : decode cX2_behindOne 1 = .ok (.getfield 115, 3) := dk_180 0 115 (dk_at dksX2_behindOne_0 1 rfl rfl)
theorem dX2_behindOne_4 : decode cX2_behindOne 4 = .ok (.bipush 43, 2) := dk_16 43 (dk_at dksX2_behindOne_0 4 rfl rfl)
theorem dX2_behindOne_6 : decode cX2_behindOne 6 = .ok (.if_icmp .ne 7, 3) := dk_160 0 7 (dk_at dksX2_behindOne_0 6 rfl rfl)
theorem dX2_behindOne_9 : decode cX2_behindOne 9 = .ok (.iconst 4, 1) := dk_7 (dk_at dksX2_behindOne_0 9 rfl rfl)
theorem dX2_behindOne_10 : decode cX2_behindOne 10 = .ok (.goto 45, 3) := dk_167 0 45 (dk_at dksX2_behindOne_0 10 rfl rfl)
theorem dX2_behindOne_13 : decode cX2_behindOne 13 = .ok (.aload_n 0, 1) := dk_42 (dk_at dksX2_behindOne_0 13 rfl rfl)
theorem dX2_behindOne_14 : decode cX2_behindOne 14 = .ok (.getfield 115, 3) := dk_180 0 115 (dk_at dksX2_behindOne_0 14 rfl rfl)
theorem dX2_behindOne_17 : decode cX2_behindOne 17 = .ok (.bipush 45, 2) := dk_16 45 (dk_at dksX2_behindOne_0 17 rfl rfl)
theorem dX2_behindOne_19 : decode cX2_behindOne 19 = .ok (.if_icmp .ne 7, 3) := dk_160 0 7 (dk_at dksX2_behindOne_0 19 rfl rfl)
theorem dX2_behindOne_22 : decode cX2_behindOne 22 = .ok (.iconst 5, 1) := dk_8 (dk_at dksX2_behindOne_0 22 rfl rfl)
theorem dX2_behindOne_23 : decode cX2_behindOne 23 = .ok (.goto 32, 3) := dk_167 0 32 (dk_at dksX2_behindOne_1 0 rfl rfl)
theorem dX2_behindOne_26 : decode cX2_behindOne 26 = .ok (.aload_n 0, 1) := dk_42 (dk_at dksX2_behindOne_1 3 rfl rfl)
theorem dX2_behindOne_27 : decode cX2_behindOne 27 = .ok (.getfield 115, 3) := dk_180 0 115 (dk_at dksX2_behindOne_1 4 rfl rfl)
theorem dX2_behindOne_30 : decode cX2_behindOne 30 = .ok (.bipush 42, 2) := dk_16 42 (dk_at dksX2_behindOne_1 7 rfl rfl)
theorem dX2_behindOne_32 : decode cX2_behindOne 32 = .ok (.if_icmp .ne 8, 3) := dk_160 0 8 (dk_at dksX2_behindOne_1 9 rfl rfl)
theorem dX2_behindOne_35 : decode cX2_behindOne 35 = .ok (.bipush 6, 2) := dk_16 6 (dk_at dksX2_behindOne_1 12 rfl rfl)
theorem dX2_behindOne_37 : decode cX2_behindOne 37 = .ok (.goto 18, 3) := dk_167 0 18 (dk_at dksX2_behindOne_1 14 rfl rfl)
theorem dX2_behindOne_40 : decode cX2_behindOne 40 = .ok (.aload_n 0, 1) := dk_42 (dk_at dksX2_behindOne_1 17 rfl rfl)
theorem dX2_behindOne_41 : decode cX2_behindOne 41 = .ok (.getfield 115, 3) := dk_180 0 115 (dk_at dksX2_behindOne_1 18 rfl rfl)
theorem dX2_behindOne_44 : decode cX2_behindOne 44 = .ok (.bipush 47, 2) := dk_16 47 (dk_at dksX2_behindOne_1 21 rfl rfl)
theorem dX2_behindOne_46 : decode cX2_behindOne 46 = .ok (.if_icmp .ne 8, 3) := dk_160 0 8 (dk_at dksX2_behindOne_2 0 rfl rfl)
theorem dX2_behindOne_49 : decode cX2_behindOne 49 = .ok (.bipush 7, 2) := dk_16 7 (dk_at dksX2_behindOne_2 3 rfl rfl)
theorem dX2_behindOne_51 : decode cX2_behindOne 51 = .ok (.goto 4, 3) := dk_167 0 4 (dk_at dksX2_behindOne_2 5 rfl rfl)
theorem dX2_behindOne_54 : decode cX2_behindOne 54 = .ok (.iconst (-1), 1) := dk_2 (dk_at dksX2_behindOne_2 8 rfl rfl)
theorem dX2_behindOne_55 : decode cX2_behindOne 55 = .ok (.istore_n 1, 1) := dk_60 (dk_at dksX2_behindOne_2 9 rfl rfl)
theorem dX2_behindOne_56 : decode cX2_behindOne 56 = .ok (.iload_n 1, 1) := dk_27 (dk_at dksX2_behindOne_2 10 rfl rfl)
theorem dX2_behindOne_57 : decode cX2_behindOne 57 = .ok (.ifCond .lt 42, 3) := dk_155 0 42 (dk_at dksX2_behindOne_2 11 rfl rfl)
theorem dX2_behindOne_60 : decode cX2_behindOne 60 = .ok (.aload_n 0, 1) := dk_42 (dk_at dksX2_behindOne_2 14 rfl rfl)
theorem dX2_behindOne_61 : decode cX2_behindOne 61 = .ok (.iload_n 1, 1) := dk_27 (dk_at dksX2_behindOne_2 15 rfl rfl)
theorem dX2_behindOne_62 : decode cX2_behindOne 62 = .ok (.invokestatic 169, 3) := dk_184 0 169 (dk_at dksX2_behindOne_2 16 rfl rfl)
theorem dX2_behindOne_65 : decode cX2_behindOne 65 = .ok (.invokevirtual 192, 3) := dk_182 0 192 (dk_at dksX2_behindOne_2 19 rfl rfl)
theorem dX2_behindOne_68 : decode cX2_behindOne 68 = .ok (.aload_n 0, 1) := dk_42 (dk_at dksX2_behindOne_2 22 rfl rfl)
theorem dX2_behindOne_69 : decode cX2_behindOne 69 = .ok (.getfield 29, 3) := dk_180 0 29 (dk_at dksX2_behindOne_3 0 rfl rfl)
theorem dX2_behindOne_72 : decode cX2_behindOne 72 = .ok (.aload_n 0, 1) := dk_42 (dk_at dksX2_behindOne_3 3 rfl rfl)
theorem dX2_behindOne_73 : decode cX2_behindOne 73 = .ok (.getfield 166, 3) := dk_180 0 166 (dk_at dksX2_behindOne_3 4 rfl rfl)
theorem dX2_behindOne_76 : decode cX2_behindOne 76 = .ok (.iload_n 1, 1) := dk_27 (dk_at dksX2_behindOne_3 7 rfl rfl)
theorem dX2_behindOne_77 : decode cX2_behindOne 77 = .ok (.iastore, 1) := dk_79 (dk_at dksX2_behindOne_3 8 rfl rfl)
theorem dX2_behindOne_78 : decode cX2_behindOne 78 = .ok (.aload_n 0, 1) := dk_42 (dk_at dksX2_behindOne_3 9 rfl rfl)
theorem dX2_behindOne_79 : decode cX2_behindOne 79 = .ok (.dup, 1) := dk_89 (dk_at dksX2_behindOne_3 10 rfl rfl)
theorem dX2_behindOne_80 : decode cX2_behindOne 80 = .ok (.getfield 166, 3) := dk_180 0 166 (dk_at dksX2_behindOne_3 11 rfl rfl)
theorem dX2_behindOne_83 : decode cX2_behindOne 83 = .ok (.iconst 1, 1) := dk_4 (dk_at dksX2_behindOne_3 14 rfl rfl)
theorem dX2_behindOne_84 : decode cX2_behindOne 84 = .ok (.iadd, 1) := dk_96 (dk_at dksX2_behindOne_3 15 rfl rfl)
theorem dX2_behindOne_85 : decode cX2_behindOne 85 = .ok (.putfield 166, 3) := dk_181 0 166 (dk_at dksX2_behindOne_3 16 rfl rfl)
theorem dX2_behindOne_88 : decode cX2_behindOne 88 = .ok (.aload_n 0, 1) := dk_42 (dk_at dksX2_behindOne_3 19 rfl rfl)
theorem dX2_behindOne_89 : decode cX2_behindOne 89 = .ok (.iconst 0, 1) := dk_3 (dk_at dksX2_behindOne_3 20 rfl rfl)
theorem dX2_behindOne_90 : decode cX2_behindOne 90 = .ok (.putfield 188, 3) := dk_181 0 188 (dk_at dksX2_behindOne_3 21 rfl rfl)
theorem dX2_behindOne_93 : decode cX2_behindOne 93 = .ok (.aload_n 0, 1) := dk_42 (dk_at dksX2_behindOne_4 0 rfl rfl)
theorem dX2_behindOne_94 : decode cX2_behindOne 94 = .ok (.invokevirtual 179, 3) := dk_182 0 179 (dk_at dksX2_behindOne_4 1 rfl rfl)
theorem dX2_behindOne_97 : decode cX2_behindOne 97 = .ok (.iconst 0, 1) := dk_3 (dk_at dksX2_behindOne_4 4 rfl rfl)
theorem dX2_behindOne_98 : decode cX2_behindOne 98 = .ok (.ireturn, 1) := dk_172 (dk_at dksX2_behindOne_4 5 rfl rfl)
theorem dX2_behindOne_99 : decode cX2_behindOne 99 = .ok (.aload_n 0, 1) := dk_42 (dk_at dksX2_behindOne_4 6 rfl rfl)
theorem dX2_behindOne_100 : decode cX2_behindOne 100 = .ok (.invokevirtual 198, 3) := dk_182 0 198 (dk_at dksX2_behindOne_4 7 rfl rfl)
theorem dX2_behindOne_103 : decode cX2_behindOne 103 = .ok (.istore_n 2, 1) := dk_61 (dk_at dksX2_behindOne_4 10 rfl rfl)
theorem dX2_behindOne_104 : decode cX2_behindOne 104 = .ok (.aload_n 0, 1) := dk_42 (dk_at dksX2_behindOne_4 11 rfl rfl)
theorem dX2_behindOne_105 : decode cX2_behindOne 105 = .ok (.getfield 115, 3) := dk_180 0 115 (dk_at dksX2_behindOne_4 12 rfl rfl)
theorem dX2_behindOne_108 : decode cX2_behindOne 108 = .ok (.bipush 41, 2) := dk_16 41 (dk_at dksX2_behindOne_4 15 rfl rfl)
theorem dX2_behindOne_110 : decode cX2_behindOne 110 = .ok (.if_icmp .ne 9, 3) := dk_160 0 9 (dk_at dksX2_behindOne_4 17 rfl rfl)
theorem dX2_behindOne_113 : decode cX2_behindOne 113 = .ok (.iload_n 2, 1) := dk_28 (dk_at dksX2_behindOne_4 20 rfl rfl)
theorem dX2_behindOne_114 : decode cX2_behindOne 114 = .ok (.bipush 40, 2) := dk_16 40 (dk_at dksX2_behindOne_4 21 rfl rfl)
theorem dX2_behindOne_116 : decode cX2_behindOne 116 = .ok (.if_icmp .eq 20, 3) := dk_159 0 20 (dk_at dksX2_behindOne_5 0 rfl rfl)
theorem dX2_behindOne_119 : decode cX2_behindOne 119 = .ok (.aload_n 0, 1) := dk_42 (dk_at dksX2_behindOne_5 3 rfl rfl)
theorem dX2_behindOne_120 : decode cX2_behindOne 120 = .ok (.getfield 115, 3) := dk_180 0 115 (dk_at dksX2_behindOne_5 4 rfl rfl)
theorem dX2_behindOne_123 : decode cX2_behindOne 123 = .ok (.bipush 124, 2) := dk_16 124 (dk_at dksX2_behindOne_5 7 rfl rfl)
theorem dX2_behindOne_125 : decode cX2_behindOne 125 = .ok (.if_icmp .ne 9, 3) := dk_160 0 9 (dk_at dksX2_behindOne_5 9 rfl rfl)
theorem dX2_behindOne_128 : decode cX2_behindOne 128 = .ok (.iload_n 2, 1) := dk_28 (dk_at dksX2_behindOne_5 12 rfl rfl)
theorem dX2_behindOne_129 : decode cX2_behindOne 129 = .ok (.bipush 41, 2) := dk_16 41 (dk_at dksX2_behindOne_5 13 rfl rfl)
theorem dX2_behindOne_131 : decode cX2_behindOne 131 = .ok (.if_icmp .eq 5, 3) := dk_159 0 5 (dk_at dksX2_behindOne_5 15 rfl rfl)
theorem dX2_behindOne_134 : decode cX2_behindOne 134 = .ok (.iconst 1, 1) := dk_4 (dk_at dksX2_behindOne_5 18 rfl rfl)
theorem dX2_behindOne_135 : decode cX2_behindOne 135 = .ok (.ireturn, 1) := dk_172 (dk_at dksX2_behindOne_5 19 rfl rfl)
theorem dX2_behindOne_136 : decode cX2_behindOne 136 = .ok (.aload_n 0, 1) := dk_42 (dk_at dksX2_behindOne_5 20 rfl rfl)
theorem dX2_behindOne_137 : decode cX2_behindOne 137 = .ok (.iconst 1, 1) := dk_4 (dk_at dksX2_behindOne_5 21 rfl rfl)
theorem dX2_behindOne_138 : decode cX2_behindOne 138 = .ok (.invokevirtual 192, 3) := dk_182 0 192 (dk_at dksX2_behindOne_6 0 rfl rfl)
theorem dX2_behindOne_141 : decode cX2_behindOne 141 = .ok (.aload_n 0, 1) := dk_42 (dk_at dksX2_behindOne_6 3 rfl rfl)
theorem dX2_behindOne_142 : decode cX2_behindOne 142 = .ok (.dup, 1) := dk_89 (dk_at dksX2_behindOne_6 4 rfl rfl)
theorem dX2_behindOne_143 : decode cX2_behindOne 143 = .ok (.getfield 166, 3) := dk_180 0 166 (dk_at dksX2_behindOne_6 5 rfl rfl)
theorem dX2_behindOne_146 : decode cX2_behindOne 146 = .ok (.iconst 1, 1) := dk_4 (dk_at dksX2_behindOne_6 8 rfl rfl)
theorem dX2_behindOne_147 : decode cX2_behindOne 147 = .ok (.isub, 1) := dk_100 (dk_at dksX2_behindOne_6 9 rfl rfl)
theorem dX2_behindOne_148 : decode cX2_behindOne 148 = .ok (.putfield 166, 3) := dk_181 0 166 (dk_at dksX2_behindOne_6 10 rfl rfl)
theorem dX2_behindOne_151 : decode cX2_behindOne 151 = .ok (.aload_n 0, 1) := dk_42 (dk_at dksX2_behindOne_6 13 rfl rfl)
theorem dX2_behindOne_152 : decode cX2_behindOne 152 = .ok (.dup, 1) := dk_89 (dk_at dksX2_behindOne_6 14 rfl rfl)
theorem dX2_behindOne_153 : decode cX2_behindOne 153 = .ok (.getfield 176, 3) := dk_180 0 176 (dk_at dksX2_behindOne_6 15 rfl rfl)
theorem dX2_behindOne_156 : decode cX2_behindOne 156 = .ok (.iconst 1, 1) := dk_4 (dk_at dksX2_behindOne_6 18 rfl rfl)
theorem dX2_behindOne_157 : decode cX2_behindOne 157 = .ok (.isub, 1) := dk_100 (dk_at dksX2_behindOne_6 19 rfl rfl)
theorem dX2_behindOne_158 : decode cX2_behindOne 158 = .ok (.putfield 176, 3) := dk_181 0 176 (dk_at dksX2_behindOne_6 20 rfl rfl)
theorem dX2_behindOne_161 : decode cX2_behindOne 161 = .ok (.iload_n 2, 1) := dk_28 (dk_at dksX2_behindOne_6 23 rfl rfl)
theorem dX2_behindOne_162 : decode cX2_behindOne 162 = .ok (.bipush 41, 2) := dk_16 41 (dk_at dksX2_behindOne_7 0 rfl rfl)
theorem dX2_behindOne_164 : decode cX2_behindOne 164 = .ok (.if_icmp .ne 9, 3) := dk_160 0 9 (dk_at dksX2_behindOne_7 2 rfl rfl)
theorem dX2_behindOne_167 : decode cX2_behindOne 167 = .ok (.aload_n 0, 1) := dk_42 (dk_at dksX2_behindOne_7 5 rfl rfl)
theorem dX2_behindOne_168 : decode cX2_behindOne 168 = .ok (.iconst 3, 1) := dk_6 (dk_at dksX2_behindOne_7 6 rfl rfl)
theorem dX2_behindOne_169 : decode cX2_behindOne 169 = .ok (.iconst 0, 1) := dk_3 (dk_at dksX2_behindOne_7 7 rfl rfl)
theorem dX2_behindOne_170 : decode cX2_behindOne 170 = .ok (.invokevirtual 172, 3) := dk_182 0 172 (dk_at dksX2_behindOne_7 8 rfl rfl)
theorem dX2_behindOne_173 : decode cX2_behindOne 173 = .ok (.aload_n 0, 1) := dk_42 (dk_at dksX2_behindOne_7 11 rfl rfl)
theorem dX2_behindOne_174 : decode cX2_behindOne 174 = .ok (.invokevirtual 179, 3) := dk_182 0 179 (dk_at dksX2_behindOne_7 12 rfl rfl)
theorem dX2_behindOne_177 : decode cX2_behindOne 177 = .ok (.aload_n 0, 1) := dk_42 (dk_at dksX2_behindOne_7 15 rfl rfl)
theorem dX2_behindOne_178 : decode cX2_behindOne 178 = .ok (.iconst 3, 1) := dk_6 (dk_at dksX2_behindOne_7 16 rfl rfl)
theorem dX2_behindOne_179 : decode cX2_behindOne 179 = .ok (.invokevirtual 192, 3) := dk_182 0 192 (dk_at dksX2_behindOne_7 17 rfl rfl)
theorem dX2_behindOne_182 : decode cX2_behindOne 182 = .ok (.iconst 0, 1) := dk_3 (dk_at dksX2_behindOne_7 20 rfl rfl)
theorem dX2_behindOne_183 : decode cX2_behindOne 183 = .ok (.ireturn, 1) := dk_172 (dk_at dksX2_behindOne_7 21 rfl rfl)
abbrev cX2_rank : ByteArray := prog_15_method_36_code
def yX2_rank : MethodName := ⟨RX2, "rank", "(I)I"⟩
def dkwX2_rank_1 : List UInt8 := [161, 0, 7, 5, 167, 0, 4, 4, 172]
abbrev dktX2_rank_1 : List UInt8 := dkwX2_rank_1 ++ []
def dkwX2_rank_0 : List UInt8 := [26, 16, 40, 161, 0, 7, 3, 167, 0, 23, 26, 5, 160, 0, 7, 6, 167, 0, 14, 26, 16, 6]
abbrev dktX2_rank_0 : List UInt8 := dkwX2_rank_0 ++ dktX2_rank_1
theorem dksX2_rank_0 : cX2_rank.data.toList.drop 0 = dktX2_rank_0 := by decide +kernel
theorem dksX2_rank_1 : cX2_rank.data.toList.drop 22 = dktX2_rank_1 := dk_seg dksX2_rank_0 22 rfl rfl
theorem dX2_rank_0 : decode cX2_rank 0 = .ok (.iload_n 0, 1) := dk_26 (dk_at dksX2_rank_0 0 rfl rfl)
theorem dX2_rank_1 : decode cX2_rank 1 = .ok (.bipush 40, 2) := dk_16 40 (dk_at dksX2_rank_0 1 rfl rfl)
theorem dX2_rank_3 : decode cX2_rank 3 = .ok (.if_icmp .lt 7, 3) := dk_161 0 7 (dk_at dksX2_rank_0 3 rfl rfl)
theorem dX2_rank_6 : decode cX2_rank 6 = .ok (.iconst 0, 1) := dk_3 (dk_at dksX2_rank_0 6 rfl rfl)
theorem dX2_rank_7 : decode cX2_rank 7 = .ok (.goto 23, 3) := dk_167 0 23 (dk_at dksX2_rank_0 7 rfl rfl)
theorem dX2_rank_10 : decode cX2_rank 10 = .ok (.iload_n 0, 1) := dk_26 (dk_at dksX2_rank_0 10 rfl rfl)
theorem dX2_rank_11 : decode cX2_rank 11 = .ok (.iconst 2, 1) := dk_5 (dk_at dksX2_rank_0 11 rfl rfl)
theorem dX2_rank_12 : decode cX2_rank 12 = .ok (.if_icmp .ne 7, 3) := dk_160 0 7 (dk_at dksX2_rank_0 12 rfl rfl)
theorem dX2_rank_15 : decode cX2_rank 15 = .ok (.iconst 3, 1) := dk_6 (dk_at dksX2_rank_0 15 rfl rfl)
theorem dX2_rank_16 : decode cX2_rank 16 = .ok (.goto 14, 3) := dk_167 0 14 (dk_at dksX2_rank_0 16 rfl rfl)
theorem dX2_rank_19 : decode cX2_rank 19 = .ok (.iload_n 0, 1) := dk_26 (dk_at dksX2_rank_0 19 rfl rfl)
theorem dX2_rank_20 : decode cX2_rank 20 = .ok (.bipush 6, 2) := dk_16 6 (dk_at dksX2_rank_0 20 rfl rfl)
theorem dX2_rank_22 : decode cX2_rank 22 = .ok (.if_icmp .lt 7, 3) := dk_161 0 7 (dk_at dksX2_rank_1 0 rfl rfl)
theorem dX2_rank_25 : decode cX2_rank 25 = .ok (.iconst 2, 1) := dk_5 (dk_at dksX2_rank_1 3 rfl rfl)
theorem dX2_rank_26 : decode cX2_rank 26 = .ok (.goto 4, 3) := dk_167 0 4 (dk_at dksX2_rank_1 4 rfl rfl)
theorem dX2_rank_29 : decode cX2_rank 29 = .ok (.iconst 1, 1) := dk_4 (dk_at dksX2_rank_1 7 rfl rfl)
theorem dX2_rank_30 : decode cX2_rank 30 = .ok (.ireturn, 1) := dk_172 (dk_at dksX2_rank_1 8 rfl rfl)
abbrev cX2_settlePile : ByteArray := prog_15_method_37_code
def yX2_settlePile : MethodName := ⟨RX2, "settlePile", "(I)V"⟩
def dkwX2_settlePile_3 : List UInt8 := [181, 0, 176, 167, 255, 184, 177]
abbrev dktX2_settlePile_3 : List UInt8 := dkwX2_settlePile_3 ++ []
def dkwX2_settlePile_2 : List UInt8 := [182, 0, 172, 42, 180, 0, 29, 42, 180, 0, 166, 46, 5, 160, 255, 197, 42, 89, 180, 0, 176, 4, 100]
abbrev dktX2_settlePile_2 : List UInt8 := dkwX2_settlePile_2 ++ dktX2_settlePile_3
def dkwX2_settlePile_1 : List UInt8 := [161, 0, 53, 42, 89, 180, 0, 166, 4, 100, 181, 0, 166, 42, 42, 180, 0, 29, 42, 180, 0, 166, 46, 3]
abbrev dktX2_settlePile_1 : List UInt8 := dkwX2_settlePile_1 ++ dktX2_settlePile_2
def dkwX2_settlePile_0 : List UInt8 := [42, 180, 0, 166, 158, 0, 71, 42, 180, 0, 29, 42, 180, 0, 166, 4, 100, 46, 184, 0, 169, 27]
abbrev dktX2_settlePile_0 : List UInt8 := dkwX2_settlePile_0 ++ dktX2_settlePile_1
theorem dksX2_settlePile_0 : cX2_settlePile.data.toList.drop 0 = dktX2_settlePile_0 := by decide +kernel
theorem dksX2_settlePile_1 : cX2_settlePile.data.toList.drop 22 = dktX2_settlePile_1 := dk_seg dksX2_settlePile_0 22 rfl rfl
theorem dksX2_settlePile_2 : cX2_settlePile.data.toList.drop 46 = dktX2_settlePile_2 := dk_seg dksX2_settlePile_1 24 rfl rfl
theorem dksX2_settlePile_3 : cX2_settlePile.data.toList.drop 69 = dktX2_settlePile_3 := dk_seg dksX2_settlePile_2 23 rfl rfl
theorem dX2_settlePile_0 : decode cX2_settlePile 0 = .ok (.aload_n 0, 1) := dk_42 (dk_at dksX2_settlePile_0 0 rfl rfl)
theorem dX2_settlePile_1 : decode cX2_settlePile 1 = .ok (.getfield 166, 3) := dk_180 0 166 (dk_at dksX2_settlePile_0 1 rfl rfl)
theorem dX2_settlePile_4 : decode cX2_settlePile 4 = .ok (.ifCond .le 71, 3) := dk_158 0 71 (dk_at dksX2_settlePile_0 4 rfl rfl)
theorem dX2_settlePile_7 : decode cX2_settlePile 7 = .ok (.aload_n 0, 1) := dk_42 (dk_at dksX2_settlePile_0 7 rfl rfl)
theorem dX2_settlePile_8 : decode cX2_settlePile 8 = .ok (.getfield 29, 3) := dk_180 0 29 (dk_at dksX2_settlePile_0 8 rfl rfl)
theorem dX2_settlePile_11 : decode cX2_settlePile 11 = .ok (.aload_n 0, 1) := dk_42 (dk_at dksX2_settlePile_0 11 rfl rfl)
theorem dX2_settlePile_12 : decode cX2_settlePile 12 = .ok (.getfield 166, 3) := dk_180 0 166 (dk_at dksX2_settlePile_0 12 rfl rfl)
theorem dX2_settlePile_15 : decode cX2_settlePile 15 = .ok (.iconst 1, 1) := dk_4 (dk_at dksX2_settlePile_0 15 rfl rfl)
theorem dX2_settlePile_16 : decode cX2_settlePile 16 = .ok (.isub, 1) := dk_100 (dk_at dksX2_settlePile_0 16 rfl rfl)
theorem dX2_settlePile_17 : decode cX2_settlePile 17 = .ok (.iaload, 1) := dk_46 (dk_at dksX2_settlePile_0 17 rfl rfl)
theorem dX2_settlePile_18 : decode cX2_settlePile 18 = .ok (.invokestatic 169, 3) := dk_184 0 169 (dk_at dksX2_settlePile_0 18 rfl rfl)
theorem dX2_settlePile_21 : decode cX2_settlePile 21 = .ok (.iload_n 1, 1) := dk_27 (dk_at dksX2_settlePile_0 21 rfl rfl)
theorem dX2_settlePile_22 : decode cX2_settlePile 22 = .ok (.if_icmp .lt 53, 3) := dk_161 0 53 (dk_at dksX2_settlePile_1 0 rfl rfl)
theorem dX2_settlePile_25 : decode cX2_settlePile 25 = .ok (.aload_n 0, 1) := dk_42 (dk_at dksX2_settlePile_1 3 rfl rfl)
theorem dX2_settlePile_26 : decode cX2_settlePile 26 = .ok (.dup, 1) := dk_89 (dk_at dksX2_settlePile_1 4 rfl rfl)
theorem dX2_settlePile_27 : decode cX2_settlePile 27 = .ok (.getfield 166, 3) := dk_180 0 166 (dk_at dksX2_settlePile_1 5 rfl rfl)
theorem dX2_settlePile_30 : decode cX2_settlePile 30 = .ok (.iconst 1, 1) := dk_4 (dk_at dksX2_settlePile_1 8 rfl rfl)
theorem dX2_settlePile_31 : decode cX2_settlePile 31 = .ok (.isub, 1) := dk_100 (dk_at dksX2_settlePile_1 9 rfl rfl)
theorem dX2_settlePile_32 : decode cX2_settlePile 32 = .ok (.putfield 166, 3) := dk_181 0 166 (dk_at dksX2_settlePile_1 10 rfl rfl)
theorem dX2_settlePile_35 : decode cX2_settlePile 35 = .ok (.aload_n 0, 1) := dk_42 (dk_at dksX2_settlePile_1 13 rfl rfl)
theorem dX2_settlePile_36 : decode cX2_settlePile 36 = .ok (.aload_n 0, 1) := dk_42 (dk_at dksX2_settlePile_1 14 rfl rfl)
theorem dX2_settlePile_37 : decode cX2_settlePile 37 = .ok (.getfield 29, 3) := dk_180 0 29 (dk_at dksX2_settlePile_1 15 rfl rfl)
theorem dX2_settlePile_40 : decode cX2_settlePile 40 = .ok (.aload_n 0, 1) := dk_42 (dk_at dksX2_settlePile_1 18 rfl rfl)
theorem dX2_settlePile_41 : decode cX2_settlePile 41 = .ok (.getfield 166, 3) := dk_180 0 166 (dk_at dksX2_settlePile_1 19 rfl rfl)
theorem dX2_settlePile_44 : decode cX2_settlePile 44 = .ok (.iaload, 1) := dk_46 (dk_at dksX2_settlePile_1 22 rfl rfl)
theorem dX2_settlePile_45 : decode cX2_settlePile 45 = .ok (.iconst 0, 1) := dk_3 (dk_at dksX2_settlePile_1 23 rfl rfl)
theorem dX2_settlePile_46 : decode cX2_settlePile 46 = .ok (.invokevirtual 172, 3) := dk_182 0 172 (dk_at dksX2_settlePile_2 0 rfl rfl)
theorem dX2_settlePile_49 : decode cX2_settlePile 49 = .ok (.aload_n 0, 1) := dk_42 (dk_at dksX2_settlePile_2 3 rfl rfl)
theorem dX2_settlePile_50 : decode cX2_settlePile 50 = .ok (.getfield 29, 3) := dk_180 0 29 (dk_at dksX2_settlePile_2 4 rfl rfl)
theorem dX2_settlePile_53 : decode cX2_settlePile 53 = .ok (.aload_n 0, 1) := dk_42 (dk_at dksX2_settlePile_2 7 rfl rfl)
theorem dX2_settlePile_54 : decode cX2_settlePile 54 = .ok (.getfield 166, 3) := dk_180 0 166 (dk_at dksX2_settlePile_2 8 rfl rfl)
theorem dX2_settlePile_57 : decode cX2_settlePile 57 = .ok (.iaload, 1) := dk_46 (dk_at dksX2_settlePile_2 11 rfl rfl)
theorem dX2_settlePile_58 : decode cX2_settlePile 58 = .ok (.iconst 2, 1) := dk_5 (dk_at dksX2_settlePile_2 12 rfl rfl)
theorem dX2_settlePile_59 : decode cX2_settlePile 59 = .ok (.if_icmp .ne (-59), 3) := dk_160 255 197 (dk_at dksX2_settlePile_2 13 rfl rfl)
theorem dX2_settlePile_62 : decode cX2_settlePile 62 = .ok (.aload_n 0, 1) := dk_42 (dk_at dksX2_settlePile_2 16 rfl rfl)
theorem dX2_settlePile_63 : decode cX2_settlePile 63 = .ok (.dup, 1) := dk_89 (dk_at dksX2_settlePile_2 17 rfl rfl)
theorem dX2_settlePile_64 : decode cX2_settlePile 64 = .ok (.getfield 176, 3) := dk_180 0 176 (dk_at dksX2_settlePile_2 18 rfl rfl)
theorem dX2_settlePile_67 : decode cX2_settlePile 67 = .ok (.iconst 1, 1) := dk_4 (dk_at dksX2_settlePile_2 21 rfl rfl)
theorem dX2_settlePile_68 : decode cX2_settlePile 68 = .ok (.isub, 1) := dk_100 (dk_at dksX2_settlePile_2 22 rfl rfl)
theorem dX2_settlePile_69 : decode cX2_settlePile 69 = .ok (.putfield 176, 3) := dk_181 0 176 (dk_at dksX2_settlePile_3 0 rfl rfl)
theorem dX2_settlePile_72 : decode cX2_settlePile 72 = .ok (.goto (-72), 3) := dk_167 255 184 (dk_at dksX2_settlePile_3 3 rfl rfl)
theorem dX2_settlePile_75 : decode cX2_settlePile 75 = .ok (.return_, 1) := dk_177 (dk_at dksX2_settlePile_3 6 rfl rfl)
abbrev cX2_emit : ByteArray := prog_15_method_32_code
def yX2_emit : MethodName := ⟨RX2, "emit", "(II)V"⟩
def dkwX2_emit_2 : List UInt8 := [180, 0, 152, 4, 96, 181, 0, 152, 177]
abbrev dktX2_emit_2 : List UInt8 := dkwX2_emit_2 ++ []
def dkwX2_emit_1 : List UInt8 := [180, 0, 16, 42, 180, 0, 149, 17, 0, 145, 96, 5, 42, 180, 0, 152, 104, 96, 4, 96, 28, 79, 42, 89]
abbrev dktX2_emit_1 : List UInt8 := dkwX2_emit_1 ++ dktX2_emit_2
def dkwX2_emit_0 : List UInt8 := [42, 180, 0, 16, 42, 180, 0, 149, 17, 0, 145, 96, 5, 42, 180, 0, 152, 104, 96, 27, 79, 42]
abbrev dktX2_emit_0 : List UInt8 := dkwX2_emit_0 ++ dktX2_emit_1
theorem dksX2_emit_0 : cX2_emit.data.toList.drop 0 = dktX2_emit_0 := by decide +kernel
theorem dksX2_emit_1 : cX2_emit.data.toList.drop 22 = dktX2_emit_1 := dk_seg dksX2_emit_0 22 rfl rfl
theorem dksX2_emit_2 : cX2_emit.data.toList.drop 46 = dktX2_emit_2 := dk_seg dksX2_emit_1 24 rfl rfl
theorem dX2_emit_0 : decode cX2_emit 0 = .ok (.aload_n 0, 1) := dk_42 (dk_at dksX2_emit_0 0 rfl rfl)
theorem dX2_emit_1 : decode cX2_emit 1 = .ok (.getfield 16, 3) := dk_180 0 16 (dk_at dksX2_emit_0 1 rfl rfl)
theorem dX2_emit_4 : decode cX2_emit 4 = .ok (.aload_n 0, 1) := dk_42 (dk_at dksX2_emit_0 4 rfl rfl)
theorem dX2_emit_5 : decode cX2_emit 5 = .ok (.getfield 149, 3) := dk_180 0 149 (dk_at dksX2_emit_0 5 rfl rfl)
theorem dX2_emit_8 : decode cX2_emit 8 = .ok (.sipush 145, 3) := dk_17 0 145 (dk_at dksX2_emit_0 8 rfl rfl)
theorem dX2_emit_11 : decode cX2_emit 11 = .ok (.iadd, 1) := dk_96 (dk_at dksX2_emit_0 11 rfl rfl)
theorem dX2_emit_12 : decode cX2_emit 12 = .ok (.iconst 2, 1) := dk_5 (dk_at dksX2_emit_0 12 rfl rfl)
theorem dX2_emit_13 : decode cX2_emit 13 = .ok (.aload_n 0, 1) := dk_42 (dk_at dksX2_emit_0 13 rfl rfl)
theorem dX2_emit_14 : decode cX2_emit 14 = .ok (.getfield 152, 3) := dk_180 0 152 (dk_at dksX2_emit_0 14 rfl rfl)
theorem dX2_emit_17 : decode cX2_emit 17 = .ok (.imul, 1) := dk_104 (dk_at dksX2_emit_0 17 rfl rfl)
theorem dX2_emit_18 : decode cX2_emit 18 = .ok (.iadd, 1) := dk_96 (dk_at dksX2_emit_0 18 rfl rfl)
theorem dX2_emit_19 : decode cX2_emit 19 = .ok (.iload_n 1, 1) := dk_27 (dk_at dksX2_emit_0 19 rfl rfl)
theorem dX2_emit_20 : decode cX2_emit 20 = .ok (.iastore, 1) := dk_79 (dk_at dksX2_emit_0 20 rfl rfl)
theorem dX2_emit_21 : decode cX2_emit 21 = .ok (.aload_n 0, 1) := dk_42 (dk_at dksX2_emit_0 21 rfl rfl)
theorem dX2_emit_22 : decode cX2_emit 22 = .ok (.getfield 16, 3) := dk_180 0 16 (dk_at dksX2_emit_1 0 rfl rfl)
theorem dX2_emit_25 : decode cX2_emit 25 = .ok (.aload_n 0, 1) := dk_42 (dk_at dksX2_emit_1 3 rfl rfl)
theorem dX2_emit_26 : decode cX2_emit 26 = .ok (.getfield 149, 3) := dk_180 0 149 (dk_at dksX2_emit_1 4 rfl rfl)
theorem dX2_emit_29 : decode cX2_emit 29 = .ok (.sipush 145, 3) := dk_17 0 145 (dk_at dksX2_emit_1 7 rfl rfl)
theorem dX2_emit_32 : decode cX2_emit 32 = .ok (.iadd, 1) := dk_96 (dk_at dksX2_emit_1 10 rfl rfl)
theorem dX2_emit_33 : decode cX2_emit 33 = .ok (.iconst 2, 1) := dk_5 (dk_at dksX2_emit_1 11 rfl rfl)
theorem dX2_emit_34 : decode cX2_emit 34 = .ok (.aload_n 0, 1) := dk_42 (dk_at dksX2_emit_1 12 rfl rfl)
theorem dX2_emit_35 : decode cX2_emit 35 = .ok (.getfield 152, 3) := dk_180 0 152 (dk_at dksX2_emit_1 13 rfl rfl)
theorem dX2_emit_38 : decode cX2_emit 38 = .ok (.imul, 1) := dk_104 (dk_at dksX2_emit_1 16 rfl rfl)
theorem dX2_emit_39 : decode cX2_emit 39 = .ok (.iadd, 1) := dk_96 (dk_at dksX2_emit_1 17 rfl rfl)
theorem dX2_emit_40 : decode cX2_emit 40 = .ok (.iconst 1, 1) := dk_4 (dk_at dksX2_emit_1 18 rfl rfl)
theorem dX2_emit_41 : decode cX2_emit 41 = .ok (.iadd, 1) := dk_96 (dk_at dksX2_emit_1 19 rfl rfl)
theorem dX2_emit_42 : decode cX2_emit 42 = .ok (.iload_n 2, 1) := dk_28 (dk_at dksX2_emit_1 20 rfl rfl)
theorem dX2_emit_43 : decode cX2_emit 43 = .ok (.iastore, 1) := dk_79 (dk_at dksX2_emit_1 21 rfl rfl)
theorem dX2_emit_44 : decode cX2_emit 44 = .ok (.aload_n 0, 1) := dk_42 (dk_at dksX2_emit_1 22 rfl rfl)
theorem dX2_emit_45 : decode cX2_emit 45 = .ok (.dup, 1) := dk_89 (dk_at dksX2_emit_1 23 rfl rfl)
theorem dX2_emit_46 : decode cX2_emit 46 = .ok (.getfield 152, 3) := dk_180 0 152 (dk_at dksX2_emit_2 0 rfl rfl)
theorem dX2_emit_49 : decode cX2_emit 49 = .ok (.iconst 1, 1) := dk_4 (dk_at dksX2_emit_2 3 rfl rfl)
theorem dX2_emit_50 : decode cX2_emit 50 = .ok (.iadd, 1) := dk_96 (dk_at dksX2_emit_2 4 rfl rfl)
theorem dX2_emit_51 : decode cX2_emit 51 = .ok (.putfield 152, 3) := dk_181 0 152 (dk_at dksX2_emit_2 5 rfl rfl)
theorem dX2_emit_54 : decode cX2_emit 54 = .ok (.return_, 1) := dk_177 (dk_at dksX2_emit_2 8 rfl rfl)
abbrev cX2_openAt : ByteArray := prog_15_method_40_code
def yX2_openAt : MethodName := ⟨RX2, "openAt", "()I"⟩
def dkwX2_openAt_1 : List UInt8 := [132, 1, 255, 167, 255, 238, 27, 156, 0, 7, 2, 167, 0, 9, 42, 180, 0, 29, 27, 46, 172]
abbrev dktX2_openAt_1 : List UInt8 := dkwX2_openAt_1 ++ []
def dkwX2_openAt_0 : List UInt8 := [42, 180, 0, 166, 4, 100, 60, 27, 155, 0, 20, 42, 180, 0, 29, 27, 46, 16, 40, 162, 0, 9]
abbrev dktX2_openAt_0 : List UInt8 := dkwX2_openAt_0 ++ dktX2_openAt_1
theorem dksX2_openAt_0 : cX2_openAt.data.toList.drop 0 = dktX2_openAt_0 := by decide +kernel
theorem dksX2_openAt_1 : cX2_openAt.data.toList.drop 22 = dktX2_openAt_1 := dk_seg dksX2_openAt_0 22 rfl rfl
theorem dX2_openAt_0 : decode cX2_openAt 0 = .ok (.aload_n 0, 1) := dk_42 (dk_at dksX2_openAt_0 0 rfl rfl)
theorem dX2_openAt_1 : decode cX2_openAt 1 = .ok (.getfield 166, 3) := dk_180 0 166 (dk_at dksX2_openAt_0 1 rfl rfl)
theorem dX2_openAt_4 : decode cX2_openAt 4 = .ok (.iconst 1, 1) := dk_4 (dk_at dksX2_openAt_0 4 rfl rfl)
theorem dX2_openAt_5 : decode cX2_openAt 5 = .ok (.isub, 1) := dk_100 (dk_at dksX2_openAt_0 5 rfl rfl)
theorem dX2_openAt_6 : decode cX2_openAt 6 = .ok (.istore_n 1, 1) := dk_60 (dk_at dksX2_openAt_0 6 rfl rfl)
theorem dX2_openAt_7 : decode cX2_openAt 7 = .ok (.iload_n 1, 1) := dk_27 (dk_at dksX2_openAt_0 7 rfl rfl)
theorem dX2_openAt_8 : decode cX2_openAt 8 = .ok (.ifCond .lt 20, 3) := dk_155 0 20 (dk_at dksX2_openAt_0 8 rfl rfl)
theorem dX2_openAt_11 : decode cX2_openAt 11 = .ok (.aload_n 0, 1) := dk_42 (dk_at dksX2_openAt_0 11 rfl rfl)
theorem dX2_openAt_12 : decode cX2_openAt 12 = .ok (.getfield 29, 3) := dk_180 0 29 (dk_at dksX2_openAt_0 12 rfl rfl)
theorem dX2_openAt_15 : decode cX2_openAt 15 = .ok (.iload_n 1, 1) := dk_27 (dk_at dksX2_openAt_0 15 rfl rfl)
theorem dX2_openAt_16 : decode cX2_openAt 16 = .ok (.iaload, 1) := dk_46 (dk_at dksX2_openAt_0 16 rfl rfl)
theorem dX2_openAt_17 : decode cX2_openAt 17 = .ok (.bipush 40, 2) := dk_16 40 (dk_at dksX2_openAt_0 17 rfl rfl)
theorem dX2_openAt_19 : decode cX2_openAt 19 = .ok (.if_icmp .ge 9, 3) := dk_162 0 9 (dk_at dksX2_openAt_0 19 rfl rfl)
theorem dX2_openAt_22 : decode cX2_openAt 22 = .ok (.iinc 1 (-1), 3) := dk_132 1 255 (dk_at dksX2_openAt_1 0 rfl rfl)
theorem dX2_openAt_25 : decode cX2_openAt 25 = .ok (.goto (-18), 3) := dk_167 255 238 (dk_at dksX2_openAt_1 3 rfl rfl)
theorem dX2_openAt_28 : decode cX2_openAt 28 = .ok (.iload_n 1, 1) := dk_27 (dk_at dksX2_openAt_1 6 rfl rfl)
theorem dX2_openAt_29 : decode cX2_openAt 29 = .ok (.ifCond .ge 7, 3) := dk_156 0 7 (dk_at dksX2_openAt_1 7 rfl rfl)
theorem dX2_openAt_32 : decode cX2_openAt 32 = .ok (.iconst (-1), 1) := dk_2 (dk_at dksX2_openAt_1 10 rfl rfl)
theorem dX2_openAt_33 : decode cX2_openAt 33 = .ok (.goto 9, 3) := dk_167 0 9 (dk_at dksX2_openAt_1 11 rfl rfl)
theorem dX2_openAt_36 : decode cX2_openAt 36 = .ok (.aload_n 0, 1) := dk_42 (dk_at dksX2_openAt_1 14 rfl rfl)
theorem dX2_openAt_37 : decode cX2_openAt 37 = .ok (.getfield 29, 3) := dk_180 0 29 (dk_at dksX2_openAt_1 15 rfl rfl)
theorem dX2_openAt_40 : decode cX2_openAt 40 = .ok (.iload_n 1, 1) := dk_27 (dk_at dksX2_openAt_1 18 rfl rfl)
theorem dX2_openAt_41 : decode cX2_openAt 41 = .ok (.iaload, 1) := dk_46 (dk_at dksX2_openAt_1 19 rfl rfl)
theorem dX2_openAt_42 : decode cX2_openAt 42 = .ok (.ireturn, 1) := dk_172 (dk_at dksX2_openAt_1 20 rfl rfl)
abbrev cX2_beginOne : ByteArray := prog_15_method_39_code
def yX2_beginOne : MethodName := ⟨RX2, "beginOne", "()I"⟩
def dkwX2_beginOne_6 : List UInt8 := [160, 0, 11, 42, 5, 182, 0, 195, 167, 0, 4, 4, 172]
abbrev dktX2_beginOne_6 : List UInt8 := dkwX2_beginOne_6 ++ []
def dkwX2_beginOne_5 : List UInt8 := [42, 180, 0, 115, 16, 124, 160, 0, 12, 42, 16, 41, 182, 0, 195, 167, 0, 21, 42, 180, 0, 115, 16, 45]
abbrev dktX2_beginOne_5 : List UInt8 := dkwX2_beginOne_5 ++ dktX2_beginOne_6
def dkwX2_beginOne_4 : List UInt8 := [6, 182, 0, 192, 3, 172, 42, 180, 0, 115, 16, 40, 160, 0, 12, 42, 16, 40, 182, 0, 195, 167, 0, 39]
abbrev dktX2_beginOne_4 : List UInt8 := dkwX2_beginOne_4 ++ dktX2_beginOne_5
def dkwX2_beginOne_3 : List UInt8 := [160, 0, 10, 42, 180, 0, 121, 167, 0, 4, 27, 182, 0, 172, 42, 182, 0, 179, 42, 4, 181, 0, 188, 42]
abbrev dktX2_beginOne_3 : List UInt8 := dkwX2_beginOne_3 ++ dktX2_beginOne_4
def dkwX2_beginOne_2 : List UInt8 := [155, 0, 52, 42, 42, 180, 0, 115, 4, 160, 0, 7, 3, 167, 0, 4, 4, 42, 180, 0, 115, 4]
abbrev dktX2_beginOne_2 : List UInt8 := dkwX2_beginOne_2 ++ dktX2_beginOne_3
def dkwX2_beginOne_1 : List UInt8 := [60, 27, 155, 0, 13, 42, 27, 182, 0, 185, 154, 0, 5, 8, 172, 42, 180, 0, 115, 4, 159, 0, 7, 27]
abbrev dktX2_beginOne_1 : List UInt8 := dkwX2_beginOne_1 ++ dktX2_beginOne_2
def dkwX2_beginOne_0 : List UInt8 := [42, 180, 0, 115, 4, 160, 0, 15, 42, 180, 0, 121, 17, 39, 15, 164, 0, 5, 5, 172, 42, 182, 0, 182]
abbrev dktX2_beginOne_0 : List UInt8 := dkwX2_beginOne_0 ++ dktX2_beginOne_1
theorem dksX2_beginOne_0 : cX2_beginOne.data.toList.drop 0 = dktX2_beginOne_0 := by decide +kernel
theorem dksX2_beginOne_1 : cX2_beginOne.data.toList.drop 24 = dktX2_beginOne_1 := dk_seg dksX2_beginOne_0 24 rfl rfl
theorem dksX2_beginOne_2 : cX2_beginOne.data.toList.drop 48 = dktX2_beginOne_2 := dk_seg dksX2_beginOne_1 24 rfl rfl
theorem dksX2_beginOne_3 : cX2_beginOne.data.toList.drop 70 = dktX2_beginOne_3 := dk_seg dksX2_beginOne_2 22 rfl rfl
theorem dksX2_beginOne_4 : cX2_beginOne.data.toList.drop 94 = dktX2_beginOne_4 := dk_seg dksX2_beginOne_3 24 rfl rfl
theorem dksX2_beginOne_5 : cX2_beginOne.data.toList.drop 118 = dktX2_beginOne_5 := dk_seg dksX2_beginOne_4 24 rfl rfl
theorem dksX2_beginOne_6 : cX2_beginOne.data.toList.drop 142 = dktX2_beginOne_6 := dk_seg dksX2_beginOne_5 24 rfl rfl
theorem dX2_beginOne_0 : decode cX2_beginOne 0 = .ok (.aload_n 0, 1) := dk_42 (dk_at dksX2_beginOne_0 0 rfl rfl)
theorem dX2_beginOne_1 : decode cX2_beginOne 1 = .ok (.getfield 115, 3) := dk_180 0 115 (dk_at dksX2_beginOne_0 1 rfl rfl)
theorem dX2_beginOne_4 : decode cX2_beginOne 4 = .ok (.iconst 1, 1) := dk_4 (dk_at dksX2_beginOne_0 4 rfl rfl)
theorem dX2_beginOne_5 : decode cX2_beginOne 5 = .ok (.if_icmp .ne 15, 3) := dk_160 0 15 (dk_at dksX2_beginOne_0 5 rfl rfl)
theorem dX2_beginOne_8 : decode cX2_beginOne 8 = .ok (.aload_n 0, 1) := dk_42 (dk_at dksX2_beginOne_0 8 rfl rfl)
theorem dX2_beginOne_9 : decode cX2_beginOne 9 = .ok (.getfield 121, 3) := dk_180 0 121 (dk_at dksX2_beginOne_0 9 rfl rfl)
theorem dX2_beginOne_12 : decode cX2_beginOne 12 = .ok (.sipush 9999, 3) := dk_17 39 15 (dk_at dksX2_beginOne_0 12 rfl rfl)
theorem dX2_beginOne_15 : decode cX2_beginOne 15 = .ok (.if_icmp .le 5, 3) := dk_164 0 5 (dk_at dksX2_beginOne_0 15 rfl rfl)
theorem dX2_beginOne_18 : decode cX2_beginOne 18 = .ok (.iconst 2, 1) := dk_5 (dk_at dksX2_beginOne_0 18 rfl rfl)
theorem dX2_beginOne_19 : decode cX2_beginOne 19 = .ok (.ireturn, 1) := dk_172 (dk_at dksX2_beginOne_0 19 rfl rfl)
theorem dX2_beginOne_20 : decode cX2_beginOne 20 = .ok (.aload_n 0, 1) := dk_42 (dk_at dksX2_beginOne_0 20 rfl rfl)
theorem dX2_beginOne_21 : decode cX2_beginOne 21 = .ok (.invokevirtual 182, 3) := dk_182 0 182 (dk_at dksX2_beginOne_0 21 rfl rfl)
theorem dX2_beginOne_24 : decode cX2_beginOne 24 = .ok (.istore_n 1, 1) := dk_60 (dk_at dksX2_beginOne_1 0 rfl rfl)
theorem dX2_beginOne_25 : decode cX2_beginOne 25 = .ok (.iload_n 1, 1) := dk_27 (dk_at dksX2_beginOne_1 1 rfl rfl)
theorem dX2_beginOne_26 : decode cX2_beginOne 26 = .ok (.ifCond .lt 13, 3) := dk_155 0 13 (dk_at dksX2_beginOne_1 2 rfl rfl)
theorem dX2_beginOne_29 : decode cX2_beginOne 29 = .ok (.aload_n 0, 1) := dk_42 (dk_at dksX2_beginOne_1 5 rfl rfl)
theorem dX2_beginOne_30 : decode cX2_beginOne 30 = .ok (.iload_n 1, 1) := dk_27 (dk_at dksX2_beginOne_1 6 rfl rfl)
theorem dX2_beginOne_31 : decode cX2_beginOne 31 = .ok (.invokevirtual 185, 3) := dk_182 0 185 (dk_at dksX2_beginOne_1 7 rfl rfl)
theorem dX2_beginOne_34 : decode cX2_beginOne 34 = .ok (.ifCond .ne 5, 3) := dk_154 0 5 (dk_at dksX2_beginOne_1 10 rfl rfl)
theorem dX2_beginOne_37 : decode cX2_beginOne 37 = .ok (.iconst 5, 1) := dk_8 (dk_at dksX2_beginOne_1 13 rfl rfl)
theorem dX2_beginOne_38 : decode cX2_beginOne 38 = .ok (.ireturn, 1) := dk_172 (dk_at dksX2_beginOne_1 14 rfl rfl)
theorem dX2_beginOne_39 : decode cX2_beginOne 39 = .ok (.aload_n 0, 1) := dk_42 (dk_at dksX2_beginOne_1 15 rfl rfl)
theorem dX2_beginOne_40 : decode cX2_beginOne 40 = .ok (.getfield 115, 3) := dk_180 0 115 (dk_at dksX2_beginOne_1 16 rfl rfl)
theorem dX2_beginOne_43 : decode cX2_beginOne 43 = .ok (.iconst 1, 1) := dk_4 (dk_at dksX2_beginOne_1 19 rfl rfl)
theorem dX2_beginOne_44 : decode cX2_beginOne 44 = .ok (.if_icmp .eq 7, 3) := dk_159 0 7 (dk_at dksX2_beginOne_1 20 rfl rfl)
theorem dX2_beginOne_47 : decode cX2_beginOne 47 = .ok (.iload_n 1, 1) := dk_27 (dk_at dksX2_beginOne_1 23 rfl rfl)
theorem dX2_beginOne_48 : decode cX2_beginOne 48 = .ok (.ifCond .lt 52, 3) := dk_155 0 52 (dk_at dksX2_beginOne_2 0 rfl rfl)
theorem dX2_beginOne_51 : decode cX2_beginOne 51 = .ok (.aload_n 0, 1) := dk_42 (dk_at dksX2_beginOne_2 3 rfl rfl)
theorem dX2_beginOne_52 : decode cX2_beginOne 52 = .ok (.aload_n 0, 1) := dk_42 (dk_at dksX2_beginOne_2 4 rfl rfl)
theorem dX2_beginOne_53 : decode cX2_beginOne 53 = .ok (.getfield 115, 3) := dk_180 0 115 (dk_at dksX2_beginOne_2 5 rfl rfl)
theorem dX2_beginOne_56 : decode cX2_beginOne 56 = .ok (.iconst 1, 1) := dk_4 (dk_at dksX2_beginOne_2 8 rfl rfl)
theorem dX2_beginOne_57 : decode cX2_beginOne 57 = .ok (.if_icmp .ne 7, 3) := dk_160 0 7 (dk_at dksX2_beginOne_2 9 rfl rfl)
theorem dX2_beginOne_60 : decode cX2_beginOne 60 = .ok (.iconst 0, 1) := dk_3 (dk_at dksX2_beginOne_2 12 rfl rfl)
theorem dX2_beginOne_61 : decode cX2_beginOne 61 = .ok (.goto 4, 3) := dk_167 0 4 (dk_at dksX2_beginOne_2 13 rfl rfl)
theorem dX2_beginOne_64 : decode cX2_beginOne 64 = .ok (.iconst 1, 1) := dk_4 (dk_at dksX2_beginOne_2 16 rfl rfl)
theorem dX2_beginOne_65 : decode cX2_beginOne 65 = .ok (.aload_n 0, 1) := dk_42 (dk_at dksX2_beginOne_2 17 rfl rfl)
theorem dX2_beginOne_66 : decode cX2_beginOne 66 = .ok (.getfield 115, 3) := dk_180 0 115 (dk_at dksX2_beginOne_2 18 rfl rfl)
theorem dX2_beginOne_69 : decode cX2_beginOne 69 = .ok (.iconst 1, 1) := dk_4 (dk_at dksX2_beginOne_2 21 rfl rfl)
theorem dX2_beginOne_70 : decode cX2_beginOne 70 = .ok (.if_icmp .ne 10, 3) := dk_160 0 10 (dk_at dksX2_beginOne_3 0 rfl rfl)
theorem dX2_beginOne_73 : decode cX2_beginOne 73 = .ok (.aload_n 0, 1) := dk_42 (dk_at dksX2_beginOne_3 3 rfl rfl)
theorem dX2_beginOne_74 : decode cX2_beginOne 74 = .ok (.getfield 121, 3) := dk_180 0 121 (dk_at dksX2_beginOne_3 4 rfl rfl)
theorem dX2_beginOne_77 : decode cX2_beginOne 77 = .ok (.goto 4, 3) := dk_167 0 4 (dk_at dksX2_beginOne_3 7 rfl rfl)
theorem dX2_beginOne_80 : decode cX2_beginOne 80 = .ok (.iload_n 1, 1) := dk_27 (dk_at dksX2_beginOne_3 10 rfl rfl)
theorem dX2_beginOne_81 : decode cX2_beginOne 81 = .ok (.invokevirtual 172, 3) := dk_182 0 172 (dk_at dksX2_beginOne_3 11 rfl rfl)
theorem dX2_beginOne_84 : decode cX2_beginOne 84 = .ok (.aload_n 0, 1) := dk_42 (dk_at dksX2_beginOne_3 14 rfl rfl)
theorem dX2_beginOne_85 : decode cX2_beginOne 85 = .ok (.invokevirtual 179, 3) := dk_182 0 179 (dk_at dksX2_beginOne_3 15 rfl rfl)
theorem dX2_beginOne_88 : decode cX2_beginOne 88 = .ok (.aload_n 0, 1) := dk_42 (dk_at dksX2_beginOne_3 18 rfl rfl)
theorem dX2_beginOne_89 : decode cX2_beginOne 89 = .ok (.iconst 1, 1) := dk_4 (dk_at dksX2_beginOne_3 19 rfl rfl)
theorem dX2_beginOne_90 : decode cX2_beginOne 90 = .ok (.putfield 188, 3) := dk_181 0 188 (dk_at dksX2_beginOne_3 20 rfl rfl)
theorem dX2_beginOne_93 : decode cX2_beginOne 93 = .ok (.aload_n 0, 1) := dk_42 (dk_at dksX2_beginOne_3 23 rfl rfl)
theorem dX2_beginOne_94 : decode cX2_beginOne 94 = .ok (.iconst 3, 1) := dk_6 (dk_at dksX2_beginOne_4 0 rfl rfl)
theorem dX2_beginOne_95 : decode cX2_beginOne 95 = .ok (.invokevirtual 192, 3) := dk_182 0 192 (dk_at dksX2_beginOne_4 1 rfl rfl)
theorem dX2_beginOne_98 : decode cX2_beginOne 98 = .ok (.iconst 0, 1) := dk_3 (dk_at dksX2_beginOne_4 4 rfl rfl)
theorem dX2_beginOne_99 : decode cX2_beginOne 99 = .ok (.ireturn, 1) := dk_172 (dk_at dksX2_beginOne_4 5 rfl rfl)
theorem dX2_beginOne_100 : decode cX2_beginOne 100 = .ok (.aload_n 0, 1) := dk_42 (dk_at dksX2_beginOne_4 6 rfl rfl)
theorem dX2_beginOne_101 : decode cX2_beginOne 101 = .ok (.getfield 115, 3) := dk_180 0 115 (dk_at dksX2_beginOne_4 7 rfl rfl)
theorem dX2_beginOne_104 : decode cX2_beginOne 104 = .ok (.bipush 40, 2) := dk_16 40 (dk_at dksX2_beginOne_4 10 rfl rfl)
theorem dX2_beginOne_106 : decode cX2_beginOne 106 = .ok (.if_icmp .ne 12, 3) := dk_160 0 12 (dk_at dksX2_beginOne_4 12 rfl rfl)
theorem dX2_beginOne_109 : decode cX2_beginOne 109 = .ok (.aload_n 0, 1) := dk_42 (dk_at dksX2_beginOne_4 15 rfl rfl)
theorem dX2_beginOne_110 : decode cX2_beginOne 110 = .ok (.bipush 40, 2) := dk_16 40 (dk_at dksX2_beginOne_4 16 rfl rfl)
theorem dX2_beginOne_112 : decode cX2_beginOne 112 = .ok (.invokevirtual 195, 3) := dk_182 0 195 (dk_at dksX2_beginOne_4 18 rfl rfl)
theorem dX2_beginOne_115 : decode cX2_beginOne 115 = .ok (.goto 39, 3) := dk_167 0 39 (dk_at dksX2_beginOne_4 21 rfl rfl)
theorem dX2_beginOne_118 : decode cX2_beginOne 118 = .ok (.aload_n 0, 1) := dk_42 (dk_at dksX2_beginOne_5 0 rfl rfl)
theorem dX2_beginOne_119 : decode cX2_beginOne 119 = .ok (.getfield 115, 3) := dk_180 0 115 (dk_at dksX2_beginOne_5 1 rfl rfl)
theorem dX2_beginOne_122 : decode cX2_beginOne 122 = .ok (.bipush 124, 2) := dk_16 124 (dk_at dksX2_beginOne_5 4 rfl rfl)
theorem dX2_beginOne_124 : decode cX2_beginOne 124 = .ok (.if_icmp .ne 12, 3) := dk_160 0 12 (dk_at dksX2_beginOne_5 6 rfl rfl)
theorem dX2_beginOne_127 : decode cX2_beginOne 127 = .ok (.aload_n 0, 1) := dk_42 (dk_at dksX2_beginOne_5 9 rfl rfl)
theorem dX2_beginOne_128 : decode cX2_beginOne 128 = .ok (.bipush 41, 2) := dk_16 41 (dk_at dksX2_beginOne_5 10 rfl rfl)
theorem dX2_beginOne_130 : decode cX2_beginOne 130 = .ok (.invokevirtual 195, 3) := dk_182 0 195 (dk_at dksX2_beginOne_5 12 rfl rfl)
theorem dX2_beginOne_133 : decode cX2_beginOne 133 = .ok (.goto 21, 3) := dk_167 0 21 (dk_at dksX2_beginOne_5 15 rfl rfl)
theorem dX2_beginOne_136 : decode cX2_beginOne 136 = .ok (.aload_n 0, 1) := dk_42 (dk_at dksX2_beginOne_5 18 rfl rfl)
theorem dX2_beginOne_137 : decode cX2_beginOne 137 = .ok (.getfield 115, 3) := dk_180 0 115 (dk_at dksX2_beginOne_5 19 rfl rfl)
theorem dX2_beginOne_140 : decode cX2_beginOne 140 = .ok (.bipush 45, 2) := dk_16 45 (dk_at dksX2_beginOne_5 22 rfl rfl)
theorem dX2_beginOne_142 : decode cX2_beginOne 142 = .ok (.if_icmp .ne 11, 3) := dk_160 0 11 (dk_at dksX2_beginOne_6 0 rfl rfl)
theorem dX2_beginOne_145 : decode cX2_beginOne 145 = .ok (.aload_n 0, 1) := dk_42 (dk_at dksX2_beginOne_6 3 rfl rfl)
theorem dX2_beginOne_146 : decode cX2_beginOne 146 = .ok (.iconst 2, 1) := dk_5 (dk_at dksX2_beginOne_6 4 rfl rfl)
theorem dX2_beginOne_147 : decode cX2_beginOne 147 = .ok (.invokevirtual 195, 3) := dk_182 0 195 (dk_at dksX2_beginOne_6 5 rfl rfl)
theorem dX2_beginOne_150 : decode cX2_beginOne 150 = .ok (.goto 4, 3) := dk_167 0 4 (dk_at dksX2_beginOne_6 8 rfl rfl)
theorem dX2_beginOne_153 : decode cX2_beginOne 153 = .ok (.iconst 1, 1) := dk_4 (dk_at dksX2_beginOne_6 11 rfl rfl)
theorem dX2_beginOne_154 : decode cX2_beginOne 154 = .ok (.ireturn, 1) := dk_172 (dk_at dksX2_beginOne_6 12 rfl rfl)
abbrev cX2_nameOf : ByteArray := prog_15_method_33_code
def yX2_nameOf : MethodName := ⟨RX2, "nameOf", "()I"⟩
def dkwX2_nameOf_8 : List UInt8 := [184, 0, 137, 148, 154, 0, 8, 16, 7, 167, 0, 7, 42, 182, 0, 159, 172]
abbrev dktX2_nameOf_8 : List UInt8 := dkwX2_nameOf_8 ++ []
def dkwX2_nameOf_7 : List UInt8 := [16, 97, 16, 114, 184, 0, 141, 148, 154, 0, 6, 16, 6, 172, 42, 180, 0, 128, 16, 98, 16, 105, 16, 100]
abbrev dktX2_nameOf_7 : List UInt8 := dkwX2_nameOf_7 ++ dktX2_nameOf_8
def dkwX2_nameOf_6 : List UInt8 := [16, 97, 16, 105, 16, 100, 184, 0, 155, 148, 154, 0, 5, 8, 172, 42, 180, 0, 128, 16, 102, 16, 101]
abbrev dktX2_nameOf_6 : List UInt8 := dkwX2_nameOf_6 ++ dktX2_nameOf_7
def dkwX2_nameOf_5 : List UInt8 := [16, 101, 16, 110, 184, 0, 141, 148, 154, 0, 5, 7, 172, 42, 180, 0, 128, 16, 114, 16, 101, 16, 112]
abbrev dktX2_nameOf_5 : List UInt8 := dkwX2_nameOf_5 ++ dktX2_nameOf_6
def dkwX2_nameOf_4 : List UInt8 := [16, 105, 16, 122, 16, 101, 184, 0, 141, 148, 154, 0, 5, 6, 172, 42, 180, 0, 128, 16, 115, 16, 101]
abbrev dktX2_nameOf_4 : List UInt8 := dkwX2_nameOf_4 ++ dktX2_nameOf_5
def dkwX2_nameOf_3 : List UInt8 := [16, 107, 16, 105, 16, 110, 16, 100, 184, 0, 141, 148, 154, 0, 5, 5, 172, 42, 180, 0, 128, 16, 115]
abbrev dktX2_nameOf_3 : List UInt8 := dkwX2_nameOf_3 ++ dktX2_nameOf_4
def dkwX2_nameOf_2 : List UInt8 := [121, 16, 116, 16, 104, 16, 101, 16, 114, 184, 0, 141, 129, 148, 154, 0, 5, 4, 172, 42, 180, 0, 128]
abbrev dktX2_nameOf_2 : List UInt8 := dkwX2_nameOf_2 ++ dktX2_nameOf_3
def dkwX2_nameOf_1 : List UInt8 := [184, 0, 145, 148, 154, 0, 5, 3, 172, 42, 180, 0, 128, 16, 102, 16, 101, 16, 97, 184, 0, 137, 16, 32]
abbrev dktX2_nameOf_1 : List UInt8 := dkwX2_nameOf_1 ++ dktX2_nameOf_2
def dkwX2_nameOf_0 : List UInt8 := [42, 180, 0, 115, 5, 159, 0, 5, 2, 172, 42, 180, 0, 128, 16, 104, 16, 101, 16, 97, 16, 114, 16, 116]
abbrev dktX2_nameOf_0 : List UInt8 := dkwX2_nameOf_0 ++ dktX2_nameOf_1
theorem dksX2_nameOf_0 : cX2_nameOf.data.toList.drop 0 = dktX2_nameOf_0 := by decide +kernel
theorem dksX2_nameOf_1 : cX2_nameOf.data.toList.drop 24 = dktX2_nameOf_1 := dk_seg dksX2_nameOf_0 24 rfl rfl
theorem dksX2_nameOf_2 : cX2_nameOf.data.toList.drop 48 = dktX2_nameOf_2 := dk_seg dksX2_nameOf_1 24 rfl rfl
theorem dksX2_nameOf_3 : cX2_nameOf.data.toList.drop 71 = dktX2_nameOf_3 := dk_seg dksX2_nameOf_2 23 rfl rfl
theorem dksX2_nameOf_4 : cX2_nameOf.data.toList.drop 94 = dktX2_nameOf_4 := dk_seg dksX2_nameOf_3 23 rfl rfl
theorem dksX2_nameOf_5 : cX2_nameOf.data.toList.drop 117 = dktX2_nameOf_5 := dk_seg dksX2_nameOf_4 23 rfl rfl
theorem dksX2_nameOf_6 : cX2_nameOf.data.toList.drop 140 = dktX2_nameOf_6 := dk_seg dksX2_nameOf_5 23 rfl rfl
theorem dksX2_nameOf_7 : cX2_nameOf.data.toList.drop 163 = dktX2_nameOf_7 := dk_seg dksX2_nameOf_6 23 rfl rfl
theorem dksX2_nameOf_8 : cX2_nameOf.data.toList.drop 187 = dktX2_nameOf_8 := dk_seg dksX2_nameOf_7 24 rfl rfl
theorem dX2_nameOf_0 : decode cX2_nameOf 0 = .ok (.aload_n 0, 1) := dk_42 (dk_at dksX2_nameOf_0 0 rfl rfl)
theorem dX2_nameOf_1 : decode cX2_nameOf 1 = .ok (.getfield 115, 3) := dk_180 0 115 (dk_at dksX2_nameOf_0 1 rfl rfl)
theorem dX2_nameOf_4 : decode cX2_nameOf 4 = .ok (.iconst 2, 1) := dk_5 (dk_at dksX2_nameOf_0 4 rfl rfl)
theorem dX2_nameOf_5 : decode cX2_nameOf 5 = .ok (.if_icmp .eq 5, 3) := dk_159 0 5 (dk_at dksX2_nameOf_0 5 rfl rfl)
theorem dX2_nameOf_8 : decode cX2_nameOf 8 = .ok (.iconst (-1), 1) := dk_2 (dk_at dksX2_nameOf_0 8 rfl rfl)
theorem dX2_nameOf_9 : decode cX2_nameOf 9 = .ok (.ireturn, 1) := dk_172 (dk_at dksX2_nameOf_0 9 rfl rfl)
theorem dX2_nameOf_10 : decode cX2_nameOf 10 = .ok (.aload_n 0, 1) := dk_42 (dk_at dksX2_nameOf_0 10 rfl rfl)
theorem dX2_nameOf_11 : decode cX2_nameOf 11 = .ok (.getfield 128, 3) := dk_180 0 128 (dk_at dksX2_nameOf_0 11 rfl rfl)
theorem dX2_nameOf_14 : decode cX2_nameOf 14 = .ok (.bipush 104, 2) := dk_16 104 (dk_at dksX2_nameOf_0 14 rfl rfl)
theorem dX2_nameOf_16 : decode cX2_nameOf 16 = .ok (.bipush 101, 2) := dk_16 101 (dk_at dksX2_nameOf_0 16 rfl rfl)
theorem dX2_nameOf_18 : decode cX2_nameOf 18 = .ok (.bipush 97, 2) := dk_16 97 (dk_at dksX2_nameOf_0 18 rfl rfl)
theorem dX2_nameOf_20 : decode cX2_nameOf 20 = .ok (.bipush 114, 2) := dk_16 114 (dk_at dksX2_nameOf_0 20 rfl rfl)
theorem dX2_nameOf_22 : decode cX2_nameOf 22 = .ok (.bipush 116, 2) := dk_16 116 (dk_at dksX2_nameOf_0 22 rfl rfl)
theorem dX2_nameOf_24 : decode cX2_nameOf 24 = .ok (.invokestatic 145, 3) := dk_184 0 145 (dk_at dksX2_nameOf_1 0 rfl rfl)
theorem dX2_nameOf_27 : decode cX2_nameOf 27 = .ok (.lcmp, 1) := dk_148 (dk_at dksX2_nameOf_1 3 rfl rfl)
theorem dX2_nameOf_28 : decode cX2_nameOf 28 = .ok (.ifCond .ne 5, 3) := dk_154 0 5 (dk_at dksX2_nameOf_1 4 rfl rfl)
theorem dX2_nameOf_31 : decode cX2_nameOf 31 = .ok (.iconst 0, 1) := dk_3 (dk_at dksX2_nameOf_1 7 rfl rfl)
theorem dX2_nameOf_32 : decode cX2_nameOf 32 = .ok (.ireturn, 1) := dk_172 (dk_at dksX2_nameOf_1 8 rfl rfl)
theorem dX2_nameOf_33 : decode cX2_nameOf 33 = .ok (.aload_n 0, 1) := dk_42 (dk_at dksX2_nameOf_1 9 rfl rfl)
theorem dX2_nameOf_34 : decode cX2_nameOf 34 = .ok (.getfield 128, 3) := dk_180 0 128 (dk_at dksX2_nameOf_1 10 rfl rfl)
theorem dX2_nameOf_37 : decode cX2_nameOf 37 = .ok (.bipush 102, 2) := dk_16 102 (dk_at dksX2_nameOf_1 13 rfl rfl)
theorem dX2_nameOf_39 : decode cX2_nameOf 39 = .ok (.bipush 101, 2) := dk_16 101 (dk_at dksX2_nameOf_1 15 rfl rfl)
theorem dX2_nameOf_41 : decode cX2_nameOf 41 = .ok (.bipush 97, 2) := dk_16 97 (dk_at dksX2_nameOf_1 17 rfl rfl)
theorem dX2_nameOf_43 : decode cX2_nameOf 43 = .ok (.invokestatic 137, 3) := dk_184 0 137 (dk_at dksX2_nameOf_1 19 rfl rfl)
theorem dX2_nameOf_46 : decode cX2_nameOf 46 = .ok (.bipush 32, 2) := dk_16 32 (dk_at dksX2_nameOf_1 22 rfl rfl)
theorem dX2_nameOf_48 : decode cX2_nameOf 48 = .ok (.lshl, 1) := dk_121 (dk_at dksX2_nameOf_2 0 rfl rfl)
theorem dX2_nameOf_49 : decode cX2_nameOf 49 = .ok (.bipush 116, 2) := dk_16 116 (dk_at dksX2_nameOf_2 1 rfl rfl)
theorem dX2_nameOf_51 : decode cX2_nameOf 51 = .ok (.bipush 104, 2) := dk_16 104 (dk_at dksX2_nameOf_2 3 rfl rfl)
theorem dX2_nameOf_53 : decode cX2_nameOf 53 = .ok (.bipush 101, 2) := dk_16 101 (dk_at dksX2_nameOf_2 5 rfl rfl)
theorem dX2_nameOf_55 : decode cX2_nameOf 55 = .ok (.bipush 114, 2) := dk_16 114 (dk_at dksX2_nameOf_2 7 rfl rfl)
theorem dX2_nameOf_57 : decode cX2_nameOf 57 = .ok (.invokestatic 141, 3) := dk_184 0 141 (dk_at dksX2_nameOf_2 9 rfl rfl)
theorem dX2_nameOf_60 : decode cX2_nameOf 60 = .ok (.lor, 1) := dk_129 (dk_at dksX2_nameOf_2 12 rfl rfl)
theorem dX2_nameOf_61 : decode cX2_nameOf 61 = .ok (.lcmp, 1) := dk_148 (dk_at dksX2_nameOf_2 13 rfl rfl)
theorem dX2_nameOf_62 : decode cX2_nameOf 62 = .ok (.ifCond .ne 5, 3) := dk_154 0 5 (dk_at dksX2_nameOf_2 14 rfl rfl)
theorem dX2_nameOf_65 : decode cX2_nameOf 65 = .ok (.iconst 1, 1) := dk_4 (dk_at dksX2_nameOf_2 17 rfl rfl)
theorem dX2_nameOf_66 : decode cX2_nameOf 66 = .ok (.ireturn, 1) := dk_172 (dk_at dksX2_nameOf_2 18 rfl rfl)
theorem dX2_nameOf_67 : decode cX2_nameOf 67 = .ok (.aload_n 0, 1) := dk_42 (dk_at dksX2_nameOf_2 19 rfl rfl)
theorem dX2_nameOf_68 : decode cX2_nameOf 68 = .ok (.getfield 128, 3) := dk_180 0 128 (dk_at dksX2_nameOf_2 20 rfl rfl)
theorem dX2_nameOf_71 : decode cX2_nameOf 71 = .ok (.bipush 107, 2) := dk_16 107 (dk_at dksX2_nameOf_3 0 rfl rfl)
theorem dX2_nameOf_73 : decode cX2_nameOf 73 = .ok (.bipush 105, 2) := dk_16 105 (dk_at dksX2_nameOf_3 2 rfl rfl)
theorem dX2_nameOf_75 : decode cX2_nameOf 75 = .ok (.bipush 110, 2) := dk_16 110 (dk_at dksX2_nameOf_3 4 rfl rfl)
theorem dX2_nameOf_77 : decode cX2_nameOf 77 = .ok (.bipush 100, 2) := dk_16 100 (dk_at dksX2_nameOf_3 6 rfl rfl)
theorem dX2_nameOf_79 : decode cX2_nameOf 79 = .ok (.invokestatic 141, 3) := dk_184 0 141 (dk_at dksX2_nameOf_3 8 rfl rfl)
theorem dX2_nameOf_82 : decode cX2_nameOf 82 = .ok (.lcmp, 1) := dk_148 (dk_at dksX2_nameOf_3 11 rfl rfl)
theorem dX2_nameOf_83 : decode cX2_nameOf 83 = .ok (.ifCond .ne 5, 3) := dk_154 0 5 (dk_at dksX2_nameOf_3 12 rfl rfl)
theorem dX2_nameOf_86 : decode cX2_nameOf 86 = .ok (.iconst 2, 1) := dk_5 (dk_at dksX2_nameOf_3 15 rfl rfl)
theorem dX2_nameOf_87 : decode cX2_nameOf 87 = .ok (.ireturn, 1) := dk_172 (dk_at dksX2_nameOf_3 16 rfl rfl)
theorem dX2_nameOf_88 : decode cX2_nameOf 88 = .ok (.aload_n 0, 1) := dk_42 (dk_at dksX2_nameOf_3 17 rfl rfl)
theorem dX2_nameOf_89 : decode cX2_nameOf 89 = .ok (.getfield 128, 3) := dk_180 0 128 (dk_at dksX2_nameOf_3 18 rfl rfl)
theorem dX2_nameOf_92 : decode cX2_nameOf 92 = .ok (.bipush 115, 2) := dk_16 115 (dk_at dksX2_nameOf_3 21 rfl rfl)
theorem dX2_nameOf_94 : decode cX2_nameOf 94 = .ok (.bipush 105, 2) := dk_16 105 (dk_at dksX2_nameOf_4 0 rfl rfl)
theorem dX2_nameOf_96 : decode cX2_nameOf 96 = .ok (.bipush 122, 2) := dk_16 122 (dk_at dksX2_nameOf_4 2 rfl rfl)
theorem dX2_nameOf_98 : decode cX2_nameOf 98 = .ok (.bipush 101, 2) := dk_16 101 (dk_at dksX2_nameOf_4 4 rfl rfl)
theorem dX2_nameOf_100 : decode cX2_nameOf 100 = .ok (.invokestatic 141, 3) := dk_184 0 141 (dk_at dksX2_nameOf_4 6 rfl rfl)
theorem dX2_nameOf_103 : decode cX2_nameOf 103 = .ok (.lcmp, 1) := dk_148 (dk_at dksX2_nameOf_4 9 rfl rfl)
theorem dX2_nameOf_104 : decode cX2_nameOf 104 = .ok (.ifCond .ne 5, 3) := dk_154 0 5 (dk_at dksX2_nameOf_4 10 rfl rfl)
theorem dX2_nameOf_107 : decode cX2_nameOf 107 = .ok (.iconst 3, 1) := dk_6 (dk_at dksX2_nameOf_4 13 rfl rfl)
theorem dX2_nameOf_108 : decode cX2_nameOf 108 = .ok (.ireturn, 1) := dk_172 (dk_at dksX2_nameOf_4 14 rfl rfl)
theorem dX2_nameOf_109 : decode cX2_nameOf 109 = .ok (.aload_n 0, 1) := dk_42 (dk_at dksX2_nameOf_4 15 rfl rfl)
theorem dX2_nameOf_110 : decode cX2_nameOf 110 = .ok (.getfield 128, 3) := dk_180 0 128 (dk_at dksX2_nameOf_4 16 rfl rfl)
theorem dX2_nameOf_113 : decode cX2_nameOf 113 = .ok (.bipush 115, 2) := dk_16 115 (dk_at dksX2_nameOf_4 19 rfl rfl)
theorem dX2_nameOf_115 : decode cX2_nameOf 115 = .ok (.bipush 101, 2) := dk_16 101 (dk_at dksX2_nameOf_4 21 rfl rfl)
theorem dX2_nameOf_117 : decode cX2_nameOf 117 = .ok (.bipush 101, 2) := dk_16 101 (dk_at dksX2_nameOf_5 0 rfl rfl)
theorem dX2_nameOf_119 : decode cX2_nameOf 119 = .ok (.bipush 110, 2) := dk_16 110 (dk_at dksX2_nameOf_5 2 rfl rfl)
theorem dX2_nameOf_121 : decode cX2_nameOf 121 = .ok (.invokestatic 141, 3) := dk_184 0 141 (dk_at dksX2_nameOf_5 4 rfl rfl)
theorem dX2_nameOf_124 : decode cX2_nameOf 124 = .ok (.lcmp, 1) := dk_148 (dk_at dksX2_nameOf_5 7 rfl rfl)
theorem dX2_nameOf_125 : decode cX2_nameOf 125 = .ok (.ifCond .ne 5, 3) := dk_154 0 5 (dk_at dksX2_nameOf_5 8 rfl rfl)
theorem dX2_nameOf_128 : decode cX2_nameOf 128 = .ok (.iconst 4, 1) := dk_7 (dk_at dksX2_nameOf_5 11 rfl rfl)
theorem dX2_nameOf_129 : decode cX2_nameOf 129 = .ok (.ireturn, 1) := dk_172 (dk_at dksX2_nameOf_5 12 rfl rfl)
theorem dX2_nameOf_130 : decode cX2_nameOf 130 = .ok (.aload_n 0, 1) := dk_42 (dk_at dksX2_nameOf_5 13 rfl rfl)
theorem dX2_nameOf_131 : decode cX2_nameOf 131 = .ok (.getfield 128, 3) := dk_180 0 128 (dk_at dksX2_nameOf_5 14 rfl rfl)
theorem dX2_nameOf_134 : decode cX2_nameOf 134 = .ok (.bipush 114, 2) := dk_16 114 (dk_at dksX2_nameOf_5 17 rfl rfl)
theorem dX2_nameOf_136 : decode cX2_nameOf 136 = .ok (.bipush 101, 2) := dk_16 101 (dk_at dksX2_nameOf_5 19 rfl rfl)
theorem dX2_nameOf_138 : decode cX2_nameOf 138 = .ok (.bipush 112, 2) := dk_16 112 (dk_at dksX2_nameOf_5 21 rfl rfl)
theorem dX2_nameOf_140 : decode cX2_nameOf 140 = .ok (.bipush 97, 2) := dk_16 97 (dk_at dksX2_nameOf_6 0 rfl rfl)
theorem dX2_nameOf_142 : decode cX2_nameOf 142 = .ok (.bipush 105, 2) := dk_16 105 (dk_at dksX2_nameOf_6 2 rfl rfl)
theorem dX2_nameOf_144 : decode cX2_nameOf 144 = .ok (.bipush 100, 2) := dk_16 100 (dk_at dksX2_nameOf_6 4 rfl rfl)
theorem dX2_nameOf_146 : decode cX2_nameOf 146 = .ok (.invokestatic 155, 3) := dk_184 0 155 (dk_at dksX2_nameOf_6 6 rfl rfl)
theorem dX2_nameOf_149 : decode cX2_nameOf 149 = .ok (.lcmp, 1) := dk_148 (dk_at dksX2_nameOf_6 9 rfl rfl)
theorem dX2_nameOf_150 : decode cX2_nameOf 150 = .ok (.ifCond .ne 5, 3) := dk_154 0 5 (dk_at dksX2_nameOf_6 10 rfl rfl)
theorem dX2_nameOf_153 : decode cX2_nameOf 153 = .ok (.iconst 5, 1) := dk_8 (dk_at dksX2_nameOf_6 13 rfl rfl)
theorem dX2_nameOf_154 : decode cX2_nameOf 154 = .ok (.ireturn, 1) := dk_172 (dk_at dksX2_nameOf_6 14 rfl rfl)
theorem dX2_nameOf_155 : decode cX2_nameOf 155 = .ok (.aload_n 0, 1) := dk_42 (dk_at dksX2_nameOf_6 15 rfl rfl)
theorem dX2_nameOf_156 : decode cX2_nameOf 156 = .ok (.getfield 128, 3) := dk_180 0 128 (dk_at dksX2_nameOf_6 16 rfl rfl)
theorem dX2_nameOf_159 : decode cX2_nameOf 159 = .ok (.bipush 102, 2) := dk_16 102 (dk_at dksX2_nameOf_6 19 rfl rfl)
theorem dX2_nameOf_161 : decode cX2_nameOf 161 = .ok (.bipush 101, 2) := dk_16 101 (dk_at dksX2_nameOf_6 21 rfl rfl)
theorem dX2_nameOf_163 : decode cX2_nameOf 163 = .ok (.bipush 97, 2) := dk_16 97 (dk_at dksX2_nameOf_7 0 rfl rfl)
theorem dX2_nameOf_165 : decode cX2_nameOf 165 = .ok (.bipush 114, 2) := dk_16 114 (dk_at dksX2_nameOf_7 2 rfl rfl)
theorem dX2_nameOf_167 : decode cX2_nameOf 167 = .ok (.invokestatic 141, 3) := dk_184 0 141 (dk_at dksX2_nameOf_7 4 rfl rfl)
theorem dX2_nameOf_170 : decode cX2_nameOf 170 = .ok (.lcmp, 1) := dk_148 (dk_at dksX2_nameOf_7 7 rfl rfl)
theorem dX2_nameOf_171 : decode cX2_nameOf 171 = .ok (.ifCond .ne 6, 3) := dk_154 0 6 (dk_at dksX2_nameOf_7 8 rfl rfl)
theorem dX2_nameOf_174 : decode cX2_nameOf 174 = .ok (.bipush 6, 2) := dk_16 6 (dk_at dksX2_nameOf_7 11 rfl rfl)
theorem dX2_nameOf_176 : decode cX2_nameOf 176 = .ok (.ireturn, 1) := dk_172 (dk_at dksX2_nameOf_7 13 rfl rfl)
theorem dX2_nameOf_177 : decode cX2_nameOf 177 = .ok (.aload_n 0, 1) := dk_42 (dk_at dksX2_nameOf_7 14 rfl rfl)
theorem dX2_nameOf_178 : decode cX2_nameOf 178 = .ok (.getfield 128, 3) := dk_180 0 128 (dk_at dksX2_nameOf_7 15 rfl rfl)
theorem dX2_nameOf_181 : decode cX2_nameOf 181 = .ok (.bipush 98, 2) := dk_16 98 (dk_at dksX2_nameOf_7 18 rfl rfl)
theorem dX2_nameOf_183 : decode cX2_nameOf 183 = .ok (.bipush 105, 2) := dk_16 105 (dk_at dksX2_nameOf_7 20 rfl rfl)
theorem dX2_nameOf_185 : decode cX2_nameOf 185 = .ok (.bipush 100, 2) := dk_16 100 (dk_at dksX2_nameOf_7 22 rfl rfl)
theorem dX2_nameOf_187 : decode cX2_nameOf 187 = .ok (.invokestatic 137, 3) := dk_184 0 137 (dk_at dksX2_nameOf_8 0 rfl rfl)
theorem dX2_nameOf_190 : decode cX2_nameOf 190 = .ok (.lcmp, 1) := dk_148 (dk_at dksX2_nameOf_8 3 rfl rfl)
theorem dX2_nameOf_191 : decode cX2_nameOf 191 = .ok (.ifCond .ne 8, 3) := dk_154 0 8 (dk_at dksX2_nameOf_8 4 rfl rfl)
theorem dX2_nameOf_194 : decode cX2_nameOf 194 = .ok (.bipush 7, 2) := dk_16 7 (dk_at dksX2_nameOf_8 7 rfl rfl)
theorem dX2_nameOf_196 : decode cX2_nameOf 196 = .ok (.goto 7, 3) := dk_167 0 7 (dk_at dksX2_nameOf_8 9 rfl rfl)
theorem dX2_nameOf_199 : decode cX2_nameOf 199 = .ok (.aload_n 0, 1) := dk_42 (dk_at dksX2_nameOf_8 12 rfl rfl)
theorem dX2_nameOf_200 : decode cX2_nameOf 200 = .ok (.invokevirtual 159, 3) := dk_182 0 159 (dk_at dksX2_nameOf_8 13 rfl rfl)
theorem dX2_nameOf_203 : decode cX2_nameOf 203 = .ok (.ireturn, 1) := dk_172 (dk_at dksX2_nameOf_8 16 rfl rfl)
abbrev cX2_laterName : ByteArray := prog_15_method_34_code
def yX2_laterName : MethodName := ⟨RX2, "laterName", "()I"⟩
def dkwX2_laterName_7 : List UInt8 := [16, 14, 167, 0, 4, 2, 172]
abbrev dktX2_laterName_7 : List UInt8 := dkwX2_laterName_7 ++ []
def dkwX2_laterName_6 : List UInt8 := [167, 0, 30, 42, 180, 0, 128, 16, 100, 16, 101, 16, 101, 16, 100, 16, 115, 184, 0, 145, 148, 154, 0, 8]
abbrev dktX2_laterName_6 : List UInt8 := dkwX2_laterName_6 ++ dktX2_laterName_7
def dkwX2_laterName_5 : List UInt8 := [180, 0, 128, 16, 104, 16, 105, 16, 100, 16, 100, 16, 101, 16, 110, 184, 0, 155, 148, 154, 0, 8, 16, 13]
abbrev dktX2_laterName_5 : List UInt8 := dkwX2_laterName_5 ++ dktX2_laterName_6
def dkwX2_laterName_4 : List UInt8 := [180, 0, 128, 16, 107, 16, 105, 16, 110, 16, 100, 16, 115, 184, 0, 145, 148, 154, 0, 6, 16, 12, 172, 42]
abbrev dktX2_laterName_4 : List UInt8 := dkwX2_laterName_4 ++ dktX2_laterName_5
def dkwX2_laterName_3 : List UInt8 := [180, 0, 128, 16, 106, 16, 117, 16, 100, 16, 103, 16, 101, 184, 0, 145, 148, 154, 0, 6, 16, 11, 172, 42]
abbrev dktX2_laterName_3 : List UInt8 := dkwX2_laterName_3 ++ dktX2_laterName_4
def dkwX2_laterName_2 : List UInt8 := [180, 0, 128, 16, 108, 16, 105, 16, 101, 16, 115, 184, 0, 141, 148, 154, 0, 6, 16, 10, 172, 42]
abbrev dktX2_laterName_2 : List UInt8 := dkwX2_laterName_2 ++ dktX2_laterName_3
def dkwX2_laterName_1 : List UInt8 := [42, 180, 0, 128, 16, 108, 16, 97, 16, 105, 16, 100, 184, 0, 141, 148, 154, 0, 6, 16, 9, 172, 42]
abbrev dktX2_laterName_1 : List UInt8 := dkwX2_laterName_1 ++ dktX2_laterName_2
def dkwX2_laterName_0 : List UInt8 := [42, 180, 0, 128, 16, 115, 16, 104, 16, 111, 16, 119, 16, 110, 184, 0, 145, 148, 154, 0, 6, 16, 8, 172]
abbrev dktX2_laterName_0 : List UInt8 := dkwX2_laterName_0 ++ dktX2_laterName_1
theorem dksX2_laterName_0 : cX2_laterName.data.toList.drop 0 = dktX2_laterName_0 := by decide +kernel
theorem dksX2_laterName_1 : cX2_laterName.data.toList.drop 24 = dktX2_laterName_1 := dk_seg dksX2_laterName_0 24 rfl rfl
theorem dksX2_laterName_2 : cX2_laterName.data.toList.drop 47 = dktX2_laterName_2 := dk_seg dksX2_laterName_1 23 rfl rfl
theorem dksX2_laterName_3 : cX2_laterName.data.toList.drop 69 = dktX2_laterName_3 := dk_seg dksX2_laterName_2 22 rfl rfl
theorem dksX2_laterName_4 : cX2_laterName.data.toList.drop 93 = dktX2_laterName_4 := dk_seg dksX2_laterName_3 24 rfl rfl
theorem dksX2_laterName_5 : cX2_laterName.data.toList.drop 117 = dktX2_laterName_5 := dk_seg dksX2_laterName_4 24 rfl rfl
theorem dksX2_laterName_6 : cX2_laterName.data.toList.drop 141 = dktX2_laterName_6 := dk_seg dksX2_laterName_5 24 rfl rfl
theorem dksX2_laterName_7 : cX2_laterName.data.toList.drop 165 = dktX2_laterName_7 := dk_seg dksX2_laterName_6 24 rfl rfl
theorem dX2_laterName_0 : decode cX2_laterName 0 = .ok (.aload_n 0, 1) := dk_42 (dk_at dksX2_laterName_0 0 rfl rfl)
theorem dX2_laterName_1 : decode cX2_laterName 1 = .ok (.getfield 128, 3) := dk_180 0 128 (dk_at dksX2_laterName_0 1 rfl rfl)
theorem dX2_laterName_4 : decode cX2_laterName 4 = .ok (.bipush 115, 2) := dk_16 115 (dk_at dksX2_laterName_0 4 rfl rfl)
theorem dX2_laterName_6 : decode cX2_laterName 6 = .ok (.bipush 104, 2) := dk_16 104 (dk_at dksX2_laterName_0 6 rfl rfl)
theorem dX2_laterName_8 : decode cX2_laterName 8 = .ok (.bipush 111, 2) := dk_16 111 (dk_at dksX2_laterName_0 8 rfl rfl)
theorem dX2_laterName_10 : decode cX2_laterName 10 = .ok (.bipush 119, 2) := dk_16 119 (dk_at dksX2_laterName_0 10 rfl rfl)
theorem dX2_laterName_12 : decode cX2_laterName 12 = .ok (.bipush 110, 2) := dk_16 110 (dk_at dksX2_laterName_0 12 rfl rfl)
theorem dX2_laterName_14 : decode cX2_laterName 14 = .ok (.invokestatic 145, 3) := dk_184 0 145 (dk_at dksX2_laterName_0 14 rfl rfl)
theorem dX2_laterName_17 : decode cX2_laterName 17 = .ok (.lcmp, 1) := dk_148 (dk_at dksX2_laterName_0 17 rfl rfl)
theorem dX2_laterName_18 : decode cX2_laterName 18 = .ok (.ifCond .ne 6, 3) := dk_154 0 6 (dk_at dksX2_laterName_0 18 rfl rfl)
theorem dX2_laterName_21 : decode cX2_laterName 21 = .ok (.bipush 8, 2) := dk_16 8 (dk_at dksX2_laterName_0 21 rfl rfl)
theorem dX2_laterName_23 : decode cX2_laterName 23 = .ok (.ireturn, 1) := dk_172 (dk_at dksX2_laterName_0 23 rfl rfl)
theorem dX2_laterName_24 : decode cX2_laterName 24 = .ok (.aload_n 0, 1) := dk_42 (dk_at dksX2_laterName_1 0 rfl rfl)
theorem dX2_laterName_25 : decode cX2_laterName 25 = .ok (.getfield 128, 3) := dk_180 0 128 (dk_at dksX2_laterName_1 1 rfl rfl)
theorem dX2_laterName_28 : decode cX2_laterName 28 = .ok (.bipush 108, 2) := dk_16 108 (dk_at dksX2_laterName_1 4 rfl rfl)
theorem dX2_laterName_30 : decode cX2_laterName 30 = .ok (.bipush 97, 2) := dk_16 97 (dk_at dksX2_laterName_1 6 rfl rfl)
theorem dX2_laterName_32 : decode cX2_laterName 32 = .ok (.bipush 105, 2) := dk_16 105 (dk_at dksX2_laterName_1 8 rfl rfl)
theorem dX2_laterName_34 : decode cX2_laterName 34 = .ok (.bipush 100, 2) := dk_16 100 (dk_at dksX2_laterName_1 10 rfl rfl)
theorem dX2_laterName_36 : decode cX2_laterName 36 = .ok (.invokestatic 141, 3) := dk_184 0 141 (dk_at dksX2_laterName_1 12 rfl rfl)
theorem dX2_laterName_39 : decode cX2_laterName 39 = .ok (.lcmp, 1) := dk_148 (dk_at dksX2_laterName_1 15 rfl rfl)
theorem dX2_laterName_40 : decode cX2_laterName 40 = .ok (.ifCond .ne 6, 3) := dk_154 0 6 (dk_at dksX2_laterName_1 16 rfl rfl)
theorem dX2_laterName_43 : decode cX2_laterName 43 = .ok (.bipush 9, 2) := dk_16 9 (dk_at dksX2_laterName_1 19 rfl rfl)
theorem dX2_laterName_45 : decode cX2_laterName 45 = .ok (.ireturn, 1) := dk_172 (dk_at dksX2_laterName_1 21 rfl rfl)
theorem dX2_laterName_46 : decode cX2_laterName 46 = .ok (.aload_n 0, 1) := dk_42 (dk_at dksX2_laterName_1 22 rfl rfl)
theorem dX2_laterName_47 : decode cX2_laterName 47 = .ok (.getfield 128, 3) := dk_180 0 128 (dk_at dksX2_laterName_2 0 rfl rfl)
theorem dX2_laterName_50 : decode cX2_laterName 50 = .ok (.bipush 108, 2) := dk_16 108 (dk_at dksX2_laterName_2 3 rfl rfl)
theorem dX2_laterName_52 : decode cX2_laterName 52 = .ok (.bipush 105, 2) := dk_16 105 (dk_at dksX2_laterName_2 5 rfl rfl)
theorem dX2_laterName_54 : decode cX2_laterName 54 = .ok (.bipush 101, 2) := dk_16 101 (dk_at dksX2_laterName_2 7 rfl rfl)
theorem dX2_laterName_56 : decode cX2_laterName 56 = .ok (.bipush 115, 2) := dk_16 115 (dk_at dksX2_laterName_2 9 rfl rfl)
theorem dX2_laterName_58 : decode cX2_laterName 58 = .ok (.invokestatic 141, 3) := dk_184 0 141 (dk_at dksX2_laterName_2 11 rfl rfl)
theorem dX2_laterName_61 : decode cX2_laterName 61 = .ok (.lcmp, 1) := dk_148 (dk_at dksX2_laterName_2 14 rfl rfl)
theorem dX2_laterName_62 : decode cX2_laterName 62 = .ok (.ifCond .ne 6, 3) := dk_154 0 6 (dk_at dksX2_laterName_2 15 rfl rfl)
theorem dX2_laterName_65 : decode cX2_laterName 65 = .ok (.bipush 10, 2) := dk_16 10 (dk_at dksX2_laterName_2 18 rfl rfl)
theorem dX2_laterName_67 : decode cX2_laterName 67 = .ok (.ireturn, 1) := dk_172 (dk_at dksX2_laterName_2 20 rfl rfl)
theorem dX2_laterName_68 : decode cX2_laterName 68 = .ok (.aload_n 0, 1) := dk_42 (dk_at dksX2_laterName_2 21 rfl rfl)
theorem dX2_laterName_69 : decode cX2_laterName 69 = .ok (.getfield 128, 3) := dk_180 0 128 (dk_at dksX2_laterName_3 0 rfl rfl)
theorem dX2_laterName_72 : decode cX2_laterName 72 = .ok (.bipush 106, 2) := dk_16 106 (dk_at dksX2_laterName_3 3 rfl rfl)
theorem dX2_laterName_74 : decode cX2_laterName 74 = .ok (.bipush 117, 2) := dk_16 117 (dk_at dksX2_laterName_3 5 rfl rfl)
theorem dX2_laterName_76 : decode cX2_laterName 76 = .ok (.bipush 100, 2) := dk_16 100 (dk_at dksX2_laterName_3 7 rfl rfl)
theorem dX2_laterName_78 : decode cX2_laterName 78 = .ok (.bipush 103, 2) := dk_16 103 (dk_at dksX2_laterName_3 9 rfl rfl)
theorem dX2_laterName_80 : decode cX2_laterName 80 = .ok (.bipush 101, 2) := dk_16 101 (dk_at dksX2_laterName_3 11 rfl rfl)
theorem dX2_laterName_82 : decode cX2_laterName 82 = .ok (.invokestatic 145, 3) := dk_184 0 145 (dk_at dksX2_laterName_3 13 rfl rfl)
theorem dX2_laterName_85 : decode cX2_laterName 85 = .ok (.lcmp, 1) := dk_148 (dk_at dksX2_laterName_3 16 rfl rfl)
theorem dX2_laterName_86 : decode cX2_laterName 86 = .ok (.ifCond .ne 6, 3) := dk_154 0 6 (dk_at dksX2_laterName_3 17 rfl rfl)
theorem dX2_laterName_89 : decode cX2_laterName 89 = .ok (.bipush 11, 2) := dk_16 11 (dk_at dksX2_laterName_3 20 rfl rfl)
theorem dX2_laterName_91 : decode cX2_laterName 91 = .ok (.ireturn, 1) := dk_172 (dk_at dksX2_laterName_3 22 rfl rfl)
theorem dX2_laterName_92 : decode cX2_laterName 92 = .ok (.aload_n 0, 1) := dk_42 (dk_at dksX2_laterName_3 23 rfl rfl)
theorem dX2_laterName_93 : decode cX2_laterName 93 = .ok (.getfield 128, 3) := dk_180 0 128 (dk_at dksX2_laterName_4 0 rfl rfl)
theorem dX2_laterName_96 : decode cX2_laterName 96 = .ok (.bipush 107, 2) := dk_16 107 (dk_at dksX2_laterName_4 3 rfl rfl)
theorem dX2_laterName_98 : decode cX2_laterName 98 = .ok (.bipush 105, 2) := dk_16 105 (dk_at dksX2_laterName_4 5 rfl rfl)
theorem dX2_laterName_100 : decode cX2_laterName 100 = .ok (.bipush 110, 2) := dk_16 110 (dk_at dksX2_laterName_4 7 rfl rfl)
theorem dX2_laterName_102 : decode cX2_laterName 102 = .ok (.bipush 100, 2) := dk_16 100 (dk_at dksX2_laterName_4 9 rfl rfl)
theorem dX2_laterName_104 : decode cX2_laterName 104 = .ok (.bipush 115, 2) := dk_16 115 (dk_at dksX2_laterName_4 11 rfl rfl)
theorem dX2_laterName_106 : decode cX2_laterName 106 = .ok (.invokestatic 145, 3) := dk_184 0 145 (dk_at dksX2_laterName_4 13 rfl rfl)
theorem dX2_laterName_109 : decode cX2_laterName 109 = .ok (.lcmp, 1) := dk_148 (dk_at dksX2_laterName_4 16 rfl rfl)
theorem dX2_laterName_110 : decode cX2_laterName 110 = .ok (.ifCond .ne 6, 3) := dk_154 0 6 (dk_at dksX2_laterName_4 17 rfl rfl)
theorem dX2_laterName_113 : decode cX2_laterName 113 = .ok (.bipush 12, 2) := dk_16 12 (dk_at dksX2_laterName_4 20 rfl rfl)
theorem dX2_laterName_115 : decode cX2_laterName 115 = .ok (.ireturn, 1) := dk_172 (dk_at dksX2_laterName_4 22 rfl rfl)
theorem dX2_laterName_116 : decode cX2_laterName 116 = .ok (.aload_n 0, 1) := dk_42 (dk_at dksX2_laterName_4 23 rfl rfl)
theorem dX2_laterName_117 : decode cX2_laterName 117 = .ok (.getfield 128, 3) := dk_180 0 128 (dk_at dksX2_laterName_5 0 rfl rfl)
theorem dX2_laterName_120 : decode cX2_laterName 120 = .ok (.bipush 104, 2) := dk_16 104 (dk_at dksX2_laterName_5 3 rfl rfl)
theorem dX2_laterName_122 : decode cX2_laterName 122 = .ok (.bipush 105, 2) := dk_16 105 (dk_at dksX2_laterName_5 5 rfl rfl)
theorem dX2_laterName_124 : decode cX2_laterName 124 = .ok (.bipush 100, 2) := dk_16 100 (dk_at dksX2_laterName_5 7 rfl rfl)
theorem dX2_laterName_126 : decode cX2_laterName 126 = .ok (.bipush 100, 2) := dk_16 100 (dk_at dksX2_laterName_5 9 rfl rfl)
theorem dX2_laterName_128 : decode cX2_laterName 128 = .ok (.bipush 101, 2) := dk_16 101 (dk_at dksX2_laterName_5 11 rfl rfl)
theorem dX2_laterName_130 : decode cX2_laterName 130 = .ok (.bipush 110, 2) := dk_16 110 (dk_at dksX2_laterName_5 13 rfl rfl)
theorem dX2_laterName_132 : decode cX2_laterName 132 = .ok (.invokestatic 155, 3) := dk_184 0 155 (dk_at dksX2_laterName_5 15 rfl rfl)
theorem dX2_laterName_135 : decode cX2_laterName 135 = .ok (.lcmp, 1) := dk_148 (dk_at dksX2_laterName_5 18 rfl rfl)
theorem dX2_laterName_136 : decode cX2_laterName 136 = .ok (.ifCond .ne 8, 3) := dk_154 0 8 (dk_at dksX2_laterName_5 19 rfl rfl)
theorem dX2_laterName_139 : decode cX2_laterName 139 = .ok (.bipush 13, 2) := dk_16 13 (dk_at dksX2_laterName_5 22 rfl rfl)
theorem dX2_laterName_141 : decode cX2_laterName 141 = .ok (.goto 30, 3) := dk_167 0 30 (dk_at dksX2_laterName_6 0 rfl rfl)
theorem dX2_laterName_144 : decode cX2_laterName 144 = .ok (.aload_n 0, 1) := dk_42 (dk_at dksX2_laterName_6 3 rfl rfl)
theorem dX2_laterName_145 : decode cX2_laterName 145 = .ok (.getfield 128, 3) := dk_180 0 128 (dk_at dksX2_laterName_6 4 rfl rfl)
theorem dX2_laterName_148 : decode cX2_laterName 148 = .ok (.bipush 100, 2) := dk_16 100 (dk_at dksX2_laterName_6 7 rfl rfl)
theorem dX2_laterName_150 : decode cX2_laterName 150 = .ok (.bipush 101, 2) := dk_16 101 (dk_at dksX2_laterName_6 9 rfl rfl)
theorem dX2_laterName_152 : decode cX2_laterName 152 = .ok (.bipush 101, 2) := dk_16 101 (dk_at dksX2_laterName_6 11 rfl rfl)
theorem dX2_laterName_154 : decode cX2_laterName 154 = .ok (.bipush 100, 2) := dk_16 100 (dk_at dksX2_laterName_6 13 rfl rfl)
theorem dX2_laterName_156 : decode cX2_laterName 156 = .ok (.bipush 115, 2) := dk_16 115 (dk_at dksX2_laterName_6 15 rfl rfl)
theorem dX2_laterName_158 : decode cX2_laterName 158 = .ok (.invokestatic 145, 3) := dk_184 0 145 (dk_at dksX2_laterName_6 17 rfl rfl)
theorem dX2_laterName_161 : decode cX2_laterName 161 = .ok (.lcmp, 1) := dk_148 (dk_at dksX2_laterName_6 20 rfl rfl)
theorem dX2_laterName_162 : decode cX2_laterName 162 = .ok (.ifCond .ne 8, 3) := dk_154 0 8 (dk_at dksX2_laterName_6 21 rfl rfl)
theorem dX2_laterName_165 : decode cX2_laterName 165 = .ok (.bipush 14, 2) := dk_16 14 (dk_at dksX2_laterName_7 0 rfl rfl)
theorem dX2_laterName_167 : decode cX2_laterName 167 = .ok (.goto 4, 3) := dk_167 0 4 (dk_at dksX2_laterName_7 2 rfl rfl)
theorem dX2_laterName_170 : decode cX2_laterName 170 = .ok (.iconst (-1), 1) := dk_2 (dk_at dksX2_laterName_7 5 rfl rfl)
theorem dX2_laterName_171 : decode cX2_laterName 171 = .ok (.ireturn, 1) := dk_172 (dk_at dksX2_laterName_7 6 rfl rfl)
abbrev cX2_isOf : ByteArray := prog_15_method_35_code
def yX2_isOf : MethodName := ⟨RX2, "isOf", "(I)Z"⟩
def dkwX2_isOf_2 : List UInt8 := [5, 160, 0, 18, 167, 0, 11, 42, 180, 0, 163, 6, 160, 0, 7, 4, 167, 0, 4, 3, 172]
abbrev dktX2_isOf_2 : List UInt8 := dkwX2_isOf_2 ++ []
def dkwX2_isOf_1 : List UInt8 := [162, 0, 14, 42, 180, 0, 163, 4, 160, 0, 35, 167, 0, 28, 27, 16, 14, 162, 0, 14, 42, 180, 0, 163]
abbrev dktX2_isOf_1 : List UInt8 := dkwX2_isOf_1 ++ dktX2_isOf_2
def dkwX2_isOf_0 : List UInt8 := [27, 5, 161, 0, 61, 27, 16, 8, 162, 0, 13, 42, 180, 0, 163, 154, 0, 52, 167, 0, 45, 27, 16, 10]
abbrev dktX2_isOf_0 : List UInt8 := dkwX2_isOf_0 ++ dktX2_isOf_1
theorem dksX2_isOf_0 : cX2_isOf.data.toList.drop 0 = dktX2_isOf_0 := by decide +kernel
theorem dksX2_isOf_1 : cX2_isOf.data.toList.drop 24 = dktX2_isOf_1 := dk_seg dksX2_isOf_0 24 rfl rfl
theorem dksX2_isOf_2 : cX2_isOf.data.toList.drop 48 = dktX2_isOf_2 := dk_seg dksX2_isOf_1 24 rfl rfl
theorem dX2_isOf_0 : decode cX2_isOf 0 = .ok (.iload_n 1, 1) := dk_27 (dk_at dksX2_isOf_0 0 rfl rfl)
theorem dX2_isOf_1 : decode cX2_isOf 1 = .ok (.iconst 2, 1) := dk_5 (dk_at dksX2_isOf_0 1 rfl rfl)
theorem dX2_isOf_2 : decode cX2_isOf 2 = .ok (.if_icmp .lt 61, 3) := dk_161 0 61 (dk_at dksX2_isOf_0 2 rfl rfl)
theorem dX2_isOf_5 : decode cX2_isOf 5 = .ok (.iload_n 1, 1) := dk_27 (dk_at dksX2_isOf_0 5 rfl rfl)
theorem dX2_isOf_6 : decode cX2_isOf 6 = .ok (.bipush 8, 2) := dk_16 8 (dk_at dksX2_isOf_0 6 rfl rfl)
theorem dX2_isOf_8 : decode cX2_isOf 8 = .ok (.if_icmp .ge 13, 3) := dk_162 0 13 (dk_at dksX2_isOf_0 8 rfl rfl)
theorem dX2_isOf_11 : decode cX2_isOf 11 = .ok (.aload_n 0, 1) := dk_42 (dk_at dksX2_isOf_0 11 rfl rfl)
theorem dX2_isOf_12 : decode cX2_isOf 12 = .ok (.getfield 163, 3) := dk_180 0 163 (dk_at dksX2_isOf_0 12 rfl rfl)
theorem dX2_isOf_15 : decode cX2_isOf 15 = .ok (.ifCond .ne 52, 3) := dk_154 0 52 (dk_at dksX2_isOf_0 15 rfl rfl)
theorem dX2_isOf_18 : decode cX2_isOf 18 = .ok (.goto 45, 3) := dk_167 0 45 (dk_at dksX2_isOf_0 18 rfl rfl)
theorem dX2_isOf_21 : decode cX2_isOf 21 = .ok (.iload_n 1, 1) := dk_27 (dk_at dksX2_isOf_0 21 rfl rfl)
theorem dX2_isOf_22 : decode cX2_isOf 22 = .ok (.bipush 10, 2) := dk_16 10 (dk_at dksX2_isOf_0 22 rfl rfl)
theorem dX2_isOf_24 : decode cX2_isOf 24 = .ok (.if_icmp .ge 14, 3) := dk_162 0 14 (dk_at dksX2_isOf_1 0 rfl rfl)
theorem dX2_isOf_27 : decode cX2_isOf 27 = .ok (.aload_n 0, 1) := dk_42 (dk_at dksX2_isOf_1 3 rfl rfl)
theorem dX2_isOf_28 : decode cX2_isOf 28 = .ok (.getfield 163, 3) := dk_180 0 163 (dk_at dksX2_isOf_1 4 rfl rfl)
theorem dX2_isOf_31 : decode cX2_isOf 31 = .ok (.iconst 1, 1) := dk_4 (dk_at dksX2_isOf_1 7 rfl rfl)
theorem dX2_isOf_32 : decode cX2_isOf 32 = .ok (.if_icmp .ne 35, 3) := dk_160 0 35 (dk_at dksX2_isOf_1 8 rfl rfl)
theorem dX2_isOf_35 : decode cX2_isOf 35 = .ok (.goto 28, 3) := dk_167 0 28 (dk_at dksX2_isOf_1 11 rfl rfl)
theorem dX2_isOf_38 : decode cX2_isOf 38 = .ok (.iload_n 1, 1) := dk_27 (dk_at dksX2_isOf_1 14 rfl rfl)
theorem dX2_isOf_39 : decode cX2_isOf 39 = .ok (.bipush 14, 2) := dk_16 14 (dk_at dksX2_isOf_1 15 rfl rfl)
theorem dX2_isOf_41 : decode cX2_isOf 41 = .ok (.if_icmp .ge 14, 3) := dk_162 0 14 (dk_at dksX2_isOf_1 17 rfl rfl)
theorem dX2_isOf_44 : decode cX2_isOf 44 = .ok (.aload_n 0, 1) := dk_42 (dk_at dksX2_isOf_1 20 rfl rfl)
theorem dX2_isOf_45 : decode cX2_isOf 45 = .ok (.getfield 163, 3) := dk_180 0 163 (dk_at dksX2_isOf_1 21 rfl rfl)
theorem dX2_isOf_48 : decode cX2_isOf 48 = .ok (.iconst 2, 1) := dk_5 (dk_at dksX2_isOf_2 0 rfl rfl)
theorem dX2_isOf_49 : decode cX2_isOf 49 = .ok (.if_icmp .ne 18, 3) := dk_160 0 18 (dk_at dksX2_isOf_2 1 rfl rfl)
theorem dX2_isOf_52 : decode cX2_isOf 52 = .ok (.goto 11, 3) := dk_167 0 11 (dk_at dksX2_isOf_2 4 rfl rfl)
theorem dX2_isOf_55 : decode cX2_isOf 55 = .ok (.aload_n 0, 1) := dk_42 (dk_at dksX2_isOf_2 7 rfl rfl)
theorem dX2_isOf_56 : decode cX2_isOf 56 = .ok (.getfield 163, 3) := dk_180 0 163 (dk_at dksX2_isOf_2 8 rfl rfl)
theorem dX2_isOf_59 : decode cX2_isOf 59 = .ok (.iconst 3, 1) := dk_6 (dk_at dksX2_isOf_2 11 rfl rfl)
theorem dX2_isOf_60 : decode cX2_isOf 60 = .ok (.if_icmp .ne 7, 3) := dk_160 0 7 (dk_at dksX2_isOf_2 12 rfl rfl)
theorem dX2_isOf_63 : decode cX2_isOf 63 = .ok (.iconst 1, 1) := dk_4 (dk_at dksX2_isOf_2 15 rfl rfl)
theorem dX2_isOf_64 : decode cX2_isOf 64 = .ok (.goto 4, 3) := dk_167 0 4 (dk_at dksX2_isOf_2 16 rfl rfl)
theorem dX2_isOf_67 : decode cX2_isOf 67 = .ok (.iconst 0, 1) := dk_3 (dk_at dksX2_isOf_2 19 rfl rfl)
theorem dX2_isOf_68 : decode cX2_isOf 68 = .ok (.ireturn, 1) := dk_172 (dk_at dksX2_isOf_2 20 rfl rfl)
abbrev cX2_opened : ByteArray := prog_15_method_38_code
def yX2_opened : MethodName := ⟨RX2, "opened", "(I)I"⟩
def dkwX2_opened_2 : List UInt8 := [172]
abbrev dktX2_opened_2 : List UInt8 := dkwX2_opened_2 ++ []
def dkwX2_opened_1 : List UInt8 := [180, 0, 29, 42, 180, 0, 166, 27, 79, 42, 89, 180, 0, 166, 4, 96, 181, 0, 166, 42, 182, 0, 179, 3]
abbrev dktX2_opened_1 : List UInt8 := dkwX2_opened_1 ++ dktX2_opened_2
def dkwX2_opened_0 : List UInt8 := [42, 180, 0, 176, 16, 8, 160, 0, 5, 6, 172, 42, 89, 180, 0, 176, 4, 96, 181, 0, 176, 42]
abbrev dktX2_opened_0 : List UInt8 := dkwX2_opened_0 ++ dktX2_opened_1
theorem dksX2_opened_0 : cX2_opened.data.toList.drop 0 = dktX2_opened_0 := by decide +kernel
theorem dksX2_opened_1 : cX2_opened.data.toList.drop 22 = dktX2_opened_1 := dk_seg dksX2_opened_0 22 rfl rfl
theorem dksX2_opened_2 : cX2_opened.data.toList.drop 46 = dktX2_opened_2 := dk_seg dksX2_opened_1 24 rfl rfl
theorem dX2_opened_0 : decode cX2_opened 0 = .ok (.aload_n 0, 1) := dk_42 (dk_at dksX2_opened_0 0 rfl rfl)
theorem dX2_opened_1 : decode cX2_opened 1 = .ok (.getfield 176, 3) := dk_180 0 176 (dk_at dksX2_opened_0 1 rfl rfl)
theorem dX2_opened_4 : decode cX2_opened 4 = .ok (.bipush 8, 2) := dk_16 8 (dk_at dksX2_opened_0 4 rfl rfl)
theorem dX2_opened_6 : decode cX2_opened 6 = .ok (.if_icmp .ne 5, 3) := dk_160 0 5 (dk_at dksX2_opened_0 6 rfl rfl)
theorem dX2_opened_9 : decode cX2_opened 9 = .ok (.iconst 3, 1) := dk_6 (dk_at dksX2_opened_0 9 rfl rfl)
theorem dX2_opened_10 : decode cX2_opened 10 = .ok (.ireturn, 1) := dk_172 (dk_at dksX2_opened_0 10 rfl rfl)
theorem dX2_opened_11 : decode cX2_opened 11 = .ok (.aload_n 0, 1) := dk_42 (dk_at dksX2_opened_0 11 rfl rfl)
theorem dX2_opened_12 : decode cX2_opened 12 = .ok (.dup, 1) := dk_89 (dk_at dksX2_opened_0 12 rfl rfl)
theorem dX2_opened_13 : decode cX2_opened 13 = .ok (.getfield 176, 3) := dk_180 0 176 (dk_at dksX2_opened_0 13 rfl rfl)
theorem dX2_opened_16 : decode cX2_opened 16 = .ok (.iconst 1, 1) := dk_4 (dk_at dksX2_opened_0 16 rfl rfl)
theorem dX2_opened_17 : decode cX2_opened 17 = .ok (.iadd, 1) := dk_96 (dk_at dksX2_opened_0 17 rfl rfl)
theorem dX2_opened_18 : decode cX2_opened 18 = .ok (.putfield 176, 3) := dk_181 0 176 (dk_at dksX2_opened_0 18 rfl rfl)
theorem dX2_opened_21 : decode cX2_opened 21 = .ok (.aload_n 0, 1) := dk_42 (dk_at dksX2_opened_0 21 rfl rfl)
theorem dX2_opened_22 : decode cX2_opened 22 = .ok (.getfield 29, 3) := dk_180 0 29 (dk_at dksX2_opened_1 0 rfl rfl)
theorem dX2_opened_25 : decode cX2_opened 25 = .ok (.aload_n 0, 1) := dk_42 (dk_at dksX2_opened_1 3 rfl rfl)
theorem dX2_opened_26 : decode cX2_opened 26 = .ok (.getfield 166, 3) := dk_180 0 166 (dk_at dksX2_opened_1 4 rfl rfl)
theorem dX2_opened_29 : decode cX2_opened 29 = .ok (.iload_n 1, 1) := dk_27 (dk_at dksX2_opened_1 7 rfl rfl)
theorem dX2_opened_30 : decode cX2_opened 30 = .ok (.iastore, 1) := dk_79 (dk_at dksX2_opened_1 8 rfl rfl)
theorem dX2_opened_31 : decode cX2_opened 31 = .ok (.aload_n 0, 1) := dk_42 (dk_at dksX2_opened_1 9 rfl rfl)
theorem dX2_opened_32 : decode cX2_opened 32 = .ok (.dup, 1) := dk_89 (dk_at dksX2_opened_1 10 rfl rfl)
theorem dX2_opened_33 : decode cX2_opened 33 = .ok (.getfield 166, 3) := dk_180 0 166 (dk_at dksX2_opened_1 11 rfl rfl)
theorem dX2_opened_36 : decode cX2_opened 36 = .ok (.iconst 1, 1) := dk_4 (dk_at dksX2_opened_1 14 rfl rfl)
theorem dX2_opened_37 : decode cX2_opened 37 = .ok (.iadd, 1) := dk_96 (dk_at dksX2_opened_1 15 rfl rfl)
theorem dX2_opened_38 : decode cX2_opened 38 = .ok (.putfield 166, 3) := dk_181 0 166 (dk_at dksX2_opened_1 16 rfl rfl)
theorem dX2_opened_41 : decode cX2_opened 41 = .ok (.aload_n 0, 1) := dk_42 (dk_at dksX2_opened_1 19 rfl rfl)
theorem dX2_opened_42 : decode cX2_opened 42 = .ok (.invokevirtual 179, 3) := dk_182 0 179 (dk_at dksX2_opened_1 20 rfl rfl)
theorem dX2_opened_45 : decode cX2_opened 45 = .ok (.iconst 0, 1) := dk_3 (dk_at dksX2_opened_1 23 rfl rfl)
theorem dX2_opened_46 : decode cX2_opened 46 = .ok (.ireturn, 1) := dk_172 (dk_at dksX2_opened_2 0 rfl rfl)
abbrev cX2_fault : ByteArray := prog_15_method_55_code
def yX2_fault : MethodName := ⟨RX2, "fault", "(I)I"⟩
def dkwX2_fault_1 : List UInt8 := [172]
abbrev dktX2_fault_1 : List UInt8 := dkwX2_fault_1 ++ []
def dkwX2_fault_0 : List UInt8 := [27, 154, 0, 10, 42, 180, 0, 22, 167, 0, 16, 27, 4, 160, 0, 10, 42, 180, 0, 26, 167, 0, 4, 2]
abbrev dktX2_fault_0 : List UInt8 := dkwX2_fault_0 ++ dktX2_fault_1
theorem dksX2_fault_0 : cX2_fault.data.toList.drop 0 = dktX2_fault_0 := by decide +kernel
theorem dksX2_fault_1 : cX2_fault.data.toList.drop 24 = dktX2_fault_1 := dk_seg dksX2_fault_0 24 rfl rfl
theorem dX2_fault_0 : decode cX2_fault 0 = .ok (.iload_n 1, 1) := dk_27 (dk_at dksX2_fault_0 0 rfl rfl)
theorem dX2_fault_1 : decode cX2_fault 1 = .ok (.ifCond .ne 10, 3) := dk_154 0 10 (dk_at dksX2_fault_0 1 rfl rfl)
theorem dX2_fault_4 : decode cX2_fault 4 = .ok (.aload_n 0, 1) := dk_42 (dk_at dksX2_fault_0 4 rfl rfl)
theorem dX2_fault_5 : decode cX2_fault 5 = .ok (.getfield 22, 3) := dk_180 0 22 (dk_at dksX2_fault_0 5 rfl rfl)
theorem dX2_fault_8 : decode cX2_fault 8 = .ok (.goto 16, 3) := dk_167 0 16 (dk_at dksX2_fault_0 8 rfl rfl)
theorem dX2_fault_11 : decode cX2_fault 11 = .ok (.iload_n 1, 1) := dk_27 (dk_at dksX2_fault_0 11 rfl rfl)
theorem dX2_fault_12 : decode cX2_fault 12 = .ok (.iconst 1, 1) := dk_4 (dk_at dksX2_fault_0 12 rfl rfl)
theorem dX2_fault_13 : decode cX2_fault 13 = .ok (.if_icmp .ne 10, 3) := dk_160 0 10 (dk_at dksX2_fault_0 13 rfl rfl)
theorem dX2_fault_16 : decode cX2_fault 16 = .ok (.aload_n 0, 1) := dk_42 (dk_at dksX2_fault_0 16 rfl rfl)
theorem dX2_fault_17 : decode cX2_fault 17 = .ok (.getfield 26, 3) := dk_180 0 26 (dk_at dksX2_fault_0 17 rfl rfl)
theorem dX2_fault_20 : decode cX2_fault 20 = .ok (.goto 4, 3) := dk_167 0 4 (dk_at dksX2_fault_0 20 rfl rfl)
theorem dX2_fault_23 : decode cX2_fault 23 = .ok (.iconst (-1), 1) := dk_2 (dk_at dksX2_fault_0 23 rfl rfl)
theorem dX2_fault_24 : decode cX2_fault 24 = .ok (.ireturn, 1) := dk_172 (dk_at dksX2_fault_1 0 rfl rfl)
abbrev cX2_by : ByteArray := prog_15_method_56_code
def yX2_by : MethodName := ⟨RX2, "by", "(I)Z"⟩
def dkwX2_by_1 : List UInt8 := [16, 7, 27, 79, 4, 172]
abbrev dktX2_by_1 : List UInt8 := dkwX2_by_1 ++ []
def dkwX2_by_0 : List UInt8 := [27, 2, 42, 180, 0, 7, 16, 6, 46, 4, 100, 184, 0, 80, 154, 0, 5, 3, 172, 42, 180, 0, 7]
abbrev dktX2_by_0 : List UInt8 := dkwX2_by_0 ++ dktX2_by_1
theorem dksX2_by_0 : cX2_by.data.toList.drop 0 = dktX2_by_0 := by decide +kernel
theorem dksX2_by_1 : cX2_by.data.toList.drop 23 = dktX2_by_1 := dk_seg dksX2_by_0 23 rfl rfl
theorem dX2_by_0 : decode cX2_by 0 = .ok (.iload_n 1, 1) := dk_27 (dk_at dksX2_by_0 0 rfl rfl)
theorem dX2_by_1 : decode cX2_by 1 = .ok (.iconst (-1), 1) := dk_2 (dk_at dksX2_by_0 1 rfl rfl)
theorem dX2_by_2 : decode cX2_by 2 = .ok (.aload_n 0, 1) := dk_42 (dk_at dksX2_by_0 2 rfl rfl)
theorem dX2_by_3 : decode cX2_by 3 = .ok (.getfield 7, 3) := dk_180 0 7 (dk_at dksX2_by_0 3 rfl rfl)
theorem dX2_by_6 : decode cX2_by 6 = .ok (.bipush 6, 2) := dk_16 6 (dk_at dksX2_by_0 6 rfl rfl)
theorem dX2_by_8 : decode cX2_by 8 = .ok (.iaload, 1) := dk_46 (dk_at dksX2_by_0 8 rfl rfl)
theorem dX2_by_9 : decode cX2_by 9 = .ok (.iconst 1, 1) := dk_4 (dk_at dksX2_by_0 9 rfl rfl)
theorem dX2_by_10 : decode cX2_by 10 = .ok (.isub, 1) := dk_100 (dk_at dksX2_by_0 10 rfl rfl)
theorem dX2_by_11 : decode cX2_by 11 = .ok (.invokestatic 80, 3) := dk_184 0 80 (dk_at dksX2_by_0 11 rfl rfl)
theorem dX2_by_14 : decode cX2_by 14 = .ok (.ifCond .ne 5, 3) := dk_154 0 5 (dk_at dksX2_by_0 14 rfl rfl)
theorem dX2_by_17 : decode cX2_by 17 = .ok (.iconst 0, 1) := dk_3 (dk_at dksX2_by_0 17 rfl rfl)
theorem dX2_by_18 : decode cX2_by 18 = .ok (.ireturn, 1) := dk_172 (dk_at dksX2_by_0 18 rfl rfl)
theorem dX2_by_19 : decode cX2_by 19 = .ok (.aload_n 0, 1) := dk_42 (dk_at dksX2_by_0 19 rfl rfl)
theorem dX2_by_20 : decode cX2_by 20 = .ok (.getfield 7, 3) := dk_180 0 7 (dk_at dksX2_by_0 20 rfl rfl)
theorem dX2_by_23 : decode cX2_by 23 = .ok (.bipush 7, 2) := dk_16 7 (dk_at dksX2_by_1 0 rfl rfl)
theorem dX2_by_25 : decode cX2_by 25 = .ok (.iload_n 1, 1) := dk_27 (dk_at dksX2_by_1 2 rfl rfl)
theorem dX2_by_26 : decode cX2_by 26 = .ok (.iastore, 1) := dk_79 (dk_at dksX2_by_1 3 rfl rfl)
theorem dX2_by_27 : decode cX2_by 27 = .ok (.iconst 1, 1) := dk_4 (dk_at dksX2_by_1 4 rfl rfl)
theorem dX2_by_28 : decode cX2_by 28 = .ok (.ireturn, 1) := dk_172 (dk_at dksX2_by_1 5 rfl rfl)
abbrev cX2_undo : ByteArray := prog_15_method_74_code
def yX2_undo : MethodName := ⟨RX2, "undo", "()I"⟩
def dkwX2_undo_8 : List UInt8 := [180, 0, 7, 16, 8, 46, 172]
abbrev dktX2_undo_8 : List UInt8 := dkwX2_undo_8 ++ []
def dkwX2_undo_7 : List UInt8 := [27, 16, 44, 96, 46, 79, 42, 180, 0, 7, 8, 42, 180, 0, 7, 27, 16, 45, 96, 46, 79, 42]
abbrev dktX2_undo_7 : List UInt8 := dkwX2_undo_7 ++ dktX2_undo_8
def dkwX2_undo_6 : List UInt8 := [180, 0, 7, 7, 42, 180, 0, 7, 27, 16, 43, 96, 46, 79, 42, 180, 0, 7, 16, 11, 42, 180, 0, 7]
abbrev dktX2_undo_6 : List UInt8 := dkwX2_undo_6 ++ dktX2_undo_7
def dkwX2_undo_5 : List UInt8 := [180, 0, 7, 27, 16, 7, 96, 28, 96, 46, 167, 0, 4, 3, 79, 132, 2, 1, 167, 255, 197, 42]
abbrev dktX2_undo_5 : List UInt8 := dkwX2_undo_5 ++ dktX2_undo_6
def dkwX2_undo_4 : List UInt8 := [180, 0, 7, 27, 46, 162, 0, 30, 28, 16, 6, 112, 42, 180, 0, 7, 27, 46, 162, 0, 17, 42]
abbrev dktX2_undo_4 : List UInt8 := dkwX2_undo_4 ++ dktX2_undo_5
def dkwX2_undo_3 : List UInt8 := [167, 255, 227, 3, 61, 28, 16, 36, 162, 0, 59, 42, 180, 0, 7, 16, 18, 28, 96, 28, 16, 6, 108, 42]
abbrev dktX2_undo_3 : List UInt8 := dkwX2_undo_3 ++ dktX2_undo_4
def dkwX2_undo_2 : List UInt8 := [180, 0, 7, 17, 0, 242, 28, 96, 42, 180, 0, 7, 27, 4, 96, 28, 96, 46, 79, 132, 2, 1]
abbrev dktX2_undo_2 : List UInt8 := dkwX2_undo_2 ++ dktX2_undo_3
def dkwX2_undo_1 : List UInt8 := [17, 1, 8, 16, 48, 42, 180, 0, 7, 16, 8, 46, 104, 96, 60, 3, 61, 28, 16, 6, 162, 0, 29, 42]
abbrev dktX2_undo_1 : List UInt8 := dkwX2_undo_1 ++ dktX2_undo_2
def dkwX2_undo_0 : List UInt8 := [42, 180, 0, 7, 16, 8, 46, 154, 0, 5, 2, 172, 42, 180, 0, 7, 16, 8, 92, 46, 4, 100, 79]
abbrev dktX2_undo_0 : List UInt8 := dkwX2_undo_0 ++ dktX2_undo_1
theorem dksX2_undo_0 : cX2_undo.data.toList.drop 0 = dktX2_undo_0 := by decide +kernel
theorem dksX2_undo_1 : cX2_undo.data.toList.drop 23 = dktX2_undo_1 := dk_seg dksX2_undo_0 23 rfl rfl
theorem dksX2_undo_2 : cX2_undo.data.toList.drop 47 = dktX2_undo_2 := dk_seg dksX2_undo_1 24 rfl rfl
theorem dksX2_undo_3 : cX2_undo.data.toList.drop 69 = dktX2_undo_3 := dk_seg dksX2_undo_2 22 rfl rfl
theorem dksX2_undo_4 : cX2_undo.data.toList.drop 93 = dktX2_undo_4 := dk_seg dksX2_undo_3 24 rfl rfl
theorem dksX2_undo_5 : cX2_undo.data.toList.drop 115 = dktX2_undo_5 := dk_seg dksX2_undo_4 22 rfl rfl
theorem dksX2_undo_6 : cX2_undo.data.toList.drop 137 = dktX2_undo_6 := dk_seg dksX2_undo_5 22 rfl rfl
theorem dksX2_undo_7 : cX2_undo.data.toList.drop 161 = dktX2_undo_7 := dk_seg dksX2_undo_6 24 rfl rfl
theorem dksX2_undo_8 : cX2_undo.data.toList.drop 183 = dktX2_undo_8 := dk_seg dksX2_undo_7 22 rfl rfl
theorem dX2_undo_0 : decode cX2_undo 0 = .ok (.aload_n 0, 1) := dk_42 (dk_at dksX2_undo_0 0 rfl rfl)
theorem dX2_undo_1 : decode cX2_undo 1 = .ok (.getfield 7, 3) := dk_180 0 7 (dk_at dksX2_undo_0 1 rfl rfl)
theorem dX2_undo_4 : decode cX2_undo 4 = .ok (.bipush 8, 2) := dk_16 8 (dk_at dksX2_undo_0 4 rfl rfl)
theorem dX2_undo_6 : decode cX2_undo 6 = .ok (.iaload, 1) := dk_46 (dk_at dksX2_undo_0 6 rfl rfl)
theorem dX2_undo_7 : decode cX2_undo 7 = .ok (.ifCond .ne 5, 3) := dk_154 0 5 (dk_at dksX2_undo_0 7 rfl rfl)
theorem dX2_undo_10 : decode cX2_undo 10 = .ok (.iconst (-1), 1) := dk_2 (dk_at dksX2_undo_0 10 rfl rfl)
theorem dX2_undo_11 : decode cX2_undo 11 = .ok (.ireturn, 1) := dk_172 (dk_at dksX2_undo_0 11 rfl rfl)
theorem dX2_undo_12 : decode cX2_undo 12 = .ok (.aload_n 0, 1) := dk_42 (dk_at dksX2_undo_0 12 rfl rfl)
theorem dX2_undo_13 : decode cX2_undo 13 = .ok (.getfield 7, 3) := dk_180 0 7 (dk_at dksX2_undo_0 13 rfl rfl)
theorem dX2_undo_16 : decode cX2_undo 16 = .ok (.bipush 8, 2) := dk_16 8 (dk_at dksX2_undo_0 16 rfl rfl)
theorem dX2_undo_18 : decode cX2_undo 18 = .ok (.dup2, 1) := dk_92 (dk_at dksX2_undo_0 18 rfl rfl)
theorem dX2_undo_19 : decode cX2_undo 19 = .ok (.iaload, 1) := dk_46 (dk_at dksX2_undo_0 19 rfl rfl)
theorem dX2_undo_20 : decode cX2_undo 20 = .ok (.iconst 1, 1) := dk_4 (dk_at dksX2_undo_0 20 rfl rfl)
theorem dX2_undo_21 : decode cX2_undo 21 = .ok (.isub, 1) := dk_100 (dk_at dksX2_undo_0 21 rfl rfl)
theorem dX2_undo_22 : decode cX2_undo 22 = .ok (.iastore, 1) := dk_79 (dk_at dksX2_undo_0 22 rfl rfl)
theorem dX2_undo_23 : decode cX2_undo 23 = .ok (.sipush 264, 3) := dk_17 1 8 (dk_at dksX2_undo_1 0 rfl rfl)
theorem dX2_undo_26 : decode cX2_undo 26 = .ok (.bipush 48, 2) := dk_16 48 (dk_at dksX2_undo_1 3 rfl rfl)
theorem dX2_undo_28 : decode cX2_undo 28 = .ok (.aload_n 0, 1) := dk_42 (dk_at dksX2_undo_1 5 rfl rfl)
theorem dX2_undo_29 : decode cX2_undo 29 = .ok (.getfield 7, 3) := dk_180 0 7 (dk_at dksX2_undo_1 6 rfl rfl)
theorem dX2_undo_32 : decode cX2_undo 32 = .ok (.bipush 8, 2) := dk_16 8 (dk_at dksX2_undo_1 9 rfl rfl)
theorem dX2_undo_34 : decode cX2_undo 34 = .ok (.iaload, 1) := dk_46 (dk_at dksX2_undo_1 11 rfl rfl)
theorem dX2_undo_35 : decode cX2_undo 35 = .ok (.imul, 1) := dk_104 (dk_at dksX2_undo_1 12 rfl rfl)
theorem dX2_undo_36 : decode cX2_undo 36 = .ok (.iadd, 1) := dk_96 (dk_at dksX2_undo_1 13 rfl rfl)
theorem dX2_undo_37 : decode cX2_undo 37 = .ok (.istore_n 1, 1) := dk_60 (dk_at dksX2_undo_1 14 rfl rfl)
theorem dX2_undo_38 : decode cX2_undo 38 = .ok (.iconst 0, 1) := dk_3 (dk_at dksX2_undo_1 15 rfl rfl)
theorem dX2_undo_39 : decode cX2_undo 39 = .ok (.istore_n 2, 1) := dk_61 (dk_at dksX2_undo_1 16 rfl rfl)
theorem dX2_undo_40 : decode cX2_undo 40 = .ok (.iload_n 2, 1) := dk_28 (dk_at dksX2_undo_1 17 rfl rfl)
theorem dX2_undo_41 : decode cX2_undo 41 = .ok (.bipush 6, 2) := dk_16 6 (dk_at dksX2_undo_1 18 rfl rfl)
theorem dX2_undo_43 : decode cX2_undo 43 = .ok (.if_icmp .ge 29, 3) := dk_162 0 29 (dk_at dksX2_undo_1 20 rfl rfl)
theorem dX2_undo_46 : decode cX2_undo 46 = .ok (.aload_n 0, 1) := dk_42 (dk_at dksX2_undo_1 23 rfl rfl)
theorem dX2_undo_47 : decode cX2_undo 47 = .ok (.getfield 7, 3) := dk_180 0 7 (dk_at dksX2_undo_2 0 rfl rfl)
theorem dX2_undo_50 : decode cX2_undo 50 = .ok (.sipush 242, 3) := dk_17 0 242 (dk_at dksX2_undo_2 3 rfl rfl)
theorem dX2_undo_53 : decode cX2_undo 53 = .ok (.iload_n 2, 1) := dk_28 (dk_at dksX2_undo_2 6 rfl rfl)
theorem dX2_undo_54 : decode cX2_undo 54 = .ok (.iadd, 1) := dk_96 (dk_at dksX2_undo_2 7 rfl rfl)
theorem dX2_undo_55 : decode cX2_undo 55 = .ok (.aload_n 0, 1) := dk_42 (dk_at dksX2_undo_2 8 rfl rfl)
theorem dX2_undo_56 : decode cX2_undo 56 = .ok (.getfield 7, 3) := dk_180 0 7 (dk_at dksX2_undo_2 9 rfl rfl)
theorem dX2_undo_59 : decode cX2_undo 59 = .ok (.iload_n 1, 1) := dk_27 (dk_at dksX2_undo_2 12 rfl rfl)
theorem dX2_undo_60 : decode cX2_undo 60 = .ok (.iconst 1, 1) := dk_4 (dk_at dksX2_undo_2 13 rfl rfl)
theorem dX2_undo_61 : decode cX2_undo 61 = .ok (.iadd, 1) := dk_96 (dk_at dksX2_undo_2 14 rfl rfl)
theorem dX2_undo_62 : decode cX2_undo 62 = .ok (.iload_n 2, 1) := dk_28 (dk_at dksX2_undo_2 15 rfl rfl)
theorem dX2_undo_63 : decode cX2_undo 63 = .ok (.iadd, 1) := dk_96 (dk_at dksX2_undo_2 16 rfl rfl)
theorem dX2_undo_64 : decode cX2_undo 64 = .ok (.iaload, 1) := dk_46 (dk_at dksX2_undo_2 17 rfl rfl)
theorem dX2_undo_65 : decode cX2_undo 65 = .ok (.iastore, 1) := dk_79 (dk_at dksX2_undo_2 18 rfl rfl)
theorem dX2_undo_66 : decode cX2_undo 66 = .ok (.iinc 2 1, 3) := dk_132 2 1 (dk_at dksX2_undo_2 19 rfl rfl)
theorem dX2_undo_69 : decode cX2_undo 69 = .ok (.goto (-29), 3) := dk_167 255 227 (dk_at dksX2_undo_3 0 rfl rfl)
theorem dX2_undo_72 : decode cX2_undo 72 = .ok (.iconst 0, 1) := dk_3 (dk_at dksX2_undo_3 3 rfl rfl)
theorem dX2_undo_73 : decode cX2_undo 73 = .ok (.istore_n 2, 1) := dk_61 (dk_at dksX2_undo_3 4 rfl rfl)
theorem dX2_undo_74 : decode cX2_undo 74 = .ok (.iload_n 2, 1) := dk_28 (dk_at dksX2_undo_3 5 rfl rfl)
theorem dX2_undo_75 : decode cX2_undo 75 = .ok (.bipush 36, 2) := dk_16 36 (dk_at dksX2_undo_3 6 rfl rfl)
theorem dX2_undo_77 : decode cX2_undo 77 = .ok (.if_icmp .ge 59, 3) := dk_162 0 59 (dk_at dksX2_undo_3 8 rfl rfl)
theorem dX2_undo_80 : decode cX2_undo 80 = .ok (.aload_n 0, 1) := dk_42 (dk_at dksX2_undo_3 11 rfl rfl)
theorem dX2_undo_81 : decode cX2_undo 81 = .ok (.getfield 7, 3) := dk_180 0 7 (dk_at dksX2_undo_3 12 rfl rfl)
theorem dX2_undo_84 : decode cX2_undo 84 = .ok (.bipush 18, 2) := dk_16 18 (dk_at dksX2_undo_3 15 rfl rfl)
theorem dX2_undo_86 : decode cX2_undo 86 = .ok (.iload_n 2, 1) := dk_28 (dk_at dksX2_undo_3 17 rfl rfl)
theorem dX2_undo_87 : decode cX2_undo 87 = .ok (.iadd, 1) := dk_96 (dk_at dksX2_undo_3 18 rfl rfl)
theorem dX2_undo_88 : decode cX2_undo 88 = .ok (.iload_n 2, 1) := dk_28 (dk_at dksX2_undo_3 19 rfl rfl)
theorem dX2_undo_89 : decode cX2_undo 89 = .ok (.bipush 6, 2) := dk_16 6 (dk_at dksX2_undo_3 20 rfl rfl)
theorem dX2_undo_91 : decode cX2_undo 91 = .ok (.idiv, 1) := dk_108 (dk_at dksX2_undo_3 22 rfl rfl)
theorem dX2_undo_92 : decode cX2_undo 92 = .ok (.aload_n 0, 1) := dk_42 (dk_at dksX2_undo_3 23 rfl rfl)
theorem dX2_undo_93 : decode cX2_undo 93 = .ok (.getfield 7, 3) := dk_180 0 7 (dk_at dksX2_undo_4 0 rfl rfl)
theorem dX2_undo_96 : decode cX2_undo 96 = .ok (.iload_n 1, 1) := dk_27 (dk_at dksX2_undo_4 3 rfl rfl)
theorem dX2_undo_97 : decode cX2_undo 97 = .ok (.iaload, 1) := dk_46 (dk_at dksX2_undo_4 4 rfl rfl)
theorem dX2_undo_98 : decode cX2_undo 98 = .ok (.if_icmp .ge 30, 3) := dk_162 0 30 (dk_at dksX2_undo_4 5 rfl rfl)
theorem dX2_undo_101 : decode cX2_undo 101 = .ok (.iload_n 2, 1) := dk_28 (dk_at dksX2_undo_4 8 rfl rfl)
theorem dX2_undo_102 : decode cX2_undo 102 = .ok (.bipush 6, 2) := dk_16 6 (dk_at dksX2_undo_4 9 rfl rfl)
theorem dX2_undo_104 : decode cX2_undo 104 = .ok (.irem, 1) := dk_112 (dk_at dksX2_undo_4 11 rfl rfl)
theorem dX2_undo_105 : decode cX2_undo 105 = .ok (.aload_n 0, 1) := dk_42 (dk_at dksX2_undo_4 12 rfl rfl)
theorem dX2_undo_106 : decode cX2_undo 106 = .ok (.getfield 7, 3) := dk_180 0 7 (dk_at dksX2_undo_4 13 rfl rfl)
theorem dX2_undo_109 : decode cX2_undo 109 = .ok (.iload_n 1, 1) := dk_27 (dk_at dksX2_undo_4 16 rfl rfl)
theorem dX2_undo_110 : decode cX2_undo 110 = .ok (.iaload, 1) := dk_46 (dk_at dksX2_undo_4 17 rfl rfl)
theorem dX2_undo_111 : decode cX2_undo 111 = .ok (.if_icmp .ge 17, 3) := dk_162 0 17 (dk_at dksX2_undo_4 18 rfl rfl)
theorem dX2_undo_114 : decode cX2_undo 114 = .ok (.aload_n 0, 1) := dk_42 (dk_at dksX2_undo_4 21 rfl rfl)
theorem dX2_undo_115 : decode cX2_undo 115 = .ok (.getfield 7, 3) := dk_180 0 7 (dk_at dksX2_undo_5 0 rfl rfl)
theorem dX2_undo_118 : decode cX2_undo 118 = .ok (.iload_n 1, 1) := dk_27 (dk_at dksX2_undo_5 3 rfl rfl)
theorem dX2_undo_119 : decode cX2_undo 119 = .ok (.bipush 7, 2) := dk_16 7 (dk_at dksX2_undo_5 4 rfl rfl)
theorem dX2_undo_121 : decode cX2_undo 121 = .ok (.iadd, 1) := dk_96 (dk_at dksX2_undo_5 6 rfl rfl)
theorem dX2_undo_122 : decode cX2_undo 122 = .ok (.iload_n 2, 1) := dk_28 (dk_at dksX2_undo_5 7 rfl rfl)
theorem dX2_undo_123 : decode cX2_undo 123 = .ok (.iadd, 1) := dk_96 (dk_at dksX2_undo_5 8 rfl rfl)
theorem dX2_undo_124 : decode cX2_undo 124 = .ok (.iaload, 1) := dk_46 (dk_at dksX2_undo_5 9 rfl rfl)
theorem dX2_undo_125 : decode cX2_undo 125 = .ok (.goto 4, 3) := dk_167 0 4 (dk_at dksX2_undo_5 10 rfl rfl)
theorem dX2_undo_128 : decode cX2_undo 128 = .ok (.iconst 0, 1) := dk_3 (dk_at dksX2_undo_5 13 rfl rfl)
theorem dX2_undo_129 : decode cX2_undo 129 = .ok (.iastore, 1) := dk_79 (dk_at dksX2_undo_5 14 rfl rfl)
theorem dX2_undo_130 : decode cX2_undo 130 = .ok (.iinc 2 1, 3) := dk_132 2 1 (dk_at dksX2_undo_5 15 rfl rfl)
theorem dX2_undo_133 : decode cX2_undo 133 = .ok (.goto (-59), 3) := dk_167 255 197 (dk_at dksX2_undo_5 18 rfl rfl)
theorem dX2_undo_136 : decode cX2_undo 136 = .ok (.aload_n 0, 1) := dk_42 (dk_at dksX2_undo_5 21 rfl rfl)
theorem dX2_undo_137 : decode cX2_undo 137 = .ok (.getfield 7, 3) := dk_180 0 7 (dk_at dksX2_undo_6 0 rfl rfl)
theorem dX2_undo_140 : decode cX2_undo 140 = .ok (.iconst 4, 1) := dk_7 (dk_at dksX2_undo_6 3 rfl rfl)
theorem dX2_undo_141 : decode cX2_undo 141 = .ok (.aload_n 0, 1) := dk_42 (dk_at dksX2_undo_6 4 rfl rfl)
theorem dX2_undo_142 : decode cX2_undo 142 = .ok (.getfield 7, 3) := dk_180 0 7 (dk_at dksX2_undo_6 5 rfl rfl)
theorem dX2_undo_145 : decode cX2_undo 145 = .ok (.iload_n 1, 1) := dk_27 (dk_at dksX2_undo_6 8 rfl rfl)
theorem dX2_undo_146 : decode cX2_undo 146 = .ok (.bipush 43, 2) := dk_16 43 (dk_at dksX2_undo_6 9 rfl rfl)
theorem dX2_undo_148 : decode cX2_undo 148 = .ok (.iadd, 1) := dk_96 (dk_at dksX2_undo_6 11 rfl rfl)
theorem dX2_undo_149 : decode cX2_undo 149 = .ok (.iaload, 1) := dk_46 (dk_at dksX2_undo_6 12 rfl rfl)
theorem dX2_undo_150 : decode cX2_undo 150 = .ok (.iastore, 1) := dk_79 (dk_at dksX2_undo_6 13 rfl rfl)
theorem dX2_undo_151 : decode cX2_undo 151 = .ok (.aload_n 0, 1) := dk_42 (dk_at dksX2_undo_6 14 rfl rfl)
theorem dX2_undo_152 : decode cX2_undo 152 = .ok (.getfield 7, 3) := dk_180 0 7 (dk_at dksX2_undo_6 15 rfl rfl)
theorem dX2_undo_155 : decode cX2_undo 155 = .ok (.bipush 11, 2) := dk_16 11 (dk_at dksX2_undo_6 18 rfl rfl)
theorem dX2_undo_157 : decode cX2_undo 157 = .ok (.aload_n 0, 1) := dk_42 (dk_at dksX2_undo_6 20 rfl rfl)
theorem dX2_undo_158 : decode cX2_undo 158 = .ok (.getfield 7, 3) := dk_180 0 7 (dk_at dksX2_undo_6 21 rfl rfl)
theorem dX2_undo_161 : decode cX2_undo 161 = .ok (.iload_n 1, 1) := dk_27 (dk_at dksX2_undo_7 0 rfl rfl)
theorem dX2_undo_162 : decode cX2_undo 162 = .ok (.bipush 44, 2) := dk_16 44 (dk_at dksX2_undo_7 1 rfl rfl)
theorem dX2_undo_164 : decode cX2_undo 164 = .ok (.iadd, 1) := dk_96 (dk_at dksX2_undo_7 3 rfl rfl)
theorem dX2_undo_165 : decode cX2_undo 165 = .ok (.iaload, 1) := dk_46 (dk_at dksX2_undo_7 4 rfl rfl)
theorem dX2_undo_166 : decode cX2_undo 166 = .ok (.iastore, 1) := dk_79 (dk_at dksX2_undo_7 5 rfl rfl)
theorem dX2_undo_167 : decode cX2_undo 167 = .ok (.aload_n 0, 1) := dk_42 (dk_at dksX2_undo_7 6 rfl rfl)
theorem dX2_undo_168 : decode cX2_undo 168 = .ok (.getfield 7, 3) := dk_180 0 7 (dk_at dksX2_undo_7 7 rfl rfl)
theorem dX2_undo_171 : decode cX2_undo 171 = .ok (.iconst 5, 1) := dk_8 (dk_at dksX2_undo_7 10 rfl rfl)
theorem dX2_undo_172 : decode cX2_undo 172 = .ok (.aload_n 0, 1) := dk_42 (dk_at dksX2_undo_7 11 rfl rfl)
theorem dX2_undo_173 : decode cX2_undo 173 = .ok (.getfield 7, 3) := dk_180 0 7 (dk_at dksX2_undo_7 12 rfl rfl)
theorem dX2_undo_176 : decode cX2_undo 176 = .ok (.iload_n 1, 1) := dk_27 (dk_at dksX2_undo_7 15 rfl rfl)
theorem dX2_undo_177 : decode cX2_undo 177 = .ok (.bipush 45, 2) := dk_16 45 (dk_at dksX2_undo_7 16 rfl rfl)
theorem dX2_undo_179 : decode cX2_undo 179 = .ok (.iadd, 1) := dk_96 (dk_at dksX2_undo_7 18 rfl rfl)
theorem dX2_undo_180 : decode cX2_undo 180 = .ok (.iaload, 1) := dk_46 (dk_at dksX2_undo_7 19 rfl rfl)
theorem dX2_undo_181 : decode cX2_undo 181 = .ok (.iastore, 1) := dk_79 (dk_at dksX2_undo_7 20 rfl rfl)
theorem dX2_undo_182 : decode cX2_undo 182 = .ok (.aload_n 0, 1) := dk_42 (dk_at dksX2_undo_7 21 rfl rfl)
theorem dX2_undo_183 : decode cX2_undo 183 = .ok (.getfield 7, 3) := dk_180 0 7 (dk_at dksX2_undo_8 0 rfl rfl)
theorem dX2_undo_186 : decode cX2_undo 186 = .ok (.bipush 8, 2) := dk_16 8 (dk_at dksX2_undo_8 3 rfl rfl)
theorem dX2_undo_188 : decode cX2_undo 188 = .ok (.iaload, 1) := dk_46 (dk_at dksX2_undo_8 5 rfl rfl)
theorem dX2_undo_189 : decode cX2_undo 189 = .ok (.ireturn, 1) := dk_172 (dk_at dksX2_undo_8 6 rfl rfl)
abbrev cX2_lend : ByteArray := prog_15_method_75_code
def yX2_lend : MethodName := ⟨RX2, "lend", "(III)Z"⟩
def dkwX2_lend_3 : List UInt8 := [4, 172]
abbrev dktX2_lend_3 : List UInt8 := dkwX2_lend_3 ++ []
def dkwX2_lend_2 : List UInt8 := [160, 0, 5, 3, 172, 42, 182, 1, 62, 42, 180, 0, 7, 16, 18, 16, 6, 27, 104, 96, 28, 96, 29, 79]
abbrev dktX2_lend_2 : List UInt8 := dkwX2_lend_2 ++ dktX2_lend_3
def dkwX2_lend_1 : List UInt8 := [16, 99, 184, 0, 80, 153, 0, 21, 42, 180, 0, 7, 16, 18, 16, 6, 27, 104, 96, 28, 96, 46, 29]
abbrev dktX2_lend_1 : List UInt8 := dkwX2_lend_1 ++ dktX2_lend_2
def dkwX2_lend_0 : List UInt8 := [42, 27, 182, 0, 88, 153, 0, 44, 42, 28, 182, 0, 88, 153, 0, 36, 27, 28, 159, 0, 31, 29, 3]
abbrev dktX2_lend_0 : List UInt8 := dkwX2_lend_0 ++ dktX2_lend_1
theorem dksX2_lend_0 : cX2_lend.data.toList.drop 0 = dktX2_lend_0 := by decide +kernel
theorem dksX2_lend_1 : cX2_lend.data.toList.drop 23 = dktX2_lend_1 := dk_seg dksX2_lend_0 23 rfl rfl
theorem dksX2_lend_2 : cX2_lend.data.toList.drop 46 = dktX2_lend_2 := dk_seg dksX2_lend_1 23 rfl rfl
theorem dksX2_lend_3 : cX2_lend.data.toList.drop 70 = dktX2_lend_3 := dk_seg dksX2_lend_2 24 rfl rfl
theorem dX2_lend_0 : decode cX2_lend 0 = .ok (.aload_n 0, 1) := dk_42 (dk_at dksX2_lend_0 0 rfl rfl)
theorem dX2_lend_1 : decode cX2_lend 1 = .ok (.iload_n 1, 1) := dk_27 (dk_at dksX2_lend_0 1 rfl rfl)
theorem dX2_lend_2 : decode cX2_lend 2 = .ok (.invokevirtual 88, 3) := dk_182 0 88 (dk_at dksX2_lend_0 2 rfl rfl)
theorem dX2_lend_5 : decode cX2_lend 5 = .ok (.ifCond .eq 44, 3) := dk_153 0 44 (dk_at dksX2_lend_0 5 rfl rfl)
theorem dX2_lend_8 : decode cX2_lend 8 = .ok (.aload_n 0, 1) := dk_42 (dk_at dksX2_lend_0 8 rfl rfl)
theorem dX2_lend_9 : decode cX2_lend 9 = .ok (.iload_n 2, 1) := dk_28 (dk_at dksX2_lend_0 9 rfl rfl)
theorem dX2_lend_10 : decode cX2_lend 10 = .ok (.invokevirtual 88, 3) := dk_182 0 88 (dk_at dksX2_lend_0 10 rfl rfl)
theorem dX2_lend_13 : decode cX2_lend 13 = .ok (.ifCond .eq 36, 3) := dk_153 0 36 (dk_at dksX2_lend_0 13 rfl rfl)
theorem dX2_lend_16 : decode cX2_lend 16 = .ok (.iload_n 1, 1) := dk_27 (dk_at dksX2_lend_0 16 rfl rfl)
theorem dX2_lend_17 : decode cX2_lend 17 = .ok (.iload_n 2, 1) := dk_28 (dk_at dksX2_lend_0 17 rfl rfl)
theorem dX2_lend_18 : decode cX2_lend 18 = .ok (.if_icmp .eq 31, 3) := dk_159 0 31 (dk_at dksX2_lend_0 18 rfl rfl)
theorem dX2_lend_21 : decode cX2_lend 21 = .ok (.iload_n 3, 1) := dk_29 (dk_at dksX2_lend_0 21 rfl rfl)
theorem dX2_lend_22 : decode cX2_lend 22 = .ok (.iconst 0, 1) := dk_3 (dk_at dksX2_lend_0 22 rfl rfl)
theorem dX2_lend_23 : decode cX2_lend 23 = .ok (.bipush 99, 2) := dk_16 99 (dk_at dksX2_lend_1 0 rfl rfl)
theorem dX2_lend_25 : decode cX2_lend 25 = .ok (.invokestatic 80, 3) := dk_184 0 80 (dk_at dksX2_lend_1 2 rfl rfl)
theorem dX2_lend_28 : decode cX2_lend 28 = .ok (.ifCond .eq 21, 3) := dk_153 0 21 (dk_at dksX2_lend_1 5 rfl rfl)
theorem dX2_lend_31 : decode cX2_lend 31 = .ok (.aload_n 0, 1) := dk_42 (dk_at dksX2_lend_1 8 rfl rfl)
theorem dX2_lend_32 : decode cX2_lend 32 = .ok (.getfield 7, 3) := dk_180 0 7 (dk_at dksX2_lend_1 9 rfl rfl)
theorem dX2_lend_35 : decode cX2_lend 35 = .ok (.bipush 18, 2) := dk_16 18 (dk_at dksX2_lend_1 12 rfl rfl)
theorem dX2_lend_37 : decode cX2_lend 37 = .ok (.bipush 6, 2) := dk_16 6 (dk_at dksX2_lend_1 14 rfl rfl)
theorem dX2_lend_39 : decode cX2_lend 39 = .ok (.iload_n 1, 1) := dk_27 (dk_at dksX2_lend_1 16 rfl rfl)
theorem dX2_lend_40 : decode cX2_lend 40 = .ok (.imul, 1) := dk_104 (dk_at dksX2_lend_1 17 rfl rfl)
theorem dX2_lend_41 : decode cX2_lend 41 = .ok (.iadd, 1) := dk_96 (dk_at dksX2_lend_1 18 rfl rfl)
theorem dX2_lend_42 : decode cX2_lend 42 = .ok (.iload_n 2, 1) := dk_28 (dk_at dksX2_lend_1 19 rfl rfl)
theorem dX2_lend_43 : decode cX2_lend 43 = .ok (.iadd, 1) := dk_96 (dk_at dksX2_lend_1 20 rfl rfl)
theorem dX2_lend_44 : decode cX2_lend 44 = .ok (.iaload, 1) := dk_46 (dk_at dksX2_lend_1 21 rfl rfl)
theorem dX2_lend_45 : decode cX2_lend 45 = .ok (.iload_n 3, 1) := dk_29 (dk_at dksX2_lend_1 22 rfl rfl)
theorem dX2_lend_46 : decode cX2_lend 46 = .ok (.if_icmp .ne 5, 3) := dk_160 0 5 (dk_at dksX2_lend_2 0 rfl rfl)
theorem dX2_lend_49 : decode cX2_lend 49 = .ok (.iconst 0, 1) := dk_3 (dk_at dksX2_lend_2 3 rfl rfl)
theorem dX2_lend_50 : decode cX2_lend 50 = .ok (.ireturn, 1) := dk_172 (dk_at dksX2_lend_2 4 rfl rfl)
theorem dX2_lend_51 : decode cX2_lend 51 = .ok (.aload_n 0, 1) := dk_42 (dk_at dksX2_lend_2 5 rfl rfl)
theorem dX2_lend_52 : decode cX2_lend 52 = .ok (.invokevirtual 318, 3) := dk_182 1 62 (dk_at dksX2_lend_2 6 rfl rfl)
theorem dX2_lend_55 : decode cX2_lend 55 = .ok (.aload_n 0, 1) := dk_42 (dk_at dksX2_lend_2 9 rfl rfl)
theorem dX2_lend_56 : decode cX2_lend 56 = .ok (.getfield 7, 3) := dk_180 0 7 (dk_at dksX2_lend_2 10 rfl rfl)
theorem dX2_lend_59 : decode cX2_lend 59 = .ok (.bipush 18, 2) := dk_16 18 (dk_at dksX2_lend_2 13 rfl rfl)
theorem dX2_lend_61 : decode cX2_lend 61 = .ok (.bipush 6, 2) := dk_16 6 (dk_at dksX2_lend_2 15 rfl rfl)
theorem dX2_lend_63 : decode cX2_lend 63 = .ok (.iload_n 1, 1) := dk_27 (dk_at dksX2_lend_2 17 rfl rfl)
theorem dX2_lend_64 : decode cX2_lend 64 = .ok (.imul, 1) := dk_104 (dk_at dksX2_lend_2 18 rfl rfl)
theorem dX2_lend_65 : decode cX2_lend 65 = .ok (.iadd, 1) := dk_96 (dk_at dksX2_lend_2 19 rfl rfl)
theorem dX2_lend_66 : decode cX2_lend 66 = .ok (.iload_n 2, 1) := dk_28 (dk_at dksX2_lend_2 20 rfl rfl)
theorem dX2_lend_67 : decode cX2_lend 67 = .ok (.iadd, 1) := dk_96 (dk_at dksX2_lend_2 21 rfl rfl)
theorem dX2_lend_68 : decode cX2_lend 68 = .ok (.iload_n 3, 1) := dk_29 (dk_at dksX2_lend_2 22 rfl rfl)
theorem dX2_lend_69 : decode cX2_lend 69 = .ok (.iastore, 1) := dk_79 (dk_at dksX2_lend_2 23 rfl rfl)
theorem dX2_lend_70 : decode cX2_lend 70 = .ok (.iconst 1, 1) := dk_4 (dk_at dksX2_lend_3 0 rfl rfl)
theorem dX2_lend_71 : decode cX2_lend 71 = .ok (.ireturn, 1) := dk_172 (dk_at dksX2_lend_3 1 rfl rfl)
abbrev cX2_keep : ByteArray := prog_15_method_73_code
def yX2_keep : MethodName := ⟨RX2, "keep", "()V"⟩
def dkwX2_keep_9 : List UInt8 := [79, 177]
abbrev dktX2_keep_9 : List UInt8 := dkwX2_keep_9 ++ []
def dkwX2_keep_8 : List UInt8 := [180, 0, 7, 27, 16, 45, 96, 42, 180, 0, 7, 8, 46, 79, 42, 180, 0, 7, 16, 8, 92, 46, 4, 96]
abbrev dktX2_keep_8 : List UInt8 := dkwX2_keep_8 ++ dktX2_keep_9
def dkwX2_keep_7 : List UInt8 := [42, 180, 0, 7, 7, 46, 79, 42, 180, 0, 7, 27, 16, 44, 96, 42, 180, 0, 7, 16, 11, 46, 79, 42]
abbrev dktX2_keep_7 : List UInt8 := dkwX2_keep_7 ++ dktX2_keep_8
def dkwX2_keep_6 : List UInt8 := [42, 180, 0, 7, 16, 18, 28, 96, 46, 79, 132, 2, 1, 167, 255, 227, 42, 180, 0, 7, 27, 16, 43, 96]
abbrev dktX2_keep_6 : List UInt8 := dkwX2_keep_6 ++ dktX2_keep_7
def dkwX2_keep_5 : List UInt8 := [132, 2, 1, 167, 255, 227, 3, 61, 28, 16, 36, 162, 0, 29, 42, 180, 0, 7, 27, 16, 7, 96, 28, 96]
abbrev dktX2_keep_5 : List UInt8 := dkwX2_keep_5 ++ dktX2_keep_6
def dkwX2_keep_4 : List UInt8 := [162, 0, 29, 42, 180, 0, 7, 27, 4, 96, 28, 96, 42, 180, 0, 7, 17, 0, 242, 28, 96, 46, 79]
abbrev dktX2_keep_4 : List UInt8 := dkwX2_keep_4 ++ dktX2_keep_5
def dkwX2_keep_3 : List UInt8 := [16, 8, 46, 104, 96, 60, 42, 180, 0, 7, 27, 42, 180, 0, 7, 3, 46, 79, 3, 61, 28, 16, 6]
abbrev dktX2_keep_3 : List UInt8 := dkwX2_keep_3 ++ dktX2_keep_4
def dkwX2_keep_2 : List UInt8 := [167, 255, 226, 42, 180, 0, 7, 16, 8, 92, 46, 4, 100, 79, 17, 1, 8, 16, 48, 42, 180, 0, 7]
abbrev dktX2_keep_2 : List UInt8 := dkwX2_keep_2 ++ dktX2_keep_3
def dkwX2_keep_1 : List UInt8 := [180, 0, 7, 17, 1, 8, 27, 96, 42, 180, 0, 7, 17, 1, 56, 27, 96, 46, 79, 132, 1, 1]
abbrev dktX2_keep_1 : List UInt8 := dkwX2_keep_1 ++ dktX2_keep_2
def dkwX2_keep_0 : List UInt8 := [42, 180, 0, 7, 16, 8, 46, 16, 30, 160, 0, 49, 3, 60, 27, 17, 5, 112, 162, 0, 29, 42]
abbrev dktX2_keep_0 : List UInt8 := dkwX2_keep_0 ++ dktX2_keep_1
theorem dksX2_keep_0 : cX2_keep.data.toList.drop 0 = dktX2_keep_0 := by decide +kernel
theorem dksX2_keep_1 : cX2_keep.data.toList.drop 22 = dktX2_keep_1 := dk_seg dksX2_keep_0 22 rfl rfl
theorem dksX2_keep_2 : cX2_keep.data.toList.drop 44 = dktX2_keep_2 := dk_seg dksX2_keep_1 22 rfl rfl
theorem dksX2_keep_3 : cX2_keep.data.toList.drop 67 = dktX2_keep_3 := dk_seg dksX2_keep_2 23 rfl rfl
theorem dksX2_keep_4 : cX2_keep.data.toList.drop 90 = dktX2_keep_4 := dk_seg dksX2_keep_3 23 rfl rfl
theorem dksX2_keep_5 : cX2_keep.data.toList.drop 113 = dktX2_keep_5 := dk_seg dksX2_keep_4 23 rfl rfl
theorem dksX2_keep_6 : cX2_keep.data.toList.drop 137 = dktX2_keep_6 := dk_seg dksX2_keep_5 24 rfl rfl
theorem dksX2_keep_7 : cX2_keep.data.toList.drop 161 = dktX2_keep_7 := dk_seg dksX2_keep_6 24 rfl rfl
theorem dksX2_keep_8 : cX2_keep.data.toList.drop 185 = dktX2_keep_8 := dk_seg dksX2_keep_7 24 rfl rfl
theorem dksX2_keep_9 : cX2_keep.data.toList.drop 209 = dktX2_keep_9 := dk_seg dksX2_keep_8 24 rfl rfl
theorem dX2_keep_0 : decode cX2_keep 0 = .ok (.aload_n 0, 1) := dk_42 (dk_at dksX2_keep_0 0 rfl rfl)
theorem dX2_keep_1 : decode cX2_keep 1 = .ok (.getfield 7, 3) := dk_180 0 7 (dk_at dksX2_keep_0 1 rfl rfl)
theorem dX2_keep_4 : decode cX2_keep 4 = .ok (.bipush 8, 2) := dk_16 8 (dk_at dksX2_keep_0 4 rfl rfl)
theorem dX2_keep_6 : decode cX2_keep 6 = .ok (.iaload, 1) := dk_46 (dk_at dksX2_keep_0 6 rfl rfl)
theorem dX2_keep_7 : decode cX2_keep 7 = .ok (.bipush 30, 2) := dk_16 30 (dk_at dksX2_keep_0 7 rfl rfl)
theorem dX2_keep_9 : decode cX2_keep 9 = .ok (.if_icmp .ne 49, 3) := dk_160 0 49 (dk_at dksX2_keep_0 9 rfl rfl)
theorem dX2_keep_12 : decode cX2_keep 12 = .ok (.iconst 0, 1) := dk_3 (dk_at dksX2_keep_0 12 rfl rfl)
theorem dX2_keep_13 : decode cX2_keep 13 = .ok (.istore_n 1, 1) := dk_60 (dk_at dksX2_keep_0 13 rfl rfl)
theorem dX2_keep_14 : decode cX2_keep 14 = .ok (.iload_n 1, 1) := dk_27 (dk_at dksX2_keep_0 14 rfl rfl)
theorem dX2_keep_15 : decode cX2_keep 15 = .ok (.sipush 1392, 3) := dk_17 5 112 (dk_at dksX2_keep_0 15 rfl rfl)
theorem dX2_keep_18 : decode cX2_keep 18 = .ok (.if_icmp .ge 29, 3) := dk_162 0 29 (dk_at dksX2_keep_0 18 rfl rfl)
theorem dX2_keep_21 : decode cX2_keep 21 = .ok (.aload_n 0, 1) := dk_42 (dk_at dksX2_keep_0 21 rfl rfl)
theorem dX2_keep_22 : decode cX2_keep 22 = .ok (.getfield 7, 3) := dk_180 0 7 (dk_at dksX2_keep_1 0 rfl rfl)
theorem dX2_keep_25 : decode cX2_keep 25 = .ok (.sipush 264, 3) := dk_17 1 8 (dk_at dksX2_keep_1 3 rfl rfl)
theorem dX2_keep_28 : decode cX2_keep 28 = .ok (.iload_n 1, 1) := dk_27 (dk_at dksX2_keep_1 6 rfl rfl)
theorem dX2_keep_29 : decode cX2_keep 29 = .ok (.iadd, 1) := dk_96 (dk_at dksX2_keep_1 7 rfl rfl)
theorem dX2_keep_30 : decode cX2_keep 30 = .ok (.aload_n 0, 1) := dk_42 (dk_at dksX2_keep_1 8 rfl rfl)
theorem dX2_keep_31 : decode cX2_keep 31 = .ok (.getfield 7, 3) := dk_180 0 7 (dk_at dksX2_keep_1 9 rfl rfl)
theorem dX2_keep_34 : decode cX2_keep 34 = .ok (.sipush 312, 3) := dk_17 1 56 (dk_at dksX2_keep_1 12 rfl rfl)
theorem dX2_keep_37 : decode cX2_keep 37 = .ok (.iload_n 1, 1) := dk_27 (dk_at dksX2_keep_1 15 rfl rfl)
theorem dX2_keep_38 : decode cX2_keep 38 = .ok (.iadd, 1) := dk_96 (dk_at dksX2_keep_1 16 rfl rfl)
theorem dX2_keep_39 : decode cX2_keep 39 = .ok (.iaload, 1) := dk_46 (dk_at dksX2_keep_1 17 rfl rfl)
theorem dX2_keep_40 : decode cX2_keep 40 = .ok (.iastore, 1) := dk_79 (dk_at dksX2_keep_1 18 rfl rfl)
theorem dX2_keep_41 : decode cX2_keep 41 = .ok (.iinc 1 1, 3) := dk_132 1 1 (dk_at dksX2_keep_1 19 rfl rfl)
theorem dX2_keep_44 : decode cX2_keep 44 = .ok (.goto (-30), 3) := dk_167 255 226 (dk_at dksX2_keep_2 0 rfl rfl)
theorem dX2_keep_47 : decode cX2_keep 47 = .ok (.aload_n 0, 1) := dk_42 (dk_at dksX2_keep_2 3 rfl rfl)
theorem dX2_keep_48 : decode cX2_keep 48 = .ok (.getfield 7, 3) := dk_180 0 7 (dk_at dksX2_keep_2 4 rfl rfl)
theorem dX2_keep_51 : decode cX2_keep 51 = .ok (.bipush 8, 2) := dk_16 8 (dk_at dksX2_keep_2 7 rfl rfl)
theorem dX2_keep_53 : decode cX2_keep 53 = .ok (.dup2, 1) := dk_92 (dk_at dksX2_keep_2 9 rfl rfl)
theorem dX2_keep_54 : decode cX2_keep 54 = .ok (.iaload, 1) := dk_46 (dk_at dksX2_keep_2 10 rfl rfl)
theorem dX2_keep_55 : decode cX2_keep 55 = .ok (.iconst 1, 1) := dk_4 (dk_at dksX2_keep_2 11 rfl rfl)
theorem dX2_keep_56 : decode cX2_keep 56 = .ok (.isub, 1) := dk_100 (dk_at dksX2_keep_2 12 rfl rfl)
theorem dX2_keep_57 : decode cX2_keep 57 = .ok (.iastore, 1) := dk_79 (dk_at dksX2_keep_2 13 rfl rfl)
theorem dX2_keep_58 : decode cX2_keep 58 = .ok (.sipush 264, 3) := dk_17 1 8 (dk_at dksX2_keep_2 14 rfl rfl)
theorem dX2_keep_61 : decode cX2_keep 61 = .ok (.bipush 48, 2) := dk_16 48 (dk_at dksX2_keep_2 17 rfl rfl)
theorem dX2_keep_63 : decode cX2_keep 63 = .ok (.aload_n 0, 1) := dk_42 (dk_at dksX2_keep_2 19 rfl rfl)
theorem dX2_keep_64 : decode cX2_keep 64 = .ok (.getfield 7, 3) := dk_180 0 7 (dk_at dksX2_keep_2 20 rfl rfl)
theorem dX2_keep_67 : decode cX2_keep 67 = .ok (.bipush 8, 2) := dk_16 8 (dk_at dksX2_keep_3 0 rfl rfl)
theorem dX2_keep_69 : decode cX2_keep 69 = .ok (.iaload, 1) := dk_46 (dk_at dksX2_keep_3 2 rfl rfl)
theorem dX2_keep_70 : decode cX2_keep 70 = .ok (.imul, 1) := dk_104 (dk_at dksX2_keep_3 3 rfl rfl)
theorem dX2_keep_71 : decode cX2_keep 71 = .ok (.iadd, 1) := dk_96 (dk_at dksX2_keep_3 4 rfl rfl)
theorem dX2_keep_72 : decode cX2_keep 72 = .ok (.istore_n 1, 1) := dk_60 (dk_at dksX2_keep_3 5 rfl rfl)
theorem dX2_keep_73 : decode cX2_keep 73 = .ok (.aload_n 0, 1) := dk_42 (dk_at dksX2_keep_3 6 rfl rfl)
theorem dX2_keep_74 : decode cX2_keep 74 = .ok (.getfield 7, 3) := dk_180 0 7 (dk_at dksX2_keep_3 7 rfl rfl)
theorem dX2_keep_77 : decode cX2_keep 77 = .ok (.iload_n 1, 1) := dk_27 (dk_at dksX2_keep_3 10 rfl rfl)
theorem dX2_keep_78 : decode cX2_keep 78 = .ok (.aload_n 0, 1) := dk_42 (dk_at dksX2_keep_3 11 rfl rfl)
theorem dX2_keep_79 : decode cX2_keep 79 = .ok (.getfield 7, 3) := dk_180 0 7 (dk_at dksX2_keep_3 12 rfl rfl)
theorem dX2_keep_82 : decode cX2_keep 82 = .ok (.iconst 0, 1) := dk_3 (dk_at dksX2_keep_3 15 rfl rfl)
theorem dX2_keep_83 : decode cX2_keep 83 = .ok (.iaload, 1) := dk_46 (dk_at dksX2_keep_3 16 rfl rfl)
theorem dX2_keep_84 : decode cX2_keep 84 = .ok (.iastore, 1) := dk_79 (dk_at dksX2_keep_3 17 rfl rfl)
theorem dX2_keep_85 : decode cX2_keep 85 = .ok (.iconst 0, 1) := dk_3 (dk_at dksX2_keep_3 18 rfl rfl)
theorem dX2_keep_86 : decode cX2_keep 86 = .ok (.istore_n 2, 1) := dk_61 (dk_at dksX2_keep_3 19 rfl rfl)
theorem dX2_keep_87 : decode cX2_keep 87 = .ok (.iload_n 2, 1) := dk_28 (dk_at dksX2_keep_3 20 rfl rfl)
theorem dX2_keep_88 : decode cX2_keep 88 = .ok (.bipush 6, 2) := dk_16 6 (dk_at dksX2_keep_3 21 rfl rfl)
theorem dX2_keep_90 : decode cX2_keep 90 = .ok (.if_icmp .ge 29, 3) := dk_162 0 29 (dk_at dksX2_keep_4 0 rfl rfl)
theorem dX2_keep_93 : decode cX2_keep 93 = .ok (.aload_n 0, 1) := dk_42 (dk_at dksX2_keep_4 3 rfl rfl)
theorem dX2_keep_94 : decode cX2_keep 94 = .ok (.getfield 7, 3) := dk_180 0 7 (dk_at dksX2_keep_4 4 rfl rfl)
theorem dX2_keep_97 : decode cX2_keep 97 = .ok (.iload_n 1, 1) := dk_27 (dk_at dksX2_keep_4 7 rfl rfl)
theorem dX2_keep_98 : decode cX2_keep 98 = .ok (.iconst 1, 1) := dk_4 (dk_at dksX2_keep_4 8 rfl rfl)
theorem dX2_keep_99 : decode cX2_keep 99 = .ok (.iadd, 1) := dk_96 (dk_at dksX2_keep_4 9 rfl rfl)
theorem dX2_keep_100 : decode cX2_keep 100 = .ok (.iload_n 2, 1) := dk_28 (dk_at dksX2_keep_4 10 rfl rfl)
theorem dX2_keep_101 : decode cX2_keep 101 = .ok (.iadd, 1) := dk_96 (dk_at dksX2_keep_4 11 rfl rfl)
theorem dX2_keep_102 : decode cX2_keep 102 = .ok (.aload_n 0, 1) := dk_42 (dk_at dksX2_keep_4 12 rfl rfl)
theorem dX2_keep_103 : decode cX2_keep 103 = .ok (.getfield 7, 3) := dk_180 0 7 (dk_at dksX2_keep_4 13 rfl rfl)
theorem dX2_keep_106 : decode cX2_keep 106 = .ok (.sipush 242, 3) := dk_17 0 242 (dk_at dksX2_keep_4 16 rfl rfl)
theorem dX2_keep_109 : decode cX2_keep 109 = .ok (.iload_n 2, 1) := dk_28 (dk_at dksX2_keep_4 19 rfl rfl)
theorem dX2_keep_110 : decode cX2_keep 110 = .ok (.iadd, 1) := dk_96 (dk_at dksX2_keep_4 20 rfl rfl)
theorem dX2_keep_111 : decode cX2_keep 111 = .ok (.iaload, 1) := dk_46 (dk_at dksX2_keep_4 21 rfl rfl)
theorem dX2_keep_112 : decode cX2_keep 112 = .ok (.iastore, 1) := dk_79 (dk_at dksX2_keep_4 22 rfl rfl)
theorem dX2_keep_113 : decode cX2_keep 113 = .ok (.iinc 2 1, 3) := dk_132 2 1 (dk_at dksX2_keep_5 0 rfl rfl)
theorem dX2_keep_116 : decode cX2_keep 116 = .ok (.goto (-29), 3) := dk_167 255 227 (dk_at dksX2_keep_5 3 rfl rfl)
theorem dX2_keep_119 : decode cX2_keep 119 = .ok (.iconst 0, 1) := dk_3 (dk_at dksX2_keep_5 6 rfl rfl)
theorem dX2_keep_120 : decode cX2_keep 120 = .ok (.istore_n 2, 1) := dk_61 (dk_at dksX2_keep_5 7 rfl rfl)
theorem dX2_keep_121 : decode cX2_keep 121 = .ok (.iload_n 2, 1) := dk_28 (dk_at dksX2_keep_5 8 rfl rfl)
theorem dX2_keep_122 : decode cX2_keep 122 = .ok (.bipush 36, 2) := dk_16 36 (dk_at dksX2_keep_5 9 rfl rfl)
theorem dX2_keep_124 : decode cX2_keep 124 = .ok (.if_icmp .ge 29, 3) := dk_162 0 29 (dk_at dksX2_keep_5 11 rfl rfl)
theorem dX2_keep_127 : decode cX2_keep 127 = .ok (.aload_n 0, 1) := dk_42 (dk_at dksX2_keep_5 14 rfl rfl)
theorem dX2_keep_128 : decode cX2_keep 128 = .ok (.getfield 7, 3) := dk_180 0 7 (dk_at dksX2_keep_5 15 rfl rfl)
theorem dX2_keep_131 : decode cX2_keep 131 = .ok (.iload_n 1, 1) := dk_27 (dk_at dksX2_keep_5 18 rfl rfl)
theorem dX2_keep_132 : decode cX2_keep 132 = .ok (.bipush 7, 2) := dk_16 7 (dk_at dksX2_keep_5 19 rfl rfl)
theorem dX2_keep_134 : decode cX2_keep 134 = .ok (.iadd, 1) := dk_96 (dk_at dksX2_keep_5 21 rfl rfl)
theorem dX2_keep_135 : decode cX2_keep 135 = .ok (.iload_n 2, 1) := dk_28 (dk_at dksX2_keep_5 22 rfl rfl)
theorem dX2_keep_136 : decode cX2_keep 136 = .ok (.iadd, 1) := dk_96 (dk_at dksX2_keep_5 23 rfl rfl)
theorem dX2_keep_137 : decode cX2_keep 137 = .ok (.aload_n 0, 1) := dk_42 (dk_at dksX2_keep_6 0 rfl rfl)
theorem dX2_keep_138 : decode cX2_keep 138 = .ok (.getfield 7, 3) := dk_180 0 7 (dk_at dksX2_keep_6 1 rfl rfl)
theorem dX2_keep_141 : decode cX2_keep 141 = .ok (.bipush 18, 2) := dk_16 18 (dk_at dksX2_keep_6 4 rfl rfl)
theorem dX2_keep_143 : decode cX2_keep 143 = .ok (.iload_n 2, 1) := dk_28 (dk_at dksX2_keep_6 6 rfl rfl)
theorem dX2_keep_144 : decode cX2_keep 144 = .ok (.iadd, 1) := dk_96 (dk_at dksX2_keep_6 7 rfl rfl)
theorem dX2_keep_145 : decode cX2_keep 145 = .ok (.iaload, 1) := dk_46 (dk_at dksX2_keep_6 8 rfl rfl)
theorem dX2_keep_146 : decode cX2_keep 146 = .ok (.iastore, 1) := dk_79 (dk_at dksX2_keep_6 9 rfl rfl)
theorem dX2_keep_147 : decode cX2_keep 147 = .ok (.iinc 2 1, 3) := dk_132 2 1 (dk_at dksX2_keep_6 10 rfl rfl)
theorem dX2_keep_150 : decode cX2_keep 150 = .ok (.goto (-29), 3) := dk_167 255 227 (dk_at dksX2_keep_6 13 rfl rfl)
theorem dX2_keep_153 : decode cX2_keep 153 = .ok (.aload_n 0, 1) := dk_42 (dk_at dksX2_keep_6 16 rfl rfl)
theorem dX2_keep_154 : decode cX2_keep 154 = .ok (.getfield 7, 3) := dk_180 0 7 (dk_at dksX2_keep_6 17 rfl rfl)
theorem dX2_keep_157 : decode cX2_keep 157 = .ok (.iload_n 1, 1) := dk_27 (dk_at dksX2_keep_6 20 rfl rfl)
theorem dX2_keep_158 : decode cX2_keep 158 = .ok (.bipush 43, 2) := dk_16 43 (dk_at dksX2_keep_6 21 rfl rfl)
theorem dX2_keep_160 : decode cX2_keep 160 = .ok (.iadd, 1) := dk_96 (dk_at dksX2_keep_6 23 rfl rfl)
theorem dX2_keep_161 : decode cX2_keep 161 = .ok (.aload_n 0, 1) := dk_42 (dk_at dksX2_keep_7 0 rfl rfl)
theorem dX2_keep_162 : decode cX2_keep 162 = .ok (.getfield 7, 3) := dk_180 0 7 (dk_at dksX2_keep_7 1 rfl rfl)
theorem dX2_keep_165 : decode cX2_keep 165 = .ok (.iconst 4, 1) := dk_7 (dk_at dksX2_keep_7 4 rfl rfl)
theorem dX2_keep_166 : decode cX2_keep 166 = .ok (.iaload, 1) := dk_46 (dk_at dksX2_keep_7 5 rfl rfl)
theorem dX2_keep_167 : decode cX2_keep 167 = .ok (.iastore, 1) := dk_79 (dk_at dksX2_keep_7 6 rfl rfl)
theorem dX2_keep_168 : decode cX2_keep 168 = .ok (.aload_n 0, 1) := dk_42 (dk_at dksX2_keep_7 7 rfl rfl)
theorem dX2_keep_169 : decode cX2_keep 169 = .ok (.getfield 7, 3) := dk_180 0 7 (dk_at dksX2_keep_7 8 rfl rfl)
theorem dX2_keep_172 : decode cX2_keep 172 = .ok (.iload_n 1, 1) := dk_27 (dk_at dksX2_keep_7 11 rfl rfl)
theorem dX2_keep_173 : decode cX2_keep 173 = .ok (.bipush 44, 2) := dk_16 44 (dk_at dksX2_keep_7 12 rfl rfl)
theorem dX2_keep_175 : decode cX2_keep 175 = .ok (.iadd, 1) := dk_96 (dk_at dksX2_keep_7 14 rfl rfl)
theorem dX2_keep_176 : decode cX2_keep 176 = .ok (.aload_n 0, 1) := dk_42 (dk_at dksX2_keep_7 15 rfl rfl)
theorem dX2_keep_177 : decode cX2_keep 177 = .ok (.getfield 7, 3) := dk_180 0 7 (dk_at dksX2_keep_7 16 rfl rfl)
theorem dX2_keep_180 : decode cX2_keep 180 = .ok (.bipush 11, 2) := dk_16 11 (dk_at dksX2_keep_7 19 rfl rfl)
theorem dX2_keep_182 : decode cX2_keep 182 = .ok (.iaload, 1) := dk_46 (dk_at dksX2_keep_7 21 rfl rfl)
theorem dX2_keep_183 : decode cX2_keep 183 = .ok (.iastore, 1) := dk_79 (dk_at dksX2_keep_7 22 rfl rfl)
theorem dX2_keep_184 : decode cX2_keep 184 = .ok (.aload_n 0, 1) := dk_42 (dk_at dksX2_keep_7 23 rfl rfl)
theorem dX2_keep_185 : decode cX2_keep 185 = .ok (.getfield 7, 3) := dk_180 0 7 (dk_at dksX2_keep_8 0 rfl rfl)
theorem dX2_keep_188 : decode cX2_keep 188 = .ok (.iload_n 1, 1) := dk_27 (dk_at dksX2_keep_8 3 rfl rfl)
theorem dX2_keep_189 : decode cX2_keep 189 = .ok (.bipush 45, 2) := dk_16 45 (dk_at dksX2_keep_8 4 rfl rfl)
theorem dX2_keep_191 : decode cX2_keep 191 = .ok (.iadd, 1) := dk_96 (dk_at dksX2_keep_8 6 rfl rfl)
theorem dX2_keep_192 : decode cX2_keep 192 = .ok (.aload_n 0, 1) := dk_42 (dk_at dksX2_keep_8 7 rfl rfl)
theorem dX2_keep_193 : decode cX2_keep 193 = .ok (.getfield 7, 3) := dk_180 0 7 (dk_at dksX2_keep_8 8 rfl rfl)
theorem dX2_keep_196 : decode cX2_keep 196 = .ok (.iconst 5, 1) := dk_8 (dk_at dksX2_keep_8 11 rfl rfl)
theorem dX2_keep_197 : decode cX2_keep 197 = .ok (.iaload, 1) := dk_46 (dk_at dksX2_keep_8 12 rfl rfl)
theorem dX2_keep_198 : decode cX2_keep 198 = .ok (.iastore, 1) := dk_79 (dk_at dksX2_keep_8 13 rfl rfl)
theorem dX2_keep_199 : decode cX2_keep 199 = .ok (.aload_n 0, 1) := dk_42 (dk_at dksX2_keep_8 14 rfl rfl)
theorem dX2_keep_200 : decode cX2_keep 200 = .ok (.getfield 7, 3) := dk_180 0 7 (dk_at dksX2_keep_8 15 rfl rfl)
theorem dX2_keep_203 : decode cX2_keep 203 = .ok (.bipush 8, 2) := dk_16 8 (dk_at dksX2_keep_8 18 rfl rfl)
theorem dX2_keep_205 : decode cX2_keep 205 = .ok (.dup2, 1) := dk_92 (dk_at dksX2_keep_8 20 rfl rfl)
theorem dX2_keep_206 : decode cX2_keep 206 = .ok (.iaload, 1) := dk_46 (dk_at dksX2_keep_8 21 rfl rfl)
theorem dX2_keep_207 : decode cX2_keep 207 = .ok (.iconst 1, 1) := dk_4 (dk_at dksX2_keep_8 22 rfl rfl)
theorem dX2_keep_208 : decode cX2_keep 208 = .ok (.iadd, 1) := dk_96 (dk_at dksX2_keep_8 23 rfl rfl)
theorem dX2_keep_209 : decode cX2_keep 209 = .ok (.iastore, 1) := dk_79 (dk_at dksX2_keep_9 0 rfl rfl)
theorem dX2_keep_210 : decode cX2_keep 210 = .ok (.return_, 1) := dk_177 (dk_at dksX2_keep_9 1 rfl rfl)
abbrev cX2_weigh : ByteArray := prog_15_method_76_code
def yX2_weigh : MethodName := ⟨RX2, "weigh", "(I)I"⟩
def dkwX2_weigh_1 : List UInt8 := [182, 1, 66, 42, 180, 0, 7, 17, 0, 244, 46, 172]
abbrev dktX2_weigh_1 : List UInt8 := dkwX2_weigh_1 ++ []
def dkwX2_weigh_0 : List UInt8 := [42, 27, 182, 0, 88, 154, 0, 7, 19, 1, 65, 172, 42, 182, 1, 62, 42, 27, 42, 180, 0, 7, 6, 46]
abbrev dktX2_weigh_0 : List UInt8 := dkwX2_weigh_0 ++ dktX2_weigh_1
theorem dksX2_weigh_0 : cX2_weigh.data.toList.drop 0 = dktX2_weigh_0 := by decide +kernel
theorem dksX2_weigh_1 : cX2_weigh.data.toList.drop 24 = dktX2_weigh_1 := dk_seg dksX2_weigh_0 24 rfl rfl
theorem dX2_weigh_0 : decode cX2_weigh 0 = .ok (.aload_n 0, 1) := dk_42 (dk_at dksX2_weigh_0 0 rfl rfl)
theorem dX2_weigh_1 : decode cX2_weigh 1 = .ok (.iload_n 1, 1) := dk_27 (dk_at dksX2_weigh_0 1 rfl rfl)
theorem dX2_weigh_2 : decode cX2_weigh 2 = .ok (.invokevirtual 88, 3) := dk_182 0 88 (dk_at dksX2_weigh_0 2 rfl rfl)
theorem dX2_weigh_5 : decode cX2_weigh 5 = .ok (.ifCond .ne 7, 3) := dk_154 0 7 (dk_at dksX2_weigh_0 5 rfl rfl)
theorem dX2_weigh_8 : decode cX2_weigh 8 = .ok (.ldc_w 321, 3) := dk_19 1 65 (dk_at dksX2_weigh_0 8 rfl rfl)
theorem dX2_weigh_11 : decode cX2_weigh 11 = .ok (.ireturn, 1) := dk_172 (dk_at dksX2_weigh_0 11 rfl rfl)
theorem dX2_weigh_12 : decode cX2_weigh 12 = .ok (.aload_n 0, 1) := dk_42 (dk_at dksX2_weigh_0 12 rfl rfl)
theorem dX2_weigh_13 : decode cX2_weigh 13 = .ok (.invokevirtual 318, 3) := dk_182 1 62 (dk_at dksX2_weigh_0 13 rfl rfl)
theorem dX2_weigh_16 : decode cX2_weigh 16 = .ok (.aload_n 0, 1) := dk_42 (dk_at dksX2_weigh_0 16 rfl rfl)
theorem dX2_weigh_17 : decode cX2_weigh 17 = .ok (.iload_n 1, 1) := dk_27 (dk_at dksX2_weigh_0 17 rfl rfl)
theorem dX2_weigh_18 : decode cX2_weigh 18 = .ok (.aload_n 0, 1) := dk_42 (dk_at dksX2_weigh_0 18 rfl rfl)
theorem dX2_weigh_19 : decode cX2_weigh 19 = .ok (.getfield 7, 3) := dk_180 0 7 (dk_at dksX2_weigh_0 19 rfl rfl)
theorem dX2_weigh_22 : decode cX2_weigh 22 = .ok (.iconst 3, 1) := dk_6 (dk_at dksX2_weigh_0 22 rfl rfl)
theorem dX2_weigh_23 : decode cX2_weigh 23 = .ok (.iaload, 1) := dk_46 (dk_at dksX2_weigh_0 23 rfl rfl)
theorem dX2_weigh_24 : decode cX2_weigh 24 = .ok (.invokevirtual 322, 3) := dk_182 1 66 (dk_at dksX2_weigh_1 0 rfl rfl)
theorem dX2_weigh_27 : decode cX2_weigh 27 = .ok (.aload_n 0, 1) := dk_42 (dk_at dksX2_weigh_1 3 rfl rfl)
theorem dX2_weigh_28 : decode cX2_weigh 28 = .ok (.getfield 7, 3) := dk_180 0 7 (dk_at dksX2_weigh_1 4 rfl rfl)
theorem dX2_weigh_31 : decode cX2_weigh 31 = .ok (.sipush 244, 3) := dk_17 0 244 (dk_at dksX2_weigh_1 7 rfl rfl)
theorem dX2_weigh_34 : decode cX2_weigh 34 = .ok (.iaload, 1) := dk_46 (dk_at dksX2_weigh_1 10 rfl rfl)
theorem dX2_weigh_35 : decode cX2_weigh 35 = .ok (.ireturn, 1) := dk_172 (dk_at dksX2_weigh_1 11 rfl rfl)
abbrev cX2_weighNow : ByteArray := prog_15_method_66_code
def yX2_weighNow : MethodName := ⟨RX2, "weighNow", "(II)V"⟩
def dkwX2_weighNow_2 : List UInt8 := [79, 42, 28, 182, 1, 44, 177]
abbrev dktX2_weighNow_2 : List UInt8 := dkwX2_weighNow_2 ++ []
def dkwX2_weighNow_1 : List UInt8 := [167, 255, 236, 42, 180, 0, 7, 17, 0, 242, 27, 79, 42, 180, 0, 7, 17, 0, 243, 42, 27, 182, 1, 41]
abbrev dktX2_weighNow_1 : List UInt8 := dkwX2_weighNow_1 ++ dktX2_weighNow_2
def dkwX2_weighNow_0 : List UInt8 := [3, 62, 29, 16, 6, 162, 0, 20, 42, 180, 0, 7, 17, 0, 242, 29, 96, 3, 79, 132, 3, 1]
abbrev dktX2_weighNow_0 : List UInt8 := dkwX2_weighNow_0 ++ dktX2_weighNow_1
theorem dksX2_weighNow_0 : cX2_weighNow.data.toList.drop 0 = dktX2_weighNow_0 := by decide +kernel
theorem dksX2_weighNow_1 : cX2_weighNow.data.toList.drop 22 = dktX2_weighNow_1 := dk_seg dksX2_weighNow_0 22 rfl rfl
theorem dksX2_weighNow_2 : cX2_weighNow.data.toList.drop 46 = dktX2_weighNow_2 := dk_seg dksX2_weighNow_1 24 rfl rfl
theorem dX2_weighNow_0 : decode cX2_weighNow 0 = .ok (.iconst 0, 1) := dk_3 (dk_at dksX2_weighNow_0 0 rfl rfl)
theorem dX2_weighNow_1 : decode cX2_weighNow 1 = .ok (.istore_n 3, 1) := dk_62 (dk_at dksX2_weighNow_0 1 rfl rfl)
theorem dX2_weighNow_2 : decode cX2_weighNow 2 = .ok (.iload_n 3, 1) := dk_29 (dk_at dksX2_weighNow_0 2 rfl rfl)
theorem dX2_weighNow_3 : decode cX2_weighNow 3 = .ok (.bipush 6, 2) := dk_16 6 (dk_at dksX2_weighNow_0 3 rfl rfl)
theorem dX2_weighNow_5 : decode cX2_weighNow 5 = .ok (.if_icmp .ge 20, 3) := dk_162 0 20 (dk_at dksX2_weighNow_0 5 rfl rfl)
theorem dX2_weighNow_8 : decode cX2_weighNow 8 = .ok (.aload_n 0, 1) := dk_42 (dk_at dksX2_weighNow_0 8 rfl rfl)
theorem dX2_weighNow_9 : decode cX2_weighNow 9 = .ok (.getfield 7, 3) := dk_180 0 7 (dk_at dksX2_weighNow_0 9 rfl rfl)
theorem dX2_weighNow_12 : decode cX2_weighNow 12 = .ok (.sipush 242, 3) := dk_17 0 242 (dk_at dksX2_weighNow_0 12 rfl rfl)
theorem dX2_weighNow_15 : decode cX2_weighNow 15 = .ok (.iload_n 3, 1) := dk_29 (dk_at dksX2_weighNow_0 15 rfl rfl)
theorem dX2_weighNow_16 : decode cX2_weighNow 16 = .ok (.iadd, 1) := dk_96 (dk_at dksX2_weighNow_0 16 rfl rfl)
theorem dX2_weighNow_17 : decode cX2_weighNow 17 = .ok (.iconst 0, 1) := dk_3 (dk_at dksX2_weighNow_0 17 rfl rfl)
theorem dX2_weighNow_18 : decode cX2_weighNow 18 = .ok (.iastore, 1) := dk_79 (dk_at dksX2_weighNow_0 18 rfl rfl)
theorem dX2_weighNow_19 : decode cX2_weighNow 19 = .ok (.iinc 3 1, 3) := dk_132 3 1 (dk_at dksX2_weighNow_0 19 rfl rfl)
theorem dX2_weighNow_22 : decode cX2_weighNow 22 = .ok (.goto (-20), 3) := dk_167 255 236 (dk_at dksX2_weighNow_1 0 rfl rfl)
theorem dX2_weighNow_25 : decode cX2_weighNow 25 = .ok (.aload_n 0, 1) := dk_42 (dk_at dksX2_weighNow_1 3 rfl rfl)
theorem dX2_weighNow_26 : decode cX2_weighNow 26 = .ok (.getfield 7, 3) := dk_180 0 7 (dk_at dksX2_weighNow_1 4 rfl rfl)
theorem dX2_weighNow_29 : decode cX2_weighNow 29 = .ok (.sipush 242, 3) := dk_17 0 242 (dk_at dksX2_weighNow_1 7 rfl rfl)
theorem dX2_weighNow_32 : decode cX2_weighNow 32 = .ok (.iload_n 1, 1) := dk_27 (dk_at dksX2_weighNow_1 10 rfl rfl)
theorem dX2_weighNow_33 : decode cX2_weighNow 33 = .ok (.iastore, 1) := dk_79 (dk_at dksX2_weighNow_1 11 rfl rfl)
theorem dX2_weighNow_34 : decode cX2_weighNow 34 = .ok (.aload_n 0, 1) := dk_42 (dk_at dksX2_weighNow_1 12 rfl rfl)
theorem dX2_weighNow_35 : decode cX2_weighNow 35 = .ok (.getfield 7, 3) := dk_180 0 7 (dk_at dksX2_weighNow_1 13 rfl rfl)
theorem dX2_weighNow_38 : decode cX2_weighNow 38 = .ok (.sipush 243, 3) := dk_17 0 243 (dk_at dksX2_weighNow_1 16 rfl rfl)
theorem dX2_weighNow_41 : decode cX2_weighNow 41 = .ok (.aload_n 0, 1) := dk_42 (dk_at dksX2_weighNow_1 19 rfl rfl)
theorem dX2_weighNow_42 : decode cX2_weighNow 42 = .ok (.iload_n 1, 1) := dk_27 (dk_at dksX2_weighNow_1 20 rfl rfl)
theorem dX2_weighNow_43 : decode cX2_weighNow 43 = .ok (.invokevirtual 297, 3) := dk_182 1 41 (dk_at dksX2_weighNow_1 21 rfl rfl)
theorem dX2_weighNow_46 : decode cX2_weighNow 46 = .ok (.iastore, 1) := dk_79 (dk_at dksX2_weighNow_2 0 rfl rfl)
theorem dX2_weighNow_47 : decode cX2_weighNow 47 = .ok (.aload_n 0, 1) := dk_42 (dk_at dksX2_weighNow_2 1 rfl rfl)
theorem dX2_weighNow_48 : decode cX2_weighNow 48 = .ok (.iload_n 2, 1) := dk_28 (dk_at dksX2_weighNow_2 2 rfl rfl)
theorem dX2_weighNow_49 : decode cX2_weighNow 49 = .ok (.invokevirtual 300, 3) := dk_182 1 44 (dk_at dksX2_weighNow_2 3 rfl rfl)
theorem dX2_weighNow_52 : decode cX2_weighNow 52 = .ok (.return_, 1) := dk_177 (dk_at dksX2_weighNow_2 6 rfl rfl)
abbrev cX2_lentOf : ByteArray := prog_15_method_12_code
def yX2_lentOf : MethodName := ⟨RX2, "lentOf", "(I)I"⟩
def dkwX2_lentOf_2 : List UInt8 := [28, 172]
abbrev dktX2_lentOf_2 : List UInt8 := dkwX2_lentOf_2 ++ []
def dkwX2_lentOf_1 : List UInt8 := [46, 42, 180, 0, 7, 16, 18, 16, 6, 27, 104, 96, 29, 96, 46, 100, 96, 61, 132, 3, 1, 167, 255, 215]
abbrev dktX2_lentOf_1 : List UInt8 := dkwX2_lentOf_1 ++ dktX2_lentOf_2
def dkwX2_lentOf_0 : List UInt8 := [3, 61, 3, 62, 29, 16, 6, 162, 0, 41, 28, 42, 180, 0, 7, 16, 18, 16, 6, 29, 104, 96, 27, 96]
abbrev dktX2_lentOf_0 : List UInt8 := dkwX2_lentOf_0 ++ dktX2_lentOf_1
theorem dksX2_lentOf_0 : cX2_lentOf.data.toList.drop 0 = dktX2_lentOf_0 := by decide +kernel
theorem dksX2_lentOf_1 : cX2_lentOf.data.toList.drop 24 = dktX2_lentOf_1 := dk_seg dksX2_lentOf_0 24 rfl rfl
theorem dksX2_lentOf_2 : cX2_lentOf.data.toList.drop 48 = dktX2_lentOf_2 := dk_seg dksX2_lentOf_1 24 rfl rfl
theorem dX2_lentOf_0 : decode cX2_lentOf 0 = .ok (.iconst 0, 1) := dk_3 (dk_at dksX2_lentOf_0 0 rfl rfl)
theorem dX2_lentOf_1 : decode cX2_lentOf 1 = .ok (.istore_n 2, 1) := dk_61 (dk_at dksX2_lentOf_0 1 rfl rfl)
theorem dX2_lentOf_2 : decode cX2_lentOf 2 = .ok (.iconst 0, 1) := dk_3 (dk_at dksX2_lentOf_0 2 rfl rfl)
theorem dX2_lentOf_3 : decode cX2_lentOf 3 = .ok (.istore_n 3, 1) := dk_62 (dk_at dksX2_lentOf_0 3 rfl rfl)
theorem dX2_lentOf_4 : decode cX2_lentOf 4 = .ok (.iload_n 3, 1) := dk_29 (dk_at dksX2_lentOf_0 4 rfl rfl)
theorem dX2_lentOf_5 : decode cX2_lentOf 5 = .ok (.bipush 6, 2) := dk_16 6 (dk_at dksX2_lentOf_0 5 rfl rfl)
theorem dX2_lentOf_7 : decode cX2_lentOf 7 = .ok (.if_icmp .ge 41, 3) := dk_162 0 41 (dk_at dksX2_lentOf_0 7 rfl rfl)
theorem dX2_lentOf_10 : decode cX2_lentOf 10 = .ok (.iload_n 2, 1) := dk_28 (dk_at dksX2_lentOf_0 10 rfl rfl)
theorem dX2_lentOf_11 : decode cX2_lentOf 11 = .ok (.aload_n 0, 1) := dk_42 (dk_at dksX2_lentOf_0 11 rfl rfl)
theorem dX2_lentOf_12 : decode cX2_lentOf 12 = .ok (.getfield 7, 3) := dk_180 0 7 (dk_at dksX2_lentOf_0 12 rfl rfl)
theorem dX2_lentOf_15 : decode cX2_lentOf 15 = .ok (.bipush 18, 2) := dk_16 18 (dk_at dksX2_lentOf_0 15 rfl rfl)
theorem dX2_lentOf_17 : decode cX2_lentOf 17 = .ok (.bipush 6, 2) := dk_16 6 (dk_at dksX2_lentOf_0 17 rfl rfl)
theorem dX2_lentOf_19 : decode cX2_lentOf 19 = .ok (.iload_n 3, 1) := dk_29 (dk_at dksX2_lentOf_0 19 rfl rfl)
theorem dX2_lentOf_20 : decode cX2_lentOf 20 = .ok (.imul, 1) := dk_104 (dk_at dksX2_lentOf_0 20 rfl rfl)
theorem dX2_lentOf_21 : decode cX2_lentOf 21 = .ok (.iadd, 1) := dk_96 (dk_at dksX2_lentOf_0 21 rfl rfl)
theorem dX2_lentOf_22 : decode cX2_lentOf 22 = .ok (.iload_n 1, 1) := dk_27 (dk_at dksX2_lentOf_0 22 rfl rfl)
theorem dX2_lentOf_23 : decode cX2_lentOf 23 = .ok (.iadd, 1) := dk_96 (dk_at dksX2_lentOf_0 23 rfl rfl)
theorem dX2_lentOf_24 : decode cX2_lentOf 24 = .ok (.iaload, 1) := dk_46 (dk_at dksX2_lentOf_1 0 rfl rfl)
theorem dX2_lentOf_25 : decode cX2_lentOf 25 = .ok (.aload_n 0, 1) := dk_42 (dk_at dksX2_lentOf_1 1 rfl rfl)
theorem dX2_lentOf_26 : decode cX2_lentOf 26 = .ok (.getfield 7, 3) := dk_180 0 7 (dk_at dksX2_lentOf_1 2 rfl rfl)
theorem dX2_lentOf_29 : decode cX2_lentOf 29 = .ok (.bipush 18, 2) := dk_16 18 (dk_at dksX2_lentOf_1 5 rfl rfl)
theorem dX2_lentOf_31 : decode cX2_lentOf 31 = .ok (.bipush 6, 2) := dk_16 6 (dk_at dksX2_lentOf_1 7 rfl rfl)
theorem dX2_lentOf_33 : decode cX2_lentOf 33 = .ok (.iload_n 1, 1) := dk_27 (dk_at dksX2_lentOf_1 9 rfl rfl)
theorem dX2_lentOf_34 : decode cX2_lentOf 34 = .ok (.imul, 1) := dk_104 (dk_at dksX2_lentOf_1 10 rfl rfl)
theorem dX2_lentOf_35 : decode cX2_lentOf 35 = .ok (.iadd, 1) := dk_96 (dk_at dksX2_lentOf_1 11 rfl rfl)
theorem dX2_lentOf_36 : decode cX2_lentOf 36 = .ok (.iload_n 3, 1) := dk_29 (dk_at dksX2_lentOf_1 12 rfl rfl)
theorem dX2_lentOf_37 : decode cX2_lentOf 37 = .ok (.iadd, 1) := dk_96 (dk_at dksX2_lentOf_1 13 rfl rfl)
theorem dX2_lentOf_38 : decode cX2_lentOf 38 = .ok (.iaload, 1) := dk_46 (dk_at dksX2_lentOf_1 14 rfl rfl)
theorem dX2_lentOf_39 : decode cX2_lentOf 39 = .ok (.isub, 1) := dk_100 (dk_at dksX2_lentOf_1 15 rfl rfl)
theorem dX2_lentOf_40 : decode cX2_lentOf 40 = .ok (.iadd, 1) := dk_96 (dk_at dksX2_lentOf_1 16 rfl rfl)
theorem dX2_lentOf_41 : decode cX2_lentOf 41 = .ok (.istore_n 2, 1) := dk_61 (dk_at dksX2_lentOf_1 17 rfl rfl)
theorem dX2_lentOf_42 : decode cX2_lentOf 42 = .ok (.iinc 3 1, 3) := dk_132 3 1 (dk_at dksX2_lentOf_1 18 rfl rfl)
theorem dX2_lentOf_45 : decode cX2_lentOf 45 = .ok (.goto (-41), 3) := dk_167 255 215 (dk_at dksX2_lentOf_1 21 rfl rfl)
theorem dX2_lentOf_48 : decode cX2_lentOf 48 = .ok (.iload_n 2, 1) := dk_28 (dk_at dksX2_lentOf_2 0 rfl rfl)
theorem dX2_lentOf_49 : decode cX2_lentOf 49 = .ok (.ireturn, 1) := dk_172 (dk_at dksX2_lentOf_2 1 rfl rfl)
abbrev cX2_settle : ByteArray := prog_15_method_65_code
def yX2_settle : MethodName := ⟨RX2, "settle", "(I)V"⟩
def dkwX2_settle_4 : List UInt8 := [180, 0, 7, 28, 5, 96, 42, 180, 0, 7, 28, 4, 96, 46, 79, 177]
abbrev dktX2_settle_4 : List UInt8 := dkwX2_settle_4 ++ []
def dkwX2_settle_3 : List UInt8 := [180, 0, 7, 28, 4, 96, 46, 100, 54, 4, 21, 4, 29, 163, 0, 10, 21, 4, 116, 29, 164, 0, 19, 42]
abbrev dktX2_settle_3 : List UInt8 := dkwX2_settle_3 ++ dktX2_settle_4
def dkwX2_settle_2 : List UInt8 := [180, 0, 7, 28, 3, 96, 46, 27, 3, 16, 99, 182, 1, 28, 62, 42, 180, 0, 7, 28, 5, 96, 46, 42]
abbrev dktX2_settle_2 : List UInt8 := dkwX2_settle_2 ++ dktX2_settle_3
def dkwX2_settle_1 : List UInt8 := [16, 9, 42, 180, 0, 7, 28, 7, 96, 46, 184, 1, 38, 79, 42, 42, 180, 0, 7, 16, 7, 46, 4, 42]
abbrev dktX2_settle_1 : List UInt8 := dkwX2_settle_1 ++ dktX2_settle_2
def dkwX2_settle_0 : List UInt8 := [17, 0, 242, 61, 42, 180, 0, 32, 16, 8, 42, 180, 0, 7, 28, 5, 96, 46, 79, 42, 180, 0, 32]
abbrev dktX2_settle_0 : List UInt8 := dkwX2_settle_0 ++ dktX2_settle_1
theorem dksX2_settle_0 : cX2_settle.data.toList.drop 0 = dktX2_settle_0 := by decide +kernel
theorem dksX2_settle_1 : cX2_settle.data.toList.drop 23 = dktX2_settle_1 := dk_seg dksX2_settle_0 23 rfl rfl
theorem dksX2_settle_2 : cX2_settle.data.toList.drop 47 = dktX2_settle_2 := dk_seg dksX2_settle_1 24 rfl rfl
theorem dksX2_settle_3 : cX2_settle.data.toList.drop 71 = dktX2_settle_3 := dk_seg dksX2_settle_2 24 rfl rfl
theorem dksX2_settle_4 : cX2_settle.data.toList.drop 95 = dktX2_settle_4 := dk_seg dksX2_settle_3 24 rfl rfl
theorem dX2_settle_0 : decode cX2_settle 0 = .ok (.sipush 242, 3) := dk_17 0 242 (dk_at dksX2_settle_0 0 rfl rfl)
theorem dX2_settle_3 : decode cX2_settle 3 = .ok (.istore_n 2, 1) := dk_61 (dk_at dksX2_settle_0 3 rfl rfl)
theorem dX2_settle_4 : decode cX2_settle 4 = .ok (.aload_n 0, 1) := dk_42 (dk_at dksX2_settle_0 4 rfl rfl)
theorem dX2_settle_5 : decode cX2_settle 5 = .ok (.getfield 32, 3) := dk_180 0 32 (dk_at dksX2_settle_0 5 rfl rfl)
theorem dX2_settle_8 : decode cX2_settle 8 = .ok (.bipush 8, 2) := dk_16 8 (dk_at dksX2_settle_0 8 rfl rfl)
theorem dX2_settle_10 : decode cX2_settle 10 = .ok (.aload_n 0, 1) := dk_42 (dk_at dksX2_settle_0 10 rfl rfl)
theorem dX2_settle_11 : decode cX2_settle 11 = .ok (.getfield 7, 3) := dk_180 0 7 (dk_at dksX2_settle_0 11 rfl rfl)
theorem dX2_settle_14 : decode cX2_settle 14 = .ok (.iload_n 2, 1) := dk_28 (dk_at dksX2_settle_0 14 rfl rfl)
theorem dX2_settle_15 : decode cX2_settle 15 = .ok (.iconst 2, 1) := dk_5 (dk_at dksX2_settle_0 15 rfl rfl)
theorem dX2_settle_16 : decode cX2_settle 16 = .ok (.iadd, 1) := dk_96 (dk_at dksX2_settle_0 16 rfl rfl)
theorem dX2_settle_17 : decode cX2_settle 17 = .ok (.iaload, 1) := dk_46 (dk_at dksX2_settle_0 17 rfl rfl)
theorem dX2_settle_18 : decode cX2_settle 18 = .ok (.iastore, 1) := dk_79 (dk_at dksX2_settle_0 18 rfl rfl)
theorem dX2_settle_19 : decode cX2_settle 19 = .ok (.aload_n 0, 1) := dk_42 (dk_at dksX2_settle_0 19 rfl rfl)
theorem dX2_settle_20 : decode cX2_settle 20 = .ok (.getfield 32, 3) := dk_180 0 32 (dk_at dksX2_settle_0 20 rfl rfl)
theorem dX2_settle_23 : decode cX2_settle 23 = .ok (.bipush 9, 2) := dk_16 9 (dk_at dksX2_settle_1 0 rfl rfl)
theorem dX2_settle_25 : decode cX2_settle 25 = .ok (.aload_n 0, 1) := dk_42 (dk_at dksX2_settle_1 2 rfl rfl)
theorem dX2_settle_26 : decode cX2_settle 26 = .ok (.getfield 7, 3) := dk_180 0 7 (dk_at dksX2_settle_1 3 rfl rfl)
theorem dX2_settle_29 : decode cX2_settle 29 = .ok (.iload_n 2, 1) := dk_28 (dk_at dksX2_settle_1 6 rfl rfl)
theorem dX2_settle_30 : decode cX2_settle 30 = .ok (.iconst 4, 1) := dk_7 (dk_at dksX2_settle_1 7 rfl rfl)
theorem dX2_settle_31 : decode cX2_settle 31 = .ok (.iadd, 1) := dk_96 (dk_at dksX2_settle_1 8 rfl rfl)
theorem dX2_settle_32 : decode cX2_settle 32 = .ok (.iaload, 1) := dk_46 (dk_at dksX2_settle_1 9 rfl rfl)
theorem dX2_settle_33 : decode cX2_settle 33 = .ok (.invokestatic 294, 3) := dk_184 1 38 (dk_at dksX2_settle_1 10 rfl rfl)
theorem dX2_settle_36 : decode cX2_settle 36 = .ok (.iastore, 1) := dk_79 (dk_at dksX2_settle_1 13 rfl rfl)
theorem dX2_settle_37 : decode cX2_settle 37 = .ok (.aload_n 0, 1) := dk_42 (dk_at dksX2_settle_1 14 rfl rfl)
theorem dX2_settle_38 : decode cX2_settle 38 = .ok (.aload_n 0, 1) := dk_42 (dk_at dksX2_settle_1 15 rfl rfl)
theorem dX2_settle_39 : decode cX2_settle 39 = .ok (.getfield 7, 3) := dk_180 0 7 (dk_at dksX2_settle_1 16 rfl rfl)
theorem dX2_settle_42 : decode cX2_settle 42 = .ok (.bipush 7, 2) := dk_16 7 (dk_at dksX2_settle_1 19 rfl rfl)
theorem dX2_settle_44 : decode cX2_settle 44 = .ok (.iaload, 1) := dk_46 (dk_at dksX2_settle_1 21 rfl rfl)
theorem dX2_settle_45 : decode cX2_settle 45 = .ok (.iconst 1, 1) := dk_4 (dk_at dksX2_settle_1 22 rfl rfl)
theorem dX2_settle_46 : decode cX2_settle 46 = .ok (.aload_n 0, 1) := dk_42 (dk_at dksX2_settle_1 23 rfl rfl)
theorem dX2_settle_47 : decode cX2_settle 47 = .ok (.getfield 7, 3) := dk_180 0 7 (dk_at dksX2_settle_2 0 rfl rfl)
theorem dX2_settle_50 : decode cX2_settle 50 = .ok (.iload_n 2, 1) := dk_28 (dk_at dksX2_settle_2 3 rfl rfl)
theorem dX2_settle_51 : decode cX2_settle 51 = .ok (.iconst 0, 1) := dk_3 (dk_at dksX2_settle_2 4 rfl rfl)
theorem dX2_settle_52 : decode cX2_settle 52 = .ok (.iadd, 1) := dk_96 (dk_at dksX2_settle_2 5 rfl rfl)
theorem dX2_settle_53 : decode cX2_settle 53 = .ok (.iaload, 1) := dk_46 (dk_at dksX2_settle_2 6 rfl rfl)
theorem dX2_settle_54 : decode cX2_settle 54 = .ok (.iload_n 1, 1) := dk_27 (dk_at dksX2_settle_2 7 rfl rfl)
theorem dX2_settle_55 : decode cX2_settle 55 = .ok (.iconst 0, 1) := dk_3 (dk_at dksX2_settle_2 8 rfl rfl)
theorem dX2_settle_56 : decode cX2_settle 56 = .ok (.bipush 99, 2) := dk_16 99 (dk_at dksX2_settle_2 9 rfl rfl)
theorem dX2_settle_58 : decode cX2_settle 58 = .ok (.invokevirtual 284, 3) := dk_182 1 28 (dk_at dksX2_settle_2 11 rfl rfl)
theorem dX2_settle_61 : decode cX2_settle 61 = .ok (.istore_n 3, 1) := dk_62 (dk_at dksX2_settle_2 14 rfl rfl)
theorem dX2_settle_62 : decode cX2_settle 62 = .ok (.aload_n 0, 1) := dk_42 (dk_at dksX2_settle_2 15 rfl rfl)
theorem dX2_settle_63 : decode cX2_settle 63 = .ok (.getfield 7, 3) := dk_180 0 7 (dk_at dksX2_settle_2 16 rfl rfl)
theorem dX2_settle_66 : decode cX2_settle 66 = .ok (.iload_n 2, 1) := dk_28 (dk_at dksX2_settle_2 19 rfl rfl)
theorem dX2_settle_67 : decode cX2_settle 67 = .ok (.iconst 2, 1) := dk_5 (dk_at dksX2_settle_2 20 rfl rfl)
theorem dX2_settle_68 : decode cX2_settle 68 = .ok (.iadd, 1) := dk_96 (dk_at dksX2_settle_2 21 rfl rfl)
theorem dX2_settle_69 : decode cX2_settle 69 = .ok (.iaload, 1) := dk_46 (dk_at dksX2_settle_2 22 rfl rfl)
theorem dX2_settle_70 : decode cX2_settle 70 = .ok (.aload_n 0, 1) := dk_42 (dk_at dksX2_settle_2 23 rfl rfl)
theorem dX2_settle_71 : decode cX2_settle 71 = .ok (.getfield 7, 3) := dk_180 0 7 (dk_at dksX2_settle_3 0 rfl rfl)
theorem dX2_settle_74 : decode cX2_settle 74 = .ok (.iload_n 2, 1) := dk_28 (dk_at dksX2_settle_3 3 rfl rfl)
theorem dX2_settle_75 : decode cX2_settle 75 = .ok (.iconst 1, 1) := dk_4 (dk_at dksX2_settle_3 4 rfl rfl)
theorem dX2_settle_76 : decode cX2_settle 76 = .ok (.iadd, 1) := dk_96 (dk_at dksX2_settle_3 5 rfl rfl)
theorem dX2_settle_77 : decode cX2_settle 77 = .ok (.iaload, 1) := dk_46 (dk_at dksX2_settle_3 6 rfl rfl)
theorem dX2_settle_78 : decode cX2_settle 78 = .ok (.isub, 1) := dk_100 (dk_at dksX2_settle_3 7 rfl rfl)
theorem dX2_settle_79 : decode cX2_settle 79 = .ok (.istore 4, 2) := dk_54 4 (dk_at dksX2_settle_3 8 rfl rfl)
theorem dX2_settle_81 : decode cX2_settle 81 = .ok (.iload 4, 2) := dk_21 4 (dk_at dksX2_settle_3 10 rfl rfl)
theorem dX2_settle_83 : decode cX2_settle 83 = .ok (.iload_n 3, 1) := dk_29 (dk_at dksX2_settle_3 12 rfl rfl)
theorem dX2_settle_84 : decode cX2_settle 84 = .ok (.if_icmp .gt 10, 3) := dk_163 0 10 (dk_at dksX2_settle_3 13 rfl rfl)
theorem dX2_settle_87 : decode cX2_settle 87 = .ok (.iload 4, 2) := dk_21 4 (dk_at dksX2_settle_3 16 rfl rfl)
theorem dX2_settle_89 : decode cX2_settle 89 = .ok (.ineg, 1) := dk_116 (dk_at dksX2_settle_3 18 rfl rfl)
theorem dX2_settle_90 : decode cX2_settle 90 = .ok (.iload_n 3, 1) := dk_29 (dk_at dksX2_settle_3 19 rfl rfl)
theorem dX2_settle_91 : decode cX2_settle 91 = .ok (.if_icmp .le 19, 3) := dk_164 0 19 (dk_at dksX2_settle_3 20 rfl rfl)
theorem dX2_settle_94 : decode cX2_settle 94 = .ok (.aload_n 0, 1) := dk_42 (dk_at dksX2_settle_3 23 rfl rfl)
theorem dX2_settle_95 : decode cX2_settle 95 = .ok (.getfield 7, 3) := dk_180 0 7 (dk_at dksX2_settle_4 0 rfl rfl)
theorem dX2_settle_98 : decode cX2_settle 98 = .ok (.iload_n 2, 1) := dk_28 (dk_at dksX2_settle_4 3 rfl rfl)
theorem dX2_settle_99 : decode cX2_settle 99 = .ok (.iconst 2, 1) := dk_5 (dk_at dksX2_settle_4 4 rfl rfl)
theorem dX2_settle_100 : decode cX2_settle 100 = .ok (.iadd, 1) := dk_96 (dk_at dksX2_settle_4 5 rfl rfl)
theorem dX2_settle_101 : decode cX2_settle 101 = .ok (.aload_n 0, 1) := dk_42 (dk_at dksX2_settle_4 6 rfl rfl)
theorem dX2_settle_102 : decode cX2_settle 102 = .ok (.getfield 7, 3) := dk_180 0 7 (dk_at dksX2_settle_4 7 rfl rfl)
theorem dX2_settle_105 : decode cX2_settle 105 = .ok (.iload_n 2, 1) := dk_28 (dk_at dksX2_settle_4 10 rfl rfl)
theorem dX2_settle_106 : decode cX2_settle 106 = .ok (.iconst 1, 1) := dk_4 (dk_at dksX2_settle_4 11 rfl rfl)
theorem dX2_settle_107 : decode cX2_settle 107 = .ok (.iadd, 1) := dk_96 (dk_at dksX2_settle_4 12 rfl rfl)
theorem dX2_settle_108 : decode cX2_settle 108 = .ok (.iaload, 1) := dk_46 (dk_at dksX2_settle_4 13 rfl rfl)
theorem dX2_settle_109 : decode cX2_settle 109 = .ok (.iastore, 1) := dk_79 (dk_at dksX2_settle_4 14 rfl rfl)
theorem dX2_settle_110 : decode cX2_settle 110 = .ok (.return_, 1) := dk_177 (dk_at dksX2_settle_4 15 rfl rfl)
abbrev cX2_bits : ByteArray := prog_15_method_5_code
def yX2_bits : MethodName := ⟨RX2, "bits", "(I)I"⟩
def dkwX2_bits_1 : List UInt8 := [27, 172]
abbrev dktX2_bits_1 : List UInt8 := dkwX2_bits_1 ++ []
def dkwX2_bits_0 : List UInt8 := [3, 60, 3, 61, 28, 16, 24, 162, 0, 17, 27, 26, 28, 122, 4, 126, 96, 60, 132, 2, 1, 167, 255, 239]
abbrev dktX2_bits_0 : List UInt8 := dkwX2_bits_0 ++ dktX2_bits_1
theorem dksX2_bits_0 : cX2_bits.data.toList.drop 0 = dktX2_bits_0 := by decide +kernel
theorem dksX2_bits_1 : cX2_bits.data.toList.drop 24 = dktX2_bits_1 := dk_seg dksX2_bits_0 24 rfl rfl
theorem dX2_bits_0 : decode cX2_bits 0 = .ok (.iconst 0, 1) := dk_3 (dk_at dksX2_bits_0 0 rfl rfl)
theorem dX2_bits_1 : decode cX2_bits 1 = .ok (.istore_n 1, 1) := dk_60 (dk_at dksX2_bits_0 1 rfl rfl)
theorem dX2_bits_2 : decode cX2_bits 2 = .ok (.iconst 0, 1) := dk_3 (dk_at dksX2_bits_0 2 rfl rfl)
theorem dX2_bits_3 : decode cX2_bits 3 = .ok (.istore_n 2, 1) := dk_61 (dk_at dksX2_bits_0 3 rfl rfl)
theorem dX2_bits_4 : decode cX2_bits 4 = .ok (.iload_n 2, 1) := dk_28 (dk_at dksX2_bits_0 4 rfl rfl)
theorem dX2_bits_5 : decode cX2_bits 5 = .ok (.bipush 24, 2) := dk_16 24 (dk_at dksX2_bits_0 5 rfl rfl)
theorem dX2_bits_7 : decode cX2_bits 7 = .ok (.if_icmp .ge 17, 3) := dk_162 0 17 (dk_at dksX2_bits_0 7 rfl rfl)
theorem dX2_bits_10 : decode cX2_bits 10 = .ok (.iload_n 1, 1) := dk_27 (dk_at dksX2_bits_0 10 rfl rfl)
theorem dX2_bits_11 : decode cX2_bits 11 = .ok (.iload_n 0, 1) := dk_26 (dk_at dksX2_bits_0 11 rfl rfl)
theorem dX2_bits_12 : decode cX2_bits 12 = .ok (.iload_n 2, 1) := dk_28 (dk_at dksX2_bits_0 12 rfl rfl)
theorem dX2_bits_13 : decode cX2_bits 13 = .ok (.ishr, 1) := dk_122 (dk_at dksX2_bits_0 13 rfl rfl)
theorem dX2_bits_14 : decode cX2_bits 14 = .ok (.iconst 1, 1) := dk_4 (dk_at dksX2_bits_0 14 rfl rfl)
theorem dX2_bits_15 : decode cX2_bits 15 = .ok (.iand, 1) := dk_126 (dk_at dksX2_bits_0 15 rfl rfl)
theorem dX2_bits_16 : decode cX2_bits 16 = .ok (.iadd, 1) := dk_96 (dk_at dksX2_bits_0 16 rfl rfl)
theorem dX2_bits_17 : decode cX2_bits 17 = .ok (.istore_n 1, 1) := dk_60 (dk_at dksX2_bits_0 17 rfl rfl)
theorem dX2_bits_18 : decode cX2_bits 18 = .ok (.iinc 2 1, 3) := dk_132 2 1 (dk_at dksX2_bits_0 18 rfl rfl)
theorem dX2_bits_21 : decode cX2_bits 21 = .ok (.goto (-17), 3) := dk_167 255 239 (dk_at dksX2_bits_0 21 rfl rfl)
theorem dX2_bits_24 : decode cX2_bits 24 = .ok (.iload_n 1, 1) := dk_27 (dk_at dksX2_bits_1 0 rfl rfl)
theorem dX2_bits_25 : decode cX2_bits 25 = .ok (.ireturn, 1) := dk_172 (dk_at dksX2_bits_1 1 rfl rfl)
abbrev cX2_says : ByteArray := prog_15_method_61_code
def yX2_says : MethodName := ⟨RX2, "says", "(IIIIII)I"⟩
def dkwX2_says_3 : List UInt8 := [21, 8, 172]
abbrev dktX2_says_3 : List UInt8 := dkwX2_says_3 ++ []
def dkwX2_says_2 : List UInt8 := [21, 8, 21, 5, 162, 0, 8, 21, 5, 167, 0, 17, 21, 8, 21, 6, 164, 0, 8, 21, 6, 167, 0, 5]
abbrev dktX2_says_2 : List UInt8 := dkwX2_says_2 ++ dktX2_says_3
def dkwX2_says_1 : List UInt8 := [180, 0, 32, 4, 42, 180, 0, 7, 16, 12, 29, 96, 46, 79, 42, 27, 21, 7, 182, 1, 25, 54, 8]
abbrev dktX2_says_1 : List UInt8 := dkwX2_says_1 ++ dktX2_says_2
def dkwX2_says_0 : List UInt8 := [42, 27, 28, 182, 1, 22, 54, 7, 21, 7, 156, 0, 6, 21, 4, 172, 42, 180, 0, 32, 3, 29, 79, 42]
abbrev dktX2_says_0 : List UInt8 := dkwX2_says_0 ++ dktX2_says_1
theorem dksX2_says_0 : cX2_says.data.toList.drop 0 = dktX2_says_0 := by decide +kernel
theorem dksX2_says_1 : cX2_says.data.toList.drop 24 = dktX2_says_1 := dk_seg dksX2_says_0 24 rfl rfl
theorem dksX2_says_2 : cX2_says.data.toList.drop 47 = dktX2_says_2 := dk_seg dksX2_says_1 23 rfl rfl
theorem dksX2_says_3 : cX2_says.data.toList.drop 71 = dktX2_says_3 := dk_seg dksX2_says_2 24 rfl rfl
theorem dX2_says_0 : decode cX2_says 0 = .ok (.aload_n 0, 1) := dk_42 (dk_at dksX2_says_0 0 rfl rfl)
theorem dX2_says_1 : decode cX2_says 1 = .ok (.iload_n 1, 1) := dk_27 (dk_at dksX2_says_0 1 rfl rfl)
theorem dX2_says_2 : decode cX2_says 2 = .ok (.iload_n 2, 1) := dk_28 (dk_at dksX2_says_0 2 rfl rfl)
theorem dX2_says_3 : decode cX2_says 3 = .ok (.invokevirtual 278, 3) := dk_182 1 22 (dk_at dksX2_says_0 3 rfl rfl)
theorem dX2_says_6 : decode cX2_says 6 = .ok (.istore 7, 2) := dk_54 7 (dk_at dksX2_says_0 6 rfl rfl)
theorem dX2_says_8 : decode cX2_says 8 = .ok (.iload 7, 2) := dk_21 7 (dk_at dksX2_says_0 8 rfl rfl)
theorem dX2_says_10 : decode cX2_says 10 = .ok (.ifCond .ge 6, 3) := dk_156 0 6 (dk_at dksX2_says_0 10 rfl rfl)
theorem dX2_says_13 : decode cX2_says 13 = .ok (.iload 4, 2) := dk_21 4 (dk_at dksX2_says_0 13 rfl rfl)
theorem dX2_says_15 : decode cX2_says 15 = .ok (.ireturn, 1) := dk_172 (dk_at dksX2_says_0 15 rfl rfl)
theorem dX2_says_16 : decode cX2_says 16 = .ok (.aload_n 0, 1) := dk_42 (dk_at dksX2_says_0 16 rfl rfl)
theorem dX2_says_17 : decode cX2_says 17 = .ok (.getfield 32, 3) := dk_180 0 32 (dk_at dksX2_says_0 17 rfl rfl)
theorem dX2_says_20 : decode cX2_says 20 = .ok (.iconst 0, 1) := dk_3 (dk_at dksX2_says_0 20 rfl rfl)
theorem dX2_says_21 : decode cX2_says 21 = .ok (.iload_n 3, 1) := dk_29 (dk_at dksX2_says_0 21 rfl rfl)
theorem dX2_says_22 : decode cX2_says 22 = .ok (.iastore, 1) := dk_79 (dk_at dksX2_says_0 22 rfl rfl)
theorem dX2_says_23 : decode cX2_says 23 = .ok (.aload_n 0, 1) := dk_42 (dk_at dksX2_says_0 23 rfl rfl)
theorem dX2_says_24 : decode cX2_says 24 = .ok (.getfield 32, 3) := dk_180 0 32 (dk_at dksX2_says_1 0 rfl rfl)
theorem dX2_says_27 : decode cX2_says 27 = .ok (.iconst 1, 1) := dk_4 (dk_at dksX2_says_1 3 rfl rfl)
theorem dX2_says_28 : decode cX2_says 28 = .ok (.aload_n 0, 1) := dk_42 (dk_at dksX2_says_1 4 rfl rfl)
theorem dX2_says_29 : decode cX2_says 29 = .ok (.getfield 7, 3) := dk_180 0 7 (dk_at dksX2_says_1 5 rfl rfl)
theorem dX2_says_32 : decode cX2_says 32 = .ok (.bipush 12, 2) := dk_16 12 (dk_at dksX2_says_1 8 rfl rfl)
theorem dX2_says_34 : decode cX2_says 34 = .ok (.iload_n 3, 1) := dk_29 (dk_at dksX2_says_1 10 rfl rfl)
theorem dX2_says_35 : decode cX2_says 35 = .ok (.iadd, 1) := dk_96 (dk_at dksX2_says_1 11 rfl rfl)
theorem dX2_says_36 : decode cX2_says 36 = .ok (.iaload, 1) := dk_46 (dk_at dksX2_says_1 12 rfl rfl)
theorem dX2_says_37 : decode cX2_says 37 = .ok (.iastore, 1) := dk_79 (dk_at dksX2_says_1 13 rfl rfl)
theorem dX2_says_38 : decode cX2_says 38 = .ok (.aload_n 0, 1) := dk_42 (dk_at dksX2_says_1 14 rfl rfl)
theorem dX2_says_39 : decode cX2_says 39 = .ok (.iload_n 1, 1) := dk_27 (dk_at dksX2_says_1 15 rfl rfl)
theorem dX2_says_40 : decode cX2_says 40 = .ok (.iload 7, 2) := dk_21 7 (dk_at dksX2_says_1 16 rfl rfl)
theorem dX2_says_42 : decode cX2_says 42 = .ok (.invokevirtual 281, 3) := dk_182 1 25 (dk_at dksX2_says_1 18 rfl rfl)
theorem dX2_says_45 : decode cX2_says 45 = .ok (.istore 8, 2) := dk_54 8 (dk_at dksX2_says_1 21 rfl rfl)
theorem dX2_says_47 : decode cX2_says 47 = .ok (.iload 8, 2) := dk_21 8 (dk_at dksX2_says_2 0 rfl rfl)
theorem dX2_says_49 : decode cX2_says 49 = .ok (.iload 5, 2) := dk_21 5 (dk_at dksX2_says_2 2 rfl rfl)
theorem dX2_says_51 : decode cX2_says 51 = .ok (.if_icmp .ge 8, 3) := dk_162 0 8 (dk_at dksX2_says_2 4 rfl rfl)
theorem dX2_says_54 : decode cX2_says 54 = .ok (.iload 5, 2) := dk_21 5 (dk_at dksX2_says_2 7 rfl rfl)
theorem dX2_says_56 : decode cX2_says 56 = .ok (.goto 17, 3) := dk_167 0 17 (dk_at dksX2_says_2 9 rfl rfl)
theorem dX2_says_59 : decode cX2_says 59 = .ok (.iload 8, 2) := dk_21 8 (dk_at dksX2_says_2 12 rfl rfl)
theorem dX2_says_61 : decode cX2_says 61 = .ok (.iload 6, 2) := dk_21 6 (dk_at dksX2_says_2 14 rfl rfl)
theorem dX2_says_63 : decode cX2_says 63 = .ok (.if_icmp .le 8, 3) := dk_164 0 8 (dk_at dksX2_says_2 16 rfl rfl)
theorem dX2_says_66 : decode cX2_says 66 = .ok (.iload 6, 2) := dk_21 6 (dk_at dksX2_says_2 19 rfl rfl)
theorem dX2_says_68 : decode cX2_says 68 = .ok (.goto 5, 3) := dk_167 0 5 (dk_at dksX2_says_2 21 rfl rfl)
theorem dX2_says_71 : decode cX2_says 71 = .ok (.iload 8, 2) := dk_21 8 (dk_at dksX2_says_3 0 rfl rfl)
theorem dX2_says_73 : decode cX2_says 73 = .ok (.ireturn, 1) := dk_172 (dk_at dksX2_says_3 2 rfl rfl)
abbrev cX2_clauseOf : ByteArray := prog_15_method_60_code
def yX2_clauseOf : MethodName := ⟨RX2, "clauseOf", "(II)I"⟩
def dkwX2_clauseOf_2 : List UInt8 := [167, 255, 212, 2, 172]
abbrev dktX2_clauseOf_2 : List UInt8 := dkwX2_clauseOf_2 ++ []
def dkwX2_clauseOf_1 : List UInt8 := [17, 2, 241, 27, 104, 4, 96, 16, 6, 29, 104, 96, 46, 28, 160, 0, 5, 29, 172, 132, 3, 1]
abbrev dktX2_clauseOf_1 : List UInt8 := dkwX2_clauseOf_1 ++ dktX2_clauseOf_2
def dkwX2_clauseOf_0 : List UInt8 := [3, 62, 27, 155, 0, 46, 29, 42, 180, 0, 16, 17, 2, 241, 27, 104, 46, 162, 0, 32, 42, 180, 0, 16]
abbrev dktX2_clauseOf_0 : List UInt8 := dkwX2_clauseOf_0 ++ dktX2_clauseOf_1
theorem dksX2_clauseOf_0 : cX2_clauseOf.data.toList.drop 0 = dktX2_clauseOf_0 := by decide +kernel
theorem dksX2_clauseOf_1 : cX2_clauseOf.data.toList.drop 24 = dktX2_clauseOf_1 := dk_seg dksX2_clauseOf_0 24 rfl rfl
theorem dksX2_clauseOf_2 : cX2_clauseOf.data.toList.drop 46 = dktX2_clauseOf_2 := dk_seg dksX2_clauseOf_1 22 rfl rfl
theorem dX2_clauseOf_0 : decode cX2_clauseOf 0 = .ok (.iconst 0, 1) := dk_3 (dk_at dksX2_clauseOf_0 0 rfl rfl)
theorem dX2_clauseOf_1 : decode cX2_clauseOf 1 = .ok (.istore_n 3, 1) := dk_62 (dk_at dksX2_clauseOf_0 1 rfl rfl)
theorem dX2_clauseOf_2 : decode cX2_clauseOf 2 = .ok (.iload_n 1, 1) := dk_27 (dk_at dksX2_clauseOf_0 2 rfl rfl)
theorem dX2_clauseOf_3 : decode cX2_clauseOf 3 = .ok (.ifCond .lt 46, 3) := dk_155 0 46 (dk_at dksX2_clauseOf_0 3 rfl rfl)
theorem dX2_clauseOf_6 : decode cX2_clauseOf 6 = .ok (.iload_n 3, 1) := dk_29 (dk_at dksX2_clauseOf_0 6 rfl rfl)
theorem dX2_clauseOf_7 : decode cX2_clauseOf 7 = .ok (.aload_n 0, 1) := dk_42 (dk_at dksX2_clauseOf_0 7 rfl rfl)
theorem dX2_clauseOf_8 : decode cX2_clauseOf 8 = .ok (.getfield 16, 3) := dk_180 0 16 (dk_at dksX2_clauseOf_0 8 rfl rfl)
theorem dX2_clauseOf_11 : decode cX2_clauseOf 11 = .ok (.sipush 753, 3) := dk_17 2 241 (dk_at dksX2_clauseOf_0 11 rfl rfl)
theorem dX2_clauseOf_14 : decode cX2_clauseOf 14 = .ok (.iload_n 1, 1) := dk_27 (dk_at dksX2_clauseOf_0 14 rfl rfl)
theorem dX2_clauseOf_15 : decode cX2_clauseOf 15 = .ok (.imul, 1) := dk_104 (dk_at dksX2_clauseOf_0 15 rfl rfl)
theorem dX2_clauseOf_16 : decode cX2_clauseOf 16 = .ok (.iaload, 1) := dk_46 (dk_at dksX2_clauseOf_0 16 rfl rfl)
theorem dX2_clauseOf_17 : decode cX2_clauseOf 17 = .ok (.if_icmp .ge 32, 3) := dk_162 0 32 (dk_at dksX2_clauseOf_0 17 rfl rfl)
theorem dX2_clauseOf_20 : decode cX2_clauseOf 20 = .ok (.aload_n 0, 1) := dk_42 (dk_at dksX2_clauseOf_0 20 rfl rfl)
theorem dX2_clauseOf_21 : decode cX2_clauseOf 21 = .ok (.getfield 16, 3) := dk_180 0 16 (dk_at dksX2_clauseOf_0 21 rfl rfl)
theorem dX2_clauseOf_24 : decode cX2_clauseOf 24 = .ok (.sipush 753, 3) := dk_17 2 241 (dk_at dksX2_clauseOf_1 0 rfl rfl)
theorem dX2_clauseOf_27 : decode cX2_clauseOf 27 = .ok (.iload_n 1, 1) := dk_27 (dk_at dksX2_clauseOf_1 3 rfl rfl)
theorem dX2_clauseOf_28 : decode cX2_clauseOf 28 = .ok (.imul, 1) := dk_104 (dk_at dksX2_clauseOf_1 4 rfl rfl)
theorem dX2_clauseOf_29 : decode cX2_clauseOf 29 = .ok (.iconst 1, 1) := dk_4 (dk_at dksX2_clauseOf_1 5 rfl rfl)
theorem dX2_clauseOf_30 : decode cX2_clauseOf 30 = .ok (.iadd, 1) := dk_96 (dk_at dksX2_clauseOf_1 6 rfl rfl)
theorem dX2_clauseOf_31 : decode cX2_clauseOf 31 = .ok (.bipush 6, 2) := dk_16 6 (dk_at dksX2_clauseOf_1 7 rfl rfl)
theorem dX2_clauseOf_33 : decode cX2_clauseOf 33 = .ok (.iload_n 3, 1) := dk_29 (dk_at dksX2_clauseOf_1 9 rfl rfl)
theorem dX2_clauseOf_34 : decode cX2_clauseOf 34 = .ok (.imul, 1) := dk_104 (dk_at dksX2_clauseOf_1 10 rfl rfl)
theorem dX2_clauseOf_35 : decode cX2_clauseOf 35 = .ok (.iadd, 1) := dk_96 (dk_at dksX2_clauseOf_1 11 rfl rfl)
theorem dX2_clauseOf_36 : decode cX2_clauseOf 36 = .ok (.iaload, 1) := dk_46 (dk_at dksX2_clauseOf_1 12 rfl rfl)
theorem dX2_clauseOf_37 : decode cX2_clauseOf 37 = .ok (.iload_n 2, 1) := dk_28 (dk_at dksX2_clauseOf_1 13 rfl rfl)
theorem dX2_clauseOf_38 : decode cX2_clauseOf 38 = .ok (.if_icmp .ne 5, 3) := dk_160 0 5 (dk_at dksX2_clauseOf_1 14 rfl rfl)
theorem dX2_clauseOf_41 : decode cX2_clauseOf 41 = .ok (.iload_n 3, 1) := dk_29 (dk_at dksX2_clauseOf_1 17 rfl rfl)
theorem dX2_clauseOf_42 : decode cX2_clauseOf 42 = .ok (.ireturn, 1) := dk_172 (dk_at dksX2_clauseOf_1 18 rfl rfl)
theorem dX2_clauseOf_43 : decode cX2_clauseOf 43 = .ok (.iinc 3 1, 3) := dk_132 3 1 (dk_at dksX2_clauseOf_1 19 rfl rfl)
theorem dX2_clauseOf_46 : decode cX2_clauseOf 46 = .ok (.goto (-44), 3) := dk_167 255 212 (dk_at dksX2_clauseOf_2 0 rfl rfl)
theorem dX2_clauseOf_49 : decode cX2_clauseOf 49 = .ok (.iconst (-1), 1) := dk_2 (dk_at dksX2_clauseOf_2 3 rfl rfl)
theorem dX2_clauseOf_50 : decode cX2_clauseOf 50 = .ok (.ireturn, 1) := dk_172 (dk_at dksX2_clauseOf_2 4 rfl rfl)
abbrev cX2_worked : ByteArray := prog_15_method_59_code
def yX2_worked : MethodName := ⟨RX2, "worked", "(II)I"⟩
def dkwX2_worked_10 : List UInt8 := [132, 6, 1, 167, 255, 57, 42, 180, 0, 35, 3, 47, 136, 172]
abbrev dktX2_worked_10 : List UInt8 := dkwX2_worked_10 ++ []
def dkwX2_worked_9 : List UInt8 := [21, 7, 42, 180, 0, 35, 21, 5, 4, 100, 47, 42, 180, 0, 35, 21, 5, 47, 184, 1, 18, 80]
abbrev dktX2_worked_9 : List UInt8 := dkwX2_worked_9 ++ dktX2_worked_10
def dkwX2_worked_8 : List UInt8 := [180, 0, 35, 21, 5, 4, 100, 47, 80, 167, 0, 36, 132, 5, 255, 42, 180, 0, 35, 21, 5, 4, 100]
abbrev dktX2_worked_8 : List UInt8 := dkwX2_worked_8 ++ dktX2_worked_9
def dkwX2_worked_7 : List UInt8 := [4, 100, 47, 9, 148, 156, 0, 16, 42, 180, 0, 35, 21, 5, 4, 100, 47, 117, 167, 0, 12, 42]
abbrev dktX2_worked_7 : List UInt8 := dkwX2_worked_7 ++ dktX2_worked_8
def dkwX2_worked_6 : List UInt8 := [80, 167, 0, 90, 21, 7, 6, 160, 0, 51, 42, 180, 0, 35, 21, 5, 4, 100, 42, 180, 0, 35, 21, 5]
abbrev dktX2_worked_6 : List UInt8 := dkwX2_worked_6 ++ dktX2_worked_7
def dkwX2_worked_5 : List UInt8 := [21, 7, 5, 160, 0, 25, 42, 180, 0, 35, 21, 5, 4, 100, 42, 180, 0, 35, 21, 5, 4, 100, 47, 117]
abbrev dktX2_worked_5 : List UInt8 := dkwX2_worked_5 ++ dktX2_worked_6
def dkwX2_worked_4 : List UInt8 := [154, 0, 9, 21, 8, 133, 167, 0, 11, 42, 180, 0, 32, 21, 8, 46, 133, 80, 132, 5, 1, 167, 0, 118]
abbrev dktX2_worked_4 : List UInt8 := dkwX2_worked_4 ++ dktX2_worked_5
def dkwX2_worked_3 : List UInt8 := [21, 6, 104, 96, 4, 96, 46, 54, 8, 21, 7, 4, 163, 0, 35, 42, 180, 0, 35, 21, 5, 21, 7]
abbrev dktX2_worked_3 : List UInt8 := dkwX2_worked_3 ++ dktX2_worked_4
def dkwX2_worked_2 : List UInt8 := [162, 0, 192, 42, 180, 0, 16, 21, 4, 5, 21, 6, 104, 96, 46, 54, 7, 42, 180, 0, 16, 21, 4, 5]
abbrev dktX2_worked_2 : List UInt8 := dkwX2_worked_2 ++ dktX2_worked_3
def dkwX2_worked_1 : List UInt8 := [3, 54, 5, 42, 180, 0, 16, 29, 4, 96, 46, 54, 6, 21, 6, 42, 180, 0, 16, 29, 5, 96, 46]
abbrev dktX2_worked_1 : List UInt8 := dkwX2_worked_1 ++ dktX2_worked_2
def dkwX2_worked_0 : List UInt8 := [17, 2, 241, 27, 104, 4, 96, 16, 6, 28, 104, 96, 62, 17, 2, 241, 27, 104, 17, 0, 145, 96, 54, 4]
abbrev dktX2_worked_0 : List UInt8 := dkwX2_worked_0 ++ dktX2_worked_1
theorem dksX2_worked_0 : cX2_worked.data.toList.drop 0 = dktX2_worked_0 := by decide +kernel
theorem dksX2_worked_1 : cX2_worked.data.toList.drop 24 = dktX2_worked_1 := dk_seg dksX2_worked_0 24 rfl rfl
theorem dksX2_worked_2 : cX2_worked.data.toList.drop 47 = dktX2_worked_2 := dk_seg dksX2_worked_1 23 rfl rfl
theorem dksX2_worked_3 : cX2_worked.data.toList.drop 71 = dktX2_worked_3 := dk_seg dksX2_worked_2 24 rfl rfl
theorem dksX2_worked_4 : cX2_worked.data.toList.drop 94 = dktX2_worked_4 := dk_seg dksX2_worked_3 23 rfl rfl
theorem dksX2_worked_5 : cX2_worked.data.toList.drop 118 = dktX2_worked_5 := dk_seg dksX2_worked_4 24 rfl rfl
theorem dksX2_worked_6 : cX2_worked.data.toList.drop 142 = dktX2_worked_6 := dk_seg dksX2_worked_5 24 rfl rfl
theorem dksX2_worked_7 : cX2_worked.data.toList.drop 166 = dktX2_worked_7 := dk_seg dksX2_worked_6 24 rfl rfl
theorem dksX2_worked_8 : cX2_worked.data.toList.drop 188 = dktX2_worked_8 := dk_seg dksX2_worked_7 22 rfl rfl
theorem dksX2_worked_9 : cX2_worked.data.toList.drop 211 = dktX2_worked_9 := dk_seg dksX2_worked_8 23 rfl rfl
theorem dksX2_worked_10 : cX2_worked.data.toList.drop 233 = dktX2_worked_10 := dk_seg dksX2_worked_9 22 rfl rfl
theorem dX2_worked_0 : decode cX2_worked 0 = .ok (.sipush 753, 3) := dk_17 2 241 (dk_at dksX2_worked_0 0 rfl rfl)
theorem dX2_worked_3 : decode cX2_worked 3 = .ok (.iload_n 1, 1) := dk_27 (dk_at dksX2_worked_0 3 rfl rfl)
theorem dX2_worked_4 : decode cX2_worked 4 = .ok (.imul, 1) := dk_104 (dk_at dksX2_worked_0 4 rfl rfl)
theorem dX2_worked_5 : decode cX2_worked 5 = .ok (.iconst 1, 1) := dk_4 (dk_at dksX2_worked_0 5 rfl rfl)
theorem dX2_worked_6 : decode cX2_worked 6 = .ok (.iadd, 1) := dk_96 (dk_at dksX2_worked_0 6 rfl rfl)
theorem dX2_worked_7 : decode cX2_worked 7 = .ok (.bipush 6, 2) := dk_16 6 (dk_at dksX2_worked_0 7 rfl rfl)
theorem dX2_worked_9 : decode cX2_worked 9 = .ok (.iload_n 2, 1) := dk_28 (dk_at dksX2_worked_0 9 rfl rfl)
theorem dX2_worked_10 : decode cX2_worked 10 = .ok (.imul, 1) := dk_104 (dk_at dksX2_worked_0 10 rfl rfl)
theorem dX2_worked_11 : decode cX2_worked 11 = .ok (.iadd, 1) := dk_96 (dk_at dksX2_worked_0 11 rfl rfl)
theorem dX2_worked_12 : decode cX2_worked 12 = .ok (.istore_n 3, 1) := dk_62 (dk_at dksX2_worked_0 12 rfl rfl)
theorem dX2_worked_13 : decode cX2_worked 13 = .ok (.sipush 753, 3) := dk_17 2 241 (dk_at dksX2_worked_0 13 rfl rfl)
theorem dX2_worked_16 : decode cX2_worked 16 = .ok (.iload_n 1, 1) := dk_27 (dk_at dksX2_worked_0 16 rfl rfl)
theorem dX2_worked_17 : decode cX2_worked 17 = .ok (.imul, 1) := dk_104 (dk_at dksX2_worked_0 17 rfl rfl)
theorem dX2_worked_18 : decode cX2_worked 18 = .ok (.sipush 145, 3) := dk_17 0 145 (dk_at dksX2_worked_0 18 rfl rfl)
theorem dX2_worked_21 : decode cX2_worked 21 = .ok (.iadd, 1) := dk_96 (dk_at dksX2_worked_0 21 rfl rfl)
theorem dX2_worked_22 : decode cX2_worked 22 = .ok (.istore 4, 2) := dk_54 4 (dk_at dksX2_worked_0 22 rfl rfl)
theorem dX2_worked_24 : decode cX2_worked 24 = .ok (.iconst 0, 1) := dk_3 (dk_at dksX2_worked_1 0 rfl rfl)
theorem dX2_worked_25 : decode cX2_worked 25 = .ok (.istore 5, 2) := dk_54 5 (dk_at dksX2_worked_1 1 rfl rfl)
theorem dX2_worked_27 : decode cX2_worked 27 = .ok (.aload_n 0, 1) := dk_42 (dk_at dksX2_worked_1 3 rfl rfl)
theorem dX2_worked_28 : decode cX2_worked 28 = .ok (.getfield 16, 3) := dk_180 0 16 (dk_at dksX2_worked_1 4 rfl rfl)
theorem dX2_worked_31 : decode cX2_worked 31 = .ok (.iload_n 3, 1) := dk_29 (dk_at dksX2_worked_1 7 rfl rfl)
theorem dX2_worked_32 : decode cX2_worked 32 = .ok (.iconst 1, 1) := dk_4 (dk_at dksX2_worked_1 8 rfl rfl)
theorem dX2_worked_33 : decode cX2_worked 33 = .ok (.iadd, 1) := dk_96 (dk_at dksX2_worked_1 9 rfl rfl)
theorem dX2_worked_34 : decode cX2_worked 34 = .ok (.iaload, 1) := dk_46 (dk_at dksX2_worked_1 10 rfl rfl)
theorem dX2_worked_35 : decode cX2_worked 35 = .ok (.istore 6, 2) := dk_54 6 (dk_at dksX2_worked_1 11 rfl rfl)
theorem dX2_worked_37 : decode cX2_worked 37 = .ok (.iload 6, 2) := dk_21 6 (dk_at dksX2_worked_1 13 rfl rfl)
theorem dX2_worked_39 : decode cX2_worked 39 = .ok (.aload_n 0, 1) := dk_42 (dk_at dksX2_worked_1 15 rfl rfl)
theorem dX2_worked_40 : decode cX2_worked 40 = .ok (.getfield 16, 3) := dk_180 0 16 (dk_at dksX2_worked_1 16 rfl rfl)
theorem dX2_worked_43 : decode cX2_worked 43 = .ok (.iload_n 3, 1) := dk_29 (dk_at dksX2_worked_1 19 rfl rfl)
theorem dX2_worked_44 : decode cX2_worked 44 = .ok (.iconst 2, 1) := dk_5 (dk_at dksX2_worked_1 20 rfl rfl)
theorem dX2_worked_45 : decode cX2_worked 45 = .ok (.iadd, 1) := dk_96 (dk_at dksX2_worked_1 21 rfl rfl)
theorem dX2_worked_46 : decode cX2_worked 46 = .ok (.iaload, 1) := dk_46 (dk_at dksX2_worked_1 22 rfl rfl)
theorem dX2_worked_47 : decode cX2_worked 47 = .ok (.if_icmp .ge 192, 3) := dk_162 0 192 (dk_at dksX2_worked_2 0 rfl rfl)
theorem dX2_worked_50 : decode cX2_worked 50 = .ok (.aload_n 0, 1) := dk_42 (dk_at dksX2_worked_2 3 rfl rfl)
theorem dX2_worked_51 : decode cX2_worked 51 = .ok (.getfield 16, 3) := dk_180 0 16 (dk_at dksX2_worked_2 4 rfl rfl)
theorem dX2_worked_54 : decode cX2_worked 54 = .ok (.iload 4, 2) := dk_21 4 (dk_at dksX2_worked_2 7 rfl rfl)
theorem dX2_worked_56 : decode cX2_worked 56 = .ok (.iconst 2, 1) := dk_5 (dk_at dksX2_worked_2 9 rfl rfl)
theorem dX2_worked_57 : decode cX2_worked 57 = .ok (.iload 6, 2) := dk_21 6 (dk_at dksX2_worked_2 10 rfl rfl)
theorem dX2_worked_59 : decode cX2_worked 59 = .ok (.imul, 1) := dk_104 (dk_at dksX2_worked_2 12 rfl rfl)
theorem dX2_worked_60 : decode cX2_worked 60 = .ok (.iadd, 1) := dk_96 (dk_at dksX2_worked_2 13 rfl rfl)
theorem dX2_worked_61 : decode cX2_worked 61 = .ok (.iaload, 1) := dk_46 (dk_at dksX2_worked_2 14 rfl rfl)
theorem dX2_worked_62 : decode cX2_worked 62 = .ok (.istore 7, 2) := dk_54 7 (dk_at dksX2_worked_2 15 rfl rfl)
theorem dX2_worked_64 : decode cX2_worked 64 = .ok (.aload_n 0, 1) := dk_42 (dk_at dksX2_worked_2 17 rfl rfl)
theorem dX2_worked_65 : decode cX2_worked 65 = .ok (.getfield 16, 3) := dk_180 0 16 (dk_at dksX2_worked_2 18 rfl rfl)
theorem dX2_worked_68 : decode cX2_worked 68 = .ok (.iload 4, 2) := dk_21 4 (dk_at dksX2_worked_2 21 rfl rfl)
theorem dX2_worked_70 : decode cX2_worked 70 = .ok (.iconst 2, 1) := dk_5 (dk_at dksX2_worked_2 23 rfl rfl)
theorem dX2_worked_71 : decode cX2_worked 71 = .ok (.iload 6, 2) := dk_21 6 (dk_at dksX2_worked_3 0 rfl rfl)
theorem dX2_worked_73 : decode cX2_worked 73 = .ok (.imul, 1) := dk_104 (dk_at dksX2_worked_3 2 rfl rfl)
theorem dX2_worked_74 : decode cX2_worked 74 = .ok (.iadd, 1) := dk_96 (dk_at dksX2_worked_3 3 rfl rfl)
theorem dX2_worked_75 : decode cX2_worked 75 = .ok (.iconst 1, 1) := dk_4 (dk_at dksX2_worked_3 4 rfl rfl)
theorem dX2_worked_76 : decode cX2_worked 76 = .ok (.iadd, 1) := dk_96 (dk_at dksX2_worked_3 5 rfl rfl)
theorem dX2_worked_77 : decode cX2_worked 77 = .ok (.iaload, 1) := dk_46 (dk_at dksX2_worked_3 6 rfl rfl)
theorem dX2_worked_78 : decode cX2_worked 78 = .ok (.istore 8, 2) := dk_54 8 (dk_at dksX2_worked_3 7 rfl rfl)
theorem dX2_worked_80 : decode cX2_worked 80 = .ok (.iload 7, 2) := dk_21 7 (dk_at dksX2_worked_3 9 rfl rfl)
theorem dX2_worked_82 : decode cX2_worked 82 = .ok (.iconst 1, 1) := dk_4 (dk_at dksX2_worked_3 11 rfl rfl)
theorem dX2_worked_83 : decode cX2_worked 83 = .ok (.if_icmp .gt 35, 3) := dk_163 0 35 (dk_at dksX2_worked_3 12 rfl rfl)
theorem dX2_worked_86 : decode cX2_worked 86 = .ok (.aload_n 0, 1) := dk_42 (dk_at dksX2_worked_3 15 rfl rfl)
theorem dX2_worked_87 : decode cX2_worked 87 = .ok (.getfield 35, 3) := dk_180 0 35 (dk_at dksX2_worked_3 16 rfl rfl)
theorem dX2_worked_90 : decode cX2_worked 90 = .ok (.iload 5, 2) := dk_21 5 (dk_at dksX2_worked_3 19 rfl rfl)
theorem dX2_worked_92 : decode cX2_worked 92 = .ok (.iload 7, 2) := dk_21 7 (dk_at dksX2_worked_3 21 rfl rfl)
theorem dX2_worked_94 : decode cX2_worked 94 = .ok (.ifCond .ne 9, 3) := dk_154 0 9 (dk_at dksX2_worked_4 0 rfl rfl)
theorem dX2_worked_97 : decode cX2_worked 97 = .ok (.iload 8, 2) := dk_21 8 (dk_at dksX2_worked_4 3 rfl rfl)
theorem dX2_worked_99 : decode cX2_worked 99 = .ok (.i2l, 1) := dk_133 (dk_at dksX2_worked_4 5 rfl rfl)
theorem dX2_worked_100 : decode cX2_worked 100 = .ok (.goto 11, 3) := dk_167 0 11 (dk_at dksX2_worked_4 6 rfl rfl)
theorem dX2_worked_103 : decode cX2_worked 103 = .ok (.aload_n 0, 1) := dk_42 (dk_at dksX2_worked_4 9 rfl rfl)
theorem dX2_worked_104 : decode cX2_worked 104 = .ok (.getfield 32, 3) := dk_180 0 32 (dk_at dksX2_worked_4 10 rfl rfl)
theorem dX2_worked_107 : decode cX2_worked 107 = .ok (.iload 8, 2) := dk_21 8 (dk_at dksX2_worked_4 13 rfl rfl)
theorem dX2_worked_109 : decode cX2_worked 109 = .ok (.iaload, 1) := dk_46 (dk_at dksX2_worked_4 15 rfl rfl)
theorem dX2_worked_110 : decode cX2_worked 110 = .ok (.i2l, 1) := dk_133 (dk_at dksX2_worked_4 16 rfl rfl)
theorem dX2_worked_111 : decode cX2_worked 111 = .ok (.lastore, 1) := dk_80 (dk_at dksX2_worked_4 17 rfl rfl)
theorem dX2_worked_112 : decode cX2_worked 112 = .ok (.iinc 5 1, 3) := dk_132 5 1 (dk_at dksX2_worked_4 18 rfl rfl)
theorem dX2_worked_115 : decode cX2_worked 115 = .ok (.goto 118, 3) := dk_167 0 118 (dk_at dksX2_worked_4 21 rfl rfl)
theorem dX2_worked_118 : decode cX2_worked 118 = .ok (.iload 7, 2) := dk_21 7 (dk_at dksX2_worked_5 0 rfl rfl)
theorem dX2_worked_120 : decode cX2_worked 120 = .ok (.iconst 2, 1) := dk_5 (dk_at dksX2_worked_5 2 rfl rfl)
theorem dX2_worked_121 : decode cX2_worked 121 = .ok (.if_icmp .ne 25, 3) := dk_160 0 25 (dk_at dksX2_worked_5 3 rfl rfl)
theorem dX2_worked_124 : decode cX2_worked 124 = .ok (.aload_n 0, 1) := dk_42 (dk_at dksX2_worked_5 6 rfl rfl)
theorem dX2_worked_125 : decode cX2_worked 125 = .ok (.getfield 35, 3) := dk_180 0 35 (dk_at dksX2_worked_5 7 rfl rfl)
theorem dX2_worked_128 : decode cX2_worked 128 = .ok (.iload 5, 2) := dk_21 5 (dk_at dksX2_worked_5 10 rfl rfl)
theorem dX2_worked_130 : decode cX2_worked 130 = .ok (.iconst 1, 1) := dk_4 (dk_at dksX2_worked_5 12 rfl rfl)
theorem dX2_worked_131 : decode cX2_worked 131 = .ok (.isub, 1) := dk_100 (dk_at dksX2_worked_5 13 rfl rfl)
theorem dX2_worked_132 : decode cX2_worked 132 = .ok (.aload_n 0, 1) := dk_42 (dk_at dksX2_worked_5 14 rfl rfl)
theorem dX2_worked_133 : decode cX2_worked 133 = .ok (.getfield 35, 3) := dk_180 0 35 (dk_at dksX2_worked_5 15 rfl rfl)
theorem dX2_worked_136 : decode cX2_worked 136 = .ok (.iload 5, 2) := dk_21 5 (dk_at dksX2_worked_5 18 rfl rfl)
theorem dX2_worked_138 : decode cX2_worked 138 = .ok (.iconst 1, 1) := dk_4 (dk_at dksX2_worked_5 20 rfl rfl)
theorem dX2_worked_139 : decode cX2_worked 139 = .ok (.isub, 1) := dk_100 (dk_at dksX2_worked_5 21 rfl rfl)
theorem dX2_worked_140 : decode cX2_worked 140 = .ok (.laload, 1) := dk_47 (dk_at dksX2_worked_5 22 rfl rfl)
theorem dX2_worked_141 : decode cX2_worked 141 = .ok (.lneg, 1) := dk_117 (dk_at dksX2_worked_5 23 rfl rfl)
theorem dX2_worked_142 : decode cX2_worked 142 = .ok (.lastore, 1) := dk_80 (dk_at dksX2_worked_6 0 rfl rfl)
theorem dX2_worked_143 : decode cX2_worked 143 = .ok (.goto 90, 3) := dk_167 0 90 (dk_at dksX2_worked_6 1 rfl rfl)
theorem dX2_worked_146 : decode cX2_worked 146 = .ok (.iload 7, 2) := dk_21 7 (dk_at dksX2_worked_6 4 rfl rfl)
theorem dX2_worked_148 : decode cX2_worked 148 = .ok (.iconst 3, 1) := dk_6 (dk_at dksX2_worked_6 6 rfl rfl)
theorem dX2_worked_149 : decode cX2_worked 149 = .ok (.if_icmp .ne 51, 3) := dk_160 0 51 (dk_at dksX2_worked_6 7 rfl rfl)
theorem dX2_worked_152 : decode cX2_worked 152 = .ok (.aload_n 0, 1) := dk_42 (dk_at dksX2_worked_6 10 rfl rfl)
theorem dX2_worked_153 : decode cX2_worked 153 = .ok (.getfield 35, 3) := dk_180 0 35 (dk_at dksX2_worked_6 11 rfl rfl)
theorem dX2_worked_156 : decode cX2_worked 156 = .ok (.iload 5, 2) := dk_21 5 (dk_at dksX2_worked_6 14 rfl rfl)
theorem dX2_worked_158 : decode cX2_worked 158 = .ok (.iconst 1, 1) := dk_4 (dk_at dksX2_worked_6 16 rfl rfl)
theorem dX2_worked_159 : decode cX2_worked 159 = .ok (.isub, 1) := dk_100 (dk_at dksX2_worked_6 17 rfl rfl)
theorem dX2_worked_160 : decode cX2_worked 160 = .ok (.aload_n 0, 1) := dk_42 (dk_at dksX2_worked_6 18 rfl rfl)
theorem dX2_worked_161 : decode cX2_worked 161 = .ok (.getfield 35, 3) := dk_180 0 35 (dk_at dksX2_worked_6 19 rfl rfl)
theorem dX2_worked_164 : decode cX2_worked 164 = .ok (.iload 5, 2) := dk_21 5 (dk_at dksX2_worked_6 22 rfl rfl)
theorem dX2_worked_166 : decode cX2_worked 166 = .ok (.iconst 1, 1) := dk_4 (dk_at dksX2_worked_7 0 rfl rfl)
theorem dX2_worked_167 : decode cX2_worked 167 = .ok (.isub, 1) := dk_100 (dk_at dksX2_worked_7 1 rfl rfl)
theorem dX2_worked_168 : decode cX2_worked 168 = .ok (.laload, 1) := dk_47 (dk_at dksX2_worked_7 2 rfl rfl)
theorem dX2_worked_169 : decode cX2_worked 169 = .ok (.lconst 0, 1) := dk_9 (dk_at dksX2_worked_7 3 rfl rfl)
theorem dX2_worked_170 : decode cX2_worked 170 = .ok (.lcmp, 1) := dk_148 (dk_at dksX2_worked_7 4 rfl rfl)
theorem dX2_worked_171 : decode cX2_worked 171 = .ok (.ifCond .ge 16, 3) := dk_156 0 16 (dk_at dksX2_worked_7 5 rfl rfl)
theorem dX2_worked_174 : decode cX2_worked 174 = .ok (.aload_n 0, 1) := dk_42 (dk_at dksX2_worked_7 8 rfl rfl)
theorem dX2_worked_175 : decode cX2_worked 175 = .ok (.getfield 35, 3) := dk_180 0 35 (dk_at dksX2_worked_7 9 rfl rfl)
theorem dX2_worked_178 : decode cX2_worked 178 = .ok (.iload 5, 2) := dk_21 5 (dk_at dksX2_worked_7 12 rfl rfl)
theorem dX2_worked_180 : decode cX2_worked 180 = .ok (.iconst 1, 1) := dk_4 (dk_at dksX2_worked_7 14 rfl rfl)
theorem dX2_worked_181 : decode cX2_worked 181 = .ok (.isub, 1) := dk_100 (dk_at dksX2_worked_7 15 rfl rfl)
theorem dX2_worked_182 : decode cX2_worked 182 = .ok (.laload, 1) := dk_47 (dk_at dksX2_worked_7 16 rfl rfl)
theorem dX2_worked_183 : decode cX2_worked 183 = .ok (.lneg, 1) := dk_117 (dk_at dksX2_worked_7 17 rfl rfl)
theorem dX2_worked_184 : decode cX2_worked 184 = .ok (.goto 12, 3) := dk_167 0 12 (dk_at dksX2_worked_7 18 rfl rfl)
theorem dX2_worked_187 : decode cX2_worked 187 = .ok (.aload_n 0, 1) := dk_42 (dk_at dksX2_worked_7 21 rfl rfl)
theorem dX2_worked_188 : decode cX2_worked 188 = .ok (.getfield 35, 3) := dk_180 0 35 (dk_at dksX2_worked_8 0 rfl rfl)
theorem dX2_worked_191 : decode cX2_worked 191 = .ok (.iload 5, 2) := dk_21 5 (dk_at dksX2_worked_8 3 rfl rfl)
theorem dX2_worked_193 : decode cX2_worked 193 = .ok (.iconst 1, 1) := dk_4 (dk_at dksX2_worked_8 5 rfl rfl)
theorem dX2_worked_194 : decode cX2_worked 194 = .ok (.isub, 1) := dk_100 (dk_at dksX2_worked_8 6 rfl rfl)
theorem dX2_worked_195 : decode cX2_worked 195 = .ok (.laload, 1) := dk_47 (dk_at dksX2_worked_8 7 rfl rfl)
theorem dX2_worked_196 : decode cX2_worked 196 = .ok (.lastore, 1) := dk_80 (dk_at dksX2_worked_8 8 rfl rfl)
theorem dX2_worked_197 : decode cX2_worked 197 = .ok (.goto 36, 3) := dk_167 0 36 (dk_at dksX2_worked_8 9 rfl rfl)
theorem dX2_worked_200 : decode cX2_worked 200 = .ok (.iinc 5 (-1), 3) := dk_132 5 255 (dk_at dksX2_worked_8 12 rfl rfl)
theorem dX2_worked_203 : decode cX2_worked 203 = .ok (.aload_n 0, 1) := dk_42 (dk_at dksX2_worked_8 15 rfl rfl)
theorem dX2_worked_204 : decode cX2_worked 204 = .ok (.getfield 35, 3) := dk_180 0 35 (dk_at dksX2_worked_8 16 rfl rfl)
theorem dX2_worked_207 : decode cX2_worked 207 = .ok (.iload 5, 2) := dk_21 5 (dk_at dksX2_worked_8 19 rfl rfl)
theorem dX2_worked_209 : decode cX2_worked 209 = .ok (.iconst 1, 1) := dk_4 (dk_at dksX2_worked_8 21 rfl rfl)
theorem dX2_worked_210 : decode cX2_worked 210 = .ok (.isub, 1) := dk_100 (dk_at dksX2_worked_8 22 rfl rfl)
theorem dX2_worked_211 : decode cX2_worked 211 = .ok (.iload 7, 2) := dk_21 7 (dk_at dksX2_worked_9 0 rfl rfl)
theorem dX2_worked_213 : decode cX2_worked 213 = .ok (.aload_n 0, 1) := dk_42 (dk_at dksX2_worked_9 2 rfl rfl)
theorem dX2_worked_214 : decode cX2_worked 214 = .ok (.getfield 35, 3) := dk_180 0 35 (dk_at dksX2_worked_9 3 rfl rfl)
theorem dX2_worked_217 : decode cX2_worked 217 = .ok (.iload 5, 2) := dk_21 5 (dk_at dksX2_worked_9 6 rfl rfl)
theorem dX2_worked_219 : decode cX2_worked 219 = .ok (.iconst 1, 1) := dk_4 (dk_at dksX2_worked_9 8 rfl rfl)
theorem dX2_worked_220 : decode cX2_worked 220 = .ok (.isub, 1) := dk_100 (dk_at dksX2_worked_9 9 rfl rfl)
theorem dX2_worked_221 : decode cX2_worked 221 = .ok (.laload, 1) := dk_47 (dk_at dksX2_worked_9 10 rfl rfl)
theorem dX2_worked_222 : decode cX2_worked 222 = .ok (.aload_n 0, 1) := dk_42 (dk_at dksX2_worked_9 11 rfl rfl)
theorem dX2_worked_223 : decode cX2_worked 223 = .ok (.getfield 35, 3) := dk_180 0 35 (dk_at dksX2_worked_9 12 rfl rfl)
theorem dX2_worked_226 : decode cX2_worked 226 = .ok (.iload 5, 2) := dk_21 5 (dk_at dksX2_worked_9 15 rfl rfl)
theorem dX2_worked_228 : decode cX2_worked 228 = .ok (.laload, 1) := dk_47 (dk_at dksX2_worked_9 17 rfl rfl)
theorem dX2_worked_229 : decode cX2_worked 229 = .ok (.invokestatic 274, 3) := dk_184 1 18 (dk_at dksX2_worked_9 18 rfl rfl)
theorem dX2_worked_232 : decode cX2_worked 232 = .ok (.lastore, 1) := dk_80 (dk_at dksX2_worked_9 21 rfl rfl)
theorem dX2_worked_233 : decode cX2_worked 233 = .ok (.iinc 6 1, 3) := dk_132 6 1 (dk_at dksX2_worked_10 0 rfl rfl)
theorem dX2_worked_236 : decode cX2_worked 236 = .ok (.goto (-199), 3) := dk_167 255 57 (dk_at dksX2_worked_10 3 rfl rfl)
theorem dX2_worked_239 : decode cX2_worked 239 = .ok (.aload_n 0, 1) := dk_42 (dk_at dksX2_worked_10 6 rfl rfl)
theorem dX2_worked_240 : decode cX2_worked 240 = .ok (.getfield 35, 3) := dk_180 0 35 (dk_at dksX2_worked_10 7 rfl rfl)
theorem dX2_worked_243 : decode cX2_worked 243 = .ok (.iconst 0, 1) := dk_3 (dk_at dksX2_worked_10 10 rfl rfl)
theorem dX2_worked_244 : decode cX2_worked 244 = .ok (.laload, 1) := dk_47 (dk_at dksX2_worked_10 11 rfl rfl)
theorem dX2_worked_245 : decode cX2_worked 245 = .ok (.l2i, 1) := dk_136 (dk_at dksX2_worked_10 12 rfl rfl)
theorem dX2_worked_246 : decode cX2_worked 246 = .ok (.ireturn, 1) := dk_172 (dk_at dksX2_worked_10 13 rfl rfl)
abbrev cX2_two : ByteArray := prog_15_method_58_code
def yX2_two : MethodName := ⟨RX2, "two", "(IJJ)J"⟩
def dkwX2_two_3 : List UInt8 := [154, 0, 7, 9, 167, 0, 6, 31, 33, 109, 173]
abbrev dktX2_two_3 : List UInt8 := dkwX2_two_3 ++ []
def dkwX2_two_2 : List UInt8 := [31, 33, 97, 184, 1, 14, 173, 31, 33, 101, 184, 1, 14, 173, 31, 33, 105, 184, 1, 14, 173, 33, 9, 148]
abbrev dktX2_two_2 : List UInt8 := dkwX2_two_2 ++ dktX2_two_3
def dkwX2_two_1 : List UInt8 := [170, 0, 0, 0, 0, 0, 48, 0, 0, 0, 4, 0, 0, 0, 6, 0, 0, 0, 27, 0, 0, 0, 34, 0, 0, 0, 41]
abbrev dktX2_two_1 : List UInt8 := dkwX2_two_1 ++ dktX2_two_2
def dkwX2_two_0 : List UInt8 := [26]
abbrev dktX2_two_0 : List UInt8 := dkwX2_two_0 ++ dktX2_two_1
theorem dksX2_two_0 : cX2_two.data.toList.drop 0 = dktX2_two_0 := by decide +kernel
theorem dksX2_two_1 : cX2_two.data.toList.drop 1 = dktX2_two_1 := dk_seg dksX2_two_0 1 rfl rfl
theorem dksX2_two_2 : cX2_two.data.toList.drop 28 = dktX2_two_2 := dk_seg dksX2_two_1 27 rfl rfl
theorem dksX2_two_3 : cX2_two.data.toList.drop 52 = dktX2_two_3 := dk_seg dksX2_two_2 24 rfl rfl
theorem dX2_two_0 : decode cX2_two 0 = .ok (.iload_n 0, 1) := dk_26 (dk_at dksX2_two_0 0 rfl rfl)
theorem dX2_two_1 : decode cX2_two 1 = .ok (.tableswitch 48 4 6 #[27, 34, 41], 27) := by decide +kernel
theorem dX2_two_28 : decode cX2_two 28 = .ok (.lload_n 1, 1) := dk_31 (dk_at dksX2_two_2 0 rfl rfl)
theorem dX2_two_29 : decode cX2_two 29 = .ok (.lload_n 3, 1) := dk_33 (dk_at dksX2_two_2 1 rfl rfl)
theorem dX2_two_30 : decode cX2_two 30 = .ok (.ladd, 1) := dk_97 (dk_at dksX2_two_2 2 rfl rfl)
theorem dX2_two_31 : decode cX2_two 31 = .ok (.invokestatic 270, 3) := dk_184 1 14 (dk_at dksX2_two_2 3 rfl rfl)
theorem dX2_two_34 : decode cX2_two 34 = .ok (.lreturn, 1) := dk_173 (dk_at dksX2_two_2 6 rfl rfl)
theorem dX2_two_35 : decode cX2_two 35 = .ok (.lload_n 1, 1) := dk_31 (dk_at dksX2_two_2 7 rfl rfl)
theorem dX2_two_36 : decode cX2_two 36 = .ok (.lload_n 3, 1) := dk_33 (dk_at dksX2_two_2 8 rfl rfl)
theorem dX2_two_37 : decode cX2_two 37 = .ok (.lsub, 1) := dk_101 (dk_at dksX2_two_2 9 rfl rfl)
theorem dX2_two_38 : decode cX2_two 38 = .ok (.invokestatic 270, 3) := dk_184 1 14 (dk_at dksX2_two_2 10 rfl rfl)
theorem dX2_two_41 : decode cX2_two 41 = .ok (.lreturn, 1) := dk_173 (dk_at dksX2_two_2 13 rfl rfl)
theorem dX2_two_42 : decode cX2_two 42 = .ok (.lload_n 1, 1) := dk_31 (dk_at dksX2_two_2 14 rfl rfl)
theorem dX2_two_43 : decode cX2_two 43 = .ok (.lload_n 3, 1) := dk_33 (dk_at dksX2_two_2 15 rfl rfl)
theorem dX2_two_44 : decode cX2_two 44 = .ok (.lmul, 1) := dk_105 (dk_at dksX2_two_2 16 rfl rfl)
theorem dX2_two_45 : decode cX2_two 45 = .ok (.invokestatic 270, 3) := dk_184 1 14 (dk_at dksX2_two_2 17 rfl rfl)
theorem dX2_two_48 : decode cX2_two 48 = .ok (.lreturn, 1) := dk_173 (dk_at dksX2_two_2 20 rfl rfl)
theorem dX2_two_49 : decode cX2_two 49 = .ok (.lload_n 3, 1) := dk_33 (dk_at dksX2_two_2 21 rfl rfl)
theorem dX2_two_50 : decode cX2_two 50 = .ok (.lconst 0, 1) := dk_9 (dk_at dksX2_two_2 22 rfl rfl)
theorem dX2_two_51 : decode cX2_two 51 = .ok (.lcmp, 1) := dk_148 (dk_at dksX2_two_2 23 rfl rfl)
theorem dX2_two_52 : decode cX2_two 52 = .ok (.ifCond .ne 7, 3) := dk_154 0 7 (dk_at dksX2_two_3 0 rfl rfl)
theorem dX2_two_55 : decode cX2_two 55 = .ok (.lconst 0, 1) := dk_9 (dk_at dksX2_two_3 3 rfl rfl)
theorem dX2_two_56 : decode cX2_two 56 = .ok (.goto 6, 3) := dk_167 0 6 (dk_at dksX2_two_3 4 rfl rfl)
theorem dX2_two_59 : decode cX2_two 59 = .ok (.lload_n 1, 1) := dk_31 (dk_at dksX2_two_3 7 rfl rfl)
theorem dX2_two_60 : decode cX2_two 60 = .ok (.lload_n 3, 1) := dk_33 (dk_at dksX2_two_3 8 rfl rfl)
theorem dX2_two_61 : decode cX2_two 61 = .ok (.ldiv, 1) := dk_109 (dk_at dksX2_two_3 9 rfl rfl)
theorem dX2_two_62 : decode cX2_two 62 = .ok (.lreturn, 1) := dk_173 (dk_at dksX2_two_3 10 rfl rfl)
abbrev cX2_held : ByteArray := prog_15_method_57_code
def yX2_held : MethodName := ⟨RX2, "held", "(J)J"⟩
def dkwX2_held_1 : List UInt8 := [20, 1, 12, 167, 0, 4, 30, 173]
abbrev dktX2_held_1 : List UInt8 := dkwX2_held_1 ++ []
def dkwX2_held_0 : List UInt8 := [30, 20, 1, 10, 148, 158, 0, 9, 20, 1, 10, 167, 0, 18, 30, 20, 1, 12, 148, 156, 0, 9]
abbrev dktX2_held_0 : List UInt8 := dkwX2_held_0 ++ dktX2_held_1
theorem dksX2_held_0 : cX2_held.data.toList.drop 0 = dktX2_held_0 := by decide +kernel
theorem dksX2_held_1 : cX2_held.data.toList.drop 22 = dktX2_held_1 := dk_seg dksX2_held_0 22 rfl rfl
theorem dX2_held_0 : decode cX2_held 0 = .ok (.lload_n 0, 1) := dk_30 (dk_at dksX2_held_0 0 rfl rfl)
theorem dX2_held_1 : decode cX2_held 1 = .ok (.ldc2_w 266, 3) := dk_20 1 10 (dk_at dksX2_held_0 1 rfl rfl)
theorem dX2_held_4 : decode cX2_held 4 = .ok (.lcmp, 1) := dk_148 (dk_at dksX2_held_0 4 rfl rfl)
theorem dX2_held_5 : decode cX2_held 5 = .ok (.ifCond .le 9, 3) := dk_158 0 9 (dk_at dksX2_held_0 5 rfl rfl)
theorem dX2_held_8 : decode cX2_held 8 = .ok (.ldc2_w 266, 3) := dk_20 1 10 (dk_at dksX2_held_0 8 rfl rfl)
theorem dX2_held_11 : decode cX2_held 11 = .ok (.goto 18, 3) := dk_167 0 18 (dk_at dksX2_held_0 11 rfl rfl)
theorem dX2_held_14 : decode cX2_held 14 = .ok (.lload_n 0, 1) := dk_30 (dk_at dksX2_held_0 14 rfl rfl)
theorem dX2_held_15 : decode cX2_held 15 = .ok (.ldc2_w 268, 3) := dk_20 1 12 (dk_at dksX2_held_0 15 rfl rfl)
theorem dX2_held_18 : decode cX2_held 18 = .ok (.lcmp, 1) := dk_148 (dk_at dksX2_held_0 18 rfl rfl)
theorem dX2_held_19 : decode cX2_held 19 = .ok (.ifCond .ge 9, 3) := dk_156 0 9 (dk_at dksX2_held_0 19 rfl rfl)
theorem dX2_held_22 : decode cX2_held 22 = .ok (.ldc2_w 268, 3) := dk_20 1 12 (dk_at dksX2_held_1 0 rfl rfl)
theorem dX2_held_25 : decode cX2_held 25 = .ok (.goto 4, 3) := dk_167 0 4 (dk_at dksX2_held_1 3 rfl rfl)
theorem dX2_held_28 : decode cX2_held 28 = .ok (.lload_n 0, 1) := dk_30 (dk_at dksX2_held_1 6 rfl rfl)
theorem dX2_held_29 : decode cX2_held 29 = .ok (.lreturn, 1) := dk_173 (dk_at dksX2_held_1 7 rfl rfl)
abbrev cX2_lay : ByteArray := prog_15_method_77_code
def yX2_lay : MethodName := ⟨RX2, "lay", "(I)I"⟩
def dkwX2_lay_2 : List UInt8 := [182, 1, 62, 42, 27, 42, 180, 0, 7, 6, 46, 182, 1, 69, 42, 180, 0, 7, 17, 0, 244, 46, 172]
abbrev dktX2_lay_2 : List UInt8 := dkwX2_lay_2 ++ []
def dkwX2_lay_1 : List UInt8 := [160, 0, 18, 42, 180, 0, 7, 17, 0, 246, 46, 27, 184, 0, 224, 153, 0, 7, 19, 1, 65, 172, 42]
abbrev dktX2_lay_1 : List UInt8 := dkwX2_lay_1 ++ dktX2_lay_2
def dkwX2_lay_0 : List UInt8 := [42, 27, 182, 0, 92, 153, 0, 35, 42, 27, 3, 182, 0, 84, 42, 180, 0, 7, 17, 0, 242, 46]
abbrev dktX2_lay_0 : List UInt8 := dkwX2_lay_0 ++ dktX2_lay_1
theorem dksX2_lay_0 : cX2_lay.data.toList.drop 0 = dktX2_lay_0 := by decide +kernel
theorem dksX2_lay_1 : cX2_lay.data.toList.drop 22 = dktX2_lay_1 := dk_seg dksX2_lay_0 22 rfl rfl
theorem dksX2_lay_2 : cX2_lay.data.toList.drop 45 = dktX2_lay_2 := dk_seg dksX2_lay_1 23 rfl rfl
theorem dX2_lay_0 : decode cX2_lay 0 = .ok (.aload_n 0, 1) := dk_42 (dk_at dksX2_lay_0 0 rfl rfl)
theorem dX2_lay_1 : decode cX2_lay 1 = .ok (.iload_n 1, 1) := dk_27 (dk_at dksX2_lay_0 1 rfl rfl)
theorem dX2_lay_2 : decode cX2_lay 2 = .ok (.invokevirtual 92, 3) := dk_182 0 92 (dk_at dksX2_lay_0 2 rfl rfl)
theorem dX2_lay_5 : decode cX2_lay 5 = .ok (.ifCond .eq 35, 3) := dk_153 0 35 (dk_at dksX2_lay_0 5 rfl rfl)
theorem dX2_lay_8 : decode cX2_lay 8 = .ok (.aload_n 0, 1) := dk_42 (dk_at dksX2_lay_0 8 rfl rfl)
theorem dX2_lay_9 : decode cX2_lay 9 = .ok (.iload_n 1, 1) := dk_27 (dk_at dksX2_lay_0 9 rfl rfl)
theorem dX2_lay_10 : decode cX2_lay 10 = .ok (.iconst 0, 1) := dk_3 (dk_at dksX2_lay_0 10 rfl rfl)
theorem dX2_lay_11 : decode cX2_lay 11 = .ok (.invokevirtual 84, 3) := dk_182 0 84 (dk_at dksX2_lay_0 11 rfl rfl)
theorem dX2_lay_14 : decode cX2_lay 14 = .ok (.aload_n 0, 1) := dk_42 (dk_at dksX2_lay_0 14 rfl rfl)
theorem dX2_lay_15 : decode cX2_lay 15 = .ok (.getfield 7, 3) := dk_180 0 7 (dk_at dksX2_lay_0 15 rfl rfl)
theorem dX2_lay_18 : decode cX2_lay 18 = .ok (.sipush 242, 3) := dk_17 0 242 (dk_at dksX2_lay_0 18 rfl rfl)
theorem dX2_lay_21 : decode cX2_lay 21 = .ok (.iaload, 1) := dk_46 (dk_at dksX2_lay_0 21 rfl rfl)
theorem dX2_lay_22 : decode cX2_lay 22 = .ok (.if_icmp .ne 18, 3) := dk_160 0 18 (dk_at dksX2_lay_1 0 rfl rfl)
theorem dX2_lay_25 : decode cX2_lay 25 = .ok (.aload_n 0, 1) := dk_42 (dk_at dksX2_lay_1 3 rfl rfl)
theorem dX2_lay_26 : decode cX2_lay 26 = .ok (.getfield 7, 3) := dk_180 0 7 (dk_at dksX2_lay_1 4 rfl rfl)
theorem dX2_lay_29 : decode cX2_lay 29 = .ok (.sipush 246, 3) := dk_17 0 246 (dk_at dksX2_lay_1 7 rfl rfl)
theorem dX2_lay_32 : decode cX2_lay 32 = .ok (.iaload, 1) := dk_46 (dk_at dksX2_lay_1 10 rfl rfl)
theorem dX2_lay_33 : decode cX2_lay 33 = .ok (.iload_n 1, 1) := dk_27 (dk_at dksX2_lay_1 11 rfl rfl)
theorem dX2_lay_34 : decode cX2_lay 34 = .ok (.invokestatic 224, 3) := dk_184 0 224 (dk_at dksX2_lay_1 12 rfl rfl)
theorem dX2_lay_37 : decode cX2_lay 37 = .ok (.ifCond .eq 7, 3) := dk_153 0 7 (dk_at dksX2_lay_1 15 rfl rfl)
theorem dX2_lay_40 : decode cX2_lay 40 = .ok (.ldc_w 321, 3) := dk_19 1 65 (dk_at dksX2_lay_1 18 rfl rfl)
theorem dX2_lay_43 : decode cX2_lay 43 = .ok (.ireturn, 1) := dk_172 (dk_at dksX2_lay_1 21 rfl rfl)
theorem dX2_lay_44 : decode cX2_lay 44 = .ok (.aload_n 0, 1) := dk_42 (dk_at dksX2_lay_1 22 rfl rfl)
theorem dX2_lay_45 : decode cX2_lay 45 = .ok (.invokevirtual 318, 3) := dk_182 1 62 (dk_at dksX2_lay_2 0 rfl rfl)
theorem dX2_lay_48 : decode cX2_lay 48 = .ok (.aload_n 0, 1) := dk_42 (dk_at dksX2_lay_2 3 rfl rfl)
theorem dX2_lay_49 : decode cX2_lay 49 = .ok (.iload_n 1, 1) := dk_27 (dk_at dksX2_lay_2 4 rfl rfl)
theorem dX2_lay_50 : decode cX2_lay 50 = .ok (.aload_n 0, 1) := dk_42 (dk_at dksX2_lay_2 5 rfl rfl)
theorem dX2_lay_51 : decode cX2_lay 51 = .ok (.getfield 7, 3) := dk_180 0 7 (dk_at dksX2_lay_2 6 rfl rfl)
theorem dX2_lay_54 : decode cX2_lay 54 = .ok (.iconst 3, 1) := dk_6 (dk_at dksX2_lay_2 9 rfl rfl)
theorem dX2_lay_55 : decode cX2_lay 55 = .ok (.iaload, 1) := dk_46 (dk_at dksX2_lay_2 10 rfl rfl)
theorem dX2_lay_56 : decode cX2_lay 56 = .ok (.invokevirtual 325, 3) := dk_182 1 69 (dk_at dksX2_lay_2 11 rfl rfl)
theorem dX2_lay_59 : decode cX2_lay 59 = .ok (.aload_n 0, 1) := dk_42 (dk_at dksX2_lay_2 14 rfl rfl)
theorem dX2_lay_60 : decode cX2_lay 60 = .ok (.getfield 7, 3) := dk_180 0 7 (dk_at dksX2_lay_2 15 rfl rfl)
theorem dX2_lay_63 : decode cX2_lay 63 = .ok (.sipush 244, 3) := dk_17 0 244 (dk_at dksX2_lay_2 18 rfl rfl)
theorem dX2_lay_66 : decode cX2_lay 66 = .ok (.iaload, 1) := dk_46 (dk_at dksX2_lay_2 21 rfl rfl)
theorem dX2_lay_67 : decode cX2_lay 67 = .ok (.ireturn, 1) := dk_172 (dk_at dksX2_lay_2 22 rfl rfl)
abbrev cX2_deedOf : ByteArray := prog_15_method_10_code
def yX2_deedOf : MethodName := ⟨RX2, "deedOf", "(II)I"⟩
def dkwX2_deedOf_0 : List UInt8 := [42, 180, 0, 7, 16, 90, 16, 6, 27, 104, 96, 28, 96, 46, 172]
abbrev dktX2_deedOf_0 : List UInt8 := dkwX2_deedOf_0 ++ []
theorem dksX2_deedOf_0 : cX2_deedOf.data.toList.drop 0 = dktX2_deedOf_0 := by decide +kernel
theorem dX2_deedOf_0 : decode cX2_deedOf 0 = .ok (.aload_n 0, 1) := dk_42 (dk_at dksX2_deedOf_0 0 rfl rfl)
theorem dX2_deedOf_1 : decode cX2_deedOf 1 = .ok (.getfield 7, 3) := dk_180 0 7 (dk_at dksX2_deedOf_0 1 rfl rfl)
theorem dX2_deedOf_4 : decode cX2_deedOf 4 = .ok (.bipush 90, 2) := dk_16 90 (dk_at dksX2_deedOf_0 4 rfl rfl)
theorem dX2_deedOf_6 : decode cX2_deedOf 6 = .ok (.bipush 6, 2) := dk_16 6 (dk_at dksX2_deedOf_0 6 rfl rfl)
theorem dX2_deedOf_8 : decode cX2_deedOf 8 = .ok (.iload_n 1, 1) := dk_27 (dk_at dksX2_deedOf_0 8 rfl rfl)
theorem dX2_deedOf_9 : decode cX2_deedOf 9 = .ok (.imul, 1) := dk_104 (dk_at dksX2_deedOf_0 9 rfl rfl)
theorem dX2_deedOf_10 : decode cX2_deedOf 10 = .ok (.iadd, 1) := dk_96 (dk_at dksX2_deedOf_0 10 rfl rfl)
theorem dX2_deedOf_11 : decode cX2_deedOf 11 = .ok (.iload_n 2, 1) := dk_28 (dk_at dksX2_deedOf_0 11 rfl rfl)
theorem dX2_deedOf_12 : decode cX2_deedOf 12 = .ok (.iadd, 1) := dk_96 (dk_at dksX2_deedOf_0 12 rfl rfl)
theorem dX2_deedOf_13 : decode cX2_deedOf 13 = .ok (.iaload, 1) := dk_46 (dk_at dksX2_deedOf_0 13 rfl rfl)
theorem dX2_deedOf_14 : decode cX2_deedOf 14 = .ok (.ireturn, 1) := dk_172 (dk_at dksX2_deedOf_0 14 rfl rfl)
abbrev cX2_layNow : ByteArray := prog_15_method_67_code
def yX2_layNow : MethodName := ⟨RX2, "layNow", "(II)V"⟩
def dkwX2_layNow_1 : List UInt8 := [27, 182, 1, 47, 96, 79, 42, 28, 182, 1, 44, 177]
abbrev dktX2_layNow_1 : List UInt8 := dkwX2_layNow_1 ++ []
def dkwX2_layNow_0 : List UInt8 := [42, 180, 0, 7, 17, 0, 246, 92, 46, 4, 27, 120, 128, 79, 42, 180, 0, 7, 17, 0, 243, 92, 46, 42]
abbrev dktX2_layNow_0 : List UInt8 := dkwX2_layNow_0 ++ dktX2_layNow_1
theorem dksX2_layNow_0 : cX2_layNow.data.toList.drop 0 = dktX2_layNow_0 := by decide +kernel
theorem dksX2_layNow_1 : cX2_layNow.data.toList.drop 24 = dktX2_layNow_1 := dk_seg dksX2_layNow_0 24 rfl rfl
theorem dX2_layNow_0 : decode cX2_layNow 0 = .ok (.aload_n 0, 1) := dk_42 (dk_at dksX2_layNow_0 0 rfl rfl)
theorem dX2_layNow_1 : decode cX2_layNow 1 = .ok (.getfield 7, 3) := dk_180 0 7 (dk_at dksX2_layNow_0 1 rfl rfl)
theorem dX2_layNow_4 : decode cX2_layNow 4 = .ok (.sipush 246, 3) := dk_17 0 246 (dk_at dksX2_layNow_0 4 rfl rfl)
theorem dX2_layNow_7 : decode cX2_layNow 7 = .ok (.dup2, 1) := dk_92 (dk_at dksX2_layNow_0 7 rfl rfl)
theorem dX2_layNow_8 : decode cX2_layNow 8 = .ok (.iaload, 1) := dk_46 (dk_at dksX2_layNow_0 8 rfl rfl)
theorem dX2_layNow_9 : decode cX2_layNow 9 = .ok (.iconst 1, 1) := dk_4 (dk_at dksX2_layNow_0 9 rfl rfl)
theorem dX2_layNow_10 : decode cX2_layNow 10 = .ok (.iload_n 1, 1) := dk_27 (dk_at dksX2_layNow_0 10 rfl rfl)
theorem dX2_layNow_11 : decode cX2_layNow 11 = .ok (.ishl, 1) := dk_120 (dk_at dksX2_layNow_0 11 rfl rfl)
theorem dX2_layNow_12 : decode cX2_layNow 12 = .ok (.ior, 1) := dk_128 (dk_at dksX2_layNow_0 12 rfl rfl)
theorem dX2_layNow_13 : decode cX2_layNow 13 = .ok (.iastore, 1) := dk_79 (dk_at dksX2_layNow_0 13 rfl rfl)
theorem dX2_layNow_14 : decode cX2_layNow 14 = .ok (.aload_n 0, 1) := dk_42 (dk_at dksX2_layNow_0 14 rfl rfl)
theorem dX2_layNow_15 : decode cX2_layNow 15 = .ok (.getfield 7, 3) := dk_180 0 7 (dk_at dksX2_layNow_0 15 rfl rfl)
theorem dX2_layNow_18 : decode cX2_layNow 18 = .ok (.sipush 243, 3) := dk_17 0 243 (dk_at dksX2_layNow_0 18 rfl rfl)
theorem dX2_layNow_21 : decode cX2_layNow 21 = .ok (.dup2, 1) := dk_92 (dk_at dksX2_layNow_0 21 rfl rfl)
theorem dX2_layNow_22 : decode cX2_layNow 22 = .ok (.iaload, 1) := dk_46 (dk_at dksX2_layNow_0 22 rfl rfl)
theorem dX2_layNow_23 : decode cX2_layNow 23 = .ok (.aload_n 0, 1) := dk_42 (dk_at dksX2_layNow_0 23 rfl rfl)
theorem dX2_layNow_24 : decode cX2_layNow 24 = .ok (.iload_n 1, 1) := dk_27 (dk_at dksX2_layNow_1 0 rfl rfl)
theorem dX2_layNow_25 : decode cX2_layNow 25 = .ok (.invokevirtual 303, 3) := dk_182 1 47 (dk_at dksX2_layNow_1 1 rfl rfl)
theorem dX2_layNow_28 : decode cX2_layNow 28 = .ok (.iadd, 1) := dk_96 (dk_at dksX2_layNow_1 4 rfl rfl)
theorem dX2_layNow_29 : decode cX2_layNow 29 = .ok (.iastore, 1) := dk_79 (dk_at dksX2_layNow_1 5 rfl rfl)
theorem dX2_layNow_30 : decode cX2_layNow 30 = .ok (.aload_n 0, 1) := dk_42 (dk_at dksX2_layNow_1 6 rfl rfl)
theorem dX2_layNow_31 : decode cX2_layNow 31 = .ok (.iload_n 2, 1) := dk_28 (dk_at dksX2_layNow_1 7 rfl rfl)
theorem dX2_layNow_32 : decode cX2_layNow 32 = .ok (.invokevirtual 300, 3) := dk_182 1 44 (dk_at dksX2_layNow_1 8 rfl rfl)
theorem dX2_layNow_35 : decode cX2_layNow 35 = .ok (.return_, 1) := dk_177 (dk_at dksX2_layNow_1 11 rfl rfl)
abbrev cX2_weightOf : ByteArray := prog_15_method_63_code
def yX2_weightOf : MethodName := ⟨RX2, "weightOf", "(I)I"⟩
def dkwX2_weightOf_0 : List UInt8 := [42, 42, 180, 0, 7, 16, 7, 46, 27, 182, 1, 32, 172]
abbrev dktX2_weightOf_0 : List UInt8 := dkwX2_weightOf_0 ++ []
theorem dksX2_weightOf_0 : cX2_weightOf.data.toList.drop 0 = dktX2_weightOf_0 := by decide +kernel
theorem dX2_weightOf_0 : decode cX2_weightOf 0 = .ok (.aload_n 0, 1) := dk_42 (dk_at dksX2_weightOf_0 0 rfl rfl)
theorem dX2_weightOf_1 : decode cX2_weightOf 1 = .ok (.aload_n 0, 1) := dk_42 (dk_at dksX2_weightOf_0 1 rfl rfl)
theorem dX2_weightOf_2 : decode cX2_weightOf 2 = .ok (.getfield 7, 3) := dk_180 0 7 (dk_at dksX2_weightOf_0 2 rfl rfl)
theorem dX2_weightOf_5 : decode cX2_weightOf 5 = .ok (.bipush 7, 2) := dk_16 7 (dk_at dksX2_weightOf_0 5 rfl rfl)
theorem dX2_weightOf_7 : decode cX2_weightOf 7 = .ok (.iaload, 1) := dk_46 (dk_at dksX2_weightOf_0 7 rfl rfl)
theorem dX2_weightOf_8 : decode cX2_weightOf 8 = .ok (.iload_n 1, 1) := dk_27 (dk_at dksX2_weightOf_0 8 rfl rfl)
theorem dX2_weightOf_9 : decode cX2_weightOf 9 = .ok (.invokevirtual 288, 3) := dk_182 1 32 (dk_at dksX2_weightOf_0 9 rfl rfl)
theorem dX2_weightOf_12 : decode cX2_weightOf 12 = .ok (.ireturn, 1) := dk_172 (dk_at dksX2_weightOf_0 12 rfl rfl)
abbrev cX2_weightBy : ByteArray := prog_15_method_62_code
def yX2_weightBy : MethodName := ⟨RX2, "weightBy", "(II)I"⟩
def dkwX2_weightBy_4 : List UInt8 := [42, 28, 3, 182, 0, 84, 42, 28, 5, 182, 0, 84, 17, 252, 25, 17, 3, 231, 182, 1, 28, 172]
abbrev dktX2_weightBy_4 : List UInt8 := dkwX2_weightBy_4 ++ []
def dkwX2_weightBy_3 : List UInt8 := [180, 0, 32, 16, 7, 42, 28, 7, 182, 0, 84, 2, 160, 0, 7, 3, 167, 0, 4, 4, 79, 42, 27, 3]
abbrev dktX2_weightBy_3 : List UInt8 := dkwX2_weightBy_3 ++ dktX2_weightBy_4
def dkwX2_weightBy_2 : List UInt8 := [182, 0, 84, 4, 122, 4, 126, 79, 42, 180, 0, 32, 16, 6, 42, 28, 6, 182, 0, 84, 5, 122, 79, 42]
abbrev dktX2_weightBy_2 : List UInt8 := dkwX2_weightBy_2 ++ dktX2_weightBy_3
def dkwX2_weightBy_1 : List UInt8 := [42, 180, 0, 32, 7, 42, 28, 6, 182, 0, 84, 4, 126, 79, 42, 180, 0, 32, 8, 42, 28, 6]
abbrev dktX2_weightBy_1 : List UInt8 := dkwX2_weightBy_1 ++ dktX2_weightBy_2
def dkwX2_weightBy_0 : List UInt8 := [42, 180, 0, 32, 5, 42, 28, 4, 182, 0, 84, 79, 42, 180, 0, 32, 6, 42, 28, 5, 182, 0, 84, 79]
abbrev dktX2_weightBy_0 : List UInt8 := dkwX2_weightBy_0 ++ dktX2_weightBy_1
theorem dksX2_weightBy_0 : cX2_weightBy.data.toList.drop 0 = dktX2_weightBy_0 := by decide +kernel
theorem dksX2_weightBy_1 : cX2_weightBy.data.toList.drop 24 = dktX2_weightBy_1 := dk_seg dksX2_weightBy_0 24 rfl rfl
theorem dksX2_weightBy_2 : cX2_weightBy.data.toList.drop 46 = dktX2_weightBy_2 := dk_seg dksX2_weightBy_1 22 rfl rfl
theorem dksX2_weightBy_3 : cX2_weightBy.data.toList.drop 70 = dktX2_weightBy_3 := dk_seg dksX2_weightBy_2 24 rfl rfl
theorem dksX2_weightBy_4 : cX2_weightBy.data.toList.drop 94 = dktX2_weightBy_4 := dk_seg dksX2_weightBy_3 24 rfl rfl
theorem dX2_weightBy_0 : decode cX2_weightBy 0 = .ok (.aload_n 0, 1) := dk_42 (dk_at dksX2_weightBy_0 0 rfl rfl)
theorem dX2_weightBy_1 : decode cX2_weightBy 1 = .ok (.getfield 32, 3) := dk_180 0 32 (dk_at dksX2_weightBy_0 1 rfl rfl)
theorem dX2_weightBy_4 : decode cX2_weightBy 4 = .ok (.iconst 2, 1) := dk_5 (dk_at dksX2_weightBy_0 4 rfl rfl)
theorem dX2_weightBy_5 : decode cX2_weightBy 5 = .ok (.aload_n 0, 1) := dk_42 (dk_at dksX2_weightBy_0 5 rfl rfl)
theorem dX2_weightBy_6 : decode cX2_weightBy 6 = .ok (.iload_n 2, 1) := dk_28 (dk_at dksX2_weightBy_0 6 rfl rfl)
theorem dX2_weightBy_7 : decode cX2_weightBy 7 = .ok (.iconst 1, 1) := dk_4 (dk_at dksX2_weightBy_0 7 rfl rfl)
theorem dX2_weightBy_8 : decode cX2_weightBy 8 = .ok (.invokevirtual 84, 3) := dk_182 0 84 (dk_at dksX2_weightBy_0 8 rfl rfl)
theorem dX2_weightBy_11 : decode cX2_weightBy 11 = .ok (.iastore, 1) := dk_79 (dk_at dksX2_weightBy_0 11 rfl rfl)
theorem dX2_weightBy_12 : decode cX2_weightBy 12 = .ok (.aload_n 0, 1) := dk_42 (dk_at dksX2_weightBy_0 12 rfl rfl)
theorem dX2_weightBy_13 : decode cX2_weightBy 13 = .ok (.getfield 32, 3) := dk_180 0 32 (dk_at dksX2_weightBy_0 13 rfl rfl)
theorem dX2_weightBy_16 : decode cX2_weightBy 16 = .ok (.iconst 3, 1) := dk_6 (dk_at dksX2_weightBy_0 16 rfl rfl)
theorem dX2_weightBy_17 : decode cX2_weightBy 17 = .ok (.aload_n 0, 1) := dk_42 (dk_at dksX2_weightBy_0 17 rfl rfl)
theorem dX2_weightBy_18 : decode cX2_weightBy 18 = .ok (.iload_n 2, 1) := dk_28 (dk_at dksX2_weightBy_0 18 rfl rfl)
theorem dX2_weightBy_19 : decode cX2_weightBy 19 = .ok (.iconst 2, 1) := dk_5 (dk_at dksX2_weightBy_0 19 rfl rfl)
theorem dX2_weightBy_20 : decode cX2_weightBy 20 = .ok (.invokevirtual 84, 3) := dk_182 0 84 (dk_at dksX2_weightBy_0 20 rfl rfl)
theorem dX2_weightBy_23 : decode cX2_weightBy 23 = .ok (.iastore, 1) := dk_79 (dk_at dksX2_weightBy_0 23 rfl rfl)
theorem dX2_weightBy_24 : decode cX2_weightBy 24 = .ok (.aload_n 0, 1) := dk_42 (dk_at dksX2_weightBy_1 0 rfl rfl)
theorem dX2_weightBy_25 : decode cX2_weightBy 25 = .ok (.getfield 32, 3) := dk_180 0 32 (dk_at dksX2_weightBy_1 1 rfl rfl)
theorem dX2_weightBy_28 : decode cX2_weightBy 28 = .ok (.iconst 4, 1) := dk_7 (dk_at dksX2_weightBy_1 4 rfl rfl)
theorem dX2_weightBy_29 : decode cX2_weightBy 29 = .ok (.aload_n 0, 1) := dk_42 (dk_at dksX2_weightBy_1 5 rfl rfl)
theorem dX2_weightBy_30 : decode cX2_weightBy 30 = .ok (.iload_n 2, 1) := dk_28 (dk_at dksX2_weightBy_1 6 rfl rfl)
theorem dX2_weightBy_31 : decode cX2_weightBy 31 = .ok (.iconst 3, 1) := dk_6 (dk_at dksX2_weightBy_1 7 rfl rfl)
theorem dX2_weightBy_32 : decode cX2_weightBy 32 = .ok (.invokevirtual 84, 3) := dk_182 0 84 (dk_at dksX2_weightBy_1 8 rfl rfl)
theorem dX2_weightBy_35 : decode cX2_weightBy 35 = .ok (.iconst 1, 1) := dk_4 (dk_at dksX2_weightBy_1 11 rfl rfl)
theorem dX2_weightBy_36 : decode cX2_weightBy 36 = .ok (.iand, 1) := dk_126 (dk_at dksX2_weightBy_1 12 rfl rfl)
theorem dX2_weightBy_37 : decode cX2_weightBy 37 = .ok (.iastore, 1) := dk_79 (dk_at dksX2_weightBy_1 13 rfl rfl)
theorem dX2_weightBy_38 : decode cX2_weightBy 38 = .ok (.aload_n 0, 1) := dk_42 (dk_at dksX2_weightBy_1 14 rfl rfl)
theorem dX2_weightBy_39 : decode cX2_weightBy 39 = .ok (.getfield 32, 3) := dk_180 0 32 (dk_at dksX2_weightBy_1 15 rfl rfl)
theorem dX2_weightBy_42 : decode cX2_weightBy 42 = .ok (.iconst 5, 1) := dk_8 (dk_at dksX2_weightBy_1 18 rfl rfl)
theorem dX2_weightBy_43 : decode cX2_weightBy 43 = .ok (.aload_n 0, 1) := dk_42 (dk_at dksX2_weightBy_1 19 rfl rfl)
theorem dX2_weightBy_44 : decode cX2_weightBy 44 = .ok (.iload_n 2, 1) := dk_28 (dk_at dksX2_weightBy_1 20 rfl rfl)
theorem dX2_weightBy_45 : decode cX2_weightBy 45 = .ok (.iconst 3, 1) := dk_6 (dk_at dksX2_weightBy_1 21 rfl rfl)
theorem dX2_weightBy_46 : decode cX2_weightBy 46 = .ok (.invokevirtual 84, 3) := dk_182 0 84 (dk_at dksX2_weightBy_2 0 rfl rfl)
theorem dX2_weightBy_49 : decode cX2_weightBy 49 = .ok (.iconst 1, 1) := dk_4 (dk_at dksX2_weightBy_2 3 rfl rfl)
theorem dX2_weightBy_50 : decode cX2_weightBy 50 = .ok (.ishr, 1) := dk_122 (dk_at dksX2_weightBy_2 4 rfl rfl)
theorem dX2_weightBy_51 : decode cX2_weightBy 51 = .ok (.iconst 1, 1) := dk_4 (dk_at dksX2_weightBy_2 5 rfl rfl)
theorem dX2_weightBy_52 : decode cX2_weightBy 52 = .ok (.iand, 1) := dk_126 (dk_at dksX2_weightBy_2 6 rfl rfl)
theorem dX2_weightBy_53 : decode cX2_weightBy 53 = .ok (.iastore, 1) := dk_79 (dk_at dksX2_weightBy_2 7 rfl rfl)
theorem dX2_weightBy_54 : decode cX2_weightBy 54 = .ok (.aload_n 0, 1) := dk_42 (dk_at dksX2_weightBy_2 8 rfl rfl)
theorem dX2_weightBy_55 : decode cX2_weightBy 55 = .ok (.getfield 32, 3) := dk_180 0 32 (dk_at dksX2_weightBy_2 9 rfl rfl)
theorem dX2_weightBy_58 : decode cX2_weightBy 58 = .ok (.bipush 6, 2) := dk_16 6 (dk_at dksX2_weightBy_2 12 rfl rfl)
theorem dX2_weightBy_60 : decode cX2_weightBy 60 = .ok (.aload_n 0, 1) := dk_42 (dk_at dksX2_weightBy_2 14 rfl rfl)
theorem dX2_weightBy_61 : decode cX2_weightBy 61 = .ok (.iload_n 2, 1) := dk_28 (dk_at dksX2_weightBy_2 15 rfl rfl)
theorem dX2_weightBy_62 : decode cX2_weightBy 62 = .ok (.iconst 3, 1) := dk_6 (dk_at dksX2_weightBy_2 16 rfl rfl)
theorem dX2_weightBy_63 : decode cX2_weightBy 63 = .ok (.invokevirtual 84, 3) := dk_182 0 84 (dk_at dksX2_weightBy_2 17 rfl rfl)
theorem dX2_weightBy_66 : decode cX2_weightBy 66 = .ok (.iconst 2, 1) := dk_5 (dk_at dksX2_weightBy_2 20 rfl rfl)
theorem dX2_weightBy_67 : decode cX2_weightBy 67 = .ok (.ishr, 1) := dk_122 (dk_at dksX2_weightBy_2 21 rfl rfl)
theorem dX2_weightBy_68 : decode cX2_weightBy 68 = .ok (.iastore, 1) := dk_79 (dk_at dksX2_weightBy_2 22 rfl rfl)
theorem dX2_weightBy_69 : decode cX2_weightBy 69 = .ok (.aload_n 0, 1) := dk_42 (dk_at dksX2_weightBy_2 23 rfl rfl)
theorem dX2_weightBy_70 : decode cX2_weightBy 70 = .ok (.getfield 32, 3) := dk_180 0 32 (dk_at dksX2_weightBy_3 0 rfl rfl)
theorem dX2_weightBy_73 : decode cX2_weightBy 73 = .ok (.bipush 7, 2) := dk_16 7 (dk_at dksX2_weightBy_3 3 rfl rfl)
theorem dX2_weightBy_75 : decode cX2_weightBy 75 = .ok (.aload_n 0, 1) := dk_42 (dk_at dksX2_weightBy_3 5 rfl rfl)
theorem dX2_weightBy_76 : decode cX2_weightBy 76 = .ok (.iload_n 2, 1) := dk_28 (dk_at dksX2_weightBy_3 6 rfl rfl)
theorem dX2_weightBy_77 : decode cX2_weightBy 77 = .ok (.iconst 4, 1) := dk_7 (dk_at dksX2_weightBy_3 7 rfl rfl)
theorem dX2_weightBy_78 : decode cX2_weightBy 78 = .ok (.invokevirtual 84, 3) := dk_182 0 84 (dk_at dksX2_weightBy_3 8 rfl rfl)
theorem dX2_weightBy_81 : decode cX2_weightBy 81 = .ok (.iconst (-1), 1) := dk_2 (dk_at dksX2_weightBy_3 11 rfl rfl)
theorem dX2_weightBy_82 : decode cX2_weightBy 82 = .ok (.if_icmp .ne 7, 3) := dk_160 0 7 (dk_at dksX2_weightBy_3 12 rfl rfl)
theorem dX2_weightBy_85 : decode cX2_weightBy 85 = .ok (.iconst 0, 1) := dk_3 (dk_at dksX2_weightBy_3 15 rfl rfl)
theorem dX2_weightBy_86 : decode cX2_weightBy 86 = .ok (.goto 4, 3) := dk_167 0 4 (dk_at dksX2_weightBy_3 16 rfl rfl)
theorem dX2_weightBy_89 : decode cX2_weightBy 89 = .ok (.iconst 1, 1) := dk_4 (dk_at dksX2_weightBy_3 19 rfl rfl)
theorem dX2_weightBy_90 : decode cX2_weightBy 90 = .ok (.iastore, 1) := dk_79 (dk_at dksX2_weightBy_3 20 rfl rfl)
theorem dX2_weightBy_91 : decode cX2_weightBy 91 = .ok (.aload_n 0, 1) := dk_42 (dk_at dksX2_weightBy_3 21 rfl rfl)
theorem dX2_weightBy_92 : decode cX2_weightBy 92 = .ok (.iload_n 1, 1) := dk_27 (dk_at dksX2_weightBy_3 22 rfl rfl)
theorem dX2_weightBy_93 : decode cX2_weightBy 93 = .ok (.iconst 0, 1) := dk_3 (dk_at dksX2_weightBy_3 23 rfl rfl)
theorem dX2_weightBy_94 : decode cX2_weightBy 94 = .ok (.aload_n 0, 1) := dk_42 (dk_at dksX2_weightBy_4 0 rfl rfl)
theorem dX2_weightBy_95 : decode cX2_weightBy 95 = .ok (.iload_n 2, 1) := dk_28 (dk_at dksX2_weightBy_4 1 rfl rfl)
theorem dX2_weightBy_96 : decode cX2_weightBy 96 = .ok (.iconst 0, 1) := dk_3 (dk_at dksX2_weightBy_4 2 rfl rfl)
theorem dX2_weightBy_97 : decode cX2_weightBy 97 = .ok (.invokevirtual 84, 3) := dk_182 0 84 (dk_at dksX2_weightBy_4 3 rfl rfl)
theorem dX2_weightBy_100 : decode cX2_weightBy 100 = .ok (.aload_n 0, 1) := dk_42 (dk_at dksX2_weightBy_4 6 rfl rfl)
theorem dX2_weightBy_101 : decode cX2_weightBy 101 = .ok (.iload_n 2, 1) := dk_28 (dk_at dksX2_weightBy_4 7 rfl rfl)
theorem dX2_weightBy_102 : decode cX2_weightBy 102 = .ok (.iconst 2, 1) := dk_5 (dk_at dksX2_weightBy_4 8 rfl rfl)
theorem dX2_weightBy_103 : decode cX2_weightBy 103 = .ok (.invokevirtual 84, 3) := dk_182 0 84 (dk_at dksX2_weightBy_4 9 rfl rfl)
theorem dX2_weightBy_106 : decode cX2_weightBy 106 = .ok (.sipush (-999), 3) := dk_17 252 25 (dk_at dksX2_weightBy_4 12 rfl rfl)
theorem dX2_weightBy_109 : decode cX2_weightBy 109 = .ok (.sipush 999, 3) := dk_17 3 231 (dk_at dksX2_weightBy_4 15 rfl rfl)
theorem dX2_weightBy_112 : decode cX2_weightBy 112 = .ok (.invokevirtual 284, 3) := dk_182 1 28 (dk_at dksX2_weightBy_4 18 rfl rfl)
theorem dX2_weightBy_115 : decode cX2_weightBy 115 = .ok (.ireturn, 1) := dk_172 (dk_at dksX2_weightBy_4 21 rfl rfl)
abbrev cX2_answer : ByteArray := prog_15_method_78_code
def yX2_answer : MethodName := ⟨RX2, "answer", "(IZ)I"⟩
def dkwX2_answer_2 : List UInt8 := [153, 0, 7, 4, 167, 0, 4, 3, 172]
abbrev dktX2_answer_2 : List UInt8 := dkwX2_answer_2 ++ []
def dkwX2_answer_1 : List UInt8 := [17, 0, 247, 46, 27, 184, 0, 224, 153, 0, 5, 2, 172, 42, 182, 1, 62, 42, 27, 28, 182, 1, 75]
abbrev dktX2_answer_1 : List UInt8 := dkwX2_answer_1 ++ dktX2_answer_2
def dkwX2_answer_0 : List UInt8 := [42, 27, 182, 1, 72, 153, 0, 30, 42, 180, 0, 7, 17, 0, 242, 46, 2, 159, 0, 18, 42, 180, 0, 7]
abbrev dktX2_answer_0 : List UInt8 := dkwX2_answer_0 ++ dktX2_answer_1
theorem dksX2_answer_0 : cX2_answer.data.toList.drop 0 = dktX2_answer_0 := by decide +kernel
theorem dksX2_answer_1 : cX2_answer.data.toList.drop 24 = dktX2_answer_1 := dk_seg dksX2_answer_0 24 rfl rfl
theorem dksX2_answer_2 : cX2_answer.data.toList.drop 47 = dktX2_answer_2 := dk_seg dksX2_answer_1 23 rfl rfl
theorem dX2_answer_0 : decode cX2_answer 0 = .ok (.aload_n 0, 1) := dk_42 (dk_at dksX2_answer_0 0 rfl rfl)
theorem dX2_answer_1 : decode cX2_answer 1 = .ok (.iload_n 1, 1) := dk_27 (dk_at dksX2_answer_0 1 rfl rfl)
theorem dX2_answer_2 : decode cX2_answer 2 = .ok (.invokevirtual 328, 3) := dk_182 1 72 (dk_at dksX2_answer_0 2 rfl rfl)
theorem dX2_answer_5 : decode cX2_answer 5 = .ok (.ifCond .eq 30, 3) := dk_153 0 30 (dk_at dksX2_answer_0 5 rfl rfl)
theorem dX2_answer_8 : decode cX2_answer 8 = .ok (.aload_n 0, 1) := dk_42 (dk_at dksX2_answer_0 8 rfl rfl)
theorem dX2_answer_9 : decode cX2_answer 9 = .ok (.getfield 7, 3) := dk_180 0 7 (dk_at dksX2_answer_0 9 rfl rfl)
theorem dX2_answer_12 : decode cX2_answer 12 = .ok (.sipush 242, 3) := dk_17 0 242 (dk_at dksX2_answer_0 12 rfl rfl)
theorem dX2_answer_15 : decode cX2_answer 15 = .ok (.iaload, 1) := dk_46 (dk_at dksX2_answer_0 15 rfl rfl)
theorem dX2_answer_16 : decode cX2_answer 16 = .ok (.iconst (-1), 1) := dk_2 (dk_at dksX2_answer_0 16 rfl rfl)
theorem dX2_answer_17 : decode cX2_answer 17 = .ok (.if_icmp .eq 18, 3) := dk_159 0 18 (dk_at dksX2_answer_0 17 rfl rfl)
theorem dX2_answer_20 : decode cX2_answer 20 = .ok (.aload_n 0, 1) := dk_42 (dk_at dksX2_answer_0 20 rfl rfl)
theorem dX2_answer_21 : decode cX2_answer 21 = .ok (.getfield 7, 3) := dk_180 0 7 (dk_at dksX2_answer_0 21 rfl rfl)
theorem dX2_answer_24 : decode cX2_answer 24 = .ok (.sipush 247, 3) := dk_17 0 247 (dk_at dksX2_answer_1 0 rfl rfl)
theorem dX2_answer_27 : decode cX2_answer 27 = .ok (.iaload, 1) := dk_46 (dk_at dksX2_answer_1 3 rfl rfl)
theorem dX2_answer_28 : decode cX2_answer 28 = .ok (.iload_n 1, 1) := dk_27 (dk_at dksX2_answer_1 4 rfl rfl)
theorem dX2_answer_29 : decode cX2_answer 29 = .ok (.invokestatic 224, 3) := dk_184 0 224 (dk_at dksX2_answer_1 5 rfl rfl)
theorem dX2_answer_32 : decode cX2_answer 32 = .ok (.ifCond .eq 5, 3) := dk_153 0 5 (dk_at dksX2_answer_1 8 rfl rfl)
theorem dX2_answer_35 : decode cX2_answer 35 = .ok (.iconst (-1), 1) := dk_2 (dk_at dksX2_answer_1 11 rfl rfl)
theorem dX2_answer_36 : decode cX2_answer 36 = .ok (.ireturn, 1) := dk_172 (dk_at dksX2_answer_1 12 rfl rfl)
theorem dX2_answer_37 : decode cX2_answer 37 = .ok (.aload_n 0, 1) := dk_42 (dk_at dksX2_answer_1 13 rfl rfl)
theorem dX2_answer_38 : decode cX2_answer 38 = .ok (.invokevirtual 318, 3) := dk_182 1 62 (dk_at dksX2_answer_1 14 rfl rfl)
theorem dX2_answer_41 : decode cX2_answer 41 = .ok (.aload_n 0, 1) := dk_42 (dk_at dksX2_answer_1 17 rfl rfl)
theorem dX2_answer_42 : decode cX2_answer 42 = .ok (.iload_n 1, 1) := dk_27 (dk_at dksX2_answer_1 18 rfl rfl)
theorem dX2_answer_43 : decode cX2_answer 43 = .ok (.iload_n 2, 1) := dk_28 (dk_at dksX2_answer_1 19 rfl rfl)
theorem dX2_answer_44 : decode cX2_answer 44 = .ok (.invokevirtual 331, 3) := dk_182 1 75 (dk_at dksX2_answer_1 20 rfl rfl)
theorem dX2_answer_47 : decode cX2_answer 47 = .ok (.ifCond .eq 7, 3) := dk_153 0 7 (dk_at dksX2_answer_2 0 rfl rfl)
theorem dX2_answer_50 : decode cX2_answer 50 = .ok (.iconst 1, 1) := dk_4 (dk_at dksX2_answer_2 3 rfl rfl)
theorem dX2_answer_51 : decode cX2_answer 51 = .ok (.goto 4, 3) := dk_167 0 4 (dk_at dksX2_answer_2 4 rfl rfl)
theorem dX2_answer_54 : decode cX2_answer 54 = .ok (.iconst 0, 1) := dk_3 (dk_at dksX2_answer_2 7 rfl rfl)
theorem dX2_answer_55 : decode cX2_answer 55 = .ok (.ireturn, 1) := dk_172 (dk_at dksX2_answer_2 8 rfl rfl)
abbrev cX2_isJudge : ByteArray := prog_15_method_8_code
def yX2_isJudge : MethodName := ⟨RX2, "isJudge", "(I)Z"⟩
def dkwX2_isJudge_0 : List UInt8 := [27, 3, 42, 180, 0, 7, 5, 46, 4, 100, 184, 0, 80, 172]
abbrev dktX2_isJudge_0 : List UInt8 := dkwX2_isJudge_0 ++ []
theorem dksX2_isJudge_0 : cX2_isJudge.data.toList.drop 0 = dktX2_isJudge_0 := by decide +kernel
theorem dX2_isJudge_0 : decode cX2_isJudge 0 = .ok (.iload_n 1, 1) := dk_27 (dk_at dksX2_isJudge_0 0 rfl rfl)
theorem dX2_isJudge_1 : decode cX2_isJudge 1 = .ok (.iconst 0, 1) := dk_3 (dk_at dksX2_isJudge_0 1 rfl rfl)
theorem dX2_isJudge_2 : decode cX2_isJudge 2 = .ok (.aload_n 0, 1) := dk_42 (dk_at dksX2_isJudge_0 2 rfl rfl)
theorem dX2_isJudge_3 : decode cX2_isJudge 3 = .ok (.getfield 7, 3) := dk_180 0 7 (dk_at dksX2_isJudge_0 3 rfl rfl)
theorem dX2_isJudge_6 : decode cX2_isJudge 6 = .ok (.iconst 2, 1) := dk_5 (dk_at dksX2_isJudge_0 6 rfl rfl)
theorem dX2_isJudge_7 : decode cX2_isJudge 7 = .ok (.iaload, 1) := dk_46 (dk_at dksX2_isJudge_0 7 rfl rfl)
theorem dX2_isJudge_8 : decode cX2_isJudge 8 = .ok (.iconst 1, 1) := dk_4 (dk_at dksX2_isJudge_0 8 rfl rfl)
theorem dX2_isJudge_9 : decode cX2_isJudge 9 = .ok (.isub, 1) := dk_100 (dk_at dksX2_isJudge_0 9 rfl rfl)
theorem dX2_isJudge_10 : decode cX2_isJudge 10 = .ok (.invokestatic 80, 3) := dk_184 0 80 (dk_at dksX2_isJudge_0 10 rfl rfl)
theorem dX2_isJudge_13 : decode cX2_isJudge 13 = .ok (.ireturn, 1) := dk_172 (dk_at dksX2_isJudge_0 13 rfl rfl)
abbrev cX2_answerNow : ByteArray := prog_15_method_70_code
def yX2_answerNow : MethodName := ⟨RX2, "answerNow", "(IZ)Z"⟩
def dkwX2_answerNow_1 : List UInt8 := [182, 1, 50, 28, 159, 0, 7, 4, 167, 0, 4, 3, 62, 29, 153, 0, 8, 42, 27, 182, 1, 53, 29, 172]
abbrev dktX2_answerNow_1 : List UInt8 := dkwX2_answerNow_1 ++ []
def dkwX2_answerNow_0 : List UInt8 := [42, 180, 0, 7, 17, 0, 247, 92, 46, 4, 27, 120, 128, 79, 42, 27, 42, 180, 0, 7, 17, 0, 242, 46]
abbrev dktX2_answerNow_0 : List UInt8 := dkwX2_answerNow_0 ++ dktX2_answerNow_1
theorem dksX2_answerNow_0 : cX2_answerNow.data.toList.drop 0 = dktX2_answerNow_0 := by decide +kernel
theorem dksX2_answerNow_1 : cX2_answerNow.data.toList.drop 24 = dktX2_answerNow_1 := dk_seg dksX2_answerNow_0 24 rfl rfl
theorem dX2_answerNow_0 : decode cX2_answerNow 0 = .ok (.aload_n 0, 1) := dk_42 (dk_at dksX2_answerNow_0 0 rfl rfl)
theorem dX2_answerNow_1 : decode cX2_answerNow 1 = .ok (.getfield 7, 3) := dk_180 0 7 (dk_at dksX2_answerNow_0 1 rfl rfl)
theorem dX2_answerNow_4 : decode cX2_answerNow 4 = .ok (.sipush 247, 3) := dk_17 0 247 (dk_at dksX2_answerNow_0 4 rfl rfl)
theorem dX2_answerNow_7 : decode cX2_answerNow 7 = .ok (.dup2, 1) := dk_92 (dk_at dksX2_answerNow_0 7 rfl rfl)
theorem dX2_answerNow_8 : decode cX2_answerNow 8 = .ok (.iaload, 1) := dk_46 (dk_at dksX2_answerNow_0 8 rfl rfl)
theorem dX2_answerNow_9 : decode cX2_answerNow 9 = .ok (.iconst 1, 1) := dk_4 (dk_at dksX2_answerNow_0 9 rfl rfl)
theorem dX2_answerNow_10 : decode cX2_answerNow 10 = .ok (.iload_n 1, 1) := dk_27 (dk_at dksX2_answerNow_0 10 rfl rfl)
theorem dX2_answerNow_11 : decode cX2_answerNow 11 = .ok (.ishl, 1) := dk_120 (dk_at dksX2_answerNow_0 11 rfl rfl)
theorem dX2_answerNow_12 : decode cX2_answerNow 12 = .ok (.ior, 1) := dk_128 (dk_at dksX2_answerNow_0 12 rfl rfl)
theorem dX2_answerNow_13 : decode cX2_answerNow 13 = .ok (.iastore, 1) := dk_79 (dk_at dksX2_answerNow_0 13 rfl rfl)
theorem dX2_answerNow_14 : decode cX2_answerNow 14 = .ok (.aload_n 0, 1) := dk_42 (dk_at dksX2_answerNow_0 14 rfl rfl)
theorem dX2_answerNow_15 : decode cX2_answerNow 15 = .ok (.iload_n 1, 1) := dk_27 (dk_at dksX2_answerNow_0 15 rfl rfl)
theorem dX2_answerNow_16 : decode cX2_answerNow 16 = .ok (.aload_n 0, 1) := dk_42 (dk_at dksX2_answerNow_0 16 rfl rfl)
theorem dX2_answerNow_17 : decode cX2_answerNow 17 = .ok (.getfield 7, 3) := dk_180 0 7 (dk_at dksX2_answerNow_0 17 rfl rfl)
theorem dX2_answerNow_20 : decode cX2_answerNow 20 = .ok (.sipush 242, 3) := dk_17 0 242 (dk_at dksX2_answerNow_0 20 rfl rfl)
theorem dX2_answerNow_23 : decode cX2_answerNow 23 = .ok (.iaload, 1) := dk_46 (dk_at dksX2_answerNow_0 23 rfl rfl)
theorem dX2_answerNow_24 : decode cX2_answerNow 24 = .ok (.invokevirtual 306, 3) := dk_182 1 50 (dk_at dksX2_answerNow_1 0 rfl rfl)
theorem dX2_answerNow_27 : decode cX2_answerNow 27 = .ok (.iload_n 2, 1) := dk_28 (dk_at dksX2_answerNow_1 3 rfl rfl)
theorem dX2_answerNow_28 : decode cX2_answerNow 28 = .ok (.if_icmp .eq 7, 3) := dk_159 0 7 (dk_at dksX2_answerNow_1 4 rfl rfl)
theorem dX2_answerNow_31 : decode cX2_answerNow 31 = .ok (.iconst 1, 1) := dk_4 (dk_at dksX2_answerNow_1 7 rfl rfl)
theorem dX2_answerNow_32 : decode cX2_answerNow 32 = .ok (.goto 4, 3) := dk_167 0 4 (dk_at dksX2_answerNow_1 8 rfl rfl)
theorem dX2_answerNow_35 : decode cX2_answerNow 35 = .ok (.iconst 0, 1) := dk_3 (dk_at dksX2_answerNow_1 11 rfl rfl)
theorem dX2_answerNow_36 : decode cX2_answerNow 36 = .ok (.istore_n 3, 1) := dk_62 (dk_at dksX2_answerNow_1 12 rfl rfl)
theorem dX2_answerNow_37 : decode cX2_answerNow 37 = .ok (.iload_n 3, 1) := dk_29 (dk_at dksX2_answerNow_1 13 rfl rfl)
theorem dX2_answerNow_38 : decode cX2_answerNow 38 = .ok (.ifCond .eq 8, 3) := dk_153 0 8 (dk_at dksX2_answerNow_1 14 rfl rfl)
theorem dX2_answerNow_41 : decode cX2_answerNow 41 = .ok (.aload_n 0, 1) := dk_42 (dk_at dksX2_answerNow_1 17 rfl rfl)
theorem dX2_answerNow_42 : decode cX2_answerNow 42 = .ok (.iload_n 1, 1) := dk_27 (dk_at dksX2_answerNow_1 18 rfl rfl)
theorem dX2_answerNow_43 : decode cX2_answerNow 43 = .ok (.invokevirtual 309, 3) := dk_182 1 53 (dk_at dksX2_answerNow_1 19 rfl rfl)
theorem dX2_answerNow_46 : decode cX2_answerNow 46 = .ok (.iload_n 3, 1) := dk_29 (dk_at dksX2_answerNow_1 22 rfl rfl)
theorem dX2_answerNow_47 : decode cX2_answerNow 47 = .ok (.ireturn, 1) := dk_172 (dk_at dksX2_answerNow_1 23 rfl rfl)
abbrev cX2_isSoOf : ByteArray := prog_15_method_68_code
def yX2_isSoOf : MethodName := ⟨RX2, "isSoOf", "(II)Z"⟩
def dkwX2_isSoOf_2 : List UInt8 := [182, 1, 47, 158, 0, 5, 4, 172, 132, 3, 1, 167, 255, 201, 3, 172]
abbrev dktX2_isSoOf_2 : List UInt8 := dkwX2_isSoOf_2 ++ []
def dkwX2_isSoOf_1 : List UInt8 := [180, 0, 7, 17, 0, 234, 27, 96, 46, 42, 29, 4, 182, 0, 84, 184, 0, 224, 153, 0, 13, 42, 29]
abbrev dktX2_isSoOf_1 : List UInt8 := dkwX2_isSoOf_1 ++ dktX2_isSoOf_2
def dkwX2_isSoOf_0 : List UInt8 := [3, 62, 29, 42, 180, 0, 7, 4, 46, 162, 0, 51, 42, 29, 3, 182, 0, 84, 28, 160, 0, 35, 42]
abbrev dktX2_isSoOf_0 : List UInt8 := dkwX2_isSoOf_0 ++ dktX2_isSoOf_1
theorem dksX2_isSoOf_0 : cX2_isSoOf.data.toList.drop 0 = dktX2_isSoOf_0 := by decide +kernel
theorem dksX2_isSoOf_1 : cX2_isSoOf.data.toList.drop 23 = dktX2_isSoOf_1 := dk_seg dksX2_isSoOf_0 23 rfl rfl
theorem dksX2_isSoOf_2 : cX2_isSoOf.data.toList.drop 46 = dktX2_isSoOf_2 := dk_seg dksX2_isSoOf_1 23 rfl rfl
theorem dX2_isSoOf_0 : decode cX2_isSoOf 0 = .ok (.iconst 0, 1) := dk_3 (dk_at dksX2_isSoOf_0 0 rfl rfl)
theorem dX2_isSoOf_1 : decode cX2_isSoOf 1 = .ok (.istore_n 3, 1) := dk_62 (dk_at dksX2_isSoOf_0 1 rfl rfl)
theorem dX2_isSoOf_2 : decode cX2_isSoOf 2 = .ok (.iload_n 3, 1) := dk_29 (dk_at dksX2_isSoOf_0 2 rfl rfl)
theorem dX2_isSoOf_3 : decode cX2_isSoOf 3 = .ok (.aload_n 0, 1) := dk_42 (dk_at dksX2_isSoOf_0 3 rfl rfl)
theorem dX2_isSoOf_4 : decode cX2_isSoOf 4 = .ok (.getfield 7, 3) := dk_180 0 7 (dk_at dksX2_isSoOf_0 4 rfl rfl)
theorem dX2_isSoOf_7 : decode cX2_isSoOf 7 = .ok (.iconst 1, 1) := dk_4 (dk_at dksX2_isSoOf_0 7 rfl rfl)
theorem dX2_isSoOf_8 : decode cX2_isSoOf 8 = .ok (.iaload, 1) := dk_46 (dk_at dksX2_isSoOf_0 8 rfl rfl)
theorem dX2_isSoOf_9 : decode cX2_isSoOf 9 = .ok (.if_icmp .ge 51, 3) := dk_162 0 51 (dk_at dksX2_isSoOf_0 9 rfl rfl)
theorem dX2_isSoOf_12 : decode cX2_isSoOf 12 = .ok (.aload_n 0, 1) := dk_42 (dk_at dksX2_isSoOf_0 12 rfl rfl)
theorem dX2_isSoOf_13 : decode cX2_isSoOf 13 = .ok (.iload_n 3, 1) := dk_29 (dk_at dksX2_isSoOf_0 13 rfl rfl)
theorem dX2_isSoOf_14 : decode cX2_isSoOf 14 = .ok (.iconst 0, 1) := dk_3 (dk_at dksX2_isSoOf_0 14 rfl rfl)
theorem dX2_isSoOf_15 : decode cX2_isSoOf 15 = .ok (.invokevirtual 84, 3) := dk_182 0 84 (dk_at dksX2_isSoOf_0 15 rfl rfl)
theorem dX2_isSoOf_18 : decode cX2_isSoOf 18 = .ok (.iload_n 2, 1) := dk_28 (dk_at dksX2_isSoOf_0 18 rfl rfl)
theorem dX2_isSoOf_19 : decode cX2_isSoOf 19 = .ok (.if_icmp .ne 35, 3) := dk_160 0 35 (dk_at dksX2_isSoOf_0 19 rfl rfl)
theorem dX2_isSoOf_22 : decode cX2_isSoOf 22 = .ok (.aload_n 0, 1) := dk_42 (dk_at dksX2_isSoOf_0 22 rfl rfl)
theorem dX2_isSoOf_23 : decode cX2_isSoOf 23 = .ok (.getfield 7, 3) := dk_180 0 7 (dk_at dksX2_isSoOf_1 0 rfl rfl)
theorem dX2_isSoOf_26 : decode cX2_isSoOf 26 = .ok (.sipush 234, 3) := dk_17 0 234 (dk_at dksX2_isSoOf_1 3 rfl rfl)
theorem dX2_isSoOf_29 : decode cX2_isSoOf 29 = .ok (.iload_n 1, 1) := dk_27 (dk_at dksX2_isSoOf_1 6 rfl rfl)
theorem dX2_isSoOf_30 : decode cX2_isSoOf 30 = .ok (.iadd, 1) := dk_96 (dk_at dksX2_isSoOf_1 7 rfl rfl)
theorem dX2_isSoOf_31 : decode cX2_isSoOf 31 = .ok (.iaload, 1) := dk_46 (dk_at dksX2_isSoOf_1 8 rfl rfl)
theorem dX2_isSoOf_32 : decode cX2_isSoOf 32 = .ok (.aload_n 0, 1) := dk_42 (dk_at dksX2_isSoOf_1 9 rfl rfl)
theorem dX2_isSoOf_33 : decode cX2_isSoOf 33 = .ok (.iload_n 3, 1) := dk_29 (dk_at dksX2_isSoOf_1 10 rfl rfl)
theorem dX2_isSoOf_34 : decode cX2_isSoOf 34 = .ok (.iconst 1, 1) := dk_4 (dk_at dksX2_isSoOf_1 11 rfl rfl)
theorem dX2_isSoOf_35 : decode cX2_isSoOf 35 = .ok (.invokevirtual 84, 3) := dk_182 0 84 (dk_at dksX2_isSoOf_1 12 rfl rfl)
theorem dX2_isSoOf_38 : decode cX2_isSoOf 38 = .ok (.invokestatic 224, 3) := dk_184 0 224 (dk_at dksX2_isSoOf_1 15 rfl rfl)
theorem dX2_isSoOf_41 : decode cX2_isSoOf 41 = .ok (.ifCond .eq 13, 3) := dk_153 0 13 (dk_at dksX2_isSoOf_1 18 rfl rfl)
theorem dX2_isSoOf_44 : decode cX2_isSoOf 44 = .ok (.aload_n 0, 1) := dk_42 (dk_at dksX2_isSoOf_1 21 rfl rfl)
theorem dX2_isSoOf_45 : decode cX2_isSoOf 45 = .ok (.iload_n 3, 1) := dk_29 (dk_at dksX2_isSoOf_1 22 rfl rfl)
theorem dX2_isSoOf_46 : decode cX2_isSoOf 46 = .ok (.invokevirtual 303, 3) := dk_182 1 47 (dk_at dksX2_isSoOf_2 0 rfl rfl)
theorem dX2_isSoOf_49 : decode cX2_isSoOf 49 = .ok (.ifCond .le 5, 3) := dk_158 0 5 (dk_at dksX2_isSoOf_2 3 rfl rfl)
theorem dX2_isSoOf_52 : decode cX2_isSoOf 52 = .ok (.iconst 1, 1) := dk_4 (dk_at dksX2_isSoOf_2 6 rfl rfl)
theorem dX2_isSoOf_53 : decode cX2_isSoOf 53 = .ok (.ireturn, 1) := dk_172 (dk_at dksX2_isSoOf_2 7 rfl rfl)
theorem dX2_isSoOf_54 : decode cX2_isSoOf 54 = .ok (.iinc 3 1, 3) := dk_132 3 1 (dk_at dksX2_isSoOf_2 8 rfl rfl)
theorem dX2_isSoOf_57 : decode cX2_isSoOf 57 = .ok (.goto (-55), 3) := dk_167 255 201 (dk_at dksX2_isSoOf_2 11 rfl rfl)
theorem dX2_isSoOf_60 : decode cX2_isSoOf 60 = .ok (.iconst 0, 1) := dk_3 (dk_at dksX2_isSoOf_2 14 rfl rfl)
theorem dX2_isSoOf_61 : decode cX2_isSoOf 61 = .ok (.ireturn, 1) := dk_172 (dk_at dksX2_isSoOf_2 15 rfl rfl)
abbrev cX2_lieNow : ByteArray := prog_15_method_69_code
def yX2_lieNow : MethodName := ⟨RX2, "lieNow", "(I)V"⟩
def dkwX2_lieNow_8 : List UInt8 := [180, 0, 7, 6, 46, 182, 1, 44, 177]
abbrev dktX2_lieNow_8 : List UInt8 := dkwX2_lieNow_8 ++ []
def dkwX2_lieNow_7 : List UInt8 := [17, 0, 245, 92, 46, 4, 96, 79, 42, 180, 0, 7, 17, 0, 243, 92, 46, 21, 4, 96, 79, 42, 42]
abbrev dktX2_lieNow_7 : List UInt8 := dkwX2_lieNow_7 ++ dktX2_lieNow_8
def dkwX2_lieNow_6 : List UInt8 := [180, 0, 7, 16, 7, 46, 5, 28, 6, 3, 17, 3, 231, 182, 1, 28, 54, 4, 42, 180, 0, 7]
abbrev dktX2_lieNow_6 : List UInt8 := dkwX2_lieNow_6 ++ dktX2_lieNow_7
def dkwX2_lieNow_5 : List UInt8 := [180, 0, 7, 17, 0, 234, 27, 96, 46, 184, 1, 38, 79, 42, 180, 0, 32, 16, 13, 29, 79, 42, 42]
abbrev dktX2_lieNow_5 : List UInt8 := dkwX2_lieNow_5 ++ dktX2_lieNow_6
def dkwX2_lieNow_4 : List UInt8 := [180, 0, 7, 17, 0, 245, 46, 79, 42, 180, 0, 32, 16, 11, 27, 79, 42, 180, 0, 32, 16, 12, 42]
abbrev dktX2_lieNow_4 : List UInt8 := dkwX2_lieNow_4 ++ dktX2_lieNow_5
def dkwX2_lieNow_3 : List UInt8 := [154, 0, 7, 4, 167, 0, 4, 3, 96, 62, 132, 4, 1, 167, 255, 188, 42, 180, 0, 32, 16, 10, 42]
abbrev dktX2_lieNow_3 : List UInt8 := dkwX2_lieNow_3 ++ dktX2_lieNow_4
def dkwX2_lieNow_2 : List UInt8 := [46, 42, 21, 4, 4, 182, 0, 84, 184, 0, 224, 153, 0, 19, 42, 21, 4, 6, 182, 0, 84, 5, 112]
abbrev dktX2_lieNow_2 : List UInt8 := dkwX2_lieNow_2 ++ dktX2_lieNow_3
def dkwX2_lieNow_1 : List UInt8 := [162, 0, 63, 29, 42, 21, 4, 3, 182, 0, 84, 28, 160, 0, 42, 42, 180, 0, 7, 17, 0, 234, 27, 96]
abbrev dktX2_lieNow_1 : List UInt8 := dkwX2_lieNow_1 ++ dktX2_lieNow_2
def dkwX2_lieNow_0 : List UInt8 := [42, 180, 0, 7, 17, 0, 242, 46, 61, 3, 62, 3, 54, 4, 21, 4, 42, 180, 0, 7, 4, 46]
abbrev dktX2_lieNow_0 : List UInt8 := dkwX2_lieNow_0 ++ dktX2_lieNow_1
theorem dksX2_lieNow_0 : cX2_lieNow.data.toList.drop 0 = dktX2_lieNow_0 := by decide +kernel
theorem dksX2_lieNow_1 : cX2_lieNow.data.toList.drop 22 = dktX2_lieNow_1 := dk_seg dksX2_lieNow_0 22 rfl rfl
theorem dksX2_lieNow_2 : cX2_lieNow.data.toList.drop 46 = dktX2_lieNow_2 := dk_seg dksX2_lieNow_1 24 rfl rfl
theorem dksX2_lieNow_3 : cX2_lieNow.data.toList.drop 69 = dktX2_lieNow_3 := dk_seg dksX2_lieNow_2 23 rfl rfl
theorem dksX2_lieNow_4 : cX2_lieNow.data.toList.drop 92 = dktX2_lieNow_4 := dk_seg dksX2_lieNow_3 23 rfl rfl
theorem dksX2_lieNow_5 : cX2_lieNow.data.toList.drop 115 = dktX2_lieNow_5 := dk_seg dksX2_lieNow_4 23 rfl rfl
theorem dksX2_lieNow_6 : cX2_lieNow.data.toList.drop 138 = dktX2_lieNow_6 := dk_seg dksX2_lieNow_5 23 rfl rfl
theorem dksX2_lieNow_7 : cX2_lieNow.data.toList.drop 160 = dktX2_lieNow_7 := dk_seg dksX2_lieNow_6 22 rfl rfl
theorem dksX2_lieNow_8 : cX2_lieNow.data.toList.drop 183 = dktX2_lieNow_8 := dk_seg dksX2_lieNow_7 23 rfl rfl
theorem dX2_lieNow_0 : decode cX2_lieNow 0 = .ok (.aload_n 0, 1) := dk_42 (dk_at dksX2_lieNow_0 0 rfl rfl)
theorem dX2_lieNow_1 : decode cX2_lieNow 1 = .ok (.getfield 7, 3) := dk_180 0 7 (dk_at dksX2_lieNow_0 1 rfl rfl)
theorem dX2_lieNow_4 : decode cX2_lieNow 4 = .ok (.sipush 242, 3) := dk_17 0 242 (dk_at dksX2_lieNow_0 4 rfl rfl)
theorem dX2_lieNow_7 : decode cX2_lieNow 7 = .ok (.iaload, 1) := dk_46 (dk_at dksX2_lieNow_0 7 rfl rfl)
theorem dX2_lieNow_8 : decode cX2_lieNow 8 = .ok (.istore_n 2, 1) := dk_61 (dk_at dksX2_lieNow_0 8 rfl rfl)
theorem dX2_lieNow_9 : decode cX2_lieNow 9 = .ok (.iconst 0, 1) := dk_3 (dk_at dksX2_lieNow_0 9 rfl rfl)
theorem dX2_lieNow_10 : decode cX2_lieNow 10 = .ok (.istore_n 3, 1) := dk_62 (dk_at dksX2_lieNow_0 10 rfl rfl)
theorem dX2_lieNow_11 : decode cX2_lieNow 11 = .ok (.iconst 0, 1) := dk_3 (dk_at dksX2_lieNow_0 11 rfl rfl)
theorem dX2_lieNow_12 : decode cX2_lieNow 12 = .ok (.istore 4, 2) := dk_54 4 (dk_at dksX2_lieNow_0 12 rfl rfl)
theorem dX2_lieNow_14 : decode cX2_lieNow 14 = .ok (.iload 4, 2) := dk_21 4 (dk_at dksX2_lieNow_0 14 rfl rfl)
theorem dX2_lieNow_16 : decode cX2_lieNow 16 = .ok (.aload_n 0, 1) := dk_42 (dk_at dksX2_lieNow_0 16 rfl rfl)
theorem dX2_lieNow_17 : decode cX2_lieNow 17 = .ok (.getfield 7, 3) := dk_180 0 7 (dk_at dksX2_lieNow_0 17 rfl rfl)
theorem dX2_lieNow_20 : decode cX2_lieNow 20 = .ok (.iconst 1, 1) := dk_4 (dk_at dksX2_lieNow_0 20 rfl rfl)
theorem dX2_lieNow_21 : decode cX2_lieNow 21 = .ok (.iaload, 1) := dk_46 (dk_at dksX2_lieNow_0 21 rfl rfl)
theorem dX2_lieNow_22 : decode cX2_lieNow 22 = .ok (.if_icmp .ge 63, 3) := dk_162 0 63 (dk_at dksX2_lieNow_1 0 rfl rfl)
theorem dX2_lieNow_25 : decode cX2_lieNow 25 = .ok (.iload_n 3, 1) := dk_29 (dk_at dksX2_lieNow_1 3 rfl rfl)
theorem dX2_lieNow_26 : decode cX2_lieNow 26 = .ok (.aload_n 0, 1) := dk_42 (dk_at dksX2_lieNow_1 4 rfl rfl)
theorem dX2_lieNow_27 : decode cX2_lieNow 27 = .ok (.iload 4, 2) := dk_21 4 (dk_at dksX2_lieNow_1 5 rfl rfl)
theorem dX2_lieNow_29 : decode cX2_lieNow 29 = .ok (.iconst 0, 1) := dk_3 (dk_at dksX2_lieNow_1 7 rfl rfl)
theorem dX2_lieNow_30 : decode cX2_lieNow 30 = .ok (.invokevirtual 84, 3) := dk_182 0 84 (dk_at dksX2_lieNow_1 8 rfl rfl)
theorem dX2_lieNow_33 : decode cX2_lieNow 33 = .ok (.iload_n 2, 1) := dk_28 (dk_at dksX2_lieNow_1 11 rfl rfl)
theorem dX2_lieNow_34 : decode cX2_lieNow 34 = .ok (.if_icmp .ne 42, 3) := dk_160 0 42 (dk_at dksX2_lieNow_1 12 rfl rfl)
theorem dX2_lieNow_37 : decode cX2_lieNow 37 = .ok (.aload_n 0, 1) := dk_42 (dk_at dksX2_lieNow_1 15 rfl rfl)
theorem dX2_lieNow_38 : decode cX2_lieNow 38 = .ok (.getfield 7, 3) := dk_180 0 7 (dk_at dksX2_lieNow_1 16 rfl rfl)
theorem dX2_lieNow_41 : decode cX2_lieNow 41 = .ok (.sipush 234, 3) := dk_17 0 234 (dk_at dksX2_lieNow_1 19 rfl rfl)
theorem dX2_lieNow_44 : decode cX2_lieNow 44 = .ok (.iload_n 1, 1) := dk_27 (dk_at dksX2_lieNow_1 22 rfl rfl)
theorem dX2_lieNow_45 : decode cX2_lieNow 45 = .ok (.iadd, 1) := dk_96 (dk_at dksX2_lieNow_1 23 rfl rfl)
theorem dX2_lieNow_46 : decode cX2_lieNow 46 = .ok (.iaload, 1) := dk_46 (dk_at dksX2_lieNow_2 0 rfl rfl)
theorem dX2_lieNow_47 : decode cX2_lieNow 47 = .ok (.aload_n 0, 1) := dk_42 (dk_at dksX2_lieNow_2 1 rfl rfl)
theorem dX2_lieNow_48 : decode cX2_lieNow 48 = .ok (.iload 4, 2) := dk_21 4 (dk_at dksX2_lieNow_2 2 rfl rfl)
theorem dX2_lieNow_50 : decode cX2_lieNow 50 = .ok (.iconst 1, 1) := dk_4 (dk_at dksX2_lieNow_2 4 rfl rfl)
theorem dX2_lieNow_51 : decode cX2_lieNow 51 = .ok (.invokevirtual 84, 3) := dk_182 0 84 (dk_at dksX2_lieNow_2 5 rfl rfl)
theorem dX2_lieNow_54 : decode cX2_lieNow 54 = .ok (.invokestatic 224, 3) := dk_184 0 224 (dk_at dksX2_lieNow_2 8 rfl rfl)
theorem dX2_lieNow_57 : decode cX2_lieNow 57 = .ok (.ifCond .eq 19, 3) := dk_153 0 19 (dk_at dksX2_lieNow_2 11 rfl rfl)
theorem dX2_lieNow_60 : decode cX2_lieNow 60 = .ok (.aload_n 0, 1) := dk_42 (dk_at dksX2_lieNow_2 14 rfl rfl)
theorem dX2_lieNow_61 : decode cX2_lieNow 61 = .ok (.iload 4, 2) := dk_21 4 (dk_at dksX2_lieNow_2 15 rfl rfl)
theorem dX2_lieNow_63 : decode cX2_lieNow 63 = .ok (.iconst 3, 1) := dk_6 (dk_at dksX2_lieNow_2 17 rfl rfl)
theorem dX2_lieNow_64 : decode cX2_lieNow 64 = .ok (.invokevirtual 84, 3) := dk_182 0 84 (dk_at dksX2_lieNow_2 18 rfl rfl)
theorem dX2_lieNow_67 : decode cX2_lieNow 67 = .ok (.iconst 2, 1) := dk_5 (dk_at dksX2_lieNow_2 21 rfl rfl)
theorem dX2_lieNow_68 : decode cX2_lieNow 68 = .ok (.irem, 1) := dk_112 (dk_at dksX2_lieNow_2 22 rfl rfl)
theorem dX2_lieNow_69 : decode cX2_lieNow 69 = .ok (.ifCond .ne 7, 3) := dk_154 0 7 (dk_at dksX2_lieNow_3 0 rfl rfl)
theorem dX2_lieNow_72 : decode cX2_lieNow 72 = .ok (.iconst 1, 1) := dk_4 (dk_at dksX2_lieNow_3 3 rfl rfl)
theorem dX2_lieNow_73 : decode cX2_lieNow 73 = .ok (.goto 4, 3) := dk_167 0 4 (dk_at dksX2_lieNow_3 4 rfl rfl)
theorem dX2_lieNow_76 : decode cX2_lieNow 76 = .ok (.iconst 0, 1) := dk_3 (dk_at dksX2_lieNow_3 7 rfl rfl)
theorem dX2_lieNow_77 : decode cX2_lieNow 77 = .ok (.iadd, 1) := dk_96 (dk_at dksX2_lieNow_3 8 rfl rfl)
theorem dX2_lieNow_78 : decode cX2_lieNow 78 = .ok (.istore_n 3, 1) := dk_62 (dk_at dksX2_lieNow_3 9 rfl rfl)
theorem dX2_lieNow_79 : decode cX2_lieNow 79 = .ok (.iinc 4 1, 3) := dk_132 4 1 (dk_at dksX2_lieNow_3 10 rfl rfl)
theorem dX2_lieNow_82 : decode cX2_lieNow 82 = .ok (.goto (-68), 3) := dk_167 255 188 (dk_at dksX2_lieNow_3 13 rfl rfl)
theorem dX2_lieNow_85 : decode cX2_lieNow 85 = .ok (.aload_n 0, 1) := dk_42 (dk_at dksX2_lieNow_3 16 rfl rfl)
theorem dX2_lieNow_86 : decode cX2_lieNow 86 = .ok (.getfield 32, 3) := dk_180 0 32 (dk_at dksX2_lieNow_3 17 rfl rfl)
theorem dX2_lieNow_89 : decode cX2_lieNow 89 = .ok (.bipush 10, 2) := dk_16 10 (dk_at dksX2_lieNow_3 20 rfl rfl)
theorem dX2_lieNow_91 : decode cX2_lieNow 91 = .ok (.aload_n 0, 1) := dk_42 (dk_at dksX2_lieNow_3 22 rfl rfl)
theorem dX2_lieNow_92 : decode cX2_lieNow 92 = .ok (.getfield 7, 3) := dk_180 0 7 (dk_at dksX2_lieNow_4 0 rfl rfl)
theorem dX2_lieNow_95 : decode cX2_lieNow 95 = .ok (.sipush 245, 3) := dk_17 0 245 (dk_at dksX2_lieNow_4 3 rfl rfl)
theorem dX2_lieNow_98 : decode cX2_lieNow 98 = .ok (.iaload, 1) := dk_46 (dk_at dksX2_lieNow_4 6 rfl rfl)
theorem dX2_lieNow_99 : decode cX2_lieNow 99 = .ok (.iastore, 1) := dk_79 (dk_at dksX2_lieNow_4 7 rfl rfl)
theorem dX2_lieNow_100 : decode cX2_lieNow 100 = .ok (.aload_n 0, 1) := dk_42 (dk_at dksX2_lieNow_4 8 rfl rfl)
theorem dX2_lieNow_101 : decode cX2_lieNow 101 = .ok (.getfield 32, 3) := dk_180 0 32 (dk_at dksX2_lieNow_4 9 rfl rfl)
theorem dX2_lieNow_104 : decode cX2_lieNow 104 = .ok (.bipush 11, 2) := dk_16 11 (dk_at dksX2_lieNow_4 12 rfl rfl)
theorem dX2_lieNow_106 : decode cX2_lieNow 106 = .ok (.iload_n 1, 1) := dk_27 (dk_at dksX2_lieNow_4 14 rfl rfl)
theorem dX2_lieNow_107 : decode cX2_lieNow 107 = .ok (.iastore, 1) := dk_79 (dk_at dksX2_lieNow_4 15 rfl rfl)
theorem dX2_lieNow_108 : decode cX2_lieNow 108 = .ok (.aload_n 0, 1) := dk_42 (dk_at dksX2_lieNow_4 16 rfl rfl)
theorem dX2_lieNow_109 : decode cX2_lieNow 109 = .ok (.getfield 32, 3) := dk_180 0 32 (dk_at dksX2_lieNow_4 17 rfl rfl)
theorem dX2_lieNow_112 : decode cX2_lieNow 112 = .ok (.bipush 12, 2) := dk_16 12 (dk_at dksX2_lieNow_4 20 rfl rfl)
theorem dX2_lieNow_114 : decode cX2_lieNow 114 = .ok (.aload_n 0, 1) := dk_42 (dk_at dksX2_lieNow_4 22 rfl rfl)
theorem dX2_lieNow_115 : decode cX2_lieNow 115 = .ok (.getfield 7, 3) := dk_180 0 7 (dk_at dksX2_lieNow_5 0 rfl rfl)
theorem dX2_lieNow_118 : decode cX2_lieNow 118 = .ok (.sipush 234, 3) := dk_17 0 234 (dk_at dksX2_lieNow_5 3 rfl rfl)
theorem dX2_lieNow_121 : decode cX2_lieNow 121 = .ok (.iload_n 1, 1) := dk_27 (dk_at dksX2_lieNow_5 6 rfl rfl)
theorem dX2_lieNow_122 : decode cX2_lieNow 122 = .ok (.iadd, 1) := dk_96 (dk_at dksX2_lieNow_5 7 rfl rfl)
theorem dX2_lieNow_123 : decode cX2_lieNow 123 = .ok (.iaload, 1) := dk_46 (dk_at dksX2_lieNow_5 8 rfl rfl)
theorem dX2_lieNow_124 : decode cX2_lieNow 124 = .ok (.invokestatic 294, 3) := dk_184 1 38 (dk_at dksX2_lieNow_5 9 rfl rfl)
theorem dX2_lieNow_127 : decode cX2_lieNow 127 = .ok (.iastore, 1) := dk_79 (dk_at dksX2_lieNow_5 12 rfl rfl)
theorem dX2_lieNow_128 : decode cX2_lieNow 128 = .ok (.aload_n 0, 1) := dk_42 (dk_at dksX2_lieNow_5 13 rfl rfl)
theorem dX2_lieNow_129 : decode cX2_lieNow 129 = .ok (.getfield 32, 3) := dk_180 0 32 (dk_at dksX2_lieNow_5 14 rfl rfl)
theorem dX2_lieNow_132 : decode cX2_lieNow 132 = .ok (.bipush 13, 2) := dk_16 13 (dk_at dksX2_lieNow_5 17 rfl rfl)
theorem dX2_lieNow_134 : decode cX2_lieNow 134 = .ok (.iload_n 3, 1) := dk_29 (dk_at dksX2_lieNow_5 19 rfl rfl)
theorem dX2_lieNow_135 : decode cX2_lieNow 135 = .ok (.iastore, 1) := dk_79 (dk_at dksX2_lieNow_5 20 rfl rfl)
theorem dX2_lieNow_136 : decode cX2_lieNow 136 = .ok (.aload_n 0, 1) := dk_42 (dk_at dksX2_lieNow_5 21 rfl rfl)
theorem dX2_lieNow_137 : decode cX2_lieNow 137 = .ok (.aload_n 0, 1) := dk_42 (dk_at dksX2_lieNow_5 22 rfl rfl)
theorem dX2_lieNow_138 : decode cX2_lieNow 138 = .ok (.getfield 7, 3) := dk_180 0 7 (dk_at dksX2_lieNow_6 0 rfl rfl)
theorem dX2_lieNow_141 : decode cX2_lieNow 141 = .ok (.bipush 7, 2) := dk_16 7 (dk_at dksX2_lieNow_6 3 rfl rfl)
theorem dX2_lieNow_143 : decode cX2_lieNow 143 = .ok (.iaload, 1) := dk_46 (dk_at dksX2_lieNow_6 5 rfl rfl)
theorem dX2_lieNow_144 : decode cX2_lieNow 144 = .ok (.iconst 2, 1) := dk_5 (dk_at dksX2_lieNow_6 6 rfl rfl)
theorem dX2_lieNow_145 : decode cX2_lieNow 145 = .ok (.iload_n 2, 1) := dk_28 (dk_at dksX2_lieNow_6 7 rfl rfl)
theorem dX2_lieNow_146 : decode cX2_lieNow 146 = .ok (.iconst 3, 1) := dk_6 (dk_at dksX2_lieNow_6 8 rfl rfl)
theorem dX2_lieNow_147 : decode cX2_lieNow 147 = .ok (.iconst 0, 1) := dk_3 (dk_at dksX2_lieNow_6 9 rfl rfl)
theorem dX2_lieNow_148 : decode cX2_lieNow 148 = .ok (.sipush 999, 3) := dk_17 3 231 (dk_at dksX2_lieNow_6 10 rfl rfl)
theorem dX2_lieNow_151 : decode cX2_lieNow 151 = .ok (.invokevirtual 284, 3) := dk_182 1 28 (dk_at dksX2_lieNow_6 13 rfl rfl)
theorem dX2_lieNow_154 : decode cX2_lieNow 154 = .ok (.istore 4, 2) := dk_54 4 (dk_at dksX2_lieNow_6 16 rfl rfl)
theorem dX2_lieNow_156 : decode cX2_lieNow 156 = .ok (.aload_n 0, 1) := dk_42 (dk_at dksX2_lieNow_6 18 rfl rfl)
theorem dX2_lieNow_157 : decode cX2_lieNow 157 = .ok (.getfield 7, 3) := dk_180 0 7 (dk_at dksX2_lieNow_6 19 rfl rfl)
theorem dX2_lieNow_160 : decode cX2_lieNow 160 = .ok (.sipush 245, 3) := dk_17 0 245 (dk_at dksX2_lieNow_7 0 rfl rfl)
theorem dX2_lieNow_163 : decode cX2_lieNow 163 = .ok (.dup2, 1) := dk_92 (dk_at dksX2_lieNow_7 3 rfl rfl)
theorem dX2_lieNow_164 : decode cX2_lieNow 164 = .ok (.iaload, 1) := dk_46 (dk_at dksX2_lieNow_7 4 rfl rfl)
theorem dX2_lieNow_165 : decode cX2_lieNow 165 = .ok (.iconst 1, 1) := dk_4 (dk_at dksX2_lieNow_7 5 rfl rfl)
theorem dX2_lieNow_166 : decode cX2_lieNow 166 = .ok (.iadd, 1) := dk_96 (dk_at dksX2_lieNow_7 6 rfl rfl)
theorem dX2_lieNow_167 : decode cX2_lieNow 167 = .ok (.iastore, 1) := dk_79 (dk_at dksX2_lieNow_7 7 rfl rfl)
theorem dX2_lieNow_168 : decode cX2_lieNow 168 = .ok (.aload_n 0, 1) := dk_42 (dk_at dksX2_lieNow_7 8 rfl rfl)
theorem dX2_lieNow_169 : decode cX2_lieNow 169 = .ok (.getfield 7, 3) := dk_180 0 7 (dk_at dksX2_lieNow_7 9 rfl rfl)
theorem dX2_lieNow_172 : decode cX2_lieNow 172 = .ok (.sipush 243, 3) := dk_17 0 243 (dk_at dksX2_lieNow_7 12 rfl rfl)
theorem dX2_lieNow_175 : decode cX2_lieNow 175 = .ok (.dup2, 1) := dk_92 (dk_at dksX2_lieNow_7 15 rfl rfl)
theorem dX2_lieNow_176 : decode cX2_lieNow 176 = .ok (.iaload, 1) := dk_46 (dk_at dksX2_lieNow_7 16 rfl rfl)
theorem dX2_lieNow_177 : decode cX2_lieNow 177 = .ok (.iload 4, 2) := dk_21 4 (dk_at dksX2_lieNow_7 17 rfl rfl)
theorem dX2_lieNow_179 : decode cX2_lieNow 179 = .ok (.iadd, 1) := dk_96 (dk_at dksX2_lieNow_7 19 rfl rfl)
theorem dX2_lieNow_180 : decode cX2_lieNow 180 = .ok (.iastore, 1) := dk_79 (dk_at dksX2_lieNow_7 20 rfl rfl)
theorem dX2_lieNow_181 : decode cX2_lieNow 181 = .ok (.aload_n 0, 1) := dk_42 (dk_at dksX2_lieNow_7 21 rfl rfl)
theorem dX2_lieNow_182 : decode cX2_lieNow 182 = .ok (.aload_n 0, 1) := dk_42 (dk_at dksX2_lieNow_7 22 rfl rfl)
theorem dX2_lieNow_183 : decode cX2_lieNow 183 = .ok (.getfield 7, 3) := dk_180 0 7 (dk_at dksX2_lieNow_8 0 rfl rfl)
theorem dX2_lieNow_186 : decode cX2_lieNow 186 = .ok (.iconst 3, 1) := dk_6 (dk_at dksX2_lieNow_8 3 rfl rfl)
theorem dX2_lieNow_187 : decode cX2_lieNow 187 = .ok (.iaload, 1) := dk_46 (dk_at dksX2_lieNow_8 4 rfl rfl)
theorem dX2_lieNow_188 : decode cX2_lieNow 188 = .ok (.invokevirtual 300, 3) := dk_182 1 44 (dk_at dksX2_lieNow_8 5 rfl rfl)
theorem dX2_lieNow_191 : decode cX2_lieNow 191 = .ok (.return_, 1) := dk_177 (dk_at dksX2_lieNow_8 8 rfl rfl)
abbrev cX2_judged : ByteArray := prog_15_method_79_code
def yX2_judged : MethodName := ⟨RX2, "judged", "()I"⟩
def dkwX2_judged_0 : List UInt8 := [42, 180, 0, 7, 17, 0, 242, 46, 2, 160, 0, 5, 2, 172, 42, 182, 1, 62, 42, 182, 1, 79, 172]
abbrev dktX2_judged_0 : List UInt8 := dkwX2_judged_0 ++ []
theorem dksX2_judged_0 : cX2_judged.data.toList.drop 0 = dktX2_judged_0 := by decide +kernel
theorem dX2_judged_0 : decode cX2_judged 0 = .ok (.aload_n 0, 1) := dk_42 (dk_at dksX2_judged_0 0 rfl rfl)
theorem dX2_judged_1 : decode cX2_judged 1 = .ok (.getfield 7, 3) := dk_180 0 7 (dk_at dksX2_judged_0 1 rfl rfl)
theorem dX2_judged_4 : decode cX2_judged 4 = .ok (.sipush 242, 3) := dk_17 0 242 (dk_at dksX2_judged_0 4 rfl rfl)
theorem dX2_judged_7 : decode cX2_judged 7 = .ok (.iaload, 1) := dk_46 (dk_at dksX2_judged_0 7 rfl rfl)
theorem dX2_judged_8 : decode cX2_judged 8 = .ok (.iconst (-1), 1) := dk_2 (dk_at dksX2_judged_0 8 rfl rfl)
theorem dX2_judged_9 : decode cX2_judged 9 = .ok (.if_icmp .ne 5, 3) := dk_160 0 5 (dk_at dksX2_judged_0 9 rfl rfl)
theorem dX2_judged_12 : decode cX2_judged 12 = .ok (.iconst (-1), 1) := dk_2 (dk_at dksX2_judged_0 12 rfl rfl)
theorem dX2_judged_13 : decode cX2_judged 13 = .ok (.ireturn, 1) := dk_172 (dk_at dksX2_judged_0 13 rfl rfl)
theorem dX2_judged_14 : decode cX2_judged 14 = .ok (.aload_n 0, 1) := dk_42 (dk_at dksX2_judged_0 14 rfl rfl)
theorem dX2_judged_15 : decode cX2_judged 15 = .ok (.invokevirtual 318, 3) := dk_182 1 62 (dk_at dksX2_judged_0 15 rfl rfl)
theorem dX2_judged_18 : decode cX2_judged 18 = .ok (.aload_n 0, 1) := dk_42 (dk_at dksX2_judged_0 18 rfl rfl)
theorem dX2_judged_19 : decode cX2_judged 19 = .ok (.invokevirtual 335, 3) := dk_182 1 79 (dk_at dksX2_judged_0 19 rfl rfl)
theorem dX2_judged_22 : decode cX2_judged 22 = .ok (.ireturn, 1) := dk_172 (dk_at dksX2_judged_0 22 rfl rfl)
abbrev cX2_judgeNow : ByteArray := prog_15_method_72_code
def yX2_judgeNow : MethodName := ⟨RX2, "judgeNow", "()I"⟩
def dkwX2_judgeNow_6 : List UInt8 := [27, 79, 42, 180, 0, 7, 16, 11, 92, 46, 4, 96, 79, 42, 180, 0, 7, 17, 0, 242, 2, 79, 27, 172]
abbrev dktX2_judgeNow_6 : List UInt8 := dkwX2_judgeNow_6 ++ []
def dkwX2_judgeNow_5 : List UInt8 := [79, 42, 180, 0, 7, 29, 6, 96, 42, 180, 0, 7, 17, 0, 245, 46, 79, 42, 180, 0, 7, 29, 7, 96]
abbrev dktX2_judgeNow_5 : List UInt8 := dkwX2_judgeNow_5 ++ dktX2_judgeNow_6
def dkwX2_judgeNow_4 : List UInt8 := [42, 180, 0, 7, 17, 0, 244, 46, 79, 42, 180, 0, 7, 29, 5, 96, 42, 180, 0, 7, 17, 0, 243, 46]
abbrev dktX2_judgeNow_4 : List UInt8 := dkwX2_judgeNow_4 ++ dktX2_judgeNow_5
def dkwX2_judgeNow_3 : List UInt8 := [16, 11, 46, 17, 3, 0, 112, 104, 96, 62, 42, 180, 0, 7, 29, 28, 79, 42, 180, 0, 7, 29, 4, 96]
abbrev dktX2_judgeNow_3 : List UInt8 := dkwX2_judgeNow_3 ++ dktX2_judgeNow_4
def dkwX2_judgeNow_2 : List UInt8 := [7, 29, 17, 39, 15, 164, 0, 9, 17, 39, 15, 167, 0, 4, 29, 79, 17, 6, 168, 8, 42, 180, 0, 7]
abbrev dktX2_judgeNow_2 : List UInt8 := dkwX2_judgeNow_2 ++ dktX2_judgeNow_3
def dkwX2_judgeNow_1 : List UInt8 := [42, 180, 0, 7, 17, 0, 244, 46, 96, 42, 180, 0, 7, 16, 12, 28, 96, 46, 100, 62, 42, 180, 0, 7]
abbrev dktX2_judgeNow_1 : List UInt8 := dkwX2_judgeNow_1 ++ dktX2_judgeNow_2
def dkwX2_judgeNow_0 : List UInt8 := [42, 182, 1, 59, 60, 42, 180, 0, 7, 17, 0, 242, 46, 61, 27, 154, 0, 49, 42, 180, 0, 7, 7, 46]
abbrev dktX2_judgeNow_0 : List UInt8 := dkwX2_judgeNow_0 ++ dktX2_judgeNow_1
theorem dksX2_judgeNow_0 : cX2_judgeNow.data.toList.drop 0 = dktX2_judgeNow_0 := by decide +kernel
theorem dksX2_judgeNow_1 : cX2_judgeNow.data.toList.drop 24 = dktX2_judgeNow_1 := dk_seg dksX2_judgeNow_0 24 rfl rfl
theorem dksX2_judgeNow_2 : cX2_judgeNow.data.toList.drop 48 = dktX2_judgeNow_2 := dk_seg dksX2_judgeNow_1 24 rfl rfl
theorem dksX2_judgeNow_3 : cX2_judgeNow.data.toList.drop 72 = dktX2_judgeNow_3 := dk_seg dksX2_judgeNow_2 24 rfl rfl
theorem dksX2_judgeNow_4 : cX2_judgeNow.data.toList.drop 96 = dktX2_judgeNow_4 := dk_seg dksX2_judgeNow_3 24 rfl rfl
theorem dksX2_judgeNow_5 : cX2_judgeNow.data.toList.drop 120 = dktX2_judgeNow_5 := dk_seg dksX2_judgeNow_4 24 rfl rfl
theorem dksX2_judgeNow_6 : cX2_judgeNow.data.toList.drop 144 = dktX2_judgeNow_6 := dk_seg dksX2_judgeNow_5 24 rfl rfl
theorem dX2_judgeNow_0 : decode cX2_judgeNow 0 = .ok (.aload_n 0, 1) := dk_42 (dk_at dksX2_judgeNow_0 0 rfl rfl)
theorem dX2_judgeNow_1 : decode cX2_judgeNow 1 = .ok (.invokevirtual 315, 3) := dk_182 1 59 (dk_at dksX2_judgeNow_0 1 rfl rfl)
theorem dX2_judgeNow_4 : decode cX2_judgeNow 4 = .ok (.istore_n 1, 1) := dk_60 (dk_at dksX2_judgeNow_0 4 rfl rfl)
theorem dX2_judgeNow_5 : decode cX2_judgeNow 5 = .ok (.aload_n 0, 1) := dk_42 (dk_at dksX2_judgeNow_0 5 rfl rfl)
theorem dX2_judgeNow_6 : decode cX2_judgeNow 6 = .ok (.getfield 7, 3) := dk_180 0 7 (dk_at dksX2_judgeNow_0 6 rfl rfl)
theorem dX2_judgeNow_9 : decode cX2_judgeNow 9 = .ok (.sipush 242, 3) := dk_17 0 242 (dk_at dksX2_judgeNow_0 9 rfl rfl)
theorem dX2_judgeNow_12 : decode cX2_judgeNow 12 = .ok (.iaload, 1) := dk_46 (dk_at dksX2_judgeNow_0 12 rfl rfl)
theorem dX2_judgeNow_13 : decode cX2_judgeNow 13 = .ok (.istore_n 2, 1) := dk_61 (dk_at dksX2_judgeNow_0 13 rfl rfl)
theorem dX2_judgeNow_14 : decode cX2_judgeNow 14 = .ok (.iload_n 1, 1) := dk_27 (dk_at dksX2_judgeNow_0 14 rfl rfl)
theorem dX2_judgeNow_15 : decode cX2_judgeNow 15 = .ok (.ifCond .ne 49, 3) := dk_154 0 49 (dk_at dksX2_judgeNow_0 15 rfl rfl)
theorem dX2_judgeNow_18 : decode cX2_judgeNow 18 = .ok (.aload_n 0, 1) := dk_42 (dk_at dksX2_judgeNow_0 18 rfl rfl)
theorem dX2_judgeNow_19 : decode cX2_judgeNow 19 = .ok (.getfield 7, 3) := dk_180 0 7 (dk_at dksX2_judgeNow_0 19 rfl rfl)
theorem dX2_judgeNow_22 : decode cX2_judgeNow 22 = .ok (.iconst 4, 1) := dk_7 (dk_at dksX2_judgeNow_0 22 rfl rfl)
theorem dX2_judgeNow_23 : decode cX2_judgeNow 23 = .ok (.iaload, 1) := dk_46 (dk_at dksX2_judgeNow_0 23 rfl rfl)
theorem dX2_judgeNow_24 : decode cX2_judgeNow 24 = .ok (.aload_n 0, 1) := dk_42 (dk_at dksX2_judgeNow_1 0 rfl rfl)
theorem dX2_judgeNow_25 : decode cX2_judgeNow 25 = .ok (.getfield 7, 3) := dk_180 0 7 (dk_at dksX2_judgeNow_1 1 rfl rfl)
theorem dX2_judgeNow_28 : decode cX2_judgeNow 28 = .ok (.sipush 244, 3) := dk_17 0 244 (dk_at dksX2_judgeNow_1 4 rfl rfl)
theorem dX2_judgeNow_31 : decode cX2_judgeNow 31 = .ok (.iaload, 1) := dk_46 (dk_at dksX2_judgeNow_1 7 rfl rfl)
theorem dX2_judgeNow_32 : decode cX2_judgeNow 32 = .ok (.iadd, 1) := dk_96 (dk_at dksX2_judgeNow_1 8 rfl rfl)
theorem dX2_judgeNow_33 : decode cX2_judgeNow 33 = .ok (.aload_n 0, 1) := dk_42 (dk_at dksX2_judgeNow_1 9 rfl rfl)
theorem dX2_judgeNow_34 : decode cX2_judgeNow 34 = .ok (.getfield 7, 3) := dk_180 0 7 (dk_at dksX2_judgeNow_1 10 rfl rfl)
theorem dX2_judgeNow_37 : decode cX2_judgeNow 37 = .ok (.bipush 12, 2) := dk_16 12 (dk_at dksX2_judgeNow_1 13 rfl rfl)
theorem dX2_judgeNow_39 : decode cX2_judgeNow 39 = .ok (.iload_n 2, 1) := dk_28 (dk_at dksX2_judgeNow_1 15 rfl rfl)
theorem dX2_judgeNow_40 : decode cX2_judgeNow 40 = .ok (.iadd, 1) := dk_96 (dk_at dksX2_judgeNow_1 16 rfl rfl)
theorem dX2_judgeNow_41 : decode cX2_judgeNow 41 = .ok (.iaload, 1) := dk_46 (dk_at dksX2_judgeNow_1 17 rfl rfl)
theorem dX2_judgeNow_42 : decode cX2_judgeNow 42 = .ok (.isub, 1) := dk_100 (dk_at dksX2_judgeNow_1 18 rfl rfl)
theorem dX2_judgeNow_43 : decode cX2_judgeNow 43 = .ok (.istore_n 3, 1) := dk_62 (dk_at dksX2_judgeNow_1 19 rfl rfl)
theorem dX2_judgeNow_44 : decode cX2_judgeNow 44 = .ok (.aload_n 0, 1) := dk_42 (dk_at dksX2_judgeNow_1 20 rfl rfl)
theorem dX2_judgeNow_45 : decode cX2_judgeNow 45 = .ok (.getfield 7, 3) := dk_180 0 7 (dk_at dksX2_judgeNow_1 21 rfl rfl)
theorem dX2_judgeNow_48 : decode cX2_judgeNow 48 = .ok (.iconst 4, 1) := dk_7 (dk_at dksX2_judgeNow_2 0 rfl rfl)
theorem dX2_judgeNow_49 : decode cX2_judgeNow 49 = .ok (.iload_n 3, 1) := dk_29 (dk_at dksX2_judgeNow_2 1 rfl rfl)
theorem dX2_judgeNow_50 : decode cX2_judgeNow 50 = .ok (.sipush 9999, 3) := dk_17 39 15 (dk_at dksX2_judgeNow_2 2 rfl rfl)
theorem dX2_judgeNow_53 : decode cX2_judgeNow 53 = .ok (.if_icmp .le 9, 3) := dk_164 0 9 (dk_at dksX2_judgeNow_2 5 rfl rfl)
theorem dX2_judgeNow_56 : decode cX2_judgeNow 56 = .ok (.sipush 9999, 3) := dk_17 39 15 (dk_at dksX2_judgeNow_2 8 rfl rfl)
theorem dX2_judgeNow_59 : decode cX2_judgeNow 59 = .ok (.goto 4, 3) := dk_167 0 4 (dk_at dksX2_judgeNow_2 11 rfl rfl)
theorem dX2_judgeNow_62 : decode cX2_judgeNow 62 = .ok (.iload_n 3, 1) := dk_29 (dk_at dksX2_judgeNow_2 14 rfl rfl)
theorem dX2_judgeNow_63 : decode cX2_judgeNow 63 = .ok (.iastore, 1) := dk_79 (dk_at dksX2_judgeNow_2 15 rfl rfl)
theorem dX2_judgeNow_64 : decode cX2_judgeNow 64 = .ok (.sipush 1704, 3) := dk_17 6 168 (dk_at dksX2_judgeNow_2 16 rfl rfl)
theorem dX2_judgeNow_67 : decode cX2_judgeNow 67 = .ok (.iconst 5, 1) := dk_8 (dk_at dksX2_judgeNow_2 19 rfl rfl)
theorem dX2_judgeNow_68 : decode cX2_judgeNow 68 = .ok (.aload_n 0, 1) := dk_42 (dk_at dksX2_judgeNow_2 20 rfl rfl)
theorem dX2_judgeNow_69 : decode cX2_judgeNow 69 = .ok (.getfield 7, 3) := dk_180 0 7 (dk_at dksX2_judgeNow_2 21 rfl rfl)
theorem dX2_judgeNow_72 : decode cX2_judgeNow 72 = .ok (.bipush 11, 2) := dk_16 11 (dk_at dksX2_judgeNow_3 0 rfl rfl)
theorem dX2_judgeNow_74 : decode cX2_judgeNow 74 = .ok (.iaload, 1) := dk_46 (dk_at dksX2_judgeNow_3 2 rfl rfl)
theorem dX2_judgeNow_75 : decode cX2_judgeNow 75 = .ok (.sipush 768, 3) := dk_17 3 0 (dk_at dksX2_judgeNow_3 3 rfl rfl)
theorem dX2_judgeNow_78 : decode cX2_judgeNow 78 = .ok (.irem, 1) := dk_112 (dk_at dksX2_judgeNow_3 6 rfl rfl)
theorem dX2_judgeNow_79 : decode cX2_judgeNow 79 = .ok (.imul, 1) := dk_104 (dk_at dksX2_judgeNow_3 7 rfl rfl)
theorem dX2_judgeNow_80 : decode cX2_judgeNow 80 = .ok (.iadd, 1) := dk_96 (dk_at dksX2_judgeNow_3 8 rfl rfl)
theorem dX2_judgeNow_81 : decode cX2_judgeNow 81 = .ok (.istore_n 3, 1) := dk_62 (dk_at dksX2_judgeNow_3 9 rfl rfl)
theorem dX2_judgeNow_82 : decode cX2_judgeNow 82 = .ok (.aload_n 0, 1) := dk_42 (dk_at dksX2_judgeNow_3 10 rfl rfl)
theorem dX2_judgeNow_83 : decode cX2_judgeNow 83 = .ok (.getfield 7, 3) := dk_180 0 7 (dk_at dksX2_judgeNow_3 11 rfl rfl)
theorem dX2_judgeNow_86 : decode cX2_judgeNow 86 = .ok (.iload_n 3, 1) := dk_29 (dk_at dksX2_judgeNow_3 14 rfl rfl)
theorem dX2_judgeNow_87 : decode cX2_judgeNow 87 = .ok (.iload_n 2, 1) := dk_28 (dk_at dksX2_judgeNow_3 15 rfl rfl)
theorem dX2_judgeNow_88 : decode cX2_judgeNow 88 = .ok (.iastore, 1) := dk_79 (dk_at dksX2_judgeNow_3 16 rfl rfl)
theorem dX2_judgeNow_89 : decode cX2_judgeNow 89 = .ok (.aload_n 0, 1) := dk_42 (dk_at dksX2_judgeNow_3 17 rfl rfl)
theorem dX2_judgeNow_90 : decode cX2_judgeNow 90 = .ok (.getfield 7, 3) := dk_180 0 7 (dk_at dksX2_judgeNow_3 18 rfl rfl)
theorem dX2_judgeNow_93 : decode cX2_judgeNow 93 = .ok (.iload_n 3, 1) := dk_29 (dk_at dksX2_judgeNow_3 21 rfl rfl)
theorem dX2_judgeNow_94 : decode cX2_judgeNow 94 = .ok (.iconst 1, 1) := dk_4 (dk_at dksX2_judgeNow_3 22 rfl rfl)
theorem dX2_judgeNow_95 : decode cX2_judgeNow 95 = .ok (.iadd, 1) := dk_96 (dk_at dksX2_judgeNow_3 23 rfl rfl)
theorem dX2_judgeNow_96 : decode cX2_judgeNow 96 = .ok (.aload_n 0, 1) := dk_42 (dk_at dksX2_judgeNow_4 0 rfl rfl)
theorem dX2_judgeNow_97 : decode cX2_judgeNow 97 = .ok (.getfield 7, 3) := dk_180 0 7 (dk_at dksX2_judgeNow_4 1 rfl rfl)
theorem dX2_judgeNow_100 : decode cX2_judgeNow 100 = .ok (.sipush 244, 3) := dk_17 0 244 (dk_at dksX2_judgeNow_4 4 rfl rfl)
theorem dX2_judgeNow_103 : decode cX2_judgeNow 103 = .ok (.iaload, 1) := dk_46 (dk_at dksX2_judgeNow_4 7 rfl rfl)
theorem dX2_judgeNow_104 : decode cX2_judgeNow 104 = .ok (.iastore, 1) := dk_79 (dk_at dksX2_judgeNow_4 8 rfl rfl)
theorem dX2_judgeNow_105 : decode cX2_judgeNow 105 = .ok (.aload_n 0, 1) := dk_42 (dk_at dksX2_judgeNow_4 9 rfl rfl)
theorem dX2_judgeNow_106 : decode cX2_judgeNow 106 = .ok (.getfield 7, 3) := dk_180 0 7 (dk_at dksX2_judgeNow_4 10 rfl rfl)
theorem dX2_judgeNow_109 : decode cX2_judgeNow 109 = .ok (.iload_n 3, 1) := dk_29 (dk_at dksX2_judgeNow_4 13 rfl rfl)
theorem dX2_judgeNow_110 : decode cX2_judgeNow 110 = .ok (.iconst 2, 1) := dk_5 (dk_at dksX2_judgeNow_4 14 rfl rfl)
theorem dX2_judgeNow_111 : decode cX2_judgeNow 111 = .ok (.iadd, 1) := dk_96 (dk_at dksX2_judgeNow_4 15 rfl rfl)
theorem dX2_judgeNow_112 : decode cX2_judgeNow 112 = .ok (.aload_n 0, 1) := dk_42 (dk_at dksX2_judgeNow_4 16 rfl rfl)
theorem dX2_judgeNow_113 : decode cX2_judgeNow 113 = .ok (.getfield 7, 3) := dk_180 0 7 (dk_at dksX2_judgeNow_4 17 rfl rfl)
theorem dX2_judgeNow_116 : decode cX2_judgeNow 116 = .ok (.sipush 243, 3) := dk_17 0 243 (dk_at dksX2_judgeNow_4 20 rfl rfl)
theorem dX2_judgeNow_119 : decode cX2_judgeNow 119 = .ok (.iaload, 1) := dk_46 (dk_at dksX2_judgeNow_4 23 rfl rfl)
theorem dX2_judgeNow_120 : decode cX2_judgeNow 120 = .ok (.iastore, 1) := dk_79 (dk_at dksX2_judgeNow_5 0 rfl rfl)
theorem dX2_judgeNow_121 : decode cX2_judgeNow 121 = .ok (.aload_n 0, 1) := dk_42 (dk_at dksX2_judgeNow_5 1 rfl rfl)
theorem dX2_judgeNow_122 : decode cX2_judgeNow 122 = .ok (.getfield 7, 3) := dk_180 0 7 (dk_at dksX2_judgeNow_5 2 rfl rfl)
theorem dX2_judgeNow_125 : decode cX2_judgeNow 125 = .ok (.iload_n 3, 1) := dk_29 (dk_at dksX2_judgeNow_5 5 rfl rfl)
theorem dX2_judgeNow_126 : decode cX2_judgeNow 126 = .ok (.iconst 3, 1) := dk_6 (dk_at dksX2_judgeNow_5 6 rfl rfl)
theorem dX2_judgeNow_127 : decode cX2_judgeNow 127 = .ok (.iadd, 1) := dk_96 (dk_at dksX2_judgeNow_5 7 rfl rfl)
theorem dX2_judgeNow_128 : decode cX2_judgeNow 128 = .ok (.aload_n 0, 1) := dk_42 (dk_at dksX2_judgeNow_5 8 rfl rfl)
theorem dX2_judgeNow_129 : decode cX2_judgeNow 129 = .ok (.getfield 7, 3) := dk_180 0 7 (dk_at dksX2_judgeNow_5 9 rfl rfl)
theorem dX2_judgeNow_132 : decode cX2_judgeNow 132 = .ok (.sipush 245, 3) := dk_17 0 245 (dk_at dksX2_judgeNow_5 12 rfl rfl)
theorem dX2_judgeNow_135 : decode cX2_judgeNow 135 = .ok (.iaload, 1) := dk_46 (dk_at dksX2_judgeNow_5 15 rfl rfl)
theorem dX2_judgeNow_136 : decode cX2_judgeNow 136 = .ok (.iastore, 1) := dk_79 (dk_at dksX2_judgeNow_5 16 rfl rfl)
theorem dX2_judgeNow_137 : decode cX2_judgeNow 137 = .ok (.aload_n 0, 1) := dk_42 (dk_at dksX2_judgeNow_5 17 rfl rfl)
theorem dX2_judgeNow_138 : decode cX2_judgeNow 138 = .ok (.getfield 7, 3) := dk_180 0 7 (dk_at dksX2_judgeNow_5 18 rfl rfl)
theorem dX2_judgeNow_141 : decode cX2_judgeNow 141 = .ok (.iload_n 3, 1) := dk_29 (dk_at dksX2_judgeNow_5 21 rfl rfl)
theorem dX2_judgeNow_142 : decode cX2_judgeNow 142 = .ok (.iconst 4, 1) := dk_7 (dk_at dksX2_judgeNow_5 22 rfl rfl)
theorem dX2_judgeNow_143 : decode cX2_judgeNow 143 = .ok (.iadd, 1) := dk_96 (dk_at dksX2_judgeNow_5 23 rfl rfl)
theorem dX2_judgeNow_144 : decode cX2_judgeNow 144 = .ok (.iload_n 1, 1) := dk_27 (dk_at dksX2_judgeNow_6 0 rfl rfl)
theorem dX2_judgeNow_145 : decode cX2_judgeNow 145 = .ok (.iastore, 1) := dk_79 (dk_at dksX2_judgeNow_6 1 rfl rfl)
theorem dX2_judgeNow_146 : decode cX2_judgeNow 146 = .ok (.aload_n 0, 1) := dk_42 (dk_at dksX2_judgeNow_6 2 rfl rfl)
theorem dX2_judgeNow_147 : decode cX2_judgeNow 147 = .ok (.getfield 7, 3) := dk_180 0 7 (dk_at dksX2_judgeNow_6 3 rfl rfl)
theorem dX2_judgeNow_150 : decode cX2_judgeNow 150 = .ok (.bipush 11, 2) := dk_16 11 (dk_at dksX2_judgeNow_6 6 rfl rfl)
theorem dX2_judgeNow_152 : decode cX2_judgeNow 152 = .ok (.dup2, 1) := dk_92 (dk_at dksX2_judgeNow_6 8 rfl rfl)
theorem dX2_judgeNow_153 : decode cX2_judgeNow 153 = .ok (.iaload, 1) := dk_46 (dk_at dksX2_judgeNow_6 9 rfl rfl)
theorem dX2_judgeNow_154 : decode cX2_judgeNow 154 = .ok (.iconst 1, 1) := dk_4 (dk_at dksX2_judgeNow_6 10 rfl rfl)
theorem dX2_judgeNow_155 : decode cX2_judgeNow 155 = .ok (.iadd, 1) := dk_96 (dk_at dksX2_judgeNow_6 11 rfl rfl)
theorem dX2_judgeNow_156 : decode cX2_judgeNow 156 = .ok (.iastore, 1) := dk_79 (dk_at dksX2_judgeNow_6 12 rfl rfl)
theorem dX2_judgeNow_157 : decode cX2_judgeNow 157 = .ok (.aload_n 0, 1) := dk_42 (dk_at dksX2_judgeNow_6 13 rfl rfl)
theorem dX2_judgeNow_158 : decode cX2_judgeNow 158 = .ok (.getfield 7, 3) := dk_180 0 7 (dk_at dksX2_judgeNow_6 14 rfl rfl)
theorem dX2_judgeNow_161 : decode cX2_judgeNow 161 = .ok (.sipush 242, 3) := dk_17 0 242 (dk_at dksX2_judgeNow_6 17 rfl rfl)
theorem dX2_judgeNow_164 : decode cX2_judgeNow 164 = .ok (.iconst (-1), 1) := dk_2 (dk_at dksX2_judgeNow_6 20 rfl rfl)
theorem dX2_judgeNow_165 : decode cX2_judgeNow 165 = .ok (.iastore, 1) := dk_79 (dk_at dksX2_judgeNow_6 21 rfl rfl)
theorem dX2_judgeNow_166 : decode cX2_judgeNow 166 = .ok (.iload_n 1, 1) := dk_27 (dk_at dksX2_judgeNow_6 22 rfl rfl)
theorem dX2_judgeNow_167 : decode cX2_judgeNow 167 = .ok (.ireturn, 1) := dk_172 (dk_at dksX2_judgeNow_6 23 rfl rfl)
abbrev cX2_verdict : ByteArray := prog_15_method_71_code
def yX2_verdict : MethodName := ⟨RX2, "verdict", "()I"⟩
def dkwX2_verdict_2 : List UInt8 := [180, 0, 7, 16, 12, 27, 96, 46, 162, 0, 7, 5, 167, 0, 4, 4, 172]
abbrev dktX2_verdict_2 : List UInt8 := dkwX2_verdict_2 ++ []
def dkwX2_verdict_1 : List UInt8 := [96, 46, 164, 0, 5, 3, 172, 42, 180, 0, 7, 17, 0, 244, 46, 42, 27, 182, 1, 56, 96, 42]
abbrev dktX2_verdict_1 : List UInt8 := dkwX2_verdict_1 ++ dktX2_verdict_2
def dkwX2_verdict_0 : List UInt8 := [42, 180, 0, 7, 17, 0, 242, 46, 60, 42, 180, 0, 7, 17, 0, 244, 46, 42, 180, 0, 7, 16, 12, 27]
abbrev dktX2_verdict_0 : List UInt8 := dkwX2_verdict_0 ++ dktX2_verdict_1
theorem dksX2_verdict_0 : cX2_verdict.data.toList.drop 0 = dktX2_verdict_0 := by decide +kernel
theorem dksX2_verdict_1 : cX2_verdict.data.toList.drop 24 = dktX2_verdict_1 := dk_seg dksX2_verdict_0 24 rfl rfl
theorem dksX2_verdict_2 : cX2_verdict.data.toList.drop 46 = dktX2_verdict_2 := dk_seg dksX2_verdict_1 22 rfl rfl
theorem dX2_verdict_0 : decode cX2_verdict 0 = .ok (.aload_n 0, 1) := dk_42 (dk_at dksX2_verdict_0 0 rfl rfl)
theorem dX2_verdict_1 : decode cX2_verdict 1 = .ok (.getfield 7, 3) := dk_180 0 7 (dk_at dksX2_verdict_0 1 rfl rfl)
theorem dX2_verdict_4 : decode cX2_verdict 4 = .ok (.sipush 242, 3) := dk_17 0 242 (dk_at dksX2_verdict_0 4 rfl rfl)
theorem dX2_verdict_7 : decode cX2_verdict 7 = .ok (.iaload, 1) := dk_46 (dk_at dksX2_verdict_0 7 rfl rfl)
theorem dX2_verdict_8 : decode cX2_verdict 8 = .ok (.istore_n 1, 1) := dk_60 (dk_at dksX2_verdict_0 8 rfl rfl)
theorem dX2_verdict_9 : decode cX2_verdict 9 = .ok (.aload_n 0, 1) := dk_42 (dk_at dksX2_verdict_0 9 rfl rfl)
theorem dX2_verdict_10 : decode cX2_verdict 10 = .ok (.getfield 7, 3) := dk_180 0 7 (dk_at dksX2_verdict_0 10 rfl rfl)
theorem dX2_verdict_13 : decode cX2_verdict 13 = .ok (.sipush 244, 3) := dk_17 0 244 (dk_at dksX2_verdict_0 13 rfl rfl)
theorem dX2_verdict_16 : decode cX2_verdict 16 = .ok (.iaload, 1) := dk_46 (dk_at dksX2_verdict_0 16 rfl rfl)
theorem dX2_verdict_17 : decode cX2_verdict 17 = .ok (.aload_n 0, 1) := dk_42 (dk_at dksX2_verdict_0 17 rfl rfl)
theorem dX2_verdict_18 : decode cX2_verdict 18 = .ok (.getfield 7, 3) := dk_180 0 7 (dk_at dksX2_verdict_0 18 rfl rfl)
theorem dX2_verdict_21 : decode cX2_verdict 21 = .ok (.bipush 12, 2) := dk_16 12 (dk_at dksX2_verdict_0 21 rfl rfl)
theorem dX2_verdict_23 : decode cX2_verdict 23 = .ok (.iload_n 1, 1) := dk_27 (dk_at dksX2_verdict_0 23 rfl rfl)
theorem dX2_verdict_24 : decode cX2_verdict 24 = .ok (.iadd, 1) := dk_96 (dk_at dksX2_verdict_1 0 rfl rfl)
theorem dX2_verdict_25 : decode cX2_verdict 25 = .ok (.iaload, 1) := dk_46 (dk_at dksX2_verdict_1 1 rfl rfl)
theorem dX2_verdict_26 : decode cX2_verdict 26 = .ok (.if_icmp .le 5, 3) := dk_164 0 5 (dk_at dksX2_verdict_1 2 rfl rfl)
theorem dX2_verdict_29 : decode cX2_verdict 29 = .ok (.iconst 0, 1) := dk_3 (dk_at dksX2_verdict_1 5 rfl rfl)
theorem dX2_verdict_30 : decode cX2_verdict 30 = .ok (.ireturn, 1) := dk_172 (dk_at dksX2_verdict_1 6 rfl rfl)
theorem dX2_verdict_31 : decode cX2_verdict 31 = .ok (.aload_n 0, 1) := dk_42 (dk_at dksX2_verdict_1 7 rfl rfl)
theorem dX2_verdict_32 : decode cX2_verdict 32 = .ok (.getfield 7, 3) := dk_180 0 7 (dk_at dksX2_verdict_1 8 rfl rfl)
theorem dX2_verdict_35 : decode cX2_verdict 35 = .ok (.sipush 244, 3) := dk_17 0 244 (dk_at dksX2_verdict_1 11 rfl rfl)
theorem dX2_verdict_38 : decode cX2_verdict 38 = .ok (.iaload, 1) := dk_46 (dk_at dksX2_verdict_1 14 rfl rfl)
theorem dX2_verdict_39 : decode cX2_verdict 39 = .ok (.aload_n 0, 1) := dk_42 (dk_at dksX2_verdict_1 15 rfl rfl)
theorem dX2_verdict_40 : decode cX2_verdict 40 = .ok (.iload_n 1, 1) := dk_27 (dk_at dksX2_verdict_1 16 rfl rfl)
theorem dX2_verdict_41 : decode cX2_verdict 41 = .ok (.invokevirtual 312, 3) := dk_182 1 56 (dk_at dksX2_verdict_1 17 rfl rfl)
theorem dX2_verdict_44 : decode cX2_verdict 44 = .ok (.iadd, 1) := dk_96 (dk_at dksX2_verdict_1 20 rfl rfl)
theorem dX2_verdict_45 : decode cX2_verdict 45 = .ok (.aload_n 0, 1) := dk_42 (dk_at dksX2_verdict_1 21 rfl rfl)
theorem dX2_verdict_46 : decode cX2_verdict 46 = .ok (.getfield 7, 3) := dk_180 0 7 (dk_at dksX2_verdict_2 0 rfl rfl)
theorem dX2_verdict_49 : decode cX2_verdict 49 = .ok (.bipush 12, 2) := dk_16 12 (dk_at dksX2_verdict_2 3 rfl rfl)
theorem dX2_verdict_51 : decode cX2_verdict 51 = .ok (.iload_n 1, 1) := dk_27 (dk_at dksX2_verdict_2 5 rfl rfl)
theorem dX2_verdict_52 : decode cX2_verdict 52 = .ok (.iadd, 1) := dk_96 (dk_at dksX2_verdict_2 6 rfl rfl)
theorem dX2_verdict_53 : decode cX2_verdict 53 = .ok (.iaload, 1) := dk_46 (dk_at dksX2_verdict_2 7 rfl rfl)
theorem dX2_verdict_54 : decode cX2_verdict 54 = .ok (.if_icmp .ge 7, 3) := dk_162 0 7 (dk_at dksX2_verdict_2 8 rfl rfl)
theorem dX2_verdict_57 : decode cX2_verdict 57 = .ok (.iconst 2, 1) := dk_5 (dk_at dksX2_verdict_2 11 rfl rfl)
theorem dX2_verdict_58 : decode cX2_verdict 58 = .ok (.goto 4, 3) := dk_167 0 4 (dk_at dksX2_verdict_2 12 rfl rfl)
theorem dX2_verdict_61 : decode cX2_verdict 61 = .ok (.iconst 1, 1) := dk_4 (dk_at dksX2_verdict_2 15 rfl rfl)
theorem dX2_verdict_62 : decode cX2_verdict 62 = .ok (.ireturn, 1) := dk_172 (dk_at dksX2_verdict_2 16 rfl rfl)
abbrev cX2_upOf : ByteArray := prog_15_method_64_code
def yX2_upOf : MethodName := ⟨RX2, "upOf", "(I)I"⟩
def dkwX2_upOf_1 : List UInt8 := [27, 16, 50, 3, 17, 3, 231, 182, 1, 28, 172]
abbrev dktX2_upOf_1 : List UInt8 := dkwX2_upOf_1 ++ []
def dkwX2_upOf_0 : List UInt8 := [42, 180, 0, 32, 16, 14, 42, 27, 182, 1, 35, 184, 1, 38, 79, 42, 42, 180, 0, 7, 16, 7, 46, 6]
abbrev dktX2_upOf_0 : List UInt8 := dkwX2_upOf_0 ++ dktX2_upOf_1
theorem dksX2_upOf_0 : cX2_upOf.data.toList.drop 0 = dktX2_upOf_0 := by decide +kernel
theorem dksX2_upOf_1 : cX2_upOf.data.toList.drop 24 = dktX2_upOf_1 := dk_seg dksX2_upOf_0 24 rfl rfl
theorem dX2_upOf_0 : decode cX2_upOf 0 = .ok (.aload_n 0, 1) := dk_42 (dk_at dksX2_upOf_0 0 rfl rfl)
theorem dX2_upOf_1 : decode cX2_upOf 1 = .ok (.getfield 32, 3) := dk_180 0 32 (dk_at dksX2_upOf_0 1 rfl rfl)
theorem dX2_upOf_4 : decode cX2_upOf 4 = .ok (.bipush 14, 2) := dk_16 14 (dk_at dksX2_upOf_0 4 rfl rfl)
theorem dX2_upOf_6 : decode cX2_upOf 6 = .ok (.aload_n 0, 1) := dk_42 (dk_at dksX2_upOf_0 6 rfl rfl)
theorem dX2_upOf_7 : decode cX2_upOf 7 = .ok (.iload_n 1, 1) := dk_27 (dk_at dksX2_upOf_0 7 rfl rfl)
theorem dX2_upOf_8 : decode cX2_upOf 8 = .ok (.invokevirtual 291, 3) := dk_182 1 35 (dk_at dksX2_upOf_0 8 rfl rfl)
theorem dX2_upOf_11 : decode cX2_upOf 11 = .ok (.invokestatic 294, 3) := dk_184 1 38 (dk_at dksX2_upOf_0 11 rfl rfl)
theorem dX2_upOf_14 : decode cX2_upOf 14 = .ok (.iastore, 1) := dk_79 (dk_at dksX2_upOf_0 14 rfl rfl)
theorem dX2_upOf_15 : decode cX2_upOf 15 = .ok (.aload_n 0, 1) := dk_42 (dk_at dksX2_upOf_0 15 rfl rfl)
theorem dX2_upOf_16 : decode cX2_upOf 16 = .ok (.aload_n 0, 1) := dk_42 (dk_at dksX2_upOf_0 16 rfl rfl)
theorem dX2_upOf_17 : decode cX2_upOf 17 = .ok (.getfield 7, 3) := dk_180 0 7 (dk_at dksX2_upOf_0 17 rfl rfl)
theorem dX2_upOf_20 : decode cX2_upOf 20 = .ok (.bipush 7, 2) := dk_16 7 (dk_at dksX2_upOf_0 20 rfl rfl)
theorem dX2_upOf_22 : decode cX2_upOf 22 = .ok (.iaload, 1) := dk_46 (dk_at dksX2_upOf_0 22 rfl rfl)
theorem dX2_upOf_23 : decode cX2_upOf 23 = .ok (.iconst 3, 1) := dk_6 (dk_at dksX2_upOf_0 23 rfl rfl)
theorem dX2_upOf_24 : decode cX2_upOf 24 = .ok (.iload_n 1, 1) := dk_27 (dk_at dksX2_upOf_1 0 rfl rfl)
theorem dX2_upOf_25 : decode cX2_upOf 25 = .ok (.bipush 50, 2) := dk_16 50 (dk_at dksX2_upOf_1 1 rfl rfl)
theorem dX2_upOf_27 : decode cX2_upOf 27 = .ok (.iconst 0, 1) := dk_3 (dk_at dksX2_upOf_1 3 rfl rfl)
theorem dX2_upOf_28 : decode cX2_upOf 28 = .ok (.sipush 999, 3) := dk_17 3 231 (dk_at dksX2_upOf_1 4 rfl rfl)
theorem dX2_upOf_31 : decode cX2_upOf 31 = .ok (.invokevirtual 284, 3) := dk_182 1 28 (dk_at dksX2_upOf_1 7 rfl rfl)
theorem dX2_upOf_34 : decode cX2_upOf 34 = .ok (.ireturn, 1) := dk_172 (dk_at dksX2_upOf_1 10 rfl rfl)
abbrev cX2_deedsOf : ByteArray := prog_15_method_11_code
def yX2_deedsOf : MethodName := ⟨RX2, "deedsOf", "(I)I"⟩
def dkwX2_deedsOf_1 : List UInt8 := [160, 0, 9, 4, 29, 120, 167, 0, 4, 3, 128, 61, 132, 3, 1, 167, 255, 223, 28, 172]
abbrev dktX2_deedsOf_1 : List UInt8 := dkwX2_deedsOf_1 ++ []
def dkwX2_deedsOf_0 : List UInt8 := [3, 61, 3, 62, 29, 42, 180, 0, 7, 4, 46, 162, 0, 29, 28, 42, 29, 3, 182, 0, 84, 27]
abbrev dktX2_deedsOf_0 : List UInt8 := dkwX2_deedsOf_0 ++ dktX2_deedsOf_1
theorem dksX2_deedsOf_0 : cX2_deedsOf.data.toList.drop 0 = dktX2_deedsOf_0 := by decide +kernel
theorem dksX2_deedsOf_1 : cX2_deedsOf.data.toList.drop 22 = dktX2_deedsOf_1 := dk_seg dksX2_deedsOf_0 22 rfl rfl
theorem dX2_deedsOf_0 : decode cX2_deedsOf 0 = .ok (.iconst 0, 1) := dk_3 (dk_at dksX2_deedsOf_0 0 rfl rfl)
theorem dX2_deedsOf_1 : decode cX2_deedsOf 1 = .ok (.istore_n 2, 1) := dk_61 (dk_at dksX2_deedsOf_0 1 rfl rfl)
theorem dX2_deedsOf_2 : decode cX2_deedsOf 2 = .ok (.iconst 0, 1) := dk_3 (dk_at dksX2_deedsOf_0 2 rfl rfl)
theorem dX2_deedsOf_3 : decode cX2_deedsOf 3 = .ok (.istore_n 3, 1) := dk_62 (dk_at dksX2_deedsOf_0 3 rfl rfl)
theorem dX2_deedsOf_4 : decode cX2_deedsOf 4 = .ok (.iload_n 3, 1) := dk_29 (dk_at dksX2_deedsOf_0 4 rfl rfl)
theorem dX2_deedsOf_5 : decode cX2_deedsOf 5 = .ok (.aload_n 0, 1) := dk_42 (dk_at dksX2_deedsOf_0 5 rfl rfl)
theorem dX2_deedsOf_6 : decode cX2_deedsOf 6 = .ok (.getfield 7, 3) := dk_180 0 7 (dk_at dksX2_deedsOf_0 6 rfl rfl)
theorem dX2_deedsOf_9 : decode cX2_deedsOf 9 = .ok (.iconst 1, 1) := dk_4 (dk_at dksX2_deedsOf_0 9 rfl rfl)
theorem dX2_deedsOf_10 : decode cX2_deedsOf 10 = .ok (.iaload, 1) := dk_46 (dk_at dksX2_deedsOf_0 10 rfl rfl)
theorem dX2_deedsOf_11 : decode cX2_deedsOf 11 = .ok (.if_icmp .ge 29, 3) := dk_162 0 29 (dk_at dksX2_deedsOf_0 11 rfl rfl)
theorem dX2_deedsOf_14 : decode cX2_deedsOf 14 = .ok (.iload_n 2, 1) := dk_28 (dk_at dksX2_deedsOf_0 14 rfl rfl)
theorem dX2_deedsOf_15 : decode cX2_deedsOf 15 = .ok (.aload_n 0, 1) := dk_42 (dk_at dksX2_deedsOf_0 15 rfl rfl)
theorem dX2_deedsOf_16 : decode cX2_deedsOf 16 = .ok (.iload_n 3, 1) := dk_29 (dk_at dksX2_deedsOf_0 16 rfl rfl)
theorem dX2_deedsOf_17 : decode cX2_deedsOf 17 = .ok (.iconst 0, 1) := dk_3 (dk_at dksX2_deedsOf_0 17 rfl rfl)
theorem dX2_deedsOf_18 : decode cX2_deedsOf 18 = .ok (.invokevirtual 84, 3) := dk_182 0 84 (dk_at dksX2_deedsOf_0 18 rfl rfl)
theorem dX2_deedsOf_21 : decode cX2_deedsOf 21 = .ok (.iload_n 1, 1) := dk_27 (dk_at dksX2_deedsOf_0 21 rfl rfl)
theorem dX2_deedsOf_22 : decode cX2_deedsOf 22 = .ok (.if_icmp .ne 9, 3) := dk_160 0 9 (dk_at dksX2_deedsOf_1 0 rfl rfl)
theorem dX2_deedsOf_25 : decode cX2_deedsOf 25 = .ok (.iconst 1, 1) := dk_4 (dk_at dksX2_deedsOf_1 3 rfl rfl)
theorem dX2_deedsOf_26 : decode cX2_deedsOf 26 = .ok (.iload_n 3, 1) := dk_29 (dk_at dksX2_deedsOf_1 4 rfl rfl)
theorem dX2_deedsOf_27 : decode cX2_deedsOf 27 = .ok (.ishl, 1) := dk_120 (dk_at dksX2_deedsOf_1 5 rfl rfl)
theorem dX2_deedsOf_28 : decode cX2_deedsOf 28 = .ok (.goto 4, 3) := dk_167 0 4 (dk_at dksX2_deedsOf_1 6 rfl rfl)
theorem dX2_deedsOf_31 : decode cX2_deedsOf 31 = .ok (.iconst 0, 1) := dk_3 (dk_at dksX2_deedsOf_1 9 rfl rfl)
theorem dX2_deedsOf_32 : decode cX2_deedsOf 32 = .ok (.ior, 1) := dk_128 (dk_at dksX2_deedsOf_1 10 rfl rfl)
theorem dX2_deedsOf_33 : decode cX2_deedsOf 33 = .ok (.istore_n 2, 1) := dk_61 (dk_at dksX2_deedsOf_1 11 rfl rfl)
theorem dX2_deedsOf_34 : decode cX2_deedsOf 34 = .ok (.iinc 3 1, 3) := dk_132 3 1 (dk_at dksX2_deedsOf_1 12 rfl rfl)
theorem dX2_deedsOf_37 : decode cX2_deedsOf 37 = .ok (.goto (-33), 3) := dk_167 255 223 (dk_at dksX2_deedsOf_1 15 rfl rfl)
theorem dX2_deedsOf_40 : decode cX2_deedsOf 40 = .ok (.iload_n 2, 1) := dk_28 (dk_at dksX2_deedsOf_1 18 rfl rfl)
theorem dX2_deedsOf_41 : decode cX2_deedsOf 41 = .ok (.ireturn, 1) := dk_172 (dk_at dksX2_deedsOf_1 19 rfl rfl)
abbrev cX2_played : ByteArray := prog_15_method_81_code
def yX2_played : MethodName := ⟨RX2, "played", "(I)I"⟩
def dkwX2_played_2 : List UInt8 := [96, 182, 1, 108, 154, 0, 5, 28, 172, 132, 2, 1, 167, 255, 218, 2, 172]
abbrev dktX2_played_2 : List UInt8 := dkwX2_played_2 ++ []
def dkwX2_played_1 : List UInt8 := [180, 0, 16, 17, 2, 241, 27, 104, 46, 162, 0, 30, 42, 17, 2, 241, 27, 104, 4, 96, 16, 6, 28, 104]
abbrev dktX2_played_1 : List UInt8 := dkwX2_played_1 ++ dktX2_played_2
def dkwX2_played_0 : List UInt8 := [27, 3, 42, 180, 0, 7, 16, 6, 46, 4, 100, 184, 0, 80, 154, 0, 6, 16, 254, 172, 3, 61, 28, 42]
abbrev dktX2_played_0 : List UInt8 := dkwX2_played_0 ++ dktX2_played_1
theorem dksX2_played_0 : cX2_played.data.toList.drop 0 = dktX2_played_0 := by decide +kernel
theorem dksX2_played_1 : cX2_played.data.toList.drop 24 = dktX2_played_1 := dk_seg dksX2_played_0 24 rfl rfl
theorem dksX2_played_2 : cX2_played.data.toList.drop 48 = dktX2_played_2 := dk_seg dksX2_played_1 24 rfl rfl
theorem dX2_played_0 : decode cX2_played 0 = .ok (.iload_n 1, 1) := dk_27 (dk_at dksX2_played_0 0 rfl rfl)
theorem dX2_played_1 : decode cX2_played 1 = .ok (.iconst 0, 1) := dk_3 (dk_at dksX2_played_0 1 rfl rfl)
theorem dX2_played_2 : decode cX2_played 2 = .ok (.aload_n 0, 1) := dk_42 (dk_at dksX2_played_0 2 rfl rfl)
theorem dX2_played_3 : decode cX2_played 3 = .ok (.getfield 7, 3) := dk_180 0 7 (dk_at dksX2_played_0 3 rfl rfl)
theorem dX2_played_6 : decode cX2_played 6 = .ok (.bipush 6, 2) := dk_16 6 (dk_at dksX2_played_0 6 rfl rfl)
theorem dX2_played_8 : decode cX2_played 8 = .ok (.iaload, 1) := dk_46 (dk_at dksX2_played_0 8 rfl rfl)
theorem dX2_played_9 : decode cX2_played 9 = .ok (.iconst 1, 1) := dk_4 (dk_at dksX2_played_0 9 rfl rfl)
theorem dX2_played_10 : decode cX2_played 10 = .ok (.isub, 1) := dk_100 (dk_at dksX2_played_0 10 rfl rfl)
theorem dX2_played_11 : decode cX2_played 11 = .ok (.invokestatic 80, 3) := dk_184 0 80 (dk_at dksX2_played_0 11 rfl rfl)
theorem dX2_played_14 : decode cX2_played 14 = .ok (.ifCond .ne 6, 3) := dk_154 0 6 (dk_at dksX2_played_0 14 rfl rfl)
theorem dX2_played_17 : decode cX2_played 17 = .ok (.bipush (-2), 2) := dk_16 254 (dk_at dksX2_played_0 17 rfl rfl)
theorem dX2_played_19 : decode cX2_played 19 = .ok (.ireturn, 1) := dk_172 (dk_at dksX2_played_0 19 rfl rfl)
theorem dX2_played_20 : decode cX2_played 20 = .ok (.iconst 0, 1) := dk_3 (dk_at dksX2_played_0 20 rfl rfl)
theorem dX2_played_21 : decode cX2_played 21 = .ok (.istore_n 2, 1) := dk_61 (dk_at dksX2_played_0 21 rfl rfl)
theorem dX2_played_22 : decode cX2_played 22 = .ok (.iload_n 2, 1) := dk_28 (dk_at dksX2_played_0 22 rfl rfl)
theorem dX2_played_23 : decode cX2_played 23 = .ok (.aload_n 0, 1) := dk_42 (dk_at dksX2_played_0 23 rfl rfl)
theorem dX2_played_24 : decode cX2_played 24 = .ok (.getfield 16, 3) := dk_180 0 16 (dk_at dksX2_played_1 0 rfl rfl)
theorem dX2_played_27 : decode cX2_played 27 = .ok (.sipush 753, 3) := dk_17 2 241 (dk_at dksX2_played_1 3 rfl rfl)
theorem dX2_played_30 : decode cX2_played 30 = .ok (.iload_n 1, 1) := dk_27 (dk_at dksX2_played_1 6 rfl rfl)
theorem dX2_played_31 : decode cX2_played 31 = .ok (.imul, 1) := dk_104 (dk_at dksX2_played_1 7 rfl rfl)
theorem dX2_played_32 : decode cX2_played 32 = .ok (.iaload, 1) := dk_46 (dk_at dksX2_played_1 8 rfl rfl)
theorem dX2_played_33 : decode cX2_played 33 = .ok (.if_icmp .ge 30, 3) := dk_162 0 30 (dk_at dksX2_played_1 9 rfl rfl)
theorem dX2_played_36 : decode cX2_played 36 = .ok (.aload_n 0, 1) := dk_42 (dk_at dksX2_played_1 12 rfl rfl)
theorem dX2_played_37 : decode cX2_played 37 = .ok (.sipush 753, 3) := dk_17 2 241 (dk_at dksX2_played_1 13 rfl rfl)
theorem dX2_played_40 : decode cX2_played 40 = .ok (.iload_n 1, 1) := dk_27 (dk_at dksX2_played_1 16 rfl rfl)
theorem dX2_played_41 : decode cX2_played 41 = .ok (.imul, 1) := dk_104 (dk_at dksX2_played_1 17 rfl rfl)
theorem dX2_played_42 : decode cX2_played 42 = .ok (.iconst 1, 1) := dk_4 (dk_at dksX2_played_1 18 rfl rfl)
theorem dX2_played_43 : decode cX2_played 43 = .ok (.iadd, 1) := dk_96 (dk_at dksX2_played_1 19 rfl rfl)
theorem dX2_played_44 : decode cX2_played 44 = .ok (.bipush 6, 2) := dk_16 6 (dk_at dksX2_played_1 20 rfl rfl)
theorem dX2_played_46 : decode cX2_played 46 = .ok (.iload_n 2, 1) := dk_28 (dk_at dksX2_played_1 22 rfl rfl)
theorem dX2_played_47 : decode cX2_played 47 = .ok (.imul, 1) := dk_104 (dk_at dksX2_played_1 23 rfl rfl)
theorem dX2_played_48 : decode cX2_played 48 = .ok (.iadd, 1) := dk_96 (dk_at dksX2_played_2 0 rfl rfl)
theorem dX2_played_49 : decode cX2_played 49 = .ok (.invokevirtual 364, 3) := dk_182 1 108 (dk_at dksX2_played_2 1 rfl rfl)
theorem dX2_played_52 : decode cX2_played 52 = .ok (.ifCond .ne 5, 3) := dk_154 0 5 (dk_at dksX2_played_2 4 rfl rfl)
theorem dX2_played_55 : decode cX2_played 55 = .ok (.iload_n 2, 1) := dk_28 (dk_at dksX2_played_2 7 rfl rfl)
theorem dX2_played_56 : decode cX2_played 56 = .ok (.ireturn, 1) := dk_172 (dk_at dksX2_played_2 8 rfl rfl)
theorem dX2_played_57 : decode cX2_played 57 = .ok (.iinc 2 1, 3) := dk_132 2 1 (dk_at dksX2_played_2 9 rfl rfl)
theorem dX2_played_60 : decode cX2_played 60 = .ok (.goto (-38), 3) := dk_167 255 218 (dk_at dksX2_played_2 12 rfl rfl)
theorem dX2_played_63 : decode cX2_played 63 = .ok (.iconst (-1), 1) := dk_2 (dk_at dksX2_played_2 15 rfl rfl)
theorem dX2_played_64 : decode cX2_played 64 = .ok (.ireturn, 1) := dk_172 (dk_at dksX2_played_2 16 rfl rfl)
abbrev cX2_isPlayed : ByteArray := prog_15_method_80_code
def yX2_isPlayed : MethodName := ⟨RX2, "isPlayed", "(I)Z"⟩
def dkwX2_isPlayed_9 : List UInt8 := [172, 4, 172]
abbrev dktX2_isPlayed_9 : List UInt8 := dkwX2_isPlayed_9 ++ []
def dkwX2_isPlayed_8 : List UInt8 := [182, 1, 101, 155, 0, 7, 4, 167, 0, 4, 3, 172, 42, 182, 1, 105, 155, 0, 7, 4, 167, 0, 4, 3]
abbrev dktX2_isPlayed_8 : List UInt8 := dkwX2_isPlayed_8 ++ dktX2_isPlayed_9
def dkwX2_isPlayed_7 : List UInt8 := [167, 0, 4, 3, 172, 42, 28, 4, 182, 1, 101, 155, 0, 7, 4, 167, 0, 4, 3, 172, 42, 28, 3]
abbrev dktX2_isPlayed_7 : List UInt8 := dkwX2_isPlayed_7 ++ dktX2_isPlayed_8
def dkwX2_isPlayed_6 : List UInt8 := [19, 1, 65, 159, 0, 7, 4, 167, 0, 4, 3, 172, 42, 28, 182, 1, 98, 19, 1, 65, 159, 0, 7, 4]
abbrev dktX2_isPlayed_6 : List UInt8 := dkwX2_isPlayed_6 ++ dktX2_isPlayed_7
def dkwX2_isPlayed_5 : List UInt8 := [180, 0, 16, 27, 5, 96, 46, 42, 180, 0, 16, 27, 6, 96, 46, 182, 1, 92, 172, 42, 28, 182, 1, 95]
abbrev dktX2_isPlayed_5 : List UInt8 := dkwX2_isPlayed_5 ++ dktX2_isPlayed_6
def dkwX2_isPlayed_4 : List UInt8 := [167, 0, 4, 3, 172, 42, 28, 182, 1, 89, 155, 0, 7, 4, 167, 0, 4, 3, 172, 42, 28, 42]
abbrev dktX2_isPlayed_4 : List UInt8 := dkwX2_isPlayed_4 ++ dktX2_isPlayed_5
def dkwX2_isPlayed_3 : List UInt8 := [42, 180, 0, 16, 27, 5, 96, 46, 42, 180, 0, 16, 27, 7, 96, 46, 2, 182, 1, 85, 155, 0, 7, 4]
abbrev dktX2_isPlayed_3 : List UInt8 := dkwX2_isPlayed_3 ++ dktX2_isPlayed_4
def dkwX2_isPlayed_2 : List UInt8 := [42, 28, 182, 1, 82, 155, 0, 7, 4, 167, 0, 4, 3, 172, 42, 42, 180, 0, 16, 27, 6, 96, 46, 28]
abbrev dktX2_isPlayed_2 : List UInt8 := dkwX2_isPlayed_2 ++ dktX2_isPlayed_3
def dkwX2_isPlayed_1 : List UInt8 := [170, 0, 0, 0, 215, 0, 0, 0, 4, 0, 0, 0, 12, 0, 0, 0, 49, 0, 0, 0, 63, 0, 0, 0, 102, 0, 0, 0, 116, 0, 0, 0, 138, 0, 0, 0, 155, 0, 0, 0, 172, 0, 0, 0, 187, 0, 0, 0, 202]
abbrev dktX2_isPlayed_1 : List UInt8 := dkwX2_isPlayed_1 ++ dktX2_isPlayed_2
def dkwX2_isPlayed_0 : List UInt8 := [42, 180, 0, 16, 27, 4, 96, 46, 61, 42, 180, 0, 16, 27, 46]
abbrev dktX2_isPlayed_0 : List UInt8 := dkwX2_isPlayed_0 ++ dktX2_isPlayed_1
theorem dksX2_isPlayed_0 : cX2_isPlayed.data.toList.drop 0 = dktX2_isPlayed_0 := by decide +kernel
theorem dksX2_isPlayed_1 : cX2_isPlayed.data.toList.drop 15 = dktX2_isPlayed_1 := dk_seg dksX2_isPlayed_0 15 rfl rfl
theorem dksX2_isPlayed_2 : cX2_isPlayed.data.toList.drop 64 = dktX2_isPlayed_2 := dk_seg dksX2_isPlayed_1 49 rfl rfl
theorem dksX2_isPlayed_3 : cX2_isPlayed.data.toList.drop 88 = dktX2_isPlayed_3 := dk_seg dksX2_isPlayed_2 24 rfl rfl
theorem dksX2_isPlayed_4 : cX2_isPlayed.data.toList.drop 112 = dktX2_isPlayed_4 := dk_seg dksX2_isPlayed_3 24 rfl rfl
theorem dksX2_isPlayed_5 : cX2_isPlayed.data.toList.drop 134 = dktX2_isPlayed_5 := dk_seg dksX2_isPlayed_4 22 rfl rfl
theorem dksX2_isPlayed_6 : cX2_isPlayed.data.toList.drop 158 = dktX2_isPlayed_6 := dk_seg dksX2_isPlayed_5 24 rfl rfl
theorem dksX2_isPlayed_7 : cX2_isPlayed.data.toList.drop 182 = dktX2_isPlayed_7 := dk_seg dksX2_isPlayed_6 24 rfl rfl
theorem dksX2_isPlayed_8 : cX2_isPlayed.data.toList.drop 205 = dktX2_isPlayed_8 := dk_seg dksX2_isPlayed_7 23 rfl rfl
theorem dksX2_isPlayed_9 : cX2_isPlayed.data.toList.drop 229 = dktX2_isPlayed_9 := dk_seg dksX2_isPlayed_8 24 rfl rfl
theorem dX2_isPlayed_0 : decode cX2_isPlayed 0 = .ok (.aload_n 0, 1) := dk_42 (dk_at dksX2_isPlayed_0 0 rfl rfl)
theorem dX2_isPlayed_1 : decode cX2_isPlayed 1 = .ok (.getfield 16, 3) := dk_180 0 16 (dk_at dksX2_isPlayed_0 1 rfl rfl)
theorem dX2_isPlayed_4 : decode cX2_isPlayed 4 = .ok (.iload_n 1, 1) := dk_27 (dk_at dksX2_isPlayed_0 4 rfl rfl)
theorem dX2_isPlayed_5 : decode cX2_isPlayed 5 = .ok (.iconst 1, 1) := dk_4 (dk_at dksX2_isPlayed_0 5 rfl rfl)
theorem dX2_isPlayed_6 : decode cX2_isPlayed 6 = .ok (.iadd, 1) := dk_96 (dk_at dksX2_isPlayed_0 6 rfl rfl)
theorem dX2_isPlayed_7 : decode cX2_isPlayed 7 = .ok (.iaload, 1) := dk_46 (dk_at dksX2_isPlayed_0 7 rfl rfl)
theorem dX2_isPlayed_8 : decode cX2_isPlayed 8 = .ok (.istore_n 2, 1) := dk_61 (dk_at dksX2_isPlayed_0 8 rfl rfl)
theorem dX2_isPlayed_9 : decode cX2_isPlayed 9 = .ok (.aload_n 0, 1) := dk_42 (dk_at dksX2_isPlayed_0 9 rfl rfl)
theorem dX2_isPlayed_10 : decode cX2_isPlayed 10 = .ok (.getfield 16, 3) := dk_180 0 16 (dk_at dksX2_isPlayed_0 10 rfl rfl)
theorem dX2_isPlayed_13 : decode cX2_isPlayed 13 = .ok (.iload_n 1, 1) := dk_27 (dk_at dksX2_isPlayed_0 13 rfl rfl)
theorem dX2_isPlayed_14 : decode cX2_isPlayed 14 = .ok (.iaload, 1) := dk_46 (dk_at dksX2_isPlayed_0 14 rfl rfl)
theorem dX2_isPlayed_15 : decode cX2_isPlayed 15 = .ok (.tableswitch 215 4 12 #[49, 63, 102, 116, 138, 155, 172, 187, 202], 49) := by decide +kernel
theorem dX2_isPlayed_64 : decode cX2_isPlayed 64 = .ok (.aload_n 0, 1) := dk_42 (dk_at dksX2_isPlayed_2 0 rfl rfl)
theorem dX2_isPlayed_65 : decode cX2_isPlayed 65 = .ok (.iload_n 2, 1) := dk_28 (dk_at dksX2_isPlayed_2 1 rfl rfl)
theorem dX2_isPlayed_66 : decode cX2_isPlayed 66 = .ok (.invokevirtual 338, 3) := dk_182 1 82 (dk_at dksX2_isPlayed_2 2 rfl rfl)
theorem dX2_isPlayed_69 : decode cX2_isPlayed 69 = .ok (.ifCond .lt 7, 3) := dk_155 0 7 (dk_at dksX2_isPlayed_2 5 rfl rfl)
theorem dX2_isPlayed_72 : decode cX2_isPlayed 72 = .ok (.iconst 1, 1) := dk_4 (dk_at dksX2_isPlayed_2 8 rfl rfl)
theorem dX2_isPlayed_73 : decode cX2_isPlayed 73 = .ok (.goto 4, 3) := dk_167 0 4 (dk_at dksX2_isPlayed_2 9 rfl rfl)
theorem dX2_isPlayed_76 : decode cX2_isPlayed 76 = .ok (.iconst 0, 1) := dk_3 (dk_at dksX2_isPlayed_2 12 rfl rfl)
theorem dX2_isPlayed_77 : decode cX2_isPlayed 77 = .ok (.ireturn, 1) := dk_172 (dk_at dksX2_isPlayed_2 13 rfl rfl)
theorem dX2_isPlayed_78 : decode cX2_isPlayed 78 = .ok (.aload_n 0, 1) := dk_42 (dk_at dksX2_isPlayed_2 14 rfl rfl)
theorem dX2_isPlayed_79 : decode cX2_isPlayed 79 = .ok (.aload_n 0, 1) := dk_42 (dk_at dksX2_isPlayed_2 15 rfl rfl)
theorem dX2_isPlayed_80 : decode cX2_isPlayed 80 = .ok (.getfield 16, 3) := dk_180 0 16 (dk_at dksX2_isPlayed_2 16 rfl rfl)
theorem dX2_isPlayed_83 : decode cX2_isPlayed 83 = .ok (.iload_n 1, 1) := dk_27 (dk_at dksX2_isPlayed_2 19 rfl rfl)
theorem dX2_isPlayed_84 : decode cX2_isPlayed 84 = .ok (.iconst 3, 1) := dk_6 (dk_at dksX2_isPlayed_2 20 rfl rfl)
theorem dX2_isPlayed_85 : decode cX2_isPlayed 85 = .ok (.iadd, 1) := dk_96 (dk_at dksX2_isPlayed_2 21 rfl rfl)
theorem dX2_isPlayed_86 : decode cX2_isPlayed 86 = .ok (.iaload, 1) := dk_46 (dk_at dksX2_isPlayed_2 22 rfl rfl)
theorem dX2_isPlayed_87 : decode cX2_isPlayed 87 = .ok (.iload_n 2, 1) := dk_28 (dk_at dksX2_isPlayed_2 23 rfl rfl)
theorem dX2_isPlayed_88 : decode cX2_isPlayed 88 = .ok (.aload_n 0, 1) := dk_42 (dk_at dksX2_isPlayed_3 0 rfl rfl)
theorem dX2_isPlayed_89 : decode cX2_isPlayed 89 = .ok (.getfield 16, 3) := dk_180 0 16 (dk_at dksX2_isPlayed_3 1 rfl rfl)
theorem dX2_isPlayed_92 : decode cX2_isPlayed 92 = .ok (.iload_n 1, 1) := dk_27 (dk_at dksX2_isPlayed_3 4 rfl rfl)
theorem dX2_isPlayed_93 : decode cX2_isPlayed 93 = .ok (.iconst 2, 1) := dk_5 (dk_at dksX2_isPlayed_3 5 rfl rfl)
theorem dX2_isPlayed_94 : decode cX2_isPlayed 94 = .ok (.iadd, 1) := dk_96 (dk_at dksX2_isPlayed_3 6 rfl rfl)
theorem dX2_isPlayed_95 : decode cX2_isPlayed 95 = .ok (.iaload, 1) := dk_46 (dk_at dksX2_isPlayed_3 7 rfl rfl)
theorem dX2_isPlayed_96 : decode cX2_isPlayed 96 = .ok (.aload_n 0, 1) := dk_42 (dk_at dksX2_isPlayed_3 8 rfl rfl)
theorem dX2_isPlayed_97 : decode cX2_isPlayed 97 = .ok (.getfield 16, 3) := dk_180 0 16 (dk_at dksX2_isPlayed_3 9 rfl rfl)
theorem dX2_isPlayed_100 : decode cX2_isPlayed 100 = .ok (.iload_n 1, 1) := dk_27 (dk_at dksX2_isPlayed_3 12 rfl rfl)
theorem dX2_isPlayed_101 : decode cX2_isPlayed 101 = .ok (.iconst 4, 1) := dk_7 (dk_at dksX2_isPlayed_3 13 rfl rfl)
theorem dX2_isPlayed_102 : decode cX2_isPlayed 102 = .ok (.iadd, 1) := dk_96 (dk_at dksX2_isPlayed_3 14 rfl rfl)
theorem dX2_isPlayed_103 : decode cX2_isPlayed 103 = .ok (.iaload, 1) := dk_46 (dk_at dksX2_isPlayed_3 15 rfl rfl)
theorem dX2_isPlayed_104 : decode cX2_isPlayed 104 = .ok (.iconst (-1), 1) := dk_2 (dk_at dksX2_isPlayed_3 16 rfl rfl)
theorem dX2_isPlayed_105 : decode cX2_isPlayed 105 = .ok (.invokevirtual 341, 3) := dk_182 1 85 (dk_at dksX2_isPlayed_3 17 rfl rfl)
theorem dX2_isPlayed_108 : decode cX2_isPlayed 108 = .ok (.ifCond .lt 7, 3) := dk_155 0 7 (dk_at dksX2_isPlayed_3 20 rfl rfl)
theorem dX2_isPlayed_111 : decode cX2_isPlayed 111 = .ok (.iconst 1, 1) := dk_4 (dk_at dksX2_isPlayed_3 23 rfl rfl)
theorem dX2_isPlayed_112 : decode cX2_isPlayed 112 = .ok (.goto 4, 3) := dk_167 0 4 (dk_at dksX2_isPlayed_4 0 rfl rfl)
theorem dX2_isPlayed_115 : decode cX2_isPlayed 115 = .ok (.iconst 0, 1) := dk_3 (dk_at dksX2_isPlayed_4 3 rfl rfl)
theorem dX2_isPlayed_116 : decode cX2_isPlayed 116 = .ok (.ireturn, 1) := dk_172 (dk_at dksX2_isPlayed_4 4 rfl rfl)
theorem dX2_isPlayed_117 : decode cX2_isPlayed 117 = .ok (.aload_n 0, 1) := dk_42 (dk_at dksX2_isPlayed_4 5 rfl rfl)
theorem dX2_isPlayed_118 : decode cX2_isPlayed 118 = .ok (.iload_n 2, 1) := dk_28 (dk_at dksX2_isPlayed_4 6 rfl rfl)
theorem dX2_isPlayed_119 : decode cX2_isPlayed 119 = .ok (.invokevirtual 345, 3) := dk_182 1 89 (dk_at dksX2_isPlayed_4 7 rfl rfl)
theorem dX2_isPlayed_122 : decode cX2_isPlayed 122 = .ok (.ifCond .lt 7, 3) := dk_155 0 7 (dk_at dksX2_isPlayed_4 10 rfl rfl)
theorem dX2_isPlayed_125 : decode cX2_isPlayed 125 = .ok (.iconst 1, 1) := dk_4 (dk_at dksX2_isPlayed_4 13 rfl rfl)
theorem dX2_isPlayed_126 : decode cX2_isPlayed 126 = .ok (.goto 4, 3) := dk_167 0 4 (dk_at dksX2_isPlayed_4 14 rfl rfl)
theorem dX2_isPlayed_129 : decode cX2_isPlayed 129 = .ok (.iconst 0, 1) := dk_3 (dk_at dksX2_isPlayed_4 17 rfl rfl)
theorem dX2_isPlayed_130 : decode cX2_isPlayed 130 = .ok (.ireturn, 1) := dk_172 (dk_at dksX2_isPlayed_4 18 rfl rfl)
theorem dX2_isPlayed_131 : decode cX2_isPlayed 131 = .ok (.aload_n 0, 1) := dk_42 (dk_at dksX2_isPlayed_4 19 rfl rfl)
theorem dX2_isPlayed_132 : decode cX2_isPlayed 132 = .ok (.iload_n 2, 1) := dk_28 (dk_at dksX2_isPlayed_4 20 rfl rfl)
theorem dX2_isPlayed_133 : decode cX2_isPlayed 133 = .ok (.aload_n 0, 1) := dk_42 (dk_at dksX2_isPlayed_4 21 rfl rfl)
theorem dX2_isPlayed_134 : decode cX2_isPlayed 134 = .ok (.getfield 16, 3) := dk_180 0 16 (dk_at dksX2_isPlayed_5 0 rfl rfl)
theorem dX2_isPlayed_137 : decode cX2_isPlayed 137 = .ok (.iload_n 1, 1) := dk_27 (dk_at dksX2_isPlayed_5 3 rfl rfl)
theorem dX2_isPlayed_138 : decode cX2_isPlayed 138 = .ok (.iconst 2, 1) := dk_5 (dk_at dksX2_isPlayed_5 4 rfl rfl)
theorem dX2_isPlayed_139 : decode cX2_isPlayed 139 = .ok (.iadd, 1) := dk_96 (dk_at dksX2_isPlayed_5 5 rfl rfl)
theorem dX2_isPlayed_140 : decode cX2_isPlayed 140 = .ok (.iaload, 1) := dk_46 (dk_at dksX2_isPlayed_5 6 rfl rfl)
theorem dX2_isPlayed_141 : decode cX2_isPlayed 141 = .ok (.aload_n 0, 1) := dk_42 (dk_at dksX2_isPlayed_5 7 rfl rfl)
theorem dX2_isPlayed_142 : decode cX2_isPlayed 142 = .ok (.getfield 16, 3) := dk_180 0 16 (dk_at dksX2_isPlayed_5 8 rfl rfl)
theorem dX2_isPlayed_145 : decode cX2_isPlayed 145 = .ok (.iload_n 1, 1) := dk_27 (dk_at dksX2_isPlayed_5 11 rfl rfl)
theorem dX2_isPlayed_146 : decode cX2_isPlayed 146 = .ok (.iconst 3, 1) := dk_6 (dk_at dksX2_isPlayed_5 12 rfl rfl)
theorem dX2_isPlayed_147 : decode cX2_isPlayed 147 = .ok (.iadd, 1) := dk_96 (dk_at dksX2_isPlayed_5 13 rfl rfl)
theorem dX2_isPlayed_148 : decode cX2_isPlayed 148 = .ok (.iaload, 1) := dk_46 (dk_at dksX2_isPlayed_5 14 rfl rfl)
theorem dX2_isPlayed_149 : decode cX2_isPlayed 149 = .ok (.invokevirtual 348, 3) := dk_182 1 92 (dk_at dksX2_isPlayed_5 15 rfl rfl)
theorem dX2_isPlayed_152 : decode cX2_isPlayed 152 = .ok (.ireturn, 1) := dk_172 (dk_at dksX2_isPlayed_5 18 rfl rfl)
theorem dX2_isPlayed_153 : decode cX2_isPlayed 153 = .ok (.aload_n 0, 1) := dk_42 (dk_at dksX2_isPlayed_5 19 rfl rfl)
theorem dX2_isPlayed_154 : decode cX2_isPlayed 154 = .ok (.iload_n 2, 1) := dk_28 (dk_at dksX2_isPlayed_5 20 rfl rfl)
theorem dX2_isPlayed_155 : decode cX2_isPlayed 155 = .ok (.invokevirtual 351, 3) := dk_182 1 95 (dk_at dksX2_isPlayed_5 21 rfl rfl)
theorem dX2_isPlayed_158 : decode cX2_isPlayed 158 = .ok (.ldc_w 321, 3) := dk_19 1 65 (dk_at dksX2_isPlayed_6 0 rfl rfl)
theorem dX2_isPlayed_161 : decode cX2_isPlayed 161 = .ok (.if_icmp .eq 7, 3) := dk_159 0 7 (dk_at dksX2_isPlayed_6 3 rfl rfl)
theorem dX2_isPlayed_164 : decode cX2_isPlayed 164 = .ok (.iconst 1, 1) := dk_4 (dk_at dksX2_isPlayed_6 6 rfl rfl)
theorem dX2_isPlayed_165 : decode cX2_isPlayed 165 = .ok (.goto 4, 3) := dk_167 0 4 (dk_at dksX2_isPlayed_6 7 rfl rfl)
theorem dX2_isPlayed_168 : decode cX2_isPlayed 168 = .ok (.iconst 0, 1) := dk_3 (dk_at dksX2_isPlayed_6 10 rfl rfl)
theorem dX2_isPlayed_169 : decode cX2_isPlayed 169 = .ok (.ireturn, 1) := dk_172 (dk_at dksX2_isPlayed_6 11 rfl rfl)
theorem dX2_isPlayed_170 : decode cX2_isPlayed 170 = .ok (.aload_n 0, 1) := dk_42 (dk_at dksX2_isPlayed_6 12 rfl rfl)
theorem dX2_isPlayed_171 : decode cX2_isPlayed 171 = .ok (.iload_n 2, 1) := dk_28 (dk_at dksX2_isPlayed_6 13 rfl rfl)
theorem dX2_isPlayed_172 : decode cX2_isPlayed 172 = .ok (.invokevirtual 354, 3) := dk_182 1 98 (dk_at dksX2_isPlayed_6 14 rfl rfl)
theorem dX2_isPlayed_175 : decode cX2_isPlayed 175 = .ok (.ldc_w 321, 3) := dk_19 1 65 (dk_at dksX2_isPlayed_6 17 rfl rfl)
theorem dX2_isPlayed_178 : decode cX2_isPlayed 178 = .ok (.if_icmp .eq 7, 3) := dk_159 0 7 (dk_at dksX2_isPlayed_6 20 rfl rfl)
theorem dX2_isPlayed_181 : decode cX2_isPlayed 181 = .ok (.iconst 1, 1) := dk_4 (dk_at dksX2_isPlayed_6 23 rfl rfl)
theorem dX2_isPlayed_182 : decode cX2_isPlayed 182 = .ok (.goto 4, 3) := dk_167 0 4 (dk_at dksX2_isPlayed_7 0 rfl rfl)
theorem dX2_isPlayed_185 : decode cX2_isPlayed 185 = .ok (.iconst 0, 1) := dk_3 (dk_at dksX2_isPlayed_7 3 rfl rfl)
theorem dX2_isPlayed_186 : decode cX2_isPlayed 186 = .ok (.ireturn, 1) := dk_172 (dk_at dksX2_isPlayed_7 4 rfl rfl)
theorem dX2_isPlayed_187 : decode cX2_isPlayed 187 = .ok (.aload_n 0, 1) := dk_42 (dk_at dksX2_isPlayed_7 5 rfl rfl)
theorem dX2_isPlayed_188 : decode cX2_isPlayed 188 = .ok (.iload_n 2, 1) := dk_28 (dk_at dksX2_isPlayed_7 6 rfl rfl)
theorem dX2_isPlayed_189 : decode cX2_isPlayed 189 = .ok (.iconst 1, 1) := dk_4 (dk_at dksX2_isPlayed_7 7 rfl rfl)
theorem dX2_isPlayed_190 : decode cX2_isPlayed 190 = .ok (.invokevirtual 357, 3) := dk_182 1 101 (dk_at dksX2_isPlayed_7 8 rfl rfl)
theorem dX2_isPlayed_193 : decode cX2_isPlayed 193 = .ok (.ifCond .lt 7, 3) := dk_155 0 7 (dk_at dksX2_isPlayed_7 11 rfl rfl)
theorem dX2_isPlayed_196 : decode cX2_isPlayed 196 = .ok (.iconst 1, 1) := dk_4 (dk_at dksX2_isPlayed_7 14 rfl rfl)
theorem dX2_isPlayed_197 : decode cX2_isPlayed 197 = .ok (.goto 4, 3) := dk_167 0 4 (dk_at dksX2_isPlayed_7 15 rfl rfl)
theorem dX2_isPlayed_200 : decode cX2_isPlayed 200 = .ok (.iconst 0, 1) := dk_3 (dk_at dksX2_isPlayed_7 18 rfl rfl)
theorem dX2_isPlayed_201 : decode cX2_isPlayed 201 = .ok (.ireturn, 1) := dk_172 (dk_at dksX2_isPlayed_7 19 rfl rfl)
theorem dX2_isPlayed_202 : decode cX2_isPlayed 202 = .ok (.aload_n 0, 1) := dk_42 (dk_at dksX2_isPlayed_7 20 rfl rfl)
theorem dX2_isPlayed_203 : decode cX2_isPlayed 203 = .ok (.iload_n 2, 1) := dk_28 (dk_at dksX2_isPlayed_7 21 rfl rfl)
theorem dX2_isPlayed_204 : decode cX2_isPlayed 204 = .ok (.iconst 0, 1) := dk_3 (dk_at dksX2_isPlayed_7 22 rfl rfl)
theorem dX2_isPlayed_205 : decode cX2_isPlayed 205 = .ok (.invokevirtual 357, 3) := dk_182 1 101 (dk_at dksX2_isPlayed_8 0 rfl rfl)
theorem dX2_isPlayed_208 : decode cX2_isPlayed 208 = .ok (.ifCond .lt 7, 3) := dk_155 0 7 (dk_at dksX2_isPlayed_8 3 rfl rfl)
theorem dX2_isPlayed_211 : decode cX2_isPlayed 211 = .ok (.iconst 1, 1) := dk_4 (dk_at dksX2_isPlayed_8 6 rfl rfl)
theorem dX2_isPlayed_212 : decode cX2_isPlayed 212 = .ok (.goto 4, 3) := dk_167 0 4 (dk_at dksX2_isPlayed_8 7 rfl rfl)
theorem dX2_isPlayed_215 : decode cX2_isPlayed 215 = .ok (.iconst 0, 1) := dk_3 (dk_at dksX2_isPlayed_8 10 rfl rfl)
theorem dX2_isPlayed_216 : decode cX2_isPlayed 216 = .ok (.ireturn, 1) := dk_172 (dk_at dksX2_isPlayed_8 11 rfl rfl)
theorem dX2_isPlayed_217 : decode cX2_isPlayed 217 = .ok (.aload_n 0, 1) := dk_42 (dk_at dksX2_isPlayed_8 12 rfl rfl)
theorem dX2_isPlayed_218 : decode cX2_isPlayed 218 = .ok (.invokevirtual 361, 3) := dk_182 1 105 (dk_at dksX2_isPlayed_8 13 rfl rfl)
theorem dX2_isPlayed_221 : decode cX2_isPlayed 221 = .ok (.ifCond .lt 7, 3) := dk_155 0 7 (dk_at dksX2_isPlayed_8 16 rfl rfl)
theorem dX2_isPlayed_224 : decode cX2_isPlayed 224 = .ok (.iconst 1, 1) := dk_4 (dk_at dksX2_isPlayed_8 19 rfl rfl)
theorem dX2_isPlayed_225 : decode cX2_isPlayed 225 = .ok (.goto 4, 3) := dk_167 0 4 (dk_at dksX2_isPlayed_8 20 rfl rfl)
theorem dX2_isPlayed_228 : decode cX2_isPlayed 228 = .ok (.iconst 0, 1) := dk_3 (dk_at dksX2_isPlayed_8 23 rfl rfl)
theorem dX2_isPlayed_229 : decode cX2_isPlayed 229 = .ok (.ireturn, 1) := dk_172 (dk_at dksX2_isPlayed_9 0 rfl rfl)
theorem dX2_isPlayed_230 : decode cX2_isPlayed 230 = .ok (.iconst 1, 1) := dk_4 (dk_at dksX2_isPlayed_9 1 rfl rfl)
theorem dX2_isPlayed_231 : decode cX2_isPlayed 231 = .ok (.ireturn, 1) := dk_172 (dk_at dksX2_isPlayed_9 2 rfl rfl)
abbrev cX2_day : ByteArray := prog_15_method_85_code
def yX2_day : MethodName := ⟨RX2, "day", "(II)I"⟩
def dkwX2_day_3 : List UInt8 := [167, 255, 240, 29, 172]
abbrev dktX2_day_3 : List UInt8 := dkwX2_day_3 ++ []
def dkwX2_day_2 : List UInt8 := [96, 79, 3, 62, 3, 54, 4, 21, 4, 28, 162, 0, 16, 29, 42, 182, 1, 120, 96, 62, 132, 4, 1]
abbrev dktX2_day_2 : List UInt8 := dkwX2_day_2 ++ dktX2_day_3
def dkwX2_day_1 : List UInt8 := [180, 0, 7, 3, 46, 154, 0, 5, 2, 172, 42, 182, 1, 62, 42, 180, 0, 7, 8, 27, 5, 104, 16, 19]
abbrev dktX2_day_1 : List UInt8 := dkwX2_day_1 ++ dktX2_day_2
def dkwX2_day_0 : List UInt8 := [27, 3, 17, 39, 15, 184, 0, 80, 153, 0, 22, 28, 4, 16, 20, 184, 0, 80, 153, 0, 12, 42]
abbrev dktX2_day_0 : List UInt8 := dkwX2_day_0 ++ dktX2_day_1
theorem dksX2_day_0 : cX2_day.data.toList.drop 0 = dktX2_day_0 := by decide +kernel
theorem dksX2_day_1 : cX2_day.data.toList.drop 22 = dktX2_day_1 := dk_seg dksX2_day_0 22 rfl rfl
theorem dksX2_day_2 : cX2_day.data.toList.drop 46 = dktX2_day_2 := dk_seg dksX2_day_1 24 rfl rfl
theorem dksX2_day_3 : cX2_day.data.toList.drop 69 = dktX2_day_3 := dk_seg dksX2_day_2 23 rfl rfl
theorem dX2_day_0 : decode cX2_day 0 = .ok (.iload_n 1, 1) := dk_27 (dk_at dksX2_day_0 0 rfl rfl)
theorem dX2_day_1 : decode cX2_day 1 = .ok (.iconst 0, 1) := dk_3 (dk_at dksX2_day_0 1 rfl rfl)
theorem dX2_day_2 : decode cX2_day 2 = .ok (.sipush 9999, 3) := dk_17 39 15 (dk_at dksX2_day_0 2 rfl rfl)
theorem dX2_day_5 : decode cX2_day 5 = .ok (.invokestatic 80, 3) := dk_184 0 80 (dk_at dksX2_day_0 5 rfl rfl)
theorem dX2_day_8 : decode cX2_day 8 = .ok (.ifCond .eq 22, 3) := dk_153 0 22 (dk_at dksX2_day_0 8 rfl rfl)
theorem dX2_day_11 : decode cX2_day 11 = .ok (.iload_n 2, 1) := dk_28 (dk_at dksX2_day_0 11 rfl rfl)
theorem dX2_day_12 : decode cX2_day 12 = .ok (.iconst 1, 1) := dk_4 (dk_at dksX2_day_0 12 rfl rfl)
theorem dX2_day_13 : decode cX2_day 13 = .ok (.bipush 20, 2) := dk_16 20 (dk_at dksX2_day_0 13 rfl rfl)
theorem dX2_day_15 : decode cX2_day 15 = .ok (.invokestatic 80, 3) := dk_184 0 80 (dk_at dksX2_day_0 15 rfl rfl)
theorem dX2_day_18 : decode cX2_day 18 = .ok (.ifCond .eq 12, 3) := dk_153 0 12 (dk_at dksX2_day_0 18 rfl rfl)
theorem dX2_day_21 : decode cX2_day 21 = .ok (.aload_n 0, 1) := dk_42 (dk_at dksX2_day_0 21 rfl rfl)
theorem dX2_day_22 : decode cX2_day 22 = .ok (.getfield 7, 3) := dk_180 0 7 (dk_at dksX2_day_1 0 rfl rfl)
theorem dX2_day_25 : decode cX2_day 25 = .ok (.iconst 0, 1) := dk_3 (dk_at dksX2_day_1 3 rfl rfl)
theorem dX2_day_26 : decode cX2_day 26 = .ok (.iaload, 1) := dk_46 (dk_at dksX2_day_1 4 rfl rfl)
theorem dX2_day_27 : decode cX2_day 27 = .ok (.ifCond .ne 5, 3) := dk_154 0 5 (dk_at dksX2_day_1 5 rfl rfl)
theorem dX2_day_30 : decode cX2_day 30 = .ok (.iconst (-1), 1) := dk_2 (dk_at dksX2_day_1 8 rfl rfl)
theorem dX2_day_31 : decode cX2_day 31 = .ok (.ireturn, 1) := dk_172 (dk_at dksX2_day_1 9 rfl rfl)
theorem dX2_day_32 : decode cX2_day 32 = .ok (.aload_n 0, 1) := dk_42 (dk_at dksX2_day_1 10 rfl rfl)
theorem dX2_day_33 : decode cX2_day 33 = .ok (.invokevirtual 318, 3) := dk_182 1 62 (dk_at dksX2_day_1 11 rfl rfl)
theorem dX2_day_36 : decode cX2_day 36 = .ok (.aload_n 0, 1) := dk_42 (dk_at dksX2_day_1 14 rfl rfl)
theorem dX2_day_37 : decode cX2_day 37 = .ok (.getfield 7, 3) := dk_180 0 7 (dk_at dksX2_day_1 15 rfl rfl)
theorem dX2_day_40 : decode cX2_day 40 = .ok (.iconst 5, 1) := dk_8 (dk_at dksX2_day_1 18 rfl rfl)
theorem dX2_day_41 : decode cX2_day 41 = .ok (.iload_n 1, 1) := dk_27 (dk_at dksX2_day_1 19 rfl rfl)
theorem dX2_day_42 : decode cX2_day 42 = .ok (.iconst 2, 1) := dk_5 (dk_at dksX2_day_1 20 rfl rfl)
theorem dX2_day_43 : decode cX2_day 43 = .ok (.imul, 1) := dk_104 (dk_at dksX2_day_1 21 rfl rfl)
theorem dX2_day_44 : decode cX2_day 44 = .ok (.bipush 19, 2) := dk_16 19 (dk_at dksX2_day_1 22 rfl rfl)
theorem dX2_day_46 : decode cX2_day 46 = .ok (.iadd, 1) := dk_96 (dk_at dksX2_day_2 0 rfl rfl)
theorem dX2_day_47 : decode cX2_day 47 = .ok (.iastore, 1) := dk_79 (dk_at dksX2_day_2 1 rfl rfl)
theorem dX2_day_48 : decode cX2_day 48 = .ok (.iconst 0, 1) := dk_3 (dk_at dksX2_day_2 2 rfl rfl)
theorem dX2_day_49 : decode cX2_day 49 = .ok (.istore_n 3, 1) := dk_62 (dk_at dksX2_day_2 3 rfl rfl)
theorem dX2_day_50 : decode cX2_day 50 = .ok (.iconst 0, 1) := dk_3 (dk_at dksX2_day_2 4 rfl rfl)
theorem dX2_day_51 : decode cX2_day 51 = .ok (.istore 4, 2) := dk_54 4 (dk_at dksX2_day_2 5 rfl rfl)
theorem dX2_day_53 : decode cX2_day 53 = .ok (.iload 4, 2) := dk_21 4 (dk_at dksX2_day_2 7 rfl rfl)
theorem dX2_day_55 : decode cX2_day 55 = .ok (.iload_n 2, 1) := dk_28 (dk_at dksX2_day_2 9 rfl rfl)
theorem dX2_day_56 : decode cX2_day 56 = .ok (.if_icmp .ge 16, 3) := dk_162 0 16 (dk_at dksX2_day_2 10 rfl rfl)
theorem dX2_day_59 : decode cX2_day 59 = .ok (.iload_n 3, 1) := dk_29 (dk_at dksX2_day_2 13 rfl rfl)
theorem dX2_day_60 : decode cX2_day 60 = .ok (.aload_n 0, 1) := dk_42 (dk_at dksX2_day_2 14 rfl rfl)
theorem dX2_day_61 : decode cX2_day 61 = .ok (.invokevirtual 376, 3) := dk_182 1 120 (dk_at dksX2_day_2 15 rfl rfl)
theorem dX2_day_64 : decode cX2_day 64 = .ok (.iadd, 1) := dk_96 (dk_at dksX2_day_2 18 rfl rfl)
theorem dX2_day_65 : decode cX2_day 65 = .ok (.istore_n 3, 1) := dk_62 (dk_at dksX2_day_2 19 rfl rfl)
theorem dX2_day_66 : decode cX2_day 66 = .ok (.iinc 4 1, 3) := dk_132 4 1 (dk_at dksX2_day_2 20 rfl rfl)
theorem dX2_day_69 : decode cX2_day 69 = .ok (.goto (-16), 3) := dk_167 255 240 (dk_at dksX2_day_3 0 rfl rfl)
theorem dX2_day_72 : decode cX2_day 72 = .ok (.iload_n 3, 1) := dk_29 (dk_at dksX2_day_3 3 rfl rfl)
theorem dX2_day_73 : decode cX2_day 73 = .ok (.ireturn, 1) := dk_172 (dk_at dksX2_day_3 4 rfl rfl)
abbrev cX2_oneOfDay : ByteArray := prog_15_method_84_code
def yX2_oneOfDay : MethodName := ⟨RX2, "oneOfDay", "()I"⟩
def dkwX2_oneOfDay_7 : List UInt8 := [54, 5, 132, 3, 1, 167, 255, 193, 42, 182, 1, 79, 154, 0, 7, 4, 167, 0, 4, 3, 172]
abbrev dktX2_oneOfDay_7 : List UInt8 := dkwX2_oneOfDay_7 ++ []
def dkwX2_oneOfDay_6 : List UInt8 := [29, 21, 4, 154, 0, 16, 42, 29, 27, 182, 1, 50, 153, 0, 7, 4, 167, 0, 4, 3, 182, 1, 75]
abbrev dktX2_oneOfDay_6 : List UInt8 := dkwX2_oneOfDay_6 ++ dktX2_oneOfDay_7
def dkwX2_oneOfDay_5 : List UInt8 := [180, 0, 7, 8, 46, 16, 10, 112, 8, 162, 0, 7, 4, 167, 0, 4, 3, 54, 4, 42, 182, 1, 114, 42]
abbrev dktX2_oneOfDay_5 : List UInt8 := dkwX2_oneOfDay_5 ++ dktX2_oneOfDay_6
def dkwX2_oneOfDay_4 : List UInt8 := [182, 1, 69, 132, 3, 1, 167, 255, 222, 3, 62, 29, 42, 180, 0, 7, 5, 46, 162, 0, 59, 42]
abbrev dktX2_oneOfDay_4 : List UInt8 := dkwX2_oneOfDay_4 ++ dktX2_oneOfDay_5
def dkwX2_oneOfDay_3 : List UInt8 := [162, 0, 32, 42, 42, 180, 0, 39, 28, 29, 96, 42, 180, 1, 111, 112, 46, 42, 180, 0, 7, 6, 46]
abbrev dktX2_oneOfDay_3 : List UInt8 := dkwX2_oneOfDay_3 ++ dktX2_oneOfDay_4
def dkwX2_oneOfDay_2 : List UInt8 := [180, 0, 7, 8, 46, 42, 180, 1, 111, 112, 61, 42, 182, 1, 114, 3, 62, 29, 42, 180, 1, 111]
abbrev dktX2_oneOfDay_2 : List UInt8 := dkwX2_oneOfDay_2 ++ dktX2_oneOfDay_3
def dkwX2_oneOfDay_1 : List UInt8 := [6, 46, 182, 1, 66, 42, 27, 182, 1, 117, 42, 180, 1, 111, 154, 0, 7, 3, 167, 0, 14, 42]
abbrev dktX2_oneOfDay_1 : List UInt8 := dkwX2_oneOfDay_1 ++ dktX2_oneOfDay_2
def dkwX2_oneOfDay_0 : List UInt8 := [42, 180, 0, 7, 8, 46, 42, 180, 0, 7, 3, 46, 112, 60, 42, 182, 1, 114, 42, 27, 42, 180, 0, 7]
abbrev dktX2_oneOfDay_0 : List UInt8 := dkwX2_oneOfDay_0 ++ dktX2_oneOfDay_1
theorem dksX2_oneOfDay_0 : cX2_oneOfDay.data.toList.drop 0 = dktX2_oneOfDay_0 := by decide +kernel
theorem dksX2_oneOfDay_1 : cX2_oneOfDay.data.toList.drop 24 = dktX2_oneOfDay_1 := dk_seg dksX2_oneOfDay_0 24 rfl rfl
theorem dksX2_oneOfDay_2 : cX2_oneOfDay.data.toList.drop 46 = dktX2_oneOfDay_2 := dk_seg dksX2_oneOfDay_1 22 rfl rfl
theorem dksX2_oneOfDay_3 : cX2_oneOfDay.data.toList.drop 68 = dktX2_oneOfDay_3 := dk_seg dksX2_oneOfDay_2 22 rfl rfl
theorem dksX2_oneOfDay_4 : cX2_oneOfDay.data.toList.drop 91 = dktX2_oneOfDay_4 := dk_seg dksX2_oneOfDay_3 23 rfl rfl
theorem dksX2_oneOfDay_5 : cX2_oneOfDay.data.toList.drop 113 = dktX2_oneOfDay_5 := dk_seg dksX2_oneOfDay_4 22 rfl rfl
theorem dksX2_oneOfDay_6 : cX2_oneOfDay.data.toList.drop 137 = dktX2_oneOfDay_6 := dk_seg dksX2_oneOfDay_5 24 rfl rfl
theorem dksX2_oneOfDay_7 : cX2_oneOfDay.data.toList.drop 160 = dktX2_oneOfDay_7 := dk_seg dksX2_oneOfDay_6 23 rfl rfl
theorem dX2_oneOfDay_0 : decode cX2_oneOfDay 0 = .ok (.aload_n 0, 1) := dk_42 (dk_at dksX2_oneOfDay_0 0 rfl rfl)
theorem dX2_oneOfDay_1 : decode cX2_oneOfDay 1 = .ok (.getfield 7, 3) := dk_180 0 7 (dk_at dksX2_oneOfDay_0 1 rfl rfl)
theorem dX2_oneOfDay_4 : decode cX2_oneOfDay 4 = .ok (.iconst 5, 1) := dk_8 (dk_at dksX2_oneOfDay_0 4 rfl rfl)
theorem dX2_oneOfDay_5 : decode cX2_oneOfDay 5 = .ok (.iaload, 1) := dk_46 (dk_at dksX2_oneOfDay_0 5 rfl rfl)
theorem dX2_oneOfDay_6 : decode cX2_oneOfDay 6 = .ok (.aload_n 0, 1) := dk_42 (dk_at dksX2_oneOfDay_0 6 rfl rfl)
theorem dX2_oneOfDay_7 : decode cX2_oneOfDay 7 = .ok (.getfield 7, 3) := dk_180 0 7 (dk_at dksX2_oneOfDay_0 7 rfl rfl)
theorem dX2_oneOfDay_10 : decode cX2_oneOfDay 10 = .ok (.iconst 0, 1) := dk_3 (dk_at dksX2_oneOfDay_0 10 rfl rfl)
theorem dX2_oneOfDay_11 : decode cX2_oneOfDay 11 = .ok (.iaload, 1) := dk_46 (dk_at dksX2_oneOfDay_0 11 rfl rfl)
theorem dX2_oneOfDay_12 : decode cX2_oneOfDay 12 = .ok (.irem, 1) := dk_112 (dk_at dksX2_oneOfDay_0 12 rfl rfl)
theorem dX2_oneOfDay_13 : decode cX2_oneOfDay 13 = .ok (.istore_n 1, 1) := dk_60 (dk_at dksX2_oneOfDay_0 13 rfl rfl)
theorem dX2_oneOfDay_14 : decode cX2_oneOfDay 14 = .ok (.aload_n 0, 1) := dk_42 (dk_at dksX2_oneOfDay_0 14 rfl rfl)
theorem dX2_oneOfDay_15 : decode cX2_oneOfDay 15 = .ok (.invokevirtual 370, 3) := dk_182 1 114 (dk_at dksX2_oneOfDay_0 15 rfl rfl)
theorem dX2_oneOfDay_18 : decode cX2_oneOfDay 18 = .ok (.aload_n 0, 1) := dk_42 (dk_at dksX2_oneOfDay_0 18 rfl rfl)
theorem dX2_oneOfDay_19 : decode cX2_oneOfDay 19 = .ok (.iload_n 1, 1) := dk_27 (dk_at dksX2_oneOfDay_0 19 rfl rfl)
theorem dX2_oneOfDay_20 : decode cX2_oneOfDay 20 = .ok (.aload_n 0, 1) := dk_42 (dk_at dksX2_oneOfDay_0 20 rfl rfl)
theorem dX2_oneOfDay_21 : decode cX2_oneOfDay 21 = .ok (.getfield 7, 3) := dk_180 0 7 (dk_at dksX2_oneOfDay_0 21 rfl rfl)
theorem dX2_oneOfDay_24 : decode cX2_oneOfDay 24 = .ok (.iconst 3, 1) := dk_6 (dk_at dksX2_oneOfDay_1 0 rfl rfl)
theorem dX2_oneOfDay_25 : decode cX2_oneOfDay 25 = .ok (.iaload, 1) := dk_46 (dk_at dksX2_oneOfDay_1 1 rfl rfl)
theorem dX2_oneOfDay_26 : decode cX2_oneOfDay 26 = .ok (.invokevirtual 322, 3) := dk_182 1 66 (dk_at dksX2_oneOfDay_1 2 rfl rfl)
theorem dX2_oneOfDay_29 : decode cX2_oneOfDay 29 = .ok (.aload_n 0, 1) := dk_42 (dk_at dksX2_oneOfDay_1 5 rfl rfl)
theorem dX2_oneOfDay_30 : decode cX2_oneOfDay 30 = .ok (.iload_n 1, 1) := dk_27 (dk_at dksX2_oneOfDay_1 6 rfl rfl)
theorem dX2_oneOfDay_31 : decode cX2_oneOfDay 31 = .ok (.invokevirtual 373, 3) := dk_182 1 117 (dk_at dksX2_oneOfDay_1 7 rfl rfl)
theorem dX2_oneOfDay_34 : decode cX2_oneOfDay 34 = .ok (.aload_n 0, 1) := dk_42 (dk_at dksX2_oneOfDay_1 10 rfl rfl)
theorem dX2_oneOfDay_35 : decode cX2_oneOfDay 35 = .ok (.getfield 367, 3) := dk_180 1 111 (dk_at dksX2_oneOfDay_1 11 rfl rfl)
theorem dX2_oneOfDay_38 : decode cX2_oneOfDay 38 = .ok (.ifCond .ne 7, 3) := dk_154 0 7 (dk_at dksX2_oneOfDay_1 14 rfl rfl)
theorem dX2_oneOfDay_41 : decode cX2_oneOfDay 41 = .ok (.iconst 0, 1) := dk_3 (dk_at dksX2_oneOfDay_1 17 rfl rfl)
theorem dX2_oneOfDay_42 : decode cX2_oneOfDay 42 = .ok (.goto 14, 3) := dk_167 0 14 (dk_at dksX2_oneOfDay_1 18 rfl rfl)
theorem dX2_oneOfDay_45 : decode cX2_oneOfDay 45 = .ok (.aload_n 0, 1) := dk_42 (dk_at dksX2_oneOfDay_1 21 rfl rfl)
theorem dX2_oneOfDay_46 : decode cX2_oneOfDay 46 = .ok (.getfield 7, 3) := dk_180 0 7 (dk_at dksX2_oneOfDay_2 0 rfl rfl)
theorem dX2_oneOfDay_49 : decode cX2_oneOfDay 49 = .ok (.iconst 5, 1) := dk_8 (dk_at dksX2_oneOfDay_2 3 rfl rfl)
theorem dX2_oneOfDay_50 : decode cX2_oneOfDay 50 = .ok (.iaload, 1) := dk_46 (dk_at dksX2_oneOfDay_2 4 rfl rfl)
theorem dX2_oneOfDay_51 : decode cX2_oneOfDay 51 = .ok (.aload_n 0, 1) := dk_42 (dk_at dksX2_oneOfDay_2 5 rfl rfl)
theorem dX2_oneOfDay_52 : decode cX2_oneOfDay 52 = .ok (.getfield 367, 3) := dk_180 1 111 (dk_at dksX2_oneOfDay_2 6 rfl rfl)
theorem dX2_oneOfDay_55 : decode cX2_oneOfDay 55 = .ok (.irem, 1) := dk_112 (dk_at dksX2_oneOfDay_2 9 rfl rfl)
theorem dX2_oneOfDay_56 : decode cX2_oneOfDay 56 = .ok (.istore_n 2, 1) := dk_61 (dk_at dksX2_oneOfDay_2 10 rfl rfl)
theorem dX2_oneOfDay_57 : decode cX2_oneOfDay 57 = .ok (.aload_n 0, 1) := dk_42 (dk_at dksX2_oneOfDay_2 11 rfl rfl)
theorem dX2_oneOfDay_58 : decode cX2_oneOfDay 58 = .ok (.invokevirtual 370, 3) := dk_182 1 114 (dk_at dksX2_oneOfDay_2 12 rfl rfl)
theorem dX2_oneOfDay_61 : decode cX2_oneOfDay 61 = .ok (.iconst 0, 1) := dk_3 (dk_at dksX2_oneOfDay_2 15 rfl rfl)
theorem dX2_oneOfDay_62 : decode cX2_oneOfDay 62 = .ok (.istore_n 3, 1) := dk_62 (dk_at dksX2_oneOfDay_2 16 rfl rfl)
theorem dX2_oneOfDay_63 : decode cX2_oneOfDay 63 = .ok (.iload_n 3, 1) := dk_29 (dk_at dksX2_oneOfDay_2 17 rfl rfl)
theorem dX2_oneOfDay_64 : decode cX2_oneOfDay 64 = .ok (.aload_n 0, 1) := dk_42 (dk_at dksX2_oneOfDay_2 18 rfl rfl)
theorem dX2_oneOfDay_65 : decode cX2_oneOfDay 65 = .ok (.getfield 367, 3) := dk_180 1 111 (dk_at dksX2_oneOfDay_2 19 rfl rfl)
theorem dX2_oneOfDay_68 : decode cX2_oneOfDay 68 = .ok (.if_icmp .ge 32, 3) := dk_162 0 32 (dk_at dksX2_oneOfDay_3 0 rfl rfl)
theorem dX2_oneOfDay_71 : decode cX2_oneOfDay 71 = .ok (.aload_n 0, 1) := dk_42 (dk_at dksX2_oneOfDay_3 3 rfl rfl)
theorem dX2_oneOfDay_72 : decode cX2_oneOfDay 72 = .ok (.aload_n 0, 1) := dk_42 (dk_at dksX2_oneOfDay_3 4 rfl rfl)
theorem dX2_oneOfDay_73 : decode cX2_oneOfDay 73 = .ok (.getfield 39, 3) := dk_180 0 39 (dk_at dksX2_oneOfDay_3 5 rfl rfl)
theorem dX2_oneOfDay_76 : decode cX2_oneOfDay 76 = .ok (.iload_n 2, 1) := dk_28 (dk_at dksX2_oneOfDay_3 8 rfl rfl)
theorem dX2_oneOfDay_77 : decode cX2_oneOfDay 77 = .ok (.iload_n 3, 1) := dk_29 (dk_at dksX2_oneOfDay_3 9 rfl rfl)
theorem dX2_oneOfDay_78 : decode cX2_oneOfDay 78 = .ok (.iadd, 1) := dk_96 (dk_at dksX2_oneOfDay_3 10 rfl rfl)
theorem dX2_oneOfDay_79 : decode cX2_oneOfDay 79 = .ok (.aload_n 0, 1) := dk_42 (dk_at dksX2_oneOfDay_3 11 rfl rfl)
theorem dX2_oneOfDay_80 : decode cX2_oneOfDay 80 = .ok (.getfield 367, 3) := dk_180 1 111 (dk_at dksX2_oneOfDay_3 12 rfl rfl)
theorem dX2_oneOfDay_83 : decode cX2_oneOfDay 83 = .ok (.irem, 1) := dk_112 (dk_at dksX2_oneOfDay_3 15 rfl rfl)
theorem dX2_oneOfDay_84 : decode cX2_oneOfDay 84 = .ok (.iaload, 1) := dk_46 (dk_at dksX2_oneOfDay_3 16 rfl rfl)
theorem dX2_oneOfDay_85 : decode cX2_oneOfDay 85 = .ok (.aload_n 0, 1) := dk_42 (dk_at dksX2_oneOfDay_3 17 rfl rfl)
theorem dX2_oneOfDay_86 : decode cX2_oneOfDay 86 = .ok (.getfield 7, 3) := dk_180 0 7 (dk_at dksX2_oneOfDay_3 18 rfl rfl)
theorem dX2_oneOfDay_89 : decode cX2_oneOfDay 89 = .ok (.iconst 3, 1) := dk_6 (dk_at dksX2_oneOfDay_3 21 rfl rfl)
theorem dX2_oneOfDay_90 : decode cX2_oneOfDay 90 = .ok (.iaload, 1) := dk_46 (dk_at dksX2_oneOfDay_3 22 rfl rfl)
theorem dX2_oneOfDay_91 : decode cX2_oneOfDay 91 = .ok (.invokevirtual 325, 3) := dk_182 1 69 (dk_at dksX2_oneOfDay_4 0 rfl rfl)
theorem dX2_oneOfDay_94 : decode cX2_oneOfDay 94 = .ok (.iinc 3 1, 3) := dk_132 3 1 (dk_at dksX2_oneOfDay_4 3 rfl rfl)
theorem dX2_oneOfDay_97 : decode cX2_oneOfDay 97 = .ok (.goto (-34), 3) := dk_167 255 222 (dk_at dksX2_oneOfDay_4 6 rfl rfl)
theorem dX2_oneOfDay_100 : decode cX2_oneOfDay 100 = .ok (.iconst 0, 1) := dk_3 (dk_at dksX2_oneOfDay_4 9 rfl rfl)
theorem dX2_oneOfDay_101 : decode cX2_oneOfDay 101 = .ok (.istore_n 3, 1) := dk_62 (dk_at dksX2_oneOfDay_4 10 rfl rfl)
theorem dX2_oneOfDay_102 : decode cX2_oneOfDay 102 = .ok (.iload_n 3, 1) := dk_29 (dk_at dksX2_oneOfDay_4 11 rfl rfl)
theorem dX2_oneOfDay_103 : decode cX2_oneOfDay 103 = .ok (.aload_n 0, 1) := dk_42 (dk_at dksX2_oneOfDay_4 12 rfl rfl)
theorem dX2_oneOfDay_104 : decode cX2_oneOfDay 104 = .ok (.getfield 7, 3) := dk_180 0 7 (dk_at dksX2_oneOfDay_4 13 rfl rfl)
theorem dX2_oneOfDay_107 : decode cX2_oneOfDay 107 = .ok (.iconst 2, 1) := dk_5 (dk_at dksX2_oneOfDay_4 16 rfl rfl)
theorem dX2_oneOfDay_108 : decode cX2_oneOfDay 108 = .ok (.iaload, 1) := dk_46 (dk_at dksX2_oneOfDay_4 17 rfl rfl)
theorem dX2_oneOfDay_109 : decode cX2_oneOfDay 109 = .ok (.if_icmp .ge 59, 3) := dk_162 0 59 (dk_at dksX2_oneOfDay_4 18 rfl rfl)
theorem dX2_oneOfDay_112 : decode cX2_oneOfDay 112 = .ok (.aload_n 0, 1) := dk_42 (dk_at dksX2_oneOfDay_4 21 rfl rfl)
theorem dX2_oneOfDay_113 : decode cX2_oneOfDay 113 = .ok (.getfield 7, 3) := dk_180 0 7 (dk_at dksX2_oneOfDay_5 0 rfl rfl)
theorem dX2_oneOfDay_116 : decode cX2_oneOfDay 116 = .ok (.iconst 5, 1) := dk_8 (dk_at dksX2_oneOfDay_5 3 rfl rfl)
theorem dX2_oneOfDay_117 : decode cX2_oneOfDay 117 = .ok (.iaload, 1) := dk_46 (dk_at dksX2_oneOfDay_5 4 rfl rfl)
theorem dX2_oneOfDay_118 : decode cX2_oneOfDay 118 = .ok (.bipush 10, 2) := dk_16 10 (dk_at dksX2_oneOfDay_5 5 rfl rfl)
theorem dX2_oneOfDay_120 : decode cX2_oneOfDay 120 = .ok (.irem, 1) := dk_112 (dk_at dksX2_oneOfDay_5 7 rfl rfl)
theorem dX2_oneOfDay_121 : decode cX2_oneOfDay 121 = .ok (.iconst 5, 1) := dk_8 (dk_at dksX2_oneOfDay_5 8 rfl rfl)
theorem dX2_oneOfDay_122 : decode cX2_oneOfDay 122 = .ok (.if_icmp .ge 7, 3) := dk_162 0 7 (dk_at dksX2_oneOfDay_5 9 rfl rfl)
theorem dX2_oneOfDay_125 : decode cX2_oneOfDay 125 = .ok (.iconst 1, 1) := dk_4 (dk_at dksX2_oneOfDay_5 12 rfl rfl)
theorem dX2_oneOfDay_126 : decode cX2_oneOfDay 126 = .ok (.goto 4, 3) := dk_167 0 4 (dk_at dksX2_oneOfDay_5 13 rfl rfl)
theorem dX2_oneOfDay_129 : decode cX2_oneOfDay 129 = .ok (.iconst 0, 1) := dk_3 (dk_at dksX2_oneOfDay_5 16 rfl rfl)
theorem dX2_oneOfDay_130 : decode cX2_oneOfDay 130 = .ok (.istore 4, 2) := dk_54 4 (dk_at dksX2_oneOfDay_5 17 rfl rfl)
theorem dX2_oneOfDay_132 : decode cX2_oneOfDay 132 = .ok (.aload_n 0, 1) := dk_42 (dk_at dksX2_oneOfDay_5 19 rfl rfl)
theorem dX2_oneOfDay_133 : decode cX2_oneOfDay 133 = .ok (.invokevirtual 370, 3) := dk_182 1 114 (dk_at dksX2_oneOfDay_5 20 rfl rfl)
theorem dX2_oneOfDay_136 : decode cX2_oneOfDay 136 = .ok (.aload_n 0, 1) := dk_42 (dk_at dksX2_oneOfDay_5 23 rfl rfl)
theorem dX2_oneOfDay_137 : decode cX2_oneOfDay 137 = .ok (.iload_n 3, 1) := dk_29 (dk_at dksX2_oneOfDay_6 0 rfl rfl)
theorem dX2_oneOfDay_138 : decode cX2_oneOfDay 138 = .ok (.iload 4, 2) := dk_21 4 (dk_at dksX2_oneOfDay_6 1 rfl rfl)
theorem dX2_oneOfDay_140 : decode cX2_oneOfDay 140 = .ok (.ifCond .ne 16, 3) := dk_154 0 16 (dk_at dksX2_oneOfDay_6 3 rfl rfl)
theorem dX2_oneOfDay_143 : decode cX2_oneOfDay 143 = .ok (.aload_n 0, 1) := dk_42 (dk_at dksX2_oneOfDay_6 6 rfl rfl)
theorem dX2_oneOfDay_144 : decode cX2_oneOfDay 144 = .ok (.iload_n 3, 1) := dk_29 (dk_at dksX2_oneOfDay_6 7 rfl rfl)
theorem dX2_oneOfDay_145 : decode cX2_oneOfDay 145 = .ok (.iload_n 1, 1) := dk_27 (dk_at dksX2_oneOfDay_6 8 rfl rfl)
theorem dX2_oneOfDay_146 : decode cX2_oneOfDay 146 = .ok (.invokevirtual 306, 3) := dk_182 1 50 (dk_at dksX2_oneOfDay_6 9 rfl rfl)
theorem dX2_oneOfDay_149 : decode cX2_oneOfDay 149 = .ok (.ifCond .eq 7, 3) := dk_153 0 7 (dk_at dksX2_oneOfDay_6 12 rfl rfl)
theorem dX2_oneOfDay_152 : decode cX2_oneOfDay 152 = .ok (.iconst 1, 1) := dk_4 (dk_at dksX2_oneOfDay_6 15 rfl rfl)
theorem dX2_oneOfDay_153 : decode cX2_oneOfDay 153 = .ok (.goto 4, 3) := dk_167 0 4 (dk_at dksX2_oneOfDay_6 16 rfl rfl)
theorem dX2_oneOfDay_156 : decode cX2_oneOfDay 156 = .ok (.iconst 0, 1) := dk_3 (dk_at dksX2_oneOfDay_6 19 rfl rfl)
theorem dX2_oneOfDay_157 : decode cX2_oneOfDay 157 = .ok (.invokevirtual 331, 3) := dk_182 1 75 (dk_at dksX2_oneOfDay_6 20 rfl rfl)
theorem dX2_oneOfDay_160 : decode cX2_oneOfDay 160 = .ok (.istore 5, 2) := dk_54 5 (dk_at dksX2_oneOfDay_7 0 rfl rfl)
theorem dX2_oneOfDay_162 : decode cX2_oneOfDay 162 = .ok (.iinc 3 1, 3) := dk_132 3 1 (dk_at dksX2_oneOfDay_7 2 rfl rfl)
theorem dX2_oneOfDay_165 : decode cX2_oneOfDay 165 = .ok (.goto (-63), 3) := dk_167 255 193 (dk_at dksX2_oneOfDay_7 5 rfl rfl)
theorem dX2_oneOfDay_168 : decode cX2_oneOfDay 168 = .ok (.aload_n 0, 1) := dk_42 (dk_at dksX2_oneOfDay_7 8 rfl rfl)
theorem dX2_oneOfDay_169 : decode cX2_oneOfDay 169 = .ok (.invokevirtual 335, 3) := dk_182 1 79 (dk_at dksX2_oneOfDay_7 9 rfl rfl)
theorem dX2_oneOfDay_172 : decode cX2_oneOfDay 172 = .ok (.ifCond .ne 7, 3) := dk_154 0 7 (dk_at dksX2_oneOfDay_7 12 rfl rfl)
theorem dX2_oneOfDay_175 : decode cX2_oneOfDay 175 = .ok (.iconst 1, 1) := dk_4 (dk_at dksX2_oneOfDay_7 15 rfl rfl)
theorem dX2_oneOfDay_176 : decode cX2_oneOfDay 176 = .ok (.goto 4, 3) := dk_167 0 4 (dk_at dksX2_oneOfDay_7 16 rfl rfl)
theorem dX2_oneOfDay_179 : decode cX2_oneOfDay 179 = .ok (.iconst 0, 1) := dk_3 (dk_at dksX2_oneOfDay_7 19 rfl rfl)
theorem dX2_oneOfDay_180 : decode cX2_oneOfDay 180 = .ok (.ireturn, 1) := dk_172 (dk_at dksX2_oneOfDay_7 20 rfl rfl)
abbrev cX2_anew : ByteArray := prog_15_method_82_code
def yX2_anew : MethodName := ⟨RX2, "anew", "()V"⟩
def dkwX2_anew_0 : List UInt8 := [42, 180, 0, 7, 8, 42, 180, 0, 7, 8, 46, 17, 0, 223, 104, 16, 109, 96, 17, 117, 209, 112, 79, 177]
abbrev dktX2_anew_0 : List UInt8 := dkwX2_anew_0 ++ []
theorem dksX2_anew_0 : cX2_anew.data.toList.drop 0 = dktX2_anew_0 := by decide +kernel
theorem dX2_anew_0 : decode cX2_anew 0 = .ok (.aload_n 0, 1) := dk_42 (dk_at dksX2_anew_0 0 rfl rfl)
theorem dX2_anew_1 : decode cX2_anew 1 = .ok (.getfield 7, 3) := dk_180 0 7 (dk_at dksX2_anew_0 1 rfl rfl)
theorem dX2_anew_4 : decode cX2_anew 4 = .ok (.iconst 5, 1) := dk_8 (dk_at dksX2_anew_0 4 rfl rfl)
theorem dX2_anew_5 : decode cX2_anew 5 = .ok (.aload_n 0, 1) := dk_42 (dk_at dksX2_anew_0 5 rfl rfl)
theorem dX2_anew_6 : decode cX2_anew 6 = .ok (.getfield 7, 3) := dk_180 0 7 (dk_at dksX2_anew_0 6 rfl rfl)
theorem dX2_anew_9 : decode cX2_anew 9 = .ok (.iconst 5, 1) := dk_8 (dk_at dksX2_anew_0 9 rfl rfl)
theorem dX2_anew_10 : decode cX2_anew 10 = .ok (.iaload, 1) := dk_46 (dk_at dksX2_anew_0 10 rfl rfl)
theorem dX2_anew_11 : decode cX2_anew 11 = .ok (.sipush 223, 3) := dk_17 0 223 (dk_at dksX2_anew_0 11 rfl rfl)
theorem dX2_anew_14 : decode cX2_anew 14 = .ok (.imul, 1) := dk_104 (dk_at dksX2_anew_0 14 rfl rfl)
theorem dX2_anew_15 : decode cX2_anew 15 = .ok (.bipush 109, 2) := dk_16 109 (dk_at dksX2_anew_0 15 rfl rfl)
theorem dX2_anew_17 : decode cX2_anew 17 = .ok (.iadd, 1) := dk_96 (dk_at dksX2_anew_0 17 rfl rfl)
theorem dX2_anew_18 : decode cX2_anew 18 = .ok (.sipush 30161, 3) := dk_17 117 209 (dk_at dksX2_anew_0 18 rfl rfl)
theorem dX2_anew_21 : decode cX2_anew 21 = .ok (.irem, 1) := dk_112 (dk_at dksX2_anew_0 21 rfl rfl)
theorem dX2_anew_22 : decode cX2_anew 22 = .ok (.iastore, 1) := dk_79 (dk_at dksX2_anew_0 22 rfl rfl)
theorem dX2_anew_23 : decode cX2_anew 23 = .ok (.return_, 1) := dk_177 (dk_at dksX2_anew_0 23 rfl rfl)
abbrev cX2_layRow : ByteArray := prog_15_method_83_code
def yX2_layRow : MethodName := ⟨RX2, "layRow", "(I)V"⟩
def dkwX2_layRow_2 : List UInt8 := [181, 1, 111, 132, 2, 1, 167, 255, 210, 177]
abbrev dktX2_layRow_2 : List UInt8 := dkwX2_layRow_2 ++ []
def dkwX2_layRow_1 : List UInt8 := [159, 0, 6, 167, 0, 23, 42, 180, 0, 39, 42, 180, 1, 111, 28, 79, 42, 89, 180, 1, 111, 4, 96]
abbrev dktX2_layRow_1 : List UInt8 := dkwX2_layRow_1 ++ dktX2_layRow_2
def dkwX2_layRow_0 : List UInt8 := [42, 3, 181, 1, 111, 3, 61, 28, 42, 180, 0, 7, 4, 46, 162, 0, 42, 42, 28, 3, 182, 0, 84, 27]
abbrev dktX2_layRow_0 : List UInt8 := dkwX2_layRow_0 ++ dktX2_layRow_1
theorem dksX2_layRow_0 : cX2_layRow.data.toList.drop 0 = dktX2_layRow_0 := by decide +kernel
theorem dksX2_layRow_1 : cX2_layRow.data.toList.drop 24 = dktX2_layRow_1 := dk_seg dksX2_layRow_0 24 rfl rfl
theorem dksX2_layRow_2 : cX2_layRow.data.toList.drop 47 = dktX2_layRow_2 := dk_seg dksX2_layRow_1 23 rfl rfl
theorem dX2_layRow_0 : decode cX2_layRow 0 = .ok (.aload_n 0, 1) := dk_42 (dk_at dksX2_layRow_0 0 rfl rfl)
theorem dX2_layRow_1 : decode cX2_layRow 1 = .ok (.iconst 0, 1) := dk_3 (dk_at dksX2_layRow_0 1 rfl rfl)
theorem dX2_layRow_2 : decode cX2_layRow 2 = .ok (.putfield 367, 3) := dk_181 1 111 (dk_at dksX2_layRow_0 2 rfl rfl)
theorem dX2_layRow_5 : decode cX2_layRow 5 = .ok (.iconst 0, 1) := dk_3 (dk_at dksX2_layRow_0 5 rfl rfl)
theorem dX2_layRow_6 : decode cX2_layRow 6 = .ok (.istore_n 2, 1) := dk_61 (dk_at dksX2_layRow_0 6 rfl rfl)
theorem dX2_layRow_7 : decode cX2_layRow 7 = .ok (.iload_n 2, 1) := dk_28 (dk_at dksX2_layRow_0 7 rfl rfl)
theorem dX2_layRow_8 : decode cX2_layRow 8 = .ok (.aload_n 0, 1) := dk_42 (dk_at dksX2_layRow_0 8 rfl rfl)
theorem dX2_layRow_9 : decode cX2_layRow 9 = .ok (.getfield 7, 3) := dk_180 0 7 (dk_at dksX2_layRow_0 9 rfl rfl)
theorem dX2_layRow_12 : decode cX2_layRow 12 = .ok (.iconst 1, 1) := dk_4 (dk_at dksX2_layRow_0 12 rfl rfl)
theorem dX2_layRow_13 : decode cX2_layRow 13 = .ok (.iaload, 1) := dk_46 (dk_at dksX2_layRow_0 13 rfl rfl)
theorem dX2_layRow_14 : decode cX2_layRow 14 = .ok (.if_icmp .ge 42, 3) := dk_162 0 42 (dk_at dksX2_layRow_0 14 rfl rfl)
theorem dX2_layRow_17 : decode cX2_layRow 17 = .ok (.aload_n 0, 1) := dk_42 (dk_at dksX2_layRow_0 17 rfl rfl)
theorem dX2_layRow_18 : decode cX2_layRow 18 = .ok (.iload_n 2, 1) := dk_28 (dk_at dksX2_layRow_0 18 rfl rfl)
theorem dX2_layRow_19 : decode cX2_layRow 19 = .ok (.iconst 0, 1) := dk_3 (dk_at dksX2_layRow_0 19 rfl rfl)
theorem dX2_layRow_20 : decode cX2_layRow 20 = .ok (.invokevirtual 84, 3) := dk_182 0 84 (dk_at dksX2_layRow_0 20 rfl rfl)
theorem dX2_layRow_23 : decode cX2_layRow 23 = .ok (.iload_n 1, 1) := dk_27 (dk_at dksX2_layRow_0 23 rfl rfl)
theorem dX2_layRow_24 : decode cX2_layRow 24 = .ok (.if_icmp .eq 6, 3) := dk_159 0 6 (dk_at dksX2_layRow_1 0 rfl rfl)
theorem dX2_layRow_27 : decode cX2_layRow 27 = .ok (.goto 23, 3) := dk_167 0 23 (dk_at dksX2_layRow_1 3 rfl rfl)
theorem dX2_layRow_30 : decode cX2_layRow 30 = .ok (.aload_n 0, 1) := dk_42 (dk_at dksX2_layRow_1 6 rfl rfl)
theorem dX2_layRow_31 : decode cX2_layRow 31 = .ok (.getfield 39, 3) := dk_180 0 39 (dk_at dksX2_layRow_1 7 rfl rfl)
theorem dX2_layRow_34 : decode cX2_layRow 34 = .ok (.aload_n 0, 1) := dk_42 (dk_at dksX2_layRow_1 10 rfl rfl)
theorem dX2_layRow_35 : decode cX2_layRow 35 = .ok (.getfield 367, 3) := dk_180 1 111 (dk_at dksX2_layRow_1 11 rfl rfl)
theorem dX2_layRow_38 : decode cX2_layRow 38 = .ok (.iload_n 2, 1) := dk_28 (dk_at dksX2_layRow_1 14 rfl rfl)
theorem dX2_layRow_39 : decode cX2_layRow 39 = .ok (.iastore, 1) := dk_79 (dk_at dksX2_layRow_1 15 rfl rfl)
theorem dX2_layRow_40 : decode cX2_layRow 40 = .ok (.aload_n 0, 1) := dk_42 (dk_at dksX2_layRow_1 16 rfl rfl)
theorem dX2_layRow_41 : decode cX2_layRow 41 = .ok (.dup, 1) := dk_89 (dk_at dksX2_layRow_1 17 rfl rfl)
theorem dX2_layRow_42 : decode cX2_layRow 42 = .ok (.getfield 367, 3) := dk_180 1 111 (dk_at dksX2_layRow_1 18 rfl rfl)
theorem dX2_layRow_45 : decode cX2_layRow 45 = .ok (.iconst 1, 1) := dk_4 (dk_at dksX2_layRow_1 21 rfl rfl)
theorem dX2_layRow_46 : decode cX2_layRow 46 = .ok (.iadd, 1) := dk_96 (dk_at dksX2_layRow_1 22 rfl rfl)
theorem dX2_layRow_47 : decode cX2_layRow 47 = .ok (.putfield 367, 3) := dk_181 1 111 (dk_at dksX2_layRow_2 0 rfl rfl)
theorem dX2_layRow_50 : decode cX2_layRow 50 = .ok (.iinc 2 1, 3) := dk_132 2 1 (dk_at dksX2_layRow_2 3 rfl rfl)
theorem dX2_layRow_53 : decode cX2_layRow 53 = .ok (.goto (-46), 3) := dk_167 255 210 (dk_at dksX2_layRow_2 6 rfl rfl)
theorem dX2_layRow_56 : decode cX2_layRow 56 = .ok (.return_, 1) := dk_177 (dk_at dksX2_layRow_2 9 rfl rfl)
abbrev cX2_scale : ByteArray := prog_15_method_86_code
def yX2_scale : MethodName := ⟨RX2, "scale", "(I)I"⟩
def dkwX2_scale_1 : List UInt8 := [167, 0, 13, 42, 180, 0, 7, 17, 0, 242, 27, 96, 46, 172]
abbrev dktX2_scale_1 : List UInt8 := dkwX2_scale_1 ++ []
def dkwX2_scale_0 : List UInt8 := [42, 180, 0, 7, 17, 0, 242, 46, 2, 159, 0, 12, 27, 3, 8, 184, 0, 80, 154, 0, 9, 19, 1, 65]
abbrev dktX2_scale_0 : List UInt8 := dkwX2_scale_0 ++ dktX2_scale_1
theorem dksX2_scale_0 : cX2_scale.data.toList.drop 0 = dktX2_scale_0 := by decide +kernel
theorem dksX2_scale_1 : cX2_scale.data.toList.drop 24 = dktX2_scale_1 := dk_seg dksX2_scale_0 24 rfl rfl
theorem dX2_scale_0 : decode cX2_scale 0 = .ok (.aload_n 0, 1) := dk_42 (dk_at dksX2_scale_0 0 rfl rfl)
theorem dX2_scale_1 : decode cX2_scale 1 = .ok (.getfield 7, 3) := dk_180 0 7 (dk_at dksX2_scale_0 1 rfl rfl)
theorem dX2_scale_4 : decode cX2_scale 4 = .ok (.sipush 242, 3) := dk_17 0 242 (dk_at dksX2_scale_0 4 rfl rfl)
theorem dX2_scale_7 : decode cX2_scale 7 = .ok (.iaload, 1) := dk_46 (dk_at dksX2_scale_0 7 rfl rfl)
theorem dX2_scale_8 : decode cX2_scale 8 = .ok (.iconst (-1), 1) := dk_2 (dk_at dksX2_scale_0 8 rfl rfl)
theorem dX2_scale_9 : decode cX2_scale 9 = .ok (.if_icmp .eq 12, 3) := dk_159 0 12 (dk_at dksX2_scale_0 9 rfl rfl)
theorem dX2_scale_12 : decode cX2_scale 12 = .ok (.iload_n 1, 1) := dk_27 (dk_at dksX2_scale_0 12 rfl rfl)
theorem dX2_scale_13 : decode cX2_scale 13 = .ok (.iconst 0, 1) := dk_3 (dk_at dksX2_scale_0 13 rfl rfl)
theorem dX2_scale_14 : decode cX2_scale 14 = .ok (.iconst 5, 1) := dk_8 (dk_at dksX2_scale_0 14 rfl rfl)
theorem dX2_scale_15 : decode cX2_scale 15 = .ok (.invokestatic 80, 3) := dk_184 0 80 (dk_at dksX2_scale_0 15 rfl rfl)
theorem dX2_scale_18 : decode cX2_scale 18 = .ok (.ifCond .ne 9, 3) := dk_154 0 9 (dk_at dksX2_scale_0 18 rfl rfl)
theorem dX2_scale_21 : decode cX2_scale 21 = .ok (.ldc_w 321, 3) := dk_19 1 65 (dk_at dksX2_scale_0 21 rfl rfl)
theorem dX2_scale_24 : decode cX2_scale 24 = .ok (.goto 13, 3) := dk_167 0 13 (dk_at dksX2_scale_1 0 rfl rfl)
theorem dX2_scale_27 : decode cX2_scale 27 = .ok (.aload_n 0, 1) := dk_42 (dk_at dksX2_scale_1 3 rfl rfl)
theorem dX2_scale_28 : decode cX2_scale 28 = .ok (.getfield 7, 3) := dk_180 0 7 (dk_at dksX2_scale_1 4 rfl rfl)
theorem dX2_scale_31 : decode cX2_scale 31 = .ok (.sipush 242, 3) := dk_17 0 242 (dk_at dksX2_scale_1 7 rfl rfl)
theorem dX2_scale_34 : decode cX2_scale 34 = .ok (.iload_n 1, 1) := dk_27 (dk_at dksX2_scale_1 10 rfl rfl)
theorem dX2_scale_35 : decode cX2_scale 35 = .ok (.iadd, 1) := dk_96 (dk_at dksX2_scale_1 11 rfl rfl)
theorem dX2_scale_36 : decode cX2_scale 36 = .ok (.iaload, 1) := dk_46 (dk_at dksX2_scale_1 12 rfl rfl)
theorem dX2_scale_37 : decode cX2_scale 37 = .ok (.ireturn, 1) := dk_172 (dk_at dksX2_scale_1 13 rfl rfl)
abbrev cX2_ofHeart : ByteArray := prog_15_method_89_code
def yX2_ofHeart : MethodName := ⟨RX2, "ofHeart", "(II)I"⟩
def dkwX2_ofHeart_5 : List UInt8 := [182, 1, 126, 172, 42, 27, 182, 1, 41, 172, 19, 1, 65, 172]
abbrev dktX2_ofHeart_5 : List UInt8 := dkwX2_ofHeart_5 ++ []
def dkwX2_ofHeart_4 : List UInt8 := [42, 180, 0, 7, 16, 12, 27, 96, 46, 172, 42, 27, 182, 1, 35, 172, 42, 27, 182, 1, 123, 172, 42, 27]
abbrev dktX2_ofHeart_4 : List UInt8 := dkwX2_ofHeart_4 ++ dktX2_ofHeart_5
def dkwX2_ofHeart_3 : List UInt8 := [170, 0, 0, 0, 0, 0, 69, 0, 0, 0, 0, 0, 0, 0, 4, 0, 0, 0, 35, 0, 0, 0, 45, 0, 0, 0, 51, 0, 0, 0, 57, 0, 0, 0, 63]
abbrev dktX2_ofHeart_3 : List UInt8 := dkwX2_ofHeart_3 ++ dktX2_ofHeart_4
def dkwX2_ofHeart_2 : List UInt8 := [28]
abbrev dktX2_ofHeart_2 : List UInt8 := dkwX2_ofHeart_2 ++ dktX2_ofHeart_3
def dkwX2_ofHeart_1 : List UInt8 := [184, 0, 80, 153, 0, 21, 42, 180, 0, 7, 16, 18, 16, 6, 27, 104, 96, 28, 96, 16, 10, 100, 46, 172]
abbrev dktX2_ofHeart_1 : List UInt8 := dkwX2_ofHeart_1 ++ dktX2_ofHeart_2
def dkwX2_ofHeart_0 : List UInt8 := [42, 27, 182, 0, 88, 154, 0, 7, 19, 1, 65, 172, 28, 16, 10, 16, 9, 42, 180, 0, 7, 3, 46, 96]
abbrev dktX2_ofHeart_0 : List UInt8 := dkwX2_ofHeart_0 ++ dktX2_ofHeart_1
theorem dksX2_ofHeart_0 : cX2_ofHeart.data.toList.drop 0 = dktX2_ofHeart_0 := by decide +kernel
theorem dksX2_ofHeart_1 : cX2_ofHeart.data.toList.drop 24 = dktX2_ofHeart_1 := dk_seg dksX2_ofHeart_0 24 rfl rfl
theorem dksX2_ofHeart_2 : cX2_ofHeart.data.toList.drop 48 = dktX2_ofHeart_2 := dk_seg dksX2_ofHeart_1 24 rfl rfl
theorem dksX2_ofHeart_3 : cX2_ofHeart.data.toList.drop 49 = dktX2_ofHeart_3 := dk_seg dksX2_ofHeart_2 1 rfl rfl
theorem dksX2_ofHeart_4 : cX2_ofHeart.data.toList.drop 84 = dktX2_ofHeart_4 := dk_seg dksX2_ofHeart_3 35 rfl rfl
theorem dksX2_ofHeart_5 : cX2_ofHeart.data.toList.drop 108 = dktX2_ofHeart_5 := dk_seg dksX2_ofHeart_4 24 rfl rfl
theorem dX2_ofHeart_0 : decode cX2_ofHeart 0 = .ok (.aload_n 0, 1) := dk_42 (dk_at dksX2_ofHeart_0 0 rfl rfl)
theorem dX2_ofHeart_1 : decode cX2_ofHeart 1 = .ok (.iload_n 1, 1) := dk_27 (dk_at dksX2_ofHeart_0 1 rfl rfl)
theorem dX2_ofHeart_2 : decode cX2_ofHeart 2 = .ok (.invokevirtual 88, 3) := dk_182 0 88 (dk_at dksX2_ofHeart_0 2 rfl rfl)
theorem dX2_ofHeart_5 : decode cX2_ofHeart 5 = .ok (.ifCond .ne 7, 3) := dk_154 0 7 (dk_at dksX2_ofHeart_0 5 rfl rfl)
theorem dX2_ofHeart_8 : decode cX2_ofHeart 8 = .ok (.ldc_w 321, 3) := dk_19 1 65 (dk_at dksX2_ofHeart_0 8 rfl rfl)
theorem dX2_ofHeart_11 : decode cX2_ofHeart 11 = .ok (.ireturn, 1) := dk_172 (dk_at dksX2_ofHeart_0 11 rfl rfl)
theorem dX2_ofHeart_12 : decode cX2_ofHeart 12 = .ok (.iload_n 2, 1) := dk_28 (dk_at dksX2_ofHeart_0 12 rfl rfl)
theorem dX2_ofHeart_13 : decode cX2_ofHeart 13 = .ok (.bipush 10, 2) := dk_16 10 (dk_at dksX2_ofHeart_0 13 rfl rfl)
theorem dX2_ofHeart_15 : decode cX2_ofHeart 15 = .ok (.bipush 9, 2) := dk_16 9 (dk_at dksX2_ofHeart_0 15 rfl rfl)
theorem dX2_ofHeart_17 : decode cX2_ofHeart 17 = .ok (.aload_n 0, 1) := dk_42 (dk_at dksX2_ofHeart_0 17 rfl rfl)
theorem dX2_ofHeart_18 : decode cX2_ofHeart 18 = .ok (.getfield 7, 3) := dk_180 0 7 (dk_at dksX2_ofHeart_0 18 rfl rfl)
theorem dX2_ofHeart_21 : decode cX2_ofHeart 21 = .ok (.iconst 0, 1) := dk_3 (dk_at dksX2_ofHeart_0 21 rfl rfl)
theorem dX2_ofHeart_22 : decode cX2_ofHeart 22 = .ok (.iaload, 1) := dk_46 (dk_at dksX2_ofHeart_0 22 rfl rfl)
theorem dX2_ofHeart_23 : decode cX2_ofHeart 23 = .ok (.iadd, 1) := dk_96 (dk_at dksX2_ofHeart_0 23 rfl rfl)
theorem dX2_ofHeart_24 : decode cX2_ofHeart 24 = .ok (.invokestatic 80, 3) := dk_184 0 80 (dk_at dksX2_ofHeart_1 0 rfl rfl)
theorem dX2_ofHeart_27 : decode cX2_ofHeart 27 = .ok (.ifCond .eq 21, 3) := dk_153 0 21 (dk_at dksX2_ofHeart_1 3 rfl rfl)
theorem dX2_ofHeart_30 : decode cX2_ofHeart 30 = .ok (.aload_n 0, 1) := dk_42 (dk_at dksX2_ofHeart_1 6 rfl rfl)
theorem dX2_ofHeart_31 : decode cX2_ofHeart 31 = .ok (.getfield 7, 3) := dk_180 0 7 (dk_at dksX2_ofHeart_1 7 rfl rfl)
theorem dX2_ofHeart_34 : decode cX2_ofHeart 34 = .ok (.bipush 18, 2) := dk_16 18 (dk_at dksX2_ofHeart_1 10 rfl rfl)
theorem dX2_ofHeart_36 : decode cX2_ofHeart 36 = .ok (.bipush 6, 2) := dk_16 6 (dk_at dksX2_ofHeart_1 12 rfl rfl)
theorem dX2_ofHeart_38 : decode cX2_ofHeart 38 = .ok (.iload_n 1, 1) := dk_27 (dk_at dksX2_ofHeart_1 14 rfl rfl)
theorem dX2_ofHeart_39 : decode cX2_ofHeart 39 = .ok (.imul, 1) := dk_104 (dk_at dksX2_ofHeart_1 15 rfl rfl)
theorem dX2_ofHeart_40 : decode cX2_ofHeart 40 = .ok (.iadd, 1) := dk_96 (dk_at dksX2_ofHeart_1 16 rfl rfl)
theorem dX2_ofHeart_41 : decode cX2_ofHeart 41 = .ok (.iload_n 2, 1) := dk_28 (dk_at dksX2_ofHeart_1 17 rfl rfl)
theorem dX2_ofHeart_42 : decode cX2_ofHeart 42 = .ok (.iadd, 1) := dk_96 (dk_at dksX2_ofHeart_1 18 rfl rfl)
theorem dX2_ofHeart_43 : decode cX2_ofHeart 43 = .ok (.bipush 10, 2) := dk_16 10 (dk_at dksX2_ofHeart_1 19 rfl rfl)
theorem dX2_ofHeart_45 : decode cX2_ofHeart 45 = .ok (.isub, 1) := dk_100 (dk_at dksX2_ofHeart_1 21 rfl rfl)
theorem dX2_ofHeart_46 : decode cX2_ofHeart 46 = .ok (.iaload, 1) := dk_46 (dk_at dksX2_ofHeart_1 22 rfl rfl)
theorem dX2_ofHeart_47 : decode cX2_ofHeart 47 = .ok (.ireturn, 1) := dk_172 (dk_at dksX2_ofHeart_1 23 rfl rfl)
theorem dX2_ofHeart_48 : decode cX2_ofHeart 48 = .ok (.iload_n 2, 1) := dk_28 (dk_at dksX2_ofHeart_2 0 rfl rfl)
theorem dX2_ofHeart_49 : decode cX2_ofHeart 49 = .ok (.tableswitch 69 0 4 #[35, 45, 51, 57, 63], 35) := by decide +kernel
theorem dX2_ofHeart_84 : decode cX2_ofHeart 84 = .ok (.aload_n 0, 1) := dk_42 (dk_at dksX2_ofHeart_4 0 rfl rfl)
theorem dX2_ofHeart_85 : decode cX2_ofHeart 85 = .ok (.getfield 7, 3) := dk_180 0 7 (dk_at dksX2_ofHeart_4 1 rfl rfl)
theorem dX2_ofHeart_88 : decode cX2_ofHeart 88 = .ok (.bipush 12, 2) := dk_16 12 (dk_at dksX2_ofHeart_4 4 rfl rfl)
theorem dX2_ofHeart_90 : decode cX2_ofHeart 90 = .ok (.iload_n 1, 1) := dk_27 (dk_at dksX2_ofHeart_4 6 rfl rfl)
theorem dX2_ofHeart_91 : decode cX2_ofHeart 91 = .ok (.iadd, 1) := dk_96 (dk_at dksX2_ofHeart_4 7 rfl rfl)
theorem dX2_ofHeart_92 : decode cX2_ofHeart 92 = .ok (.iaload, 1) := dk_46 (dk_at dksX2_ofHeart_4 8 rfl rfl)
theorem dX2_ofHeart_93 : decode cX2_ofHeart 93 = .ok (.ireturn, 1) := dk_172 (dk_at dksX2_ofHeart_4 9 rfl rfl)
theorem dX2_ofHeart_94 : decode cX2_ofHeart 94 = .ok (.aload_n 0, 1) := dk_42 (dk_at dksX2_ofHeart_4 10 rfl rfl)
theorem dX2_ofHeart_95 : decode cX2_ofHeart 95 = .ok (.iload_n 1, 1) := dk_27 (dk_at dksX2_ofHeart_4 11 rfl rfl)
theorem dX2_ofHeart_96 : decode cX2_ofHeart 96 = .ok (.invokevirtual 291, 3) := dk_182 1 35 (dk_at dksX2_ofHeart_4 12 rfl rfl)
theorem dX2_ofHeart_99 : decode cX2_ofHeart 99 = .ok (.ireturn, 1) := dk_172 (dk_at dksX2_ofHeart_4 15 rfl rfl)
theorem dX2_ofHeart_100 : decode cX2_ofHeart 100 = .ok (.aload_n 0, 1) := dk_42 (dk_at dksX2_ofHeart_4 16 rfl rfl)
theorem dX2_ofHeart_101 : decode cX2_ofHeart 101 = .ok (.iload_n 1, 1) := dk_27 (dk_at dksX2_ofHeart_4 17 rfl rfl)
theorem dX2_ofHeart_102 : decode cX2_ofHeart 102 = .ok (.invokevirtual 379, 3) := dk_182 1 123 (dk_at dksX2_ofHeart_4 18 rfl rfl)
theorem dX2_ofHeart_105 : decode cX2_ofHeart 105 = .ok (.ireturn, 1) := dk_172 (dk_at dksX2_ofHeart_4 21 rfl rfl)
theorem dX2_ofHeart_106 : decode cX2_ofHeart 106 = .ok (.aload_n 0, 1) := dk_42 (dk_at dksX2_ofHeart_4 22 rfl rfl)
theorem dX2_ofHeart_107 : decode cX2_ofHeart 107 = .ok (.iload_n 1, 1) := dk_27 (dk_at dksX2_ofHeart_4 23 rfl rfl)
theorem dX2_ofHeart_108 : decode cX2_ofHeart 108 = .ok (.invokevirtual 382, 3) := dk_182 1 126 (dk_at dksX2_ofHeart_5 0 rfl rfl)
theorem dX2_ofHeart_111 : decode cX2_ofHeart 111 = .ok (.ireturn, 1) := dk_172 (dk_at dksX2_ofHeart_5 3 rfl rfl)
theorem dX2_ofHeart_112 : decode cX2_ofHeart 112 = .ok (.aload_n 0, 1) := dk_42 (dk_at dksX2_ofHeart_5 4 rfl rfl)
theorem dX2_ofHeart_113 : decode cX2_ofHeart 113 = .ok (.iload_n 1, 1) := dk_27 (dk_at dksX2_ofHeart_5 5 rfl rfl)
theorem dX2_ofHeart_114 : decode cX2_ofHeart 114 = .ok (.invokevirtual 297, 3) := dk_182 1 41 (dk_at dksX2_ofHeart_5 6 rfl rfl)
theorem dX2_ofHeart_117 : decode cX2_ofHeart 117 = .ok (.ireturn, 1) := dk_172 (dk_at dksX2_ofHeart_5 9 rfl rfl)
theorem dX2_ofHeart_118 : decode cX2_ofHeart 118 = .ok (.ldc_w 321, 3) := dk_19 1 65 (dk_at dksX2_ofHeart_5 10 rfl rfl)
theorem dX2_ofHeart_121 : decode cX2_ofHeart 121 = .ok (.ireturn, 1) := dk_172 (dk_at dksX2_ofHeart_5 13 rfl rfl)
abbrev cX2_burdenOf : ByteArray := prog_15_method_87_code
def yX2_burdenOf : MethodName := ⟨RX2, "burdenOf", "(I)I"⟩
def dkwX2_burdenOf_1 : List UInt8 := [160, 0, 11, 42, 29, 182, 1, 47, 167, 0, 4, 3, 96, 61, 132, 3, 1, 167, 255, 221, 28, 172]
abbrev dktX2_burdenOf_1 : List UInt8 := dkwX2_burdenOf_1 ++ []
def dkwX2_burdenOf_0 : List UInt8 := [3, 61, 3, 62, 29, 42, 180, 0, 7, 4, 46, 162, 0, 31, 28, 42, 29, 3, 182, 0, 84, 27]
abbrev dktX2_burdenOf_0 : List UInt8 := dkwX2_burdenOf_0 ++ dktX2_burdenOf_1
theorem dksX2_burdenOf_0 : cX2_burdenOf.data.toList.drop 0 = dktX2_burdenOf_0 := by decide +kernel
theorem dksX2_burdenOf_1 : cX2_burdenOf.data.toList.drop 22 = dktX2_burdenOf_1 := dk_seg dksX2_burdenOf_0 22 rfl rfl
theorem dX2_burdenOf_0 : decode cX2_burdenOf 0 = .ok (.iconst 0, 1) := dk_3 (dk_at dksX2_burdenOf_0 0 rfl rfl)
theorem dX2_burdenOf_1 : decode cX2_burdenOf 1 = .ok (.istore_n 2, 1) := dk_61 (dk_at dksX2_burdenOf_0 1 rfl rfl)
theorem dX2_burdenOf_2 : decode cX2_burdenOf 2 = .ok (.iconst 0, 1) := dk_3 (dk_at dksX2_burdenOf_0 2 rfl rfl)
theorem dX2_burdenOf_3 : decode cX2_burdenOf 3 = .ok (.istore_n 3, 1) := dk_62 (dk_at dksX2_burdenOf_0 3 rfl rfl)
theorem dX2_burdenOf_4 : decode cX2_burdenOf 4 = .ok (.iload_n 3, 1) := dk_29 (dk_at dksX2_burdenOf_0 4 rfl rfl)
theorem dX2_burdenOf_5 : decode cX2_burdenOf 5 = .ok (.aload_n 0, 1) := dk_42 (dk_at dksX2_burdenOf_0 5 rfl rfl)
theorem dX2_burdenOf_6 : decode cX2_burdenOf 6 = .ok (.getfield 7, 3) := dk_180 0 7 (dk_at dksX2_burdenOf_0 6 rfl rfl)
theorem dX2_burdenOf_9 : decode cX2_burdenOf 9 = .ok (.iconst 1, 1) := dk_4 (dk_at dksX2_burdenOf_0 9 rfl rfl)
theorem dX2_burdenOf_10 : decode cX2_burdenOf 10 = .ok (.iaload, 1) := dk_46 (dk_at dksX2_burdenOf_0 10 rfl rfl)
theorem dX2_burdenOf_11 : decode cX2_burdenOf 11 = .ok (.if_icmp .ge 31, 3) := dk_162 0 31 (dk_at dksX2_burdenOf_0 11 rfl rfl)
theorem dX2_burdenOf_14 : decode cX2_burdenOf 14 = .ok (.iload_n 2, 1) := dk_28 (dk_at dksX2_burdenOf_0 14 rfl rfl)
theorem dX2_burdenOf_15 : decode cX2_burdenOf 15 = .ok (.aload_n 0, 1) := dk_42 (dk_at dksX2_burdenOf_0 15 rfl rfl)
theorem dX2_burdenOf_16 : decode cX2_burdenOf 16 = .ok (.iload_n 3, 1) := dk_29 (dk_at dksX2_burdenOf_0 16 rfl rfl)
theorem dX2_burdenOf_17 : decode cX2_burdenOf 17 = .ok (.iconst 0, 1) := dk_3 (dk_at dksX2_burdenOf_0 17 rfl rfl)
theorem dX2_burdenOf_18 : decode cX2_burdenOf 18 = .ok (.invokevirtual 84, 3) := dk_182 0 84 (dk_at dksX2_burdenOf_0 18 rfl rfl)
theorem dX2_burdenOf_21 : decode cX2_burdenOf 21 = .ok (.iload_n 1, 1) := dk_27 (dk_at dksX2_burdenOf_0 21 rfl rfl)
theorem dX2_burdenOf_22 : decode cX2_burdenOf 22 = .ok (.if_icmp .ne 11, 3) := dk_160 0 11 (dk_at dksX2_burdenOf_1 0 rfl rfl)
theorem dX2_burdenOf_25 : decode cX2_burdenOf 25 = .ok (.aload_n 0, 1) := dk_42 (dk_at dksX2_burdenOf_1 3 rfl rfl)
theorem dX2_burdenOf_26 : decode cX2_burdenOf 26 = .ok (.iload_n 3, 1) := dk_29 (dk_at dksX2_burdenOf_1 4 rfl rfl)
theorem dX2_burdenOf_27 : decode cX2_burdenOf 27 = .ok (.invokevirtual 303, 3) := dk_182 1 47 (dk_at dksX2_burdenOf_1 5 rfl rfl)
theorem dX2_burdenOf_30 : decode cX2_burdenOf 30 = .ok (.goto 4, 3) := dk_167 0 4 (dk_at dksX2_burdenOf_1 8 rfl rfl)
theorem dX2_burdenOf_33 : decode cX2_burdenOf 33 = .ok (.iconst 0, 1) := dk_3 (dk_at dksX2_burdenOf_1 11 rfl rfl)
theorem dX2_burdenOf_34 : decode cX2_burdenOf 34 = .ok (.iadd, 1) := dk_96 (dk_at dksX2_burdenOf_1 12 rfl rfl)
theorem dX2_burdenOf_35 : decode cX2_burdenOf 35 = .ok (.istore_n 2, 1) := dk_61 (dk_at dksX2_burdenOf_1 13 rfl rfl)
theorem dX2_burdenOf_36 : decode cX2_burdenOf 36 = .ok (.iinc 3 1, 3) := dk_132 3 1 (dk_at dksX2_burdenOf_1 14 rfl rfl)
theorem dX2_burdenOf_39 : decode cX2_burdenOf 39 = .ok (.goto (-35), 3) := dk_167 255 221 (dk_at dksX2_burdenOf_1 17 rfl rfl)
theorem dX2_burdenOf_42 : decode cX2_burdenOf 42 = .ok (.iload_n 2, 1) := dk_28 (dk_at dksX2_burdenOf_1 20 rfl rfl)
theorem dX2_burdenOf_43 : decode cX2_burdenOf 43 = .ok (.ireturn, 1) := dk_172 (dk_at dksX2_burdenOf_1 21 rfl rfl)
abbrev cX2_balanceOf : ByteArray := prog_15_method_88_code
def yX2_balanceOf : MethodName := ⟨RX2, "balanceOf", "(I)I"⟩
def dkwX2_balanceOf_0 : List UInt8 := [42, 180, 0, 7, 16, 12, 27, 96, 46, 42, 27, 182, 1, 123, 100, 172]
abbrev dktX2_balanceOf_0 : List UInt8 := dkwX2_balanceOf_0 ++ []
theorem dksX2_balanceOf_0 : cX2_balanceOf.data.toList.drop 0 = dktX2_balanceOf_0 := by decide +kernel
theorem dX2_balanceOf_0 : decode cX2_balanceOf 0 = .ok (.aload_n 0, 1) := dk_42 (dk_at dksX2_balanceOf_0 0 rfl rfl)
theorem dX2_balanceOf_1 : decode cX2_balanceOf 1 = .ok (.getfield 7, 3) := dk_180 0 7 (dk_at dksX2_balanceOf_0 1 rfl rfl)
theorem dX2_balanceOf_4 : decode cX2_balanceOf 4 = .ok (.bipush 12, 2) := dk_16 12 (dk_at dksX2_balanceOf_0 4 rfl rfl)
theorem dX2_balanceOf_6 : decode cX2_balanceOf 6 = .ok (.iload_n 1, 1) := dk_27 (dk_at dksX2_balanceOf_0 6 rfl rfl)
theorem dX2_balanceOf_7 : decode cX2_balanceOf 7 = .ok (.iadd, 1) := dk_96 (dk_at dksX2_balanceOf_0 7 rfl rfl)
theorem dX2_balanceOf_8 : decode cX2_balanceOf 8 = .ok (.iaload, 1) := dk_46 (dk_at dksX2_balanceOf_0 8 rfl rfl)
theorem dX2_balanceOf_9 : decode cX2_balanceOf 9 = .ok (.aload_n 0, 1) := dk_42 (dk_at dksX2_balanceOf_0 9 rfl rfl)
theorem dX2_balanceOf_10 : decode cX2_balanceOf 10 = .ok (.iload_n 1, 1) := dk_27 (dk_at dksX2_balanceOf_0 10 rfl rfl)
theorem dX2_balanceOf_11 : decode cX2_balanceOf 11 = .ok (.invokevirtual 379, 3) := dk_182 1 123 (dk_at dksX2_balanceOf_0 11 rfl rfl)
theorem dX2_balanceOf_14 : decode cX2_balanceOf 14 = .ok (.isub, 1) := dk_100 (dk_at dksX2_balanceOf_0 14 rfl rfl)
theorem dX2_balanceOf_15 : decode cX2_balanceOf 15 = .ok (.ireturn, 1) := dk_172 (dk_at dksX2_balanceOf_0 15 rfl rfl)
abbrev cX2_ofDeed : ByteArray := prog_15_method_90_code
def yX2_ofDeed : MethodName := ⟨RX2, "ofDeed", "(II)I"⟩
def dkwX2_ofDeed_1 : List UInt8 := [16, 6, 160, 0, 11, 42, 27, 182, 1, 47, 167, 0, 9, 42, 27, 28, 182, 0, 84, 172]
abbrev dktX2_ofDeed_1 : List UInt8 := dkwX2_ofDeed_1 ++ []
def dkwX2_ofDeed_0 : List UInt8 := [42, 27, 182, 0, 92, 153, 0, 13, 28, 3, 16, 6, 184, 0, 80, 154, 0, 7, 19, 1, 65, 172, 28]
abbrev dktX2_ofDeed_0 : List UInt8 := dkwX2_ofDeed_0 ++ dktX2_ofDeed_1
theorem dksX2_ofDeed_0 : cX2_ofDeed.data.toList.drop 0 = dktX2_ofDeed_0 := by decide +kernel
theorem dksX2_ofDeed_1 : cX2_ofDeed.data.toList.drop 23 = dktX2_ofDeed_1 := dk_seg dksX2_ofDeed_0 23 rfl rfl
theorem dX2_ofDeed_0 : decode cX2_ofDeed 0 = .ok (.aload_n 0, 1) := dk_42 (dk_at dksX2_ofDeed_0 0 rfl rfl)
theorem dX2_ofDeed_1 : decode cX2_ofDeed 1 = .ok (.iload_n 1, 1) := dk_27 (dk_at dksX2_ofDeed_0 1 rfl rfl)
theorem dX2_ofDeed_2 : decode cX2_ofDeed 2 = .ok (.invokevirtual 92, 3) := dk_182 0 92 (dk_at dksX2_ofDeed_0 2 rfl rfl)
theorem dX2_ofDeed_5 : decode cX2_ofDeed 5 = .ok (.ifCond .eq 13, 3) := dk_153 0 13 (dk_at dksX2_ofDeed_0 5 rfl rfl)
theorem dX2_ofDeed_8 : decode cX2_ofDeed 8 = .ok (.iload_n 2, 1) := dk_28 (dk_at dksX2_ofDeed_0 8 rfl rfl)
theorem dX2_ofDeed_9 : decode cX2_ofDeed 9 = .ok (.iconst 0, 1) := dk_3 (dk_at dksX2_ofDeed_0 9 rfl rfl)
theorem dX2_ofDeed_10 : decode cX2_ofDeed 10 = .ok (.bipush 6, 2) := dk_16 6 (dk_at dksX2_ofDeed_0 10 rfl rfl)
theorem dX2_ofDeed_12 : decode cX2_ofDeed 12 = .ok (.invokestatic 80, 3) := dk_184 0 80 (dk_at dksX2_ofDeed_0 12 rfl rfl)
theorem dX2_ofDeed_15 : decode cX2_ofDeed 15 = .ok (.ifCond .ne 7, 3) := dk_154 0 7 (dk_at dksX2_ofDeed_0 15 rfl rfl)
theorem dX2_ofDeed_18 : decode cX2_ofDeed 18 = .ok (.ldc_w 321, 3) := dk_19 1 65 (dk_at dksX2_ofDeed_0 18 rfl rfl)
theorem dX2_ofDeed_21 : decode cX2_ofDeed 21 = .ok (.ireturn, 1) := dk_172 (dk_at dksX2_ofDeed_0 21 rfl rfl)
theorem dX2_ofDeed_22 : decode cX2_ofDeed 22 = .ok (.iload_n 2, 1) := dk_28 (dk_at dksX2_ofDeed_0 22 rfl rfl)
theorem dX2_ofDeed_23 : decode cX2_ofDeed 23 = .ok (.bipush 6, 2) := dk_16 6 (dk_at dksX2_ofDeed_1 0 rfl rfl)
theorem dX2_ofDeed_25 : decode cX2_ofDeed 25 = .ok (.if_icmp .ne 11, 3) := dk_160 0 11 (dk_at dksX2_ofDeed_1 2 rfl rfl)
theorem dX2_ofDeed_28 : decode cX2_ofDeed 28 = .ok (.aload_n 0, 1) := dk_42 (dk_at dksX2_ofDeed_1 5 rfl rfl)
theorem dX2_ofDeed_29 : decode cX2_ofDeed 29 = .ok (.iload_n 1, 1) := dk_27 (dk_at dksX2_ofDeed_1 6 rfl rfl)
theorem dX2_ofDeed_30 : decode cX2_ofDeed 30 = .ok (.invokevirtual 303, 3) := dk_182 1 47 (dk_at dksX2_ofDeed_1 7 rfl rfl)
theorem dX2_ofDeed_33 : decode cX2_ofDeed 33 = .ok (.goto 9, 3) := dk_167 0 9 (dk_at dksX2_ofDeed_1 10 rfl rfl)
theorem dX2_ofDeed_36 : decode cX2_ofDeed 36 = .ok (.aload_n 0, 1) := dk_42 (dk_at dksX2_ofDeed_1 13 rfl rfl)
theorem dX2_ofDeed_37 : decode cX2_ofDeed 37 = .ok (.iload_n 1, 1) := dk_27 (dk_at dksX2_ofDeed_1 14 rfl rfl)
theorem dX2_ofDeed_38 : decode cX2_ofDeed 38 = .ok (.iload_n 2, 1) := dk_28 (dk_at dksX2_ofDeed_1 15 rfl rfl)
theorem dX2_ofDeed_39 : decode cX2_ofDeed 39 = .ok (.invokevirtual 84, 3) := dk_182 0 84 (dk_at dksX2_ofDeed_1 16 rfl rfl)
theorem dX2_ofDeed_42 : decode cX2_ofDeed 42 = .ok (.ireturn, 1) := dk_172 (dk_at dksX2_ofDeed_1 19 rfl rfl)
abbrev cX2_isSo : ByteArray := prog_15_method_91_code
def yX2_isSo : MethodName := ⟨RX2, "isSo", "(II)I"⟩
def dkwX2_isSo_1 : List UInt8 := [153, 0, 7, 4, 167, 0, 8, 3, 167, 0, 4, 2, 172]
abbrev dktX2_isSo_1 : List UInt8 := dkwX2_isSo_1 ++ []
def dkwX2_isSo_0 : List UInt8 := [42, 27, 182, 1, 72, 153, 0, 28, 42, 28, 182, 0, 88, 153, 0, 20, 42, 27, 28, 182, 1, 50]
abbrev dktX2_isSo_0 : List UInt8 := dkwX2_isSo_0 ++ dktX2_isSo_1
theorem dksX2_isSo_0 : cX2_isSo.data.toList.drop 0 = dktX2_isSo_0 := by decide +kernel
theorem dksX2_isSo_1 : cX2_isSo.data.toList.drop 22 = dktX2_isSo_1 := dk_seg dksX2_isSo_0 22 rfl rfl
theorem dX2_isSo_0 : decode cX2_isSo 0 = .ok (.aload_n 0, 1) := dk_42 (dk_at dksX2_isSo_0 0 rfl rfl)
theorem dX2_isSo_1 : decode cX2_isSo 1 = .ok (.iload_n 1, 1) := dk_27 (dk_at dksX2_isSo_0 1 rfl rfl)
theorem dX2_isSo_2 : decode cX2_isSo 2 = .ok (.invokevirtual 328, 3) := dk_182 1 72 (dk_at dksX2_isSo_0 2 rfl rfl)
theorem dX2_isSo_5 : decode cX2_isSo 5 = .ok (.ifCond .eq 28, 3) := dk_153 0 28 (dk_at dksX2_isSo_0 5 rfl rfl)
theorem dX2_isSo_8 : decode cX2_isSo 8 = .ok (.aload_n 0, 1) := dk_42 (dk_at dksX2_isSo_0 8 rfl rfl)
theorem dX2_isSo_9 : decode cX2_isSo 9 = .ok (.iload_n 2, 1) := dk_28 (dk_at dksX2_isSo_0 9 rfl rfl)
theorem dX2_isSo_10 : decode cX2_isSo 10 = .ok (.invokevirtual 88, 3) := dk_182 0 88 (dk_at dksX2_isSo_0 10 rfl rfl)
theorem dX2_isSo_13 : decode cX2_isSo 13 = .ok (.ifCond .eq 20, 3) := dk_153 0 20 (dk_at dksX2_isSo_0 13 rfl rfl)
theorem dX2_isSo_16 : decode cX2_isSo 16 = .ok (.aload_n 0, 1) := dk_42 (dk_at dksX2_isSo_0 16 rfl rfl)
theorem dX2_isSo_17 : decode cX2_isSo 17 = .ok (.iload_n 1, 1) := dk_27 (dk_at dksX2_isSo_0 17 rfl rfl)
theorem dX2_isSo_18 : decode cX2_isSo 18 = .ok (.iload_n 2, 1) := dk_28 (dk_at dksX2_isSo_0 18 rfl rfl)
theorem dX2_isSo_19 : decode cX2_isSo 19 = .ok (.invokevirtual 306, 3) := dk_182 1 50 (dk_at dksX2_isSo_0 19 rfl rfl)
theorem dX2_isSo_22 : decode cX2_isSo 22 = .ok (.ifCond .eq 7, 3) := dk_153 0 7 (dk_at dksX2_isSo_1 0 rfl rfl)
theorem dX2_isSo_25 : decode cX2_isSo 25 = .ok (.iconst 1, 1) := dk_4 (dk_at dksX2_isSo_1 3 rfl rfl)
theorem dX2_isSo_26 : decode cX2_isSo 26 = .ok (.goto 8, 3) := dk_167 0 8 (dk_at dksX2_isSo_1 4 rfl rfl)
theorem dX2_isSo_29 : decode cX2_isSo 29 = .ok (.iconst 0, 1) := dk_3 (dk_at dksX2_isSo_1 7 rfl rfl)
theorem dX2_isSo_30 : decode cX2_isSo 30 = .ok (.goto 4, 3) := dk_167 0 4 (dk_at dksX2_isSo_1 8 rfl rfl)
theorem dX2_isSo_33 : decode cX2_isSo 33 = .ok (.iconst (-1), 1) := dk_2 (dk_at dksX2_isSo_1 11 rfl rfl)
theorem dX2_isSo_34 : decode cX2_isSo 34 = .ok (.ireturn, 1) := dk_172 (dk_at dksX2_isSo_1 12 rfl rfl)
abbrev cX2_book : ByteArray := prog_15_method_92_code
def yX2_book : MethodName := ⟨RX2, "book", "(II)I"⟩
def dkwX2_book_3 : List UInt8 := [46, 29, 100, 27, 96, 17, 3, 0, 112, 104, 96, 28, 96, 46, 172]
abbrev dktX2_book_3 : List UInt8 := dkwX2_book_3 ++ []
def dkwX2_book_2 : List UInt8 := [184, 0, 80, 154, 0, 7, 19, 1, 65, 172, 42, 180, 0, 7, 17, 6, 168, 8, 42, 180, 0, 7, 16, 11]
abbrev dktX2_book_2 : List UInt8 := dkwX2_book_2 ++ dktX2_book_3
def dkwX2_book_1 : List UInt8 := [62, 27, 2, 160, 0, 5, 29, 172, 27, 3, 29, 4, 100, 184, 0, 80, 153, 0, 12, 28, 3, 7]
abbrev dktX2_book_1 : List UInt8 := dkwX2_book_1 ++ dktX2_book_2
def dkwX2_book_0 : List UInt8 := [42, 180, 0, 7, 16, 11, 46, 16, 30, 162, 0, 13, 42, 180, 0, 7, 16, 11, 46, 167, 0, 5, 16, 30]
abbrev dktX2_book_0 : List UInt8 := dkwX2_book_0 ++ dktX2_book_1
theorem dksX2_book_0 : cX2_book.data.toList.drop 0 = dktX2_book_0 := by decide +kernel
theorem dksX2_book_1 : cX2_book.data.toList.drop 24 = dktX2_book_1 := dk_seg dksX2_book_0 24 rfl rfl
theorem dksX2_book_2 : cX2_book.data.toList.drop 46 = dktX2_book_2 := dk_seg dksX2_book_1 22 rfl rfl
theorem dksX2_book_3 : cX2_book.data.toList.drop 70 = dktX2_book_3 := dk_seg dksX2_book_2 24 rfl rfl
theorem dX2_book_0 : decode cX2_book 0 = .ok (.aload_n 0, 1) := dk_42 (dk_at dksX2_book_0 0 rfl rfl)
theorem dX2_book_1 : decode cX2_book 1 = .ok (.getfield 7, 3) := dk_180 0 7 (dk_at dksX2_book_0 1 rfl rfl)
theorem dX2_book_4 : decode cX2_book 4 = .ok (.bipush 11, 2) := dk_16 11 (dk_at dksX2_book_0 4 rfl rfl)
theorem dX2_book_6 : decode cX2_book 6 = .ok (.iaload, 1) := dk_46 (dk_at dksX2_book_0 6 rfl rfl)
theorem dX2_book_7 : decode cX2_book 7 = .ok (.bipush 30, 2) := dk_16 30 (dk_at dksX2_book_0 7 rfl rfl)
theorem dX2_book_9 : decode cX2_book 9 = .ok (.if_icmp .ge 13, 3) := dk_162 0 13 (dk_at dksX2_book_0 9 rfl rfl)
theorem dX2_book_12 : decode cX2_book 12 = .ok (.aload_n 0, 1) := dk_42 (dk_at dksX2_book_0 12 rfl rfl)
theorem dX2_book_13 : decode cX2_book 13 = .ok (.getfield 7, 3) := dk_180 0 7 (dk_at dksX2_book_0 13 rfl rfl)
theorem dX2_book_16 : decode cX2_book 16 = .ok (.bipush 11, 2) := dk_16 11 (dk_at dksX2_book_0 16 rfl rfl)
theorem dX2_book_18 : decode cX2_book 18 = .ok (.iaload, 1) := dk_46 (dk_at dksX2_book_0 18 rfl rfl)
theorem dX2_book_19 : decode cX2_book 19 = .ok (.goto 5, 3) := dk_167 0 5 (dk_at dksX2_book_0 19 rfl rfl)
theorem dX2_book_22 : decode cX2_book 22 = .ok (.bipush 30, 2) := dk_16 30 (dk_at dksX2_book_0 22 rfl rfl)
theorem dX2_book_24 : decode cX2_book 24 = .ok (.istore_n 3, 1) := dk_62 (dk_at dksX2_book_1 0 rfl rfl)
theorem dX2_book_25 : decode cX2_book 25 = .ok (.iload_n 1, 1) := dk_27 (dk_at dksX2_book_1 1 rfl rfl)
theorem dX2_book_26 : decode cX2_book 26 = .ok (.iconst (-1), 1) := dk_2 (dk_at dksX2_book_1 2 rfl rfl)
theorem dX2_book_27 : decode cX2_book 27 = .ok (.if_icmp .ne 5, 3) := dk_160 0 5 (dk_at dksX2_book_1 3 rfl rfl)
theorem dX2_book_30 : decode cX2_book 30 = .ok (.iload_n 3, 1) := dk_29 (dk_at dksX2_book_1 6 rfl rfl)
theorem dX2_book_31 : decode cX2_book 31 = .ok (.ireturn, 1) := dk_172 (dk_at dksX2_book_1 7 rfl rfl)
theorem dX2_book_32 : decode cX2_book 32 = .ok (.iload_n 1, 1) := dk_27 (dk_at dksX2_book_1 8 rfl rfl)
theorem dX2_book_33 : decode cX2_book 33 = .ok (.iconst 0, 1) := dk_3 (dk_at dksX2_book_1 9 rfl rfl)
theorem dX2_book_34 : decode cX2_book 34 = .ok (.iload_n 3, 1) := dk_29 (dk_at dksX2_book_1 10 rfl rfl)
theorem dX2_book_35 : decode cX2_book 35 = .ok (.iconst 1, 1) := dk_4 (dk_at dksX2_book_1 11 rfl rfl)
theorem dX2_book_36 : decode cX2_book 36 = .ok (.isub, 1) := dk_100 (dk_at dksX2_book_1 12 rfl rfl)
theorem dX2_book_37 : decode cX2_book 37 = .ok (.invokestatic 80, 3) := dk_184 0 80 (dk_at dksX2_book_1 13 rfl rfl)
theorem dX2_book_40 : decode cX2_book 40 = .ok (.ifCond .eq 12, 3) := dk_153 0 12 (dk_at dksX2_book_1 16 rfl rfl)
theorem dX2_book_43 : decode cX2_book 43 = .ok (.iload_n 2, 1) := dk_28 (dk_at dksX2_book_1 19 rfl rfl)
theorem dX2_book_44 : decode cX2_book 44 = .ok (.iconst 0, 1) := dk_3 (dk_at dksX2_book_1 20 rfl rfl)
theorem dX2_book_45 : decode cX2_book 45 = .ok (.iconst 4, 1) := dk_7 (dk_at dksX2_book_1 21 rfl rfl)
theorem dX2_book_46 : decode cX2_book 46 = .ok (.invokestatic 80, 3) := dk_184 0 80 (dk_at dksX2_book_2 0 rfl rfl)
theorem dX2_book_49 : decode cX2_book 49 = .ok (.ifCond .ne 7, 3) := dk_154 0 7 (dk_at dksX2_book_2 3 rfl rfl)
theorem dX2_book_52 : decode cX2_book 52 = .ok (.ldc_w 321, 3) := dk_19 1 65 (dk_at dksX2_book_2 6 rfl rfl)
theorem dX2_book_55 : decode cX2_book 55 = .ok (.ireturn, 1) := dk_172 (dk_at dksX2_book_2 9 rfl rfl)
theorem dX2_book_56 : decode cX2_book 56 = .ok (.aload_n 0, 1) := dk_42 (dk_at dksX2_book_2 10 rfl rfl)
theorem dX2_book_57 : decode cX2_book 57 = .ok (.getfield 7, 3) := dk_180 0 7 (dk_at dksX2_book_2 11 rfl rfl)
theorem dX2_book_60 : decode cX2_book 60 = .ok (.sipush 1704, 3) := dk_17 6 168 (dk_at dksX2_book_2 14 rfl rfl)
theorem dX2_book_63 : decode cX2_book 63 = .ok (.iconst 5, 1) := dk_8 (dk_at dksX2_book_2 17 rfl rfl)
theorem dX2_book_64 : decode cX2_book 64 = .ok (.aload_n 0, 1) := dk_42 (dk_at dksX2_book_2 18 rfl rfl)
theorem dX2_book_65 : decode cX2_book 65 = .ok (.getfield 7, 3) := dk_180 0 7 (dk_at dksX2_book_2 19 rfl rfl)
theorem dX2_book_68 : decode cX2_book 68 = .ok (.bipush 11, 2) := dk_16 11 (dk_at dksX2_book_2 22 rfl rfl)
theorem dX2_book_70 : decode cX2_book 70 = .ok (.iaload, 1) := dk_46 (dk_at dksX2_book_3 0 rfl rfl)
theorem dX2_book_71 : decode cX2_book 71 = .ok (.iload_n 3, 1) := dk_29 (dk_at dksX2_book_3 1 rfl rfl)
theorem dX2_book_72 : decode cX2_book 72 = .ok (.isub, 1) := dk_100 (dk_at dksX2_book_3 2 rfl rfl)
theorem dX2_book_73 : decode cX2_book 73 = .ok (.iload_n 1, 1) := dk_27 (dk_at dksX2_book_3 3 rfl rfl)
theorem dX2_book_74 : decode cX2_book 74 = .ok (.iadd, 1) := dk_96 (dk_at dksX2_book_3 4 rfl rfl)
theorem dX2_book_75 : decode cX2_book 75 = .ok (.sipush 768, 3) := dk_17 3 0 (dk_at dksX2_book_3 5 rfl rfl)
theorem dX2_book_78 : decode cX2_book 78 = .ok (.irem, 1) := dk_112 (dk_at dksX2_book_3 8 rfl rfl)
theorem dX2_book_79 : decode cX2_book 79 = .ok (.imul, 1) := dk_104 (dk_at dksX2_book_3 9 rfl rfl)
theorem dX2_book_80 : decode cX2_book 80 = .ok (.iadd, 1) := dk_96 (dk_at dksX2_book_3 10 rfl rfl)
theorem dX2_book_81 : decode cX2_book 81 = .ok (.iload_n 2, 1) := dk_28 (dk_at dksX2_book_3 11 rfl rfl)
theorem dX2_book_82 : decode cX2_book 82 = .ok (.iadd, 1) := dk_96 (dk_at dksX2_book_3 12 rfl rfl)
theorem dX2_book_83 : decode cX2_book 83 = .ok (.iaload, 1) := dk_46 (dk_at dksX2_book_3 13 rfl rfl)
theorem dX2_book_84 : decode cX2_book 84 = .ok (.ireturn, 1) := dk_172 (dk_at dksX2_book_3 14 rfl rfl)
abbrev cX2_lightest : ByteArray := prog_15_method_100_code
def yX2_lightest : MethodName := ⟨RX2, "lightest", "(IZI)I"⟩
def dkwX2_lightest_5 : List UInt8 := [180, 1, 111, 162, 0, 12, 42, 180, 0, 45, 29, 46, 167, 0, 6, 19, 1, 65, 172]
abbrev dktX2_lightest_5 : List UInt8 := dkwX2_lightest_5 ++ []
def dkwX2_lightest_4 : List UInt8 := [42, 182, 1, 141, 167, 255, 204, 42, 182, 1, 148, 29, 2, 160, 0, 8, 21, 4, 167, 0, 23, 29, 42]
abbrev dktX2_lightest_4 : List UInt8 := dkwX2_lightest_4 ++ dktX2_lightest_5
def dkwX2_lightest_3 : List UInt8 := [21, 5, 21, 4, 163, 0, 16, 167, 255, 225, 21, 5, 21, 4, 161, 0, 6, 167, 255, 215, 21, 5, 54, 4]
abbrev dktX2_lightest_3 : List UInt8 := dkwX2_lightest_3 ++ dktX2_lightest_4
def dkwX2_lightest_2 : List UInt8 := [182, 1, 144, 153, 0, 51, 42, 27, 42, 180, 0, 7, 6, 46, 182, 1, 138, 54, 5, 28, 153, 0, 13]
abbrev dktX2_lightest_2 : List UInt8 := dkwX2_lightest_2 ++ dktX2_lightest_3
def dkwX2_lightest_1 : List UInt8 := [27, 182, 1, 117, 42, 27, 42, 180, 0, 7, 6, 46, 182, 1, 138, 54, 4, 42, 182, 1, 141, 42]
abbrev dktX2_lightest_1 : List UInt8 := dkwX2_lightest_1 ++ dktX2_lightest_2
def dkwX2_lightest_0 : List UInt8 := [42, 27, 16, 7, 182, 1, 132, 153, 0, 8, 29, 2, 162, 0, 7, 19, 1, 65, 172, 42, 182, 1, 135, 42]
abbrev dktX2_lightest_0 : List UInt8 := dkwX2_lightest_0 ++ dktX2_lightest_1
theorem dksX2_lightest_0 : cX2_lightest.data.toList.drop 0 = dktX2_lightest_0 := by decide +kernel
theorem dksX2_lightest_1 : cX2_lightest.data.toList.drop 24 = dktX2_lightest_1 := dk_seg dksX2_lightest_0 24 rfl rfl
theorem dksX2_lightest_2 : cX2_lightest.data.toList.drop 46 = dktX2_lightest_2 := dk_seg dksX2_lightest_1 22 rfl rfl
theorem dksX2_lightest_3 : cX2_lightest.data.toList.drop 69 = dktX2_lightest_3 := dk_seg dksX2_lightest_2 23 rfl rfl
theorem dksX2_lightest_4 : cX2_lightest.data.toList.drop 93 = dktX2_lightest_4 := dk_seg dksX2_lightest_3 24 rfl rfl
theorem dksX2_lightest_5 : cX2_lightest.data.toList.drop 116 = dktX2_lightest_5 := dk_seg dksX2_lightest_4 23 rfl rfl
theorem dX2_lightest_0 : decode cX2_lightest 0 = .ok (.aload_n 0, 1) := dk_42 (dk_at dksX2_lightest_0 0 rfl rfl)
theorem dX2_lightest_1 : decode cX2_lightest 1 = .ok (.iload_n 1, 1) := dk_27 (dk_at dksX2_lightest_0 1 rfl rfl)
theorem dX2_lightest_2 : decode cX2_lightest 2 = .ok (.bipush 7, 2) := dk_16 7 (dk_at dksX2_lightest_0 2 rfl rfl)
theorem dX2_lightest_4 : decode cX2_lightest 4 = .ok (.invokevirtual 388, 3) := dk_182 1 132 (dk_at dksX2_lightest_0 4 rfl rfl)
theorem dX2_lightest_7 : decode cX2_lightest 7 = .ok (.ifCond .eq 8, 3) := dk_153 0 8 (dk_at dksX2_lightest_0 7 rfl rfl)
theorem dX2_lightest_10 : decode cX2_lightest 10 = .ok (.iload_n 3, 1) := dk_29 (dk_at dksX2_lightest_0 10 rfl rfl)
theorem dX2_lightest_11 : decode cX2_lightest 11 = .ok (.iconst (-1), 1) := dk_2 (dk_at dksX2_lightest_0 11 rfl rfl)
theorem dX2_lightest_12 : decode cX2_lightest 12 = .ok (.if_icmp .ge 7, 3) := dk_162 0 7 (dk_at dksX2_lightest_0 12 rfl rfl)
theorem dX2_lightest_15 : decode cX2_lightest 15 = .ok (.ldc_w 321, 3) := dk_19 1 65 (dk_at dksX2_lightest_0 15 rfl rfl)
theorem dX2_lightest_18 : decode cX2_lightest 18 = .ok (.ireturn, 1) := dk_172 (dk_at dksX2_lightest_0 18 rfl rfl)
theorem dX2_lightest_19 : decode cX2_lightest 19 = .ok (.aload_n 0, 1) := dk_42 (dk_at dksX2_lightest_0 19 rfl rfl)
theorem dX2_lightest_20 : decode cX2_lightest 20 = .ok (.invokevirtual 391, 3) := dk_182 1 135 (dk_at dksX2_lightest_0 20 rfl rfl)
theorem dX2_lightest_23 : decode cX2_lightest 23 = .ok (.aload_n 0, 1) := dk_42 (dk_at dksX2_lightest_0 23 rfl rfl)
theorem dX2_lightest_24 : decode cX2_lightest 24 = .ok (.iload_n 1, 1) := dk_27 (dk_at dksX2_lightest_1 0 rfl rfl)
theorem dX2_lightest_25 : decode cX2_lightest 25 = .ok (.invokevirtual 373, 3) := dk_182 1 117 (dk_at dksX2_lightest_1 1 rfl rfl)
theorem dX2_lightest_28 : decode cX2_lightest 28 = .ok (.aload_n 0, 1) := dk_42 (dk_at dksX2_lightest_1 4 rfl rfl)
theorem dX2_lightest_29 : decode cX2_lightest 29 = .ok (.iload_n 1, 1) := dk_27 (dk_at dksX2_lightest_1 5 rfl rfl)
theorem dX2_lightest_30 : decode cX2_lightest 30 = .ok (.aload_n 0, 1) := dk_42 (dk_at dksX2_lightest_1 6 rfl rfl)
theorem dX2_lightest_31 : decode cX2_lightest 31 = .ok (.getfield 7, 3) := dk_180 0 7 (dk_at dksX2_lightest_1 7 rfl rfl)
theorem dX2_lightest_34 : decode cX2_lightest 34 = .ok (.iconst 3, 1) := dk_6 (dk_at dksX2_lightest_1 10 rfl rfl)
theorem dX2_lightest_35 : decode cX2_lightest 35 = .ok (.iaload, 1) := dk_46 (dk_at dksX2_lightest_1 11 rfl rfl)
theorem dX2_lightest_36 : decode cX2_lightest 36 = .ok (.invokevirtual 394, 3) := dk_182 1 138 (dk_at dksX2_lightest_1 12 rfl rfl)
theorem dX2_lightest_39 : decode cX2_lightest 39 = .ok (.istore 4, 2) := dk_54 4 (dk_at dksX2_lightest_1 15 rfl rfl)
theorem dX2_lightest_41 : decode cX2_lightest 41 = .ok (.aload_n 0, 1) := dk_42 (dk_at dksX2_lightest_1 17 rfl rfl)
theorem dX2_lightest_42 : decode cX2_lightest 42 = .ok (.invokevirtual 397, 3) := dk_182 1 141 (dk_at dksX2_lightest_1 18 rfl rfl)
theorem dX2_lightest_45 : decode cX2_lightest 45 = .ok (.aload_n 0, 1) := dk_42 (dk_at dksX2_lightest_1 21 rfl rfl)
theorem dX2_lightest_46 : decode cX2_lightest 46 = .ok (.invokevirtual 400, 3) := dk_182 1 144 (dk_at dksX2_lightest_2 0 rfl rfl)
theorem dX2_lightest_49 : decode cX2_lightest 49 = .ok (.ifCond .eq 51, 3) := dk_153 0 51 (dk_at dksX2_lightest_2 3 rfl rfl)
theorem dX2_lightest_52 : decode cX2_lightest 52 = .ok (.aload_n 0, 1) := dk_42 (dk_at dksX2_lightest_2 6 rfl rfl)
theorem dX2_lightest_53 : decode cX2_lightest 53 = .ok (.iload_n 1, 1) := dk_27 (dk_at dksX2_lightest_2 7 rfl rfl)
theorem dX2_lightest_54 : decode cX2_lightest 54 = .ok (.aload_n 0, 1) := dk_42 (dk_at dksX2_lightest_2 8 rfl rfl)
theorem dX2_lightest_55 : decode cX2_lightest 55 = .ok (.getfield 7, 3) := dk_180 0 7 (dk_at dksX2_lightest_2 9 rfl rfl)
theorem dX2_lightest_58 : decode cX2_lightest 58 = .ok (.iconst 3, 1) := dk_6 (dk_at dksX2_lightest_2 12 rfl rfl)
theorem dX2_lightest_59 : decode cX2_lightest 59 = .ok (.iaload, 1) := dk_46 (dk_at dksX2_lightest_2 13 rfl rfl)
theorem dX2_lightest_60 : decode cX2_lightest 60 = .ok (.invokevirtual 394, 3) := dk_182 1 138 (dk_at dksX2_lightest_2 14 rfl rfl)
theorem dX2_lightest_63 : decode cX2_lightest 63 = .ok (.istore 5, 2) := dk_54 5 (dk_at dksX2_lightest_2 17 rfl rfl)
theorem dX2_lightest_65 : decode cX2_lightest 65 = .ok (.iload_n 2, 1) := dk_28 (dk_at dksX2_lightest_2 19 rfl rfl)
theorem dX2_lightest_66 : decode cX2_lightest 66 = .ok (.ifCond .eq 13, 3) := dk_153 0 13 (dk_at dksX2_lightest_2 20 rfl rfl)
theorem dX2_lightest_69 : decode cX2_lightest 69 = .ok (.iload 5, 2) := dk_21 5 (dk_at dksX2_lightest_3 0 rfl rfl)
theorem dX2_lightest_71 : decode cX2_lightest 71 = .ok (.iload 4, 2) := dk_21 4 (dk_at dksX2_lightest_3 2 rfl rfl)
theorem dX2_lightest_73 : decode cX2_lightest 73 = .ok (.if_icmp .gt 16, 3) := dk_163 0 16 (dk_at dksX2_lightest_3 4 rfl rfl)
theorem dX2_lightest_76 : decode cX2_lightest 76 = .ok (.goto (-31), 3) := dk_167 255 225 (dk_at dksX2_lightest_3 7 rfl rfl)
theorem dX2_lightest_79 : decode cX2_lightest 79 = .ok (.iload 5, 2) := dk_21 5 (dk_at dksX2_lightest_3 10 rfl rfl)
theorem dX2_lightest_81 : decode cX2_lightest 81 = .ok (.iload 4, 2) := dk_21 4 (dk_at dksX2_lightest_3 12 rfl rfl)
theorem dX2_lightest_83 : decode cX2_lightest 83 = .ok (.if_icmp .lt 6, 3) := dk_161 0 6 (dk_at dksX2_lightest_3 14 rfl rfl)
theorem dX2_lightest_86 : decode cX2_lightest 86 = .ok (.goto (-41), 3) := dk_167 255 215 (dk_at dksX2_lightest_3 17 rfl rfl)
theorem dX2_lightest_89 : decode cX2_lightest 89 = .ok (.iload 5, 2) := dk_21 5 (dk_at dksX2_lightest_3 20 rfl rfl)
theorem dX2_lightest_91 : decode cX2_lightest 91 = .ok (.istore 4, 2) := dk_54 4 (dk_at dksX2_lightest_3 22 rfl rfl)
theorem dX2_lightest_93 : decode cX2_lightest 93 = .ok (.aload_n 0, 1) := dk_42 (dk_at dksX2_lightest_4 0 rfl rfl)
theorem dX2_lightest_94 : decode cX2_lightest 94 = .ok (.invokevirtual 397, 3) := dk_182 1 141 (dk_at dksX2_lightest_4 1 rfl rfl)
theorem dX2_lightest_97 : decode cX2_lightest 97 = .ok (.goto (-52), 3) := dk_167 255 204 (dk_at dksX2_lightest_4 4 rfl rfl)
theorem dX2_lightest_100 : decode cX2_lightest 100 = .ok (.aload_n 0, 1) := dk_42 (dk_at dksX2_lightest_4 7 rfl rfl)
theorem dX2_lightest_101 : decode cX2_lightest 101 = .ok (.invokevirtual 404, 3) := dk_182 1 148 (dk_at dksX2_lightest_4 8 rfl rfl)
theorem dX2_lightest_104 : decode cX2_lightest 104 = .ok (.iload_n 3, 1) := dk_29 (dk_at dksX2_lightest_4 11 rfl rfl)
theorem dX2_lightest_105 : decode cX2_lightest 105 = .ok (.iconst (-1), 1) := dk_2 (dk_at dksX2_lightest_4 12 rfl rfl)
theorem dX2_lightest_106 : decode cX2_lightest 106 = .ok (.if_icmp .ne 8, 3) := dk_160 0 8 (dk_at dksX2_lightest_4 13 rfl rfl)
theorem dX2_lightest_109 : decode cX2_lightest 109 = .ok (.iload 4, 2) := dk_21 4 (dk_at dksX2_lightest_4 16 rfl rfl)
theorem dX2_lightest_111 : decode cX2_lightest 111 = .ok (.goto 23, 3) := dk_167 0 23 (dk_at dksX2_lightest_4 18 rfl rfl)
theorem dX2_lightest_114 : decode cX2_lightest 114 = .ok (.iload_n 3, 1) := dk_29 (dk_at dksX2_lightest_4 21 rfl rfl)
theorem dX2_lightest_115 : decode cX2_lightest 115 = .ok (.aload_n 0, 1) := dk_42 (dk_at dksX2_lightest_4 22 rfl rfl)
theorem dX2_lightest_116 : decode cX2_lightest 116 = .ok (.getfield 367, 3) := dk_180 1 111 (dk_at dksX2_lightest_5 0 rfl rfl)
theorem dX2_lightest_119 : decode cX2_lightest 119 = .ok (.if_icmp .ge 12, 3) := dk_162 0 12 (dk_at dksX2_lightest_5 3 rfl rfl)
theorem dX2_lightest_122 : decode cX2_lightest 122 = .ok (.aload_n 0, 1) := dk_42 (dk_at dksX2_lightest_5 6 rfl rfl)
theorem dX2_lightest_123 : decode cX2_lightest 123 = .ok (.getfield 45, 3) := dk_180 0 45 (dk_at dksX2_lightest_5 7 rfl rfl)
theorem dX2_lightest_126 : decode cX2_lightest 126 = .ok (.iload_n 3, 1) := dk_29 (dk_at dksX2_lightest_5 10 rfl rfl)
theorem dX2_lightest_127 : decode cX2_lightest 127 = .ok (.iaload, 1) := dk_46 (dk_at dksX2_lightest_5 11 rfl rfl)
theorem dX2_lightest_128 : decode cX2_lightest 128 = .ok (.goto 6, 3) := dk_167 0 6 (dk_at dksX2_lightest_5 12 rfl rfl)
theorem dX2_lightest_131 : decode cX2_lightest 131 = .ok (.ldc_w 321, 3) := dk_19 1 65 (dk_at dksX2_lightest_5 15 rfl rfl)
theorem dX2_lightest_134 : decode cX2_lightest 134 = .ok (.ireturn, 1) := dk_172 (dk_at dksX2_lightest_5 18 rfl rfl)
abbrev cX2_isFew : ByteArray := prog_15_method_99_code
def yX2_isFew : MethodName := ⟨RX2, "isFew", "(II)Z"⟩
def dkwX2_isFew_1 : List UInt8 := [3, 172]
abbrev dktX2_isFew_1 : List UInt8 := dkwX2_isFew_1 ++ []
def dkwX2_isFew_0 : List UInt8 := [42, 27, 182, 0, 88, 153, 0, 19, 42, 27, 182, 1, 35, 184, 1, 38, 28, 163, 0, 7, 4, 167, 0, 4]
abbrev dktX2_isFew_0 : List UInt8 := dkwX2_isFew_0 ++ dktX2_isFew_1
theorem dksX2_isFew_0 : cX2_isFew.data.toList.drop 0 = dktX2_isFew_0 := by decide +kernel
theorem dksX2_isFew_1 : cX2_isFew.data.toList.drop 24 = dktX2_isFew_1 := dk_seg dksX2_isFew_0 24 rfl rfl
theorem dX2_isFew_0 : decode cX2_isFew 0 = .ok (.aload_n 0, 1) := dk_42 (dk_at dksX2_isFew_0 0 rfl rfl)
theorem dX2_isFew_1 : decode cX2_isFew 1 = .ok (.iload_n 1, 1) := dk_27 (dk_at dksX2_isFew_0 1 rfl rfl)
theorem dX2_isFew_2 : decode cX2_isFew 2 = .ok (.invokevirtual 88, 3) := dk_182 0 88 (dk_at dksX2_isFew_0 2 rfl rfl)
theorem dX2_isFew_5 : decode cX2_isFew 5 = .ok (.ifCond .eq 19, 3) := dk_153 0 19 (dk_at dksX2_isFew_0 5 rfl rfl)
theorem dX2_isFew_8 : decode cX2_isFew 8 = .ok (.aload_n 0, 1) := dk_42 (dk_at dksX2_isFew_0 8 rfl rfl)
theorem dX2_isFew_9 : decode cX2_isFew 9 = .ok (.iload_n 1, 1) := dk_27 (dk_at dksX2_isFew_0 9 rfl rfl)
theorem dX2_isFew_10 : decode cX2_isFew 10 = .ok (.invokevirtual 291, 3) := dk_182 1 35 (dk_at dksX2_isFew_0 10 rfl rfl)
theorem dX2_isFew_13 : decode cX2_isFew 13 = .ok (.invokestatic 294, 3) := dk_184 1 38 (dk_at dksX2_isFew_0 13 rfl rfl)
theorem dX2_isFew_16 : decode cX2_isFew 16 = .ok (.iload_n 2, 1) := dk_28 (dk_at dksX2_isFew_0 16 rfl rfl)
theorem dX2_isFew_17 : decode cX2_isFew 17 = .ok (.if_icmp .gt 7, 3) := dk_163 0 7 (dk_at dksX2_isFew_0 17 rfl rfl)
theorem dX2_isFew_20 : decode cX2_isFew 20 = .ok (.iconst 1, 1) := dk_4 (dk_at dksX2_isFew_0 20 rfl rfl)
theorem dX2_isFew_21 : decode cX2_isFew 21 = .ok (.goto 4, 3) := dk_167 0 4 (dk_at dksX2_isFew_0 21 rfl rfl)
theorem dX2_isFew_24 : decode cX2_isFew 24 = .ok (.iconst 0, 1) := dk_3 (dk_at dksX2_isFew_1 0 rfl rfl)
theorem dX2_isFew_25 : decode cX2_isFew 25 = .ok (.ireturn, 1) := dk_172 (dk_at dksX2_isFew_1 1 rfl rfl)
abbrev cX2_setAside : ByteArray := prog_15_method_93_code
def yX2_setAside : MethodName := ⟨RX2, "setAside", "()V"⟩
def dkwX2_setAside_1 : List UInt8 := [132, 1, 1, 167, 255, 231, 177]
abbrev dktX2_setAside_1 : List UInt8 := dkwX2_setAside_1 ++ []
def dkwX2_setAside_0 : List UInt8 := [3, 60, 27, 16, 6, 162, 0, 25, 42, 180, 0, 42, 27, 42, 180, 0, 7, 17, 0, 242, 27, 96, 46, 79]
abbrev dktX2_setAside_0 : List UInt8 := dkwX2_setAside_0 ++ dktX2_setAside_1
theorem dksX2_setAside_0 : cX2_setAside.data.toList.drop 0 = dktX2_setAside_0 := by decide +kernel
theorem dksX2_setAside_1 : cX2_setAside.data.toList.drop 24 = dktX2_setAside_1 := dk_seg dksX2_setAside_0 24 rfl rfl
theorem dX2_setAside_0 : decode cX2_setAside 0 = .ok (.iconst 0, 1) := dk_3 (dk_at dksX2_setAside_0 0 rfl rfl)
theorem dX2_setAside_1 : decode cX2_setAside 1 = .ok (.istore_n 1, 1) := dk_60 (dk_at dksX2_setAside_0 1 rfl rfl)
theorem dX2_setAside_2 : decode cX2_setAside 2 = .ok (.iload_n 1, 1) := dk_27 (dk_at dksX2_setAside_0 2 rfl rfl)
theorem dX2_setAside_3 : decode cX2_setAside 3 = .ok (.bipush 6, 2) := dk_16 6 (dk_at dksX2_setAside_0 3 rfl rfl)
theorem dX2_setAside_5 : decode cX2_setAside 5 = .ok (.if_icmp .ge 25, 3) := dk_162 0 25 (dk_at dksX2_setAside_0 5 rfl rfl)
theorem dX2_setAside_8 : decode cX2_setAside 8 = .ok (.aload_n 0, 1) := dk_42 (dk_at dksX2_setAside_0 8 rfl rfl)
theorem dX2_setAside_9 : decode cX2_setAside 9 = .ok (.getfield 42, 3) := dk_180 0 42 (dk_at dksX2_setAside_0 9 rfl rfl)
theorem dX2_setAside_12 : decode cX2_setAside 12 = .ok (.iload_n 1, 1) := dk_27 (dk_at dksX2_setAside_0 12 rfl rfl)
theorem dX2_setAside_13 : decode cX2_setAside 13 = .ok (.aload_n 0, 1) := dk_42 (dk_at dksX2_setAside_0 13 rfl rfl)
theorem dX2_setAside_14 : decode cX2_setAside 14 = .ok (.getfield 7, 3) := dk_180 0 7 (dk_at dksX2_setAside_0 14 rfl rfl)
theorem dX2_setAside_17 : decode cX2_setAside 17 = .ok (.sipush 242, 3) := dk_17 0 242 (dk_at dksX2_setAside_0 17 rfl rfl)
theorem dX2_setAside_20 : decode cX2_setAside 20 = .ok (.iload_n 1, 1) := dk_27 (dk_at dksX2_setAside_0 20 rfl rfl)
theorem dX2_setAside_21 : decode cX2_setAside 21 = .ok (.iadd, 1) := dk_96 (dk_at dksX2_setAside_0 21 rfl rfl)
theorem dX2_setAside_22 : decode cX2_setAside 22 = .ok (.iaload, 1) := dk_46 (dk_at dksX2_setAside_0 22 rfl rfl)
theorem dX2_setAside_23 : decode cX2_setAside 23 = .ok (.iastore, 1) := dk_79 (dk_at dksX2_setAside_0 23 rfl rfl)
theorem dX2_setAside_24 : decode cX2_setAside 24 = .ok (.iinc 1 1, 3) := dk_132 1 1 (dk_at dksX2_setAside_1 0 rfl rfl)
theorem dX2_setAside_27 : decode cX2_setAside 27 = .ok (.goto (-25), 3) := dk_167 255 231 (dk_at dksX2_setAside_1 3 rfl rfl)
theorem dX2_setAside_30 : decode cX2_setAside 30 = .ok (.return_, 1) := dk_177 (dk_at dksX2_setAside_1 6 rfl rfl)
abbrev cX2_endOf : ByteArray := prog_15_method_95_code
def yX2_endOf : MethodName := ⟨RX2, "endOf", "(II)I"⟩
def dkwX2_endOf_1 : List UInt8 := [182, 1, 69, 132, 3, 1, 167, 255, 234, 42, 180, 0, 7, 17, 0, 244, 46, 172]
abbrev dktX2_endOf_1 : List UInt8 := dkwX2_endOf_1 ++ []
def dkwX2_endOf_0 : List UInt8 := [42, 27, 28, 182, 1, 66, 3, 62, 29, 42, 180, 1, 111, 162, 0, 20, 42, 42, 180, 0, 39, 29, 46, 28]
abbrev dktX2_endOf_0 : List UInt8 := dkwX2_endOf_0 ++ dktX2_endOf_1
theorem dksX2_endOf_0 : cX2_endOf.data.toList.drop 0 = dktX2_endOf_0 := by decide +kernel
theorem dksX2_endOf_1 : cX2_endOf.data.toList.drop 24 = dktX2_endOf_1 := dk_seg dksX2_endOf_0 24 rfl rfl
theorem dX2_endOf_0 : decode cX2_endOf 0 = .ok (.aload_n 0, 1) := dk_42 (dk_at dksX2_endOf_0 0 rfl rfl)
theorem dX2_endOf_1 : decode cX2_endOf 1 = .ok (.iload_n 1, 1) := dk_27 (dk_at dksX2_endOf_0 1 rfl rfl)
theorem dX2_endOf_2 : decode cX2_endOf 2 = .ok (.iload_n 2, 1) := dk_28 (dk_at dksX2_endOf_0 2 rfl rfl)
theorem dX2_endOf_3 : decode cX2_endOf 3 = .ok (.invokevirtual 322, 3) := dk_182 1 66 (dk_at dksX2_endOf_0 3 rfl rfl)
theorem dX2_endOf_6 : decode cX2_endOf 6 = .ok (.iconst 0, 1) := dk_3 (dk_at dksX2_endOf_0 6 rfl rfl)
theorem dX2_endOf_7 : decode cX2_endOf 7 = .ok (.istore_n 3, 1) := dk_62 (dk_at dksX2_endOf_0 7 rfl rfl)
theorem dX2_endOf_8 : decode cX2_endOf 8 = .ok (.iload_n 3, 1) := dk_29 (dk_at dksX2_endOf_0 8 rfl rfl)
theorem dX2_endOf_9 : decode cX2_endOf 9 = .ok (.aload_n 0, 1) := dk_42 (dk_at dksX2_endOf_0 9 rfl rfl)
theorem dX2_endOf_10 : decode cX2_endOf 10 = .ok (.getfield 367, 3) := dk_180 1 111 (dk_at dksX2_endOf_0 10 rfl rfl)
theorem dX2_endOf_13 : decode cX2_endOf 13 = .ok (.if_icmp .ge 20, 3) := dk_162 0 20 (dk_at dksX2_endOf_0 13 rfl rfl)
theorem dX2_endOf_16 : decode cX2_endOf 16 = .ok (.aload_n 0, 1) := dk_42 (dk_at dksX2_endOf_0 16 rfl rfl)
theorem dX2_endOf_17 : decode cX2_endOf 17 = .ok (.aload_n 0, 1) := dk_42 (dk_at dksX2_endOf_0 17 rfl rfl)
theorem dX2_endOf_18 : decode cX2_endOf 18 = .ok (.getfield 39, 3) := dk_180 0 39 (dk_at dksX2_endOf_0 18 rfl rfl)
theorem dX2_endOf_21 : decode cX2_endOf 21 = .ok (.iload_n 3, 1) := dk_29 (dk_at dksX2_endOf_0 21 rfl rfl)
theorem dX2_endOf_22 : decode cX2_endOf 22 = .ok (.iaload, 1) := dk_46 (dk_at dksX2_endOf_0 22 rfl rfl)
theorem dX2_endOf_23 : decode cX2_endOf 23 = .ok (.iload_n 2, 1) := dk_28 (dk_at dksX2_endOf_0 23 rfl rfl)
theorem dX2_endOf_24 : decode cX2_endOf 24 = .ok (.invokevirtual 325, 3) := dk_182 1 69 (dk_at dksX2_endOf_1 0 rfl rfl)
theorem dX2_endOf_27 : decode cX2_endOf 27 = .ok (.iinc 3 1, 3) := dk_132 3 1 (dk_at dksX2_endOf_1 3 rfl rfl)
theorem dX2_endOf_30 : decode cX2_endOf 30 = .ok (.goto (-22), 3) := dk_167 255 234 (dk_at dksX2_endOf_1 6 rfl rfl)
theorem dX2_endOf_33 : decode cX2_endOf 33 = .ok (.aload_n 0, 1) := dk_42 (dk_at dksX2_endOf_1 9 rfl rfl)
theorem dX2_endOf_34 : decode cX2_endOf 34 = .ok (.getfield 7, 3) := dk_180 0 7 (dk_at dksX2_endOf_1 10 rfl rfl)
theorem dX2_endOf_37 : decode cX2_endOf 37 = .ok (.sipush 244, 3) := dk_17 0 244 (dk_at dksX2_endOf_1 13 rfl rfl)
theorem dX2_endOf_40 : decode cX2_endOf 40 = .ok (.iaload, 1) := dk_46 (dk_at dksX2_endOf_1 16 rfl rfl)
theorem dX2_endOf_41 : decode cX2_endOf 41 = .ok (.ireturn, 1) := dk_172 (dk_at dksX2_endOf_1 17 rfl rfl)
abbrev cX2_takeRow : ByteArray := prog_15_method_98_code
def yX2_takeRow : MethodName := ⟨RX2, "takeRow", "()V"⟩
def dkwX2_takeRow_1 : List UInt8 := [132, 1, 1, 167, 255, 233, 177]
abbrev dktX2_takeRow_1 : List UInt8 := dkwX2_takeRow_1 ++ []
def dkwX2_takeRow_0 : List UInt8 := [3, 60, 27, 42, 180, 1, 111, 162, 0, 21, 42, 180, 0, 45, 27, 42, 180, 0, 39, 27, 46, 79]
abbrev dktX2_takeRow_0 : List UInt8 := dkwX2_takeRow_0 ++ dktX2_takeRow_1
theorem dksX2_takeRow_0 : cX2_takeRow.data.toList.drop 0 = dktX2_takeRow_0 := by decide +kernel
theorem dksX2_takeRow_1 : cX2_takeRow.data.toList.drop 22 = dktX2_takeRow_1 := dk_seg dksX2_takeRow_0 22 rfl rfl
theorem dX2_takeRow_0 : decode cX2_takeRow 0 = .ok (.iconst 0, 1) := dk_3 (dk_at dksX2_takeRow_0 0 rfl rfl)
theorem dX2_takeRow_1 : decode cX2_takeRow 1 = .ok (.istore_n 1, 1) := dk_60 (dk_at dksX2_takeRow_0 1 rfl rfl)
theorem dX2_takeRow_2 : decode cX2_takeRow 2 = .ok (.iload_n 1, 1) := dk_27 (dk_at dksX2_takeRow_0 2 rfl rfl)
theorem dX2_takeRow_3 : decode cX2_takeRow 3 = .ok (.aload_n 0, 1) := dk_42 (dk_at dksX2_takeRow_0 3 rfl rfl)
theorem dX2_takeRow_4 : decode cX2_takeRow 4 = .ok (.getfield 367, 3) := dk_180 1 111 (dk_at dksX2_takeRow_0 4 rfl rfl)
theorem dX2_takeRow_7 : decode cX2_takeRow 7 = .ok (.if_icmp .ge 21, 3) := dk_162 0 21 (dk_at dksX2_takeRow_0 7 rfl rfl)
theorem dX2_takeRow_10 : decode cX2_takeRow 10 = .ok (.aload_n 0, 1) := dk_42 (dk_at dksX2_takeRow_0 10 rfl rfl)
theorem dX2_takeRow_11 : decode cX2_takeRow 11 = .ok (.getfield 45, 3) := dk_180 0 45 (dk_at dksX2_takeRow_0 11 rfl rfl)
theorem dX2_takeRow_14 : decode cX2_takeRow 14 = .ok (.iload_n 1, 1) := dk_27 (dk_at dksX2_takeRow_0 14 rfl rfl)
theorem dX2_takeRow_15 : decode cX2_takeRow 15 = .ok (.aload_n 0, 1) := dk_42 (dk_at dksX2_takeRow_0 15 rfl rfl)
theorem dX2_takeRow_16 : decode cX2_takeRow 16 = .ok (.getfield 39, 3) := dk_180 0 39 (dk_at dksX2_takeRow_0 16 rfl rfl)
theorem dX2_takeRow_19 : decode cX2_takeRow 19 = .ok (.iload_n 1, 1) := dk_27 (dk_at dksX2_takeRow_0 19 rfl rfl)
theorem dX2_takeRow_20 : decode cX2_takeRow 20 = .ok (.iaload, 1) := dk_46 (dk_at dksX2_takeRow_0 20 rfl rfl)
theorem dX2_takeRow_21 : decode cX2_takeRow 21 = .ok (.iastore, 1) := dk_79 (dk_at dksX2_takeRow_0 21 rfl rfl)
theorem dX2_takeRow_22 : decode cX2_takeRow 22 = .ok (.iinc 1 1, 3) := dk_132 1 1 (dk_at dksX2_takeRow_1 0 rfl rfl)
theorem dX2_takeRow_25 : decode cX2_takeRow 25 = .ok (.goto (-23), 3) := dk_167 255 233 (dk_at dksX2_takeRow_1 3 rfl rfl)
theorem dX2_takeRow_28 : decode cX2_takeRow 28 = .ok (.return_, 1) := dk_177 (dk_at dksX2_takeRow_1 6 rfl rfl)
abbrev cX2_nextRow : ByteArray := prog_15_method_97_code
def yX2_nextRow : MethodName := ⟨RX2, "nextRow", "()Z"⟩
def dkwX2_nextRow_4 : List UInt8 := [21, 4, 182, 1, 129, 132, 3, 1, 132, 4, 255, 167, 255, 237, 4, 172]
abbrev dktX2_nextRow_4 : List UInt8 := dkwX2_nextRow_4 ++ []
def dkwX2_nextRow_3 : List UInt8 := [182, 1, 129, 27, 4, 96, 62, 42, 180, 1, 111, 4, 100, 54, 4, 29, 21, 4, 162, 0, 19, 42, 29]
abbrev dktX2_nextRow_3 : List UInt8 := dkwX2_nextRow_3 ++ dktX2_nextRow_4
def dkwX2_nextRow_2 : List UInt8 := [180, 0, 39, 28, 46, 42, 180, 0, 39, 27, 46, 162, 0, 9, 132, 2, 255, 167, 255, 238, 42, 27, 28]
abbrev dktX2_nextRow_2 : List UInt8 := dkwX2_nextRow_2 ++ dktX2_nextRow_3
def dkwX2_nextRow_1 : List UInt8 := [46, 164, 0, 9, 132, 1, 255, 167, 255, 232, 27, 156, 0, 5, 3, 172, 42, 180, 1, 111, 4, 100, 61, 42]
abbrev dktX2_nextRow_1 : List UInt8 := dkwX2_nextRow_1 ++ dktX2_nextRow_2
def dkwX2_nextRow_0 : List UInt8 := [42, 180, 1, 111, 5, 100, 60, 27, 155, 0, 26, 42, 180, 0, 39, 27, 46, 42, 180, 0, 39, 27, 4, 96]
abbrev dktX2_nextRow_0 : List UInt8 := dkwX2_nextRow_0 ++ dktX2_nextRow_1
theorem dksX2_nextRow_0 : cX2_nextRow.data.toList.drop 0 = dktX2_nextRow_0 := by decide +kernel
theorem dksX2_nextRow_1 : cX2_nextRow.data.toList.drop 24 = dktX2_nextRow_1 := dk_seg dksX2_nextRow_0 24 rfl rfl
theorem dksX2_nextRow_2 : cX2_nextRow.data.toList.drop 48 = dktX2_nextRow_2 := dk_seg dksX2_nextRow_1 24 rfl rfl
theorem dksX2_nextRow_3 : cX2_nextRow.data.toList.drop 71 = dktX2_nextRow_3 := dk_seg dksX2_nextRow_2 23 rfl rfl
theorem dksX2_nextRow_4 : cX2_nextRow.data.toList.drop 94 = dktX2_nextRow_4 := dk_seg dksX2_nextRow_3 23 rfl rfl
theorem dX2_nextRow_0 : decode cX2_nextRow 0 = .ok (.aload_n 0, 1) := dk_42 (dk_at dksX2_nextRow_0 0 rfl rfl)
theorem dX2_nextRow_1 : decode cX2_nextRow 1 = .ok (.getfield 367, 3) := dk_180 1 111 (dk_at dksX2_nextRow_0 1 rfl rfl)
theorem dX2_nextRow_4 : decode cX2_nextRow 4 = .ok (.iconst 2, 1) := dk_5 (dk_at dksX2_nextRow_0 4 rfl rfl)
theorem dX2_nextRow_5 : decode cX2_nextRow 5 = .ok (.isub, 1) := dk_100 (dk_at dksX2_nextRow_0 5 rfl rfl)
theorem dX2_nextRow_6 : decode cX2_nextRow 6 = .ok (.istore_n 1, 1) := dk_60 (dk_at dksX2_nextRow_0 6 rfl rfl)
theorem dX2_nextRow_7 : decode cX2_nextRow 7 = .ok (.iload_n 1, 1) := dk_27 (dk_at dksX2_nextRow_0 7 rfl rfl)
theorem dX2_nextRow_8 : decode cX2_nextRow 8 = .ok (.ifCond .lt 26, 3) := dk_155 0 26 (dk_at dksX2_nextRow_0 8 rfl rfl)
theorem dX2_nextRow_11 : decode cX2_nextRow 11 = .ok (.aload_n 0, 1) := dk_42 (dk_at dksX2_nextRow_0 11 rfl rfl)
theorem dX2_nextRow_12 : decode cX2_nextRow 12 = .ok (.getfield 39, 3) := dk_180 0 39 (dk_at dksX2_nextRow_0 12 rfl rfl)
theorem dX2_nextRow_15 : decode cX2_nextRow 15 = .ok (.iload_n 1, 1) := dk_27 (dk_at dksX2_nextRow_0 15 rfl rfl)
theorem dX2_nextRow_16 : decode cX2_nextRow 16 = .ok (.iaload, 1) := dk_46 (dk_at dksX2_nextRow_0 16 rfl rfl)
theorem dX2_nextRow_17 : decode cX2_nextRow 17 = .ok (.aload_n 0, 1) := dk_42 (dk_at dksX2_nextRow_0 17 rfl rfl)
theorem dX2_nextRow_18 : decode cX2_nextRow 18 = .ok (.getfield 39, 3) := dk_180 0 39 (dk_at dksX2_nextRow_0 18 rfl rfl)
theorem dX2_nextRow_21 : decode cX2_nextRow 21 = .ok (.iload_n 1, 1) := dk_27 (dk_at dksX2_nextRow_0 21 rfl rfl)
theorem dX2_nextRow_22 : decode cX2_nextRow 22 = .ok (.iconst 1, 1) := dk_4 (dk_at dksX2_nextRow_0 22 rfl rfl)
theorem dX2_nextRow_23 : decode cX2_nextRow 23 = .ok (.iadd, 1) := dk_96 (dk_at dksX2_nextRow_0 23 rfl rfl)
theorem dX2_nextRow_24 : decode cX2_nextRow 24 = .ok (.iaload, 1) := dk_46 (dk_at dksX2_nextRow_1 0 rfl rfl)
theorem dX2_nextRow_25 : decode cX2_nextRow 25 = .ok (.if_icmp .le 9, 3) := dk_164 0 9 (dk_at dksX2_nextRow_1 1 rfl rfl)
theorem dX2_nextRow_28 : decode cX2_nextRow 28 = .ok (.iinc 1 (-1), 3) := dk_132 1 255 (dk_at dksX2_nextRow_1 4 rfl rfl)
theorem dX2_nextRow_31 : decode cX2_nextRow 31 = .ok (.goto (-24), 3) := dk_167 255 232 (dk_at dksX2_nextRow_1 7 rfl rfl)
theorem dX2_nextRow_34 : decode cX2_nextRow 34 = .ok (.iload_n 1, 1) := dk_27 (dk_at dksX2_nextRow_1 10 rfl rfl)
theorem dX2_nextRow_35 : decode cX2_nextRow 35 = .ok (.ifCond .ge 5, 3) := dk_156 0 5 (dk_at dksX2_nextRow_1 11 rfl rfl)
theorem dX2_nextRow_38 : decode cX2_nextRow 38 = .ok (.iconst 0, 1) := dk_3 (dk_at dksX2_nextRow_1 14 rfl rfl)
theorem dX2_nextRow_39 : decode cX2_nextRow 39 = .ok (.ireturn, 1) := dk_172 (dk_at dksX2_nextRow_1 15 rfl rfl)
theorem dX2_nextRow_40 : decode cX2_nextRow 40 = .ok (.aload_n 0, 1) := dk_42 (dk_at dksX2_nextRow_1 16 rfl rfl)
theorem dX2_nextRow_41 : decode cX2_nextRow 41 = .ok (.getfield 367, 3) := dk_180 1 111 (dk_at dksX2_nextRow_1 17 rfl rfl)
theorem dX2_nextRow_44 : decode cX2_nextRow 44 = .ok (.iconst 1, 1) := dk_4 (dk_at dksX2_nextRow_1 20 rfl rfl)
theorem dX2_nextRow_45 : decode cX2_nextRow 45 = .ok (.isub, 1) := dk_100 (dk_at dksX2_nextRow_1 21 rfl rfl)
theorem dX2_nextRow_46 : decode cX2_nextRow 46 = .ok (.istore_n 2, 1) := dk_61 (dk_at dksX2_nextRow_1 22 rfl rfl)
theorem dX2_nextRow_47 : decode cX2_nextRow 47 = .ok (.aload_n 0, 1) := dk_42 (dk_at dksX2_nextRow_1 23 rfl rfl)
theorem dX2_nextRow_48 : decode cX2_nextRow 48 = .ok (.getfield 39, 3) := dk_180 0 39 (dk_at dksX2_nextRow_2 0 rfl rfl)
theorem dX2_nextRow_51 : decode cX2_nextRow 51 = .ok (.iload_n 2, 1) := dk_28 (dk_at dksX2_nextRow_2 3 rfl rfl)
theorem dX2_nextRow_52 : decode cX2_nextRow 52 = .ok (.iaload, 1) := dk_46 (dk_at dksX2_nextRow_2 4 rfl rfl)
theorem dX2_nextRow_53 : decode cX2_nextRow 53 = .ok (.aload_n 0, 1) := dk_42 (dk_at dksX2_nextRow_2 5 rfl rfl)
theorem dX2_nextRow_54 : decode cX2_nextRow 54 = .ok (.getfield 39, 3) := dk_180 0 39 (dk_at dksX2_nextRow_2 6 rfl rfl)
theorem dX2_nextRow_57 : decode cX2_nextRow 57 = .ok (.iload_n 1, 1) := dk_27 (dk_at dksX2_nextRow_2 9 rfl rfl)
theorem dX2_nextRow_58 : decode cX2_nextRow 58 = .ok (.iaload, 1) := dk_46 (dk_at dksX2_nextRow_2 10 rfl rfl)
theorem dX2_nextRow_59 : decode cX2_nextRow 59 = .ok (.if_icmp .ge 9, 3) := dk_162 0 9 (dk_at dksX2_nextRow_2 11 rfl rfl)
theorem dX2_nextRow_62 : decode cX2_nextRow 62 = .ok (.iinc 2 (-1), 3) := dk_132 2 255 (dk_at dksX2_nextRow_2 14 rfl rfl)
theorem dX2_nextRow_65 : decode cX2_nextRow 65 = .ok (.goto (-18), 3) := dk_167 255 238 (dk_at dksX2_nextRow_2 17 rfl rfl)
theorem dX2_nextRow_68 : decode cX2_nextRow 68 = .ok (.aload_n 0, 1) := dk_42 (dk_at dksX2_nextRow_2 20 rfl rfl)
theorem dX2_nextRow_69 : decode cX2_nextRow 69 = .ok (.iload_n 1, 1) := dk_27 (dk_at dksX2_nextRow_2 21 rfl rfl)
theorem dX2_nextRow_70 : decode cX2_nextRow 70 = .ok (.iload_n 2, 1) := dk_28 (dk_at dksX2_nextRow_2 22 rfl rfl)
theorem dX2_nextRow_71 : decode cX2_nextRow 71 = .ok (.invokevirtual 385, 3) := dk_182 1 129 (dk_at dksX2_nextRow_3 0 rfl rfl)
theorem dX2_nextRow_74 : decode cX2_nextRow 74 = .ok (.iload_n 1, 1) := dk_27 (dk_at dksX2_nextRow_3 3 rfl rfl)
theorem dX2_nextRow_75 : decode cX2_nextRow 75 = .ok (.iconst 1, 1) := dk_4 (dk_at dksX2_nextRow_3 4 rfl rfl)
theorem dX2_nextRow_76 : decode cX2_nextRow 76 = .ok (.iadd, 1) := dk_96 (dk_at dksX2_nextRow_3 5 rfl rfl)
theorem dX2_nextRow_77 : decode cX2_nextRow 77 = .ok (.istore_n 3, 1) := dk_62 (dk_at dksX2_nextRow_3 6 rfl rfl)
theorem dX2_nextRow_78 : decode cX2_nextRow 78 = .ok (.aload_n 0, 1) := dk_42 (dk_at dksX2_nextRow_3 7 rfl rfl)
theorem dX2_nextRow_79 : decode cX2_nextRow 79 = .ok (.getfield 367, 3) := dk_180 1 111 (dk_at dksX2_nextRow_3 8 rfl rfl)
theorem dX2_nextRow_82 : decode cX2_nextRow 82 = .ok (.iconst 1, 1) := dk_4 (dk_at dksX2_nextRow_3 11 rfl rfl)
theorem dX2_nextRow_83 : decode cX2_nextRow 83 = .ok (.isub, 1) := dk_100 (dk_at dksX2_nextRow_3 12 rfl rfl)
theorem dX2_nextRow_84 : decode cX2_nextRow 84 = .ok (.istore 4, 2) := dk_54 4 (dk_at dksX2_nextRow_3 13 rfl rfl)
theorem dX2_nextRow_86 : decode cX2_nextRow 86 = .ok (.iload_n 3, 1) := dk_29 (dk_at dksX2_nextRow_3 15 rfl rfl)
theorem dX2_nextRow_87 : decode cX2_nextRow 87 = .ok (.iload 4, 2) := dk_21 4 (dk_at dksX2_nextRow_3 16 rfl rfl)
theorem dX2_nextRow_89 : decode cX2_nextRow 89 = .ok (.if_icmp .ge 19, 3) := dk_162 0 19 (dk_at dksX2_nextRow_3 18 rfl rfl)
theorem dX2_nextRow_92 : decode cX2_nextRow 92 = .ok (.aload_n 0, 1) := dk_42 (dk_at dksX2_nextRow_3 21 rfl rfl)
theorem dX2_nextRow_93 : decode cX2_nextRow 93 = .ok (.iload_n 3, 1) := dk_29 (dk_at dksX2_nextRow_3 22 rfl rfl)
theorem dX2_nextRow_94 : decode cX2_nextRow 94 = .ok (.iload 4, 2) := dk_21 4 (dk_at dksX2_nextRow_4 0 rfl rfl)
theorem dX2_nextRow_96 : decode cX2_nextRow 96 = .ok (.invokevirtual 385, 3) := dk_182 1 129 (dk_at dksX2_nextRow_4 2 rfl rfl)
theorem dX2_nextRow_99 : decode cX2_nextRow 99 = .ok (.iinc 3 1, 3) := dk_132 3 1 (dk_at dksX2_nextRow_4 5 rfl rfl)
theorem dX2_nextRow_102 : decode cX2_nextRow 102 = .ok (.iinc 4 (-1), 3) := dk_132 4 255 (dk_at dksX2_nextRow_4 8 rfl rfl)
theorem dX2_nextRow_105 : decode cX2_nextRow 105 = .ok (.goto (-19), 3) := dk_167 255 237 (dk_at dksX2_nextRow_4 11 rfl rfl)
theorem dX2_nextRow_108 : decode cX2_nextRow 108 = .ok (.iconst 1, 1) := dk_4 (dk_at dksX2_nextRow_4 14 rfl rfl)
theorem dX2_nextRow_109 : decode cX2_nextRow 109 = .ok (.ireturn, 1) := dk_172 (dk_at dksX2_nextRow_4 15 rfl rfl)
abbrev cX2_exchange : ByteArray := prog_15_method_96_code
def yX2_exchange : MethodName := ⟨RX2, "exchange", "(II)V"⟩
def dkwX2_exchange_1 : List UInt8 := [29, 79, 177]
abbrev dktX2_exchange_1 : List UInt8 := dkwX2_exchange_1 ++ []
def dkwX2_exchange_0 : List UInt8 := [42, 180, 0, 39, 27, 46, 62, 42, 180, 0, 39, 27, 42, 180, 0, 39, 28, 46, 79, 42, 180, 0, 39, 28]
abbrev dktX2_exchange_0 : List UInt8 := dkwX2_exchange_0 ++ dktX2_exchange_1
theorem dksX2_exchange_0 : cX2_exchange.data.toList.drop 0 = dktX2_exchange_0 := by decide +kernel
theorem dksX2_exchange_1 : cX2_exchange.data.toList.drop 24 = dktX2_exchange_1 := dk_seg dksX2_exchange_0 24 rfl rfl
theorem dX2_exchange_0 : decode cX2_exchange 0 = .ok (.aload_n 0, 1) := dk_42 (dk_at dksX2_exchange_0 0 rfl rfl)
theorem dX2_exchange_1 : decode cX2_exchange 1 = .ok (.getfield 39, 3) := dk_180 0 39 (dk_at dksX2_exchange_0 1 rfl rfl)
theorem dX2_exchange_4 : decode cX2_exchange 4 = .ok (.iload_n 1, 1) := dk_27 (dk_at dksX2_exchange_0 4 rfl rfl)
theorem dX2_exchange_5 : decode cX2_exchange 5 = .ok (.iaload, 1) := dk_46 (dk_at dksX2_exchange_0 5 rfl rfl)
theorem dX2_exchange_6 : decode cX2_exchange 6 = .ok (.istore_n 3, 1) := dk_62 (dk_at dksX2_exchange_0 6 rfl rfl)
theorem dX2_exchange_7 : decode cX2_exchange 7 = .ok (.aload_n 0, 1) := dk_42 (dk_at dksX2_exchange_0 7 rfl rfl)
theorem dX2_exchange_8 : decode cX2_exchange 8 = .ok (.getfield 39, 3) := dk_180 0 39 (dk_at dksX2_exchange_0 8 rfl rfl)
theorem dX2_exchange_11 : decode cX2_exchange 11 = .ok (.iload_n 1, 1) := dk_27 (dk_at dksX2_exchange_0 11 rfl rfl)
theorem dX2_exchange_12 : decode cX2_exchange 12 = .ok (.aload_n 0, 1) := dk_42 (dk_at dksX2_exchange_0 12 rfl rfl)
theorem dX2_exchange_13 : decode cX2_exchange 13 = .ok (.getfield 39, 3) := dk_180 0 39 (dk_at dksX2_exchange_0 13 rfl rfl)
theorem dX2_exchange_16 : decode cX2_exchange 16 = .ok (.iload_n 2, 1) := dk_28 (dk_at dksX2_exchange_0 16 rfl rfl)
theorem dX2_exchange_17 : decode cX2_exchange 17 = .ok (.iaload, 1) := dk_46 (dk_at dksX2_exchange_0 17 rfl rfl)
theorem dX2_exchange_18 : decode cX2_exchange 18 = .ok (.iastore, 1) := dk_79 (dk_at dksX2_exchange_0 18 rfl rfl)
theorem dX2_exchange_19 : decode cX2_exchange 19 = .ok (.aload_n 0, 1) := dk_42 (dk_at dksX2_exchange_0 19 rfl rfl)
theorem dX2_exchange_20 : decode cX2_exchange 20 = .ok (.getfield 39, 3) := dk_180 0 39 (dk_at dksX2_exchange_0 20 rfl rfl)
theorem dX2_exchange_23 : decode cX2_exchange 23 = .ok (.iload_n 2, 1) := dk_28 (dk_at dksX2_exchange_0 23 rfl rfl)
theorem dX2_exchange_24 : decode cX2_exchange 24 = .ok (.iload_n 3, 1) := dk_29 (dk_at dksX2_exchange_1 0 rfl rfl)
theorem dX2_exchange_25 : decode cX2_exchange 25 = .ok (.iastore, 1) := dk_79 (dk_at dksX2_exchange_1 1 rfl rfl)
theorem dX2_exchange_26 : decode cX2_exchange 26 = .ok (.return_, 1) := dk_177 (dk_at dksX2_exchange_1 2 rfl rfl)
abbrev cX2_putBack : ByteArray := prog_15_method_94_code
def yX2_putBack : MethodName := ⟨RX2, "putBack", "()V"⟩
def dkwX2_putBack_1 : List UInt8 := [132, 1, 1, 167, 255, 231, 177]
abbrev dktX2_putBack_1 : List UInt8 := dkwX2_putBack_1 ++ []
def dkwX2_putBack_0 : List UInt8 := [3, 60, 27, 16, 6, 162, 0, 25, 42, 180, 0, 7, 17, 0, 242, 27, 96, 42, 180, 0, 42, 27, 46, 79]
abbrev dktX2_putBack_0 : List UInt8 := dkwX2_putBack_0 ++ dktX2_putBack_1
theorem dksX2_putBack_0 : cX2_putBack.data.toList.drop 0 = dktX2_putBack_0 := by decide +kernel
theorem dksX2_putBack_1 : cX2_putBack.data.toList.drop 24 = dktX2_putBack_1 := dk_seg dksX2_putBack_0 24 rfl rfl
theorem dX2_putBack_0 : decode cX2_putBack 0 = .ok (.iconst 0, 1) := dk_3 (dk_at dksX2_putBack_0 0 rfl rfl)
theorem dX2_putBack_1 : decode cX2_putBack 1 = .ok (.istore_n 1, 1) := dk_60 (dk_at dksX2_putBack_0 1 rfl rfl)
theorem dX2_putBack_2 : decode cX2_putBack 2 = .ok (.iload_n 1, 1) := dk_27 (dk_at dksX2_putBack_0 2 rfl rfl)
theorem dX2_putBack_3 : decode cX2_putBack 3 = .ok (.bipush 6, 2) := dk_16 6 (dk_at dksX2_putBack_0 3 rfl rfl)
theorem dX2_putBack_5 : decode cX2_putBack 5 = .ok (.if_icmp .ge 25, 3) := dk_162 0 25 (dk_at dksX2_putBack_0 5 rfl rfl)
theorem dX2_putBack_8 : decode cX2_putBack 8 = .ok (.aload_n 0, 1) := dk_42 (dk_at dksX2_putBack_0 8 rfl rfl)
theorem dX2_putBack_9 : decode cX2_putBack 9 = .ok (.getfield 7, 3) := dk_180 0 7 (dk_at dksX2_putBack_0 9 rfl rfl)
theorem dX2_putBack_12 : decode cX2_putBack 12 = .ok (.sipush 242, 3) := dk_17 0 242 (dk_at dksX2_putBack_0 12 rfl rfl)
theorem dX2_putBack_15 : decode cX2_putBack 15 = .ok (.iload_n 1, 1) := dk_27 (dk_at dksX2_putBack_0 15 rfl rfl)
theorem dX2_putBack_16 : decode cX2_putBack 16 = .ok (.iadd, 1) := dk_96 (dk_at dksX2_putBack_0 16 rfl rfl)
theorem dX2_putBack_17 : decode cX2_putBack 17 = .ok (.aload_n 0, 1) := dk_42 (dk_at dksX2_putBack_0 17 rfl rfl)
theorem dX2_putBack_18 : decode cX2_putBack 18 = .ok (.getfield 42, 3) := dk_180 0 42 (dk_at dksX2_putBack_0 18 rfl rfl)
theorem dX2_putBack_21 : decode cX2_putBack 21 = .ok (.iload_n 1, 1) := dk_27 (dk_at dksX2_putBack_0 21 rfl rfl)
theorem dX2_putBack_22 : decode cX2_putBack 22 = .ok (.iaload, 1) := dk_46 (dk_at dksX2_putBack_0 22 rfl rfl)
theorem dX2_putBack_23 : decode cX2_putBack 23 = .ok (.iastore, 1) := dk_79 (dk_at dksX2_putBack_0 23 rfl rfl)
theorem dX2_putBack_24 : decode cX2_putBack 24 = .ok (.iinc 1 1, 3) := dk_132 1 1 (dk_at dksX2_putBack_1 0 rfl rfl)
theorem dX2_putBack_27 : decode cX2_putBack 27 = .ok (.goto (-25), 3) := dk_167 255 231 (dk_at dksX2_putBack_1 3 rfl rfl)
theorem dX2_putBack_30 : decode cX2_putBack 30 = .ok (.return_, 1) := dk_177 (dk_at dksX2_putBack_1 6 rfl rfl)
abbrev cX2_passing : ByteArray := prog_15_method_101_code
def yX2_passing : MethodName := ⟨RX2, "passing", "(II)I"⟩
def dkwX2_passing_6 : List UInt8 := [167, 0, 5, 16, 254, 172]
abbrev dktX2_passing_6 : List UInt8 := dkwX2_passing_6 ++ []
def dkwX2_passing_5 : List UInt8 := [167, 0, 4, 3, 172, 21, 4, 153, 0, 20, 28, 42, 180, 1, 111, 162, 0, 12, 42, 180, 0, 39, 28, 46]
abbrev dktX2_passing_5 : List UInt8 := dkwX2_passing_5 ++ dktX2_passing_6
def dkwX2_passing_4 : List UInt8 := [167, 0, 4, 3, 62, 167, 255, 188, 42, 182, 1, 148, 28, 2, 160, 0, 14, 21, 4, 153, 0, 7, 4]
abbrev dktX2_passing_4 : List UInt8 := dkwX2_passing_4 ++ dktX2_passing_5
def dkwX2_passing_3 : List UInt8 := [163, 0, 7, 4, 167, 0, 4, 3, 54, 4, 21, 4, 154, 0, 14, 42, 182, 1, 144, 153, 0, 7, 4]
abbrev dktX2_passing_3 : List UInt8 := dkwX2_passing_3 ++ dktX2_passing_4
def dkwX2_passing_2 : List UInt8 := [46, 182, 1, 138, 54, 5, 42, 182, 1, 59, 158, 0, 21, 21, 5, 42, 180, 0, 7, 16, 12, 27, 96, 46]
abbrev dktX2_passing_2 : List UInt8 := dkwX2_passing_2 ++ dktX2_passing_3
def dkwX2_passing_1 : List UInt8 := [182, 1, 117, 4, 62, 3, 54, 4, 29, 153, 0, 70, 21, 4, 154, 0, 65, 42, 27, 42, 180, 0, 7, 6]
abbrev dktX2_passing_1 : List UInt8 := dkwX2_passing_1 ++ dktX2_passing_2
def dkwX2_passing_0 : List UInt8 := [42, 27, 16, 7, 182, 1, 132, 153, 0, 8, 28, 2, 162, 0, 6, 16, 254, 172, 42, 182, 1, 135, 42, 27]
abbrev dktX2_passing_0 : List UInt8 := dkwX2_passing_0 ++ dktX2_passing_1
theorem dksX2_passing_0 : cX2_passing.data.toList.drop 0 = dktX2_passing_0 := by decide +kernel
theorem dksX2_passing_1 : cX2_passing.data.toList.drop 24 = dktX2_passing_1 := dk_seg dksX2_passing_0 24 rfl rfl
theorem dksX2_passing_2 : cX2_passing.data.toList.drop 48 = dktX2_passing_2 := dk_seg dksX2_passing_1 24 rfl rfl
theorem dksX2_passing_3 : cX2_passing.data.toList.drop 72 = dktX2_passing_3 := dk_seg dksX2_passing_2 24 rfl rfl
theorem dksX2_passing_4 : cX2_passing.data.toList.drop 95 = dktX2_passing_4 := dk_seg dksX2_passing_3 23 rfl rfl
theorem dksX2_passing_5 : cX2_passing.data.toList.drop 118 = dktX2_passing_5 := dk_seg dksX2_passing_4 23 rfl rfl
theorem dksX2_passing_6 : cX2_passing.data.toList.drop 142 = dktX2_passing_6 := dk_seg dksX2_passing_5 24 rfl rfl
theorem dX2_passing_0 : decode cX2_passing 0 = .ok (.aload_n 0, 1) := dk_42 (dk_at dksX2_passing_0 0 rfl rfl)
theorem dX2_passing_1 : decode cX2_passing 1 = .ok (.iload_n 1, 1) := dk_27 (dk_at dksX2_passing_0 1 rfl rfl)
theorem dX2_passing_2 : decode cX2_passing 2 = .ok (.bipush 7, 2) := dk_16 7 (dk_at dksX2_passing_0 2 rfl rfl)
theorem dX2_passing_4 : decode cX2_passing 4 = .ok (.invokevirtual 388, 3) := dk_182 1 132 (dk_at dksX2_passing_0 4 rfl rfl)
theorem dX2_passing_7 : decode cX2_passing 7 = .ok (.ifCond .eq 8, 3) := dk_153 0 8 (dk_at dksX2_passing_0 7 rfl rfl)
theorem dX2_passing_10 : decode cX2_passing 10 = .ok (.iload_n 2, 1) := dk_28 (dk_at dksX2_passing_0 10 rfl rfl)
theorem dX2_passing_11 : decode cX2_passing 11 = .ok (.iconst (-1), 1) := dk_2 (dk_at dksX2_passing_0 11 rfl rfl)
theorem dX2_passing_12 : decode cX2_passing 12 = .ok (.if_icmp .ge 6, 3) := dk_162 0 6 (dk_at dksX2_passing_0 12 rfl rfl)
theorem dX2_passing_15 : decode cX2_passing 15 = .ok (.bipush (-2), 2) := dk_16 254 (dk_at dksX2_passing_0 15 rfl rfl)
theorem dX2_passing_17 : decode cX2_passing 17 = .ok (.ireturn, 1) := dk_172 (dk_at dksX2_passing_0 17 rfl rfl)
theorem dX2_passing_18 : decode cX2_passing 18 = .ok (.aload_n 0, 1) := dk_42 (dk_at dksX2_passing_0 18 rfl rfl)
theorem dX2_passing_19 : decode cX2_passing 19 = .ok (.invokevirtual 391, 3) := dk_182 1 135 (dk_at dksX2_passing_0 19 rfl rfl)
theorem dX2_passing_22 : decode cX2_passing 22 = .ok (.aload_n 0, 1) := dk_42 (dk_at dksX2_passing_0 22 rfl rfl)
theorem dX2_passing_23 : decode cX2_passing 23 = .ok (.iload_n 1, 1) := dk_27 (dk_at dksX2_passing_0 23 rfl rfl)
theorem dX2_passing_24 : decode cX2_passing 24 = .ok (.invokevirtual 373, 3) := dk_182 1 117 (dk_at dksX2_passing_1 0 rfl rfl)
theorem dX2_passing_27 : decode cX2_passing 27 = .ok (.iconst 1, 1) := dk_4 (dk_at dksX2_passing_1 3 rfl rfl)
theorem dX2_passing_28 : decode cX2_passing 28 = .ok (.istore_n 3, 1) := dk_62 (dk_at dksX2_passing_1 4 rfl rfl)
theorem dX2_passing_29 : decode cX2_passing 29 = .ok (.iconst 0, 1) := dk_3 (dk_at dksX2_passing_1 5 rfl rfl)
theorem dX2_passing_30 : decode cX2_passing 30 = .ok (.istore 4, 2) := dk_54 4 (dk_at dksX2_passing_1 6 rfl rfl)
theorem dX2_passing_32 : decode cX2_passing 32 = .ok (.iload_n 3, 1) := dk_29 (dk_at dksX2_passing_1 8 rfl rfl)
theorem dX2_passing_33 : decode cX2_passing 33 = .ok (.ifCond .eq 70, 3) := dk_153 0 70 (dk_at dksX2_passing_1 9 rfl rfl)
theorem dX2_passing_36 : decode cX2_passing 36 = .ok (.iload 4, 2) := dk_21 4 (dk_at dksX2_passing_1 12 rfl rfl)
theorem dX2_passing_38 : decode cX2_passing 38 = .ok (.ifCond .ne 65, 3) := dk_154 0 65 (dk_at dksX2_passing_1 14 rfl rfl)
theorem dX2_passing_41 : decode cX2_passing 41 = .ok (.aload_n 0, 1) := dk_42 (dk_at dksX2_passing_1 17 rfl rfl)
theorem dX2_passing_42 : decode cX2_passing 42 = .ok (.iload_n 1, 1) := dk_27 (dk_at dksX2_passing_1 18 rfl rfl)
theorem dX2_passing_43 : decode cX2_passing 43 = .ok (.aload_n 0, 1) := dk_42 (dk_at dksX2_passing_1 19 rfl rfl)
theorem dX2_passing_44 : decode cX2_passing 44 = .ok (.getfield 7, 3) := dk_180 0 7 (dk_at dksX2_passing_1 20 rfl rfl)
theorem dX2_passing_47 : decode cX2_passing 47 = .ok (.iconst 3, 1) := dk_6 (dk_at dksX2_passing_1 23 rfl rfl)
theorem dX2_passing_48 : decode cX2_passing 48 = .ok (.iaload, 1) := dk_46 (dk_at dksX2_passing_2 0 rfl rfl)
theorem dX2_passing_49 : decode cX2_passing 49 = .ok (.invokevirtual 394, 3) := dk_182 1 138 (dk_at dksX2_passing_2 1 rfl rfl)
theorem dX2_passing_52 : decode cX2_passing 52 = .ok (.istore 5, 2) := dk_54 5 (dk_at dksX2_passing_2 4 rfl rfl)
theorem dX2_passing_54 : decode cX2_passing 54 = .ok (.aload_n 0, 1) := dk_42 (dk_at dksX2_passing_2 6 rfl rfl)
theorem dX2_passing_55 : decode cX2_passing 55 = .ok (.invokevirtual 315, 3) := dk_182 1 59 (dk_at dksX2_passing_2 7 rfl rfl)
theorem dX2_passing_58 : decode cX2_passing 58 = .ok (.ifCond .le 21, 3) := dk_158 0 21 (dk_at dksX2_passing_2 10 rfl rfl)
theorem dX2_passing_61 : decode cX2_passing 61 = .ok (.iload 5, 2) := dk_21 5 (dk_at dksX2_passing_2 13 rfl rfl)
theorem dX2_passing_63 : decode cX2_passing 63 = .ok (.aload_n 0, 1) := dk_42 (dk_at dksX2_passing_2 15 rfl rfl)
theorem dX2_passing_64 : decode cX2_passing 64 = .ok (.getfield 7, 3) := dk_180 0 7 (dk_at dksX2_passing_2 16 rfl rfl)
theorem dX2_passing_67 : decode cX2_passing 67 = .ok (.bipush 12, 2) := dk_16 12 (dk_at dksX2_passing_2 19 rfl rfl)
theorem dX2_passing_69 : decode cX2_passing 69 = .ok (.iload_n 1, 1) := dk_27 (dk_at dksX2_passing_2 21 rfl rfl)
theorem dX2_passing_70 : decode cX2_passing 70 = .ok (.iadd, 1) := dk_96 (dk_at dksX2_passing_2 22 rfl rfl)
theorem dX2_passing_71 : decode cX2_passing 71 = .ok (.iaload, 1) := dk_46 (dk_at dksX2_passing_2 23 rfl rfl)
theorem dX2_passing_72 : decode cX2_passing 72 = .ok (.if_icmp .gt 7, 3) := dk_163 0 7 (dk_at dksX2_passing_3 0 rfl rfl)
theorem dX2_passing_75 : decode cX2_passing 75 = .ok (.iconst 1, 1) := dk_4 (dk_at dksX2_passing_3 3 rfl rfl)
theorem dX2_passing_76 : decode cX2_passing 76 = .ok (.goto 4, 3) := dk_167 0 4 (dk_at dksX2_passing_3 4 rfl rfl)
theorem dX2_passing_79 : decode cX2_passing 79 = .ok (.iconst 0, 1) := dk_3 (dk_at dksX2_passing_3 7 rfl rfl)
theorem dX2_passing_80 : decode cX2_passing 80 = .ok (.istore 4, 2) := dk_54 4 (dk_at dksX2_passing_3 8 rfl rfl)
theorem dX2_passing_82 : decode cX2_passing 82 = .ok (.iload 4, 2) := dk_21 4 (dk_at dksX2_passing_3 10 rfl rfl)
theorem dX2_passing_84 : decode cX2_passing 84 = .ok (.ifCond .ne 14, 3) := dk_154 0 14 (dk_at dksX2_passing_3 12 rfl rfl)
theorem dX2_passing_87 : decode cX2_passing 87 = .ok (.aload_n 0, 1) := dk_42 (dk_at dksX2_passing_3 15 rfl rfl)
theorem dX2_passing_88 : decode cX2_passing 88 = .ok (.invokevirtual 400, 3) := dk_182 1 144 (dk_at dksX2_passing_3 16 rfl rfl)
theorem dX2_passing_91 : decode cX2_passing 91 = .ok (.ifCond .eq 7, 3) := dk_153 0 7 (dk_at dksX2_passing_3 19 rfl rfl)
theorem dX2_passing_94 : decode cX2_passing 94 = .ok (.iconst 1, 1) := dk_4 (dk_at dksX2_passing_3 22 rfl rfl)
theorem dX2_passing_95 : decode cX2_passing 95 = .ok (.goto 4, 3) := dk_167 0 4 (dk_at dksX2_passing_4 0 rfl rfl)
theorem dX2_passing_98 : decode cX2_passing 98 = .ok (.iconst 0, 1) := dk_3 (dk_at dksX2_passing_4 3 rfl rfl)
theorem dX2_passing_99 : decode cX2_passing 99 = .ok (.istore_n 3, 1) := dk_62 (dk_at dksX2_passing_4 4 rfl rfl)
theorem dX2_passing_100 : decode cX2_passing 100 = .ok (.goto (-68), 3) := dk_167 255 188 (dk_at dksX2_passing_4 5 rfl rfl)
theorem dX2_passing_103 : decode cX2_passing 103 = .ok (.aload_n 0, 1) := dk_42 (dk_at dksX2_passing_4 8 rfl rfl)
theorem dX2_passing_104 : decode cX2_passing 104 = .ok (.invokevirtual 404, 3) := dk_182 1 148 (dk_at dksX2_passing_4 9 rfl rfl)
theorem dX2_passing_107 : decode cX2_passing 107 = .ok (.iload_n 2, 1) := dk_28 (dk_at dksX2_passing_4 12 rfl rfl)
theorem dX2_passing_108 : decode cX2_passing 108 = .ok (.iconst (-1), 1) := dk_2 (dk_at dksX2_passing_4 13 rfl rfl)
theorem dX2_passing_109 : decode cX2_passing 109 = .ok (.if_icmp .ne 14, 3) := dk_160 0 14 (dk_at dksX2_passing_4 14 rfl rfl)
theorem dX2_passing_112 : decode cX2_passing 112 = .ok (.iload 4, 2) := dk_21 4 (dk_at dksX2_passing_4 17 rfl rfl)
theorem dX2_passing_114 : decode cX2_passing 114 = .ok (.ifCond .eq 7, 3) := dk_153 0 7 (dk_at dksX2_passing_4 19 rfl rfl)
theorem dX2_passing_117 : decode cX2_passing 117 = .ok (.iconst 1, 1) := dk_4 (dk_at dksX2_passing_4 22 rfl rfl)
theorem dX2_passing_118 : decode cX2_passing 118 = .ok (.goto 4, 3) := dk_167 0 4 (dk_at dksX2_passing_5 0 rfl rfl)
theorem dX2_passing_121 : decode cX2_passing 121 = .ok (.iconst 0, 1) := dk_3 (dk_at dksX2_passing_5 3 rfl rfl)
theorem dX2_passing_122 : decode cX2_passing 122 = .ok (.ireturn, 1) := dk_172 (dk_at dksX2_passing_5 4 rfl rfl)
theorem dX2_passing_123 : decode cX2_passing 123 = .ok (.iload 4, 2) := dk_21 4 (dk_at dksX2_passing_5 5 rfl rfl)
theorem dX2_passing_125 : decode cX2_passing 125 = .ok (.ifCond .eq 20, 3) := dk_153 0 20 (dk_at dksX2_passing_5 7 rfl rfl)
theorem dX2_passing_128 : decode cX2_passing 128 = .ok (.iload_n 2, 1) := dk_28 (dk_at dksX2_passing_5 10 rfl rfl)
theorem dX2_passing_129 : decode cX2_passing 129 = .ok (.aload_n 0, 1) := dk_42 (dk_at dksX2_passing_5 11 rfl rfl)
theorem dX2_passing_130 : decode cX2_passing 130 = .ok (.getfield 367, 3) := dk_180 1 111 (dk_at dksX2_passing_5 12 rfl rfl)
theorem dX2_passing_133 : decode cX2_passing 133 = .ok (.if_icmp .ge 12, 3) := dk_162 0 12 (dk_at dksX2_passing_5 15 rfl rfl)
theorem dX2_passing_136 : decode cX2_passing 136 = .ok (.aload_n 0, 1) := dk_42 (dk_at dksX2_passing_5 18 rfl rfl)
theorem dX2_passing_137 : decode cX2_passing 137 = .ok (.getfield 39, 3) := dk_180 0 39 (dk_at dksX2_passing_5 19 rfl rfl)
theorem dX2_passing_140 : decode cX2_passing 140 = .ok (.iload_n 2, 1) := dk_28 (dk_at dksX2_passing_5 22 rfl rfl)
theorem dX2_passing_141 : decode cX2_passing 141 = .ok (.iaload, 1) := dk_46 (dk_at dksX2_passing_5 23 rfl rfl)
theorem dX2_passing_142 : decode cX2_passing 142 = .ok (.goto 5, 3) := dk_167 0 5 (dk_at dksX2_passing_6 0 rfl rfl)
theorem dX2_passing_145 : decode cX2_passing 145 = .ok (.bipush (-2), 2) := dk_16 254 (dk_at dksX2_passing_6 3 rfl rfl)
theorem dX2_passing_147 : decode cX2_passing 147 = .ok (.ireturn, 1) := dk_172 (dk_at dksX2_passing_6 5 rfl rfl)
abbrev cX2_orderless : ByteArray := prog_15_method_103_code
def yX2_orderless : MethodName := ⟨RX2, "orderless", "(I)I"⟩
def dkwX2_orderless_1 : List UInt8 := [182, 1, 151, 61, 42, 182, 1, 148, 28, 153, 0, 7, 4, 167, 0, 4, 3, 172]
abbrev dktX2_orderless_1 : List UInt8 := dkwX2_orderless_1 ++ []
def dkwX2_orderless_0 : List UInt8 := [42, 27, 16, 7, 182, 1, 132, 154, 0, 5, 2, 172, 42, 182, 1, 135, 42, 27, 42, 180, 0, 7, 6, 46]
abbrev dktX2_orderless_0 : List UInt8 := dkwX2_orderless_0 ++ dktX2_orderless_1
theorem dksX2_orderless_0 : cX2_orderless.data.toList.drop 0 = dktX2_orderless_0 := by decide +kernel
theorem dksX2_orderless_1 : cX2_orderless.data.toList.drop 24 = dktX2_orderless_1 := dk_seg dksX2_orderless_0 24 rfl rfl
theorem dX2_orderless_0 : decode cX2_orderless 0 = .ok (.aload_n 0, 1) := dk_42 (dk_at dksX2_orderless_0 0 rfl rfl)
theorem dX2_orderless_1 : decode cX2_orderless 1 = .ok (.iload_n 1, 1) := dk_27 (dk_at dksX2_orderless_0 1 rfl rfl)
theorem dX2_orderless_2 : decode cX2_orderless 2 = .ok (.bipush 7, 2) := dk_16 7 (dk_at dksX2_orderless_0 2 rfl rfl)
theorem dX2_orderless_4 : decode cX2_orderless 4 = .ok (.invokevirtual 388, 3) := dk_182 1 132 (dk_at dksX2_orderless_0 4 rfl rfl)
theorem dX2_orderless_7 : decode cX2_orderless 7 = .ok (.ifCond .ne 5, 3) := dk_154 0 5 (dk_at dksX2_orderless_0 7 rfl rfl)
theorem dX2_orderless_10 : decode cX2_orderless 10 = .ok (.iconst (-1), 1) := dk_2 (dk_at dksX2_orderless_0 10 rfl rfl)
theorem dX2_orderless_11 : decode cX2_orderless 11 = .ok (.ireturn, 1) := dk_172 (dk_at dksX2_orderless_0 11 rfl rfl)
theorem dX2_orderless_12 : decode cX2_orderless 12 = .ok (.aload_n 0, 1) := dk_42 (dk_at dksX2_orderless_0 12 rfl rfl)
theorem dX2_orderless_13 : decode cX2_orderless 13 = .ok (.invokevirtual 391, 3) := dk_182 1 135 (dk_at dksX2_orderless_0 13 rfl rfl)
theorem dX2_orderless_16 : decode cX2_orderless 16 = .ok (.aload_n 0, 1) := dk_42 (dk_at dksX2_orderless_0 16 rfl rfl)
theorem dX2_orderless_17 : decode cX2_orderless 17 = .ok (.iload_n 1, 1) := dk_27 (dk_at dksX2_orderless_0 17 rfl rfl)
theorem dX2_orderless_18 : decode cX2_orderless 18 = .ok (.aload_n 0, 1) := dk_42 (dk_at dksX2_orderless_0 18 rfl rfl)
theorem dX2_orderless_19 : decode cX2_orderless 19 = .ok (.getfield 7, 3) := dk_180 0 7 (dk_at dksX2_orderless_0 19 rfl rfl)
theorem dX2_orderless_22 : decode cX2_orderless 22 = .ok (.iconst 3, 1) := dk_6 (dk_at dksX2_orderless_0 22 rfl rfl)
theorem dX2_orderless_23 : decode cX2_orderless 23 = .ok (.iaload, 1) := dk_46 (dk_at dksX2_orderless_0 23 rfl rfl)
theorem dX2_orderless_24 : decode cX2_orderless 24 = .ok (.invokevirtual 407, 3) := dk_182 1 151 (dk_at dksX2_orderless_1 0 rfl rfl)
theorem dX2_orderless_27 : decode cX2_orderless 27 = .ok (.istore_n 2, 1) := dk_61 (dk_at dksX2_orderless_1 3 rfl rfl)
theorem dX2_orderless_28 : decode cX2_orderless 28 = .ok (.aload_n 0, 1) := dk_42 (dk_at dksX2_orderless_1 4 rfl rfl)
theorem dX2_orderless_29 : decode cX2_orderless 29 = .ok (.invokevirtual 404, 3) := dk_182 1 148 (dk_at dksX2_orderless_1 5 rfl rfl)
theorem dX2_orderless_32 : decode cX2_orderless 32 = .ok (.iload_n 2, 1) := dk_28 (dk_at dksX2_orderless_1 8 rfl rfl)
theorem dX2_orderless_33 : decode cX2_orderless 33 = .ok (.ifCond .eq 7, 3) := dk_153 0 7 (dk_at dksX2_orderless_1 9 rfl rfl)
theorem dX2_orderless_36 : decode cX2_orderless 36 = .ok (.iconst 1, 1) := dk_4 (dk_at dksX2_orderless_1 12 rfl rfl)
theorem dX2_orderless_37 : decode cX2_orderless 37 = .ok (.goto 4, 3) := dk_167 0 4 (dk_at dksX2_orderless_1 13 rfl rfl)
theorem dX2_orderless_40 : decode cX2_orderless 40 = .ok (.iconst 0, 1) := dk_3 (dk_at dksX2_orderless_1 16 rfl rfl)
theorem dX2_orderless_41 : decode cX2_orderless 41 = .ok (.ireturn, 1) := dk_172 (dk_at dksX2_orderless_1 17 rfl rfl)
abbrev cX2_isOrderless : ByteArray := prog_15_method_102_code
def yX2_isOrderless : MethodName := ⟨RX2, "isOrderless", "(II)Z"⟩
def dkwX2_isOrderless_2 : List UInt8 := [21, 4, 172]
abbrev dktX2_isOrderless_2 : List UInt8 := dkwX2_isOrderless_2 ++ []
def dkwX2_isOrderless_1 : List UInt8 := [153, 0, 23, 42, 27, 28, 182, 1, 138, 29, 160, 0, 7, 4, 167, 0, 4, 3, 54, 4, 167, 255, 227]
abbrev dktX2_isOrderless_1 : List UInt8 := dkwX2_isOrderless_1 ++ dktX2_isOrderless_2
def dkwX2_isOrderless_0 : List UInt8 := [42, 27, 182, 1, 117, 42, 27, 28, 182, 1, 138, 62, 4, 54, 4, 21, 4, 153, 0, 30, 42, 182, 1, 144]
abbrev dktX2_isOrderless_0 : List UInt8 := dkwX2_isOrderless_0 ++ dktX2_isOrderless_1
theorem dksX2_isOrderless_0 : cX2_isOrderless.data.toList.drop 0 = dktX2_isOrderless_0 := by decide +kernel
theorem dksX2_isOrderless_1 : cX2_isOrderless.data.toList.drop 24 = dktX2_isOrderless_1 := dk_seg dksX2_isOrderless_0 24 rfl rfl
theorem dksX2_isOrderless_2 : cX2_isOrderless.data.toList.drop 47 = dktX2_isOrderless_2 := dk_seg dksX2_isOrderless_1 23 rfl rfl
theorem dX2_isOrderless_0 : decode cX2_isOrderless 0 = .ok (.aload_n 0, 1) := dk_42 (dk_at dksX2_isOrderless_0 0 rfl rfl)
theorem dX2_isOrderless_1 : decode cX2_isOrderless 1 = .ok (.iload_n 1, 1) := dk_27 (dk_at dksX2_isOrderless_0 1 rfl rfl)
theorem dX2_isOrderless_2 : decode cX2_isOrderless 2 = .ok (.invokevirtual 373, 3) := dk_182 1 117 (dk_at dksX2_isOrderless_0 2 rfl rfl)
theorem dX2_isOrderless_5 : decode cX2_isOrderless 5 = .ok (.aload_n 0, 1) := dk_42 (dk_at dksX2_isOrderless_0 5 rfl rfl)
theorem dX2_isOrderless_6 : decode cX2_isOrderless 6 = .ok (.iload_n 1, 1) := dk_27 (dk_at dksX2_isOrderless_0 6 rfl rfl)
theorem dX2_isOrderless_7 : decode cX2_isOrderless 7 = .ok (.iload_n 2, 1) := dk_28 (dk_at dksX2_isOrderless_0 7 rfl rfl)
theorem dX2_isOrderless_8 : decode cX2_isOrderless 8 = .ok (.invokevirtual 394, 3) := dk_182 1 138 (dk_at dksX2_isOrderless_0 8 rfl rfl)
theorem dX2_isOrderless_11 : decode cX2_isOrderless 11 = .ok (.istore_n 3, 1) := dk_62 (dk_at dksX2_isOrderless_0 11 rfl rfl)
theorem dX2_isOrderless_12 : decode cX2_isOrderless 12 = .ok (.iconst 1, 1) := dk_4 (dk_at dksX2_isOrderless_0 12 rfl rfl)
theorem dX2_isOrderless_13 : decode cX2_isOrderless 13 = .ok (.istore 4, 2) := dk_54 4 (dk_at dksX2_isOrderless_0 13 rfl rfl)
theorem dX2_isOrderless_15 : decode cX2_isOrderless 15 = .ok (.iload 4, 2) := dk_21 4 (dk_at dksX2_isOrderless_0 15 rfl rfl)
theorem dX2_isOrderless_17 : decode cX2_isOrderless 17 = .ok (.ifCond .eq 30, 3) := dk_153 0 30 (dk_at dksX2_isOrderless_0 17 rfl rfl)
theorem dX2_isOrderless_20 : decode cX2_isOrderless 20 = .ok (.aload_n 0, 1) := dk_42 (dk_at dksX2_isOrderless_0 20 rfl rfl)
theorem dX2_isOrderless_21 : decode cX2_isOrderless 21 = .ok (.invokevirtual 400, 3) := dk_182 1 144 (dk_at dksX2_isOrderless_0 21 rfl rfl)
theorem dX2_isOrderless_24 : decode cX2_isOrderless 24 = .ok (.ifCond .eq 23, 3) := dk_153 0 23 (dk_at dksX2_isOrderless_1 0 rfl rfl)
theorem dX2_isOrderless_27 : decode cX2_isOrderless 27 = .ok (.aload_n 0, 1) := dk_42 (dk_at dksX2_isOrderless_1 3 rfl rfl)
theorem dX2_isOrderless_28 : decode cX2_isOrderless 28 = .ok (.iload_n 1, 1) := dk_27 (dk_at dksX2_isOrderless_1 4 rfl rfl)
theorem dX2_isOrderless_29 : decode cX2_isOrderless 29 = .ok (.iload_n 2, 1) := dk_28 (dk_at dksX2_isOrderless_1 5 rfl rfl)
theorem dX2_isOrderless_30 : decode cX2_isOrderless 30 = .ok (.invokevirtual 394, 3) := dk_182 1 138 (dk_at dksX2_isOrderless_1 6 rfl rfl)
theorem dX2_isOrderless_33 : decode cX2_isOrderless 33 = .ok (.iload_n 3, 1) := dk_29 (dk_at dksX2_isOrderless_1 9 rfl rfl)
theorem dX2_isOrderless_34 : decode cX2_isOrderless 34 = .ok (.if_icmp .ne 7, 3) := dk_160 0 7 (dk_at dksX2_isOrderless_1 10 rfl rfl)
theorem dX2_isOrderless_37 : decode cX2_isOrderless 37 = .ok (.iconst 1, 1) := dk_4 (dk_at dksX2_isOrderless_1 13 rfl rfl)
theorem dX2_isOrderless_38 : decode cX2_isOrderless 38 = .ok (.goto 4, 3) := dk_167 0 4 (dk_at dksX2_isOrderless_1 14 rfl rfl)
theorem dX2_isOrderless_41 : decode cX2_isOrderless 41 = .ok (.iconst 0, 1) := dk_3 (dk_at dksX2_isOrderless_1 17 rfl rfl)
theorem dX2_isOrderless_42 : decode cX2_isOrderless 42 = .ok (.istore 4, 2) := dk_54 4 (dk_at dksX2_isOrderless_1 18 rfl rfl)
theorem dX2_isOrderless_44 : decode cX2_isOrderless 44 = .ok (.goto (-29), 3) := dk_167 255 227 (dk_at dksX2_isOrderless_1 20 rfl rfl)
theorem dX2_isOrderless_47 : decode cX2_isOrderless 47 = .ok (.iload 4, 2) := dk_21 4 (dk_at dksX2_isOrderless_2 0 rfl rfl)
theorem dX2_isOrderless_49 : decode cX2_isOrderless 49 = .ok (.ireturn, 1) := dk_172 (dk_at dksX2_isOrderless_2 2 rfl rfl)
abbrev cX2_sticking : ByteArray := prog_15_method_104_code
def yX2_sticking : MethodName := ⟨RX2, "sticking", "(I)I"⟩
def dkwX2_sticking_2 : List UInt8 := [132, 2, 1, 167, 255, 238, 42, 182, 1, 148, 28, 4, 100, 172]
abbrev dktX2_sticking_2 : List UInt8 := dkwX2_sticking_2 ++ []
def dkwX2_sticking_1 : List UInt8 := [2, 172, 42, 182, 1, 135, 3, 61, 28, 16, 100, 162, 0, 18, 42, 27, 28, 182, 1, 151, 153, 0, 9]
abbrev dktX2_sticking_1 : List UInt8 := dkwX2_sticking_1 ++ dktX2_sticking_2
def dkwX2_sticking_0 : List UInt8 := [42, 27, 8, 182, 1, 132, 153, 0, 18, 42, 42, 180, 0, 7, 16, 7, 46, 4, 182, 1, 22, 155, 0, 5]
abbrev dktX2_sticking_0 : List UInt8 := dkwX2_sticking_0 ++ dktX2_sticking_1
theorem dksX2_sticking_0 : cX2_sticking.data.toList.drop 0 = dktX2_sticking_0 := by decide +kernel
theorem dksX2_sticking_1 : cX2_sticking.data.toList.drop 24 = dktX2_sticking_1 := dk_seg dksX2_sticking_0 24 rfl rfl
theorem dksX2_sticking_2 : cX2_sticking.data.toList.drop 47 = dktX2_sticking_2 := dk_seg dksX2_sticking_1 23 rfl rfl
theorem dX2_sticking_0 : decode cX2_sticking 0 = .ok (.aload_n 0, 1) := dk_42 (dk_at dksX2_sticking_0 0 rfl rfl)
theorem dX2_sticking_1 : decode cX2_sticking 1 = .ok (.iload_n 1, 1) := dk_27 (dk_at dksX2_sticking_0 1 rfl rfl)
theorem dX2_sticking_2 : decode cX2_sticking 2 = .ok (.iconst 5, 1) := dk_8 (dk_at dksX2_sticking_0 2 rfl rfl)
theorem dX2_sticking_3 : decode cX2_sticking 3 = .ok (.invokevirtual 388, 3) := dk_182 1 132 (dk_at dksX2_sticking_0 3 rfl rfl)
theorem dX2_sticking_6 : decode cX2_sticking 6 = .ok (.ifCond .eq 18, 3) := dk_153 0 18 (dk_at dksX2_sticking_0 6 rfl rfl)
theorem dX2_sticking_9 : decode cX2_sticking 9 = .ok (.aload_n 0, 1) := dk_42 (dk_at dksX2_sticking_0 9 rfl rfl)
theorem dX2_sticking_10 : decode cX2_sticking 10 = .ok (.aload_n 0, 1) := dk_42 (dk_at dksX2_sticking_0 10 rfl rfl)
theorem dX2_sticking_11 : decode cX2_sticking 11 = .ok (.getfield 7, 3) := dk_180 0 7 (dk_at dksX2_sticking_0 11 rfl rfl)
theorem dX2_sticking_14 : decode cX2_sticking 14 = .ok (.bipush 7, 2) := dk_16 7 (dk_at dksX2_sticking_0 14 rfl rfl)
theorem dX2_sticking_16 : decode cX2_sticking 16 = .ok (.iaload, 1) := dk_46 (dk_at dksX2_sticking_0 16 rfl rfl)
theorem dX2_sticking_17 : decode cX2_sticking 17 = .ok (.iconst 1, 1) := dk_4 (dk_at dksX2_sticking_0 17 rfl rfl)
theorem dX2_sticking_18 : decode cX2_sticking 18 = .ok (.invokevirtual 278, 3) := dk_182 1 22 (dk_at dksX2_sticking_0 18 rfl rfl)
theorem dX2_sticking_21 : decode cX2_sticking 21 = .ok (.ifCond .lt 5, 3) := dk_155 0 5 (dk_at dksX2_sticking_0 21 rfl rfl)
theorem dX2_sticking_24 : decode cX2_sticking 24 = .ok (.iconst (-1), 1) := dk_2 (dk_at dksX2_sticking_1 0 rfl rfl)
theorem dX2_sticking_25 : decode cX2_sticking 25 = .ok (.ireturn, 1) := dk_172 (dk_at dksX2_sticking_1 1 rfl rfl)
theorem dX2_sticking_26 : decode cX2_sticking 26 = .ok (.aload_n 0, 1) := dk_42 (dk_at dksX2_sticking_1 2 rfl rfl)
theorem dX2_sticking_27 : decode cX2_sticking 27 = .ok (.invokevirtual 391, 3) := dk_182 1 135 (dk_at dksX2_sticking_1 3 rfl rfl)
theorem dX2_sticking_30 : decode cX2_sticking 30 = .ok (.iconst 0, 1) := dk_3 (dk_at dksX2_sticking_1 6 rfl rfl)
theorem dX2_sticking_31 : decode cX2_sticking 31 = .ok (.istore_n 2, 1) := dk_61 (dk_at dksX2_sticking_1 7 rfl rfl)
theorem dX2_sticking_32 : decode cX2_sticking 32 = .ok (.iload_n 2, 1) := dk_28 (dk_at dksX2_sticking_1 8 rfl rfl)
theorem dX2_sticking_33 : decode cX2_sticking 33 = .ok (.bipush 100, 2) := dk_16 100 (dk_at dksX2_sticking_1 9 rfl rfl)
theorem dX2_sticking_35 : decode cX2_sticking 35 = .ok (.if_icmp .ge 18, 3) := dk_162 0 18 (dk_at dksX2_sticking_1 11 rfl rfl)
theorem dX2_sticking_38 : decode cX2_sticking 38 = .ok (.aload_n 0, 1) := dk_42 (dk_at dksX2_sticking_1 14 rfl rfl)
theorem dX2_sticking_39 : decode cX2_sticking 39 = .ok (.iload_n 1, 1) := dk_27 (dk_at dksX2_sticking_1 15 rfl rfl)
theorem dX2_sticking_40 : decode cX2_sticking 40 = .ok (.iload_n 2, 1) := dk_28 (dk_at dksX2_sticking_1 16 rfl rfl)
theorem dX2_sticking_41 : decode cX2_sticking 41 = .ok (.invokevirtual 407, 3) := dk_182 1 151 (dk_at dksX2_sticking_1 17 rfl rfl)
theorem dX2_sticking_44 : decode cX2_sticking 44 = .ok (.ifCond .eq 9, 3) := dk_153 0 9 (dk_at dksX2_sticking_1 20 rfl rfl)
theorem dX2_sticking_47 : decode cX2_sticking 47 = .ok (.iinc 2 1, 3) := dk_132 2 1 (dk_at dksX2_sticking_2 0 rfl rfl)
theorem dX2_sticking_50 : decode cX2_sticking 50 = .ok (.goto (-18), 3) := dk_167 255 238 (dk_at dksX2_sticking_2 3 rfl rfl)
theorem dX2_sticking_53 : decode cX2_sticking 53 = .ok (.aload_n 0, 1) := dk_42 (dk_at dksX2_sticking_2 6 rfl rfl)
theorem dX2_sticking_54 : decode cX2_sticking 54 = .ok (.invokevirtual 404, 3) := dk_182 1 148 (dk_at dksX2_sticking_2 7 rfl rfl)
theorem dX2_sticking_57 : decode cX2_sticking 57 = .ok (.iload_n 2, 1) := dk_28 (dk_at dksX2_sticking_2 10 rfl rfl)
theorem dX2_sticking_58 : decode cX2_sticking 58 = .ok (.iconst 1, 1) := dk_4 (dk_at dksX2_sticking_2 11 rfl rfl)
theorem dX2_sticking_59 : decode cX2_sticking 59 = .ok (.isub, 1) := dk_100 (dk_at dksX2_sticking_2 12 rfl rfl)
theorem dX2_sticking_60 : decode cX2_sticking 60 = .ok (.ireturn, 1) := dk_172 (dk_at dksX2_sticking_2 13 rfl rfl)
abbrev cX2_truly : ByteArray := prog_15_method_105_code
def yX2_truly : MethodName := ⟨RX2, "truly", "(I)I"⟩
def dkwX2_truly_2 : List UInt8 := [167, 255, 224, 28, 172]
abbrev dktX2_truly_2 : List UInt8 := dkwX2_truly_2 ++ []
def dkwX2_truly_1 : List UInt8 := [28, 42, 29, 27, 182, 1, 50, 153, 0, 7, 3, 167, 0, 6, 4, 29, 120, 128, 61, 132, 3, 1]
abbrev dktX2_truly_1 : List UInt8 := dkwX2_truly_1 ++ dktX2_truly_2
def dkwX2_truly_0 : List UInt8 := [42, 27, 182, 0, 88, 154, 0, 5, 2, 172, 3, 61, 3, 62, 29, 42, 180, 0, 7, 5, 46, 162, 0, 28]
abbrev dktX2_truly_0 : List UInt8 := dkwX2_truly_0 ++ dktX2_truly_1
theorem dksX2_truly_0 : cX2_truly.data.toList.drop 0 = dktX2_truly_0 := by decide +kernel
theorem dksX2_truly_1 : cX2_truly.data.toList.drop 24 = dktX2_truly_1 := dk_seg dksX2_truly_0 24 rfl rfl
theorem dksX2_truly_2 : cX2_truly.data.toList.drop 46 = dktX2_truly_2 := dk_seg dksX2_truly_1 22 rfl rfl
theorem dX2_truly_0 : decode cX2_truly 0 = .ok (.aload_n 0, 1) := dk_42 (dk_at dksX2_truly_0 0 rfl rfl)
theorem dX2_truly_1 : decode cX2_truly 1 = .ok (.iload_n 1, 1) := dk_27 (dk_at dksX2_truly_0 1 rfl rfl)
theorem dX2_truly_2 : decode cX2_truly 2 = .ok (.invokevirtual 88, 3) := dk_182 0 88 (dk_at dksX2_truly_0 2 rfl rfl)
theorem dX2_truly_5 : decode cX2_truly 5 = .ok (.ifCond .ne 5, 3) := dk_154 0 5 (dk_at dksX2_truly_0 5 rfl rfl)
theorem dX2_truly_8 : decode cX2_truly 8 = .ok (.iconst (-1), 1) := dk_2 (dk_at dksX2_truly_0 8 rfl rfl)
theorem dX2_truly_9 : decode cX2_truly 9 = .ok (.ireturn, 1) := dk_172 (dk_at dksX2_truly_0 9 rfl rfl)
theorem dX2_truly_10 : decode cX2_truly 10 = .ok (.iconst 0, 1) := dk_3 (dk_at dksX2_truly_0 10 rfl rfl)
theorem dX2_truly_11 : decode cX2_truly 11 = .ok (.istore_n 2, 1) := dk_61 (dk_at dksX2_truly_0 11 rfl rfl)
theorem dX2_truly_12 : decode cX2_truly 12 = .ok (.iconst 0, 1) := dk_3 (dk_at dksX2_truly_0 12 rfl rfl)
theorem dX2_truly_13 : decode cX2_truly 13 = .ok (.istore_n 3, 1) := dk_62 (dk_at dksX2_truly_0 13 rfl rfl)
theorem dX2_truly_14 : decode cX2_truly 14 = .ok (.iload_n 3, 1) := dk_29 (dk_at dksX2_truly_0 14 rfl rfl)
theorem dX2_truly_15 : decode cX2_truly 15 = .ok (.aload_n 0, 1) := dk_42 (dk_at dksX2_truly_0 15 rfl rfl)
theorem dX2_truly_16 : decode cX2_truly 16 = .ok (.getfield 7, 3) := dk_180 0 7 (dk_at dksX2_truly_0 16 rfl rfl)
theorem dX2_truly_19 : decode cX2_truly 19 = .ok (.iconst 2, 1) := dk_5 (dk_at dksX2_truly_0 19 rfl rfl)
theorem dX2_truly_20 : decode cX2_truly 20 = .ok (.iaload, 1) := dk_46 (dk_at dksX2_truly_0 20 rfl rfl)
theorem dX2_truly_21 : decode cX2_truly 21 = .ok (.if_icmp .ge 28, 3) := dk_162 0 28 (dk_at dksX2_truly_0 21 rfl rfl)
theorem dX2_truly_24 : decode cX2_truly 24 = .ok (.iload_n 2, 1) := dk_28 (dk_at dksX2_truly_1 0 rfl rfl)
theorem dX2_truly_25 : decode cX2_truly 25 = .ok (.aload_n 0, 1) := dk_42 (dk_at dksX2_truly_1 1 rfl rfl)
theorem dX2_truly_26 : decode cX2_truly 26 = .ok (.iload_n 3, 1) := dk_29 (dk_at dksX2_truly_1 2 rfl rfl)
theorem dX2_truly_27 : decode cX2_truly 27 = .ok (.iload_n 1, 1) := dk_27 (dk_at dksX2_truly_1 3 rfl rfl)
theorem dX2_truly_28 : decode cX2_truly 28 = .ok (.invokevirtual 306, 3) := dk_182 1 50 (dk_at dksX2_truly_1 4 rfl rfl)
theorem dX2_truly_31 : decode cX2_truly 31 = .ok (.ifCond .eq 7, 3) := dk_153 0 7 (dk_at dksX2_truly_1 7 rfl rfl)
theorem dX2_truly_34 : decode cX2_truly 34 = .ok (.iconst 0, 1) := dk_3 (dk_at dksX2_truly_1 10 rfl rfl)
theorem dX2_truly_35 : decode cX2_truly 35 = .ok (.goto 6, 3) := dk_167 0 6 (dk_at dksX2_truly_1 11 rfl rfl)
theorem dX2_truly_38 : decode cX2_truly 38 = .ok (.iconst 1, 1) := dk_4 (dk_at dksX2_truly_1 14 rfl rfl)
theorem dX2_truly_39 : decode cX2_truly 39 = .ok (.iload_n 3, 1) := dk_29 (dk_at dksX2_truly_1 15 rfl rfl)
theorem dX2_truly_40 : decode cX2_truly 40 = .ok (.ishl, 1) := dk_120 (dk_at dksX2_truly_1 16 rfl rfl)
theorem dX2_truly_41 : decode cX2_truly 41 = .ok (.ior, 1) := dk_128 (dk_at dksX2_truly_1 17 rfl rfl)
theorem dX2_truly_42 : decode cX2_truly 42 = .ok (.istore_n 2, 1) := dk_61 (dk_at dksX2_truly_1 18 rfl rfl)
theorem dX2_truly_43 : decode cX2_truly 43 = .ok (.iinc 3 1, 3) := dk_132 3 1 (dk_at dksX2_truly_1 19 rfl rfl)
theorem dX2_truly_46 : decode cX2_truly 46 = .ok (.goto (-32), 3) := dk_167 255 224 (dk_at dksX2_truly_2 0 rfl rfl)
theorem dX2_truly_49 : decode cX2_truly 49 = .ok (.iload_n 2, 1) := dk_28 (dk_at dksX2_truly_2 3 rfl rfl)
theorem dX2_truly_50 : decode cX2_truly 50 = .ok (.ireturn, 1) := dk_172 (dk_at dksX2_truly_2 4 rfl rfl)
abbrev cX2_lies : ByteArray := prog_15_method_107_code
def yX2_lies : MethodName := ⟨RX2, "lies", "(II)I"⟩
def dkwX2_lies_5 : List UInt8 := [21, 5, 54, 4, 132, 5, 1, 167, 255, 182, 42, 182, 1, 148, 21, 4, 172]
abbrev dktX2_lies_5 : List UInt8 := dkwX2_lies_5 ++ []
def dkwX2_lies_4 : List UInt8 := [184, 1, 38, 21, 4, 184, 1, 38, 161, 0, 6, 167, 0, 17, 42, 27, 21, 5, 182, 1, 157, 153, 0, 7]
abbrev dktX2_lies_4 : List UInt8 := dkwX2_lies_4 ++ dktX2_lies_5
def dkwX2_lies_3 : List UInt8 := [154, 0, 52, 29, 184, 1, 38, 21, 5, 184, 1, 38, 100, 28, 163, 0, 38, 21, 4, 155, 0, 19, 21, 5]
abbrev dktX2_lies_3 : List UInt8 := dkwX2_lies_3 ++ dktX2_lies_4
def dkwX2_lies_2 : List UInt8 := [3, 54, 5, 21, 5, 4, 42, 180, 0, 7, 5, 46, 120, 162, 0, 67, 21, 5, 29, 2, 130, 126]
abbrev dktX2_lies_2 : List UInt8 := dkwX2_lies_2 ++ dktX2_lies_3
def dkwX2_lies_1 : List UInt8 := [182, 1, 154, 2, 130, 4, 42, 180, 0, 7, 5, 46, 120, 4, 100, 126, 62, 2, 54, 4, 42, 182, 1, 135]
abbrev dktX2_lies_1 : List UInt8 := dkwX2_lies_1 ++ dktX2_lies_2
def dkwX2_lies_0 : List UInt8 := [42, 27, 182, 0, 88, 153, 0, 13, 28, 3, 16, 8, 184, 0, 80, 154, 0, 5, 2, 172, 42, 27]
abbrev dktX2_lies_0 : List UInt8 := dkwX2_lies_0 ++ dktX2_lies_1
theorem dksX2_lies_0 : cX2_lies.data.toList.drop 0 = dktX2_lies_0 := by decide +kernel
theorem dksX2_lies_1 : cX2_lies.data.toList.drop 22 = dktX2_lies_1 := dk_seg dksX2_lies_0 22 rfl rfl
theorem dksX2_lies_2 : cX2_lies.data.toList.drop 46 = dktX2_lies_2 := dk_seg dksX2_lies_1 24 rfl rfl
theorem dksX2_lies_3 : cX2_lies.data.toList.drop 68 = dktX2_lies_3 := dk_seg dksX2_lies_2 22 rfl rfl
theorem dksX2_lies_4 : cX2_lies.data.toList.drop 92 = dktX2_lies_4 := dk_seg dksX2_lies_3 24 rfl rfl
theorem dksX2_lies_5 : cX2_lies.data.toList.drop 116 = dktX2_lies_5 := dk_seg dksX2_lies_4 24 rfl rfl
theorem dX2_lies_0 : decode cX2_lies 0 = .ok (.aload_n 0, 1) := dk_42 (dk_at dksX2_lies_0 0 rfl rfl)
theorem dX2_lies_1 : decode cX2_lies 1 = .ok (.iload_n 1, 1) := dk_27 (dk_at dksX2_lies_0 1 rfl rfl)
theorem dX2_lies_2 : decode cX2_lies 2 = .ok (.invokevirtual 88, 3) := dk_182 0 88 (dk_at dksX2_lies_0 2 rfl rfl)
theorem dX2_lies_5 : decode cX2_lies 5 = .ok (.ifCond .eq 13, 3) := dk_153 0 13 (dk_at dksX2_lies_0 5 rfl rfl)
theorem dX2_lies_8 : decode cX2_lies 8 = .ok (.iload_n 2, 1) := dk_28 (dk_at dksX2_lies_0 8 rfl rfl)
theorem dX2_lies_9 : decode cX2_lies 9 = .ok (.iconst 0, 1) := dk_3 (dk_at dksX2_lies_0 9 rfl rfl)
theorem dX2_lies_10 : decode cX2_lies 10 = .ok (.bipush 8, 2) := dk_16 8 (dk_at dksX2_lies_0 10 rfl rfl)
theorem dX2_lies_12 : decode cX2_lies 12 = .ok (.invokestatic 80, 3) := dk_184 0 80 (dk_at dksX2_lies_0 12 rfl rfl)
theorem dX2_lies_15 : decode cX2_lies 15 = .ok (.ifCond .ne 5, 3) := dk_154 0 5 (dk_at dksX2_lies_0 15 rfl rfl)
theorem dX2_lies_18 : decode cX2_lies 18 = .ok (.iconst (-1), 1) := dk_2 (dk_at dksX2_lies_0 18 rfl rfl)
theorem dX2_lies_19 : decode cX2_lies 19 = .ok (.ireturn, 1) := dk_172 (dk_at dksX2_lies_0 19 rfl rfl)
theorem dX2_lies_20 : decode cX2_lies 20 = .ok (.aload_n 0, 1) := dk_42 (dk_at dksX2_lies_0 20 rfl rfl)
theorem dX2_lies_21 : decode cX2_lies 21 = .ok (.iload_n 1, 1) := dk_27 (dk_at dksX2_lies_0 21 rfl rfl)
theorem dX2_lies_22 : decode cX2_lies 22 = .ok (.invokevirtual 410, 3) := dk_182 1 154 (dk_at dksX2_lies_1 0 rfl rfl)
theorem dX2_lies_25 : decode cX2_lies 25 = .ok (.iconst (-1), 1) := dk_2 (dk_at dksX2_lies_1 3 rfl rfl)
theorem dX2_lies_26 : decode cX2_lies 26 = .ok (.ixor, 1) := dk_130 (dk_at dksX2_lies_1 4 rfl rfl)
theorem dX2_lies_27 : decode cX2_lies 27 = .ok (.iconst 1, 1) := dk_4 (dk_at dksX2_lies_1 5 rfl rfl)
theorem dX2_lies_28 : decode cX2_lies 28 = .ok (.aload_n 0, 1) := dk_42 (dk_at dksX2_lies_1 6 rfl rfl)
theorem dX2_lies_29 : decode cX2_lies 29 = .ok (.getfield 7, 3) := dk_180 0 7 (dk_at dksX2_lies_1 7 rfl rfl)
theorem dX2_lies_32 : decode cX2_lies 32 = .ok (.iconst 2, 1) := dk_5 (dk_at dksX2_lies_1 10 rfl rfl)
theorem dX2_lies_33 : decode cX2_lies 33 = .ok (.iaload, 1) := dk_46 (dk_at dksX2_lies_1 11 rfl rfl)
theorem dX2_lies_34 : decode cX2_lies 34 = .ok (.ishl, 1) := dk_120 (dk_at dksX2_lies_1 12 rfl rfl)
theorem dX2_lies_35 : decode cX2_lies 35 = .ok (.iconst 1, 1) := dk_4 (dk_at dksX2_lies_1 13 rfl rfl)
theorem dX2_lies_36 : decode cX2_lies 36 = .ok (.isub, 1) := dk_100 (dk_at dksX2_lies_1 14 rfl rfl)
theorem dX2_lies_37 : decode cX2_lies 37 = .ok (.iand, 1) := dk_126 (dk_at dksX2_lies_1 15 rfl rfl)
theorem dX2_lies_38 : decode cX2_lies 38 = .ok (.istore_n 3, 1) := dk_62 (dk_at dksX2_lies_1 16 rfl rfl)
theorem dX2_lies_39 : decode cX2_lies 39 = .ok (.iconst (-1), 1) := dk_2 (dk_at dksX2_lies_1 17 rfl rfl)
theorem dX2_lies_40 : decode cX2_lies 40 = .ok (.istore 4, 2) := dk_54 4 (dk_at dksX2_lies_1 18 rfl rfl)
theorem dX2_lies_42 : decode cX2_lies 42 = .ok (.aload_n 0, 1) := dk_42 (dk_at dksX2_lies_1 20 rfl rfl)
theorem dX2_lies_43 : decode cX2_lies 43 = .ok (.invokevirtual 391, 3) := dk_182 1 135 (dk_at dksX2_lies_1 21 rfl rfl)
theorem dX2_lies_46 : decode cX2_lies 46 = .ok (.iconst 0, 1) := dk_3 (dk_at dksX2_lies_2 0 rfl rfl)
theorem dX2_lies_47 : decode cX2_lies 47 = .ok (.istore 5, 2) := dk_54 5 (dk_at dksX2_lies_2 1 rfl rfl)
theorem dX2_lies_49 : decode cX2_lies 49 = .ok (.iload 5, 2) := dk_21 5 (dk_at dksX2_lies_2 3 rfl rfl)
theorem dX2_lies_51 : decode cX2_lies 51 = .ok (.iconst 1, 1) := dk_4 (dk_at dksX2_lies_2 5 rfl rfl)
theorem dX2_lies_52 : decode cX2_lies 52 = .ok (.aload_n 0, 1) := dk_42 (dk_at dksX2_lies_2 6 rfl rfl)
theorem dX2_lies_53 : decode cX2_lies 53 = .ok (.getfield 7, 3) := dk_180 0 7 (dk_at dksX2_lies_2 7 rfl rfl)
theorem dX2_lies_56 : decode cX2_lies 56 = .ok (.iconst 2, 1) := dk_5 (dk_at dksX2_lies_2 10 rfl rfl)
theorem dX2_lies_57 : decode cX2_lies 57 = .ok (.iaload, 1) := dk_46 (dk_at dksX2_lies_2 11 rfl rfl)
theorem dX2_lies_58 : decode cX2_lies 58 = .ok (.ishl, 1) := dk_120 (dk_at dksX2_lies_2 12 rfl rfl)
theorem dX2_lies_59 : decode cX2_lies 59 = .ok (.if_icmp .ge 67, 3) := dk_162 0 67 (dk_at dksX2_lies_2 13 rfl rfl)
theorem dX2_lies_62 : decode cX2_lies 62 = .ok (.iload 5, 2) := dk_21 5 (dk_at dksX2_lies_2 16 rfl rfl)
theorem dX2_lies_64 : decode cX2_lies 64 = .ok (.iload_n 3, 1) := dk_29 (dk_at dksX2_lies_2 18 rfl rfl)
theorem dX2_lies_65 : decode cX2_lies 65 = .ok (.iconst (-1), 1) := dk_2 (dk_at dksX2_lies_2 19 rfl rfl)
theorem dX2_lies_66 : decode cX2_lies 66 = .ok (.ixor, 1) := dk_130 (dk_at dksX2_lies_2 20 rfl rfl)
theorem dX2_lies_67 : decode cX2_lies 67 = .ok (.iand, 1) := dk_126 (dk_at dksX2_lies_2 21 rfl rfl)
theorem dX2_lies_68 : decode cX2_lies 68 = .ok (.ifCond .ne 52, 3) := dk_154 0 52 (dk_at dksX2_lies_3 0 rfl rfl)
theorem dX2_lies_71 : decode cX2_lies 71 = .ok (.iload_n 3, 1) := dk_29 (dk_at dksX2_lies_3 3 rfl rfl)
theorem dX2_lies_72 : decode cX2_lies 72 = .ok (.invokestatic 294, 3) := dk_184 1 38 (dk_at dksX2_lies_3 4 rfl rfl)
theorem dX2_lies_75 : decode cX2_lies 75 = .ok (.iload 5, 2) := dk_21 5 (dk_at dksX2_lies_3 7 rfl rfl)
theorem dX2_lies_77 : decode cX2_lies 77 = .ok (.invokestatic 294, 3) := dk_184 1 38 (dk_at dksX2_lies_3 9 rfl rfl)
theorem dX2_lies_80 : decode cX2_lies 80 = .ok (.isub, 1) := dk_100 (dk_at dksX2_lies_3 12 rfl rfl)
theorem dX2_lies_81 : decode cX2_lies 81 = .ok (.iload_n 2, 1) := dk_28 (dk_at dksX2_lies_3 13 rfl rfl)
theorem dX2_lies_82 : decode cX2_lies 82 = .ok (.if_icmp .gt 38, 3) := dk_163 0 38 (dk_at dksX2_lies_3 14 rfl rfl)
theorem dX2_lies_85 : decode cX2_lies 85 = .ok (.iload 4, 2) := dk_21 4 (dk_at dksX2_lies_3 17 rfl rfl)
theorem dX2_lies_87 : decode cX2_lies 87 = .ok (.ifCond .lt 19, 3) := dk_155 0 19 (dk_at dksX2_lies_3 19 rfl rfl)
theorem dX2_lies_90 : decode cX2_lies 90 = .ok (.iload 5, 2) := dk_21 5 (dk_at dksX2_lies_3 22 rfl rfl)
theorem dX2_lies_92 : decode cX2_lies 92 = .ok (.invokestatic 294, 3) := dk_184 1 38 (dk_at dksX2_lies_4 0 rfl rfl)
theorem dX2_lies_95 : decode cX2_lies 95 = .ok (.iload 4, 2) := dk_21 4 (dk_at dksX2_lies_4 3 rfl rfl)
theorem dX2_lies_97 : decode cX2_lies 97 = .ok (.invokestatic 294, 3) := dk_184 1 38 (dk_at dksX2_lies_4 5 rfl rfl)
theorem dX2_lies_100 : decode cX2_lies 100 = .ok (.if_icmp .lt 6, 3) := dk_161 0 6 (dk_at dksX2_lies_4 8 rfl rfl)
theorem dX2_lies_103 : decode cX2_lies 103 = .ok (.goto 17, 3) := dk_167 0 17 (dk_at dksX2_lies_4 11 rfl rfl)
theorem dX2_lies_106 : decode cX2_lies 106 = .ok (.aload_n 0, 1) := dk_42 (dk_at dksX2_lies_4 14 rfl rfl)
theorem dX2_lies_107 : decode cX2_lies 107 = .ok (.iload_n 1, 1) := dk_27 (dk_at dksX2_lies_4 15 rfl rfl)
theorem dX2_lies_108 : decode cX2_lies 108 = .ok (.iload 5, 2) := dk_21 5 (dk_at dksX2_lies_4 16 rfl rfl)
theorem dX2_lies_110 : decode cX2_lies 110 = .ok (.invokevirtual 413, 3) := dk_182 1 157 (dk_at dksX2_lies_4 18 rfl rfl)
theorem dX2_lies_113 : decode cX2_lies 113 = .ok (.ifCond .eq 7, 3) := dk_153 0 7 (dk_at dksX2_lies_4 21 rfl rfl)
theorem dX2_lies_116 : decode cX2_lies 116 = .ok (.iload 5, 2) := dk_21 5 (dk_at dksX2_lies_5 0 rfl rfl)
theorem dX2_lies_118 : decode cX2_lies 118 = .ok (.istore 4, 2) := dk_54 4 (dk_at dksX2_lies_5 2 rfl rfl)
theorem dX2_lies_120 : decode cX2_lies 120 = .ok (.iinc 5 1, 3) := dk_132 5 1 (dk_at dksX2_lies_5 4 rfl rfl)
theorem dX2_lies_123 : decode cX2_lies 123 = .ok (.goto (-74), 3) := dk_167 255 182 (dk_at dksX2_lies_5 7 rfl rfl)
theorem dX2_lies_126 : decode cX2_lies 126 = .ok (.aload_n 0, 1) := dk_42 (dk_at dksX2_lies_5 10 rfl rfl)
theorem dX2_lies_127 : decode cX2_lies 127 = .ok (.invokevirtual 404, 3) := dk_182 1 148 (dk_at dksX2_lies_5 11 rfl rfl)
theorem dX2_lies_130 : decode cX2_lies 130 = .ok (.iload 4, 2) := dk_21 4 (dk_at dksX2_lies_5 14 rfl rfl)
theorem dX2_lies_132 : decode cX2_lies 132 = .ok (.ireturn, 1) := dk_172 (dk_at dksX2_lies_5 16 rfl rfl)
abbrev cX2_comesThrough : ByteArray := prog_15_method_106_code
def yX2_comesThrough : MethodName := ⟨RX2, "comesThrough", "(II)Z"⟩
def dkwX2_comesThrough_3 : List UInt8 := [182, 1, 59, 158, 0, 14, 29, 19, 1, 65, 161, 0, 7, 4, 167, 0, 4, 3, 172]
abbrev dktX2_comesThrough_3 : List UInt8 := dkwX2_comesThrough_3 ++ []
def dkwX2_comesThrough_2 : List UInt8 := [184, 0, 224, 154, 0, 7, 4, 167, 0, 4, 3, 182, 1, 75, 54, 5, 132, 4, 1, 167, 255, 210, 42]
abbrev dktX2_comesThrough_2 : List UInt8 := dkwX2_comesThrough_2 ++ dktX2_comesThrough_3
def dkwX2_comesThrough_1 : List UInt8 := [180, 0, 7, 5, 46, 162, 0, 41, 42, 21, 4, 42, 21, 4, 27, 182, 1, 50, 153, 0, 16, 28, 21, 4]
abbrev dktX2_comesThrough_1 : List UInt8 := dkwX2_comesThrough_1 ++ dktX2_comesThrough_2
def dkwX2_comesThrough_0 : List UInt8 := [42, 27, 182, 1, 117, 42, 27, 42, 180, 0, 7, 6, 46, 182, 1, 138, 62, 3, 54, 4, 21, 4, 42]
abbrev dktX2_comesThrough_0 : List UInt8 := dkwX2_comesThrough_0 ++ dktX2_comesThrough_1
theorem dksX2_comesThrough_0 : cX2_comesThrough.data.toList.drop 0 = dktX2_comesThrough_0 := by decide +kernel
theorem dksX2_comesThrough_1 : cX2_comesThrough.data.toList.drop 23 = dktX2_comesThrough_1 := dk_seg dksX2_comesThrough_0 23 rfl rfl
theorem dksX2_comesThrough_2 : cX2_comesThrough.data.toList.drop 47 = dktX2_comesThrough_2 := dk_seg dksX2_comesThrough_1 24 rfl rfl
theorem dksX2_comesThrough_3 : cX2_comesThrough.data.toList.drop 70 = dktX2_comesThrough_3 := dk_seg dksX2_comesThrough_2 23 rfl rfl
theorem dX2_comesThrough_0 : decode cX2_comesThrough 0 = .ok (.aload_n 0, 1) := dk_42 (dk_at dksX2_comesThrough_0 0 rfl rfl)
theorem dX2_comesThrough_1 : decode cX2_comesThrough 1 = .ok (.iload_n 1, 1) := dk_27 (dk_at dksX2_comesThrough_0 1 rfl rfl)
theorem dX2_comesThrough_2 : decode cX2_comesThrough 2 = .ok (.invokevirtual 373, 3) := dk_182 1 117 (dk_at dksX2_comesThrough_0 2 rfl rfl)
theorem dX2_comesThrough_5 : decode cX2_comesThrough 5 = .ok (.aload_n 0, 1) := dk_42 (dk_at dksX2_comesThrough_0 5 rfl rfl)
theorem dX2_comesThrough_6 : decode cX2_comesThrough 6 = .ok (.iload_n 1, 1) := dk_27 (dk_at dksX2_comesThrough_0 6 rfl rfl)
theorem dX2_comesThrough_7 : decode cX2_comesThrough 7 = .ok (.aload_n 0, 1) := dk_42 (dk_at dksX2_comesThrough_0 7 rfl rfl)
theorem dX2_comesThrough_8 : decode cX2_comesThrough 8 = .ok (.getfield 7, 3) := dk_180 0 7 (dk_at dksX2_comesThrough_0 8 rfl rfl)
theorem dX2_comesThrough_11 : decode cX2_comesThrough 11 = .ok (.iconst 3, 1) := dk_6 (dk_at dksX2_comesThrough_0 11 rfl rfl)
theorem dX2_comesThrough_12 : decode cX2_comesThrough 12 = .ok (.iaload, 1) := dk_46 (dk_at dksX2_comesThrough_0 12 rfl rfl)
theorem dX2_comesThrough_13 : decode cX2_comesThrough 13 = .ok (.invokevirtual 394, 3) := dk_182 1 138 (dk_at dksX2_comesThrough_0 13 rfl rfl)
theorem dX2_comesThrough_16 : decode cX2_comesThrough 16 = .ok (.istore_n 3, 1) := dk_62 (dk_at dksX2_comesThrough_0 16 rfl rfl)
theorem dX2_comesThrough_17 : decode cX2_comesThrough 17 = .ok (.iconst 0, 1) := dk_3 (dk_at dksX2_comesThrough_0 17 rfl rfl)
theorem dX2_comesThrough_18 : decode cX2_comesThrough 18 = .ok (.istore 4, 2) := dk_54 4 (dk_at dksX2_comesThrough_0 18 rfl rfl)
theorem dX2_comesThrough_20 : decode cX2_comesThrough 20 = .ok (.iload 4, 2) := dk_21 4 (dk_at dksX2_comesThrough_0 20 rfl rfl)
theorem dX2_comesThrough_22 : decode cX2_comesThrough 22 = .ok (.aload_n 0, 1) := dk_42 (dk_at dksX2_comesThrough_0 22 rfl rfl)
theorem dX2_comesThrough_23 : decode cX2_comesThrough 23 = .ok (.getfield 7, 3) := dk_180 0 7 (dk_at dksX2_comesThrough_1 0 rfl rfl)
theorem dX2_comesThrough_26 : decode cX2_comesThrough 26 = .ok (.iconst 2, 1) := dk_5 (dk_at dksX2_comesThrough_1 3 rfl rfl)
theorem dX2_comesThrough_27 : decode cX2_comesThrough 27 = .ok (.iaload, 1) := dk_46 (dk_at dksX2_comesThrough_1 4 rfl rfl)
theorem dX2_comesThrough_28 : decode cX2_comesThrough 28 = .ok (.if_icmp .ge 41, 3) := dk_162 0 41 (dk_at dksX2_comesThrough_1 5 rfl rfl)
theorem dX2_comesThrough_31 : decode cX2_comesThrough 31 = .ok (.aload_n 0, 1) := dk_42 (dk_at dksX2_comesThrough_1 8 rfl rfl)
theorem dX2_comesThrough_32 : decode cX2_comesThrough 32 = .ok (.iload 4, 2) := dk_21 4 (dk_at dksX2_comesThrough_1 9 rfl rfl)
theorem dX2_comesThrough_34 : decode cX2_comesThrough 34 = .ok (.aload_n 0, 1) := dk_42 (dk_at dksX2_comesThrough_1 11 rfl rfl)
theorem dX2_comesThrough_35 : decode cX2_comesThrough 35 = .ok (.iload 4, 2) := dk_21 4 (dk_at dksX2_comesThrough_1 12 rfl rfl)
theorem dX2_comesThrough_37 : decode cX2_comesThrough 37 = .ok (.iload_n 1, 1) := dk_27 (dk_at dksX2_comesThrough_1 14 rfl rfl)
theorem dX2_comesThrough_38 : decode cX2_comesThrough 38 = .ok (.invokevirtual 306, 3) := dk_182 1 50 (dk_at dksX2_comesThrough_1 15 rfl rfl)
theorem dX2_comesThrough_41 : decode cX2_comesThrough 41 = .ok (.ifCond .eq 16, 3) := dk_153 0 16 (dk_at dksX2_comesThrough_1 18 rfl rfl)
theorem dX2_comesThrough_44 : decode cX2_comesThrough 44 = .ok (.iload_n 2, 1) := dk_28 (dk_at dksX2_comesThrough_1 21 rfl rfl)
theorem dX2_comesThrough_45 : decode cX2_comesThrough 45 = .ok (.iload 4, 2) := dk_21 4 (dk_at dksX2_comesThrough_1 22 rfl rfl)
theorem dX2_comesThrough_47 : decode cX2_comesThrough 47 = .ok (.invokestatic 224, 3) := dk_184 0 224 (dk_at dksX2_comesThrough_2 0 rfl rfl)
theorem dX2_comesThrough_50 : decode cX2_comesThrough 50 = .ok (.ifCond .ne 7, 3) := dk_154 0 7 (dk_at dksX2_comesThrough_2 3 rfl rfl)
theorem dX2_comesThrough_53 : decode cX2_comesThrough 53 = .ok (.iconst 1, 1) := dk_4 (dk_at dksX2_comesThrough_2 6 rfl rfl)
theorem dX2_comesThrough_54 : decode cX2_comesThrough 54 = .ok (.goto 4, 3) := dk_167 0 4 (dk_at dksX2_comesThrough_2 7 rfl rfl)
theorem dX2_comesThrough_57 : decode cX2_comesThrough 57 = .ok (.iconst 0, 1) := dk_3 (dk_at dksX2_comesThrough_2 10 rfl rfl)
theorem dX2_comesThrough_58 : decode cX2_comesThrough 58 = .ok (.invokevirtual 331, 3) := dk_182 1 75 (dk_at dksX2_comesThrough_2 11 rfl rfl)
theorem dX2_comesThrough_61 : decode cX2_comesThrough 61 = .ok (.istore 5, 2) := dk_54 5 (dk_at dksX2_comesThrough_2 14 rfl rfl)
theorem dX2_comesThrough_63 : decode cX2_comesThrough 63 = .ok (.iinc 4 1, 3) := dk_132 4 1 (dk_at dksX2_comesThrough_2 16 rfl rfl)
theorem dX2_comesThrough_66 : decode cX2_comesThrough 66 = .ok (.goto (-46), 3) := dk_167 255 210 (dk_at dksX2_comesThrough_2 19 rfl rfl)
theorem dX2_comesThrough_69 : decode cX2_comesThrough 69 = .ok (.aload_n 0, 1) := dk_42 (dk_at dksX2_comesThrough_2 22 rfl rfl)
theorem dX2_comesThrough_70 : decode cX2_comesThrough 70 = .ok (.invokevirtual 315, 3) := dk_182 1 59 (dk_at dksX2_comesThrough_3 0 rfl rfl)
theorem dX2_comesThrough_73 : decode cX2_comesThrough 73 = .ok (.ifCond .le 14, 3) := dk_158 0 14 (dk_at dksX2_comesThrough_3 3 rfl rfl)
theorem dX2_comesThrough_76 : decode cX2_comesThrough 76 = .ok (.iload_n 3, 1) := dk_29 (dk_at dksX2_comesThrough_3 6 rfl rfl)
theorem dX2_comesThrough_77 : decode cX2_comesThrough 77 = .ok (.ldc_w 321, 3) := dk_19 1 65 (dk_at dksX2_comesThrough_3 7 rfl rfl)
theorem dX2_comesThrough_80 : decode cX2_comesThrough 80 = .ok (.if_icmp .lt 7, 3) := dk_161 0 7 (dk_at dksX2_comesThrough_3 10 rfl rfl)
theorem dX2_comesThrough_83 : decode cX2_comesThrough 83 = .ok (.iconst 1, 1) := dk_4 (dk_at dksX2_comesThrough_3 13 rfl rfl)
theorem dX2_comesThrough_84 : decode cX2_comesThrough 84 = .ok (.goto 4, 3) := dk_167 0 4 (dk_at dksX2_comesThrough_3 14 rfl rfl)
theorem dX2_comesThrough_87 : decode cX2_comesThrough 87 = .ok (.iconst 0, 1) := dk_3 (dk_at dksX2_comesThrough_3 17 rfl rfl)
theorem dX2_comesThrough_88 : decode cX2_comesThrough 88 = .ok (.ireturn, 1) := dk_172 (dk_at dksX2_comesThrough_3 18 rfl rfl)
abbrev cX2_lending : ByteArray := prog_15_method_113_code
def yX2_lending : MethodName := ⟨RX2, "lending", "(II)I"⟩
def dkwX2_lending_6 : List UInt8 := [46, 172]
abbrev dktX2_lending_6 : List UInt8 := dkwX2_lending_6 ++ []
def dkwX2_lending_5 : List UInt8 := [21, 5, 16, 6, 112, 182, 1, 172, 132, 5, 1, 167, 255, 209, 42, 180, 0, 57, 16, 6, 27, 104, 28, 96]
abbrev dktX2_lending_5 : List UInt8 := dkwX2_lending_5 ++ dktX2_lending_6
def dkwX2_lending_4 : List UInt8 := [16, 6, 108, 51, 153, 0, 27, 42, 180, 0, 54, 21, 5, 46, 158, 0, 17, 42, 21, 5, 16, 6, 108]
abbrev dktX2_lending_4 : List UInt8 := dkwX2_lending_4 ++ dktX2_lending_5
def dkwX2_lending_3 : List UInt8 := [172, 21, 4, 154, 0, 5, 2, 172, 3, 54, 5, 21, 5, 16, 36, 162, 0, 46, 42, 180, 0, 60, 21, 5]
abbrev dktX2_lending_3 : List UInt8 := dkwX2_lending_3 ++ dktX2_lending_4
def dkwX2_lending_2 : List UInt8 := [156, 0, 7, 4, 167, 0, 4, 3, 54, 4, 29, 153, 0, 14, 21, 4, 153, 0, 7, 4, 167, 0, 4, 3]
abbrev dktX2_lending_2 : List UInt8 := dkwX2_lending_2 ++ dktX2_lending_3
def dkwX2_lending_1 : List UInt8 := [28, 182, 0, 88, 153, 0, 8, 27, 28, 160, 0, 5, 2, 172, 42, 182, 1, 169, 42, 182, 1, 166]
abbrev dktX2_lending_1 : List UInt8 := dkwX2_lending_1 ++ dktX2_lending_2
def dkwX2_lending_0 : List UInt8 := [27, 2, 160, 0, 7, 4, 167, 0, 4, 3, 62, 29, 154, 0, 26, 42, 27, 182, 0, 88, 153, 0, 16, 42]
abbrev dktX2_lending_0 : List UInt8 := dkwX2_lending_0 ++ dktX2_lending_1
theorem dksX2_lending_0 : cX2_lending.data.toList.drop 0 = dktX2_lending_0 := by decide +kernel
theorem dksX2_lending_1 : cX2_lending.data.toList.drop 24 = dktX2_lending_1 := dk_seg dksX2_lending_0 24 rfl rfl
theorem dksX2_lending_2 : cX2_lending.data.toList.drop 46 = dktX2_lending_2 := dk_seg dksX2_lending_1 22 rfl rfl
theorem dksX2_lending_3 : cX2_lending.data.toList.drop 70 = dktX2_lending_3 := dk_seg dksX2_lending_2 24 rfl rfl
theorem dksX2_lending_4 : cX2_lending.data.toList.drop 94 = dktX2_lending_4 := dk_seg dksX2_lending_3 24 rfl rfl
theorem dksX2_lending_5 : cX2_lending.data.toList.drop 117 = dktX2_lending_5 := dk_seg dksX2_lending_4 23 rfl rfl
theorem dksX2_lending_6 : cX2_lending.data.toList.drop 141 = dktX2_lending_6 := dk_seg dksX2_lending_5 24 rfl rfl
theorem dX2_lending_0 : decode cX2_lending 0 = .ok (.iload_n 1, 1) := dk_27 (dk_at dksX2_lending_0 0 rfl rfl)
theorem dX2_lending_1 : decode cX2_lending 1 = .ok (.iconst (-1), 1) := dk_2 (dk_at dksX2_lending_0 1 rfl rfl)
theorem dX2_lending_2 : decode cX2_lending 2 = .ok (.if_icmp .ne 7, 3) := dk_160 0 7 (dk_at dksX2_lending_0 2 rfl rfl)
theorem dX2_lending_5 : decode cX2_lending 5 = .ok (.iconst 1, 1) := dk_4 (dk_at dksX2_lending_0 5 rfl rfl)
theorem dX2_lending_6 : decode cX2_lending 6 = .ok (.goto 4, 3) := dk_167 0 4 (dk_at dksX2_lending_0 6 rfl rfl)
theorem dX2_lending_9 : decode cX2_lending 9 = .ok (.iconst 0, 1) := dk_3 (dk_at dksX2_lending_0 9 rfl rfl)
theorem dX2_lending_10 : decode cX2_lending 10 = .ok (.istore_n 3, 1) := dk_62 (dk_at dksX2_lending_0 10 rfl rfl)
theorem dX2_lending_11 : decode cX2_lending 11 = .ok (.iload_n 3, 1) := dk_29 (dk_at dksX2_lending_0 11 rfl rfl)
theorem dX2_lending_12 : decode cX2_lending 12 = .ok (.ifCond .ne 26, 3) := dk_154 0 26 (dk_at dksX2_lending_0 12 rfl rfl)
theorem dX2_lending_15 : decode cX2_lending 15 = .ok (.aload_n 0, 1) := dk_42 (dk_at dksX2_lending_0 15 rfl rfl)
theorem dX2_lending_16 : decode cX2_lending 16 = .ok (.iload_n 1, 1) := dk_27 (dk_at dksX2_lending_0 16 rfl rfl)
theorem dX2_lending_17 : decode cX2_lending 17 = .ok (.invokevirtual 88, 3) := dk_182 0 88 (dk_at dksX2_lending_0 17 rfl rfl)
theorem dX2_lending_20 : decode cX2_lending 20 = .ok (.ifCond .eq 16, 3) := dk_153 0 16 (dk_at dksX2_lending_0 20 rfl rfl)
theorem dX2_lending_23 : decode cX2_lending 23 = .ok (.aload_n 0, 1) := dk_42 (dk_at dksX2_lending_0 23 rfl rfl)
theorem dX2_lending_24 : decode cX2_lending 24 = .ok (.iload_n 2, 1) := dk_28 (dk_at dksX2_lending_1 0 rfl rfl)
theorem dX2_lending_25 : decode cX2_lending 25 = .ok (.invokevirtual 88, 3) := dk_182 0 88 (dk_at dksX2_lending_1 1 rfl rfl)
theorem dX2_lending_28 : decode cX2_lending 28 = .ok (.ifCond .eq 8, 3) := dk_153 0 8 (dk_at dksX2_lending_1 4 rfl rfl)
theorem dX2_lending_31 : decode cX2_lending 31 = .ok (.iload_n 1, 1) := dk_27 (dk_at dksX2_lending_1 7 rfl rfl)
theorem dX2_lending_32 : decode cX2_lending 32 = .ok (.iload_n 2, 1) := dk_28 (dk_at dksX2_lending_1 8 rfl rfl)
theorem dX2_lending_33 : decode cX2_lending 33 = .ok (.if_icmp .ne 5, 3) := dk_160 0 5 (dk_at dksX2_lending_1 9 rfl rfl)
theorem dX2_lending_36 : decode cX2_lending 36 = .ok (.iconst (-1), 1) := dk_2 (dk_at dksX2_lending_1 12 rfl rfl)
theorem dX2_lending_37 : decode cX2_lending 37 = .ok (.ireturn, 1) := dk_172 (dk_at dksX2_lending_1 13 rfl rfl)
theorem dX2_lending_38 : decode cX2_lending 38 = .ok (.aload_n 0, 1) := dk_42 (dk_at dksX2_lending_1 14 rfl rfl)
theorem dX2_lending_39 : decode cX2_lending 39 = .ok (.invokevirtual 425, 3) := dk_182 1 169 (dk_at dksX2_lending_1 15 rfl rfl)
theorem dX2_lending_42 : decode cX2_lending 42 = .ok (.aload_n 0, 1) := dk_42 (dk_at dksX2_lending_1 18 rfl rfl)
theorem dX2_lending_43 : decode cX2_lending 43 = .ok (.invokevirtual 422, 3) := dk_182 1 166 (dk_at dksX2_lending_1 19 rfl rfl)
theorem dX2_lending_46 : decode cX2_lending 46 = .ok (.ifCond .ge 7, 3) := dk_156 0 7 (dk_at dksX2_lending_2 0 rfl rfl)
theorem dX2_lending_49 : decode cX2_lending 49 = .ok (.iconst 1, 1) := dk_4 (dk_at dksX2_lending_2 3 rfl rfl)
theorem dX2_lending_50 : decode cX2_lending 50 = .ok (.goto 4, 3) := dk_167 0 4 (dk_at dksX2_lending_2 4 rfl rfl)
theorem dX2_lending_53 : decode cX2_lending 53 = .ok (.iconst 0, 1) := dk_3 (dk_at dksX2_lending_2 7 rfl rfl)
theorem dX2_lending_54 : decode cX2_lending 54 = .ok (.istore 4, 2) := dk_54 4 (dk_at dksX2_lending_2 8 rfl rfl)
theorem dX2_lending_56 : decode cX2_lending 56 = .ok (.iload_n 3, 1) := dk_29 (dk_at dksX2_lending_2 10 rfl rfl)
theorem dX2_lending_57 : decode cX2_lending 57 = .ok (.ifCond .eq 14, 3) := dk_153 0 14 (dk_at dksX2_lending_2 11 rfl rfl)
theorem dX2_lending_60 : decode cX2_lending 60 = .ok (.iload 4, 2) := dk_21 4 (dk_at dksX2_lending_2 14 rfl rfl)
theorem dX2_lending_62 : decode cX2_lending 62 = .ok (.ifCond .eq 7, 3) := dk_153 0 7 (dk_at dksX2_lending_2 16 rfl rfl)
theorem dX2_lending_65 : decode cX2_lending 65 = .ok (.iconst 1, 1) := dk_4 (dk_at dksX2_lending_2 19 rfl rfl)
theorem dX2_lending_66 : decode cX2_lending 66 = .ok (.goto 4, 3) := dk_167 0 4 (dk_at dksX2_lending_2 20 rfl rfl)
theorem dX2_lending_69 : decode cX2_lending 69 = .ok (.iconst 0, 1) := dk_3 (dk_at dksX2_lending_2 23 rfl rfl)
theorem dX2_lending_70 : decode cX2_lending 70 = .ok (.ireturn, 1) := dk_172 (dk_at dksX2_lending_3 0 rfl rfl)
theorem dX2_lending_71 : decode cX2_lending 71 = .ok (.iload 4, 2) := dk_21 4 (dk_at dksX2_lending_3 1 rfl rfl)
theorem dX2_lending_73 : decode cX2_lending 73 = .ok (.ifCond .ne 5, 3) := dk_154 0 5 (dk_at dksX2_lending_3 3 rfl rfl)
theorem dX2_lending_76 : decode cX2_lending 76 = .ok (.iconst (-1), 1) := dk_2 (dk_at dksX2_lending_3 6 rfl rfl)
theorem dX2_lending_77 : decode cX2_lending 77 = .ok (.ireturn, 1) := dk_172 (dk_at dksX2_lending_3 7 rfl rfl)
theorem dX2_lending_78 : decode cX2_lending 78 = .ok (.iconst 0, 1) := dk_3 (dk_at dksX2_lending_3 8 rfl rfl)
theorem dX2_lending_79 : decode cX2_lending 79 = .ok (.istore 5, 2) := dk_54 5 (dk_at dksX2_lending_3 9 rfl rfl)
theorem dX2_lending_81 : decode cX2_lending 81 = .ok (.iload 5, 2) := dk_21 5 (dk_at dksX2_lending_3 11 rfl rfl)
theorem dX2_lending_83 : decode cX2_lending 83 = .ok (.bipush 36, 2) := dk_16 36 (dk_at dksX2_lending_3 13 rfl rfl)
theorem dX2_lending_85 : decode cX2_lending 85 = .ok (.if_icmp .ge 46, 3) := dk_162 0 46 (dk_at dksX2_lending_3 15 rfl rfl)
theorem dX2_lending_88 : decode cX2_lending 88 = .ok (.aload_n 0, 1) := dk_42 (dk_at dksX2_lending_3 18 rfl rfl)
theorem dX2_lending_89 : decode cX2_lending 89 = .ok (.getfield 60, 3) := dk_180 0 60 (dk_at dksX2_lending_3 19 rfl rfl)
theorem dX2_lending_92 : decode cX2_lending 92 = .ok (.iload 5, 2) := dk_21 5 (dk_at dksX2_lending_3 22 rfl rfl)
theorem dX2_lending_94 : decode cX2_lending 94 = .ok (.bipush 6, 2) := dk_16 6 (dk_at dksX2_lending_4 0 rfl rfl)
theorem dX2_lending_96 : decode cX2_lending 96 = .ok (.idiv, 1) := dk_108 (dk_at dksX2_lending_4 2 rfl rfl)
theorem dX2_lending_97 : decode cX2_lending 97 = .ok (.baload, 1) := dk_51 (dk_at dksX2_lending_4 3 rfl rfl)
theorem dX2_lending_98 : decode cX2_lending 98 = .ok (.ifCond .eq 27, 3) := dk_153 0 27 (dk_at dksX2_lending_4 4 rfl rfl)
theorem dX2_lending_101 : decode cX2_lending 101 = .ok (.aload_n 0, 1) := dk_42 (dk_at dksX2_lending_4 7 rfl rfl)
theorem dX2_lending_102 : decode cX2_lending 102 = .ok (.getfield 54, 3) := dk_180 0 54 (dk_at dksX2_lending_4 8 rfl rfl)
theorem dX2_lending_105 : decode cX2_lending 105 = .ok (.iload 5, 2) := dk_21 5 (dk_at dksX2_lending_4 11 rfl rfl)
theorem dX2_lending_107 : decode cX2_lending 107 = .ok (.iaload, 1) := dk_46 (dk_at dksX2_lending_4 13 rfl rfl)
theorem dX2_lending_108 : decode cX2_lending 108 = .ok (.ifCond .le 17, 3) := dk_158 0 17 (dk_at dksX2_lending_4 14 rfl rfl)
theorem dX2_lending_111 : decode cX2_lending 111 = .ok (.aload_n 0, 1) := dk_42 (dk_at dksX2_lending_4 17 rfl rfl)
theorem dX2_lending_112 : decode cX2_lending 112 = .ok (.iload 5, 2) := dk_21 5 (dk_at dksX2_lending_4 18 rfl rfl)
theorem dX2_lending_114 : decode cX2_lending 114 = .ok (.bipush 6, 2) := dk_16 6 (dk_at dksX2_lending_4 20 rfl rfl)
theorem dX2_lending_116 : decode cX2_lending 116 = .ok (.idiv, 1) := dk_108 (dk_at dksX2_lending_4 22 rfl rfl)
theorem dX2_lending_117 : decode cX2_lending 117 = .ok (.iload 5, 2) := dk_21 5 (dk_at dksX2_lending_5 0 rfl rfl)
theorem dX2_lending_119 : decode cX2_lending 119 = .ok (.bipush 6, 2) := dk_16 6 (dk_at dksX2_lending_5 2 rfl rfl)
theorem dX2_lending_121 : decode cX2_lending 121 = .ok (.irem, 1) := dk_112 (dk_at dksX2_lending_5 4 rfl rfl)
theorem dX2_lending_122 : decode cX2_lending 122 = .ok (.invokevirtual 428, 3) := dk_182 1 172 (dk_at dksX2_lending_5 5 rfl rfl)
theorem dX2_lending_125 : decode cX2_lending 125 = .ok (.iinc 5 1, 3) := dk_132 5 1 (dk_at dksX2_lending_5 8 rfl rfl)
theorem dX2_lending_128 : decode cX2_lending 128 = .ok (.goto (-47), 3) := dk_167 255 209 (dk_at dksX2_lending_5 11 rfl rfl)
theorem dX2_lending_131 : decode cX2_lending 131 = .ok (.aload_n 0, 1) := dk_42 (dk_at dksX2_lending_5 14 rfl rfl)
theorem dX2_lending_132 : decode cX2_lending 132 = .ok (.getfield 57, 3) := dk_180 0 57 (dk_at dksX2_lending_5 15 rfl rfl)
theorem dX2_lending_135 : decode cX2_lending 135 = .ok (.bipush 6, 2) := dk_16 6 (dk_at dksX2_lending_5 18 rfl rfl)
theorem dX2_lending_137 : decode cX2_lending 137 = .ok (.iload_n 1, 1) := dk_27 (dk_at dksX2_lending_5 20 rfl rfl)
theorem dX2_lending_138 : decode cX2_lending 138 = .ok (.imul, 1) := dk_104 (dk_at dksX2_lending_5 21 rfl rfl)
theorem dX2_lending_139 : decode cX2_lending 139 = .ok (.iload_n 2, 1) := dk_28 (dk_at dksX2_lending_5 22 rfl rfl)
theorem dX2_lending_140 : decode cX2_lending 140 = .ok (.iadd, 1) := dk_96 (dk_at dksX2_lending_5 23 rfl rfl)
theorem dX2_lending_141 : decode cX2_lending 141 = .ok (.iaload, 1) := dk_46 (dk_at dksX2_lending_6 0 rfl rfl)
theorem dX2_lending_142 : decode cX2_lending 142 = .ok (.ireturn, 1) := dk_172 (dk_at dksX2_lending_6 1 rfl rfl)
abbrev cX2_findBelow : ByteArray := prog_15_method_111_code
def yX2_findBelow : MethodName := ⟨RX2, "findBelow", "()V"⟩
def dkwX2_findBelow_1 : List UInt8 := [158, 0, 7, 4, 167, 0, 4, 3, 84, 132, 1, 1, 167, 255, 227, 177]
abbrev dktX2_findBelow_1 : List UInt8 := dkwX2_findBelow_1 ++ []
def dkwX2_findBelow_0 : List UInt8 := [42, 182, 1, 163, 3, 60, 27, 16, 6, 162, 0, 29, 42, 180, 0, 60, 27, 42, 180, 0, 48, 27, 46]
abbrev dktX2_findBelow_0 : List UInt8 := dkwX2_findBelow_0 ++ dktX2_findBelow_1
theorem dksX2_findBelow_0 : cX2_findBelow.data.toList.drop 0 = dktX2_findBelow_0 := by decide +kernel
theorem dksX2_findBelow_1 : cX2_findBelow.data.toList.drop 23 = dktX2_findBelow_1 := dk_seg dksX2_findBelow_0 23 rfl rfl
theorem dX2_findBelow_0 : decode cX2_findBelow 0 = .ok (.aload_n 0, 1) := dk_42 (dk_at dksX2_findBelow_0 0 rfl rfl)
theorem dX2_findBelow_1 : decode cX2_findBelow 1 = .ok (.invokevirtual 419, 3) := dk_182 1 163 (dk_at dksX2_findBelow_0 1 rfl rfl)
theorem dX2_findBelow_4 : decode cX2_findBelow 4 = .ok (.iconst 0, 1) := dk_3 (dk_at dksX2_findBelow_0 4 rfl rfl)
theorem dX2_findBelow_5 : decode cX2_findBelow 5 = .ok (.istore_n 1, 1) := dk_60 (dk_at dksX2_findBelow_0 5 rfl rfl)
theorem dX2_findBelow_6 : decode cX2_findBelow 6 = .ok (.iload_n 1, 1) := dk_27 (dk_at dksX2_findBelow_0 6 rfl rfl)
theorem dX2_findBelow_7 : decode cX2_findBelow 7 = .ok (.bipush 6, 2) := dk_16 6 (dk_at dksX2_findBelow_0 7 rfl rfl)
theorem dX2_findBelow_9 : decode cX2_findBelow 9 = .ok (.if_icmp .ge 29, 3) := dk_162 0 29 (dk_at dksX2_findBelow_0 9 rfl rfl)
theorem dX2_findBelow_12 : decode cX2_findBelow 12 = .ok (.aload_n 0, 1) := dk_42 (dk_at dksX2_findBelow_0 12 rfl rfl)
theorem dX2_findBelow_13 : decode cX2_findBelow 13 = .ok (.getfield 60, 3) := dk_180 0 60 (dk_at dksX2_findBelow_0 13 rfl rfl)
theorem dX2_findBelow_16 : decode cX2_findBelow 16 = .ok (.iload_n 1, 1) := dk_27 (dk_at dksX2_findBelow_0 16 rfl rfl)
theorem dX2_findBelow_17 : decode cX2_findBelow 17 = .ok (.aload_n 0, 1) := dk_42 (dk_at dksX2_findBelow_0 17 rfl rfl)
theorem dX2_findBelow_18 : decode cX2_findBelow 18 = .ok (.getfield 48, 3) := dk_180 0 48 (dk_at dksX2_findBelow_0 18 rfl rfl)
theorem dX2_findBelow_21 : decode cX2_findBelow 21 = .ok (.iload_n 1, 1) := dk_27 (dk_at dksX2_findBelow_0 21 rfl rfl)
theorem dX2_findBelow_22 : decode cX2_findBelow 22 = .ok (.iaload, 1) := dk_46 (dk_at dksX2_findBelow_0 22 rfl rfl)
theorem dX2_findBelow_23 : decode cX2_findBelow 23 = .ok (.ifCond .le 7, 3) := dk_158 0 7 (dk_at dksX2_findBelow_1 0 rfl rfl)
theorem dX2_findBelow_26 : decode cX2_findBelow 26 = .ok (.iconst 1, 1) := dk_4 (dk_at dksX2_findBelow_1 3 rfl rfl)
theorem dX2_findBelow_27 : decode cX2_findBelow 27 = .ok (.goto 4, 3) := dk_167 0 4 (dk_at dksX2_findBelow_1 4 rfl rfl)
theorem dX2_findBelow_30 : decode cX2_findBelow 30 = .ok (.iconst 0, 1) := dk_3 (dk_at dksX2_findBelow_1 7 rfl rfl)
theorem dX2_findBelow_31 : decode cX2_findBelow 31 = .ok (.bastore, 1) := dk_84 (dk_at dksX2_findBelow_1 8 rfl rfl)
theorem dX2_findBelow_32 : decode cX2_findBelow 32 = .ok (.iinc 1 1, 3) := dk_132 1 1 (dk_at dksX2_findBelow_1 9 rfl rfl)
theorem dX2_findBelow_35 : decode cX2_findBelow 35 = .ok (.goto (-29), 3) := dk_167 255 227 (dk_at dksX2_findBelow_1 12 rfl rfl)
theorem dX2_findBelow_38 : decode cX2_findBelow 38 = .ok (.return_, 1) := dk_177 (dk_at dksX2_findBelow_1 15 rfl rfl)
abbrev cX2_findLacks : ByteArray := prog_15_method_108_code
def yX2_findLacks : MethodName := ⟨RX2, "findLacks", "()V"⟩
def dkwX2_findLacks_5 : List UInt8 := [79, 42, 180, 0, 57, 27, 3, 79, 132, 1, 1, 167, 255, 197, 177]
abbrev dktX2_findLacks_5 : List UInt8 := dkwX2_findLacks_5 ++ []
def dkwX2_findLacks_4 : List UInt8 := [180, 0, 51, 27, 16, 6, 112, 46, 158, 0, 15, 42, 180, 0, 7, 16, 54, 27, 96, 46, 167, 0, 4, 3]
abbrev dktX2_findLacks_4 : List UInt8 := dkwX2_findLacks_4 ++ dktX2_findLacks_5
def dkwX2_findLacks_3 : List UInt8 := [16, 36, 162, 0, 59, 42, 180, 0, 54, 27, 42, 180, 0, 48, 27, 16, 6, 108, 46, 158, 0, 27, 42]
abbrev dktX2_findLacks_3 : List UInt8 := dkwX2_findLacks_3 ++ dktX2_findLacks_4
def dkwX2_findLacks_2 : List UInt8 := [180, 0, 51, 27, 28, 158, 0, 7, 28, 167, 0, 4, 3, 79, 132, 1, 1, 167, 255, 196, 3, 60, 27]
abbrev dktX2_findLacks_2 : List UInt8 := dkwX2_findLacks_2 ++ dktX2_findLacks_3
def dkwX2_findLacks_1 : List UInt8 := [167, 0, 4, 3, 61, 42, 180, 0, 48, 27, 28, 156, 0, 8, 28, 116, 167, 0, 4, 3, 79, 42]
abbrev dktX2_findLacks_1 : List UInt8 := dkwX2_findLacks_1 ++ dktX2_findLacks_2
def dkwX2_findLacks_0 : List UInt8 := [3, 60, 27, 16, 6, 162, 0, 60, 27, 42, 180, 0, 7, 3, 46, 162, 0, 11, 42, 27, 182, 1, 126]
abbrev dktX2_findLacks_0 : List UInt8 := dkwX2_findLacks_0 ++ dktX2_findLacks_1
theorem dksX2_findLacks_0 : cX2_findLacks.data.toList.drop 0 = dktX2_findLacks_0 := by decide +kernel
theorem dksX2_findLacks_1 : cX2_findLacks.data.toList.drop 23 = dktX2_findLacks_1 := dk_seg dksX2_findLacks_0 23 rfl rfl
theorem dksX2_findLacks_2 : cX2_findLacks.data.toList.drop 45 = dktX2_findLacks_2 := dk_seg dksX2_findLacks_1 22 rfl rfl
theorem dksX2_findLacks_3 : cX2_findLacks.data.toList.drop 68 = dktX2_findLacks_3 := dk_seg dksX2_findLacks_2 23 rfl rfl
theorem dksX2_findLacks_4 : cX2_findLacks.data.toList.drop 91 = dktX2_findLacks_4 := dk_seg dksX2_findLacks_3 23 rfl rfl
theorem dksX2_findLacks_5 : cX2_findLacks.data.toList.drop 115 = dktX2_findLacks_5 := dk_seg dksX2_findLacks_4 24 rfl rfl
theorem dX2_findLacks_0 : decode cX2_findLacks 0 = .ok (.iconst 0, 1) := dk_3 (dk_at dksX2_findLacks_0 0 rfl rfl)
theorem dX2_findLacks_1 : decode cX2_findLacks 1 = .ok (.istore_n 1, 1) := dk_60 (dk_at dksX2_findLacks_0 1 rfl rfl)
theorem dX2_findLacks_2 : decode cX2_findLacks 2 = .ok (.iload_n 1, 1) := dk_27 (dk_at dksX2_findLacks_0 2 rfl rfl)
theorem dX2_findLacks_3 : decode cX2_findLacks 3 = .ok (.bipush 6, 2) := dk_16 6 (dk_at dksX2_findLacks_0 3 rfl rfl)
theorem dX2_findLacks_5 : decode cX2_findLacks 5 = .ok (.if_icmp .ge 60, 3) := dk_162 0 60 (dk_at dksX2_findLacks_0 5 rfl rfl)
theorem dX2_findLacks_8 : decode cX2_findLacks 8 = .ok (.iload_n 1, 1) := dk_27 (dk_at dksX2_findLacks_0 8 rfl rfl)
theorem dX2_findLacks_9 : decode cX2_findLacks 9 = .ok (.aload_n 0, 1) := dk_42 (dk_at dksX2_findLacks_0 9 rfl rfl)
theorem dX2_findLacks_10 : decode cX2_findLacks 10 = .ok (.getfield 7, 3) := dk_180 0 7 (dk_at dksX2_findLacks_0 10 rfl rfl)
theorem dX2_findLacks_13 : decode cX2_findLacks 13 = .ok (.iconst 0, 1) := dk_3 (dk_at dksX2_findLacks_0 13 rfl rfl)
theorem dX2_findLacks_14 : decode cX2_findLacks 14 = .ok (.iaload, 1) := dk_46 (dk_at dksX2_findLacks_0 14 rfl rfl)
theorem dX2_findLacks_15 : decode cX2_findLacks 15 = .ok (.if_icmp .ge 11, 3) := dk_162 0 11 (dk_at dksX2_findLacks_0 15 rfl rfl)
theorem dX2_findLacks_18 : decode cX2_findLacks 18 = .ok (.aload_n 0, 1) := dk_42 (dk_at dksX2_findLacks_0 18 rfl rfl)
theorem dX2_findLacks_19 : decode cX2_findLacks 19 = .ok (.iload_n 1, 1) := dk_27 (dk_at dksX2_findLacks_0 19 rfl rfl)
theorem dX2_findLacks_20 : decode cX2_findLacks 20 = .ok (.invokevirtual 382, 3) := dk_182 1 126 (dk_at dksX2_findLacks_0 20 rfl rfl)
theorem dX2_findLacks_23 : decode cX2_findLacks 23 = .ok (.goto 4, 3) := dk_167 0 4 (dk_at dksX2_findLacks_1 0 rfl rfl)
theorem dX2_findLacks_26 : decode cX2_findLacks 26 = .ok (.iconst 0, 1) := dk_3 (dk_at dksX2_findLacks_1 3 rfl rfl)
theorem dX2_findLacks_27 : decode cX2_findLacks 27 = .ok (.istore_n 2, 1) := dk_61 (dk_at dksX2_findLacks_1 4 rfl rfl)
theorem dX2_findLacks_28 : decode cX2_findLacks 28 = .ok (.aload_n 0, 1) := dk_42 (dk_at dksX2_findLacks_1 5 rfl rfl)
theorem dX2_findLacks_29 : decode cX2_findLacks 29 = .ok (.getfield 48, 3) := dk_180 0 48 (dk_at dksX2_findLacks_1 6 rfl rfl)
theorem dX2_findLacks_32 : decode cX2_findLacks 32 = .ok (.iload_n 1, 1) := dk_27 (dk_at dksX2_findLacks_1 9 rfl rfl)
theorem dX2_findLacks_33 : decode cX2_findLacks 33 = .ok (.iload_n 2, 1) := dk_28 (dk_at dksX2_findLacks_1 10 rfl rfl)
theorem dX2_findLacks_34 : decode cX2_findLacks 34 = .ok (.ifCond .ge 8, 3) := dk_156 0 8 (dk_at dksX2_findLacks_1 11 rfl rfl)
theorem dX2_findLacks_37 : decode cX2_findLacks 37 = .ok (.iload_n 2, 1) := dk_28 (dk_at dksX2_findLacks_1 14 rfl rfl)
theorem dX2_findLacks_38 : decode cX2_findLacks 38 = .ok (.ineg, 1) := dk_116 (dk_at dksX2_findLacks_1 15 rfl rfl)
theorem dX2_findLacks_39 : decode cX2_findLacks 39 = .ok (.goto 4, 3) := dk_167 0 4 (dk_at dksX2_findLacks_1 16 rfl rfl)
theorem dX2_findLacks_42 : decode cX2_findLacks 42 = .ok (.iconst 0, 1) := dk_3 (dk_at dksX2_findLacks_1 19 rfl rfl)
theorem dX2_findLacks_43 : decode cX2_findLacks 43 = .ok (.iastore, 1) := dk_79 (dk_at dksX2_findLacks_1 20 rfl rfl)
theorem dX2_findLacks_44 : decode cX2_findLacks 44 = .ok (.aload_n 0, 1) := dk_42 (dk_at dksX2_findLacks_1 21 rfl rfl)
theorem dX2_findLacks_45 : decode cX2_findLacks 45 = .ok (.getfield 51, 3) := dk_180 0 51 (dk_at dksX2_findLacks_2 0 rfl rfl)
theorem dX2_findLacks_48 : decode cX2_findLacks 48 = .ok (.iload_n 1, 1) := dk_27 (dk_at dksX2_findLacks_2 3 rfl rfl)
theorem dX2_findLacks_49 : decode cX2_findLacks 49 = .ok (.iload_n 2, 1) := dk_28 (dk_at dksX2_findLacks_2 4 rfl rfl)
theorem dX2_findLacks_50 : decode cX2_findLacks 50 = .ok (.ifCond .le 7, 3) := dk_158 0 7 (dk_at dksX2_findLacks_2 5 rfl rfl)
theorem dX2_findLacks_53 : decode cX2_findLacks 53 = .ok (.iload_n 2, 1) := dk_28 (dk_at dksX2_findLacks_2 8 rfl rfl)
theorem dX2_findLacks_54 : decode cX2_findLacks 54 = .ok (.goto 4, 3) := dk_167 0 4 (dk_at dksX2_findLacks_2 9 rfl rfl)
theorem dX2_findLacks_57 : decode cX2_findLacks 57 = .ok (.iconst 0, 1) := dk_3 (dk_at dksX2_findLacks_2 12 rfl rfl)
theorem dX2_findLacks_58 : decode cX2_findLacks 58 = .ok (.iastore, 1) := dk_79 (dk_at dksX2_findLacks_2 13 rfl rfl)
theorem dX2_findLacks_59 : decode cX2_findLacks 59 = .ok (.iinc 1 1, 3) := dk_132 1 1 (dk_at dksX2_findLacks_2 14 rfl rfl)
theorem dX2_findLacks_62 : decode cX2_findLacks 62 = .ok (.goto (-60), 3) := dk_167 255 196 (dk_at dksX2_findLacks_2 17 rfl rfl)
theorem dX2_findLacks_65 : decode cX2_findLacks 65 = .ok (.iconst 0, 1) := dk_3 (dk_at dksX2_findLacks_2 20 rfl rfl)
theorem dX2_findLacks_66 : decode cX2_findLacks 66 = .ok (.istore_n 1, 1) := dk_60 (dk_at dksX2_findLacks_2 21 rfl rfl)
theorem dX2_findLacks_67 : decode cX2_findLacks 67 = .ok (.iload_n 1, 1) := dk_27 (dk_at dksX2_findLacks_2 22 rfl rfl)
theorem dX2_findLacks_68 : decode cX2_findLacks 68 = .ok (.bipush 36, 2) := dk_16 36 (dk_at dksX2_findLacks_3 0 rfl rfl)
theorem dX2_findLacks_70 : decode cX2_findLacks 70 = .ok (.if_icmp .ge 59, 3) := dk_162 0 59 (dk_at dksX2_findLacks_3 2 rfl rfl)
theorem dX2_findLacks_73 : decode cX2_findLacks 73 = .ok (.aload_n 0, 1) := dk_42 (dk_at dksX2_findLacks_3 5 rfl rfl)
theorem dX2_findLacks_74 : decode cX2_findLacks 74 = .ok (.getfield 54, 3) := dk_180 0 54 (dk_at dksX2_findLacks_3 6 rfl rfl)
theorem dX2_findLacks_77 : decode cX2_findLacks 77 = .ok (.iload_n 1, 1) := dk_27 (dk_at dksX2_findLacks_3 9 rfl rfl)
theorem dX2_findLacks_78 : decode cX2_findLacks 78 = .ok (.aload_n 0, 1) := dk_42 (dk_at dksX2_findLacks_3 10 rfl rfl)
theorem dX2_findLacks_79 : decode cX2_findLacks 79 = .ok (.getfield 48, 3) := dk_180 0 48 (dk_at dksX2_findLacks_3 11 rfl rfl)
theorem dX2_findLacks_82 : decode cX2_findLacks 82 = .ok (.iload_n 1, 1) := dk_27 (dk_at dksX2_findLacks_3 14 rfl rfl)
theorem dX2_findLacks_83 : decode cX2_findLacks 83 = .ok (.bipush 6, 2) := dk_16 6 (dk_at dksX2_findLacks_3 15 rfl rfl)
theorem dX2_findLacks_85 : decode cX2_findLacks 85 = .ok (.idiv, 1) := dk_108 (dk_at dksX2_findLacks_3 17 rfl rfl)
theorem dX2_findLacks_86 : decode cX2_findLacks 86 = .ok (.iaload, 1) := dk_46 (dk_at dksX2_findLacks_3 18 rfl rfl)
theorem dX2_findLacks_87 : decode cX2_findLacks 87 = .ok (.ifCond .le 27, 3) := dk_158 0 27 (dk_at dksX2_findLacks_3 19 rfl rfl)
theorem dX2_findLacks_90 : decode cX2_findLacks 90 = .ok (.aload_n 0, 1) := dk_42 (dk_at dksX2_findLacks_3 22 rfl rfl)
theorem dX2_findLacks_91 : decode cX2_findLacks 91 = .ok (.getfield 51, 3) := dk_180 0 51 (dk_at dksX2_findLacks_4 0 rfl rfl)
theorem dX2_findLacks_94 : decode cX2_findLacks 94 = .ok (.iload_n 1, 1) := dk_27 (dk_at dksX2_findLacks_4 3 rfl rfl)
theorem dX2_findLacks_95 : decode cX2_findLacks 95 = .ok (.bipush 6, 2) := dk_16 6 (dk_at dksX2_findLacks_4 4 rfl rfl)
theorem dX2_findLacks_97 : decode cX2_findLacks 97 = .ok (.irem, 1) := dk_112 (dk_at dksX2_findLacks_4 6 rfl rfl)
theorem dX2_findLacks_98 : decode cX2_findLacks 98 = .ok (.iaload, 1) := dk_46 (dk_at dksX2_findLacks_4 7 rfl rfl)
theorem dX2_findLacks_99 : decode cX2_findLacks 99 = .ok (.ifCond .le 15, 3) := dk_158 0 15 (dk_at dksX2_findLacks_4 8 rfl rfl)
theorem dX2_findLacks_102 : decode cX2_findLacks 102 = .ok (.aload_n 0, 1) := dk_42 (dk_at dksX2_findLacks_4 11 rfl rfl)
theorem dX2_findLacks_103 : decode cX2_findLacks 103 = .ok (.getfield 7, 3) := dk_180 0 7 (dk_at dksX2_findLacks_4 12 rfl rfl)
theorem dX2_findLacks_106 : decode cX2_findLacks 106 = .ok (.bipush 54, 2) := dk_16 54 (dk_at dksX2_findLacks_4 15 rfl rfl)
theorem dX2_findLacks_108 : decode cX2_findLacks 108 = .ok (.iload_n 1, 1) := dk_27 (dk_at dksX2_findLacks_4 17 rfl rfl)
theorem dX2_findLacks_109 : decode cX2_findLacks 109 = .ok (.iadd, 1) := dk_96 (dk_at dksX2_findLacks_4 18 rfl rfl)
theorem dX2_findLacks_110 : decode cX2_findLacks 110 = .ok (.iaload, 1) := dk_46 (dk_at dksX2_findLacks_4 19 rfl rfl)
theorem dX2_findLacks_111 : decode cX2_findLacks 111 = .ok (.goto 4, 3) := dk_167 0 4 (dk_at dksX2_findLacks_4 20 rfl rfl)
theorem dX2_findLacks_114 : decode cX2_findLacks 114 = .ok (.iconst 0, 1) := dk_3 (dk_at dksX2_findLacks_4 23 rfl rfl)
theorem dX2_findLacks_115 : decode cX2_findLacks 115 = .ok (.iastore, 1) := dk_79 (dk_at dksX2_findLacks_5 0 rfl rfl)
theorem dX2_findLacks_116 : decode cX2_findLacks 116 = .ok (.aload_n 0, 1) := dk_42 (dk_at dksX2_findLacks_5 1 rfl rfl)
theorem dX2_findLacks_117 : decode cX2_findLacks 117 = .ok (.getfield 57, 3) := dk_180 0 57 (dk_at dksX2_findLacks_5 2 rfl rfl)
theorem dX2_findLacks_120 : decode cX2_findLacks 120 = .ok (.iload_n 1, 1) := dk_27 (dk_at dksX2_findLacks_5 5 rfl rfl)
theorem dX2_findLacks_121 : decode cX2_findLacks 121 = .ok (.iconst 0, 1) := dk_3 (dk_at dksX2_findLacks_5 6 rfl rfl)
theorem dX2_findLacks_122 : decode cX2_findLacks 122 = .ok (.iastore, 1) := dk_79 (dk_at dksX2_findLacks_5 7 rfl rfl)
theorem dX2_findLacks_123 : decode cX2_findLacks 123 = .ok (.iinc 1 1, 3) := dk_132 1 1 (dk_at dksX2_findLacks_5 8 rfl rfl)
theorem dX2_findLacks_126 : decode cX2_findLacks 126 = .ok (.goto (-59), 3) := dk_167 255 197 (dk_at dksX2_findLacks_5 11 rfl rfl)
theorem dX2_findLacks_129 : decode cX2_findLacks 129 = .ok (.return_, 1) := dk_177 (dk_at dksX2_findLacks_5 14 rfl rfl)
abbrev cX2_tooMuch : ByteArray := prog_15_method_110_code
def yX2_tooMuch : MethodName := ⟨RX2, "tooMuch", "()I"⟩
def dkwX2_tooMuch_3 : List UInt8 := [172]
abbrev dktX2_tooMuch_3 : List UInt8 := dkwX2_tooMuch_3 ++ []
def dkwX2_tooMuch_2 : List UInt8 := [167, 255, 220, 28, 153, 0, 13, 42, 27, 182, 1, 160, 153, 0, 5, 27, 172, 132, 1, 1, 167, 255, 190, 2]
abbrev dktX2_tooMuch_2 : List UInt8 := dkwX2_tooMuch_2 ++ dktX2_tooMuch_3
def dkwX2_tooMuch_1 : List UInt8 := [184, 0, 224, 153, 0, 12, 42, 180, 0, 60, 29, 51, 153, 0, 7, 4, 167, 0, 4, 3, 61, 132, 3, 1]
abbrev dktX2_tooMuch_1 : List UInt8 := dkwX2_tooMuch_1 ++ dktX2_tooMuch_2
def dkwX2_tooMuch_0 : List UInt8 := [4, 60, 27, 16, 64, 162, 0, 66, 4, 61, 3, 62, 29, 16, 6, 162, 0, 36, 28, 153, 0, 24, 27, 29]
abbrev dktX2_tooMuch_0 : List UInt8 := dkwX2_tooMuch_0 ++ dktX2_tooMuch_1
theorem dksX2_tooMuch_0 : cX2_tooMuch.data.toList.drop 0 = dktX2_tooMuch_0 := by decide +kernel
theorem dksX2_tooMuch_1 : cX2_tooMuch.data.toList.drop 24 = dktX2_tooMuch_1 := dk_seg dksX2_tooMuch_0 24 rfl rfl
theorem dksX2_tooMuch_2 : cX2_tooMuch.data.toList.drop 48 = dktX2_tooMuch_2 := dk_seg dksX2_tooMuch_1 24 rfl rfl
theorem dksX2_tooMuch_3 : cX2_tooMuch.data.toList.drop 72 = dktX2_tooMuch_3 := dk_seg dksX2_tooMuch_2 24 rfl rfl
theorem dX2_tooMuch_0 : decode cX2_tooMuch 0 = .ok (.iconst 1, 1) := dk_4 (dk_at dksX2_tooMuch_0 0 rfl rfl)
theorem dX2_tooMuch_1 : decode cX2_tooMuch 1 = .ok (.istore_n 1, 1) := dk_60 (dk_at dksX2_tooMuch_0 1 rfl rfl)
theorem dX2_tooMuch_2 : decode cX2_tooMuch 2 = .ok (.iload_n 1, 1) := dk_27 (dk_at dksX2_tooMuch_0 2 rfl rfl)
theorem dX2_tooMuch_3 : decode cX2_tooMuch 3 = .ok (.bipush 64, 2) := dk_16 64 (dk_at dksX2_tooMuch_0 3 rfl rfl)
theorem dX2_tooMuch_5 : decode cX2_tooMuch 5 = .ok (.if_icmp .ge 66, 3) := dk_162 0 66 (dk_at dksX2_tooMuch_0 5 rfl rfl)
theorem dX2_tooMuch_8 : decode cX2_tooMuch 8 = .ok (.iconst 1, 1) := dk_4 (dk_at dksX2_tooMuch_0 8 rfl rfl)
theorem dX2_tooMuch_9 : decode cX2_tooMuch 9 = .ok (.istore_n 2, 1) := dk_61 (dk_at dksX2_tooMuch_0 9 rfl rfl)
theorem dX2_tooMuch_10 : decode cX2_tooMuch 10 = .ok (.iconst 0, 1) := dk_3 (dk_at dksX2_tooMuch_0 10 rfl rfl)
theorem dX2_tooMuch_11 : decode cX2_tooMuch 11 = .ok (.istore_n 3, 1) := dk_62 (dk_at dksX2_tooMuch_0 11 rfl rfl)
theorem dX2_tooMuch_12 : decode cX2_tooMuch 12 = .ok (.iload_n 3, 1) := dk_29 (dk_at dksX2_tooMuch_0 12 rfl rfl)
theorem dX2_tooMuch_13 : decode cX2_tooMuch 13 = .ok (.bipush 6, 2) := dk_16 6 (dk_at dksX2_tooMuch_0 13 rfl rfl)
theorem dX2_tooMuch_15 : decode cX2_tooMuch 15 = .ok (.if_icmp .ge 36, 3) := dk_162 0 36 (dk_at dksX2_tooMuch_0 15 rfl rfl)
theorem dX2_tooMuch_18 : decode cX2_tooMuch 18 = .ok (.iload_n 2, 1) := dk_28 (dk_at dksX2_tooMuch_0 18 rfl rfl)
theorem dX2_tooMuch_19 : decode cX2_tooMuch 19 = .ok (.ifCond .eq 24, 3) := dk_153 0 24 (dk_at dksX2_tooMuch_0 19 rfl rfl)
theorem dX2_tooMuch_22 : decode cX2_tooMuch 22 = .ok (.iload_n 1, 1) := dk_27 (dk_at dksX2_tooMuch_0 22 rfl rfl)
theorem dX2_tooMuch_23 : decode cX2_tooMuch 23 = .ok (.iload_n 3, 1) := dk_29 (dk_at dksX2_tooMuch_0 23 rfl rfl)
theorem dX2_tooMuch_24 : decode cX2_tooMuch 24 = .ok (.invokestatic 224, 3) := dk_184 0 224 (dk_at dksX2_tooMuch_1 0 rfl rfl)
theorem dX2_tooMuch_27 : decode cX2_tooMuch 27 = .ok (.ifCond .eq 12, 3) := dk_153 0 12 (dk_at dksX2_tooMuch_1 3 rfl rfl)
theorem dX2_tooMuch_30 : decode cX2_tooMuch 30 = .ok (.aload_n 0, 1) := dk_42 (dk_at dksX2_tooMuch_1 6 rfl rfl)
theorem dX2_tooMuch_31 : decode cX2_tooMuch 31 = .ok (.getfield 60, 3) := dk_180 0 60 (dk_at dksX2_tooMuch_1 7 rfl rfl)
theorem dX2_tooMuch_34 : decode cX2_tooMuch 34 = .ok (.iload_n 3, 1) := dk_29 (dk_at dksX2_tooMuch_1 10 rfl rfl)
theorem dX2_tooMuch_35 : decode cX2_tooMuch 35 = .ok (.baload, 1) := dk_51 (dk_at dksX2_tooMuch_1 11 rfl rfl)
theorem dX2_tooMuch_36 : decode cX2_tooMuch 36 = .ok (.ifCond .eq 7, 3) := dk_153 0 7 (dk_at dksX2_tooMuch_1 12 rfl rfl)
theorem dX2_tooMuch_39 : decode cX2_tooMuch 39 = .ok (.iconst 1, 1) := dk_4 (dk_at dksX2_tooMuch_1 15 rfl rfl)
theorem dX2_tooMuch_40 : decode cX2_tooMuch 40 = .ok (.goto 4, 3) := dk_167 0 4 (dk_at dksX2_tooMuch_1 16 rfl rfl)
theorem dX2_tooMuch_43 : decode cX2_tooMuch 43 = .ok (.iconst 0, 1) := dk_3 (dk_at dksX2_tooMuch_1 19 rfl rfl)
theorem dX2_tooMuch_44 : decode cX2_tooMuch 44 = .ok (.istore_n 2, 1) := dk_61 (dk_at dksX2_tooMuch_1 20 rfl rfl)
theorem dX2_tooMuch_45 : decode cX2_tooMuch 45 = .ok (.iinc 3 1, 3) := dk_132 3 1 (dk_at dksX2_tooMuch_1 21 rfl rfl)
theorem dX2_tooMuch_48 : decode cX2_tooMuch 48 = .ok (.goto (-36), 3) := dk_167 255 220 (dk_at dksX2_tooMuch_2 0 rfl rfl)
theorem dX2_tooMuch_51 : decode cX2_tooMuch 51 = .ok (.iload_n 2, 1) := dk_28 (dk_at dksX2_tooMuch_2 3 rfl rfl)
theorem dX2_tooMuch_52 : decode cX2_tooMuch 52 = .ok (.ifCond .eq 13, 3) := dk_153 0 13 (dk_at dksX2_tooMuch_2 4 rfl rfl)
theorem dX2_tooMuch_55 : decode cX2_tooMuch 55 = .ok (.aload_n 0, 1) := dk_42 (dk_at dksX2_tooMuch_2 7 rfl rfl)
theorem dX2_tooMuch_56 : decode cX2_tooMuch 56 = .ok (.iload_n 1, 1) := dk_27 (dk_at dksX2_tooMuch_2 8 rfl rfl)
theorem dX2_tooMuch_57 : decode cX2_tooMuch 57 = .ok (.invokevirtual 416, 3) := dk_182 1 160 (dk_at dksX2_tooMuch_2 9 rfl rfl)
theorem dX2_tooMuch_60 : decode cX2_tooMuch 60 = .ok (.ifCond .eq 5, 3) := dk_153 0 5 (dk_at dksX2_tooMuch_2 12 rfl rfl)
theorem dX2_tooMuch_63 : decode cX2_tooMuch 63 = .ok (.iload_n 1, 1) := dk_27 (dk_at dksX2_tooMuch_2 15 rfl rfl)
theorem dX2_tooMuch_64 : decode cX2_tooMuch 64 = .ok (.ireturn, 1) := dk_172 (dk_at dksX2_tooMuch_2 16 rfl rfl)
theorem dX2_tooMuch_65 : decode cX2_tooMuch 65 = .ok (.iinc 1 1, 3) := dk_132 1 1 (dk_at dksX2_tooMuch_2 17 rfl rfl)
theorem dX2_tooMuch_68 : decode cX2_tooMuch 68 = .ok (.goto (-66), 3) := dk_167 255 190 (dk_at dksX2_tooMuch_2 20 rfl rfl)
theorem dX2_tooMuch_71 : decode cX2_tooMuch 71 = .ok (.iconst (-1), 1) := dk_2 (dk_at dksX2_tooMuch_2 23 rfl rfl)
theorem dX2_tooMuch_72 : decode cX2_tooMuch 72 = .ok (.ireturn, 1) := dk_172 (dk_at dksX2_tooMuch_3 0 rfl rfl)
abbrev cX2_isTooMuch : ByteArray := prog_15_method_109_code
def yX2_isTooMuch : MethodName := ⟨RX2, "isTooMuch", "(I)Z"⟩
def dkwX2_isTooMuch_5 : List UInt8 := [167, 255, 146, 28, 29, 164, 0, 7, 4, 167, 0, 4, 3, 172]
abbrev dktX2_isTooMuch_5 : List UInt8 := dkwX2_isTooMuch_5 ++ []
def dkwX2_isTooMuch_4 : List UInt8 := [21, 4, 46, 162, 0, 8, 21, 5, 167, 0, 10, 42, 180, 0, 51, 21, 4, 46, 96, 62, 132, 4, 1]
abbrev dktX2_isTooMuch_4 : List UInt8 := dkwX2_isTooMuch_4 ++ dktX2_isTooMuch_5
def dkwX2_isTooMuch_3 : List UInt8 := [21, 4, 96, 46, 167, 0, 4, 3, 96, 54, 5, 132, 6, 1, 167, 255, 215, 29, 21, 5, 42, 180, 0, 51]
abbrev dktX2_isTooMuch_3 : List UInt8 := dkwX2_isTooMuch_3 ++ dktX2_isTooMuch_4
def dkwX2_isTooMuch_2 : List UInt8 := [162, 0, 40, 21, 5, 27, 21, 6, 184, 0, 224, 153, 0, 19, 42, 180, 0, 54, 16, 6, 21, 6, 104]
abbrev dktX2_isTooMuch_2 : List UInt8 := dkwX2_isTooMuch_2 ++ dktX2_isTooMuch_3
def dkwX2_isTooMuch_1 : List UInt8 := [42, 180, 0, 48, 21, 4, 46, 167, 0, 4, 3, 96, 61, 3, 54, 5, 3, 54, 6, 21, 6, 16, 6]
abbrev dktX2_isTooMuch_1 : List UInt8 := dkwX2_isTooMuch_1 ++ dktX2_isTooMuch_2
def dkwX2_isTooMuch_0 : List UInt8 := [3, 61, 3, 62, 3, 54, 4, 21, 4, 16, 6, 162, 0, 109, 28, 27, 21, 4, 184, 0, 224, 153, 0, 13]
abbrev dktX2_isTooMuch_0 : List UInt8 := dkwX2_isTooMuch_0 ++ dktX2_isTooMuch_1
theorem dksX2_isTooMuch_0 : cX2_isTooMuch.data.toList.drop 0 = dktX2_isTooMuch_0 := by decide +kernel
theorem dksX2_isTooMuch_1 : cX2_isTooMuch.data.toList.drop 24 = dktX2_isTooMuch_1 := dk_seg dksX2_isTooMuch_0 24 rfl rfl
theorem dksX2_isTooMuch_2 : cX2_isTooMuch.data.toList.drop 47 = dktX2_isTooMuch_2 := dk_seg dksX2_isTooMuch_1 23 rfl rfl
theorem dksX2_isTooMuch_3 : cX2_isTooMuch.data.toList.drop 70 = dktX2_isTooMuch_3 := dk_seg dksX2_isTooMuch_2 23 rfl rfl
theorem dksX2_isTooMuch_4 : cX2_isTooMuch.data.toList.drop 94 = dktX2_isTooMuch_4 := dk_seg dksX2_isTooMuch_3 24 rfl rfl
theorem dksX2_isTooMuch_5 : cX2_isTooMuch.data.toList.drop 117 = dktX2_isTooMuch_5 := dk_seg dksX2_isTooMuch_4 23 rfl rfl
theorem dX2_isTooMuch_0 : decode cX2_isTooMuch 0 = .ok (.iconst 0, 1) := dk_3 (dk_at dksX2_isTooMuch_0 0 rfl rfl)
theorem dX2_isTooMuch_1 : decode cX2_isTooMuch 1 = .ok (.istore_n 2, 1) := dk_61 (dk_at dksX2_isTooMuch_0 1 rfl rfl)
theorem dX2_isTooMuch_2 : decode cX2_isTooMuch 2 = .ok (.iconst 0, 1) := dk_3 (dk_at dksX2_isTooMuch_0 2 rfl rfl)
theorem dX2_isTooMuch_3 : decode cX2_isTooMuch 3 = .ok (.istore_n 3, 1) := dk_62 (dk_at dksX2_isTooMuch_0 3 rfl rfl)
theorem dX2_isTooMuch_4 : decode cX2_isTooMuch 4 = .ok (.iconst 0, 1) := dk_3 (dk_at dksX2_isTooMuch_0 4 rfl rfl)
theorem dX2_isTooMuch_5 : decode cX2_isTooMuch 5 = .ok (.istore 4, 2) := dk_54 4 (dk_at dksX2_isTooMuch_0 5 rfl rfl)
theorem dX2_isTooMuch_7 : decode cX2_isTooMuch 7 = .ok (.iload 4, 2) := dk_21 4 (dk_at dksX2_isTooMuch_0 7 rfl rfl)
theorem dX2_isTooMuch_9 : decode cX2_isTooMuch 9 = .ok (.bipush 6, 2) := dk_16 6 (dk_at dksX2_isTooMuch_0 9 rfl rfl)
theorem dX2_isTooMuch_11 : decode cX2_isTooMuch 11 = .ok (.if_icmp .ge 109, 3) := dk_162 0 109 (dk_at dksX2_isTooMuch_0 11 rfl rfl)
theorem dX2_isTooMuch_14 : decode cX2_isTooMuch 14 = .ok (.iload_n 2, 1) := dk_28 (dk_at dksX2_isTooMuch_0 14 rfl rfl)
theorem dX2_isTooMuch_15 : decode cX2_isTooMuch 15 = .ok (.iload_n 1, 1) := dk_27 (dk_at dksX2_isTooMuch_0 15 rfl rfl)
theorem dX2_isTooMuch_16 : decode cX2_isTooMuch 16 = .ok (.iload 4, 2) := dk_21 4 (dk_at dksX2_isTooMuch_0 16 rfl rfl)
theorem dX2_isTooMuch_18 : decode cX2_isTooMuch 18 = .ok (.invokestatic 224, 3) := dk_184 0 224 (dk_at dksX2_isTooMuch_0 18 rfl rfl)
theorem dX2_isTooMuch_21 : decode cX2_isTooMuch 21 = .ok (.ifCond .eq 13, 3) := dk_153 0 13 (dk_at dksX2_isTooMuch_0 21 rfl rfl)
theorem dX2_isTooMuch_24 : decode cX2_isTooMuch 24 = .ok (.aload_n 0, 1) := dk_42 (dk_at dksX2_isTooMuch_1 0 rfl rfl)
theorem dX2_isTooMuch_25 : decode cX2_isTooMuch 25 = .ok (.getfield 48, 3) := dk_180 0 48 (dk_at dksX2_isTooMuch_1 1 rfl rfl)
theorem dX2_isTooMuch_28 : decode cX2_isTooMuch 28 = .ok (.iload 4, 2) := dk_21 4 (dk_at dksX2_isTooMuch_1 4 rfl rfl)
theorem dX2_isTooMuch_30 : decode cX2_isTooMuch 30 = .ok (.iaload, 1) := dk_46 (dk_at dksX2_isTooMuch_1 6 rfl rfl)
theorem dX2_isTooMuch_31 : decode cX2_isTooMuch 31 = .ok (.goto 4, 3) := dk_167 0 4 (dk_at dksX2_isTooMuch_1 7 rfl rfl)
theorem dX2_isTooMuch_34 : decode cX2_isTooMuch 34 = .ok (.iconst 0, 1) := dk_3 (dk_at dksX2_isTooMuch_1 10 rfl rfl)
theorem dX2_isTooMuch_35 : decode cX2_isTooMuch 35 = .ok (.iadd, 1) := dk_96 (dk_at dksX2_isTooMuch_1 11 rfl rfl)
theorem dX2_isTooMuch_36 : decode cX2_isTooMuch 36 = .ok (.istore_n 2, 1) := dk_61 (dk_at dksX2_isTooMuch_1 12 rfl rfl)
theorem dX2_isTooMuch_37 : decode cX2_isTooMuch 37 = .ok (.iconst 0, 1) := dk_3 (dk_at dksX2_isTooMuch_1 13 rfl rfl)
theorem dX2_isTooMuch_38 : decode cX2_isTooMuch 38 = .ok (.istore 5, 2) := dk_54 5 (dk_at dksX2_isTooMuch_1 14 rfl rfl)
theorem dX2_isTooMuch_40 : decode cX2_isTooMuch 40 = .ok (.iconst 0, 1) := dk_3 (dk_at dksX2_isTooMuch_1 16 rfl rfl)
theorem dX2_isTooMuch_41 : decode cX2_isTooMuch 41 = .ok (.istore 6, 2) := dk_54 6 (dk_at dksX2_isTooMuch_1 17 rfl rfl)
theorem dX2_isTooMuch_43 : decode cX2_isTooMuch 43 = .ok (.iload 6, 2) := dk_21 6 (dk_at dksX2_isTooMuch_1 19 rfl rfl)
theorem dX2_isTooMuch_45 : decode cX2_isTooMuch 45 = .ok (.bipush 6, 2) := dk_16 6 (dk_at dksX2_isTooMuch_1 21 rfl rfl)
theorem dX2_isTooMuch_47 : decode cX2_isTooMuch 47 = .ok (.if_icmp .ge 40, 3) := dk_162 0 40 (dk_at dksX2_isTooMuch_2 0 rfl rfl)
theorem dX2_isTooMuch_50 : decode cX2_isTooMuch 50 = .ok (.iload 5, 2) := dk_21 5 (dk_at dksX2_isTooMuch_2 3 rfl rfl)
theorem dX2_isTooMuch_52 : decode cX2_isTooMuch 52 = .ok (.iload_n 1, 1) := dk_27 (dk_at dksX2_isTooMuch_2 5 rfl rfl)
theorem dX2_isTooMuch_53 : decode cX2_isTooMuch 53 = .ok (.iload 6, 2) := dk_21 6 (dk_at dksX2_isTooMuch_2 6 rfl rfl)
theorem dX2_isTooMuch_55 : decode cX2_isTooMuch 55 = .ok (.invokestatic 224, 3) := dk_184 0 224 (dk_at dksX2_isTooMuch_2 8 rfl rfl)
theorem dX2_isTooMuch_58 : decode cX2_isTooMuch 58 = .ok (.ifCond .eq 19, 3) := dk_153 0 19 (dk_at dksX2_isTooMuch_2 11 rfl rfl)
theorem dX2_isTooMuch_61 : decode cX2_isTooMuch 61 = .ok (.aload_n 0, 1) := dk_42 (dk_at dksX2_isTooMuch_2 14 rfl rfl)
theorem dX2_isTooMuch_62 : decode cX2_isTooMuch 62 = .ok (.getfield 54, 3) := dk_180 0 54 (dk_at dksX2_isTooMuch_2 15 rfl rfl)
theorem dX2_isTooMuch_65 : decode cX2_isTooMuch 65 = .ok (.bipush 6, 2) := dk_16 6 (dk_at dksX2_isTooMuch_2 18 rfl rfl)
theorem dX2_isTooMuch_67 : decode cX2_isTooMuch 67 = .ok (.iload 6, 2) := dk_21 6 (dk_at dksX2_isTooMuch_2 20 rfl rfl)
theorem dX2_isTooMuch_69 : decode cX2_isTooMuch 69 = .ok (.imul, 1) := dk_104 (dk_at dksX2_isTooMuch_2 22 rfl rfl)
theorem dX2_isTooMuch_70 : decode cX2_isTooMuch 70 = .ok (.iload 4, 2) := dk_21 4 (dk_at dksX2_isTooMuch_3 0 rfl rfl)
theorem dX2_isTooMuch_72 : decode cX2_isTooMuch 72 = .ok (.iadd, 1) := dk_96 (dk_at dksX2_isTooMuch_3 2 rfl rfl)
theorem dX2_isTooMuch_73 : decode cX2_isTooMuch 73 = .ok (.iaload, 1) := dk_46 (dk_at dksX2_isTooMuch_3 3 rfl rfl)
theorem dX2_isTooMuch_74 : decode cX2_isTooMuch 74 = .ok (.goto 4, 3) := dk_167 0 4 (dk_at dksX2_isTooMuch_3 4 rfl rfl)
theorem dX2_isTooMuch_77 : decode cX2_isTooMuch 77 = .ok (.iconst 0, 1) := dk_3 (dk_at dksX2_isTooMuch_3 7 rfl rfl)
theorem dX2_isTooMuch_78 : decode cX2_isTooMuch 78 = .ok (.iadd, 1) := dk_96 (dk_at dksX2_isTooMuch_3 8 rfl rfl)
theorem dX2_isTooMuch_79 : decode cX2_isTooMuch 79 = .ok (.istore 5, 2) := dk_54 5 (dk_at dksX2_isTooMuch_3 9 rfl rfl)
theorem dX2_isTooMuch_81 : decode cX2_isTooMuch 81 = .ok (.iinc 6 1, 3) := dk_132 6 1 (dk_at dksX2_isTooMuch_3 11 rfl rfl)
theorem dX2_isTooMuch_84 : decode cX2_isTooMuch 84 = .ok (.goto (-41), 3) := dk_167 255 215 (dk_at dksX2_isTooMuch_3 14 rfl rfl)
theorem dX2_isTooMuch_87 : decode cX2_isTooMuch 87 = .ok (.iload_n 3, 1) := dk_29 (dk_at dksX2_isTooMuch_3 17 rfl rfl)
theorem dX2_isTooMuch_88 : decode cX2_isTooMuch 88 = .ok (.iload 5, 2) := dk_21 5 (dk_at dksX2_isTooMuch_3 18 rfl rfl)
theorem dX2_isTooMuch_90 : decode cX2_isTooMuch 90 = .ok (.aload_n 0, 1) := dk_42 (dk_at dksX2_isTooMuch_3 20 rfl rfl)
theorem dX2_isTooMuch_91 : decode cX2_isTooMuch 91 = .ok (.getfield 51, 3) := dk_180 0 51 (dk_at dksX2_isTooMuch_3 21 rfl rfl)
theorem dX2_isTooMuch_94 : decode cX2_isTooMuch 94 = .ok (.iload 4, 2) := dk_21 4 (dk_at dksX2_isTooMuch_4 0 rfl rfl)
theorem dX2_isTooMuch_96 : decode cX2_isTooMuch 96 = .ok (.iaload, 1) := dk_46 (dk_at dksX2_isTooMuch_4 2 rfl rfl)
theorem dX2_isTooMuch_97 : decode cX2_isTooMuch 97 = .ok (.if_icmp .ge 8, 3) := dk_162 0 8 (dk_at dksX2_isTooMuch_4 3 rfl rfl)
theorem dX2_isTooMuch_100 : decode cX2_isTooMuch 100 = .ok (.iload 5, 2) := dk_21 5 (dk_at dksX2_isTooMuch_4 6 rfl rfl)
theorem dX2_isTooMuch_102 : decode cX2_isTooMuch 102 = .ok (.goto 10, 3) := dk_167 0 10 (dk_at dksX2_isTooMuch_4 8 rfl rfl)
theorem dX2_isTooMuch_105 : decode cX2_isTooMuch 105 = .ok (.aload_n 0, 1) := dk_42 (dk_at dksX2_isTooMuch_4 11 rfl rfl)
theorem dX2_isTooMuch_106 : decode cX2_isTooMuch 106 = .ok (.getfield 51, 3) := dk_180 0 51 (dk_at dksX2_isTooMuch_4 12 rfl rfl)
theorem dX2_isTooMuch_109 : decode cX2_isTooMuch 109 = .ok (.iload 4, 2) := dk_21 4 (dk_at dksX2_isTooMuch_4 15 rfl rfl)
theorem dX2_isTooMuch_111 : decode cX2_isTooMuch 111 = .ok (.iaload, 1) := dk_46 (dk_at dksX2_isTooMuch_4 17 rfl rfl)
theorem dX2_isTooMuch_112 : decode cX2_isTooMuch 112 = .ok (.iadd, 1) := dk_96 (dk_at dksX2_isTooMuch_4 18 rfl rfl)
theorem dX2_isTooMuch_113 : decode cX2_isTooMuch 113 = .ok (.istore_n 3, 1) := dk_62 (dk_at dksX2_isTooMuch_4 19 rfl rfl)
theorem dX2_isTooMuch_114 : decode cX2_isTooMuch 114 = .ok (.iinc 4 1, 3) := dk_132 4 1 (dk_at dksX2_isTooMuch_4 20 rfl rfl)
theorem dX2_isTooMuch_117 : decode cX2_isTooMuch 117 = .ok (.goto (-110), 3) := dk_167 255 146 (dk_at dksX2_isTooMuch_5 0 rfl rfl)
theorem dX2_isTooMuch_120 : decode cX2_isTooMuch 120 = .ok (.iload_n 2, 1) := dk_28 (dk_at dksX2_isTooMuch_5 3 rfl rfl)
theorem dX2_isTooMuch_121 : decode cX2_isTooMuch 121 = .ok (.iload_n 3, 1) := dk_29 (dk_at dksX2_isTooMuch_5 4 rfl rfl)
theorem dX2_isTooMuch_122 : decode cX2_isTooMuch 122 = .ok (.if_icmp .le 7, 3) := dk_164 0 7 (dk_at dksX2_isTooMuch_5 5 rfl rfl)
theorem dX2_isTooMuch_125 : decode cX2_isTooMuch 125 = .ok (.iconst 1, 1) := dk_4 (dk_at dksX2_isTooMuch_5 8 rfl rfl)
theorem dX2_isTooMuch_126 : decode cX2_isTooMuch 126 = .ok (.goto 4, 3) := dk_167 0 4 (dk_at dksX2_isTooMuch_5 9 rfl rfl)
theorem dX2_isTooMuch_129 : decode cX2_isTooMuch 129 = .ok (.iconst 0, 1) := dk_3 (dk_at dksX2_isTooMuch_5 12 rfl rfl)
theorem dX2_isTooMuch_130 : decode cX2_isTooMuch 130 = .ok (.ireturn, 1) := dk_172 (dk_at dksX2_isTooMuch_5 13 rfl rfl)
abbrev cX2_findLent : ByteArray := prog_15_method_112_code
def yX2_findLent : MethodName := ⟨RX2, "findLent", "(II)V"⟩
def dkwX2_findLent_4 : List UInt8 := [42, 182, 1, 166, 156, 0, 4, 177, 132, 7, 1, 167, 255, 190, 177]
abbrev dktX2_findLent_4 : List UInt8 := dkwX2_findLent_4 ++ []
def dkwX2_findLent_3 : List UInt8 := [167, 0, 4, 3, 79, 42, 180, 0, 51, 28, 21, 6, 21, 7, 100, 79, 42, 180, 0, 57, 29, 21, 7, 79]
abbrev dktX2_findLent_3 : List UInt8 := dkwX2_findLent_3 ++ dktX2_findLent_4
def dkwX2_findLent_2 : List UInt8 := [21, 7, 21, 6, 163, 0, 58, 42, 180, 0, 48, 27, 21, 5, 21, 7, 164, 0, 11, 21, 5, 21, 7, 100]
abbrev dktX2_findLent_2 : List UInt8 := dkwX2_findLent_2 ++ dktX2_findLent_3
def dkwX2_findLent_1 : List UInt8 := [180, 0, 51, 28, 46, 54, 6, 42, 180, 0, 54, 29, 3, 79, 3, 54, 7, 21, 7, 21, 4, 163, 0, 65]
abbrev dktX2_findLent_1 : List UInt8 := dkwX2_findLent_1 ++ dktX2_findLent_2
def dkwX2_findLent_0 : List UInt8 := [16, 6, 27, 104, 28, 96, 62, 42, 180, 0, 54, 29, 46, 54, 4, 42, 180, 0, 48, 27, 46, 54, 5, 42]
abbrev dktX2_findLent_0 : List UInt8 := dkwX2_findLent_0 ++ dktX2_findLent_1
theorem dksX2_findLent_0 : cX2_findLent.data.toList.drop 0 = dktX2_findLent_0 := by decide +kernel
theorem dksX2_findLent_1 : cX2_findLent.data.toList.drop 24 = dktX2_findLent_1 := dk_seg dksX2_findLent_0 24 rfl rfl
theorem dksX2_findLent_2 : cX2_findLent.data.toList.drop 48 = dktX2_findLent_2 := dk_seg dksX2_findLent_1 24 rfl rfl
theorem dksX2_findLent_3 : cX2_findLent.data.toList.drop 72 = dktX2_findLent_3 := dk_seg dksX2_findLent_2 24 rfl rfl
theorem dksX2_findLent_4 : cX2_findLent.data.toList.drop 96 = dktX2_findLent_4 := dk_seg dksX2_findLent_3 24 rfl rfl
theorem dX2_findLent_0 : decode cX2_findLent 0 = .ok (.bipush 6, 2) := dk_16 6 (dk_at dksX2_findLent_0 0 rfl rfl)
theorem dX2_findLent_2 : decode cX2_findLent 2 = .ok (.iload_n 1, 1) := dk_27 (dk_at dksX2_findLent_0 2 rfl rfl)
theorem dX2_findLent_3 : decode cX2_findLent 3 = .ok (.imul, 1) := dk_104 (dk_at dksX2_findLent_0 3 rfl rfl)
theorem dX2_findLent_4 : decode cX2_findLent 4 = .ok (.iload_n 2, 1) := dk_28 (dk_at dksX2_findLent_0 4 rfl rfl)
theorem dX2_findLent_5 : decode cX2_findLent 5 = .ok (.iadd, 1) := dk_96 (dk_at dksX2_findLent_0 5 rfl rfl)
theorem dX2_findLent_6 : decode cX2_findLent 6 = .ok (.istore_n 3, 1) := dk_62 (dk_at dksX2_findLent_0 6 rfl rfl)
theorem dX2_findLent_7 : decode cX2_findLent 7 = .ok (.aload_n 0, 1) := dk_42 (dk_at dksX2_findLent_0 7 rfl rfl)
theorem dX2_findLent_8 : decode cX2_findLent 8 = .ok (.getfield 54, 3) := dk_180 0 54 (dk_at dksX2_findLent_0 8 rfl rfl)
theorem dX2_findLent_11 : decode cX2_findLent 11 = .ok (.iload_n 3, 1) := dk_29 (dk_at dksX2_findLent_0 11 rfl rfl)
theorem dX2_findLent_12 : decode cX2_findLent 12 = .ok (.iaload, 1) := dk_46 (dk_at dksX2_findLent_0 12 rfl rfl)
theorem dX2_findLent_13 : decode cX2_findLent 13 = .ok (.istore 4, 2) := dk_54 4 (dk_at dksX2_findLent_0 13 rfl rfl)
theorem dX2_findLent_15 : decode cX2_findLent 15 = .ok (.aload_n 0, 1) := dk_42 (dk_at dksX2_findLent_0 15 rfl rfl)
theorem dX2_findLent_16 : decode cX2_findLent 16 = .ok (.getfield 48, 3) := dk_180 0 48 (dk_at dksX2_findLent_0 16 rfl rfl)
theorem dX2_findLent_19 : decode cX2_findLent 19 = .ok (.iload_n 1, 1) := dk_27 (dk_at dksX2_findLent_0 19 rfl rfl)
theorem dX2_findLent_20 : decode cX2_findLent 20 = .ok (.iaload, 1) := dk_46 (dk_at dksX2_findLent_0 20 rfl rfl)
theorem dX2_findLent_21 : decode cX2_findLent 21 = .ok (.istore 5, 2) := dk_54 5 (dk_at dksX2_findLent_0 21 rfl rfl)
theorem dX2_findLent_23 : decode cX2_findLent 23 = .ok (.aload_n 0, 1) := dk_42 (dk_at dksX2_findLent_0 23 rfl rfl)
theorem dX2_findLent_24 : decode cX2_findLent 24 = .ok (.getfield 51, 3) := dk_180 0 51 (dk_at dksX2_findLent_1 0 rfl rfl)
theorem dX2_findLent_27 : decode cX2_findLent 27 = .ok (.iload_n 2, 1) := dk_28 (dk_at dksX2_findLent_1 3 rfl rfl)
theorem dX2_findLent_28 : decode cX2_findLent 28 = .ok (.iaload, 1) := dk_46 (dk_at dksX2_findLent_1 4 rfl rfl)
theorem dX2_findLent_29 : decode cX2_findLent 29 = .ok (.istore 6, 2) := dk_54 6 (dk_at dksX2_findLent_1 5 rfl rfl)
theorem dX2_findLent_31 : decode cX2_findLent 31 = .ok (.aload_n 0, 1) := dk_42 (dk_at dksX2_findLent_1 7 rfl rfl)
theorem dX2_findLent_32 : decode cX2_findLent 32 = .ok (.getfield 54, 3) := dk_180 0 54 (dk_at dksX2_findLent_1 8 rfl rfl)
theorem dX2_findLent_35 : decode cX2_findLent 35 = .ok (.iload_n 3, 1) := dk_29 (dk_at dksX2_findLent_1 11 rfl rfl)
theorem dX2_findLent_36 : decode cX2_findLent 36 = .ok (.iconst 0, 1) := dk_3 (dk_at dksX2_findLent_1 12 rfl rfl)
theorem dX2_findLent_37 : decode cX2_findLent 37 = .ok (.iastore, 1) := dk_79 (dk_at dksX2_findLent_1 13 rfl rfl)
theorem dX2_findLent_38 : decode cX2_findLent 38 = .ok (.iconst 0, 1) := dk_3 (dk_at dksX2_findLent_1 14 rfl rfl)
theorem dX2_findLent_39 : decode cX2_findLent 39 = .ok (.istore 7, 2) := dk_54 7 (dk_at dksX2_findLent_1 15 rfl rfl)
theorem dX2_findLent_41 : decode cX2_findLent 41 = .ok (.iload 7, 2) := dk_21 7 (dk_at dksX2_findLent_1 17 rfl rfl)
theorem dX2_findLent_43 : decode cX2_findLent 43 = .ok (.iload 4, 2) := dk_21 4 (dk_at dksX2_findLent_1 19 rfl rfl)
theorem dX2_findLent_45 : decode cX2_findLent 45 = .ok (.if_icmp .gt 65, 3) := dk_163 0 65 (dk_at dksX2_findLent_1 21 rfl rfl)
theorem dX2_findLent_48 : decode cX2_findLent 48 = .ok (.iload 7, 2) := dk_21 7 (dk_at dksX2_findLent_2 0 rfl rfl)
theorem dX2_findLent_50 : decode cX2_findLent 50 = .ok (.iload 6, 2) := dk_21 6 (dk_at dksX2_findLent_2 2 rfl rfl)
theorem dX2_findLent_52 : decode cX2_findLent 52 = .ok (.if_icmp .gt 58, 3) := dk_163 0 58 (dk_at dksX2_findLent_2 4 rfl rfl)
theorem dX2_findLent_55 : decode cX2_findLent 55 = .ok (.aload_n 0, 1) := dk_42 (dk_at dksX2_findLent_2 7 rfl rfl)
theorem dX2_findLent_56 : decode cX2_findLent 56 = .ok (.getfield 48, 3) := dk_180 0 48 (dk_at dksX2_findLent_2 8 rfl rfl)
theorem dX2_findLent_59 : decode cX2_findLent 59 = .ok (.iload_n 1, 1) := dk_27 (dk_at dksX2_findLent_2 11 rfl rfl)
theorem dX2_findLent_60 : decode cX2_findLent 60 = .ok (.iload 5, 2) := dk_21 5 (dk_at dksX2_findLent_2 12 rfl rfl)
theorem dX2_findLent_62 : decode cX2_findLent 62 = .ok (.iload 7, 2) := dk_21 7 (dk_at dksX2_findLent_2 14 rfl rfl)
theorem dX2_findLent_64 : decode cX2_findLent 64 = .ok (.if_icmp .le 11, 3) := dk_164 0 11 (dk_at dksX2_findLent_2 16 rfl rfl)
theorem dX2_findLent_67 : decode cX2_findLent 67 = .ok (.iload 5, 2) := dk_21 5 (dk_at dksX2_findLent_2 19 rfl rfl)
theorem dX2_findLent_69 : decode cX2_findLent 69 = .ok (.iload 7, 2) := dk_21 7 (dk_at dksX2_findLent_2 21 rfl rfl)
theorem dX2_findLent_71 : decode cX2_findLent 71 = .ok (.isub, 1) := dk_100 (dk_at dksX2_findLent_2 23 rfl rfl)
theorem dX2_findLent_72 : decode cX2_findLent 72 = .ok (.goto 4, 3) := dk_167 0 4 (dk_at dksX2_findLent_3 0 rfl rfl)
theorem dX2_findLent_75 : decode cX2_findLent 75 = .ok (.iconst 0, 1) := dk_3 (dk_at dksX2_findLent_3 3 rfl rfl)
theorem dX2_findLent_76 : decode cX2_findLent 76 = .ok (.iastore, 1) := dk_79 (dk_at dksX2_findLent_3 4 rfl rfl)
theorem dX2_findLent_77 : decode cX2_findLent 77 = .ok (.aload_n 0, 1) := dk_42 (dk_at dksX2_findLent_3 5 rfl rfl)
theorem dX2_findLent_78 : decode cX2_findLent 78 = .ok (.getfield 51, 3) := dk_180 0 51 (dk_at dksX2_findLent_3 6 rfl rfl)
theorem dX2_findLent_81 : decode cX2_findLent 81 = .ok (.iload_n 2, 1) := dk_28 (dk_at dksX2_findLent_3 9 rfl rfl)
theorem dX2_findLent_82 : decode cX2_findLent 82 = .ok (.iload 6, 2) := dk_21 6 (dk_at dksX2_findLent_3 10 rfl rfl)
theorem dX2_findLent_84 : decode cX2_findLent 84 = .ok (.iload 7, 2) := dk_21 7 (dk_at dksX2_findLent_3 12 rfl rfl)
theorem dX2_findLent_86 : decode cX2_findLent 86 = .ok (.isub, 1) := dk_100 (dk_at dksX2_findLent_3 14 rfl rfl)
theorem dX2_findLent_87 : decode cX2_findLent 87 = .ok (.iastore, 1) := dk_79 (dk_at dksX2_findLent_3 15 rfl rfl)
theorem dX2_findLent_88 : decode cX2_findLent 88 = .ok (.aload_n 0, 1) := dk_42 (dk_at dksX2_findLent_3 16 rfl rfl)
theorem dX2_findLent_89 : decode cX2_findLent 89 = .ok (.getfield 57, 3) := dk_180 0 57 (dk_at dksX2_findLent_3 17 rfl rfl)
theorem dX2_findLent_92 : decode cX2_findLent 92 = .ok (.iload_n 3, 1) := dk_29 (dk_at dksX2_findLent_3 20 rfl rfl)
theorem dX2_findLent_93 : decode cX2_findLent 93 = .ok (.iload 7, 2) := dk_21 7 (dk_at dksX2_findLent_3 21 rfl rfl)
theorem dX2_findLent_95 : decode cX2_findLent 95 = .ok (.iastore, 1) := dk_79 (dk_at dksX2_findLent_3 23 rfl rfl)
theorem dX2_findLent_96 : decode cX2_findLent 96 = .ok (.aload_n 0, 1) := dk_42 (dk_at dksX2_findLent_4 0 rfl rfl)
theorem dX2_findLent_97 : decode cX2_findLent 97 = .ok (.invokevirtual 422, 3) := dk_182 1 166 (dk_at dksX2_findLent_4 1 rfl rfl)
theorem dX2_findLent_100 : decode cX2_findLent 100 = .ok (.ifCond .ge 4, 3) := dk_156 0 4 (dk_at dksX2_findLent_4 4 rfl rfl)
theorem dX2_findLent_103 : decode cX2_findLent 103 = .ok (.return_, 1) := dk_177 (dk_at dksX2_findLent_4 7 rfl rfl)
theorem dX2_findLent_104 : decode cX2_findLent 104 = .ok (.iinc 7 1, 3) := dk_132 7 1 (dk_at dksX2_findLent_4 8 rfl rfl)
theorem dX2_findLent_107 : decode cX2_findLent 107 = .ok (.goto (-66), 3) := dk_167 255 190 (dk_at dksX2_findLent_4 11 rfl rfl)
theorem dX2_findLent_110 : decode cX2_findLent 110 = .ok (.return_, 1) := dk_177 (dk_at dksX2_findLent_4 14 rfl rfl)
abbrev cX2_whoCannot : ByteArray := prog_15_method_114_code
def yX2_whoCannot : MethodName := ⟨RX2, "whoCannot", "()I"⟩
def dkwX2_whoCannot_0 : List UInt8 := [42, 182, 1, 169, 42, 182, 1, 166, 172]
abbrev dktX2_whoCannot_0 : List UInt8 := dkwX2_whoCannot_0 ++ []
theorem dksX2_whoCannot_0 : cX2_whoCannot.data.toList.drop 0 = dktX2_whoCannot_0 := by decide +kernel
theorem dX2_whoCannot_0 : decode cX2_whoCannot 0 = .ok (.aload_n 0, 1) := dk_42 (dk_at dksX2_whoCannot_0 0 rfl rfl)
theorem dX2_whoCannot_1 : decode cX2_whoCannot 1 = .ok (.invokevirtual 425, 3) := dk_182 1 169 (dk_at dksX2_whoCannot_0 1 rfl rfl)
theorem dX2_whoCannot_4 : decode cX2_whoCannot 4 = .ok (.aload_n 0, 1) := dk_42 (dk_at dksX2_whoCannot_0 4 rfl rfl)
theorem dX2_whoCannot_5 : decode cX2_whoCannot 5 = .ok (.invokevirtual 422, 3) := dk_182 1 166 (dk_at dksX2_whoCannot_0 5 rfl rfl)
theorem dX2_whoCannot_8 : decode cX2_whoCannot 8 = .ok (.ireturn, 1) := dk_172 (dk_at dksX2_whoCannot_0 8 rfl rfl)
abbrev cX2_kindness : ByteArray := prog_15_method_115_code
def yX2_kindness : MethodName := ⟨RX2, "kindness", "(I)I"⟩
def dkwX2_kindness_5 : List UInt8 := [167, 255, 197, 21, 4, 153, 0, 5, 29, 61, 132, 3, 1, 167, 255, 148, 28, 172]
abbrev dktX2_kindness_5 : List UInt8 := dkwX2_kindness_5 ++ []
def dkwX2_kindness_4 : List UInt8 := [42, 21, 5, 3, 182, 0, 84, 120, 2, 130, 126, 153, 0, 7, 4, 167, 0, 4, 3, 54, 4, 132, 5, 1]
abbrev dktX2_kindness_4 : List UInt8 := dkwX2_kindness_4 ++ dktX2_kindness_5
def dkwX2_kindness_3 : List UInt8 := [21, 4, 153, 0, 40, 27, 21, 5, 184, 0, 224, 153, 0, 27, 42, 21, 5, 8, 182, 0, 84, 29, 126, 4]
abbrev dktX2_kindness_3 : List UInt8 := dkwX2_kindness_3 ++ dktX2_kindness_4
def dkwX2_kindness_2 : List UInt8 := [161, 0, 6, 167, 0, 78, 4, 54, 4, 3, 54, 5, 21, 5, 42, 180, 0, 7, 4, 46, 162, 0, 54]
abbrev dktX2_kindness_2 : List UInt8 := dkwX2_kindness_2 ++ dktX2_kindness_3
def dkwX2_kindness_1 : List UInt8 := [29, 4, 42, 180, 0, 7, 3, 46, 120, 162, 0, 102, 28, 155, 0, 17, 29, 184, 1, 38, 28, 184, 1, 38]
abbrev dktX2_kindness_1 : List UInt8 := dkwX2_kindness_1 ++ dktX2_kindness_2
def dkwX2_kindness_0 : List UInt8 := [27, 4, 4, 42, 180, 0, 7, 4, 46, 120, 4, 100, 184, 0, 80, 154, 0, 5, 2, 172, 2, 61, 4, 62]
abbrev dktX2_kindness_0 : List UInt8 := dkwX2_kindness_0 ++ dktX2_kindness_1
theorem dksX2_kindness_0 : cX2_kindness.data.toList.drop 0 = dktX2_kindness_0 := by decide +kernel
theorem dksX2_kindness_1 : cX2_kindness.data.toList.drop 24 = dktX2_kindness_1 := dk_seg dksX2_kindness_0 24 rfl rfl
theorem dksX2_kindness_2 : cX2_kindness.data.toList.drop 48 = dktX2_kindness_2 := dk_seg dksX2_kindness_1 24 rfl rfl
theorem dksX2_kindness_3 : cX2_kindness.data.toList.drop 71 = dktX2_kindness_3 := dk_seg dksX2_kindness_2 23 rfl rfl
theorem dksX2_kindness_4 : cX2_kindness.data.toList.drop 95 = dktX2_kindness_4 := dk_seg dksX2_kindness_3 24 rfl rfl
theorem dksX2_kindness_5 : cX2_kindness.data.toList.drop 119 = dktX2_kindness_5 := dk_seg dksX2_kindness_4 24 rfl rfl
theorem dX2_kindness_0 : decode cX2_kindness 0 = .ok (.iload_n 1, 1) := dk_27 (dk_at dksX2_kindness_0 0 rfl rfl)
theorem dX2_kindness_1 : decode cX2_kindness 1 = .ok (.iconst 1, 1) := dk_4 (dk_at dksX2_kindness_0 1 rfl rfl)
theorem dX2_kindness_2 : decode cX2_kindness 2 = .ok (.iconst 1, 1) := dk_4 (dk_at dksX2_kindness_0 2 rfl rfl)
theorem dX2_kindness_3 : decode cX2_kindness 3 = .ok (.aload_n 0, 1) := dk_42 (dk_at dksX2_kindness_0 3 rfl rfl)
theorem dX2_kindness_4 : decode cX2_kindness 4 = .ok (.getfield 7, 3) := dk_180 0 7 (dk_at dksX2_kindness_0 4 rfl rfl)
theorem dX2_kindness_7 : decode cX2_kindness 7 = .ok (.iconst 1, 1) := dk_4 (dk_at dksX2_kindness_0 7 rfl rfl)
theorem dX2_kindness_8 : decode cX2_kindness 8 = .ok (.iaload, 1) := dk_46 (dk_at dksX2_kindness_0 8 rfl rfl)
theorem dX2_kindness_9 : decode cX2_kindness 9 = .ok (.ishl, 1) := dk_120 (dk_at dksX2_kindness_0 9 rfl rfl)
theorem dX2_kindness_10 : decode cX2_kindness 10 = .ok (.iconst 1, 1) := dk_4 (dk_at dksX2_kindness_0 10 rfl rfl)
theorem dX2_kindness_11 : decode cX2_kindness 11 = .ok (.isub, 1) := dk_100 (dk_at dksX2_kindness_0 11 rfl rfl)
theorem dX2_kindness_12 : decode cX2_kindness 12 = .ok (.invokestatic 80, 3) := dk_184 0 80 (dk_at dksX2_kindness_0 12 rfl rfl)
theorem dX2_kindness_15 : decode cX2_kindness 15 = .ok (.ifCond .ne 5, 3) := dk_154 0 5 (dk_at dksX2_kindness_0 15 rfl rfl)
theorem dX2_kindness_18 : decode cX2_kindness 18 = .ok (.iconst (-1), 1) := dk_2 (dk_at dksX2_kindness_0 18 rfl rfl)
theorem dX2_kindness_19 : decode cX2_kindness 19 = .ok (.ireturn, 1) := dk_172 (dk_at dksX2_kindness_0 19 rfl rfl)
theorem dX2_kindness_20 : decode cX2_kindness 20 = .ok (.iconst (-1), 1) := dk_2 (dk_at dksX2_kindness_0 20 rfl rfl)
theorem dX2_kindness_21 : decode cX2_kindness 21 = .ok (.istore_n 2, 1) := dk_61 (dk_at dksX2_kindness_0 21 rfl rfl)
theorem dX2_kindness_22 : decode cX2_kindness 22 = .ok (.iconst 1, 1) := dk_4 (dk_at dksX2_kindness_0 22 rfl rfl)
theorem dX2_kindness_23 : decode cX2_kindness 23 = .ok (.istore_n 3, 1) := dk_62 (dk_at dksX2_kindness_0 23 rfl rfl)
theorem dX2_kindness_24 : decode cX2_kindness 24 = .ok (.iload_n 3, 1) := dk_29 (dk_at dksX2_kindness_1 0 rfl rfl)
theorem dX2_kindness_25 : decode cX2_kindness 25 = .ok (.iconst 1, 1) := dk_4 (dk_at dksX2_kindness_1 1 rfl rfl)
theorem dX2_kindness_26 : decode cX2_kindness 26 = .ok (.aload_n 0, 1) := dk_42 (dk_at dksX2_kindness_1 2 rfl rfl)
theorem dX2_kindness_27 : decode cX2_kindness 27 = .ok (.getfield 7, 3) := dk_180 0 7 (dk_at dksX2_kindness_1 3 rfl rfl)
theorem dX2_kindness_30 : decode cX2_kindness 30 = .ok (.iconst 0, 1) := dk_3 (dk_at dksX2_kindness_1 6 rfl rfl)
theorem dX2_kindness_31 : decode cX2_kindness 31 = .ok (.iaload, 1) := dk_46 (dk_at dksX2_kindness_1 7 rfl rfl)
theorem dX2_kindness_32 : decode cX2_kindness 32 = .ok (.ishl, 1) := dk_120 (dk_at dksX2_kindness_1 8 rfl rfl)
theorem dX2_kindness_33 : decode cX2_kindness 33 = .ok (.if_icmp .ge 102, 3) := dk_162 0 102 (dk_at dksX2_kindness_1 9 rfl rfl)
theorem dX2_kindness_36 : decode cX2_kindness 36 = .ok (.iload_n 2, 1) := dk_28 (dk_at dksX2_kindness_1 12 rfl rfl)
theorem dX2_kindness_37 : decode cX2_kindness 37 = .ok (.ifCond .lt 17, 3) := dk_155 0 17 (dk_at dksX2_kindness_1 13 rfl rfl)
theorem dX2_kindness_40 : decode cX2_kindness 40 = .ok (.iload_n 3, 1) := dk_29 (dk_at dksX2_kindness_1 16 rfl rfl)
theorem dX2_kindness_41 : decode cX2_kindness 41 = .ok (.invokestatic 294, 3) := dk_184 1 38 (dk_at dksX2_kindness_1 17 rfl rfl)
theorem dX2_kindness_44 : decode cX2_kindness 44 = .ok (.iload_n 2, 1) := dk_28 (dk_at dksX2_kindness_1 20 rfl rfl)
theorem dX2_kindness_45 : decode cX2_kindness 45 = .ok (.invokestatic 294, 3) := dk_184 1 38 (dk_at dksX2_kindness_1 21 rfl rfl)
theorem dX2_kindness_48 : decode cX2_kindness 48 = .ok (.if_icmp .lt 6, 3) := dk_161 0 6 (dk_at dksX2_kindness_2 0 rfl rfl)
theorem dX2_kindness_51 : decode cX2_kindness 51 = .ok (.goto 78, 3) := dk_167 0 78 (dk_at dksX2_kindness_2 3 rfl rfl)
theorem dX2_kindness_54 : decode cX2_kindness 54 = .ok (.iconst 1, 1) := dk_4 (dk_at dksX2_kindness_2 6 rfl rfl)
theorem dX2_kindness_55 : decode cX2_kindness 55 = .ok (.istore 4, 2) := dk_54 4 (dk_at dksX2_kindness_2 7 rfl rfl)
theorem dX2_kindness_57 : decode cX2_kindness 57 = .ok (.iconst 0, 1) := dk_3 (dk_at dksX2_kindness_2 9 rfl rfl)
theorem dX2_kindness_58 : decode cX2_kindness 58 = .ok (.istore 5, 2) := dk_54 5 (dk_at dksX2_kindness_2 10 rfl rfl)
theorem dX2_kindness_60 : decode cX2_kindness 60 = .ok (.iload 5, 2) := dk_21 5 (dk_at dksX2_kindness_2 12 rfl rfl)
theorem dX2_kindness_62 : decode cX2_kindness 62 = .ok (.aload_n 0, 1) := dk_42 (dk_at dksX2_kindness_2 14 rfl rfl)
theorem dX2_kindness_63 : decode cX2_kindness 63 = .ok (.getfield 7, 3) := dk_180 0 7 (dk_at dksX2_kindness_2 15 rfl rfl)
theorem dX2_kindness_66 : decode cX2_kindness 66 = .ok (.iconst 1, 1) := dk_4 (dk_at dksX2_kindness_2 18 rfl rfl)
theorem dX2_kindness_67 : decode cX2_kindness 67 = .ok (.iaload, 1) := dk_46 (dk_at dksX2_kindness_2 19 rfl rfl)
theorem dX2_kindness_68 : decode cX2_kindness 68 = .ok (.if_icmp .ge 54, 3) := dk_162 0 54 (dk_at dksX2_kindness_2 20 rfl rfl)
theorem dX2_kindness_71 : decode cX2_kindness 71 = .ok (.iload 4, 2) := dk_21 4 (dk_at dksX2_kindness_3 0 rfl rfl)
theorem dX2_kindness_73 : decode cX2_kindness 73 = .ok (.ifCond .eq 40, 3) := dk_153 0 40 (dk_at dksX2_kindness_3 2 rfl rfl)
theorem dX2_kindness_76 : decode cX2_kindness 76 = .ok (.iload_n 1, 1) := dk_27 (dk_at dksX2_kindness_3 5 rfl rfl)
theorem dX2_kindness_77 : decode cX2_kindness 77 = .ok (.iload 5, 2) := dk_21 5 (dk_at dksX2_kindness_3 6 rfl rfl)
theorem dX2_kindness_79 : decode cX2_kindness 79 = .ok (.invokestatic 224, 3) := dk_184 0 224 (dk_at dksX2_kindness_3 8 rfl rfl)
theorem dX2_kindness_82 : decode cX2_kindness 82 = .ok (.ifCond .eq 27, 3) := dk_153 0 27 (dk_at dksX2_kindness_3 11 rfl rfl)
theorem dX2_kindness_85 : decode cX2_kindness 85 = .ok (.aload_n 0, 1) := dk_42 (dk_at dksX2_kindness_3 14 rfl rfl)
theorem dX2_kindness_86 : decode cX2_kindness 86 = .ok (.iload 5, 2) := dk_21 5 (dk_at dksX2_kindness_3 15 rfl rfl)
theorem dX2_kindness_88 : decode cX2_kindness 88 = .ok (.iconst 5, 1) := dk_8 (dk_at dksX2_kindness_3 17 rfl rfl)
theorem dX2_kindness_89 : decode cX2_kindness 89 = .ok (.invokevirtual 84, 3) := dk_182 0 84 (dk_at dksX2_kindness_3 18 rfl rfl)
theorem dX2_kindness_92 : decode cX2_kindness 92 = .ok (.iload_n 3, 1) := dk_29 (dk_at dksX2_kindness_3 21 rfl rfl)
theorem dX2_kindness_93 : decode cX2_kindness 93 = .ok (.iand, 1) := dk_126 (dk_at dksX2_kindness_3 22 rfl rfl)
theorem dX2_kindness_94 : decode cX2_kindness 94 = .ok (.iconst 1, 1) := dk_4 (dk_at dksX2_kindness_3 23 rfl rfl)
theorem dX2_kindness_95 : decode cX2_kindness 95 = .ok (.aload_n 0, 1) := dk_42 (dk_at dksX2_kindness_4 0 rfl rfl)
theorem dX2_kindness_96 : decode cX2_kindness 96 = .ok (.iload 5, 2) := dk_21 5 (dk_at dksX2_kindness_4 1 rfl rfl)
theorem dX2_kindness_98 : decode cX2_kindness 98 = .ok (.iconst 0, 1) := dk_3 (dk_at dksX2_kindness_4 3 rfl rfl)
theorem dX2_kindness_99 : decode cX2_kindness 99 = .ok (.invokevirtual 84, 3) := dk_182 0 84 (dk_at dksX2_kindness_4 4 rfl rfl)
theorem dX2_kindness_102 : decode cX2_kindness 102 = .ok (.ishl, 1) := dk_120 (dk_at dksX2_kindness_4 7 rfl rfl)
theorem dX2_kindness_103 : decode cX2_kindness 103 = .ok (.iconst (-1), 1) := dk_2 (dk_at dksX2_kindness_4 8 rfl rfl)
theorem dX2_kindness_104 : decode cX2_kindness 104 = .ok (.ixor, 1) := dk_130 (dk_at dksX2_kindness_4 9 rfl rfl)
theorem dX2_kindness_105 : decode cX2_kindness 105 = .ok (.iand, 1) := dk_126 (dk_at dksX2_kindness_4 10 rfl rfl)
theorem dX2_kindness_106 : decode cX2_kindness 106 = .ok (.ifCond .eq 7, 3) := dk_153 0 7 (dk_at dksX2_kindness_4 11 rfl rfl)
theorem dX2_kindness_109 : decode cX2_kindness 109 = .ok (.iconst 1, 1) := dk_4 (dk_at dksX2_kindness_4 14 rfl rfl)
theorem dX2_kindness_110 : decode cX2_kindness 110 = .ok (.goto 4, 3) := dk_167 0 4 (dk_at dksX2_kindness_4 15 rfl rfl)
theorem dX2_kindness_113 : decode cX2_kindness 113 = .ok (.iconst 0, 1) := dk_3 (dk_at dksX2_kindness_4 18 rfl rfl)
theorem dX2_kindness_114 : decode cX2_kindness 114 = .ok (.istore 4, 2) := dk_54 4 (dk_at dksX2_kindness_4 19 rfl rfl)
theorem dX2_kindness_116 : decode cX2_kindness 116 = .ok (.iinc 5 1, 3) := dk_132 5 1 (dk_at dksX2_kindness_4 21 rfl rfl)
theorem dX2_kindness_119 : decode cX2_kindness 119 = .ok (.goto (-59), 3) := dk_167 255 197 (dk_at dksX2_kindness_5 0 rfl rfl)
theorem dX2_kindness_122 : decode cX2_kindness 122 = .ok (.iload 4, 2) := dk_21 4 (dk_at dksX2_kindness_5 3 rfl rfl)
theorem dX2_kindness_124 : decode cX2_kindness 124 = .ok (.ifCond .eq 5, 3) := dk_153 0 5 (dk_at dksX2_kindness_5 5 rfl rfl)
theorem dX2_kindness_127 : decode cX2_kindness 127 = .ok (.iload_n 3, 1) := dk_29 (dk_at dksX2_kindness_5 8 rfl rfl)
theorem dX2_kindness_128 : decode cX2_kindness 128 = .ok (.istore_n 2, 1) := dk_61 (dk_at dksX2_kindness_5 9 rfl rfl)
theorem dX2_kindness_129 : decode cX2_kindness 129 = .ok (.iinc 3 1, 3) := dk_132 3 1 (dk_at dksX2_kindness_5 10 rfl rfl)
theorem dX2_kindness_132 : decode cX2_kindness 132 = .ok (.goto (-108), 3) := dk_167 255 148 (dk_at dksX2_kindness_5 13 rfl rfl)
theorem dX2_kindness_135 : decode cX2_kindness 135 = .ok (.iload_n 2, 1) := dk_28 (dk_at dksX2_kindness_5 16 rfl rfl)
theorem dX2_kindness_136 : decode cX2_kindness 136 = .ok (.ireturn, 1) := dk_172 (dk_at dksX2_kindness_5 17 rfl rfl)
abbrev cX2_known : ByteArray := prog_15_method_116_code
def yX2_known : MethodName := ⟨RX2, "known", "(II)I"⟩
def dkwX2_known_4 : List UInt8 := [16, 9, 92, 46, 4, 96, 79, 42, 180, 0, 7, 16, 9, 46, 172]
abbrev dktX2_known_4 : List UInt8 := dkwX2_known_4 ++ []
def dkwX2_known_3 : List UInt8 := [180, 0, 7, 17, 0, 248, 5, 42, 180, 0, 7, 16, 9, 46, 104, 96, 4, 96, 28, 79, 42, 180, 0, 7]
abbrev dktX2_known_3 : List UInt8 := dkwX2_known_3 ++ dktX2_known_4
def dkwX2_known_2 : List UInt8 := [16, 254, 172, 42, 180, 0, 7, 17, 0, 248, 5, 42, 180, 0, 7, 16, 9, 46, 104, 96, 27, 79, 42]
abbrev dktX2_known_2 : List UInt8 := dkwX2_known_2 ++ dktX2_known_3
def dkwX2_known_1 : List UInt8 := [17, 216, 241, 17, 39, 15, 184, 0, 80, 153, 0, 15, 42, 180, 0, 7, 16, 9, 46, 16, 8, 160, 0, 6]
abbrev dktX2_known_1 : List UInt8 := dkwX2_known_1 ++ dktX2_known_2
def dkwX2_known_0 : List UInt8 := [27, 2, 160, 0, 13, 42, 180, 0, 7, 16, 9, 3, 79, 3, 172, 42, 27, 182, 0, 88, 153, 0, 28, 28]
abbrev dktX2_known_0 : List UInt8 := dkwX2_known_0 ++ dktX2_known_1
theorem dksX2_known_0 : cX2_known.data.toList.drop 0 = dktX2_known_0 := by decide +kernel
theorem dksX2_known_1 : cX2_known.data.toList.drop 24 = dktX2_known_1 := dk_seg dksX2_known_0 24 rfl rfl
theorem dksX2_known_2 : cX2_known.data.toList.drop 48 = dktX2_known_2 := dk_seg dksX2_known_1 24 rfl rfl
theorem dksX2_known_3 : cX2_known.data.toList.drop 71 = dktX2_known_3 := dk_seg dksX2_known_2 23 rfl rfl
theorem dksX2_known_4 : cX2_known.data.toList.drop 95 = dktX2_known_4 := dk_seg dksX2_known_3 24 rfl rfl
theorem dX2_known_0 : decode cX2_known 0 = .ok (.iload_n 1, 1) := dk_27 (dk_at dksX2_known_0 0 rfl rfl)
theorem dX2_known_1 : decode cX2_known 1 = .ok (.iconst (-1), 1) := dk_2 (dk_at dksX2_known_0 1 rfl rfl)
theorem dX2_known_2 : decode cX2_known 2 = .ok (.if_icmp .ne 13, 3) := dk_160 0 13 (dk_at dksX2_known_0 2 rfl rfl)
theorem dX2_known_5 : decode cX2_known 5 = .ok (.aload_n 0, 1) := dk_42 (dk_at dksX2_known_0 5 rfl rfl)
theorem dX2_known_6 : decode cX2_known 6 = .ok (.getfield 7, 3) := dk_180 0 7 (dk_at dksX2_known_0 6 rfl rfl)
theorem dX2_known_9 : decode cX2_known 9 = .ok (.bipush 9, 2) := dk_16 9 (dk_at dksX2_known_0 9 rfl rfl)
theorem dX2_known_11 : decode cX2_known 11 = .ok (.iconst 0, 1) := dk_3 (dk_at dksX2_known_0 11 rfl rfl)
theorem dX2_known_12 : decode cX2_known 12 = .ok (.iastore, 1) := dk_79 (dk_at dksX2_known_0 12 rfl rfl)
theorem dX2_known_13 : decode cX2_known 13 = .ok (.iconst 0, 1) := dk_3 (dk_at dksX2_known_0 13 rfl rfl)
theorem dX2_known_14 : decode cX2_known 14 = .ok (.ireturn, 1) := dk_172 (dk_at dksX2_known_0 14 rfl rfl)
theorem dX2_known_15 : decode cX2_known 15 = .ok (.aload_n 0, 1) := dk_42 (dk_at dksX2_known_0 15 rfl rfl)
theorem dX2_known_16 : decode cX2_known 16 = .ok (.iload_n 1, 1) := dk_27 (dk_at dksX2_known_0 16 rfl rfl)
theorem dX2_known_17 : decode cX2_known 17 = .ok (.invokevirtual 88, 3) := dk_182 0 88 (dk_at dksX2_known_0 17 rfl rfl)
theorem dX2_known_20 : decode cX2_known 20 = .ok (.ifCond .eq 28, 3) := dk_153 0 28 (dk_at dksX2_known_0 20 rfl rfl)
theorem dX2_known_23 : decode cX2_known 23 = .ok (.iload_n 2, 1) := dk_28 (dk_at dksX2_known_0 23 rfl rfl)
theorem dX2_known_24 : decode cX2_known 24 = .ok (.sipush (-9999), 3) := dk_17 216 241 (dk_at dksX2_known_1 0 rfl rfl)
theorem dX2_known_27 : decode cX2_known 27 = .ok (.sipush 9999, 3) := dk_17 39 15 (dk_at dksX2_known_1 3 rfl rfl)
theorem dX2_known_30 : decode cX2_known 30 = .ok (.invokestatic 80, 3) := dk_184 0 80 (dk_at dksX2_known_1 6 rfl rfl)
theorem dX2_known_33 : decode cX2_known 33 = .ok (.ifCond .eq 15, 3) := dk_153 0 15 (dk_at dksX2_known_1 9 rfl rfl)
theorem dX2_known_36 : decode cX2_known 36 = .ok (.aload_n 0, 1) := dk_42 (dk_at dksX2_known_1 12 rfl rfl)
theorem dX2_known_37 : decode cX2_known 37 = .ok (.getfield 7, 3) := dk_180 0 7 (dk_at dksX2_known_1 13 rfl rfl)
theorem dX2_known_40 : decode cX2_known 40 = .ok (.bipush 9, 2) := dk_16 9 (dk_at dksX2_known_1 16 rfl rfl)
theorem dX2_known_42 : decode cX2_known 42 = .ok (.iaload, 1) := dk_46 (dk_at dksX2_known_1 18 rfl rfl)
theorem dX2_known_43 : decode cX2_known 43 = .ok (.bipush 8, 2) := dk_16 8 (dk_at dksX2_known_1 19 rfl rfl)
theorem dX2_known_45 : decode cX2_known 45 = .ok (.if_icmp .ne 6, 3) := dk_160 0 6 (dk_at dksX2_known_1 21 rfl rfl)
theorem dX2_known_48 : decode cX2_known 48 = .ok (.bipush (-2), 2) := dk_16 254 (dk_at dksX2_known_2 0 rfl rfl)
theorem dX2_known_50 : decode cX2_known 50 = .ok (.ireturn, 1) := dk_172 (dk_at dksX2_known_2 2 rfl rfl)
theorem dX2_known_51 : decode cX2_known 51 = .ok (.aload_n 0, 1) := dk_42 (dk_at dksX2_known_2 3 rfl rfl)
theorem dX2_known_52 : decode cX2_known 52 = .ok (.getfield 7, 3) := dk_180 0 7 (dk_at dksX2_known_2 4 rfl rfl)
theorem dX2_known_55 : decode cX2_known 55 = .ok (.sipush 248, 3) := dk_17 0 248 (dk_at dksX2_known_2 7 rfl rfl)
theorem dX2_known_58 : decode cX2_known 58 = .ok (.iconst 2, 1) := dk_5 (dk_at dksX2_known_2 10 rfl rfl)
theorem dX2_known_59 : decode cX2_known 59 = .ok (.aload_n 0, 1) := dk_42 (dk_at dksX2_known_2 11 rfl rfl)
theorem dX2_known_60 : decode cX2_known 60 = .ok (.getfield 7, 3) := dk_180 0 7 (dk_at dksX2_known_2 12 rfl rfl)
theorem dX2_known_63 : decode cX2_known 63 = .ok (.bipush 9, 2) := dk_16 9 (dk_at dksX2_known_2 15 rfl rfl)
theorem dX2_known_65 : decode cX2_known 65 = .ok (.iaload, 1) := dk_46 (dk_at dksX2_known_2 17 rfl rfl)
theorem dX2_known_66 : decode cX2_known 66 = .ok (.imul, 1) := dk_104 (dk_at dksX2_known_2 18 rfl rfl)
theorem dX2_known_67 : decode cX2_known 67 = .ok (.iadd, 1) := dk_96 (dk_at dksX2_known_2 19 rfl rfl)
theorem dX2_known_68 : decode cX2_known 68 = .ok (.iload_n 1, 1) := dk_27 (dk_at dksX2_known_2 20 rfl rfl)
theorem dX2_known_69 : decode cX2_known 69 = .ok (.iastore, 1) := dk_79 (dk_at dksX2_known_2 21 rfl rfl)
theorem dX2_known_70 : decode cX2_known 70 = .ok (.aload_n 0, 1) := dk_42 (dk_at dksX2_known_2 22 rfl rfl)
theorem dX2_known_71 : decode cX2_known 71 = .ok (.getfield 7, 3) := dk_180 0 7 (dk_at dksX2_known_3 0 rfl rfl)
theorem dX2_known_74 : decode cX2_known 74 = .ok (.sipush 248, 3) := dk_17 0 248 (dk_at dksX2_known_3 3 rfl rfl)
theorem dX2_known_77 : decode cX2_known 77 = .ok (.iconst 2, 1) := dk_5 (dk_at dksX2_known_3 6 rfl rfl)
theorem dX2_known_78 : decode cX2_known 78 = .ok (.aload_n 0, 1) := dk_42 (dk_at dksX2_known_3 7 rfl rfl)
theorem dX2_known_79 : decode cX2_known 79 = .ok (.getfield 7, 3) := dk_180 0 7 (dk_at dksX2_known_3 8 rfl rfl)
theorem dX2_known_82 : decode cX2_known 82 = .ok (.bipush 9, 2) := dk_16 9 (dk_at dksX2_known_3 11 rfl rfl)
theorem dX2_known_84 : decode cX2_known 84 = .ok (.iaload, 1) := dk_46 (dk_at dksX2_known_3 13 rfl rfl)
theorem dX2_known_85 : decode cX2_known 85 = .ok (.imul, 1) := dk_104 (dk_at dksX2_known_3 14 rfl rfl)
theorem dX2_known_86 : decode cX2_known 86 = .ok (.iadd, 1) := dk_96 (dk_at dksX2_known_3 15 rfl rfl)
theorem dX2_known_87 : decode cX2_known 87 = .ok (.iconst 1, 1) := dk_4 (dk_at dksX2_known_3 16 rfl rfl)
theorem dX2_known_88 : decode cX2_known 88 = .ok (.iadd, 1) := dk_96 (dk_at dksX2_known_3 17 rfl rfl)
theorem dX2_known_89 : decode cX2_known 89 = .ok (.iload_n 2, 1) := dk_28 (dk_at dksX2_known_3 18 rfl rfl)
theorem dX2_known_90 : decode cX2_known 90 = .ok (.iastore, 1) := dk_79 (dk_at dksX2_known_3 19 rfl rfl)
theorem dX2_known_91 : decode cX2_known 91 = .ok (.aload_n 0, 1) := dk_42 (dk_at dksX2_known_3 20 rfl rfl)
theorem dX2_known_92 : decode cX2_known 92 = .ok (.getfield 7, 3) := dk_180 0 7 (dk_at dksX2_known_3 21 rfl rfl)
theorem dX2_known_95 : decode cX2_known 95 = .ok (.bipush 9, 2) := dk_16 9 (dk_at dksX2_known_4 0 rfl rfl)
theorem dX2_known_97 : decode cX2_known 97 = .ok (.dup2, 1) := dk_92 (dk_at dksX2_known_4 2 rfl rfl)
theorem dX2_known_98 : decode cX2_known 98 = .ok (.iaload, 1) := dk_46 (dk_at dksX2_known_4 3 rfl rfl)
theorem dX2_known_99 : decode cX2_known 99 = .ok (.iconst 1, 1) := dk_4 (dk_at dksX2_known_4 4 rfl rfl)
theorem dX2_known_100 : decode cX2_known 100 = .ok (.iadd, 1) := dk_96 (dk_at dksX2_known_4 5 rfl rfl)
theorem dX2_known_101 : decode cX2_known 101 = .ok (.iastore, 1) := dk_79 (dk_at dksX2_known_4 6 rfl rfl)
theorem dX2_known_102 : decode cX2_known 102 = .ok (.aload_n 0, 1) := dk_42 (dk_at dksX2_known_4 7 rfl rfl)
theorem dX2_known_103 : decode cX2_known 103 = .ok (.getfield 7, 3) := dk_180 0 7 (dk_at dksX2_known_4 8 rfl rfl)
theorem dX2_known_106 : decode cX2_known 106 = .ok (.bipush 9, 2) := dk_16 9 (dk_at dksX2_known_4 11 rfl rfl)
theorem dX2_known_108 : decode cX2_known 108 = .ok (.iaload, 1) := dk_46 (dk_at dksX2_known_4 13 rfl rfl)
theorem dX2_known_109 : decode cX2_known 109 = .ok (.ireturn, 1) := dk_172 (dk_at dksX2_known_4 14 rfl rfl)
abbrev cX2_fit : ByteArray := prog_15_method_118_code
def yX2_fit : MethodName := ⟨RX2, "fit", "()I"⟩
def dkwX2_fit_1 : List UInt8 := [4, 28, 120, 167, 0, 4, 3, 128, 60, 132, 2, 1, 167, 255, 224, 27, 172]
abbrev dktX2_fit_1 : List UInt8 := dkwX2_fit_1 ++ []
def dkwX2_fit_0 : List UInt8 := [3, 60, 3, 61, 28, 42, 180, 0, 7, 16, 6, 46, 162, 0, 27, 27, 42, 28, 182, 1, 175, 153, 0, 9]
abbrev dktX2_fit_0 : List UInt8 := dkwX2_fit_0 ++ dktX2_fit_1
theorem dksX2_fit_0 : cX2_fit.data.toList.drop 0 = dktX2_fit_0 := by decide +kernel
theorem dksX2_fit_1 : cX2_fit.data.toList.drop 24 = dktX2_fit_1 := dk_seg dksX2_fit_0 24 rfl rfl
theorem dX2_fit_0 : decode cX2_fit 0 = .ok (.iconst 0, 1) := dk_3 (dk_at dksX2_fit_0 0 rfl rfl)
theorem dX2_fit_1 : decode cX2_fit 1 = .ok (.istore_n 1, 1) := dk_60 (dk_at dksX2_fit_0 1 rfl rfl)
theorem dX2_fit_2 : decode cX2_fit 2 = .ok (.iconst 0, 1) := dk_3 (dk_at dksX2_fit_0 2 rfl rfl)
theorem dX2_fit_3 : decode cX2_fit 3 = .ok (.istore_n 2, 1) := dk_61 (dk_at dksX2_fit_0 3 rfl rfl)
theorem dX2_fit_4 : decode cX2_fit 4 = .ok (.iload_n 2, 1) := dk_28 (dk_at dksX2_fit_0 4 rfl rfl)
theorem dX2_fit_5 : decode cX2_fit 5 = .ok (.aload_n 0, 1) := dk_42 (dk_at dksX2_fit_0 5 rfl rfl)
theorem dX2_fit_6 : decode cX2_fit 6 = .ok (.getfield 7, 3) := dk_180 0 7 (dk_at dksX2_fit_0 6 rfl rfl)
theorem dX2_fit_9 : decode cX2_fit 9 = .ok (.bipush 6, 2) := dk_16 6 (dk_at dksX2_fit_0 9 rfl rfl)
theorem dX2_fit_11 : decode cX2_fit 11 = .ok (.iaload, 1) := dk_46 (dk_at dksX2_fit_0 11 rfl rfl)
theorem dX2_fit_12 : decode cX2_fit 12 = .ok (.if_icmp .ge 27, 3) := dk_162 0 27 (dk_at dksX2_fit_0 12 rfl rfl)
theorem dX2_fit_15 : decode cX2_fit 15 = .ok (.iload_n 1, 1) := dk_27 (dk_at dksX2_fit_0 15 rfl rfl)
theorem dX2_fit_16 : decode cX2_fit 16 = .ok (.aload_n 0, 1) := dk_42 (dk_at dksX2_fit_0 16 rfl rfl)
theorem dX2_fit_17 : decode cX2_fit 17 = .ok (.iload_n 2, 1) := dk_28 (dk_at dksX2_fit_0 17 rfl rfl)
theorem dX2_fit_18 : decode cX2_fit 18 = .ok (.invokevirtual 431, 3) := dk_182 1 175 (dk_at dksX2_fit_0 18 rfl rfl)
theorem dX2_fit_21 : decode cX2_fit 21 = .ok (.ifCond .eq 9, 3) := dk_153 0 9 (dk_at dksX2_fit_0 21 rfl rfl)
theorem dX2_fit_24 : decode cX2_fit 24 = .ok (.iconst 1, 1) := dk_4 (dk_at dksX2_fit_1 0 rfl rfl)
theorem dX2_fit_25 : decode cX2_fit 25 = .ok (.iload_n 2, 1) := dk_28 (dk_at dksX2_fit_1 1 rfl rfl)
theorem dX2_fit_26 : decode cX2_fit 26 = .ok (.ishl, 1) := dk_120 (dk_at dksX2_fit_1 2 rfl rfl)
theorem dX2_fit_27 : decode cX2_fit 27 = .ok (.goto 4, 3) := dk_167 0 4 (dk_at dksX2_fit_1 3 rfl rfl)
theorem dX2_fit_30 : decode cX2_fit 30 = .ok (.iconst 0, 1) := dk_3 (dk_at dksX2_fit_1 6 rfl rfl)
theorem dX2_fit_31 : decode cX2_fit 31 = .ok (.ior, 1) := dk_128 (dk_at dksX2_fit_1 7 rfl rfl)
theorem dX2_fit_32 : decode cX2_fit 32 = .ok (.istore_n 1, 1) := dk_60 (dk_at dksX2_fit_1 8 rfl rfl)
theorem dX2_fit_33 : decode cX2_fit 33 = .ok (.iinc 2 1, 3) := dk_132 2 1 (dk_at dksX2_fit_1 9 rfl rfl)
theorem dX2_fit_36 : decode cX2_fit 36 = .ok (.goto (-32), 3) := dk_167 255 224 (dk_at dksX2_fit_1 12 rfl rfl)
theorem dX2_fit_39 : decode cX2_fit 39 = .ok (.iload_n 1, 1) := dk_27 (dk_at dksX2_fit_1 15 rfl rfl)
theorem dX2_fit_40 : decode cX2_fit 40 = .ok (.ireturn, 1) := dk_172 (dk_at dksX2_fit_1 16 rfl rfl)
abbrev cX2_isFitting : ByteArray := prog_15_method_117_code
def yX2_isFitting : MethodName := ⟨RX2, "isFitting", "(I)Z"⟩
def dkwX2_isFitting_4 : List UInt8 := [167, 255, 164, 4, 172]
abbrev dktX2_isFitting_4 : List UInt8 := dkwX2_isFitting_4 ++ []
def dkwX2_isFitting_3 : List UInt8 := [42, 180, 0, 7, 17, 0, 248, 5, 28, 104, 96, 4, 96, 46, 159, 0, 5, 3, 172, 132, 2, 1]
abbrev dktX2_isFitting_3 : List UInt8 := dkwX2_isFitting_3 ++ dktX2_isFitting_4
def dkwX2_isFitting_2 : List UInt8 := [46, 160, 0, 13, 42, 27, 21, 4, 182, 1, 32, 167, 0, 4, 3, 96, 62, 132, 4, 1, 167, 255, 206, 29]
abbrev dktX2_isFitting_2 : List UInt8 := dkwX2_isFitting_2 ++ dktX2_isFitting_3
def dkwX2_isFitting_1 : List UInt8 := [4, 46, 162, 0, 45, 29, 42, 21, 4, 3, 182, 0, 84, 42, 180, 0, 7, 17, 0, 248, 5, 28, 104, 96]
abbrev dktX2_isFitting_1 : List UInt8 := dkwX2_isFitting_1 ++ dktX2_isFitting_2
def dkwX2_isFitting_0 : List UInt8 := [3, 61, 28, 42, 180, 0, 7, 16, 9, 46, 162, 0, 87, 3, 62, 3, 54, 4, 21, 4, 42, 180, 0, 7]
abbrev dktX2_isFitting_0 : List UInt8 := dkwX2_isFitting_0 ++ dktX2_isFitting_1
theorem dksX2_isFitting_0 : cX2_isFitting.data.toList.drop 0 = dktX2_isFitting_0 := by decide +kernel
theorem dksX2_isFitting_1 : cX2_isFitting.data.toList.drop 24 = dktX2_isFitting_1 := dk_seg dksX2_isFitting_0 24 rfl rfl
theorem dksX2_isFitting_2 : cX2_isFitting.data.toList.drop 48 = dktX2_isFitting_2 := dk_seg dksX2_isFitting_1 24 rfl rfl
theorem dksX2_isFitting_3 : cX2_isFitting.data.toList.drop 72 = dktX2_isFitting_3 := dk_seg dksX2_isFitting_2 24 rfl rfl
theorem dksX2_isFitting_4 : cX2_isFitting.data.toList.drop 94 = dktX2_isFitting_4 := dk_seg dksX2_isFitting_3 22 rfl rfl
theorem dX2_isFitting_0 : decode cX2_isFitting 0 = .ok (.iconst 0, 1) := dk_3 (dk_at dksX2_isFitting_0 0 rfl rfl)
theorem dX2_isFitting_1 : decode cX2_isFitting 1 = .ok (.istore_n 2, 1) := dk_61 (dk_at dksX2_isFitting_0 1 rfl rfl)
theorem dX2_isFitting_2 : decode cX2_isFitting 2 = .ok (.iload_n 2, 1) := dk_28 (dk_at dksX2_isFitting_0 2 rfl rfl)
theorem dX2_isFitting_3 : decode cX2_isFitting 3 = .ok (.aload_n 0, 1) := dk_42 (dk_at dksX2_isFitting_0 3 rfl rfl)
theorem dX2_isFitting_4 : decode cX2_isFitting 4 = .ok (.getfield 7, 3) := dk_180 0 7 (dk_at dksX2_isFitting_0 4 rfl rfl)
theorem dX2_isFitting_7 : decode cX2_isFitting 7 = .ok (.bipush 9, 2) := dk_16 9 (dk_at dksX2_isFitting_0 7 rfl rfl)
theorem dX2_isFitting_9 : decode cX2_isFitting 9 = .ok (.iaload, 1) := dk_46 (dk_at dksX2_isFitting_0 9 rfl rfl)
theorem dX2_isFitting_10 : decode cX2_isFitting 10 = .ok (.if_icmp .ge 87, 3) := dk_162 0 87 (dk_at dksX2_isFitting_0 10 rfl rfl)
theorem dX2_isFitting_13 : decode cX2_isFitting 13 = .ok (.iconst 0, 1) := dk_3 (dk_at dksX2_isFitting_0 13 rfl rfl)
theorem dX2_isFitting_14 : decode cX2_isFitting 14 = .ok (.istore_n 3, 1) := dk_62 (dk_at dksX2_isFitting_0 14 rfl rfl)
theorem dX2_isFitting_15 : decode cX2_isFitting 15 = .ok (.iconst 0, 1) := dk_3 (dk_at dksX2_isFitting_0 15 rfl rfl)
theorem dX2_isFitting_16 : decode cX2_isFitting 16 = .ok (.istore 4, 2) := dk_54 4 (dk_at dksX2_isFitting_0 16 rfl rfl)
theorem dX2_isFitting_18 : decode cX2_isFitting 18 = .ok (.iload 4, 2) := dk_21 4 (dk_at dksX2_isFitting_0 18 rfl rfl)
theorem dX2_isFitting_20 : decode cX2_isFitting 20 = .ok (.aload_n 0, 1) := dk_42 (dk_at dksX2_isFitting_0 20 rfl rfl)
theorem dX2_isFitting_21 : decode cX2_isFitting 21 = .ok (.getfield 7, 3) := dk_180 0 7 (dk_at dksX2_isFitting_0 21 rfl rfl)
theorem dX2_isFitting_24 : decode cX2_isFitting 24 = .ok (.iconst 1, 1) := dk_4 (dk_at dksX2_isFitting_1 0 rfl rfl)
theorem dX2_isFitting_25 : decode cX2_isFitting 25 = .ok (.iaload, 1) := dk_46 (dk_at dksX2_isFitting_1 1 rfl rfl)
theorem dX2_isFitting_26 : decode cX2_isFitting 26 = .ok (.if_icmp .ge 45, 3) := dk_162 0 45 (dk_at dksX2_isFitting_1 2 rfl rfl)
theorem dX2_isFitting_29 : decode cX2_isFitting 29 = .ok (.iload_n 3, 1) := dk_29 (dk_at dksX2_isFitting_1 5 rfl rfl)
theorem dX2_isFitting_30 : decode cX2_isFitting 30 = .ok (.aload_n 0, 1) := dk_42 (dk_at dksX2_isFitting_1 6 rfl rfl)
theorem dX2_isFitting_31 : decode cX2_isFitting 31 = .ok (.iload 4, 2) := dk_21 4 (dk_at dksX2_isFitting_1 7 rfl rfl)
theorem dX2_isFitting_33 : decode cX2_isFitting 33 = .ok (.iconst 0, 1) := dk_3 (dk_at dksX2_isFitting_1 9 rfl rfl)
theorem dX2_isFitting_34 : decode cX2_isFitting 34 = .ok (.invokevirtual 84, 3) := dk_182 0 84 (dk_at dksX2_isFitting_1 10 rfl rfl)
theorem dX2_isFitting_37 : decode cX2_isFitting 37 = .ok (.aload_n 0, 1) := dk_42 (dk_at dksX2_isFitting_1 13 rfl rfl)
theorem dX2_isFitting_38 : decode cX2_isFitting 38 = .ok (.getfield 7, 3) := dk_180 0 7 (dk_at dksX2_isFitting_1 14 rfl rfl)
theorem dX2_isFitting_41 : decode cX2_isFitting 41 = .ok (.sipush 248, 3) := dk_17 0 248 (dk_at dksX2_isFitting_1 17 rfl rfl)
theorem dX2_isFitting_44 : decode cX2_isFitting 44 = .ok (.iconst 2, 1) := dk_5 (dk_at dksX2_isFitting_1 20 rfl rfl)
theorem dX2_isFitting_45 : decode cX2_isFitting 45 = .ok (.iload_n 2, 1) := dk_28 (dk_at dksX2_isFitting_1 21 rfl rfl)
theorem dX2_isFitting_46 : decode cX2_isFitting 46 = .ok (.imul, 1) := dk_104 (dk_at dksX2_isFitting_1 22 rfl rfl)
theorem dX2_isFitting_47 : decode cX2_isFitting 47 = .ok (.iadd, 1) := dk_96 (dk_at dksX2_isFitting_1 23 rfl rfl)
theorem dX2_isFitting_48 : decode cX2_isFitting 48 = .ok (.iaload, 1) := dk_46 (dk_at dksX2_isFitting_2 0 rfl rfl)
theorem dX2_isFitting_49 : decode cX2_isFitting 49 = .ok (.if_icmp .ne 13, 3) := dk_160 0 13 (dk_at dksX2_isFitting_2 1 rfl rfl)
theorem dX2_isFitting_52 : decode cX2_isFitting 52 = .ok (.aload_n 0, 1) := dk_42 (dk_at dksX2_isFitting_2 4 rfl rfl)
theorem dX2_isFitting_53 : decode cX2_isFitting 53 = .ok (.iload_n 1, 1) := dk_27 (dk_at dksX2_isFitting_2 5 rfl rfl)
theorem dX2_isFitting_54 : decode cX2_isFitting 54 = .ok (.iload 4, 2) := dk_21 4 (dk_at dksX2_isFitting_2 6 rfl rfl)
theorem dX2_isFitting_56 : decode cX2_isFitting 56 = .ok (.invokevirtual 288, 3) := dk_182 1 32 (dk_at dksX2_isFitting_2 8 rfl rfl)
theorem dX2_isFitting_59 : decode cX2_isFitting 59 = .ok (.goto 4, 3) := dk_167 0 4 (dk_at dksX2_isFitting_2 11 rfl rfl)
theorem dX2_isFitting_62 : decode cX2_isFitting 62 = .ok (.iconst 0, 1) := dk_3 (dk_at dksX2_isFitting_2 14 rfl rfl)
theorem dX2_isFitting_63 : decode cX2_isFitting 63 = .ok (.iadd, 1) := dk_96 (dk_at dksX2_isFitting_2 15 rfl rfl)
theorem dX2_isFitting_64 : decode cX2_isFitting 64 = .ok (.istore_n 3, 1) := dk_62 (dk_at dksX2_isFitting_2 16 rfl rfl)
theorem dX2_isFitting_65 : decode cX2_isFitting 65 = .ok (.iinc 4 1, 3) := dk_132 4 1 (dk_at dksX2_isFitting_2 17 rfl rfl)
theorem dX2_isFitting_68 : decode cX2_isFitting 68 = .ok (.goto (-50), 3) := dk_167 255 206 (dk_at dksX2_isFitting_2 20 rfl rfl)
theorem dX2_isFitting_71 : decode cX2_isFitting 71 = .ok (.iload_n 3, 1) := dk_29 (dk_at dksX2_isFitting_2 23 rfl rfl)
theorem dX2_isFitting_72 : decode cX2_isFitting 72 = .ok (.aload_n 0, 1) := dk_42 (dk_at dksX2_isFitting_3 0 rfl rfl)
theorem dX2_isFitting_73 : decode cX2_isFitting 73 = .ok (.getfield 7, 3) := dk_180 0 7 (dk_at dksX2_isFitting_3 1 rfl rfl)
theorem dX2_isFitting_76 : decode cX2_isFitting 76 = .ok (.sipush 248, 3) := dk_17 0 248 (dk_at dksX2_isFitting_3 4 rfl rfl)
theorem dX2_isFitting_79 : decode cX2_isFitting 79 = .ok (.iconst 2, 1) := dk_5 (dk_at dksX2_isFitting_3 7 rfl rfl)
theorem dX2_isFitting_80 : decode cX2_isFitting 80 = .ok (.iload_n 2, 1) := dk_28 (dk_at dksX2_isFitting_3 8 rfl rfl)
theorem dX2_isFitting_81 : decode cX2_isFitting 81 = .ok (.imul, 1) := dk_104 (dk_at dksX2_isFitting_3 9 rfl rfl)
theorem dX2_isFitting_82 : decode cX2_isFitting 82 = .ok (.iadd, 1) := dk_96 (dk_at dksX2_isFitting_3 10 rfl rfl)
theorem dX2_isFitting_83 : decode cX2_isFitting 83 = .ok (.iconst 1, 1) := dk_4 (dk_at dksX2_isFitting_3 11 rfl rfl)
theorem dX2_isFitting_84 : decode cX2_isFitting 84 = .ok (.iadd, 1) := dk_96 (dk_at dksX2_isFitting_3 12 rfl rfl)
theorem dX2_isFitting_85 : decode cX2_isFitting 85 = .ok (.iaload, 1) := dk_46 (dk_at dksX2_isFitting_3 13 rfl rfl)
theorem dX2_isFitting_86 : decode cX2_isFitting 86 = .ok (.if_icmp .eq 5, 3) := dk_159 0 5 (dk_at dksX2_isFitting_3 14 rfl rfl)
theorem dX2_isFitting_89 : decode cX2_isFitting 89 = .ok (.iconst 0, 1) := dk_3 (dk_at dksX2_isFitting_3 17 rfl rfl)
theorem dX2_isFitting_90 : decode cX2_isFitting 90 = .ok (.ireturn, 1) := dk_172 (dk_at dksX2_isFitting_3 18 rfl rfl)
theorem dX2_isFitting_91 : decode cX2_isFitting 91 = .ok (.iinc 2 1, 3) := dk_132 2 1 (dk_at dksX2_isFitting_3 19 rfl rfl)
theorem dX2_isFitting_94 : decode cX2_isFitting 94 = .ok (.goto (-92), 3) := dk_167 255 164 (dk_at dksX2_isFitting_4 0 rfl rfl)
theorem dX2_isFitting_97 : decode cX2_isFitting 97 = .ok (.iconst 1, 1) := dk_4 (dk_at dksX2_isFitting_4 3 rfl rfl)
theorem dX2_isFitting_98 : decode cX2_isFitting 98 = .ok (.ireturn, 1) := dk_172 (dk_at dksX2_isFitting_4 4 rfl rfl)
abbrev cX2_smallest : ByteArray := prog_15_method_122_code
def yX2_smallest : MethodName := ⟨RX2, "smallest", "(I)I"⟩
def dkwX2_smallest_4 : List UInt8 := [27, 46, 61, 132, 4, 1, 167, 255, 181, 28, 172]
abbrev dktX2_smallest_4 : List UInt8 := dkwX2_smallest_4 ++ []
def dkwX2_smallest_3 : List UInt8 := [54, 5, 132, 6, 1, 167, 255, 232, 21, 5, 29, 161, 0, 6, 167, 0, 13, 21, 5, 62, 42, 180, 0, 67]
abbrev dktX2_smallest_3 : List UInt8 := dkwX2_smallest_3 ++ dktX2_smallest_4
def dkwX2_smallest_2 : List UInt8 := [54, 5, 3, 54, 6, 21, 6, 7, 162, 0, 24, 21, 5, 42, 180, 0, 67, 21, 6, 46, 184, 1, 185, 96]
abbrev dktX2_smallest_2 : List UInt8 := dkwX2_smallest_2 ++ dktX2_smallest_3
def dkwX2_smallest_1 : List UInt8 := [54, 4, 21, 4, 17, 9, 97, 162, 0, 73, 42, 21, 4, 182, 1, 182, 154, 0, 6, 167, 0, 55, 3]
abbrev dktX2_smallest_1 : List UInt8 := dkwX2_smallest_1 ++ dktX2_smallest_2
def dkwX2_smallest_0 : List UInt8 := [27, 3, 6, 184, 0, 80, 154, 0, 6, 16, 156, 172, 42, 182, 1, 178, 16, 156, 61, 19, 1, 181, 62, 3]
abbrev dktX2_smallest_0 : List UInt8 := dkwX2_smallest_0 ++ dktX2_smallest_1
theorem dksX2_smallest_0 : cX2_smallest.data.toList.drop 0 = dktX2_smallest_0 := by decide +kernel
theorem dksX2_smallest_1 : cX2_smallest.data.toList.drop 24 = dktX2_smallest_1 := dk_seg dksX2_smallest_0 24 rfl rfl
theorem dksX2_smallest_2 : cX2_smallest.data.toList.drop 47 = dktX2_smallest_2 := dk_seg dksX2_smallest_1 23 rfl rfl
theorem dksX2_smallest_3 : cX2_smallest.data.toList.drop 71 = dktX2_smallest_3 := dk_seg dksX2_smallest_2 24 rfl rfl
theorem dksX2_smallest_4 : cX2_smallest.data.toList.drop 95 = dktX2_smallest_4 := dk_seg dksX2_smallest_3 24 rfl rfl
theorem dX2_smallest_0 : decode cX2_smallest 0 = .ok (.iload_n 1, 1) := dk_27 (dk_at dksX2_smallest_0 0 rfl rfl)
theorem dX2_smallest_1 : decode cX2_smallest 1 = .ok (.iconst 0, 1) := dk_3 (dk_at dksX2_smallest_0 1 rfl rfl)
theorem dX2_smallest_2 : decode cX2_smallest 2 = .ok (.iconst 3, 1) := dk_6 (dk_at dksX2_smallest_0 2 rfl rfl)
theorem dX2_smallest_3 : decode cX2_smallest 3 = .ok (.invokestatic 80, 3) := dk_184 0 80 (dk_at dksX2_smallest_0 3 rfl rfl)
theorem dX2_smallest_6 : decode cX2_smallest 6 = .ok (.ifCond .ne 6, 3) := dk_154 0 6 (dk_at dksX2_smallest_0 6 rfl rfl)
theorem dX2_smallest_9 : decode cX2_smallest 9 = .ok (.bipush (-100), 2) := dk_16 156 (dk_at dksX2_smallest_0 9 rfl rfl)
theorem dX2_smallest_11 : decode cX2_smallest 11 = .ok (.ireturn, 1) := dk_172 (dk_at dksX2_smallest_0 11 rfl rfl)
theorem dX2_smallest_12 : decode cX2_smallest 12 = .ok (.aload_n 0, 1) := dk_42 (dk_at dksX2_smallest_0 12 rfl rfl)
theorem dX2_smallest_13 : decode cX2_smallest 13 = .ok (.invokevirtual 434, 3) := dk_182 1 178 (dk_at dksX2_smallest_0 13 rfl rfl)
theorem dX2_smallest_16 : decode cX2_smallest 16 = .ok (.bipush (-100), 2) := dk_16 156 (dk_at dksX2_smallest_0 16 rfl rfl)
theorem dX2_smallest_18 : decode cX2_smallest 18 = .ok (.istore_n 2, 1) := dk_61 (dk_at dksX2_smallest_0 18 rfl rfl)
theorem dX2_smallest_19 : decode cX2_smallest 19 = .ok (.ldc_w 437, 3) := dk_19 1 181 (dk_at dksX2_smallest_0 19 rfl rfl)
theorem dX2_smallest_22 : decode cX2_smallest 22 = .ok (.istore_n 3, 1) := dk_62 (dk_at dksX2_smallest_0 22 rfl rfl)
theorem dX2_smallest_23 : decode cX2_smallest 23 = .ok (.iconst 0, 1) := dk_3 (dk_at dksX2_smallest_0 23 rfl rfl)
theorem dX2_smallest_24 : decode cX2_smallest 24 = .ok (.istore 4, 2) := dk_54 4 (dk_at dksX2_smallest_1 0 rfl rfl)
theorem dX2_smallest_26 : decode cX2_smallest 26 = .ok (.iload 4, 2) := dk_21 4 (dk_at dksX2_smallest_1 2 rfl rfl)
theorem dX2_smallest_28 : decode cX2_smallest 28 = .ok (.sipush 2401, 3) := dk_17 9 97 (dk_at dksX2_smallest_1 4 rfl rfl)
theorem dX2_smallest_31 : decode cX2_smallest 31 = .ok (.if_icmp .ge 73, 3) := dk_162 0 73 (dk_at dksX2_smallest_1 7 rfl rfl)
theorem dX2_smallest_34 : decode cX2_smallest 34 = .ok (.aload_n 0, 1) := dk_42 (dk_at dksX2_smallest_1 10 rfl rfl)
theorem dX2_smallest_35 : decode cX2_smallest 35 = .ok (.iload 4, 2) := dk_21 4 (dk_at dksX2_smallest_1 11 rfl rfl)
theorem dX2_smallest_37 : decode cX2_smallest 37 = .ok (.invokevirtual 438, 3) := dk_182 1 182 (dk_at dksX2_smallest_1 13 rfl rfl)
theorem dX2_smallest_40 : decode cX2_smallest 40 = .ok (.ifCond .ne 6, 3) := dk_154 0 6 (dk_at dksX2_smallest_1 16 rfl rfl)
theorem dX2_smallest_43 : decode cX2_smallest 43 = .ok (.goto 55, 3) := dk_167 0 55 (dk_at dksX2_smallest_1 19 rfl rfl)
theorem dX2_smallest_46 : decode cX2_smallest 46 = .ok (.iconst 0, 1) := dk_3 (dk_at dksX2_smallest_1 22 rfl rfl)
theorem dX2_smallest_47 : decode cX2_smallest 47 = .ok (.istore 5, 2) := dk_54 5 (dk_at dksX2_smallest_2 0 rfl rfl)
theorem dX2_smallest_49 : decode cX2_smallest 49 = .ok (.iconst 0, 1) := dk_3 (dk_at dksX2_smallest_2 2 rfl rfl)
theorem dX2_smallest_50 : decode cX2_smallest 50 = .ok (.istore 6, 2) := dk_54 6 (dk_at dksX2_smallest_2 3 rfl rfl)
theorem dX2_smallest_52 : decode cX2_smallest 52 = .ok (.iload 6, 2) := dk_21 6 (dk_at dksX2_smallest_2 5 rfl rfl)
theorem dX2_smallest_54 : decode cX2_smallest 54 = .ok (.iconst 4, 1) := dk_7 (dk_at dksX2_smallest_2 7 rfl rfl)
theorem dX2_smallest_55 : decode cX2_smallest 55 = .ok (.if_icmp .ge 24, 3) := dk_162 0 24 (dk_at dksX2_smallest_2 8 rfl rfl)
theorem dX2_smallest_58 : decode cX2_smallest 58 = .ok (.iload 5, 2) := dk_21 5 (dk_at dksX2_smallest_2 11 rfl rfl)
theorem dX2_smallest_60 : decode cX2_smallest 60 = .ok (.aload_n 0, 1) := dk_42 (dk_at dksX2_smallest_2 13 rfl rfl)
theorem dX2_smallest_61 : decode cX2_smallest 61 = .ok (.getfield 67, 3) := dk_180 0 67 (dk_at dksX2_smallest_2 14 rfl rfl)
theorem dX2_smallest_64 : decode cX2_smallest 64 = .ok (.iload 6, 2) := dk_21 6 (dk_at dksX2_smallest_2 17 rfl rfl)
theorem dX2_smallest_66 : decode cX2_smallest 66 = .ok (.iaload, 1) := dk_46 (dk_at dksX2_smallest_2 19 rfl rfl)
theorem dX2_smallest_67 : decode cX2_smallest 67 = .ok (.invokestatic 441, 3) := dk_184 1 185 (dk_at dksX2_smallest_2 20 rfl rfl)
theorem dX2_smallest_70 : decode cX2_smallest 70 = .ok (.iadd, 1) := dk_96 (dk_at dksX2_smallest_2 23 rfl rfl)
theorem dX2_smallest_71 : decode cX2_smallest 71 = .ok (.istore 5, 2) := dk_54 5 (dk_at dksX2_smallest_3 0 rfl rfl)
theorem dX2_smallest_73 : decode cX2_smallest 73 = .ok (.iinc 6 1, 3) := dk_132 6 1 (dk_at dksX2_smallest_3 2 rfl rfl)
theorem dX2_smallest_76 : decode cX2_smallest 76 = .ok (.goto (-24), 3) := dk_167 255 232 (dk_at dksX2_smallest_3 5 rfl rfl)
theorem dX2_smallest_79 : decode cX2_smallest 79 = .ok (.iload 5, 2) := dk_21 5 (dk_at dksX2_smallest_3 8 rfl rfl)
theorem dX2_smallest_81 : decode cX2_smallest 81 = .ok (.iload_n 3, 1) := dk_29 (dk_at dksX2_smallest_3 10 rfl rfl)
theorem dX2_smallest_82 : decode cX2_smallest 82 = .ok (.if_icmp .lt 6, 3) := dk_161 0 6 (dk_at dksX2_smallest_3 11 rfl rfl)
theorem dX2_smallest_85 : decode cX2_smallest 85 = .ok (.goto 13, 3) := dk_167 0 13 (dk_at dksX2_smallest_3 14 rfl rfl)
theorem dX2_smallest_88 : decode cX2_smallest 88 = .ok (.iload 5, 2) := dk_21 5 (dk_at dksX2_smallest_3 17 rfl rfl)
theorem dX2_smallest_90 : decode cX2_smallest 90 = .ok (.istore_n 3, 1) := dk_62 (dk_at dksX2_smallest_3 19 rfl rfl)
theorem dX2_smallest_91 : decode cX2_smallest 91 = .ok (.aload_n 0, 1) := dk_42 (dk_at dksX2_smallest_3 20 rfl rfl)
theorem dX2_smallest_92 : decode cX2_smallest 92 = .ok (.getfield 67, 3) := dk_180 0 67 (dk_at dksX2_smallest_3 21 rfl rfl)
theorem dX2_smallest_95 : decode cX2_smallest 95 = .ok (.iload_n 1, 1) := dk_27 (dk_at dksX2_smallest_4 0 rfl rfl)
theorem dX2_smallest_96 : decode cX2_smallest 96 = .ok (.iaload, 1) := dk_46 (dk_at dksX2_smallest_4 1 rfl rfl)
theorem dX2_smallest_97 : decode cX2_smallest 97 = .ok (.istore_n 2, 1) := dk_61 (dk_at dksX2_smallest_4 2 rfl rfl)
theorem dX2_smallest_98 : decode cX2_smallest 98 = .ok (.iinc 4 1, 3) := dk_132 4 1 (dk_at dksX2_smallest_4 3 rfl rfl)
theorem dX2_smallest_101 : decode cX2_smallest 101 = .ok (.goto (-75), 3) := dk_167 255 181 (dk_at dksX2_smallest_4 6 rfl rfl)
theorem dX2_smallest_104 : decode cX2_smallest 104 = .ok (.iload_n 2, 1) := dk_28 (dk_at dksX2_smallest_4 9 rfl rfl)
theorem dX2_smallest_105 : decode cX2_smallest 105 = .ok (.ireturn, 1) := dk_172 (dk_at dksX2_smallest_4 10 rfl rfl)
abbrev cX2_findFacts : ByteArray := prog_15_method_119_code
def yX2_findFacts : MethodName := ⟨RX2, "findFacts", "()V"⟩
def dkwX2_findFacts_5 : List UInt8 := [4, 126, 96, 79, 132, 3, 1, 167, 255, 223, 132, 2, 1, 167, 255, 164, 132, 1, 1, 167, 255, 121, 177]
abbrev dktX2_findFacts_5 : List UInt8 := dkwX2_findFacts_5 ++ []
def dkwX2_findFacts_4 : List UInt8 := [162, 0, 34, 42, 180, 0, 64, 7, 27, 104, 4, 96, 29, 96, 92, 46, 42, 28, 6, 182, 0, 84, 29, 122]
abbrev dktX2_findFacts_4 : List UInt8 := dkwX2_findFacts_4 ++ dktX2_findFacts_5
def dkwX2_findFacts_3 : List UInt8 := [167, 0, 58, 42, 180, 0, 64, 7, 27, 104, 92, 46, 42, 28, 5, 182, 0, 84, 96, 79, 3, 62, 29, 6]
abbrev dktX2_findFacts_3 : List UInt8 := dkwX2_findFacts_3 ++ dktX2_findFacts_4
def dkwX2_findFacts_2 : List UInt8 := [162, 0, 88, 42, 28, 3, 182, 0, 84, 42, 180, 0, 7, 17, 0, 248, 5, 27, 104, 96, 46, 159, 0, 6]
abbrev dktX2_findFacts_2 : List UInt8 := dkwX2_findFacts_2 ++ dktX2_findFacts_3
def dkwX2_findFacts_1 : List UInt8 := [7, 27, 104, 28, 96, 3, 79, 132, 2, 1, 167, 255, 237, 3, 61, 28, 42, 180, 0, 7, 4, 46]
abbrev dktX2_findFacts_1 : List UInt8 := dkwX2_findFacts_1 ++ dktX2_findFacts_2
def dkwX2_findFacts_0 : List UInt8 := [3, 60, 27, 42, 180, 0, 7, 16, 9, 46, 162, 0, 130, 3, 61, 28, 7, 162, 0, 20, 42, 180, 0, 64]
abbrev dktX2_findFacts_0 : List UInt8 := dkwX2_findFacts_0 ++ dktX2_findFacts_1
theorem dksX2_findFacts_0 : cX2_findFacts.data.toList.drop 0 = dktX2_findFacts_0 := by decide +kernel
theorem dksX2_findFacts_1 : cX2_findFacts.data.toList.drop 24 = dktX2_findFacts_1 := dk_seg dksX2_findFacts_0 24 rfl rfl
theorem dksX2_findFacts_2 : cX2_findFacts.data.toList.drop 46 = dktX2_findFacts_2 := dk_seg dksX2_findFacts_1 22 rfl rfl
theorem dksX2_findFacts_3 : cX2_findFacts.data.toList.drop 70 = dktX2_findFacts_3 := dk_seg dksX2_findFacts_2 24 rfl rfl
theorem dksX2_findFacts_4 : cX2_findFacts.data.toList.drop 94 = dktX2_findFacts_4 := dk_seg dksX2_findFacts_3 24 rfl rfl
theorem dksX2_findFacts_5 : cX2_findFacts.data.toList.drop 118 = dktX2_findFacts_5 := dk_seg dksX2_findFacts_4 24 rfl rfl
theorem dX2_findFacts_0 : decode cX2_findFacts 0 = .ok (.iconst 0, 1) := dk_3 (dk_at dksX2_findFacts_0 0 rfl rfl)
theorem dX2_findFacts_1 : decode cX2_findFacts 1 = .ok (.istore_n 1, 1) := dk_60 (dk_at dksX2_findFacts_0 1 rfl rfl)
theorem dX2_findFacts_2 : decode cX2_findFacts 2 = .ok (.iload_n 1, 1) := dk_27 (dk_at dksX2_findFacts_0 2 rfl rfl)
theorem dX2_findFacts_3 : decode cX2_findFacts 3 = .ok (.aload_n 0, 1) := dk_42 (dk_at dksX2_findFacts_0 3 rfl rfl)
theorem dX2_findFacts_4 : decode cX2_findFacts 4 = .ok (.getfield 7, 3) := dk_180 0 7 (dk_at dksX2_findFacts_0 4 rfl rfl)
theorem dX2_findFacts_7 : decode cX2_findFacts 7 = .ok (.bipush 9, 2) := dk_16 9 (dk_at dksX2_findFacts_0 7 rfl rfl)
theorem dX2_findFacts_9 : decode cX2_findFacts 9 = .ok (.iaload, 1) := dk_46 (dk_at dksX2_findFacts_0 9 rfl rfl)
theorem dX2_findFacts_10 : decode cX2_findFacts 10 = .ok (.if_icmp .ge 130, 3) := dk_162 0 130 (dk_at dksX2_findFacts_0 10 rfl rfl)
theorem dX2_findFacts_13 : decode cX2_findFacts 13 = .ok (.iconst 0, 1) := dk_3 (dk_at dksX2_findFacts_0 13 rfl rfl)
theorem dX2_findFacts_14 : decode cX2_findFacts 14 = .ok (.istore_n 2, 1) := dk_61 (dk_at dksX2_findFacts_0 14 rfl rfl)
theorem dX2_findFacts_15 : decode cX2_findFacts 15 = .ok (.iload_n 2, 1) := dk_28 (dk_at dksX2_findFacts_0 15 rfl rfl)
theorem dX2_findFacts_16 : decode cX2_findFacts 16 = .ok (.iconst 4, 1) := dk_7 (dk_at dksX2_findFacts_0 16 rfl rfl)
theorem dX2_findFacts_17 : decode cX2_findFacts 17 = .ok (.if_icmp .ge 20, 3) := dk_162 0 20 (dk_at dksX2_findFacts_0 17 rfl rfl)
theorem dX2_findFacts_20 : decode cX2_findFacts 20 = .ok (.aload_n 0, 1) := dk_42 (dk_at dksX2_findFacts_0 20 rfl rfl)
theorem dX2_findFacts_21 : decode cX2_findFacts 21 = .ok (.getfield 64, 3) := dk_180 0 64 (dk_at dksX2_findFacts_0 21 rfl rfl)
theorem dX2_findFacts_24 : decode cX2_findFacts 24 = .ok (.iconst 4, 1) := dk_7 (dk_at dksX2_findFacts_1 0 rfl rfl)
theorem dX2_findFacts_25 : decode cX2_findFacts 25 = .ok (.iload_n 1, 1) := dk_27 (dk_at dksX2_findFacts_1 1 rfl rfl)
theorem dX2_findFacts_26 : decode cX2_findFacts 26 = .ok (.imul, 1) := dk_104 (dk_at dksX2_findFacts_1 2 rfl rfl)
theorem dX2_findFacts_27 : decode cX2_findFacts 27 = .ok (.iload_n 2, 1) := dk_28 (dk_at dksX2_findFacts_1 3 rfl rfl)
theorem dX2_findFacts_28 : decode cX2_findFacts 28 = .ok (.iadd, 1) := dk_96 (dk_at dksX2_findFacts_1 4 rfl rfl)
theorem dX2_findFacts_29 : decode cX2_findFacts 29 = .ok (.iconst 0, 1) := dk_3 (dk_at dksX2_findFacts_1 5 rfl rfl)
theorem dX2_findFacts_30 : decode cX2_findFacts 30 = .ok (.iastore, 1) := dk_79 (dk_at dksX2_findFacts_1 6 rfl rfl)
theorem dX2_findFacts_31 : decode cX2_findFacts 31 = .ok (.iinc 2 1, 3) := dk_132 2 1 (dk_at dksX2_findFacts_1 7 rfl rfl)
theorem dX2_findFacts_34 : decode cX2_findFacts 34 = .ok (.goto (-19), 3) := dk_167 255 237 (dk_at dksX2_findFacts_1 10 rfl rfl)
theorem dX2_findFacts_37 : decode cX2_findFacts 37 = .ok (.iconst 0, 1) := dk_3 (dk_at dksX2_findFacts_1 13 rfl rfl)
theorem dX2_findFacts_38 : decode cX2_findFacts 38 = .ok (.istore_n 2, 1) := dk_61 (dk_at dksX2_findFacts_1 14 rfl rfl)
theorem dX2_findFacts_39 : decode cX2_findFacts 39 = .ok (.iload_n 2, 1) := dk_28 (dk_at dksX2_findFacts_1 15 rfl rfl)
theorem dX2_findFacts_40 : decode cX2_findFacts 40 = .ok (.aload_n 0, 1) := dk_42 (dk_at dksX2_findFacts_1 16 rfl rfl)
theorem dX2_findFacts_41 : decode cX2_findFacts 41 = .ok (.getfield 7, 3) := dk_180 0 7 (dk_at dksX2_findFacts_1 17 rfl rfl)
theorem dX2_findFacts_44 : decode cX2_findFacts 44 = .ok (.iconst 1, 1) := dk_4 (dk_at dksX2_findFacts_1 20 rfl rfl)
theorem dX2_findFacts_45 : decode cX2_findFacts 45 = .ok (.iaload, 1) := dk_46 (dk_at dksX2_findFacts_1 21 rfl rfl)
theorem dX2_findFacts_46 : decode cX2_findFacts 46 = .ok (.if_icmp .ge 88, 3) := dk_162 0 88 (dk_at dksX2_findFacts_2 0 rfl rfl)
theorem dX2_findFacts_49 : decode cX2_findFacts 49 = .ok (.aload_n 0, 1) := dk_42 (dk_at dksX2_findFacts_2 3 rfl rfl)
theorem dX2_findFacts_50 : decode cX2_findFacts 50 = .ok (.iload_n 2, 1) := dk_28 (dk_at dksX2_findFacts_2 4 rfl rfl)
theorem dX2_findFacts_51 : decode cX2_findFacts 51 = .ok (.iconst 0, 1) := dk_3 (dk_at dksX2_findFacts_2 5 rfl rfl)
theorem dX2_findFacts_52 : decode cX2_findFacts 52 = .ok (.invokevirtual 84, 3) := dk_182 0 84 (dk_at dksX2_findFacts_2 6 rfl rfl)
theorem dX2_findFacts_55 : decode cX2_findFacts 55 = .ok (.aload_n 0, 1) := dk_42 (dk_at dksX2_findFacts_2 9 rfl rfl)
theorem dX2_findFacts_56 : decode cX2_findFacts 56 = .ok (.getfield 7, 3) := dk_180 0 7 (dk_at dksX2_findFacts_2 10 rfl rfl)
theorem dX2_findFacts_59 : decode cX2_findFacts 59 = .ok (.sipush 248, 3) := dk_17 0 248 (dk_at dksX2_findFacts_2 13 rfl rfl)
theorem dX2_findFacts_62 : decode cX2_findFacts 62 = .ok (.iconst 2, 1) := dk_5 (dk_at dksX2_findFacts_2 16 rfl rfl)
theorem dX2_findFacts_63 : decode cX2_findFacts 63 = .ok (.iload_n 1, 1) := dk_27 (dk_at dksX2_findFacts_2 17 rfl rfl)
theorem dX2_findFacts_64 : decode cX2_findFacts 64 = .ok (.imul, 1) := dk_104 (dk_at dksX2_findFacts_2 18 rfl rfl)
theorem dX2_findFacts_65 : decode cX2_findFacts 65 = .ok (.iadd, 1) := dk_96 (dk_at dksX2_findFacts_2 19 rfl rfl)
theorem dX2_findFacts_66 : decode cX2_findFacts 66 = .ok (.iaload, 1) := dk_46 (dk_at dksX2_findFacts_2 20 rfl rfl)
theorem dX2_findFacts_67 : decode cX2_findFacts 67 = .ok (.if_icmp .eq 6, 3) := dk_159 0 6 (dk_at dksX2_findFacts_2 21 rfl rfl)
theorem dX2_findFacts_70 : decode cX2_findFacts 70 = .ok (.goto 58, 3) := dk_167 0 58 (dk_at dksX2_findFacts_3 0 rfl rfl)
theorem dX2_findFacts_73 : decode cX2_findFacts 73 = .ok (.aload_n 0, 1) := dk_42 (dk_at dksX2_findFacts_3 3 rfl rfl)
theorem dX2_findFacts_74 : decode cX2_findFacts 74 = .ok (.getfield 64, 3) := dk_180 0 64 (dk_at dksX2_findFacts_3 4 rfl rfl)
theorem dX2_findFacts_77 : decode cX2_findFacts 77 = .ok (.iconst 4, 1) := dk_7 (dk_at dksX2_findFacts_3 7 rfl rfl)
theorem dX2_findFacts_78 : decode cX2_findFacts 78 = .ok (.iload_n 1, 1) := dk_27 (dk_at dksX2_findFacts_3 8 rfl rfl)
theorem dX2_findFacts_79 : decode cX2_findFacts 79 = .ok (.imul, 1) := dk_104 (dk_at dksX2_findFacts_3 9 rfl rfl)
theorem dX2_findFacts_80 : decode cX2_findFacts 80 = .ok (.dup2, 1) := dk_92 (dk_at dksX2_findFacts_3 10 rfl rfl)
theorem dX2_findFacts_81 : decode cX2_findFacts 81 = .ok (.iaload, 1) := dk_46 (dk_at dksX2_findFacts_3 11 rfl rfl)
theorem dX2_findFacts_82 : decode cX2_findFacts 82 = .ok (.aload_n 0, 1) := dk_42 (dk_at dksX2_findFacts_3 12 rfl rfl)
theorem dX2_findFacts_83 : decode cX2_findFacts 83 = .ok (.iload_n 2, 1) := dk_28 (dk_at dksX2_findFacts_3 13 rfl rfl)
theorem dX2_findFacts_84 : decode cX2_findFacts 84 = .ok (.iconst 2, 1) := dk_5 (dk_at dksX2_findFacts_3 14 rfl rfl)
theorem dX2_findFacts_85 : decode cX2_findFacts 85 = .ok (.invokevirtual 84, 3) := dk_182 0 84 (dk_at dksX2_findFacts_3 15 rfl rfl)
theorem dX2_findFacts_88 : decode cX2_findFacts 88 = .ok (.iadd, 1) := dk_96 (dk_at dksX2_findFacts_3 18 rfl rfl)
theorem dX2_findFacts_89 : decode cX2_findFacts 89 = .ok (.iastore, 1) := dk_79 (dk_at dksX2_findFacts_3 19 rfl rfl)
theorem dX2_findFacts_90 : decode cX2_findFacts 90 = .ok (.iconst 0, 1) := dk_3 (dk_at dksX2_findFacts_3 20 rfl rfl)
theorem dX2_findFacts_91 : decode cX2_findFacts 91 = .ok (.istore_n 3, 1) := dk_62 (dk_at dksX2_findFacts_3 21 rfl rfl)
theorem dX2_findFacts_92 : decode cX2_findFacts 92 = .ok (.iload_n 3, 1) := dk_29 (dk_at dksX2_findFacts_3 22 rfl rfl)
theorem dX2_findFacts_93 : decode cX2_findFacts 93 = .ok (.iconst 3, 1) := dk_6 (dk_at dksX2_findFacts_3 23 rfl rfl)
theorem dX2_findFacts_94 : decode cX2_findFacts 94 = .ok (.if_icmp .ge 34, 3) := dk_162 0 34 (dk_at dksX2_findFacts_4 0 rfl rfl)
theorem dX2_findFacts_97 : decode cX2_findFacts 97 = .ok (.aload_n 0, 1) := dk_42 (dk_at dksX2_findFacts_4 3 rfl rfl)
theorem dX2_findFacts_98 : decode cX2_findFacts 98 = .ok (.getfield 64, 3) := dk_180 0 64 (dk_at dksX2_findFacts_4 4 rfl rfl)
theorem dX2_findFacts_101 : decode cX2_findFacts 101 = .ok (.iconst 4, 1) := dk_7 (dk_at dksX2_findFacts_4 7 rfl rfl)
theorem dX2_findFacts_102 : decode cX2_findFacts 102 = .ok (.iload_n 1, 1) := dk_27 (dk_at dksX2_findFacts_4 8 rfl rfl)
theorem dX2_findFacts_103 : decode cX2_findFacts 103 = .ok (.imul, 1) := dk_104 (dk_at dksX2_findFacts_4 9 rfl rfl)
theorem dX2_findFacts_104 : decode cX2_findFacts 104 = .ok (.iconst 1, 1) := dk_4 (dk_at dksX2_findFacts_4 10 rfl rfl)
theorem dX2_findFacts_105 : decode cX2_findFacts 105 = .ok (.iadd, 1) := dk_96 (dk_at dksX2_findFacts_4 11 rfl rfl)
theorem dX2_findFacts_106 : decode cX2_findFacts 106 = .ok (.iload_n 3, 1) := dk_29 (dk_at dksX2_findFacts_4 12 rfl rfl)
theorem dX2_findFacts_107 : decode cX2_findFacts 107 = .ok (.iadd, 1) := dk_96 (dk_at dksX2_findFacts_4 13 rfl rfl)
theorem dX2_findFacts_108 : decode cX2_findFacts 108 = .ok (.dup2, 1) := dk_92 (dk_at dksX2_findFacts_4 14 rfl rfl)
theorem dX2_findFacts_109 : decode cX2_findFacts 109 = .ok (.iaload, 1) := dk_46 (dk_at dksX2_findFacts_4 15 rfl rfl)
theorem dX2_findFacts_110 : decode cX2_findFacts 110 = .ok (.aload_n 0, 1) := dk_42 (dk_at dksX2_findFacts_4 16 rfl rfl)
theorem dX2_findFacts_111 : decode cX2_findFacts 111 = .ok (.iload_n 2, 1) := dk_28 (dk_at dksX2_findFacts_4 17 rfl rfl)
theorem dX2_findFacts_112 : decode cX2_findFacts 112 = .ok (.iconst 3, 1) := dk_6 (dk_at dksX2_findFacts_4 18 rfl rfl)
theorem dX2_findFacts_113 : decode cX2_findFacts 113 = .ok (.invokevirtual 84, 3) := dk_182 0 84 (dk_at dksX2_findFacts_4 19 rfl rfl)
theorem dX2_findFacts_116 : decode cX2_findFacts 116 = .ok (.iload_n 3, 1) := dk_29 (dk_at dksX2_findFacts_4 22 rfl rfl)
theorem dX2_findFacts_117 : decode cX2_findFacts 117 = .ok (.ishr, 1) := dk_122 (dk_at dksX2_findFacts_4 23 rfl rfl)
theorem dX2_findFacts_118 : decode cX2_findFacts 118 = .ok (.iconst 1, 1) := dk_4 (dk_at dksX2_findFacts_5 0 rfl rfl)
theorem dX2_findFacts_119 : decode cX2_findFacts 119 = .ok (.iand, 1) := dk_126 (dk_at dksX2_findFacts_5 1 rfl rfl)
theorem dX2_findFacts_120 : decode cX2_findFacts 120 = .ok (.iadd, 1) := dk_96 (dk_at dksX2_findFacts_5 2 rfl rfl)
theorem dX2_findFacts_121 : decode cX2_findFacts 121 = .ok (.iastore, 1) := dk_79 (dk_at dksX2_findFacts_5 3 rfl rfl)
theorem dX2_findFacts_122 : decode cX2_findFacts 122 = .ok (.iinc 3 1, 3) := dk_132 3 1 (dk_at dksX2_findFacts_5 4 rfl rfl)
theorem dX2_findFacts_125 : decode cX2_findFacts 125 = .ok (.goto (-33), 3) := dk_167 255 223 (dk_at dksX2_findFacts_5 7 rfl rfl)
theorem dX2_findFacts_128 : decode cX2_findFacts 128 = .ok (.iinc 2 1, 3) := dk_132 2 1 (dk_at dksX2_findFacts_5 10 rfl rfl)
theorem dX2_findFacts_131 : decode cX2_findFacts 131 = .ok (.goto (-92), 3) := dk_167 255 164 (dk_at dksX2_findFacts_5 13 rfl rfl)
theorem dX2_findFacts_134 : decode cX2_findFacts 134 = .ok (.iinc 1 1, 3) := dk_132 1 1 (dk_at dksX2_findFacts_5 16 rfl rfl)
theorem dX2_findFacts_137 : decode cX2_findFacts 137 = .ok (.goto (-135), 3) := dk_167 255 121 (dk_at dksX2_findFacts_5 19 rfl rfl)
theorem dX2_findFacts_140 : decode cX2_findFacts 140 = .ok (.return_, 1) := dk_177 (dk_at dksX2_findFacts_5 22 rfl rfl)
abbrev cX2_isRight : ByteArray := prog_15_method_121_code
def yX2_isRight : MethodName := ⟨RX2, "isRight", "(I)Z"⟩
def dkwX2_isRight_4 : List UInt8 := [96, 4, 96, 46, 159, 0, 5, 3, 172, 132, 2, 1, 167, 255, 183, 4, 172]
abbrev dktX2_isRight_4 : List UInt8 := dkwX2_isRight_4 ++ []
def dkwX2_isRight_3 : List UInt8 := [21, 4, 96, 46, 104, 96, 62, 132, 4, 1, 167, 255, 225, 29, 42, 180, 0, 7, 17, 0, 248, 5, 28, 104]
abbrev dktX2_isRight_3 : List UInt8 := dkwX2_isRight_3 ++ dktX2_isRight_4
def dkwX2_isRight_2 : List UInt8 := [54, 4, 21, 4, 7, 162, 0, 31, 29, 42, 180, 0, 67, 21, 4, 46, 42, 180, 0, 64, 7, 28, 104]
abbrev dktX2_isRight_2 : List UInt8 := dkwX2_isRight_2 ++ dktX2_isRight_3
def dkwX2_isRight_1 : List UInt8 := [16, 7, 108, 62, 167, 255, 232, 3, 61, 28, 42, 180, 0, 7, 16, 9, 46, 162, 0, 68, 3, 62, 3]
abbrev dktX2_isRight_1 : List UInt8 := dkwX2_isRight_1 ++ dktX2_isRight_2
def dkwX2_isRight_0 : List UInt8 := [6, 61, 27, 62, 28, 155, 0, 26, 42, 180, 0, 67, 28, 29, 16, 7, 112, 6, 100, 79, 132, 2, 255, 29]
abbrev dktX2_isRight_0 : List UInt8 := dkwX2_isRight_0 ++ dktX2_isRight_1
theorem dksX2_isRight_0 : cX2_isRight.data.toList.drop 0 = dktX2_isRight_0 := by decide +kernel
theorem dksX2_isRight_1 : cX2_isRight.data.toList.drop 24 = dktX2_isRight_1 := dk_seg dksX2_isRight_0 24 rfl rfl
theorem dksX2_isRight_2 : cX2_isRight.data.toList.drop 47 = dktX2_isRight_2 := dk_seg dksX2_isRight_1 23 rfl rfl
theorem dksX2_isRight_3 : cX2_isRight.data.toList.drop 70 = dktX2_isRight_3 := dk_seg dksX2_isRight_2 23 rfl rfl
theorem dksX2_isRight_4 : cX2_isRight.data.toList.drop 94 = dktX2_isRight_4 := dk_seg dksX2_isRight_3 24 rfl rfl
theorem dX2_isRight_0 : decode cX2_isRight 0 = .ok (.iconst 3, 1) := dk_6 (dk_at dksX2_isRight_0 0 rfl rfl)
theorem dX2_isRight_1 : decode cX2_isRight 1 = .ok (.istore_n 2, 1) := dk_61 (dk_at dksX2_isRight_0 1 rfl rfl)
theorem dX2_isRight_2 : decode cX2_isRight 2 = .ok (.iload_n 1, 1) := dk_27 (dk_at dksX2_isRight_0 2 rfl rfl)
theorem dX2_isRight_3 : decode cX2_isRight 3 = .ok (.istore_n 3, 1) := dk_62 (dk_at dksX2_isRight_0 3 rfl rfl)
theorem dX2_isRight_4 : decode cX2_isRight 4 = .ok (.iload_n 2, 1) := dk_28 (dk_at dksX2_isRight_0 4 rfl rfl)
theorem dX2_isRight_5 : decode cX2_isRight 5 = .ok (.ifCond .lt 26, 3) := dk_155 0 26 (dk_at dksX2_isRight_0 5 rfl rfl)
theorem dX2_isRight_8 : decode cX2_isRight 8 = .ok (.aload_n 0, 1) := dk_42 (dk_at dksX2_isRight_0 8 rfl rfl)
theorem dX2_isRight_9 : decode cX2_isRight 9 = .ok (.getfield 67, 3) := dk_180 0 67 (dk_at dksX2_isRight_0 9 rfl rfl)
theorem dX2_isRight_12 : decode cX2_isRight 12 = .ok (.iload_n 2, 1) := dk_28 (dk_at dksX2_isRight_0 12 rfl rfl)
theorem dX2_isRight_13 : decode cX2_isRight 13 = .ok (.iload_n 3, 1) := dk_29 (dk_at dksX2_isRight_0 13 rfl rfl)
theorem dX2_isRight_14 : decode cX2_isRight 14 = .ok (.bipush 7, 2) := dk_16 7 (dk_at dksX2_isRight_0 14 rfl rfl)
theorem dX2_isRight_16 : decode cX2_isRight 16 = .ok (.irem, 1) := dk_112 (dk_at dksX2_isRight_0 16 rfl rfl)
theorem dX2_isRight_17 : decode cX2_isRight 17 = .ok (.iconst 3, 1) := dk_6 (dk_at dksX2_isRight_0 17 rfl rfl)
theorem dX2_isRight_18 : decode cX2_isRight 18 = .ok (.isub, 1) := dk_100 (dk_at dksX2_isRight_0 18 rfl rfl)
theorem dX2_isRight_19 : decode cX2_isRight 19 = .ok (.iastore, 1) := dk_79 (dk_at dksX2_isRight_0 19 rfl rfl)
theorem dX2_isRight_20 : decode cX2_isRight 20 = .ok (.iinc 2 (-1), 3) := dk_132 2 255 (dk_at dksX2_isRight_0 20 rfl rfl)
theorem dX2_isRight_23 : decode cX2_isRight 23 = .ok (.iload_n 3, 1) := dk_29 (dk_at dksX2_isRight_0 23 rfl rfl)
theorem dX2_isRight_24 : decode cX2_isRight 24 = .ok (.bipush 7, 2) := dk_16 7 (dk_at dksX2_isRight_1 0 rfl rfl)
theorem dX2_isRight_26 : decode cX2_isRight 26 = .ok (.idiv, 1) := dk_108 (dk_at dksX2_isRight_1 2 rfl rfl)
theorem dX2_isRight_27 : decode cX2_isRight 27 = .ok (.istore_n 3, 1) := dk_62 (dk_at dksX2_isRight_1 3 rfl rfl)
theorem dX2_isRight_28 : decode cX2_isRight 28 = .ok (.goto (-24), 3) := dk_167 255 232 (dk_at dksX2_isRight_1 4 rfl rfl)
theorem dX2_isRight_31 : decode cX2_isRight 31 = .ok (.iconst 0, 1) := dk_3 (dk_at dksX2_isRight_1 7 rfl rfl)
theorem dX2_isRight_32 : decode cX2_isRight 32 = .ok (.istore_n 2, 1) := dk_61 (dk_at dksX2_isRight_1 8 rfl rfl)
theorem dX2_isRight_33 : decode cX2_isRight 33 = .ok (.iload_n 2, 1) := dk_28 (dk_at dksX2_isRight_1 9 rfl rfl)
theorem dX2_isRight_34 : decode cX2_isRight 34 = .ok (.aload_n 0, 1) := dk_42 (dk_at dksX2_isRight_1 10 rfl rfl)
theorem dX2_isRight_35 : decode cX2_isRight 35 = .ok (.getfield 7, 3) := dk_180 0 7 (dk_at dksX2_isRight_1 11 rfl rfl)
theorem dX2_isRight_38 : decode cX2_isRight 38 = .ok (.bipush 9, 2) := dk_16 9 (dk_at dksX2_isRight_1 14 rfl rfl)
theorem dX2_isRight_40 : decode cX2_isRight 40 = .ok (.iaload, 1) := dk_46 (dk_at dksX2_isRight_1 16 rfl rfl)
theorem dX2_isRight_41 : decode cX2_isRight 41 = .ok (.if_icmp .ge 68, 3) := dk_162 0 68 (dk_at dksX2_isRight_1 17 rfl rfl)
theorem dX2_isRight_44 : decode cX2_isRight 44 = .ok (.iconst 0, 1) := dk_3 (dk_at dksX2_isRight_1 20 rfl rfl)
theorem dX2_isRight_45 : decode cX2_isRight 45 = .ok (.istore_n 3, 1) := dk_62 (dk_at dksX2_isRight_1 21 rfl rfl)
theorem dX2_isRight_46 : decode cX2_isRight 46 = .ok (.iconst 0, 1) := dk_3 (dk_at dksX2_isRight_1 22 rfl rfl)
theorem dX2_isRight_47 : decode cX2_isRight 47 = .ok (.istore 4, 2) := dk_54 4 (dk_at dksX2_isRight_2 0 rfl rfl)
theorem dX2_isRight_49 : decode cX2_isRight 49 = .ok (.iload 4, 2) := dk_21 4 (dk_at dksX2_isRight_2 2 rfl rfl)
theorem dX2_isRight_51 : decode cX2_isRight 51 = .ok (.iconst 4, 1) := dk_7 (dk_at dksX2_isRight_2 4 rfl rfl)
theorem dX2_isRight_52 : decode cX2_isRight 52 = .ok (.if_icmp .ge 31, 3) := dk_162 0 31 (dk_at dksX2_isRight_2 5 rfl rfl)
theorem dX2_isRight_55 : decode cX2_isRight 55 = .ok (.iload_n 3, 1) := dk_29 (dk_at dksX2_isRight_2 8 rfl rfl)
theorem dX2_isRight_56 : decode cX2_isRight 56 = .ok (.aload_n 0, 1) := dk_42 (dk_at dksX2_isRight_2 9 rfl rfl)
theorem dX2_isRight_57 : decode cX2_isRight 57 = .ok (.getfield 67, 3) := dk_180 0 67 (dk_at dksX2_isRight_2 10 rfl rfl)
theorem dX2_isRight_60 : decode cX2_isRight 60 = .ok (.iload 4, 2) := dk_21 4 (dk_at dksX2_isRight_2 13 rfl rfl)
theorem dX2_isRight_62 : decode cX2_isRight 62 = .ok (.iaload, 1) := dk_46 (dk_at dksX2_isRight_2 15 rfl rfl)
theorem dX2_isRight_63 : decode cX2_isRight 63 = .ok (.aload_n 0, 1) := dk_42 (dk_at dksX2_isRight_2 16 rfl rfl)
theorem dX2_isRight_64 : decode cX2_isRight 64 = .ok (.getfield 64, 3) := dk_180 0 64 (dk_at dksX2_isRight_2 17 rfl rfl)
theorem dX2_isRight_67 : decode cX2_isRight 67 = .ok (.iconst 4, 1) := dk_7 (dk_at dksX2_isRight_2 20 rfl rfl)
theorem dX2_isRight_68 : decode cX2_isRight 68 = .ok (.iload_n 2, 1) := dk_28 (dk_at dksX2_isRight_2 21 rfl rfl)
theorem dX2_isRight_69 : decode cX2_isRight 69 = .ok (.imul, 1) := dk_104 (dk_at dksX2_isRight_2 22 rfl rfl)
theorem dX2_isRight_70 : decode cX2_isRight 70 = .ok (.iload 4, 2) := dk_21 4 (dk_at dksX2_isRight_3 0 rfl rfl)
theorem dX2_isRight_72 : decode cX2_isRight 72 = .ok (.iadd, 1) := dk_96 (dk_at dksX2_isRight_3 2 rfl rfl)
theorem dX2_isRight_73 : decode cX2_isRight 73 = .ok (.iaload, 1) := dk_46 (dk_at dksX2_isRight_3 3 rfl rfl)
theorem dX2_isRight_74 : decode cX2_isRight 74 = .ok (.imul, 1) := dk_104 (dk_at dksX2_isRight_3 4 rfl rfl)
theorem dX2_isRight_75 : decode cX2_isRight 75 = .ok (.iadd, 1) := dk_96 (dk_at dksX2_isRight_3 5 rfl rfl)
theorem dX2_isRight_76 : decode cX2_isRight 76 = .ok (.istore_n 3, 1) := dk_62 (dk_at dksX2_isRight_3 6 rfl rfl)
theorem dX2_isRight_77 : decode cX2_isRight 77 = .ok (.iinc 4 1, 3) := dk_132 4 1 (dk_at dksX2_isRight_3 7 rfl rfl)
theorem dX2_isRight_80 : decode cX2_isRight 80 = .ok (.goto (-31), 3) := dk_167 255 225 (dk_at dksX2_isRight_3 10 rfl rfl)
theorem dX2_isRight_83 : decode cX2_isRight 83 = .ok (.iload_n 3, 1) := dk_29 (dk_at dksX2_isRight_3 13 rfl rfl)
theorem dX2_isRight_84 : decode cX2_isRight 84 = .ok (.aload_n 0, 1) := dk_42 (dk_at dksX2_isRight_3 14 rfl rfl)
theorem dX2_isRight_85 : decode cX2_isRight 85 = .ok (.getfield 7, 3) := dk_180 0 7 (dk_at dksX2_isRight_3 15 rfl rfl)
theorem dX2_isRight_88 : decode cX2_isRight 88 = .ok (.sipush 248, 3) := dk_17 0 248 (dk_at dksX2_isRight_3 18 rfl rfl)
theorem dX2_isRight_91 : decode cX2_isRight 91 = .ok (.iconst 2, 1) := dk_5 (dk_at dksX2_isRight_3 21 rfl rfl)
theorem dX2_isRight_92 : decode cX2_isRight 92 = .ok (.iload_n 2, 1) := dk_28 (dk_at dksX2_isRight_3 22 rfl rfl)
theorem dX2_isRight_93 : decode cX2_isRight 93 = .ok (.imul, 1) := dk_104 (dk_at dksX2_isRight_3 23 rfl rfl)
theorem dX2_isRight_94 : decode cX2_isRight 94 = .ok (.iadd, 1) := dk_96 (dk_at dksX2_isRight_4 0 rfl rfl)
theorem dX2_isRight_95 : decode cX2_isRight 95 = .ok (.iconst 1, 1) := dk_4 (dk_at dksX2_isRight_4 1 rfl rfl)
theorem dX2_isRight_96 : decode cX2_isRight 96 = .ok (.iadd, 1) := dk_96 (dk_at dksX2_isRight_4 2 rfl rfl)
theorem dX2_isRight_97 : decode cX2_isRight 97 = .ok (.iaload, 1) := dk_46 (dk_at dksX2_isRight_4 3 rfl rfl)
theorem dX2_isRight_98 : decode cX2_isRight 98 = .ok (.if_icmp .eq 5, 3) := dk_159 0 5 (dk_at dksX2_isRight_4 4 rfl rfl)
theorem dX2_isRight_101 : decode cX2_isRight 101 = .ok (.iconst 0, 1) := dk_3 (dk_at dksX2_isRight_4 7 rfl rfl)
theorem dX2_isRight_102 : decode cX2_isRight 102 = .ok (.ireturn, 1) := dk_172 (dk_at dksX2_isRight_4 8 rfl rfl)
theorem dX2_isRight_103 : decode cX2_isRight 103 = .ok (.iinc 2 1, 3) := dk_132 2 1 (dk_at dksX2_isRight_4 9 rfl rfl)
theorem dX2_isRight_106 : decode cX2_isRight 106 = .ok (.goto (-73), 3) := dk_167 255 183 (dk_at dksX2_isRight_4 12 rfl rfl)
theorem dX2_isRight_109 : decode cX2_isRight 109 = .ok (.iconst 1, 1) := dk_4 (dk_at dksX2_isRight_4 15 rfl rfl)
theorem dX2_isRight_110 : decode cX2_isRight 110 = .ok (.ireturn, 1) := dk_172 (dk_at dksX2_isRight_4 16 rfl rfl)
abbrev cX2_sizeOf : ByteArray := prog_15_method_120_code
def yX2_sizeOf : MethodName := ⟨RX2, "sizeOf", "(I)I"⟩
def dkwX2_sizeOf_0 : List UInt8 := [26, 156, 0, 8, 26, 116, 167, 0, 4, 26, 172]
abbrev dktX2_sizeOf_0 : List UInt8 := dkwX2_sizeOf_0 ++ []
theorem dksX2_sizeOf_0 : cX2_sizeOf.data.toList.drop 0 = dktX2_sizeOf_0 := by decide +kernel
theorem dX2_sizeOf_0 : decode cX2_sizeOf 0 = .ok (.iload_n 0, 1) := dk_26 (dk_at dksX2_sizeOf_0 0 rfl rfl)
theorem dX2_sizeOf_1 : decode cX2_sizeOf 1 = .ok (.ifCond .ge 8, 3) := dk_156 0 8 (dk_at dksX2_sizeOf_0 1 rfl rfl)
theorem dX2_sizeOf_4 : decode cX2_sizeOf 4 = .ok (.iload_n 0, 1) := dk_26 (dk_at dksX2_sizeOf_0 4 rfl rfl)
theorem dX2_sizeOf_5 : decode cX2_sizeOf 5 = .ok (.ineg, 1) := dk_116 (dk_at dksX2_sizeOf_0 5 rfl rfl)
theorem dX2_sizeOf_6 : decode cX2_sizeOf 6 = .ok (.goto 4, 3) := dk_167 0 4 (dk_at dksX2_sizeOf_0 6 rfl rfl)
theorem dX2_sizeOf_9 : decode cX2_sizeOf 9 = .ok (.iload_n 0, 1) := dk_26 (dk_at dksX2_sizeOf_0 9 rfl rfl)
theorem dX2_sizeOf_10 : decode cX2_sizeOf 10 = .ok (.ireturn, 1) := dk_172 (dk_at dksX2_sizeOf_0 10 rfl rfl)
abbrev cX2_tells : ByteArray := prog_15_method_124_code
def yX2_tells : MethodName := ⟨RX2, "tells", "()I"⟩
def dkwX2_tells_2 : List UInt8 := [167, 0, 9, 21, 5, 62, 21, 4, 61, 132, 4, 1, 167, 255, 214, 28, 172]
abbrev dktX2_tells_2 : List UInt8 := dkwX2_tells_2 ++ []
def dkwX2_tells_1 : List UInt8 := [162, 0, 37, 27, 153, 0, 33, 42, 21, 4, 27, 182, 1, 191, 54, 5, 21, 5, 29, 161, 0, 6]
abbrev dktX2_tells_1 : List UInt8 := dkwX2_tells_1 ++ dktX2_tells_2
def dkwX2_tells_0 : List UInt8 := [42, 182, 1, 188, 60, 2, 61, 19, 1, 181, 62, 3, 54, 4, 21, 4, 42, 180, 0, 7, 4, 46]
abbrev dktX2_tells_0 : List UInt8 := dkwX2_tells_0 ++ dktX2_tells_1
theorem dksX2_tells_0 : cX2_tells.data.toList.drop 0 = dktX2_tells_0 := by decide +kernel
theorem dksX2_tells_1 : cX2_tells.data.toList.drop 22 = dktX2_tells_1 := dk_seg dksX2_tells_0 22 rfl rfl
theorem dksX2_tells_2 : cX2_tells.data.toList.drop 44 = dktX2_tells_2 := dk_seg dksX2_tells_1 22 rfl rfl
theorem dX2_tells_0 : decode cX2_tells 0 = .ok (.aload_n 0, 1) := dk_42 (dk_at dksX2_tells_0 0 rfl rfl)
theorem dX2_tells_1 : decode cX2_tells 1 = .ok (.invokevirtual 444, 3) := dk_182 1 188 (dk_at dksX2_tells_0 1 rfl rfl)
theorem dX2_tells_4 : decode cX2_tells 4 = .ok (.istore_n 1, 1) := dk_60 (dk_at dksX2_tells_0 4 rfl rfl)
theorem dX2_tells_5 : decode cX2_tells 5 = .ok (.iconst (-1), 1) := dk_2 (dk_at dksX2_tells_0 5 rfl rfl)
theorem dX2_tells_6 : decode cX2_tells 6 = .ok (.istore_n 2, 1) := dk_61 (dk_at dksX2_tells_0 6 rfl rfl)
theorem dX2_tells_7 : decode cX2_tells 7 = .ok (.ldc_w 437, 3) := dk_19 1 181 (dk_at dksX2_tells_0 7 rfl rfl)
theorem dX2_tells_10 : decode cX2_tells 10 = .ok (.istore_n 3, 1) := dk_62 (dk_at dksX2_tells_0 10 rfl rfl)
theorem dX2_tells_11 : decode cX2_tells 11 = .ok (.iconst 0, 1) := dk_3 (dk_at dksX2_tells_0 11 rfl rfl)
theorem dX2_tells_12 : decode cX2_tells 12 = .ok (.istore 4, 2) := dk_54 4 (dk_at dksX2_tells_0 12 rfl rfl)
theorem dX2_tells_14 : decode cX2_tells 14 = .ok (.iload 4, 2) := dk_21 4 (dk_at dksX2_tells_0 14 rfl rfl)
theorem dX2_tells_16 : decode cX2_tells 16 = .ok (.aload_n 0, 1) := dk_42 (dk_at dksX2_tells_0 16 rfl rfl)
theorem dX2_tells_17 : decode cX2_tells 17 = .ok (.getfield 7, 3) := dk_180 0 7 (dk_at dksX2_tells_0 17 rfl rfl)
theorem dX2_tells_20 : decode cX2_tells 20 = .ok (.iconst 1, 1) := dk_4 (dk_at dksX2_tells_0 20 rfl rfl)
theorem dX2_tells_21 : decode cX2_tells 21 = .ok (.iaload, 1) := dk_46 (dk_at dksX2_tells_0 21 rfl rfl)
theorem dX2_tells_22 : decode cX2_tells 22 = .ok (.if_icmp .ge 37, 3) := dk_162 0 37 (dk_at dksX2_tells_1 0 rfl rfl)
theorem dX2_tells_25 : decode cX2_tells 25 = .ok (.iload_n 1, 1) := dk_27 (dk_at dksX2_tells_1 3 rfl rfl)
theorem dX2_tells_26 : decode cX2_tells 26 = .ok (.ifCond .eq 33, 3) := dk_153 0 33 (dk_at dksX2_tells_1 4 rfl rfl)
theorem dX2_tells_29 : decode cX2_tells 29 = .ok (.aload_n 0, 1) := dk_42 (dk_at dksX2_tells_1 7 rfl rfl)
theorem dX2_tells_30 : decode cX2_tells 30 = .ok (.iload 4, 2) := dk_21 4 (dk_at dksX2_tells_1 8 rfl rfl)
theorem dX2_tells_32 : decode cX2_tells 32 = .ok (.iload_n 1, 1) := dk_27 (dk_at dksX2_tells_1 10 rfl rfl)
theorem dX2_tells_33 : decode cX2_tells 33 = .ok (.invokevirtual 447, 3) := dk_182 1 191 (dk_at dksX2_tells_1 11 rfl rfl)
theorem dX2_tells_36 : decode cX2_tells 36 = .ok (.istore 5, 2) := dk_54 5 (dk_at dksX2_tells_1 14 rfl rfl)
theorem dX2_tells_38 : decode cX2_tells 38 = .ok (.iload 5, 2) := dk_21 5 (dk_at dksX2_tells_1 16 rfl rfl)
theorem dX2_tells_40 : decode cX2_tells 40 = .ok (.iload_n 3, 1) := dk_29 (dk_at dksX2_tells_1 18 rfl rfl)
theorem dX2_tells_41 : decode cX2_tells 41 = .ok (.if_icmp .lt 6, 3) := dk_161 0 6 (dk_at dksX2_tells_1 19 rfl rfl)
theorem dX2_tells_44 : decode cX2_tells 44 = .ok (.goto 9, 3) := dk_167 0 9 (dk_at dksX2_tells_2 0 rfl rfl)
theorem dX2_tells_47 : decode cX2_tells 47 = .ok (.iload 5, 2) := dk_21 5 (dk_at dksX2_tells_2 3 rfl rfl)
theorem dX2_tells_49 : decode cX2_tells 49 = .ok (.istore_n 3, 1) := dk_62 (dk_at dksX2_tells_2 5 rfl rfl)
theorem dX2_tells_50 : decode cX2_tells 50 = .ok (.iload 4, 2) := dk_21 4 (dk_at dksX2_tells_2 6 rfl rfl)
theorem dX2_tells_52 : decode cX2_tells 52 = .ok (.istore_n 2, 1) := dk_61 (dk_at dksX2_tells_2 8 rfl rfl)
theorem dX2_tells_53 : decode cX2_tells 53 = .ok (.iinc 4 1, 3) := dk_132 4 1 (dk_at dksX2_tells_2 9 rfl rfl)
theorem dX2_tells_56 : decode cX2_tells 56 = .ok (.goto (-42), 3) := dk_167 255 214 (dk_at dksX2_tells_2 12 rfl rfl)
theorem dX2_tells_59 : decode cX2_tells 59 = .ok (.iload_n 2, 1) := dk_28 (dk_at dksX2_tells_2 15 rfl rfl)
theorem dX2_tells_60 : decode cX2_tells 60 = .ok (.ireturn, 1) := dk_172 (dk_at dksX2_tells_2 16 rfl rfl)
abbrev cX2_alikeAt : ByteArray := prog_15_method_123_code
def yX2_alikeAt : MethodName := ⟨RX2, "alikeAt", "(II)I"⟩
def dkwX2_alikeAt_4 : List UInt8 := [167, 0, 4, 29, 62, 132, 4, 1, 167, 255, 159, 29, 172]
abbrev dktX2_alikeAt_4 : List UInt8 := dkwX2_alikeAt_4 ++ []
def dkwX2_alikeAt_3 : List UInt8 := [132, 6, 1, 167, 255, 205, 28, 21, 4, 184, 0, 224, 153, 0, 14, 21, 5, 29, 164, 0, 8, 21, 5]
abbrev dktX2_alikeAt_3 : List UInt8 := dkwX2_alikeAt_3 ++ dktX2_alikeAt_4
def dkwX2_alikeAt_2 : List UInt8 := [21, 6, 27, 182, 1, 32, 42, 21, 4, 27, 182, 1, 32, 160, 0, 7, 4, 167, 0, 4, 3, 96, 54, 5]
abbrev dktX2_alikeAt_2 : List UInt8 := dkwX2_alikeAt_2 ++ dktX2_alikeAt_3
def dkwX2_alikeAt_1 : List UInt8 := [21, 6, 42, 180, 0, 7, 16, 6, 46, 162, 0, 45, 21, 5, 28, 21, 6, 184, 0, 224, 153, 0, 24, 42]
abbrev dktX2_alikeAt_1 : List UInt8 := dkwX2_alikeAt_1 ++ dktX2_alikeAt_2
def dkwX2_alikeAt_0 : List UInt8 := [3, 62, 3, 54, 4, 21, 4, 42, 180, 0, 7, 16, 6, 46, 162, 0, 91, 3, 54, 5, 3, 54, 6]
abbrev dktX2_alikeAt_0 : List UInt8 := dkwX2_alikeAt_0 ++ dktX2_alikeAt_1
theorem dksX2_alikeAt_0 : cX2_alikeAt.data.toList.drop 0 = dktX2_alikeAt_0 := by decide +kernel
theorem dksX2_alikeAt_1 : cX2_alikeAt.data.toList.drop 23 = dktX2_alikeAt_1 := dk_seg dksX2_alikeAt_0 23 rfl rfl
theorem dksX2_alikeAt_2 : cX2_alikeAt.data.toList.drop 47 = dktX2_alikeAt_2 := dk_seg dksX2_alikeAt_1 24 rfl rfl
theorem dksX2_alikeAt_3 : cX2_alikeAt.data.toList.drop 71 = dktX2_alikeAt_3 := dk_seg dksX2_alikeAt_2 24 rfl rfl
theorem dksX2_alikeAt_4 : cX2_alikeAt.data.toList.drop 94 = dktX2_alikeAt_4 := dk_seg dksX2_alikeAt_3 23 rfl rfl
theorem dX2_alikeAt_0 : decode cX2_alikeAt 0 = .ok (.iconst 0, 1) := dk_3 (dk_at dksX2_alikeAt_0 0 rfl rfl)
theorem dX2_alikeAt_1 : decode cX2_alikeAt 1 = .ok (.istore_n 3, 1) := dk_62 (dk_at dksX2_alikeAt_0 1 rfl rfl)
theorem dX2_alikeAt_2 : decode cX2_alikeAt 2 = .ok (.iconst 0, 1) := dk_3 (dk_at dksX2_alikeAt_0 2 rfl rfl)
theorem dX2_alikeAt_3 : decode cX2_alikeAt 3 = .ok (.istore 4, 2) := dk_54 4 (dk_at dksX2_alikeAt_0 3 rfl rfl)
theorem dX2_alikeAt_5 : decode cX2_alikeAt 5 = .ok (.iload 4, 2) := dk_21 4 (dk_at dksX2_alikeAt_0 5 rfl rfl)
theorem dX2_alikeAt_7 : decode cX2_alikeAt 7 = .ok (.aload_n 0, 1) := dk_42 (dk_at dksX2_alikeAt_0 7 rfl rfl)
theorem dX2_alikeAt_8 : decode cX2_alikeAt 8 = .ok (.getfield 7, 3) := dk_180 0 7 (dk_at dksX2_alikeAt_0 8 rfl rfl)
theorem dX2_alikeAt_11 : decode cX2_alikeAt 11 = .ok (.bipush 6, 2) := dk_16 6 (dk_at dksX2_alikeAt_0 11 rfl rfl)
theorem dX2_alikeAt_13 : decode cX2_alikeAt 13 = .ok (.iaload, 1) := dk_46 (dk_at dksX2_alikeAt_0 13 rfl rfl)
theorem dX2_alikeAt_14 : decode cX2_alikeAt 14 = .ok (.if_icmp .ge 91, 3) := dk_162 0 91 (dk_at dksX2_alikeAt_0 14 rfl rfl)
theorem dX2_alikeAt_17 : decode cX2_alikeAt 17 = .ok (.iconst 0, 1) := dk_3 (dk_at dksX2_alikeAt_0 17 rfl rfl)
theorem dX2_alikeAt_18 : decode cX2_alikeAt 18 = .ok (.istore 5, 2) := dk_54 5 (dk_at dksX2_alikeAt_0 18 rfl rfl)
theorem dX2_alikeAt_20 : decode cX2_alikeAt 20 = .ok (.iconst 0, 1) := dk_3 (dk_at dksX2_alikeAt_0 20 rfl rfl)
theorem dX2_alikeAt_21 : decode cX2_alikeAt 21 = .ok (.istore 6, 2) := dk_54 6 (dk_at dksX2_alikeAt_0 21 rfl rfl)
theorem dX2_alikeAt_23 : decode cX2_alikeAt 23 = .ok (.iload 6, 2) := dk_21 6 (dk_at dksX2_alikeAt_1 0 rfl rfl)
theorem dX2_alikeAt_25 : decode cX2_alikeAt 25 = .ok (.aload_n 0, 1) := dk_42 (dk_at dksX2_alikeAt_1 2 rfl rfl)
theorem dX2_alikeAt_26 : decode cX2_alikeAt 26 = .ok (.getfield 7, 3) := dk_180 0 7 (dk_at dksX2_alikeAt_1 3 rfl rfl)
theorem dX2_alikeAt_29 : decode cX2_alikeAt 29 = .ok (.bipush 6, 2) := dk_16 6 (dk_at dksX2_alikeAt_1 6 rfl rfl)
theorem dX2_alikeAt_31 : decode cX2_alikeAt 31 = .ok (.iaload, 1) := dk_46 (dk_at dksX2_alikeAt_1 8 rfl rfl)
theorem dX2_alikeAt_32 : decode cX2_alikeAt 32 = .ok (.if_icmp .ge 45, 3) := dk_162 0 45 (dk_at dksX2_alikeAt_1 9 rfl rfl)
theorem dX2_alikeAt_35 : decode cX2_alikeAt 35 = .ok (.iload 5, 2) := dk_21 5 (dk_at dksX2_alikeAt_1 12 rfl rfl)
theorem dX2_alikeAt_37 : decode cX2_alikeAt 37 = .ok (.iload_n 2, 1) := dk_28 (dk_at dksX2_alikeAt_1 14 rfl rfl)
theorem dX2_alikeAt_38 : decode cX2_alikeAt 38 = .ok (.iload 6, 2) := dk_21 6 (dk_at dksX2_alikeAt_1 15 rfl rfl)
theorem dX2_alikeAt_40 : decode cX2_alikeAt 40 = .ok (.invokestatic 224, 3) := dk_184 0 224 (dk_at dksX2_alikeAt_1 17 rfl rfl)
theorem dX2_alikeAt_43 : decode cX2_alikeAt 43 = .ok (.ifCond .eq 24, 3) := dk_153 0 24 (dk_at dksX2_alikeAt_1 20 rfl rfl)
theorem dX2_alikeAt_46 : decode cX2_alikeAt 46 = .ok (.aload_n 0, 1) := dk_42 (dk_at dksX2_alikeAt_1 23 rfl rfl)
theorem dX2_alikeAt_47 : decode cX2_alikeAt 47 = .ok (.iload 6, 2) := dk_21 6 (dk_at dksX2_alikeAt_2 0 rfl rfl)
theorem dX2_alikeAt_49 : decode cX2_alikeAt 49 = .ok (.iload_n 1, 1) := dk_27 (dk_at dksX2_alikeAt_2 2 rfl rfl)
theorem dX2_alikeAt_50 : decode cX2_alikeAt 50 = .ok (.invokevirtual 288, 3) := dk_182 1 32 (dk_at dksX2_alikeAt_2 3 rfl rfl)
theorem dX2_alikeAt_53 : decode cX2_alikeAt 53 = .ok (.aload_n 0, 1) := dk_42 (dk_at dksX2_alikeAt_2 6 rfl rfl)
theorem dX2_alikeAt_54 : decode cX2_alikeAt 54 = .ok (.iload 4, 2) := dk_21 4 (dk_at dksX2_alikeAt_2 7 rfl rfl)
theorem dX2_alikeAt_56 : decode cX2_alikeAt 56 = .ok (.iload_n 1, 1) := dk_27 (dk_at dksX2_alikeAt_2 9 rfl rfl)
theorem dX2_alikeAt_57 : decode cX2_alikeAt 57 = .ok (.invokevirtual 288, 3) := dk_182 1 32 (dk_at dksX2_alikeAt_2 10 rfl rfl)
theorem dX2_alikeAt_60 : decode cX2_alikeAt 60 = .ok (.if_icmp .ne 7, 3) := dk_160 0 7 (dk_at dksX2_alikeAt_2 13 rfl rfl)
theorem dX2_alikeAt_63 : decode cX2_alikeAt 63 = .ok (.iconst 1, 1) := dk_4 (dk_at dksX2_alikeAt_2 16 rfl rfl)
theorem dX2_alikeAt_64 : decode cX2_alikeAt 64 = .ok (.goto 4, 3) := dk_167 0 4 (dk_at dksX2_alikeAt_2 17 rfl rfl)
theorem dX2_alikeAt_67 : decode cX2_alikeAt 67 = .ok (.iconst 0, 1) := dk_3 (dk_at dksX2_alikeAt_2 20 rfl rfl)
theorem dX2_alikeAt_68 : decode cX2_alikeAt 68 = .ok (.iadd, 1) := dk_96 (dk_at dksX2_alikeAt_2 21 rfl rfl)
theorem dX2_alikeAt_69 : decode cX2_alikeAt 69 = .ok (.istore 5, 2) := dk_54 5 (dk_at dksX2_alikeAt_2 22 rfl rfl)
theorem dX2_alikeAt_71 : decode cX2_alikeAt 71 = .ok (.iinc 6 1, 3) := dk_132 6 1 (dk_at dksX2_alikeAt_3 0 rfl rfl)
theorem dX2_alikeAt_74 : decode cX2_alikeAt 74 = .ok (.goto (-51), 3) := dk_167 255 205 (dk_at dksX2_alikeAt_3 3 rfl rfl)
theorem dX2_alikeAt_77 : decode cX2_alikeAt 77 = .ok (.iload_n 2, 1) := dk_28 (dk_at dksX2_alikeAt_3 6 rfl rfl)
theorem dX2_alikeAt_78 : decode cX2_alikeAt 78 = .ok (.iload 4, 2) := dk_21 4 (dk_at dksX2_alikeAt_3 7 rfl rfl)
theorem dX2_alikeAt_80 : decode cX2_alikeAt 80 = .ok (.invokestatic 224, 3) := dk_184 0 224 (dk_at dksX2_alikeAt_3 9 rfl rfl)
theorem dX2_alikeAt_83 : decode cX2_alikeAt 83 = .ok (.ifCond .eq 14, 3) := dk_153 0 14 (dk_at dksX2_alikeAt_3 12 rfl rfl)
theorem dX2_alikeAt_86 : decode cX2_alikeAt 86 = .ok (.iload 5, 2) := dk_21 5 (dk_at dksX2_alikeAt_3 15 rfl rfl)
theorem dX2_alikeAt_88 : decode cX2_alikeAt 88 = .ok (.iload_n 3, 1) := dk_29 (dk_at dksX2_alikeAt_3 17 rfl rfl)
theorem dX2_alikeAt_89 : decode cX2_alikeAt 89 = .ok (.if_icmp .le 8, 3) := dk_164 0 8 (dk_at dksX2_alikeAt_3 18 rfl rfl)
theorem dX2_alikeAt_92 : decode cX2_alikeAt 92 = .ok (.iload 5, 2) := dk_21 5 (dk_at dksX2_alikeAt_3 21 rfl rfl)
theorem dX2_alikeAt_94 : decode cX2_alikeAt 94 = .ok (.goto 4, 3) := dk_167 0 4 (dk_at dksX2_alikeAt_4 0 rfl rfl)
theorem dX2_alikeAt_97 : decode cX2_alikeAt 97 = .ok (.iload_n 3, 1) := dk_29 (dk_at dksX2_alikeAt_4 3 rfl rfl)
theorem dX2_alikeAt_98 : decode cX2_alikeAt 98 = .ok (.istore_n 3, 1) := dk_62 (dk_at dksX2_alikeAt_4 4 rfl rfl)
theorem dX2_alikeAt_99 : decode cX2_alikeAt 99 = .ok (.iinc 4 1, 3) := dk_132 4 1 (dk_at dksX2_alikeAt_4 5 rfl rfl)
theorem dX2_alikeAt_102 : decode cX2_alikeAt 102 = .ok (.goto (-97), 3) := dk_167 255 159 (dk_at dksX2_alikeAt_4 8 rfl rfl)
theorem dX2_alikeAt_105 : decode cX2_alikeAt 105 = .ok (.iload_n 3, 1) := dk_29 (dk_at dksX2_alikeAt_4 11 rfl rfl)
theorem dX2_alikeAt_106 : decode cX2_alikeAt 106 = .ok (.ireturn, 1) := dk_172 (dk_at dksX2_alikeAt_4 12 rfl rfl)
abbrev cX2_should : ByteArray := prog_15_method_125_code
def yX2_should : MethodName := ⟨RX2, "should", "(I)Z"⟩
def dkwX2_should_0 : List UInt8 := [42, 27, 182, 0, 95, 154, 0, 5, 3, 172, 42, 180, 0, 7, 16, 10, 27, 79, 4, 172]
abbrev dktX2_should_0 : List UInt8 := dkwX2_should_0 ++ []
theorem dksX2_should_0 : cX2_should.data.toList.drop 0 = dktX2_should_0 := by decide +kernel
theorem dX2_should_0 : decode cX2_should 0 = .ok (.aload_n 0, 1) := dk_42 (dk_at dksX2_should_0 0 rfl rfl)
theorem dX2_should_1 : decode cX2_should 1 = .ok (.iload_n 1, 1) := dk_27 (dk_at dksX2_should_0 1 rfl rfl)
theorem dX2_should_2 : decode cX2_should 2 = .ok (.invokevirtual 95, 3) := dk_182 0 95 (dk_at dksX2_should_0 2 rfl rfl)
theorem dX2_should_5 : decode cX2_should 5 = .ok (.ifCond .ne 5, 3) := dk_154 0 5 (dk_at dksX2_should_0 5 rfl rfl)
theorem dX2_should_8 : decode cX2_should 8 = .ok (.iconst 0, 1) := dk_3 (dk_at dksX2_should_0 8 rfl rfl)
theorem dX2_should_9 : decode cX2_should 9 = .ok (.ireturn, 1) := dk_172 (dk_at dksX2_should_0 9 rfl rfl)
theorem dX2_should_10 : decode cX2_should 10 = .ok (.aload_n 0, 1) := dk_42 (dk_at dksX2_should_0 10 rfl rfl)
theorem dX2_should_11 : decode cX2_should 11 = .ok (.getfield 7, 3) := dk_180 0 7 (dk_at dksX2_should_0 11 rfl rfl)
theorem dX2_should_14 : decode cX2_should 14 = .ok (.bipush 10, 2) := dk_16 10 (dk_at dksX2_should_0 14 rfl rfl)
theorem dX2_should_16 : decode cX2_should 16 = .ok (.iload_n 1, 1) := dk_27 (dk_at dksX2_should_0 16 rfl rfl)
theorem dX2_should_17 : decode cX2_should 17 = .ok (.iastore, 1) := dk_79 (dk_at dksX2_should_0 17 rfl rfl)
theorem dX2_should_18 : decode cX2_should 18 = .ok (.iconst 1, 1) := dk_4 (dk_at dksX2_should_0 18 rfl rfl)
theorem dX2_should_19 : decode cX2_should 19 = .ok (.ireturn, 1) := dk_172 (dk_at dksX2_should_0 19 rfl rfl)
abbrev cX2_featherForAll : ByteArray := prog_15_method_126_code
def yX2_featherForAll : MethodName := ⟨RX2, "featherForAll", "(Z)I"⟩
def dkwX2_featherForAll_6 : List UInt8 := [167, 0, 4, 28, 172]
abbrev dktX2_featherForAll_6 : List UInt8 := dkwX2_featherForAll_6 ++ []
def dkwX2_featherForAll_5 : List UInt8 := [29, 161, 0, 6, 167, 0, 9, 21, 5, 62, 21, 4, 61, 132, 4, 1, 167, 255, 165, 27, 153, 0, 7, 29]
abbrev dktX2_featherForAll_5 : List UInt8 := dkwX2_featherForAll_5 ++ dktX2_featherForAll_6
def dkwX2_featherForAll_4 : List UInt8 := [21, 6, 184, 0, 224, 160, 0, 7, 4, 167, 0, 4, 3, 96, 54, 5, 132, 6, 1, 167, 255, 200, 21, 5]
abbrev dktX2_featherForAll_4 : List UInt8 := dkwX2_featherForAll_4 ++ dktX2_featherForAll_5
def dkwX2_featherForAll_3 : List UInt8 := [180, 0, 70, 21, 6, 46, 21, 4, 164, 0, 7, 4, 167, 0, 4, 3, 42, 180, 0, 7, 16, 10, 46]
abbrev dktX2_featherForAll_3 : List UInt8 := dkwX2_featherForAll_3 ++ dktX2_featherForAll_4
def dkwX2_featherForAll_2 : List UInt8 := [162, 0, 89, 3, 54, 5, 3, 54, 6, 21, 6, 42, 180, 0, 7, 3, 46, 162, 0, 51, 21, 5, 42]
abbrev dktX2_featherForAll_2 : List UInt8 := dkwX2_featherForAll_2 ++ dktX2_featherForAll_3
def dkwX2_featherForAll_1 : List UInt8 := [21, 4, 42, 21, 4, 182, 1, 123, 79, 132, 4, 1, 167, 255, 229, 3, 54, 4, 21, 4, 17, 3, 232]
abbrev dktX2_featherForAll_1 : List UInt8 := dkwX2_featherForAll_1 ++ dktX2_featherForAll_2
def dkwX2_featherForAll_0 : List UInt8 := [3, 61, 19, 1, 181, 62, 3, 54, 4, 21, 4, 42, 180, 0, 7, 3, 46, 162, 0, 22, 42, 180, 0, 70]
abbrev dktX2_featherForAll_0 : List UInt8 := dkwX2_featherForAll_0 ++ dktX2_featherForAll_1
theorem dksX2_featherForAll_0 : cX2_featherForAll.data.toList.drop 0 = dktX2_featherForAll_0 := by decide +kernel
theorem dksX2_featherForAll_1 : cX2_featherForAll.data.toList.drop 24 = dktX2_featherForAll_1 := dk_seg dksX2_featherForAll_0 24 rfl rfl
theorem dksX2_featherForAll_2 : cX2_featherForAll.data.toList.drop 47 = dktX2_featherForAll_2 := dk_seg dksX2_featherForAll_1 23 rfl rfl
theorem dksX2_featherForAll_3 : cX2_featherForAll.data.toList.drop 70 = dktX2_featherForAll_3 := dk_seg dksX2_featherForAll_2 23 rfl rfl
theorem dksX2_featherForAll_4 : cX2_featherForAll.data.toList.drop 93 = dktX2_featherForAll_4 := dk_seg dksX2_featherForAll_3 23 rfl rfl
theorem dksX2_featherForAll_5 : cX2_featherForAll.data.toList.drop 117 = dktX2_featherForAll_5 := dk_seg dksX2_featherForAll_4 24 rfl rfl
theorem dksX2_featherForAll_6 : cX2_featherForAll.data.toList.drop 141 = dktX2_featherForAll_6 := dk_seg dksX2_featherForAll_5 24 rfl rfl
theorem dX2_featherForAll_0 : decode cX2_featherForAll 0 = .ok (.iconst 0, 1) := dk_3 (dk_at dksX2_featherForAll_0 0 rfl rfl)
theorem dX2_featherForAll_1 : decode cX2_featherForAll 1 = .ok (.istore_n 2, 1) := dk_61 (dk_at dksX2_featherForAll_0 1 rfl rfl)
theorem dX2_featherForAll_2 : decode cX2_featherForAll 2 = .ok (.ldc_w 437, 3) := dk_19 1 181 (dk_at dksX2_featherForAll_0 2 rfl rfl)
theorem dX2_featherForAll_5 : decode cX2_featherForAll 5 = .ok (.istore_n 3, 1) := dk_62 (dk_at dksX2_featherForAll_0 5 rfl rfl)
theorem dX2_featherForAll_6 : decode cX2_featherForAll 6 = .ok (.iconst 0, 1) := dk_3 (dk_at dksX2_featherForAll_0 6 rfl rfl)
theorem dX2_featherForAll_7 : decode cX2_featherForAll 7 = .ok (.istore 4, 2) := dk_54 4 (dk_at dksX2_featherForAll_0 7 rfl rfl)
theorem dX2_featherForAll_9 : decode cX2_featherForAll 9 = .ok (.iload 4, 2) := dk_21 4 (dk_at dksX2_featherForAll_0 9 rfl rfl)
theorem dX2_featherForAll_11 : decode cX2_featherForAll 11 = .ok (.aload_n 0, 1) := dk_42 (dk_at dksX2_featherForAll_0 11 rfl rfl)
theorem dX2_featherForAll_12 : decode cX2_featherForAll 12 = .ok (.getfield 7, 3) := dk_180 0 7 (dk_at dksX2_featherForAll_0 12 rfl rfl)
theorem dX2_featherForAll_15 : decode cX2_featherForAll 15 = .ok (.iconst 0, 1) := dk_3 (dk_at dksX2_featherForAll_0 15 rfl rfl)
theorem dX2_featherForAll_16 : decode cX2_featherForAll 16 = .ok (.iaload, 1) := dk_46 (dk_at dksX2_featherForAll_0 16 rfl rfl)
theorem dX2_featherForAll_17 : decode cX2_featherForAll 17 = .ok (.if_icmp .ge 22, 3) := dk_162 0 22 (dk_at dksX2_featherForAll_0 17 rfl rfl)
theorem dX2_featherForAll_20 : decode cX2_featherForAll 20 = .ok (.aload_n 0, 1) := dk_42 (dk_at dksX2_featherForAll_0 20 rfl rfl)
theorem dX2_featherForAll_21 : decode cX2_featherForAll 21 = .ok (.getfield 70, 3) := dk_180 0 70 (dk_at dksX2_featherForAll_0 21 rfl rfl)
theorem dX2_featherForAll_24 : decode cX2_featherForAll 24 = .ok (.iload 4, 2) := dk_21 4 (dk_at dksX2_featherForAll_1 0 rfl rfl)
theorem dX2_featherForAll_26 : decode cX2_featherForAll 26 = .ok (.aload_n 0, 1) := dk_42 (dk_at dksX2_featherForAll_1 2 rfl rfl)
theorem dX2_featherForAll_27 : decode cX2_featherForAll 27 = .ok (.iload 4, 2) := dk_21 4 (dk_at dksX2_featherForAll_1 3 rfl rfl)
theorem dX2_featherForAll_29 : decode cX2_featherForAll 29 = .ok (.invokevirtual 379, 3) := dk_182 1 123 (dk_at dksX2_featherForAll_1 5 rfl rfl)
theorem dX2_featherForAll_32 : decode cX2_featherForAll 32 = .ok (.iastore, 1) := dk_79 (dk_at dksX2_featherForAll_1 8 rfl rfl)
theorem dX2_featherForAll_33 : decode cX2_featherForAll 33 = .ok (.iinc 4 1, 3) := dk_132 4 1 (dk_at dksX2_featherForAll_1 9 rfl rfl)
theorem dX2_featherForAll_36 : decode cX2_featherForAll 36 = .ok (.goto (-27), 3) := dk_167 255 229 (dk_at dksX2_featherForAll_1 12 rfl rfl)
theorem dX2_featherForAll_39 : decode cX2_featherForAll 39 = .ok (.iconst 0, 1) := dk_3 (dk_at dksX2_featherForAll_1 15 rfl rfl)
theorem dX2_featherForAll_40 : decode cX2_featherForAll 40 = .ok (.istore 4, 2) := dk_54 4 (dk_at dksX2_featherForAll_1 16 rfl rfl)
theorem dX2_featherForAll_42 : decode cX2_featherForAll 42 = .ok (.iload 4, 2) := dk_21 4 (dk_at dksX2_featherForAll_1 18 rfl rfl)
theorem dX2_featherForAll_44 : decode cX2_featherForAll 44 = .ok (.sipush 1000, 3) := dk_17 3 232 (dk_at dksX2_featherForAll_1 20 rfl rfl)
theorem dX2_featherForAll_47 : decode cX2_featherForAll 47 = .ok (.if_icmp .ge 89, 3) := dk_162 0 89 (dk_at dksX2_featherForAll_2 0 rfl rfl)
theorem dX2_featherForAll_50 : decode cX2_featherForAll 50 = .ok (.iconst 0, 1) := dk_3 (dk_at dksX2_featherForAll_2 3 rfl rfl)
theorem dX2_featherForAll_51 : decode cX2_featherForAll 51 = .ok (.istore 5, 2) := dk_54 5 (dk_at dksX2_featherForAll_2 4 rfl rfl)
theorem dX2_featherForAll_53 : decode cX2_featherForAll 53 = .ok (.iconst 0, 1) := dk_3 (dk_at dksX2_featherForAll_2 6 rfl rfl)
theorem dX2_featherForAll_54 : decode cX2_featherForAll 54 = .ok (.istore 6, 2) := dk_54 6 (dk_at dksX2_featherForAll_2 7 rfl rfl)
theorem dX2_featherForAll_56 : decode cX2_featherForAll 56 = .ok (.iload 6, 2) := dk_21 6 (dk_at dksX2_featherForAll_2 9 rfl rfl)
theorem dX2_featherForAll_58 : decode cX2_featherForAll 58 = .ok (.aload_n 0, 1) := dk_42 (dk_at dksX2_featherForAll_2 11 rfl rfl)
theorem dX2_featherForAll_59 : decode cX2_featherForAll 59 = .ok (.getfield 7, 3) := dk_180 0 7 (dk_at dksX2_featherForAll_2 12 rfl rfl)
theorem dX2_featherForAll_62 : decode cX2_featherForAll 62 = .ok (.iconst 0, 1) := dk_3 (dk_at dksX2_featherForAll_2 15 rfl rfl)
theorem dX2_featherForAll_63 : decode cX2_featherForAll 63 = .ok (.iaload, 1) := dk_46 (dk_at dksX2_featherForAll_2 16 rfl rfl)
theorem dX2_featherForAll_64 : decode cX2_featherForAll 64 = .ok (.if_icmp .ge 51, 3) := dk_162 0 51 (dk_at dksX2_featherForAll_2 17 rfl rfl)
theorem dX2_featherForAll_67 : decode cX2_featherForAll 67 = .ok (.iload 5, 2) := dk_21 5 (dk_at dksX2_featherForAll_2 20 rfl rfl)
theorem dX2_featherForAll_69 : decode cX2_featherForAll 69 = .ok (.aload_n 0, 1) := dk_42 (dk_at dksX2_featherForAll_2 22 rfl rfl)
theorem dX2_featherForAll_70 : decode cX2_featherForAll 70 = .ok (.getfield 70, 3) := dk_180 0 70 (dk_at dksX2_featherForAll_3 0 rfl rfl)
theorem dX2_featherForAll_73 : decode cX2_featherForAll 73 = .ok (.iload 6, 2) := dk_21 6 (dk_at dksX2_featherForAll_3 3 rfl rfl)
theorem dX2_featherForAll_75 : decode cX2_featherForAll 75 = .ok (.iaload, 1) := dk_46 (dk_at dksX2_featherForAll_3 5 rfl rfl)
theorem dX2_featherForAll_76 : decode cX2_featherForAll 76 = .ok (.iload 4, 2) := dk_21 4 (dk_at dksX2_featherForAll_3 6 rfl rfl)
theorem dX2_featherForAll_78 : decode cX2_featherForAll 78 = .ok (.if_icmp .le 7, 3) := dk_164 0 7 (dk_at dksX2_featherForAll_3 8 rfl rfl)
theorem dX2_featherForAll_81 : decode cX2_featherForAll 81 = .ok (.iconst 1, 1) := dk_4 (dk_at dksX2_featherForAll_3 11 rfl rfl)
theorem dX2_featherForAll_82 : decode cX2_featherForAll 82 = .ok (.goto 4, 3) := dk_167 0 4 (dk_at dksX2_featherForAll_3 12 rfl rfl)
theorem dX2_featherForAll_85 : decode cX2_featherForAll 85 = .ok (.iconst 0, 1) := dk_3 (dk_at dksX2_featherForAll_3 15 rfl rfl)
theorem dX2_featherForAll_86 : decode cX2_featherForAll 86 = .ok (.aload_n 0, 1) := dk_42 (dk_at dksX2_featherForAll_3 16 rfl rfl)
theorem dX2_featherForAll_87 : decode cX2_featherForAll 87 = .ok (.getfield 7, 3) := dk_180 0 7 (dk_at dksX2_featherForAll_3 17 rfl rfl)
theorem dX2_featherForAll_90 : decode cX2_featherForAll 90 = .ok (.bipush 10, 2) := dk_16 10 (dk_at dksX2_featherForAll_3 20 rfl rfl)
theorem dX2_featherForAll_92 : decode cX2_featherForAll 92 = .ok (.iaload, 1) := dk_46 (dk_at dksX2_featherForAll_3 22 rfl rfl)
theorem dX2_featherForAll_93 : decode cX2_featherForAll 93 = .ok (.iload 6, 2) := dk_21 6 (dk_at dksX2_featherForAll_4 0 rfl rfl)
theorem dX2_featherForAll_95 : decode cX2_featherForAll 95 = .ok (.invokestatic 224, 3) := dk_184 0 224 (dk_at dksX2_featherForAll_4 2 rfl rfl)
theorem dX2_featherForAll_98 : decode cX2_featherForAll 98 = .ok (.if_icmp .ne 7, 3) := dk_160 0 7 (dk_at dksX2_featherForAll_4 5 rfl rfl)
theorem dX2_featherForAll_101 : decode cX2_featherForAll 101 = .ok (.iconst 1, 1) := dk_4 (dk_at dksX2_featherForAll_4 8 rfl rfl)
theorem dX2_featherForAll_102 : decode cX2_featherForAll 102 = .ok (.goto 4, 3) := dk_167 0 4 (dk_at dksX2_featherForAll_4 9 rfl rfl)
theorem dX2_featherForAll_105 : decode cX2_featherForAll 105 = .ok (.iconst 0, 1) := dk_3 (dk_at dksX2_featherForAll_4 12 rfl rfl)
theorem dX2_featherForAll_106 : decode cX2_featherForAll 106 = .ok (.iadd, 1) := dk_96 (dk_at dksX2_featherForAll_4 13 rfl rfl)
theorem dX2_featherForAll_107 : decode cX2_featherForAll 107 = .ok (.istore 5, 2) := dk_54 5 (dk_at dksX2_featherForAll_4 14 rfl rfl)
theorem dX2_featherForAll_109 : decode cX2_featherForAll 109 = .ok (.iinc 6 1, 3) := dk_132 6 1 (dk_at dksX2_featherForAll_4 16 rfl rfl)
theorem dX2_featherForAll_112 : decode cX2_featherForAll 112 = .ok (.goto (-56), 3) := dk_167 255 200 (dk_at dksX2_featherForAll_4 19 rfl rfl)
theorem dX2_featherForAll_115 : decode cX2_featherForAll 115 = .ok (.iload 5, 2) := dk_21 5 (dk_at dksX2_featherForAll_4 22 rfl rfl)
theorem dX2_featherForAll_117 : decode cX2_featherForAll 117 = .ok (.iload_n 3, 1) := dk_29 (dk_at dksX2_featherForAll_5 0 rfl rfl)
theorem dX2_featherForAll_118 : decode cX2_featherForAll 118 = .ok (.if_icmp .lt 6, 3) := dk_161 0 6 (dk_at dksX2_featherForAll_5 1 rfl rfl)
theorem dX2_featherForAll_121 : decode cX2_featherForAll 121 = .ok (.goto 9, 3) := dk_167 0 9 (dk_at dksX2_featherForAll_5 4 rfl rfl)
theorem dX2_featherForAll_124 : decode cX2_featherForAll 124 = .ok (.iload 5, 2) := dk_21 5 (dk_at dksX2_featherForAll_5 7 rfl rfl)
theorem dX2_featherForAll_126 : decode cX2_featherForAll 126 = .ok (.istore_n 3, 1) := dk_62 (dk_at dksX2_featherForAll_5 9 rfl rfl)
theorem dX2_featherForAll_127 : decode cX2_featherForAll 127 = .ok (.iload 4, 2) := dk_21 4 (dk_at dksX2_featherForAll_5 10 rfl rfl)
theorem dX2_featherForAll_129 : decode cX2_featherForAll 129 = .ok (.istore_n 2, 1) := dk_61 (dk_at dksX2_featherForAll_5 12 rfl rfl)
theorem dX2_featherForAll_130 : decode cX2_featherForAll 130 = .ok (.iinc 4 1, 3) := dk_132 4 1 (dk_at dksX2_featherForAll_5 13 rfl rfl)
theorem dX2_featherForAll_133 : decode cX2_featherForAll 133 = .ok (.goto (-91), 3) := dk_167 255 165 (dk_at dksX2_featherForAll_5 16 rfl rfl)
theorem dX2_featherForAll_136 : decode cX2_featherForAll 136 = .ok (.iload_n 1, 1) := dk_27 (dk_at dksX2_featherForAll_5 19 rfl rfl)
theorem dX2_featherForAll_137 : decode cX2_featherForAll 137 = .ok (.ifCond .eq 7, 3) := dk_153 0 7 (dk_at dksX2_featherForAll_5 20 rfl rfl)
theorem dX2_featherForAll_140 : decode cX2_featherForAll 140 = .ok (.iload_n 3, 1) := dk_29 (dk_at dksX2_featherForAll_5 23 rfl rfl)
theorem dX2_featherForAll_141 : decode cX2_featherForAll 141 = .ok (.goto 4, 3) := dk_167 0 4 (dk_at dksX2_featherForAll_6 0 rfl rfl)
theorem dX2_featherForAll_144 : decode cX2_featherForAll 144 = .ok (.iload_n 2, 1) := dk_28 (dk_at dksX2_featherForAll_6 3 rfl rfl)
theorem dX2_featherForAll_145 : decode cX2_featherForAll 145 = .ok (.ireturn, 1) := dk_172 (dk_at dksX2_featherForAll_6 4 rfl rfl)
abbrev cX2_odds : ByteArray := prog_15_method_131_code
def yX2_odds : MethodName := ⟨RX2, "odds", "(IIZ)J"⟩
def dkwX2_odds_2 : List UInt8 := [22, 6, 184, 1, 209, 109, 173]
abbrev dktX2_odds_2 : List UInt8 := dkwX2_odds_2 ++ []
def dkwX2_odds_1 : List UInt8 := [182, 1, 201, 55, 4, 28, 184, 1, 205, 55, 6, 29, 153, 0, 8, 22, 6, 167, 0, 5, 22, 4, 22, 4]
abbrev dktX2_odds_1 : List UInt8 := dkwX2_odds_1 ++ dktX2_odds_2
def dkwX2_odds_0 : List UInt8 := [27, 3, 16, 10, 184, 0, 80, 153, 0, 10, 28, 184, 1, 196, 154, 0, 7, 20, 1, 199, 173, 42, 27, 28]
abbrev dktX2_odds_0 : List UInt8 := dkwX2_odds_0 ++ dktX2_odds_1
theorem dksX2_odds_0 : cX2_odds.data.toList.drop 0 = dktX2_odds_0 := by decide +kernel
theorem dksX2_odds_1 : cX2_odds.data.toList.drop 24 = dktX2_odds_1 := dk_seg dksX2_odds_0 24 rfl rfl
theorem dksX2_odds_2 : cX2_odds.data.toList.drop 48 = dktX2_odds_2 := dk_seg dksX2_odds_1 24 rfl rfl
theorem dX2_odds_0 : decode cX2_odds 0 = .ok (.iload_n 1, 1) := dk_27 (dk_at dksX2_odds_0 0 rfl rfl)
theorem dX2_odds_1 : decode cX2_odds 1 = .ok (.iconst 0, 1) := dk_3 (dk_at dksX2_odds_0 1 rfl rfl)
theorem dX2_odds_2 : decode cX2_odds 2 = .ok (.bipush 10, 2) := dk_16 10 (dk_at dksX2_odds_0 2 rfl rfl)
theorem dX2_odds_4 : decode cX2_odds 4 = .ok (.invokestatic 80, 3) := dk_184 0 80 (dk_at dksX2_odds_0 4 rfl rfl)
theorem dX2_odds_7 : decode cX2_odds 7 = .ok (.ifCond .eq 10, 3) := dk_153 0 10 (dk_at dksX2_odds_0 7 rfl rfl)
theorem dX2_odds_10 : decode cX2_odds 10 = .ok (.iload_n 2, 1) := dk_28 (dk_at dksX2_odds_0 10 rfl rfl)
theorem dX2_odds_11 : decode cX2_odds 11 = .ok (.invokestatic 452, 3) := dk_184 1 196 (dk_at dksX2_odds_0 11 rfl rfl)
theorem dX2_odds_14 : decode cX2_odds 14 = .ok (.ifCond .ne 7, 3) := dk_154 0 7 (dk_at dksX2_odds_0 14 rfl rfl)
theorem dX2_odds_17 : decode cX2_odds 17 = .ok (.ldc2_w 455, 3) := dk_20 1 199 (dk_at dksX2_odds_0 17 rfl rfl)
theorem dX2_odds_20 : decode cX2_odds 20 = .ok (.lreturn, 1) := dk_173 (dk_at dksX2_odds_0 20 rfl rfl)
theorem dX2_odds_21 : decode cX2_odds 21 = .ok (.aload_n 0, 1) := dk_42 (dk_at dksX2_odds_0 21 rfl rfl)
theorem dX2_odds_22 : decode cX2_odds 22 = .ok (.iload_n 1, 1) := dk_27 (dk_at dksX2_odds_0 22 rfl rfl)
theorem dX2_odds_23 : decode cX2_odds 23 = .ok (.iload_n 2, 1) := dk_28 (dk_at dksX2_odds_0 23 rfl rfl)
theorem dX2_odds_24 : decode cX2_odds 24 = .ok (.invokevirtual 457, 3) := dk_182 1 201 (dk_at dksX2_odds_1 0 rfl rfl)
theorem dX2_odds_27 : decode cX2_odds 27 = .ok (.lstore 4, 2) := dk_55 4 (dk_at dksX2_odds_1 3 rfl rfl)
theorem dX2_odds_29 : decode cX2_odds 29 = .ok (.iload_n 2, 1) := dk_28 (dk_at dksX2_odds_1 5 rfl rfl)
theorem dX2_odds_30 : decode cX2_odds 30 = .ok (.invokestatic 461, 3) := dk_184 1 205 (dk_at dksX2_odds_1 6 rfl rfl)
theorem dX2_odds_33 : decode cX2_odds 33 = .ok (.lstore 6, 2) := dk_55 6 (dk_at dksX2_odds_1 9 rfl rfl)
theorem dX2_odds_35 : decode cX2_odds 35 = .ok (.iload_n 3, 1) := dk_29 (dk_at dksX2_odds_1 11 rfl rfl)
theorem dX2_odds_36 : decode cX2_odds 36 = .ok (.ifCond .eq 8, 3) := dk_153 0 8 (dk_at dksX2_odds_1 12 rfl rfl)
theorem dX2_odds_39 : decode cX2_odds 39 = .ok (.lload 6, 2) := dk_22 6 (dk_at dksX2_odds_1 15 rfl rfl)
theorem dX2_odds_41 : decode cX2_odds 41 = .ok (.goto 5, 3) := dk_167 0 5 (dk_at dksX2_odds_1 17 rfl rfl)
theorem dX2_odds_44 : decode cX2_odds 44 = .ok (.lload 4, 2) := dk_22 4 (dk_at dksX2_odds_1 20 rfl rfl)
theorem dX2_odds_46 : decode cX2_odds 46 = .ok (.lload 4, 2) := dk_22 4 (dk_at dksX2_odds_1 22 rfl rfl)
theorem dX2_odds_48 : decode cX2_odds 48 = .ok (.lload 6, 2) := dk_22 6 (dk_at dksX2_odds_2 0 rfl rfl)
theorem dX2_odds_50 : decode cX2_odds 50 = .ok (.invokestatic 465, 3) := dk_184 1 209 (dk_at dksX2_odds_2 2 rfl rfl)
theorem dX2_odds_53 : decode cX2_odds 53 = .ok (.ldiv, 1) := dk_109 (dk_at dksX2_odds_2 5 rfl rfl)
theorem dX2_odds_54 : decode cX2_odds 54 = .ok (.lreturn, 1) := dk_173 (dk_at dksX2_odds_2 6 rfl rfl)
abbrev cX2_isOdd : ByteArray := prog_15_method_130_code
def yX2_isOdd : MethodName := ⟨RX2, "isOdd", "(I)Z"⟩
def dkwX2_isOdd_0 : List UInt8 := [26, 4, 16, 15, 184, 0, 80, 153, 0, 14, 26, 5, 112, 4, 160, 0, 7, 4, 167, 0, 4, 3, 172]
abbrev dktX2_isOdd_0 : List UInt8 := dkwX2_isOdd_0 ++ []
theorem dksX2_isOdd_0 : cX2_isOdd.data.toList.drop 0 = dktX2_isOdd_0 := by decide +kernel
theorem dX2_isOdd_0 : decode cX2_isOdd 0 = .ok (.iload_n 0, 1) := dk_26 (dk_at dksX2_isOdd_0 0 rfl rfl)
theorem dX2_isOdd_1 : decode cX2_isOdd 1 = .ok (.iconst 1, 1) := dk_4 (dk_at dksX2_isOdd_0 1 rfl rfl)
theorem dX2_isOdd_2 : decode cX2_isOdd 2 = .ok (.bipush 15, 2) := dk_16 15 (dk_at dksX2_isOdd_0 2 rfl rfl)
theorem dX2_isOdd_4 : decode cX2_isOdd 4 = .ok (.invokestatic 80, 3) := dk_184 0 80 (dk_at dksX2_isOdd_0 4 rfl rfl)
theorem dX2_isOdd_7 : decode cX2_isOdd 7 = .ok (.ifCond .eq 14, 3) := dk_153 0 14 (dk_at dksX2_isOdd_0 7 rfl rfl)
theorem dX2_isOdd_10 : decode cX2_isOdd 10 = .ok (.iload_n 0, 1) := dk_26 (dk_at dksX2_isOdd_0 10 rfl rfl)
theorem dX2_isOdd_11 : decode cX2_isOdd 11 = .ok (.iconst 2, 1) := dk_5 (dk_at dksX2_isOdd_0 11 rfl rfl)
theorem dX2_isOdd_12 : decode cX2_isOdd 12 = .ok (.irem, 1) := dk_112 (dk_at dksX2_isOdd_0 12 rfl rfl)
theorem dX2_isOdd_13 : decode cX2_isOdd 13 = .ok (.iconst 1, 1) := dk_4 (dk_at dksX2_isOdd_0 13 rfl rfl)
theorem dX2_isOdd_14 : decode cX2_isOdd 14 = .ok (.if_icmp .ne 7, 3) := dk_160 0 7 (dk_at dksX2_isOdd_0 14 rfl rfl)
theorem dX2_isOdd_17 : decode cX2_isOdd 17 = .ok (.iconst 1, 1) := dk_4 (dk_at dksX2_isOdd_0 17 rfl rfl)
theorem dX2_isOdd_18 : decode cX2_isOdd 18 = .ok (.goto 4, 3) := dk_167 0 4 (dk_at dksX2_isOdd_0 18 rfl rfl)
theorem dX2_isOdd_21 : decode cX2_isOdd 21 = .ok (.iconst 0, 1) := dk_3 (dk_at dksX2_isOdd_0 21 rfl rfl)
theorem dX2_isOdd_22 : decode cX2_isOdd 22 = .ok (.ireturn, 1) := dk_172 (dk_at dksX2_isOdd_0 22 rfl rfl)
abbrev cX2_rightWays : ByteArray := prog_15_method_127_code
def yX2_rightWays : MethodName := ⟨RX2, "rightWays", "(II)J"⟩
def dkwX2_rightWays_5 : List UInt8 := [42, 180, 0, 73, 21, 5, 47, 97, 66, 132, 5, 1, 167, 255, 236, 33, 173]
abbrev dktX2_rightWays_5 : List UInt8 := dkwX2_rightWays_5 ++ []
def dkwX2_rightWays_4 : List UInt8 := [80, 132, 3, 1, 167, 255, 188, 9, 66, 28, 5, 108, 4, 96, 54, 5, 21, 5, 16, 17, 162, 0, 19, 33]
abbrev dktX2_rightWays_4 : List UInt8 := dkwX2_rightWays_4 ++ dktX2_rightWays_5
def dkwX2_rightWays_3 : List UInt8 := [16, 10, 27, 100, 133, 105, 97, 80, 132, 4, 255, 167, 255, 215, 42, 180, 0, 73, 3, 92, 47, 27, 133, 105]
abbrev dktX2_rightWays_3 : List UInt8 := dkwX2_rightWays_3 ++ dktX2_rightWays_4
def dkwX2_rightWays_2 : List UInt8 := [180, 0, 73, 21, 4, 42, 180, 0, 73, 21, 4, 47, 27, 133, 105, 42, 180, 0, 73, 21, 4, 4, 100, 47]
abbrev dktX2_rightWays_2 : List UInt8 := dkwX2_rightWays_2 ++ dktX2_rightWays_3
def dkwX2_rightWays_1 : List UInt8 := [132, 3, 1, 167, 255, 232, 3, 62, 29, 28, 162, 0, 69, 29, 4, 96, 54, 4, 21, 4, 158, 0, 42, 42]
abbrev dktX2_rightWays_1 : List UInt8 := dkwX2_rightWays_1 ++ dktX2_rightWays_2
def dkwX2_rightWays_0 : List UInt8 := [3, 62, 29, 16, 17, 162, 0, 24, 42, 180, 0, 73, 29, 29, 154, 0, 7, 10, 167, 0, 4, 9, 80]
abbrev dktX2_rightWays_0 : List UInt8 := dkwX2_rightWays_0 ++ dktX2_rightWays_1
theorem dksX2_rightWays_0 : cX2_rightWays.data.toList.drop 0 = dktX2_rightWays_0 := by decide +kernel
theorem dksX2_rightWays_1 : cX2_rightWays.data.toList.drop 23 = dktX2_rightWays_1 := dk_seg dksX2_rightWays_0 23 rfl rfl
theorem dksX2_rightWays_2 : cX2_rightWays.data.toList.drop 47 = dktX2_rightWays_2 := dk_seg dksX2_rightWays_1 24 rfl rfl
theorem dksX2_rightWays_3 : cX2_rightWays.data.toList.drop 71 = dktX2_rightWays_3 := dk_seg dksX2_rightWays_2 24 rfl rfl
theorem dksX2_rightWays_4 : cX2_rightWays.data.toList.drop 95 = dktX2_rightWays_4 := dk_seg dksX2_rightWays_3 24 rfl rfl
theorem dksX2_rightWays_5 : cX2_rightWays.data.toList.drop 119 = dktX2_rightWays_5 := dk_seg dksX2_rightWays_4 24 rfl rfl
theorem dX2_rightWays_0 : decode cX2_rightWays 0 = .ok (.iconst 0, 1) := dk_3 (dk_at dksX2_rightWays_0 0 rfl rfl)
theorem dX2_rightWays_1 : decode cX2_rightWays 1 = .ok (.istore_n 3, 1) := dk_62 (dk_at dksX2_rightWays_0 1 rfl rfl)
theorem dX2_rightWays_2 : decode cX2_rightWays 2 = .ok (.iload_n 3, 1) := dk_29 (dk_at dksX2_rightWays_0 2 rfl rfl)
theorem dX2_rightWays_3 : decode cX2_rightWays 3 = .ok (.bipush 17, 2) := dk_16 17 (dk_at dksX2_rightWays_0 3 rfl rfl)
theorem dX2_rightWays_5 : decode cX2_rightWays 5 = .ok (.if_icmp .ge 24, 3) := dk_162 0 24 (dk_at dksX2_rightWays_0 5 rfl rfl)
theorem dX2_rightWays_8 : decode cX2_rightWays 8 = .ok (.aload_n 0, 1) := dk_42 (dk_at dksX2_rightWays_0 8 rfl rfl)
theorem dX2_rightWays_9 : decode cX2_rightWays 9 = .ok (.getfield 73, 3) := dk_180 0 73 (dk_at dksX2_rightWays_0 9 rfl rfl)
theorem dX2_rightWays_12 : decode cX2_rightWays 12 = .ok (.iload_n 3, 1) := dk_29 (dk_at dksX2_rightWays_0 12 rfl rfl)
theorem dX2_rightWays_13 : decode cX2_rightWays 13 = .ok (.iload_n 3, 1) := dk_29 (dk_at dksX2_rightWays_0 13 rfl rfl)
theorem dX2_rightWays_14 : decode cX2_rightWays 14 = .ok (.ifCond .ne 7, 3) := dk_154 0 7 (dk_at dksX2_rightWays_0 14 rfl rfl)
theorem dX2_rightWays_17 : decode cX2_rightWays 17 = .ok (.lconst 1, 1) := dk_10 (dk_at dksX2_rightWays_0 17 rfl rfl)
theorem dX2_rightWays_18 : decode cX2_rightWays 18 = .ok (.goto 4, 3) := dk_167 0 4 (dk_at dksX2_rightWays_0 18 rfl rfl)
theorem dX2_rightWays_21 : decode cX2_rightWays 21 = .ok (.lconst 0, 1) := dk_9 (dk_at dksX2_rightWays_0 21 rfl rfl)
theorem dX2_rightWays_22 : decode cX2_rightWays 22 = .ok (.lastore, 1) := dk_80 (dk_at dksX2_rightWays_0 22 rfl rfl)
theorem dX2_rightWays_23 : decode cX2_rightWays 23 = .ok (.iinc 3 1, 3) := dk_132 3 1 (dk_at dksX2_rightWays_1 0 rfl rfl)
theorem dX2_rightWays_26 : decode cX2_rightWays 26 = .ok (.goto (-24), 3) := dk_167 255 232 (dk_at dksX2_rightWays_1 3 rfl rfl)
theorem dX2_rightWays_29 : decode cX2_rightWays 29 = .ok (.iconst 0, 1) := dk_3 (dk_at dksX2_rightWays_1 6 rfl rfl)
theorem dX2_rightWays_30 : decode cX2_rightWays 30 = .ok (.istore_n 3, 1) := dk_62 (dk_at dksX2_rightWays_1 7 rfl rfl)
theorem dX2_rightWays_31 : decode cX2_rightWays 31 = .ok (.iload_n 3, 1) := dk_29 (dk_at dksX2_rightWays_1 8 rfl rfl)
theorem dX2_rightWays_32 : decode cX2_rightWays 32 = .ok (.iload_n 2, 1) := dk_28 (dk_at dksX2_rightWays_1 9 rfl rfl)
theorem dX2_rightWays_33 : decode cX2_rightWays 33 = .ok (.if_icmp .ge 69, 3) := dk_162 0 69 (dk_at dksX2_rightWays_1 10 rfl rfl)
theorem dX2_rightWays_36 : decode cX2_rightWays 36 = .ok (.iload_n 3, 1) := dk_29 (dk_at dksX2_rightWays_1 13 rfl rfl)
theorem dX2_rightWays_37 : decode cX2_rightWays 37 = .ok (.iconst 1, 1) := dk_4 (dk_at dksX2_rightWays_1 14 rfl rfl)
theorem dX2_rightWays_38 : decode cX2_rightWays 38 = .ok (.iadd, 1) := dk_96 (dk_at dksX2_rightWays_1 15 rfl rfl)
theorem dX2_rightWays_39 : decode cX2_rightWays 39 = .ok (.istore 4, 2) := dk_54 4 (dk_at dksX2_rightWays_1 16 rfl rfl)
theorem dX2_rightWays_41 : decode cX2_rightWays 41 = .ok (.iload 4, 2) := dk_21 4 (dk_at dksX2_rightWays_1 18 rfl rfl)
theorem dX2_rightWays_43 : decode cX2_rightWays 43 = .ok (.ifCond .le 42, 3) := dk_158 0 42 (dk_at dksX2_rightWays_1 20 rfl rfl)
theorem dX2_rightWays_46 : decode cX2_rightWays 46 = .ok (.aload_n 0, 1) := dk_42 (dk_at dksX2_rightWays_1 23 rfl rfl)
theorem dX2_rightWays_47 : decode cX2_rightWays 47 = .ok (.getfield 73, 3) := dk_180 0 73 (dk_at dksX2_rightWays_2 0 rfl rfl)
theorem dX2_rightWays_50 : decode cX2_rightWays 50 = .ok (.iload 4, 2) := dk_21 4 (dk_at dksX2_rightWays_2 3 rfl rfl)
theorem dX2_rightWays_52 : decode cX2_rightWays 52 = .ok (.aload_n 0, 1) := dk_42 (dk_at dksX2_rightWays_2 5 rfl rfl)
theorem dX2_rightWays_53 : decode cX2_rightWays 53 = .ok (.getfield 73, 3) := dk_180 0 73 (dk_at dksX2_rightWays_2 6 rfl rfl)
theorem dX2_rightWays_56 : decode cX2_rightWays 56 = .ok (.iload 4, 2) := dk_21 4 (dk_at dksX2_rightWays_2 9 rfl rfl)
theorem dX2_rightWays_58 : decode cX2_rightWays 58 = .ok (.laload, 1) := dk_47 (dk_at dksX2_rightWays_2 11 rfl rfl)
theorem dX2_rightWays_59 : decode cX2_rightWays 59 = .ok (.iload_n 1, 1) := dk_27 (dk_at dksX2_rightWays_2 12 rfl rfl)
theorem dX2_rightWays_60 : decode cX2_rightWays 60 = .ok (.i2l, 1) := dk_133 (dk_at dksX2_rightWays_2 13 rfl rfl)
theorem dX2_rightWays_61 : decode cX2_rightWays 61 = .ok (.lmul, 1) := dk_105 (dk_at dksX2_rightWays_2 14 rfl rfl)
theorem dX2_rightWays_62 : decode cX2_rightWays 62 = .ok (.aload_n 0, 1) := dk_42 (dk_at dksX2_rightWays_2 15 rfl rfl)
theorem dX2_rightWays_63 : decode cX2_rightWays 63 = .ok (.getfield 73, 3) := dk_180 0 73 (dk_at dksX2_rightWays_2 16 rfl rfl)
theorem dX2_rightWays_66 : decode cX2_rightWays 66 = .ok (.iload 4, 2) := dk_21 4 (dk_at dksX2_rightWays_2 19 rfl rfl)
theorem dX2_rightWays_68 : decode cX2_rightWays 68 = .ok (.iconst 1, 1) := dk_4 (dk_at dksX2_rightWays_2 21 rfl rfl)
theorem dX2_rightWays_69 : decode cX2_rightWays 69 = .ok (.isub, 1) := dk_100 (dk_at dksX2_rightWays_2 22 rfl rfl)
theorem dX2_rightWays_70 : decode cX2_rightWays 70 = .ok (.laload, 1) := dk_47 (dk_at dksX2_rightWays_2 23 rfl rfl)
theorem dX2_rightWays_71 : decode cX2_rightWays 71 = .ok (.bipush 10, 2) := dk_16 10 (dk_at dksX2_rightWays_3 0 rfl rfl)
theorem dX2_rightWays_73 : decode cX2_rightWays 73 = .ok (.iload_n 1, 1) := dk_27 (dk_at dksX2_rightWays_3 2 rfl rfl)
theorem dX2_rightWays_74 : decode cX2_rightWays 74 = .ok (.isub, 1) := dk_100 (dk_at dksX2_rightWays_3 3 rfl rfl)
theorem dX2_rightWays_75 : decode cX2_rightWays 75 = .ok (.i2l, 1) := dk_133 (dk_at dksX2_rightWays_3 4 rfl rfl)
theorem dX2_rightWays_76 : decode cX2_rightWays 76 = .ok (.lmul, 1) := dk_105 (dk_at dksX2_rightWays_3 5 rfl rfl)
theorem dX2_rightWays_77 : decode cX2_rightWays 77 = .ok (.ladd, 1) := dk_97 (dk_at dksX2_rightWays_3 6 rfl rfl)
theorem dX2_rightWays_78 : decode cX2_rightWays 78 = .ok (.lastore, 1) := dk_80 (dk_at dksX2_rightWays_3 7 rfl rfl)
theorem dX2_rightWays_79 : decode cX2_rightWays 79 = .ok (.iinc 4 (-1), 3) := dk_132 4 255 (dk_at dksX2_rightWays_3 8 rfl rfl)
theorem dX2_rightWays_82 : decode cX2_rightWays 82 = .ok (.goto (-41), 3) := dk_167 255 215 (dk_at dksX2_rightWays_3 11 rfl rfl)
theorem dX2_rightWays_85 : decode cX2_rightWays 85 = .ok (.aload_n 0, 1) := dk_42 (dk_at dksX2_rightWays_3 14 rfl rfl)
theorem dX2_rightWays_86 : decode cX2_rightWays 86 = .ok (.getfield 73, 3) := dk_180 0 73 (dk_at dksX2_rightWays_3 15 rfl rfl)
theorem dX2_rightWays_89 : decode cX2_rightWays 89 = .ok (.iconst 0, 1) := dk_3 (dk_at dksX2_rightWays_3 18 rfl rfl)
theorem dX2_rightWays_90 : decode cX2_rightWays 90 = .ok (.dup2, 1) := dk_92 (dk_at dksX2_rightWays_3 19 rfl rfl)
theorem dX2_rightWays_91 : decode cX2_rightWays 91 = .ok (.laload, 1) := dk_47 (dk_at dksX2_rightWays_3 20 rfl rfl)
theorem dX2_rightWays_92 : decode cX2_rightWays 92 = .ok (.iload_n 1, 1) := dk_27 (dk_at dksX2_rightWays_3 21 rfl rfl)
theorem dX2_rightWays_93 : decode cX2_rightWays 93 = .ok (.i2l, 1) := dk_133 (dk_at dksX2_rightWays_3 22 rfl rfl)
theorem dX2_rightWays_94 : decode cX2_rightWays 94 = .ok (.lmul, 1) := dk_105 (dk_at dksX2_rightWays_3 23 rfl rfl)
theorem dX2_rightWays_95 : decode cX2_rightWays 95 = .ok (.lastore, 1) := dk_80 (dk_at dksX2_rightWays_4 0 rfl rfl)
theorem dX2_rightWays_96 : decode cX2_rightWays 96 = .ok (.iinc 3 1, 3) := dk_132 3 1 (dk_at dksX2_rightWays_4 1 rfl rfl)
theorem dX2_rightWays_99 : decode cX2_rightWays 99 = .ok (.goto (-68), 3) := dk_167 255 188 (dk_at dksX2_rightWays_4 4 rfl rfl)
theorem dX2_rightWays_102 : decode cX2_rightWays 102 = .ok (.lconst 0, 1) := dk_9 (dk_at dksX2_rightWays_4 7 rfl rfl)
theorem dX2_rightWays_103 : decode cX2_rightWays 103 = .ok (.lstore_n 3, 1) := dk_66 (dk_at dksX2_rightWays_4 8 rfl rfl)
theorem dX2_rightWays_104 : decode cX2_rightWays 104 = .ok (.iload_n 2, 1) := dk_28 (dk_at dksX2_rightWays_4 9 rfl rfl)
theorem dX2_rightWays_105 : decode cX2_rightWays 105 = .ok (.iconst 2, 1) := dk_5 (dk_at dksX2_rightWays_4 10 rfl rfl)
theorem dX2_rightWays_106 : decode cX2_rightWays 106 = .ok (.idiv, 1) := dk_108 (dk_at dksX2_rightWays_4 11 rfl rfl)
theorem dX2_rightWays_107 : decode cX2_rightWays 107 = .ok (.iconst 1, 1) := dk_4 (dk_at dksX2_rightWays_4 12 rfl rfl)
theorem dX2_rightWays_108 : decode cX2_rightWays 108 = .ok (.iadd, 1) := dk_96 (dk_at dksX2_rightWays_4 13 rfl rfl)
theorem dX2_rightWays_109 : decode cX2_rightWays 109 = .ok (.istore 5, 2) := dk_54 5 (dk_at dksX2_rightWays_4 14 rfl rfl)
theorem dX2_rightWays_111 : decode cX2_rightWays 111 = .ok (.iload 5, 2) := dk_21 5 (dk_at dksX2_rightWays_4 16 rfl rfl)
theorem dX2_rightWays_113 : decode cX2_rightWays 113 = .ok (.bipush 17, 2) := dk_16 17 (dk_at dksX2_rightWays_4 18 rfl rfl)
theorem dX2_rightWays_115 : decode cX2_rightWays 115 = .ok (.if_icmp .ge 19, 3) := dk_162 0 19 (dk_at dksX2_rightWays_4 20 rfl rfl)
theorem dX2_rightWays_118 : decode cX2_rightWays 118 = .ok (.lload_n 3, 1) := dk_33 (dk_at dksX2_rightWays_4 23 rfl rfl)
theorem dX2_rightWays_119 : decode cX2_rightWays 119 = .ok (.aload_n 0, 1) := dk_42 (dk_at dksX2_rightWays_5 0 rfl rfl)
theorem dX2_rightWays_120 : decode cX2_rightWays 120 = .ok (.getfield 73, 3) := dk_180 0 73 (dk_at dksX2_rightWays_5 1 rfl rfl)
theorem dX2_rightWays_123 : decode cX2_rightWays 123 = .ok (.iload 5, 2) := dk_21 5 (dk_at dksX2_rightWays_5 4 rfl rfl)
theorem dX2_rightWays_125 : decode cX2_rightWays 125 = .ok (.laload, 1) := dk_47 (dk_at dksX2_rightWays_5 6 rfl rfl)
theorem dX2_rightWays_126 : decode cX2_rightWays 126 = .ok (.ladd, 1) := dk_97 (dk_at dksX2_rightWays_5 7 rfl rfl)
theorem dX2_rightWays_127 : decode cX2_rightWays 127 = .ok (.lstore_n 3, 1) := dk_66 (dk_at dksX2_rightWays_5 8 rfl rfl)
theorem dX2_rightWays_128 : decode cX2_rightWays 128 = .ok (.iinc 5 1, 3) := dk_132 5 1 (dk_at dksX2_rightWays_5 9 rfl rfl)
theorem dX2_rightWays_131 : decode cX2_rightWays 131 = .ok (.goto (-20), 3) := dk_167 255 236 (dk_at dksX2_rightWays_5 12 rfl rfl)
theorem dX2_rightWays_134 : decode cX2_rightWays 134 = .ok (.lload_n 3, 1) := dk_33 (dk_at dksX2_rightWays_5 15 rfl rfl)
theorem dX2_rightWays_135 : decode cX2_rightWays 135 = .ok (.lreturn, 1) := dk_173 (dk_at dksX2_rightWays_5 16 rfl rfl)
abbrev cX2_tenTo : ByteArray := prog_15_method_128_code
def yX2_tenTo : MethodName := ⟨RX2, "tenTo", "(I)J"⟩
def dkwX2_tenTo_0 : List UInt8 := [10, 64, 3, 62, 29, 26, 162, 0, 15, 31, 20, 1, 194, 105, 64, 132, 3, 1, 167, 255, 242, 31, 173]
abbrev dktX2_tenTo_0 : List UInt8 := dkwX2_tenTo_0 ++ []
theorem dksX2_tenTo_0 : cX2_tenTo.data.toList.drop 0 = dktX2_tenTo_0 := by decide +kernel
theorem dX2_tenTo_0 : decode cX2_tenTo 0 = .ok (.lconst 1, 1) := dk_10 (dk_at dksX2_tenTo_0 0 rfl rfl)
theorem dX2_tenTo_1 : decode cX2_tenTo 1 = .ok (.lstore_n 1, 1) := dk_64 (dk_at dksX2_tenTo_0 1 rfl rfl)
theorem dX2_tenTo_2 : decode cX2_tenTo 2 = .ok (.iconst 0, 1) := dk_3 (dk_at dksX2_tenTo_0 2 rfl rfl)
theorem dX2_tenTo_3 : decode cX2_tenTo 3 = .ok (.istore_n 3, 1) := dk_62 (dk_at dksX2_tenTo_0 3 rfl rfl)
theorem dX2_tenTo_4 : decode cX2_tenTo 4 = .ok (.iload_n 3, 1) := dk_29 (dk_at dksX2_tenTo_0 4 rfl rfl)
theorem dX2_tenTo_5 : decode cX2_tenTo 5 = .ok (.iload_n 0, 1) := dk_26 (dk_at dksX2_tenTo_0 5 rfl rfl)
theorem dX2_tenTo_6 : decode cX2_tenTo 6 = .ok (.if_icmp .ge 15, 3) := dk_162 0 15 (dk_at dksX2_tenTo_0 6 rfl rfl)
theorem dX2_tenTo_9 : decode cX2_tenTo 9 = .ok (.lload_n 1, 1) := dk_31 (dk_at dksX2_tenTo_0 9 rfl rfl)
theorem dX2_tenTo_10 : decode cX2_tenTo 10 = .ok (.ldc2_w 450, 3) := dk_20 1 194 (dk_at dksX2_tenTo_0 10 rfl rfl)
theorem dX2_tenTo_13 : decode cX2_tenTo 13 = .ok (.lmul, 1) := dk_105 (dk_at dksX2_tenTo_0 13 rfl rfl)
theorem dX2_tenTo_14 : decode cX2_tenTo 14 = .ok (.lstore_n 1, 1) := dk_64 (dk_at dksX2_tenTo_0 14 rfl rfl)
theorem dX2_tenTo_15 : decode cX2_tenTo 15 = .ok (.iinc 3 1, 3) := dk_132 3 1 (dk_at dksX2_tenTo_0 15 rfl rfl)
theorem dX2_tenTo_18 : decode cX2_tenTo 18 = .ok (.goto (-14), 3) := dk_167 255 242 (dk_at dksX2_tenTo_0 18 rfl rfl)
theorem dX2_tenTo_21 : decode cX2_tenTo 21 = .ok (.lload_n 1, 1) := dk_31 (dk_at dksX2_tenTo_0 21 rfl rfl)
theorem dX2_tenTo_22 : decode cX2_tenTo 22 = .ok (.lreturn, 1) := dk_173 (dk_at dksX2_tenTo_0 22 rfl rfl)
abbrev cX2_common : ByteArray := prog_15_method_129_code
def yX2_common : MethodName := ⟨RX2, "common", "(JJ)J"⟩
def dkwX2_common_1 : List UInt8 := [22, 8, 55, 6, 167, 255, 234, 22, 4, 173]
abbrev dktX2_common_1 : List UInt8 := dkwX2_common_1 ++ []
def dkwX2_common_0 : List UInt8 := [30, 55, 4, 32, 55, 6, 22, 6, 9, 148, 153, 0, 21, 22, 4, 22, 6, 113, 55, 8, 22, 6, 55, 4]
abbrev dktX2_common_0 : List UInt8 := dkwX2_common_0 ++ dktX2_common_1
theorem dksX2_common_0 : cX2_common.data.toList.drop 0 = dktX2_common_0 := by decide +kernel
theorem dksX2_common_1 : cX2_common.data.toList.drop 24 = dktX2_common_1 := dk_seg dksX2_common_0 24 rfl rfl
theorem dX2_common_0 : decode cX2_common 0 = .ok (.lload_n 0, 1) := dk_30 (dk_at dksX2_common_0 0 rfl rfl)
theorem dX2_common_1 : decode cX2_common 1 = .ok (.lstore 4, 2) := dk_55 4 (dk_at dksX2_common_0 1 rfl rfl)
theorem dX2_common_3 : decode cX2_common 3 = .ok (.lload_n 2, 1) := dk_32 (dk_at dksX2_common_0 3 rfl rfl)
theorem dX2_common_4 : decode cX2_common 4 = .ok (.lstore 6, 2) := dk_55 6 (dk_at dksX2_common_0 4 rfl rfl)
theorem dX2_common_6 : decode cX2_common 6 = .ok (.lload 6, 2) := dk_22 6 (dk_at dksX2_common_0 6 rfl rfl)
theorem dX2_common_8 : decode cX2_common 8 = .ok (.lconst 0, 1) := dk_9 (dk_at dksX2_common_0 8 rfl rfl)
theorem dX2_common_9 : decode cX2_common 9 = .ok (.lcmp, 1) := dk_148 (dk_at dksX2_common_0 9 rfl rfl)
theorem dX2_common_10 : decode cX2_common 10 = .ok (.ifCond .eq 21, 3) := dk_153 0 21 (dk_at dksX2_common_0 10 rfl rfl)
theorem dX2_common_13 : decode cX2_common 13 = .ok (.lload 4, 2) := dk_22 4 (dk_at dksX2_common_0 13 rfl rfl)
theorem dX2_common_15 : decode cX2_common 15 = .ok (.lload 6, 2) := dk_22 6 (dk_at dksX2_common_0 15 rfl rfl)
theorem dX2_common_17 : decode cX2_common 17 = .ok (.lrem, 1) := dk_113 (dk_at dksX2_common_0 17 rfl rfl)
theorem dX2_common_18 : decode cX2_common 18 = .ok (.lstore 8, 2) := dk_55 8 (dk_at dksX2_common_0 18 rfl rfl)
theorem dX2_common_20 : decode cX2_common 20 = .ok (.lload 6, 2) := dk_22 6 (dk_at dksX2_common_0 20 rfl rfl)
theorem dX2_common_22 : decode cX2_common 22 = .ok (.lstore 4, 2) := dk_55 4 (dk_at dksX2_common_0 22 rfl rfl)
theorem dX2_common_24 : decode cX2_common 24 = .ok (.lload 8, 2) := dk_22 8 (dk_at dksX2_common_1 0 rfl rfl)
theorem dX2_common_26 : decode cX2_common 26 = .ok (.lstore 6, 2) := dk_55 6 (dk_at dksX2_common_1 2 rfl rfl)
theorem dX2_common_28 : decode cX2_common 28 = .ok (.goto (-22), 3) := dk_167 255 234 (dk_at dksX2_common_1 4 rfl rfl)
theorem dX2_common_31 : decode cX2_common 31 = .ok (.lload 4, 2) := dk_22 4 (dk_at dksX2_common_1 7 rfl rfl)
theorem dX2_common_33 : decode cX2_common 33 = .ok (.lreturn, 1) := dk_173 (dk_at dksX2_common_1 9 rfl rfl)
abbrev cX2_often : ByteArray := prog_15_method_132_code
def yX2_often : MethodName := ⟨RX2, "often", "(II)I"⟩
def dkwX2_often_2 : List UInt8 := [155, 0, 5, 29, 172, 132, 3, 2, 167, 255, 224, 2, 172]
abbrev dktX2_often_2 : List UInt8 := dkwX2_often_2 ++ []
def dkwX2_often_1 : List UInt8 := [29, 16, 16, 162, 0, 32, 42, 27, 29, 182, 1, 201, 20, 1, 213, 105, 28, 133, 29, 184, 1, 205, 105, 148]
abbrev dktX2_often_1 : List UInt8 := dkwX2_often_1 ++ dktX2_often_2
def dkwX2_often_0 : List UInt8 := [27, 3, 16, 10, 184, 0, 80, 153, 0, 13, 28, 4, 16, 100, 184, 0, 80, 154, 0, 5, 2, 172, 4, 62]
abbrev dktX2_often_0 : List UInt8 := dkwX2_often_0 ++ dktX2_often_1
theorem dksX2_often_0 : cX2_often.data.toList.drop 0 = dktX2_often_0 := by decide +kernel
theorem dksX2_often_1 : cX2_often.data.toList.drop 24 = dktX2_often_1 := dk_seg dksX2_often_0 24 rfl rfl
theorem dksX2_often_2 : cX2_often.data.toList.drop 48 = dktX2_often_2 := dk_seg dksX2_often_1 24 rfl rfl
theorem dX2_often_0 : decode cX2_often 0 = .ok (.iload_n 1, 1) := dk_27 (dk_at dksX2_often_0 0 rfl rfl)
theorem dX2_often_1 : decode cX2_often 1 = .ok (.iconst 0, 1) := dk_3 (dk_at dksX2_often_0 1 rfl rfl)
theorem dX2_often_2 : decode cX2_often 2 = .ok (.bipush 10, 2) := dk_16 10 (dk_at dksX2_often_0 2 rfl rfl)
theorem dX2_often_4 : decode cX2_often 4 = .ok (.invokestatic 80, 3) := dk_184 0 80 (dk_at dksX2_often_0 4 rfl rfl)
theorem dX2_often_7 : decode cX2_often 7 = .ok (.ifCond .eq 13, 3) := dk_153 0 13 (dk_at dksX2_often_0 7 rfl rfl)
theorem dX2_often_10 : decode cX2_often 10 = .ok (.iload_n 2, 1) := dk_28 (dk_at dksX2_often_0 10 rfl rfl)
theorem dX2_often_11 : decode cX2_often 11 = .ok (.iconst 1, 1) := dk_4 (dk_at dksX2_often_0 11 rfl rfl)
theorem dX2_often_12 : decode cX2_often 12 = .ok (.bipush 100, 2) := dk_16 100 (dk_at dksX2_often_0 12 rfl rfl)
theorem dX2_often_14 : decode cX2_often 14 = .ok (.invokestatic 80, 3) := dk_184 0 80 (dk_at dksX2_often_0 14 rfl rfl)
theorem dX2_often_17 : decode cX2_often 17 = .ok (.ifCond .ne 5, 3) := dk_154 0 5 (dk_at dksX2_often_0 17 rfl rfl)
theorem dX2_often_20 : decode cX2_often 20 = .ok (.iconst (-1), 1) := dk_2 (dk_at dksX2_often_0 20 rfl rfl)
theorem dX2_often_21 : decode cX2_often 21 = .ok (.ireturn, 1) := dk_172 (dk_at dksX2_often_0 21 rfl rfl)
theorem dX2_often_22 : decode cX2_often 22 = .ok (.iconst 1, 1) := dk_4 (dk_at dksX2_often_0 22 rfl rfl)
theorem dX2_often_23 : decode cX2_often 23 = .ok (.istore_n 3, 1) := dk_62 (dk_at dksX2_often_0 23 rfl rfl)
theorem dX2_often_24 : decode cX2_often 24 = .ok (.iload_n 3, 1) := dk_29 (dk_at dksX2_often_1 0 rfl rfl)
theorem dX2_often_25 : decode cX2_often 25 = .ok (.bipush 16, 2) := dk_16 16 (dk_at dksX2_often_1 1 rfl rfl)
theorem dX2_often_27 : decode cX2_often 27 = .ok (.if_icmp .ge 32, 3) := dk_162 0 32 (dk_at dksX2_often_1 3 rfl rfl)
theorem dX2_often_30 : decode cX2_often 30 = .ok (.aload_n 0, 1) := dk_42 (dk_at dksX2_often_1 6 rfl rfl)
theorem dX2_often_31 : decode cX2_often 31 = .ok (.iload_n 1, 1) := dk_27 (dk_at dksX2_often_1 7 rfl rfl)
theorem dX2_often_32 : decode cX2_often 32 = .ok (.iload_n 3, 1) := dk_29 (dk_at dksX2_often_1 8 rfl rfl)
theorem dX2_often_33 : decode cX2_often 33 = .ok (.invokevirtual 457, 3) := dk_182 1 201 (dk_at dksX2_often_1 9 rfl rfl)
theorem dX2_often_36 : decode cX2_often 36 = .ok (.ldc2_w 469, 3) := dk_20 1 213 (dk_at dksX2_often_1 12 rfl rfl)
theorem dX2_often_39 : decode cX2_often 39 = .ok (.lmul, 1) := dk_105 (dk_at dksX2_often_1 15 rfl rfl)
theorem dX2_often_40 : decode cX2_often 40 = .ok (.iload_n 2, 1) := dk_28 (dk_at dksX2_often_1 16 rfl rfl)
theorem dX2_often_41 : decode cX2_often 41 = .ok (.i2l, 1) := dk_133 (dk_at dksX2_often_1 17 rfl rfl)
theorem dX2_often_42 : decode cX2_often 42 = .ok (.iload_n 3, 1) := dk_29 (dk_at dksX2_often_1 18 rfl rfl)
theorem dX2_often_43 : decode cX2_often 43 = .ok (.invokestatic 461, 3) := dk_184 1 205 (dk_at dksX2_often_1 19 rfl rfl)
theorem dX2_often_46 : decode cX2_often 46 = .ok (.lmul, 1) := dk_105 (dk_at dksX2_often_1 22 rfl rfl)
theorem dX2_often_47 : decode cX2_often 47 = .ok (.lcmp, 1) := dk_148 (dk_at dksX2_often_1 23 rfl rfl)
theorem dX2_often_48 : decode cX2_often 48 = .ok (.ifCond .lt 5, 3) := dk_155 0 5 (dk_at dksX2_often_2 0 rfl rfl)
theorem dX2_often_51 : decode cX2_often 51 = .ok (.iload_n 3, 1) := dk_29 (dk_at dksX2_often_2 3 rfl rfl)
theorem dX2_often_52 : decode cX2_often 52 = .ok (.ireturn, 1) := dk_172 (dk_at dksX2_often_2 4 rfl rfl)
theorem dX2_often_53 : decode cX2_often 53 = .ok (.iinc 3 2, 3) := dk_132 3 2 (dk_at dksX2_often_2 5 rfl rfl)
theorem dX2_often_56 : decode cX2_often 56 = .ok (.goto (-32), 3) := dk_167 255 224 (dk_at dksX2_often_2 8 rfl rfl)
theorem dX2_often_59 : decode cX2_often 59 = .ok (.iconst (-1), 1) := dk_2 (dk_at dksX2_often_2 11 rfl rfl)
theorem dX2_often_60 : decode cX2_often 60 = .ok (.ireturn, 1) := dk_172 (dk_at dksX2_often_2 12 rfl rfl)
abbrev cX2_image : ByteArray := prog_15_method_133_code
def yX2_image : MethodName := ⟨RX2, "image", "()I"⟩
def dkwX2_image_0 : List UInt8 := [42, 180, 0, 7, 42, 180, 0, 13, 184, 0, 76, 42, 180, 0, 7, 7, 46, 172]
abbrev dktX2_image_0 : List UInt8 := dkwX2_image_0 ++ []
theorem dksX2_image_0 : cX2_image.data.toList.drop 0 = dktX2_image_0 := by decide +kernel
theorem dX2_image_0 : decode cX2_image 0 = .ok (.aload_n 0, 1) := dk_42 (dk_at dksX2_image_0 0 rfl rfl)
theorem dX2_image_1 : decode cX2_image 1 = .ok (.getfield 7, 3) := dk_180 0 7 (dk_at dksX2_image_0 1 rfl rfl)
theorem dX2_image_4 : decode cX2_image 4 = .ok (.aload_n 0, 1) := dk_42 (dk_at dksX2_image_0 4 rfl rfl)
theorem dX2_image_5 : decode cX2_image 5 = .ok (.getfield 13, 3) := dk_180 0 13 (dk_at dksX2_image_0 5 rfl rfl)
theorem dX2_image_8 : decode cX2_image 8 = .ok (.invokestatic 76, 3) := dk_184 0 76 (dk_at dksX2_image_0 8 rfl rfl)
theorem dX2_image_11 : decode cX2_image 11 = .ok (.aload_n 0, 1) := dk_42 (dk_at dksX2_image_0 11 rfl rfl)
theorem dX2_image_12 : decode cX2_image 12 = .ok (.getfield 7, 3) := dk_180 0 7 (dk_at dksX2_image_0 12 rfl rfl)
theorem dX2_image_15 : decode cX2_image 15 = .ok (.iconst 4, 1) := dk_7 (dk_at dksX2_image_0 15 rfl rfl)
theorem dX2_image_16 : decode cX2_image 16 = .ok (.iaload, 1) := dk_46 (dk_at dksX2_image_0 16 rfl rfl)
theorem dX2_image_17 : decode cX2_image 17 = .ok (.ireturn, 1) := dk_172 (dk_at dksX2_image_0 17 rfl rfl)
abbrev cX2_back : ByteArray := prog_15_method_134_code
def yX2_back : MethodName := ⟨RX2, "back", "()I"⟩
def dkwX2_back_0 : List UInt8 := [42, 180, 0, 13, 42, 180, 0, 7, 184, 0, 76, 42, 180, 0, 7, 7, 46, 172]
abbrev dktX2_back_0 : List UInt8 := dkwX2_back_0 ++ []
theorem dksX2_back_0 : cX2_back.data.toList.drop 0 = dktX2_back_0 := by decide +kernel
theorem dX2_back_0 : decode cX2_back 0 = .ok (.aload_n 0, 1) := dk_42 (dk_at dksX2_back_0 0 rfl rfl)
theorem dX2_back_1 : decode cX2_back 1 = .ok (.getfield 13, 3) := dk_180 0 13 (dk_at dksX2_back_0 1 rfl rfl)
theorem dX2_back_4 : decode cX2_back 4 = .ok (.aload_n 0, 1) := dk_42 (dk_at dksX2_back_0 4 rfl rfl)
theorem dX2_back_5 : decode cX2_back 5 = .ok (.getfield 7, 3) := dk_180 0 7 (dk_at dksX2_back_0 5 rfl rfl)
theorem dX2_back_8 : decode cX2_back 8 = .ok (.invokestatic 76, 3) := dk_184 0 76 (dk_at dksX2_back_0 8 rfl rfl)
theorem dX2_back_11 : decode cX2_back 11 = .ok (.aload_n 0, 1) := dk_42 (dk_at dksX2_back_0 11 rfl rfl)
theorem dX2_back_12 : decode cX2_back 12 = .ok (.getfield 7, 3) := dk_180 0 7 (dk_at dksX2_back_0 12 rfl rfl)
theorem dX2_back_15 : decode cX2_back 15 = .ok (.iconst 4, 1) := dk_7 (dk_at dksX2_back_0 15 rfl rfl)
theorem dX2_back_16 : decode cX2_back 16 = .ok (.iaload, 1) := dk_46 (dk_at dksX2_back_0 16 rfl rfl)
theorem dX2_back_17 : decode cX2_back 17 = .ok (.ireturn, 1) := dk_172 (dk_at dksX2_back_0 17 rfl rfl)
abbrev cX2_about : ByteArray := prog_15_method_135_code
def yX2_about : MethodName := ⟨RX2, "about", "(I)I"⟩
def dkwX2_about_1 : List UInt8 := [160, 0, 10, 42, 180, 0, 98, 167, 0, 5, 16, 254, 172]
abbrev dktX2_about_1 : List UInt8 := dkwX2_about_1 ++ []
def dkwX2_about_0 : List UInt8 := [27, 3, 16, 10, 184, 0, 80, 153, 0, 12, 42, 180, 0, 7, 27, 46, 167, 0, 18, 27, 16, 11]
abbrev dktX2_about_0 : List UInt8 := dkwX2_about_0 ++ dktX2_about_1
theorem dksX2_about_0 : cX2_about.data.toList.drop 0 = dktX2_about_0 := by decide +kernel
theorem dksX2_about_1 : cX2_about.data.toList.drop 22 = dktX2_about_1 := dk_seg dksX2_about_0 22 rfl rfl
theorem dX2_about_0 : decode cX2_about 0 = .ok (.iload_n 1, 1) := dk_27 (dk_at dksX2_about_0 0 rfl rfl)
theorem dX2_about_1 : decode cX2_about 1 = .ok (.iconst 0, 1) := dk_3 (dk_at dksX2_about_0 1 rfl rfl)
theorem dX2_about_2 : decode cX2_about 2 = .ok (.bipush 10, 2) := dk_16 10 (dk_at dksX2_about_0 2 rfl rfl)
theorem dX2_about_4 : decode cX2_about 4 = .ok (.invokestatic 80, 3) := dk_184 0 80 (dk_at dksX2_about_0 4 rfl rfl)
theorem dX2_about_7 : decode cX2_about 7 = .ok (.ifCond .eq 12, 3) := dk_153 0 12 (dk_at dksX2_about_0 7 rfl rfl)
theorem dX2_about_10 : decode cX2_about 10 = .ok (.aload_n 0, 1) := dk_42 (dk_at dksX2_about_0 10 rfl rfl)
theorem dX2_about_11 : decode cX2_about 11 = .ok (.getfield 7, 3) := dk_180 0 7 (dk_at dksX2_about_0 11 rfl rfl)
theorem dX2_about_14 : decode cX2_about 14 = .ok (.iload_n 1, 1) := dk_27 (dk_at dksX2_about_0 14 rfl rfl)
theorem dX2_about_15 : decode cX2_about 15 = .ok (.iaload, 1) := dk_46 (dk_at dksX2_about_0 15 rfl rfl)
theorem dX2_about_16 : decode cX2_about 16 = .ok (.goto 18, 3) := dk_167 0 18 (dk_at dksX2_about_0 16 rfl rfl)
theorem dX2_about_19 : decode cX2_about 19 = .ok (.iload_n 1, 1) := dk_27 (dk_at dksX2_about_0 19 rfl rfl)
theorem dX2_about_20 : decode cX2_about 20 = .ok (.bipush 11, 2) := dk_16 11 (dk_at dksX2_about_0 20 rfl rfl)
theorem dX2_about_22 : decode cX2_about 22 = .ok (.if_icmp .ne 10, 3) := dk_160 0 10 (dk_at dksX2_about_1 0 rfl rfl)
theorem dX2_about_25 : decode cX2_about 25 = .ok (.aload_n 0, 1) := dk_42 (dk_at dksX2_about_1 3 rfl rfl)
theorem dX2_about_26 : decode cX2_about 26 = .ok (.getfield 98, 3) := dk_180 0 98 (dk_at dksX2_about_1 4 rfl rfl)
theorem dX2_about_29 : decode cX2_about 29 = .ok (.goto 5, 3) := dk_167 0 5 (dk_at dksX2_about_1 7 rfl rfl)
theorem dX2_about_32 : decode cX2_about 32 = .ok (.bipush (-2), 2) := dk_16 254 (dk_at dksX2_about_1 10 rfl rfl)
theorem dX2_about_34 : decode cX2_about 34 = .ok (.ireturn, 1) := dk_172 (dk_at dksX2_about_1 12 rfl rfl)
theorem q140 : (Jvm.Cond.initialized "AgainstFeatherModel") ∈ lw_all := lw_g (lw_at lw_m1 4 rfl) rfl
theorem q750 : (Jvm.Cond.selects "AgainstFeatherModel" ({ cls := "java/lang/Object", name := "getClass", desc := "()Ljava/lang/Class;" } : Jvm.MethodName) ({ cls := "java/lang/Object", name := "getClass", desc := "()Ljava/lang/Class;" } : Jvm.MethodName)) ∈ lw_all := lw_g (lw_at lw_m3 134 rfl) rfl
theorem q1334 : (Jvm.Cond.instantiable "AgainstFeatherModel" (35 : Nat)) ∈ lw_all := lw_g (lw_at lw_m5 238 rfl) rfl
theorem q1336 : (Jvm.Cond.instanceMethod ({ cls := "AgainstFeatherModel", name := "<init>", desc := "()V" } : Jvm.MethodName)) ∈ lw_all := lw_g (lw_at lw_m6 0 rfl) rfl
theorem q1337 : (Jvm.Cond.code ({ cls := "AgainstFeatherModel", name := "<init>", desc := "()V" } : Jvm.MethodName) prog_15_method_1_code (1 : Nat) (Option.none : Option Jvm.ClassFile.FieldType)) ∈ lw_all := lw_g (lw_at lw_m6 1 rfl) rfl
theorem q1338 : (Jvm.Cond.methodLink "AgainstFeatherModel" (1 : Nat) ({ cls := "java/lang/Object", name := "<init>", desc := "()V" } : Jvm.MethodName)) ∈ lw_all := lw_g (lw_at lw_m6 2 rfl) rfl
theorem q1339 : (Jvm.Cond.methodLink "AgainstFeatherModel" (76 : Nat) ({ cls := "AgainstFeatherModel", name := "copy", desc := "([I[I)V" } : Jvm.MethodName)) ∈ lw_all := lw_g (lw_at lw_m6 3 rfl) rfl
theorem q1340 : (Jvm.Cond.static ({ cls := "AgainstFeatherModel", name := "copy", desc := "([I[I)V" } : Jvm.MethodName)) ∈ lw_all := lw_g (lw_at lw_m6 4 rfl) rfl
theorem q1341 : (Jvm.Cond.code ({ cls := "AgainstFeatherModel", name := "copy", desc := "([I[I)V" } : Jvm.MethodName) prog_15_method_2_code (3 : Nat) (Option.none : Option Jvm.ClassFile.FieldType)) ∈ lw_all := lw_g (lw_at lw_m6 5 rfl) rfl
theorem q1342 : (Jvm.Cond.fieldLink "AgainstFeatherModel" (7 : Nat) "AgainstFeatherModel" "a" "[I") ∈ lw_all := lw_g (lw_at lw_m6 6 rfl) rfl
theorem q1343 : (Jvm.Cond.fieldLink "AgainstFeatherModel" (13 : Nat) "AgainstFeatherModel" "image" "[I") ∈ lw_all := lw_g (lw_at lw_m6 7 rfl) rfl
theorem q1344 : (Jvm.Cond.fieldLink "AgainstFeatherModel" (16 : Nat) "AgainstFeatherModel" "texts" "[I") ∈ lw_all := lw_g (lw_at lw_m6 8 rfl) rfl
theorem q1345 : (Jvm.Cond.fieldLink "AgainstFeatherModel" (19 : Nat) "AgainstFeatherModel" "tape" "[I") ∈ lw_all := lw_g (lw_at lw_m6 9 rfl) rfl
theorem q1346 : (Jvm.Cond.fieldLink "AgainstFeatherModel" (98 : Nat) "AgainstFeatherModel" "taped" "I") ∈ lw_all := lw_g (lw_at lw_m6 10 rfl) rfl
theorem q1347 : (Jvm.Cond.fieldLink "AgainstFeatherModel" (22 : Nat) "AgainstFeatherModel" "fault" "I") ∈ lw_all := lw_g (lw_at lw_m6 11 rfl) rfl
theorem q1348 : (Jvm.Cond.fieldLink "AgainstFeatherModel" (26 : Nat) "AgainstFeatherModel" "faultPlace" "I") ∈ lw_all := lw_g (lw_at lw_m6 12 rfl) rfl
theorem q1349 : (Jvm.Cond.fieldLink "AgainstFeatherModel" (105 : Nat) "AgainstFeatherModel" "at" "I") ∈ lw_all := lw_g (lw_at lw_m6 13 rfl) rfl
theorem q1350 : (Jvm.Cond.fieldLink "AgainstFeatherModel" (112 : Nat) "AgainstFeatherModel" "place" "I") ∈ lw_all := lw_g (lw_at lw_m6 14 rfl) rfl
theorem q1351 : (Jvm.Cond.fieldLink "AgainstFeatherModel" (115 : Nat) "AgainstFeatherModel" "token" "I") ∈ lw_all := lw_g (lw_at lw_m6 15 rfl) rfl
theorem q1352 : (Jvm.Cond.fieldLink "AgainstFeatherModel" (121 : Nat) "AgainstFeatherModel" "number" "I") ∈ lw_all := lw_g (lw_at lw_m6 16 rfl) rfl
theorem q1353 : (Jvm.Cond.fieldLink "AgainstFeatherModel" (128 : Nat) "AgainstFeatherModel" "word" "J") ∈ lw_all := lw_g (lw_at lw_m6 17 rfl) rfl
theorem q1354 : (Jvm.Cond.fieldLink "AgainstFeatherModel" (149 : Nat) "AgainstFeatherModel" "text0" "I") ∈ lw_all := lw_g (lw_at lw_m6 18 rfl) rfl
theorem q1355 : (Jvm.Cond.fieldLink "AgainstFeatherModel" (152 : Nat) "AgainstFeatherModel" "written" "I") ∈ lw_all := lw_g (lw_at lw_m6 19 rfl) rfl
theorem q1356 : (Jvm.Cond.fieldLink "AgainstFeatherModel" (163 : Nat) "AgainstFeatherModel" "sort0" "I") ∈ lw_all := lw_g (lw_at lw_m6 20 rfl) rfl
theorem q1357 : (Jvm.Cond.fieldLink "AgainstFeatherModel" (29 : Nat) "AgainstFeatherModel" "pile" "[I") ∈ lw_all := lw_g (lw_at lw_m6 21 rfl) rfl
theorem q1358 : (Jvm.Cond.fieldLink "AgainstFeatherModel" (166 : Nat) "AgainstFeatherModel" "piled" "I") ∈ lw_all := lw_g (lw_at lw_m6 22 rfl) rfl
theorem q1359 : (Jvm.Cond.fieldLink "AgainstFeatherModel" (176 : Nat) "AgainstFeatherModel" "opens" "I") ∈ lw_all := lw_g (lw_at lw_m6 23 rfl) rfl
theorem q1360 : (Jvm.Cond.fieldLink "AgainstFeatherModel" (188 : Nat) "AgainstFeatherModel" "isWhole" "Z") ∈ lw_all := lw_g (lw_at lw_m6 24 rfl) rfl
theorem q1361 : (Jvm.Cond.fieldLink "AgainstFeatherModel" (254 : Nat) "AgainstFeatherModel" "once" "I") ∈ lw_all := lw_g (lw_at lw_m6 25 rfl) rfl
theorem q1362 : (Jvm.Cond.fieldLink "AgainstFeatherModel" (32 : Nat) "AgainstFeatherModel" "named" "[I") ∈ lw_all := lw_g (lw_at lw_m6 26 rfl) rfl
theorem q1363 : (Jvm.Cond.fieldLink "AgainstFeatherModel" (35 : Nat) "AgainstFeatherModel" "values" "[J") ∈ lw_all := lw_g (lw_at lw_m6 27 rfl) rfl
theorem q1364 : (Jvm.Cond.fieldLink "AgainstFeatherModel" (39 : Nat) "AgainstFeatherModel" "row" "[I") ∈ lw_all := lw_g (lw_at lw_m6 28 rfl) rfl
theorem q1365 : (Jvm.Cond.fieldLink "AgainstFeatherModel" (367 : Nat) "AgainstFeatherModel" "many" "I") ∈ lw_all := lw_g (lw_at lw_m6 29 rfl) rfl
theorem q1366 : (Jvm.Cond.fieldLink "AgainstFeatherModel" (42 : Nat) "AgainstFeatherModel" "aside" "[I") ∈ lw_all := lw_g (lw_at lw_m6 30 rfl) rfl
theorem q1367 : (Jvm.Cond.fieldLink "AgainstFeatherModel" (45 : Nat) "AgainstFeatherModel" "best" "[I") ∈ lw_all := lw_g (lw_at lw_m6 31 rfl) rfl
theorem q1368 : (Jvm.Cond.fieldLink "AgainstFeatherModel" (48 : Nat) "AgainstFeatherModel" "lacks" "[I") ∈ lw_all := lw_g (lw_at lw_m6 32 rfl) rfl
theorem q1369 : (Jvm.Cond.fieldLink "AgainstFeatherModel" (51 : Nat) "AgainstFeatherModel" "takes" "[I") ∈ lw_all := lw_g (lw_at lw_m6 33 rfl) rfl
theorem q1370 : (Jvm.Cond.fieldLink "AgainstFeatherModel" (54 : Nat) "AgainstFeatherModel" "may" "[I") ∈ lw_all := lw_g (lw_at lw_m6 34 rfl) rfl
theorem q1371 : (Jvm.Cond.fieldLink "AgainstFeatherModel" (57 : Nat) "AgainstFeatherModel" "lends" "[I") ∈ lw_all := lw_g (lw_at lw_m6 35 rfl) rfl
theorem q1372 : (Jvm.Cond.fieldLink "AgainstFeatherModel" (60 : Nat) "AgainstFeatherModel" "balanceBelow" "[Z") ∈ lw_all := lw_g (lw_at lw_m6 36 rfl) rfl
theorem q1373 : (Jvm.Cond.fieldLink "AgainstFeatherModel" (64 : Nat) "AgainstFeatherModel" "facts" "[I") ∈ lw_all := lw_g (lw_at lw_m6 37 rfl) rfl
theorem q1374 : (Jvm.Cond.fieldLink "AgainstFeatherModel" (67 : Nat) "AgainstFeatherModel" "parts" "[I") ∈ lw_all := lw_g (lw_at lw_m6 38 rfl) rfl
theorem q1375 : (Jvm.Cond.fieldLink "AgainstFeatherModel" (70 : Nat) "AgainstFeatherModel" "burdens" "[I") ∈ lw_all := lw_g (lw_at lw_m6 39 rfl) rfl
theorem q1376 : (Jvm.Cond.fieldLink "AgainstFeatherModel" (73 : Nat) "AgainstFeatherModel" "rights" "[J") ∈ lw_all := lw_g (lw_at lw_m6 40 rfl) rfl
theorem q1377 : (Jvm.Cond.laysFinal "AgainstFeatherModel" "AgainstFeatherModel" "a" "[I") ∈ lw_all := lw_g (lw_at lw_m6 41 rfl) rfl
theorem q1378 : (Jvm.Cond.soleField "AgainstFeatherModel" "a") ∈ lw_all := lw_g (lw_at lw_m6 42 rfl) rfl
theorem q1379 : (Jvm.Cond.laysFinal "AgainstFeatherModel" "AgainstFeatherModel" "image" "[I") ∈ lw_all := lw_g (lw_at lw_m6 43 rfl) rfl
theorem q1380 : (Jvm.Cond.soleField "AgainstFeatherModel" "image") ∈ lw_all := lw_g (lw_at lw_m6 44 rfl) rfl
theorem q1381 : (Jvm.Cond.laysFinal "AgainstFeatherModel" "AgainstFeatherModel" "texts" "[I") ∈ lw_all := lw_g (lw_at lw_m6 45 rfl) rfl
theorem q1382 : (Jvm.Cond.soleField "AgainstFeatherModel" "texts") ∈ lw_all := lw_g (lw_at lw_m6 46 rfl) rfl
theorem q1383 : (Jvm.Cond.laysFinal "AgainstFeatherModel" "AgainstFeatherModel" "tape" "[I") ∈ lw_all := lw_g (lw_at lw_m6 47 rfl) rfl
theorem q1384 : (Jvm.Cond.soleField "AgainstFeatherModel" "tape") ∈ lw_all := lw_g (lw_at lw_m6 48 rfl) rfl
theorem q1385 : (Jvm.Cond.lays "AgainstFeatherModel" "AgainstFeatherModel" "taped" "I") ∈ lw_all := lw_g (lw_at lw_m6 49 rfl) rfl
theorem q1386 : (Jvm.Cond.soleField "AgainstFeatherModel" "taped") ∈ lw_all := lw_g (lw_at lw_m6 50 rfl) rfl
theorem q1387 : (Jvm.Cond.lays "AgainstFeatherModel" "AgainstFeatherModel" "fault" "I") ∈ lw_all := lw_g (lw_at lw_m6 51 rfl) rfl
theorem q1388 : (Jvm.Cond.soleField "AgainstFeatherModel" "fault") ∈ lw_all := lw_g (lw_at lw_m6 52 rfl) rfl
theorem q1389 : (Jvm.Cond.lays "AgainstFeatherModel" "AgainstFeatherModel" "faultPlace" "I") ∈ lw_all := lw_g (lw_at lw_m6 53 rfl) rfl
theorem q1390 : (Jvm.Cond.soleField "AgainstFeatherModel" "faultPlace") ∈ lw_all := lw_g (lw_at lw_m6 54 rfl) rfl
theorem q1391 : (Jvm.Cond.lays "AgainstFeatherModel" "AgainstFeatherModel" "at" "I") ∈ lw_all := lw_g (lw_at lw_m6 55 rfl) rfl
theorem q1392 : (Jvm.Cond.soleField "AgainstFeatherModel" "at") ∈ lw_all := lw_g (lw_at lw_m6 56 rfl) rfl
theorem q1393 : (Jvm.Cond.lays "AgainstFeatherModel" "AgainstFeatherModel" "place" "I") ∈ lw_all := lw_g (lw_at lw_m6 57 rfl) rfl
theorem q1394 : (Jvm.Cond.soleField "AgainstFeatherModel" "place") ∈ lw_all := lw_g (lw_at lw_m6 58 rfl) rfl
theorem q1395 : (Jvm.Cond.lays "AgainstFeatherModel" "AgainstFeatherModel" "token" "I") ∈ lw_all := lw_g (lw_at lw_m6 59 rfl) rfl
theorem q1396 : (Jvm.Cond.soleField "AgainstFeatherModel" "token") ∈ lw_all := lw_g (lw_at lw_m6 60 rfl) rfl
theorem q1397 : (Jvm.Cond.lays "AgainstFeatherModel" "AgainstFeatherModel" "number" "I") ∈ lw_all := lw_g (lw_at lw_m6 61 rfl) rfl
theorem q1398 : (Jvm.Cond.soleField "AgainstFeatherModel" "number") ∈ lw_all := lw_g (lw_at lw_m6 62 rfl) rfl
theorem q1399 : (Jvm.Cond.lays "AgainstFeatherModel" "AgainstFeatherModel" "word" "J") ∈ lw_all := lw_g (lw_at lw_m6 63 rfl) rfl
theorem q1400 : (Jvm.Cond.soleField "AgainstFeatherModel" "word") ∈ lw_all := lw_g (lw_at lw_m6 64 rfl) rfl
theorem q1401 : (Jvm.Cond.lays "AgainstFeatherModel" "AgainstFeatherModel" "text0" "I") ∈ lw_all := lw_g (lw_at lw_m6 65 rfl) rfl
theorem q1402 : (Jvm.Cond.soleField "AgainstFeatherModel" "text0") ∈ lw_all := lw_g (lw_at lw_m6 66 rfl) rfl
theorem q1403 : (Jvm.Cond.lays "AgainstFeatherModel" "AgainstFeatherModel" "written" "I") ∈ lw_all := lw_g (lw_at lw_m6 67 rfl) rfl
theorem q1404 : (Jvm.Cond.soleField "AgainstFeatherModel" "written") ∈ lw_all := lw_g (lw_at lw_m6 68 rfl) rfl
theorem q1405 : (Jvm.Cond.lays "AgainstFeatherModel" "AgainstFeatherModel" "sort0" "I") ∈ lw_all := lw_g (lw_at lw_m6 69 rfl) rfl
theorem q1406 : (Jvm.Cond.soleField "AgainstFeatherModel" "sort0") ∈ lw_all := lw_g (lw_at lw_m6 70 rfl) rfl
theorem q1407 : (Jvm.Cond.laysFinal "AgainstFeatherModel" "AgainstFeatherModel" "pile" "[I") ∈ lw_all := lw_g (lw_at lw_m6 71 rfl) rfl
theorem q1408 : (Jvm.Cond.soleField "AgainstFeatherModel" "pile") ∈ lw_all := lw_g (lw_at lw_m6 72 rfl) rfl
theorem q1409 : (Jvm.Cond.lays "AgainstFeatherModel" "AgainstFeatherModel" "piled" "I") ∈ lw_all := lw_g (lw_at lw_m6 73 rfl) rfl
theorem q1410 : (Jvm.Cond.soleField "AgainstFeatherModel" "piled") ∈ lw_all := lw_g (lw_at lw_m6 74 rfl) rfl
theorem q1411 : (Jvm.Cond.lays "AgainstFeatherModel" "AgainstFeatherModel" "opens" "I") ∈ lw_all := lw_g (lw_at lw_m6 75 rfl) rfl
theorem q1412 : (Jvm.Cond.soleField "AgainstFeatherModel" "opens") ∈ lw_all := lw_g (lw_at lw_m6 76 rfl) rfl
theorem q1413 : (Jvm.Cond.lays "AgainstFeatherModel" "AgainstFeatherModel" "isWhole" "Z") ∈ lw_all := lw_g (lw_at lw_m6 77 rfl) rfl
theorem q1414 : (Jvm.Cond.soleField "AgainstFeatherModel" "isWhole") ∈ lw_all := lw_g (lw_at lw_m6 78 rfl) rfl
theorem q1415 : (Jvm.Cond.lays "AgainstFeatherModel" "AgainstFeatherModel" "once" "I") ∈ lw_all := lw_g (lw_at lw_m6 79 rfl) rfl
theorem q1416 : (Jvm.Cond.soleField "AgainstFeatherModel" "once") ∈ lw_all := lw_g (lw_at lw_m6 80 rfl) rfl
theorem q1417 : (Jvm.Cond.laysFinal "AgainstFeatherModel" "AgainstFeatherModel" "named" "[I") ∈ lw_all := lw_g (lw_at lw_m6 81 rfl) rfl
theorem q1418 : (Jvm.Cond.soleField "AgainstFeatherModel" "named") ∈ lw_all := lw_g (lw_at lw_m6 82 rfl) rfl
theorem q1419 : (Jvm.Cond.laysFinal "AgainstFeatherModel" "AgainstFeatherModel" "values" "[J") ∈ lw_all := lw_g (lw_at lw_m6 83 rfl) rfl
theorem q1420 : (Jvm.Cond.soleField "AgainstFeatherModel" "values") ∈ lw_all := lw_g (lw_at lw_m6 84 rfl) rfl
theorem q1421 : (Jvm.Cond.laysFinal "AgainstFeatherModel" "AgainstFeatherModel" "row" "[I") ∈ lw_all := lw_g (lw_at lw_m6 85 rfl) rfl
theorem q1422 : (Jvm.Cond.soleField "AgainstFeatherModel" "row") ∈ lw_all := lw_g (lw_at lw_m6 86 rfl) rfl
theorem q1423 : (Jvm.Cond.lays "AgainstFeatherModel" "AgainstFeatherModel" "many" "I") ∈ lw_all := lw_g (lw_at lw_m6 87 rfl) rfl
theorem q1424 : (Jvm.Cond.soleField "AgainstFeatherModel" "many") ∈ lw_all := lw_g (lw_at lw_m6 88 rfl) rfl
theorem q1425 : (Jvm.Cond.laysFinal "AgainstFeatherModel" "AgainstFeatherModel" "aside" "[I") ∈ lw_all := lw_g (lw_at lw_m6 89 rfl) rfl
theorem q1426 : (Jvm.Cond.soleField "AgainstFeatherModel" "aside") ∈ lw_all := lw_g (lw_at lw_m6 90 rfl) rfl
theorem q1427 : (Jvm.Cond.laysFinal "AgainstFeatherModel" "AgainstFeatherModel" "best" "[I") ∈ lw_all := lw_g (lw_at lw_m6 91 rfl) rfl
theorem q1428 : (Jvm.Cond.soleField "AgainstFeatherModel" "best") ∈ lw_all := lw_g (lw_at lw_m6 92 rfl) rfl
theorem q1429 : (Jvm.Cond.laysFinal "AgainstFeatherModel" "AgainstFeatherModel" "lacks" "[I") ∈ lw_all := lw_g (lw_at lw_m6 93 rfl) rfl
theorem q1430 : (Jvm.Cond.soleField "AgainstFeatherModel" "lacks") ∈ lw_all := lw_g (lw_at lw_m6 94 rfl) rfl
theorem q1431 : (Jvm.Cond.laysFinal "AgainstFeatherModel" "AgainstFeatherModel" "takes" "[I") ∈ lw_all := lw_g (lw_at lw_m6 95 rfl) rfl
theorem q1432 : (Jvm.Cond.soleField "AgainstFeatherModel" "takes") ∈ lw_all := lw_g (lw_at lw_m6 96 rfl) rfl
theorem q1433 : (Jvm.Cond.laysFinal "AgainstFeatherModel" "AgainstFeatherModel" "may" "[I") ∈ lw_all := lw_g (lw_at lw_m6 97 rfl) rfl
theorem q1434 : (Jvm.Cond.soleField "AgainstFeatherModel" "may") ∈ lw_all := lw_g (lw_at lw_m6 98 rfl) rfl
theorem q1435 : (Jvm.Cond.laysFinal "AgainstFeatherModel" "AgainstFeatherModel" "lends" "[I") ∈ lw_all := lw_g (lw_at lw_m6 99 rfl) rfl
theorem q1436 : (Jvm.Cond.soleField "AgainstFeatherModel" "lends") ∈ lw_all := lw_g (lw_at lw_m6 100 rfl) rfl
theorem q1437 : (Jvm.Cond.laysFinal "AgainstFeatherModel" "AgainstFeatherModel" "balanceBelow" "[Z") ∈ lw_all := lw_g (lw_at lw_m6 101 rfl) rfl
theorem q1438 : (Jvm.Cond.soleField "AgainstFeatherModel" "balanceBelow") ∈ lw_all := lw_g (lw_at lw_m6 102 rfl) rfl
theorem q1439 : (Jvm.Cond.laysFinal "AgainstFeatherModel" "AgainstFeatherModel" "facts" "[I") ∈ lw_all := lw_g (lw_at lw_m6 103 rfl) rfl
theorem q1440 : (Jvm.Cond.soleField "AgainstFeatherModel" "facts") ∈ lw_all := lw_g (lw_at lw_m6 104 rfl) rfl
theorem q1441 : (Jvm.Cond.laysFinal "AgainstFeatherModel" "AgainstFeatherModel" "parts" "[I") ∈ lw_all := lw_g (lw_at lw_m6 105 rfl) rfl
theorem q1442 : (Jvm.Cond.soleField "AgainstFeatherModel" "parts") ∈ lw_all := lw_g (lw_at lw_m6 106 rfl) rfl
theorem q1443 : (Jvm.Cond.laysFinal "AgainstFeatherModel" "AgainstFeatherModel" "burdens" "[I") ∈ lw_all := lw_g (lw_at lw_m6 107 rfl) rfl
theorem q1444 : (Jvm.Cond.soleField "AgainstFeatherModel" "burdens") ∈ lw_all := lw_g (lw_at lw_m6 108 rfl) rfl
theorem q1445 : (Jvm.Cond.laysFinal "AgainstFeatherModel" "AgainstFeatherModel" "rights" "[J") ∈ lw_all := lw_g (lw_at lw_m6 109 rfl) rfl
theorem q1446 : (Jvm.Cond.soleField "AgainstFeatherModel" "rights") ∈ lw_all := lw_g (lw_at lw_m6 110 rfl) rfl
theorem q1447 : (Jvm.Cond.superclass "AgainstFeatherModel" "java/lang/Object") ∈ lw_all := lw_g (lw_at lw_m6 111 rfl) rfl
theorem q1450 : (Jvm.Cond.instanceMethod ({ cls := "AgainstFeatherModel", name := "heart", desc := "(I)I" } : Jvm.MethodName)) ∈ lw_all := lw_g (lw_at lw_m6 114 rfl) rfl
theorem q1451 : (Jvm.Cond.selects "AgainstFeatherModel" ({ cls := "AgainstFeatherModel", name := "heart", desc := "(I)I" } : Jvm.MethodName) ({ cls := "AgainstFeatherModel", name := "heart", desc := "(I)I" } : Jvm.MethodName)) ∈ lw_all := lw_g (lw_at lw_m6 115 rfl) rfl
theorem q1452 : (Jvm.Cond.code ({ cls := "AgainstFeatherModel", name := "heart", desc := "(I)I" } : Jvm.MethodName) prog_15_method_13_code (4 : Nat) (Option.some Jvm.ClassFile.FieldType.int)) ∈ lw_all := lw_g (lw_at lw_m6 116 rfl) rfl
theorem q1453 : (Jvm.Cond.methodLink "AgainstFeatherModel" (80 : Nat) ({ cls := "AgainstFeatherModel", name := "isIn", desc := "(III)Z" } : Jvm.MethodName)) ∈ lw_all := lw_g (lw_at lw_m6 117 rfl) rfl
theorem q1454 : (Jvm.Cond.static ({ cls := "AgainstFeatherModel", name := "isIn", desc := "(III)Z" } : Jvm.MethodName)) ∈ lw_all := lw_g (lw_at lw_m6 118 rfl) rfl
theorem q1455 : (Jvm.Cond.code ({ cls := "AgainstFeatherModel", name := "isIn", desc := "(III)Z" } : Jvm.MethodName) prog_15_method_3_code (3 : Nat) (Option.some Jvm.ClassFile.FieldType.boolean)) ∈ lw_all := lw_g (lw_at lw_m6 119 rfl) rfl
theorem q1457 : (Jvm.Cond.instanceMethod ({ cls := "AgainstFeatherModel", name := "deed", desc := "(IIIII)I" } : Jvm.MethodName)) ∈ lw_all := lw_g (lw_at lw_m6 121 rfl) rfl
theorem q1458 : (Jvm.Cond.selects "AgainstFeatherModel" ({ cls := "AgainstFeatherModel", name := "deed", desc := "(IIIII)I" } : Jvm.MethodName) ({ cls := "AgainstFeatherModel", name := "deed", desc := "(IIIII)I" } : Jvm.MethodName)) ∈ lw_all := lw_g (lw_at lw_m6 122 rfl) rfl
theorem q1459 : (Jvm.Cond.code ({ cls := "AgainstFeatherModel", name := "deed", desc := "(IIIII)I" } : Jvm.MethodName) prog_15_method_14_code (7 : Nat) (Option.some Jvm.ClassFile.FieldType.int)) ∈ lw_all := lw_g (lw_at lw_m6 123 rfl) rfl
theorem q1460 : (Jvm.Cond.methodLink "AgainstFeatherModel" (88 : Nat) ({ cls := "AgainstFeatherModel", name := "isHeart", desc := "(I)Z" } : Jvm.MethodName)) ∈ lw_all := lw_g (lw_at lw_m6 124 rfl) rfl
theorem q1461 : (Jvm.Cond.privateMethod ({ cls := "AgainstFeatherModel", name := "isHeart", desc := "(I)Z" } : Jvm.MethodName)) ∈ lw_tbl := lw_at lw_m6 125 rfl
theorem q1462 : (Jvm.Cond.instanceMethod ({ cls := "AgainstFeatherModel", name := "isHeart", desc := "(I)Z" } : Jvm.MethodName)) ∈ lw_all := lw_g (lw_at lw_m6 126 rfl) rfl
theorem q1463 : (Jvm.Cond.code ({ cls := "AgainstFeatherModel", name := "isHeart", desc := "(I)Z" } : Jvm.MethodName) prog_15_method_6_code (2 : Nat) (Option.some Jvm.ClassFile.FieldType.boolean)) ∈ lw_all := lw_g (lw_at lw_m6 127 rfl) rfl
theorem q1465 : (Jvm.Cond.instanceMethod ({ cls := "AgainstFeatherModel", name := "witness", desc := "(II)Z" } : Jvm.MethodName)) ∈ lw_all := lw_g (lw_at lw_m6 129 rfl) rfl
theorem q1466 : (Jvm.Cond.selects "AgainstFeatherModel" ({ cls := "AgainstFeatherModel", name := "witness", desc := "(II)Z" } : Jvm.MethodName) ({ cls := "AgainstFeatherModel", name := "witness", desc := "(II)Z" } : Jvm.MethodName)) ∈ lw_all := lw_g (lw_at lw_m6 130 rfl) rfl
theorem q1467 : (Jvm.Cond.code ({ cls := "AgainstFeatherModel", name := "witness", desc := "(II)Z" } : Jvm.MethodName) prog_15_method_15_code (3 : Nat) (Option.some Jvm.ClassFile.FieldType.boolean)) ∈ lw_all := lw_g (lw_at lw_m6 131 rfl) rfl
theorem q1468 : (Jvm.Cond.methodLink "AgainstFeatherModel" (92 : Nat) ({ cls := "AgainstFeatherModel", name := "isDeed", desc := "(I)Z" } : Jvm.MethodName)) ∈ lw_all := lw_g (lw_at lw_m6 132 rfl) rfl
theorem q1469 : (Jvm.Cond.privateMethod ({ cls := "AgainstFeatherModel", name := "isDeed", desc := "(I)Z" } : Jvm.MethodName)) ∈ lw_tbl := lw_at lw_m6 133 rfl
theorem q1470 : (Jvm.Cond.instanceMethod ({ cls := "AgainstFeatherModel", name := "isDeed", desc := "(I)Z" } : Jvm.MethodName)) ∈ lw_all := lw_g (lw_at lw_m6 134 rfl) rfl
theorem q1471 : (Jvm.Cond.code ({ cls := "AgainstFeatherModel", name := "isDeed", desc := "(I)Z" } : Jvm.MethodName) prog_15_method_7_code (2 : Nat) (Option.some Jvm.ClassFile.FieldType.boolean)) ∈ lw_all := lw_g (lw_at lw_m6 135 rfl) rfl
theorem q1472 : (Jvm.Cond.methodLink "AgainstFeatherModel" (95 : Nat) ({ cls := "AgainstFeatherModel", name := "areHearts", desc := "(I)Z" } : Jvm.MethodName)) ∈ lw_all := lw_g (lw_at lw_m6 136 rfl) rfl
theorem q1473 : (Jvm.Cond.privateMethod ({ cls := "AgainstFeatherModel", name := "areHearts", desc := "(I)Z" } : Jvm.MethodName)) ∈ lw_tbl := lw_at lw_m6 137 rfl
theorem q1474 : (Jvm.Cond.instanceMethod ({ cls := "AgainstFeatherModel", name := "areHearts", desc := "(I)Z" } : Jvm.MethodName)) ∈ lw_all := lw_g (lw_at lw_m6 138 rfl) rfl
theorem q1475 : (Jvm.Cond.code ({ cls := "AgainstFeatherModel", name := "areHearts", desc := "(I)Z" } : Jvm.MethodName) prog_15_method_9_code (2 : Nat) (Option.some Jvm.ClassFile.FieldType.boolean)) ∈ lw_all := lw_g (lw_at lw_m6 139 rfl) rfl
theorem q1477 : (Jvm.Cond.instanceMethod ({ cls := "AgainstFeatherModel", name := "judge", desc := "(I)I" } : Jvm.MethodName)) ∈ lw_all := lw_g (lw_at lw_m6 141 rfl) rfl
theorem q1478 : (Jvm.Cond.selects "AgainstFeatherModel" ({ cls := "AgainstFeatherModel", name := "judge", desc := "(I)I" } : Jvm.MethodName) ({ cls := "AgainstFeatherModel", name := "judge", desc := "(I)I" } : Jvm.MethodName)) ∈ lw_all := lw_g (lw_at lw_m6 142 rfl) rfl
theorem q1479 : (Jvm.Cond.code ({ cls := "AgainstFeatherModel", name := "judge", desc := "(I)I" } : Jvm.MethodName) prog_15_method_16_code (2 : Nat) (Option.some Jvm.ClassFile.FieldType.int)) ∈ lw_all := lw_g (lw_at lw_m6 143 rfl) rfl
theorem q1481 : (Jvm.Cond.instanceMethod ({ cls := "AgainstFeatherModel", name := "stick", desc := "(I)Z" } : Jvm.MethodName)) ∈ lw_all := lw_g (lw_at lw_m6 145 rfl) rfl
theorem q1482 : (Jvm.Cond.selects "AgainstFeatherModel" ({ cls := "AgainstFeatherModel", name := "stick", desc := "(I)Z" } : Jvm.MethodName) ({ cls := "AgainstFeatherModel", name := "stick", desc := "(I)Z" } : Jvm.MethodName)) ∈ lw_all := lw_g (lw_at lw_m6 146 rfl) rfl
theorem q1483 : (Jvm.Cond.code ({ cls := "AgainstFeatherModel", name := "stick", desc := "(I)Z" } : Jvm.MethodName) prog_15_method_17_code (2 : Nat) (Option.some Jvm.ClassFile.FieldType.boolean)) ∈ lw_all := lw_g (lw_at lw_m6 147 rfl) rfl
theorem q1485 : (Jvm.Cond.instanceMethod ({ cls := "AgainstFeatherModel", name := "bond", desc := "(III)Z" } : Jvm.MethodName)) ∈ lw_all := lw_g (lw_at lw_m6 149 rfl) rfl
theorem q1486 : (Jvm.Cond.selects "AgainstFeatherModel" ({ cls := "AgainstFeatherModel", name := "bond", desc := "(III)Z" } : Jvm.MethodName) ({ cls := "AgainstFeatherModel", name := "bond", desc := "(III)Z" } : Jvm.MethodName)) ∈ lw_all := lw_g (lw_at lw_m6 150 rfl) rfl
theorem q1487 : (Jvm.Cond.code ({ cls := "AgainstFeatherModel", name := "bond", desc := "(III)Z" } : Jvm.MethodName) prog_15_method_18_code (4 : Nat) (Option.some Jvm.ClassFile.FieldType.boolean)) ∈ lw_all := lw_g (lw_at lw_m6 151 rfl) rfl
theorem q1489 : (Jvm.Cond.instanceMethod ({ cls := "AgainstFeatherModel", name := "feed", desc := "(IIIII)I" } : Jvm.MethodName)) ∈ lw_all := lw_g (lw_at lw_m6 153 rfl) rfl
theorem q1490 : (Jvm.Cond.selects "AgainstFeatherModel" ({ cls := "AgainstFeatherModel", name := "feed", desc := "(IIIII)I" } : Jvm.MethodName) ({ cls := "AgainstFeatherModel", name := "feed", desc := "(IIIII)I" } : Jvm.MethodName)) ∈ lw_all := lw_g (lw_at lw_m6 154 rfl) rfl
theorem q1491 : (Jvm.Cond.code ({ cls := "AgainstFeatherModel", name := "feed", desc := "(IIIII)I" } : Jvm.MethodName) prog_15_method_20_code (6 : Nat) (Option.some Jvm.ClassFile.FieldType.int)) ∈ lw_all := lw_g (lw_at lw_m6 155 rfl) rfl
theorem q1492 : (Jvm.Cond.methodLink "AgainstFeatherModel" (101 : Nat) ({ cls := "AgainstFeatherModel", name := "four", desc := "(I)V" } : Jvm.MethodName)) ∈ lw_all := lw_g (lw_at lw_m6 156 rfl) rfl
theorem q1493 : (Jvm.Cond.privateMethod ({ cls := "AgainstFeatherModel", name := "four", desc := "(I)V" } : Jvm.MethodName)) ∈ lw_tbl := lw_at lw_m6 157 rfl
theorem q1494 : (Jvm.Cond.instanceMethod ({ cls := "AgainstFeatherModel", name := "four", desc := "(I)V" } : Jvm.MethodName)) ∈ lw_all := lw_g (lw_at lw_m6 158 rfl) rfl
theorem q1495 : (Jvm.Cond.code ({ cls := "AgainstFeatherModel", name := "four", desc := "(I)V" } : Jvm.MethodName) prog_15_method_19_code (3 : Nat) (Option.none : Option Jvm.ClassFile.FieldType)) ∈ lw_all := lw_g (lw_at lw_m6 159 rfl) rfl
theorem q1497 : (Jvm.Cond.instanceMethod ({ cls := "AgainstFeatherModel", name := "end", desc := "(I)I" } : Jvm.MethodName)) ∈ lw_all := lw_g (lw_at lw_m6 161 rfl) rfl
theorem q1498 : (Jvm.Cond.selects "AgainstFeatherModel" ({ cls := "AgainstFeatherModel", name := "end", desc := "(I)I" } : Jvm.MethodName) ({ cls := "AgainstFeatherModel", name := "end", desc := "(I)I" } : Jvm.MethodName)) ∈ lw_all := lw_g (lw_at lw_m6 162 rfl) rfl
theorem q1499 : (Jvm.Cond.code ({ cls := "AgainstFeatherModel", name := "end", desc := "(I)I" } : Jvm.MethodName) prog_15_method_21_code (2 : Nat) (Option.some Jvm.ClassFile.FieldType.int)) ∈ lw_all := lw_g (lw_at lw_m6 163 rfl) rfl
theorem q1501 : (Jvm.Cond.instanceMethod ({ cls := "AgainstFeatherModel", name := "text", desc := "()I" } : Jvm.MethodName)) ∈ lw_all := lw_g (lw_at lw_m6 165 rfl) rfl
theorem q1502 : (Jvm.Cond.selects "AgainstFeatherModel" ({ cls := "AgainstFeatherModel", name := "text", desc := "()I" } : Jvm.MethodName) ({ cls := "AgainstFeatherModel", name := "text", desc := "()I" } : Jvm.MethodName)) ∈ lw_all := lw_g (lw_at lw_m6 166 rfl) rfl
theorem q1503 : (Jvm.Cond.code ({ cls := "AgainstFeatherModel", name := "text", desc := "()I" } : Jvm.MethodName) prog_15_method_54_code (1 : Nat) (Option.some Jvm.ClassFile.FieldType.int)) ∈ lw_all := lw_g (lw_at lw_m6 167 rfl) rfl
theorem q1504 : (Jvm.Cond.methodLink "AgainstFeatherModel" (263 : Nat) ({ cls := "AgainstFeatherModel", name := "readText", desc := "()I" } : Jvm.MethodName)) ∈ lw_all := lw_g (lw_at lw_m6 168 rfl) rfl
theorem q1505 : (Jvm.Cond.privateMethod ({ cls := "AgainstFeatherModel", name := "readText", desc := "()I" } : Jvm.MethodName)) ∈ lw_tbl := lw_at lw_m6 169 rfl
theorem q1506 : (Jvm.Cond.instanceMethod ({ cls := "AgainstFeatherModel", name := "readText", desc := "()I" } : Jvm.MethodName)) ∈ lw_all := lw_g (lw_at lw_m6 170 rfl) rfl
theorem q1507 : (Jvm.Cond.code ({ cls := "AgainstFeatherModel", name := "readText", desc := "()I" } : Jvm.MethodName) prog_15_method_53_code (2 : Nat) (Option.some Jvm.ClassFile.FieldType.int)) ∈ lw_all := lw_g (lw_at lw_m6 171 rfl) rfl
theorem q1508 : (Jvm.Cond.methodLink "AgainstFeatherModel" (179 : Nat) ({ cls := "AgainstFeatherModel", name := "nextToken", desc := "()V" } : Jvm.MethodName)) ∈ lw_all := lw_g (lw_at lw_m6 172 rfl) rfl
theorem q1509 : (Jvm.Cond.privateMethod ({ cls := "AgainstFeatherModel", name := "nextToken", desc := "()V" } : Jvm.MethodName)) ∈ lw_tbl := lw_at lw_m6 173 rfl
theorem q1510 : (Jvm.Cond.instanceMethod ({ cls := "AgainstFeatherModel", name := "nextToken", desc := "()V" } : Jvm.MethodName)) ∈ lw_all := lw_g (lw_at lw_m6 174 rfl) rfl
theorem q1511 : (Jvm.Cond.code ({ cls := "AgainstFeatherModel", name := "nextToken", desc := "()V" } : Jvm.MethodName) prog_15_method_26_code (2 : Nat) (Option.none : Option Jvm.ClassFile.FieldType)) ∈ lw_all := lw_g (lw_at lw_m6 175 rfl) rfl
theorem q1512 : (Jvm.Cond.methodLink "AgainstFeatherModel" (108 : Nat) ({ cls := "AgainstFeatherModel", name := "byteAt", desc := "(I)I" } : Jvm.MethodName)) ∈ lw_all := lw_g (lw_at lw_m6 176 rfl) rfl
theorem q1513 : (Jvm.Cond.privateMethod ({ cls := "AgainstFeatherModel", name := "byteAt", desc := "(I)I" } : Jvm.MethodName)) ∈ lw_tbl := lw_at lw_m6 177 rfl
theorem q1514 : (Jvm.Cond.instanceMethod ({ cls := "AgainstFeatherModel", name := "byteAt", desc := "(I)I" } : Jvm.MethodName)) ∈ lw_all := lw_g (lw_at lw_m6 178 rfl) rfl
theorem q1515 : (Jvm.Cond.code ({ cls := "AgainstFeatherModel", name := "byteAt", desc := "(I)I" } : Jvm.MethodName) prog_15_method_22_code (2 : Nat) (Option.some Jvm.ClassFile.FieldType.int)) ∈ lw_all := lw_g (lw_at lw_m6 179 rfl) rfl
theorem q1516 : (Jvm.Cond.methodLink "AgainstFeatherModel" (118 : Nat) ({ cls := "AgainstFeatherModel", name := "isFigure", desc := "(I)Z" } : Jvm.MethodName)) ∈ lw_all := lw_g (lw_at lw_m6 180 rfl) rfl
theorem q1517 : (Jvm.Cond.static ({ cls := "AgainstFeatherModel", name := "isFigure", desc := "(I)Z" } : Jvm.MethodName)) ∈ lw_all := lw_g (lw_at lw_m6 181 rfl) rfl
theorem q1518 : (Jvm.Cond.code ({ cls := "AgainstFeatherModel", name := "isFigure", desc := "(I)Z" } : Jvm.MethodName) prog_15_method_24_code (1 : Nat) (Option.some Jvm.ClassFile.FieldType.boolean)) ∈ lw_all := lw_g (lw_at lw_m6 182 rfl) rfl
theorem q1519 : (Jvm.Cond.constant "AgainstFeatherModel" (124 : Nat) (99999 : Int32)) ∈ lw_all := lw_g (lw_at lw_m6 183 rfl) rfl
theorem q1520 : (Jvm.Cond.methodLink "AgainstFeatherModel" (125 : Nat) ({ cls := "AgainstFeatherModel", name := "isLetterByte", desc := "(I)Z" } : Jvm.MethodName)) ∈ lw_all := lw_g (lw_at lw_m6 184 rfl) rfl
theorem q1521 : (Jvm.Cond.static ({ cls := "AgainstFeatherModel", name := "isLetterByte", desc := "(I)Z" } : Jvm.MethodName)) ∈ lw_all := lw_g (lw_at lw_m6 185 rfl) rfl
theorem q1522 : (Jvm.Cond.code ({ cls := "AgainstFeatherModel", name := "isLetterByte", desc := "(I)Z" } : Jvm.MethodName) prog_15_method_23_code (1 : Nat) (Option.some Jvm.ClassFile.FieldType.boolean)) ∈ lw_all := lw_g (lw_at lw_m6 186 rfl) rfl
theorem q1523 : (Jvm.Cond.constantLong "AgainstFeatherModel" (132 : Nat) (1152921504606846976 : Int64)) ∈ lw_all := lw_g (lw_at lw_m6 187 rfl) rfl
theorem q1524 : (Jvm.Cond.methodLink "AgainstFeatherModel" (134 : Nat) ({ cls := "AgainstFeatherModel", name := "isSign", desc := "(I)Z" } : Jvm.MethodName)) ∈ lw_all := lw_g (lw_at lw_m6 188 rfl) rfl
theorem q1525 : (Jvm.Cond.static ({ cls := "AgainstFeatherModel", name := "isSign", desc := "(I)Z" } : Jvm.MethodName)) ∈ lw_all := lw_g (lw_at lw_m6 189 rfl) rfl
theorem q1526 : (Jvm.Cond.code ({ cls := "AgainstFeatherModel", name := "isSign", desc := "(I)Z" } : Jvm.MethodName) prog_15_method_25_code (1 : Nat) (Option.some Jvm.ClassFile.FieldType.boolean)) ∈ lw_all := lw_g (lw_at lw_m6 190 rfl) rfl
theorem q1527 : (Jvm.Cond.methodLink "AgainstFeatherModel" (260 : Nat) ({ cls := "AgainstFeatherModel", name := "clause", desc := "()I" } : Jvm.MethodName)) ∈ lw_all := lw_g (lw_at lw_m6 191 rfl) rfl
theorem q1528 : (Jvm.Cond.privateMethod ({ cls := "AgainstFeatherModel", name := "clause", desc := "()I" } : Jvm.MethodName)) ∈ lw_tbl := lw_at lw_m6 192 rfl
theorem q1529 : (Jvm.Cond.instanceMethod ({ cls := "AgainstFeatherModel", name := "clause", desc := "()I" } : Jvm.MethodName)) ∈ lw_all := lw_g (lw_at lw_m6 193 rfl) rfl
theorem q1530 : (Jvm.Cond.code ({ cls := "AgainstFeatherModel", name := "clause", desc := "()I" } : Jvm.MethodName) prog_15_method_52_code (5 : Nat) (Option.some Jvm.ClassFile.FieldType.int)) ∈ lw_all := lw_g (lw_at lw_m6 194 rfl) rfl
theorem q1531 : (Jvm.Cond.methodLink "AgainstFeatherModel" (251 : Nat) ({ cls := "AgainstFeatherModel", name := "sortOf", desc := "()I" } : Jvm.MethodName)) ∈ lw_all := lw_g (lw_at lw_m6 195 rfl) rfl
theorem q1532 : (Jvm.Cond.privateMethod ({ cls := "AgainstFeatherModel", name := "sortOf", desc := "()I" } : Jvm.MethodName)) ∈ lw_tbl := lw_at lw_m6 196 rfl
theorem q1533 : (Jvm.Cond.instanceMethod ({ cls := "AgainstFeatherModel", name := "sortOf", desc := "()I" } : Jvm.MethodName)) ∈ lw_all := lw_g (lw_at lw_m6 197 rfl) rfl
theorem q1534 : (Jvm.Cond.code ({ cls := "AgainstFeatherModel", name := "sortOf", desc := "()I" } : Jvm.MethodName) prog_15_method_51_code (1 : Nat) (Option.some Jvm.ClassFile.FieldType.int)) ∈ lw_all := lw_g (lw_at lw_m6 198 rfl) rfl
theorem q1535 : (Jvm.Cond.methodLink "AgainstFeatherModel" (155 : Nat) ({ cls := "AgainstFeatherModel", name := "w6", desc := "(IIIIII)J" } : Jvm.MethodName)) ∈ lw_all := lw_g (lw_at lw_m6 199 rfl) rfl
theorem q1536 : (Jvm.Cond.static ({ cls := "AgainstFeatherModel", name := "w6", desc := "(IIIIII)J" } : Jvm.MethodName)) ∈ lw_all := lw_g (lw_at lw_m6 200 rfl) rfl
theorem q1537 : (Jvm.Cond.code ({ cls := "AgainstFeatherModel", name := "w6", desc := "(IIIIII)J" } : Jvm.MethodName) prog_15_method_30_code (6 : Nat) (Option.some Jvm.ClassFile.FieldType.long)) ∈ lw_all := lw_g (lw_at lw_m6 201 rfl) rfl
theorem q1538 : (Jvm.Cond.methodLink "AgainstFeatherModel" (145 : Nat) ({ cls := "AgainstFeatherModel", name := "w5", desc := "(IIIII)J" } : Jvm.MethodName)) ∈ lw_all := lw_g (lw_at lw_m6 202 rfl) rfl
theorem q1539 : (Jvm.Cond.static ({ cls := "AgainstFeatherModel", name := "w5", desc := "(IIIII)J" } : Jvm.MethodName)) ∈ lw_all := lw_g (lw_at lw_m6 203 rfl) rfl
theorem q1540 : (Jvm.Cond.code ({ cls := "AgainstFeatherModel", name := "w5", desc := "(IIIII)J" } : Jvm.MethodName) prog_15_method_29_code (5 : Nat) (Option.some Jvm.ClassFile.FieldType.long)) ∈ lw_all := lw_g (lw_at lw_m6 204 rfl) rfl
theorem q1541 : (Jvm.Cond.methodLink "AgainstFeatherModel" (141 : Nat) ({ cls := "AgainstFeatherModel", name := "w4", desc := "(IIII)J" } : Jvm.MethodName)) ∈ lw_all := lw_g (lw_at lw_m6 205 rfl) rfl
theorem q1542 : (Jvm.Cond.static ({ cls := "AgainstFeatherModel", name := "w4", desc := "(IIII)J" } : Jvm.MethodName)) ∈ lw_all := lw_g (lw_at lw_m6 206 rfl) rfl
theorem q1543 : (Jvm.Cond.code ({ cls := "AgainstFeatherModel", name := "w4", desc := "(IIII)J" } : Jvm.MethodName) prog_15_method_28_code (4 : Nat) (Option.some Jvm.ClassFile.FieldType.long)) ∈ lw_all := lw_g (lw_at lw_m6 207 rfl) rfl
theorem q1544 : (Jvm.Cond.methodLink "AgainstFeatherModel" (137 : Nat) ({ cls := "AgainstFeatherModel", name := "w3", desc := "(III)J" } : Jvm.MethodName)) ∈ lw_all := lw_g (lw_at lw_m6 208 rfl) rfl
theorem q1545 : (Jvm.Cond.static ({ cls := "AgainstFeatherModel", name := "w3", desc := "(III)J" } : Jvm.MethodName)) ∈ lw_all := lw_g (lw_at lw_m6 209 rfl) rfl
theorem q1546 : (Jvm.Cond.code ({ cls := "AgainstFeatherModel", name := "w3", desc := "(III)J" } : Jvm.MethodName) prog_15_method_27_code (3 : Nat) (Option.some Jvm.ClassFile.FieldType.long)) ∈ lw_all := lw_g (lw_at lw_m6 210 rfl) rfl
theorem q1547 : (Jvm.Cond.methodLink "AgainstFeatherModel" (207 : Nat) ({ cls := "AgainstFeatherModel", name := "isWord", desc := "(J)Z" } : Jvm.MethodName)) ∈ lw_all := lw_g (lw_at lw_m6 211 rfl) rfl
theorem q1548 : (Jvm.Cond.privateMethod ({ cls := "AgainstFeatherModel", name := "isWord", desc := "(J)Z" } : Jvm.MethodName)) ∈ lw_tbl := lw_at lw_m6 212 rfl
theorem q1549 : (Jvm.Cond.instanceMethod ({ cls := "AgainstFeatherModel", name := "isWord", desc := "(J)Z" } : Jvm.MethodName)) ∈ lw_all := lw_g (lw_at lw_m6 213 rfl) rfl
theorem q1550 : (Jvm.Cond.code ({ cls := "AgainstFeatherModel", name := "isWord", desc := "(J)Z" } : Jvm.MethodName) prog_15_method_31_code (3 : Nat) (Option.some Jvm.ClassFile.FieldType.boolean)) ∈ lw_all := lw_g (lw_at lw_m6 214 rfl) rfl
theorem q1551 : (Jvm.Cond.constantLong "AgainstFeatherModel" (247 : Nat) (30064 : Int64)) ∈ lw_all := lw_g (lw_at lw_m6 215 rfl) rfl
theorem q1552 : (Jvm.Cond.constantLong "AgainstFeatherModel" (249 : Nat) (28271 : Int64)) ∈ lw_all := lw_g (lw_at lw_m6 216 rfl) rfl
theorem q1553 : (Jvm.Cond.methodLink "AgainstFeatherModel" (224 : Nat) ({ cls := "AgainstFeatherModel", name := "has", desc := "(II)Z" } : Jvm.MethodName)) ∈ lw_all := lw_g (lw_at lw_m6 217 rfl) rfl
theorem q1554 : (Jvm.Cond.static ({ cls := "AgainstFeatherModel", name := "has", desc := "(II)Z" } : Jvm.MethodName)) ∈ lw_all := lw_g (lw_at lw_m6 218 rfl) rfl
theorem q1555 : (Jvm.Cond.code ({ cls := "AgainstFeatherModel", name := "has", desc := "(II)Z" } : Jvm.MethodName) prog_15_method_4_code (2 : Nat) (Option.some Jvm.ClassFile.FieldType.boolean)) ∈ lw_all := lw_g (lw_at lw_m6 219 rfl) rfl
theorem q1556 : (Jvm.Cond.methodLink "AgainstFeatherModel" (257 : Nat) ({ cls := "AgainstFeatherModel", name := "body", desc := "(II)I" } : Jvm.MethodName)) ∈ lw_all := lw_g (lw_at lw_m6 220 rfl) rfl
theorem q1557 : (Jvm.Cond.privateMethod ({ cls := "AgainstFeatherModel", name := "body", desc := "(II)I" } : Jvm.MethodName)) ∈ lw_tbl := lw_at lw_m6 221 rfl
theorem q1558 : (Jvm.Cond.instanceMethod ({ cls := "AgainstFeatherModel", name := "body", desc := "(II)I" } : Jvm.MethodName)) ∈ lw_all := lw_g (lw_at lw_m6 222 rfl) rfl
theorem q1559 : (Jvm.Cond.code ({ cls := "AgainstFeatherModel", name := "body", desc := "(II)I" } : Jvm.MethodName) prog_15_method_50_code (3 : Nat) (Option.some Jvm.ClassFile.FieldType.int)) ∈ lw_all := lw_g (lw_at lw_m6 223 rfl) rfl
theorem q1560 : (Jvm.Cond.methodLink "AgainstFeatherModel" (211 : Nat) ({ cls := "AgainstFeatherModel", name := "figure", desc := "(III)I" } : Jvm.MethodName)) ∈ lw_all := lw_g (lw_at lw_m6 224 rfl) rfl
theorem q1561 : (Jvm.Cond.privateMethod ({ cls := "AgainstFeatherModel", name := "figure", desc := "(III)I" } : Jvm.MethodName)) ∈ lw_tbl := lw_at lw_m6 225 rfl
theorem q1562 : (Jvm.Cond.instanceMethod ({ cls := "AgainstFeatherModel", name := "figure", desc := "(III)I" } : Jvm.MethodName)) ∈ lw_all := lw_g (lw_at lw_m6 226 rfl) rfl
theorem q1563 : (Jvm.Cond.code ({ cls := "AgainstFeatherModel", name := "figure", desc := "(III)I" } : Jvm.MethodName) prog_15_method_43_code (4 : Nat) (Option.some Jvm.ClassFile.FieldType.int)) ∈ lw_all := lw_g (lw_at lw_m6 227 rfl) rfl
theorem q1564 : (Jvm.Cond.methodLink "AgainstFeatherModel" (235 : Nat) ({ cls := "AgainstFeatherModel", name := "deedClause", desc := "(I)I" } : Jvm.MethodName)) ∈ lw_all := lw_g (lw_at lw_m6 228 rfl) rfl
theorem q1565 : (Jvm.Cond.privateMethod ({ cls := "AgainstFeatherModel", name := "deedClause", desc := "(I)I" } : Jvm.MethodName)) ∈ lw_tbl := lw_at lw_m6 229 rfl
theorem q1566 : (Jvm.Cond.instanceMethod ({ cls := "AgainstFeatherModel", name := "deedClause", desc := "(I)I" } : Jvm.MethodName)) ∈ lw_all := lw_g (lw_at lw_m6 230 rfl) rfl
theorem q1567 : (Jvm.Cond.code ({ cls := "AgainstFeatherModel", name := "deedClause", desc := "(I)I" } : Jvm.MethodName) prog_15_method_46_code (4 : Nat) (Option.some Jvm.ClassFile.FieldType.int)) ∈ lw_all := lw_g (lw_at lw_m6 231 rfl) rfl
theorem q1568 : (Jvm.Cond.methodLink "AgainstFeatherModel" (215 : Nat) ({ cls := "AgainstFeatherModel", name := "worded", desc := "(JIII)I" } : Jvm.MethodName)) ∈ lw_all := lw_g (lw_at lw_m6 232 rfl) rfl
theorem q1569 : (Jvm.Cond.privateMethod ({ cls := "AgainstFeatherModel", name := "worded", desc := "(JIII)I" } : Jvm.MethodName)) ∈ lw_tbl := lw_at lw_m6 233 rfl
theorem q1570 : (Jvm.Cond.instanceMethod ({ cls := "AgainstFeatherModel", name := "worded", desc := "(JIII)I" } : Jvm.MethodName)) ∈ lw_all := lw_g (lw_at lw_m6 234 rfl) rfl
theorem q1571 : (Jvm.Cond.code ({ cls := "AgainstFeatherModel", name := "worded", desc := "(JIII)I" } : Jvm.MethodName) prog_15_method_44_code (6 : Nat) (Option.some Jvm.ClassFile.FieldType.int)) ∈ lw_all := lw_g (lw_at lw_m6 235 rfl) rfl
theorem q1572 : (Jvm.Cond.constantLong "AgainstFeatherModel" (219 : Nat) (28518 : Int64)) ∈ lw_all := lw_g (lw_at lw_m6 236 rfl) rfl
theorem q1573 : (Jvm.Cond.methodLink "AgainstFeatherModel" (221 : Nat) ({ cls := "AgainstFeatherModel", name := "marksOf", desc := "()I" } : Jvm.MethodName)) ∈ lw_all := lw_g (lw_at lw_m6 237 rfl) rfl
theorem q1574 : (Jvm.Cond.privateMethod ({ cls := "AgainstFeatherModel", name := "marksOf", desc := "()I" } : Jvm.MethodName)) ∈ lw_tbl := lw_at lw_m6 238 rfl
theorem q1575 : (Jvm.Cond.instanceMethod ({ cls := "AgainstFeatherModel", name := "marksOf", desc := "()I" } : Jvm.MethodName)) ∈ lw_all := lw_g (lw_at lw_m6 239 rfl) rfl
theorem q1576 : (Jvm.Cond.code ({ cls := "AgainstFeatherModel", name := "marksOf", desc := "()I" } : Jvm.MethodName) prog_15_method_45_code (1 : Nat) (Option.some Jvm.ClassFile.FieldType.int)) ∈ lw_all := lw_g (lw_at lw_m7 0 rfl) rfl
theorem q1577 : (Jvm.Cond.methodLink "AgainstFeatherModel" (238 : Nat) ({ cls := "AgainstFeatherModel", name := "judgeClause", desc := "(I)I" } : Jvm.MethodName)) ∈ lw_all := lw_g (lw_at lw_m7 1 rfl) rfl
theorem q1578 : (Jvm.Cond.privateMethod ({ cls := "AgainstFeatherModel", name := "judgeClause", desc := "(I)I" } : Jvm.MethodName)) ∈ lw_tbl := lw_at lw_m7 2 rfl
theorem q1579 : (Jvm.Cond.instanceMethod ({ cls := "AgainstFeatherModel", name := "judgeClause", desc := "(I)I" } : Jvm.MethodName)) ∈ lw_all := lw_g (lw_at lw_m7 3 rfl) rfl
theorem q1580 : (Jvm.Cond.code ({ cls := "AgainstFeatherModel", name := "judgeClause", desc := "(I)I" } : Jvm.MethodName) prog_15_method_47_code (4 : Nat) (Option.some Jvm.ClassFile.FieldType.int)) ∈ lw_all := lw_g (lw_at lw_m7 4 rfl) rfl
theorem q1581 : (Jvm.Cond.methodLink "AgainstFeatherModel" (241 : Nat) ({ cls := "AgainstFeatherModel", name := "lendClause", desc := "(I)I" } : Jvm.MethodName)) ∈ lw_all := lw_g (lw_at lw_m7 5 rfl) rfl
theorem q1582 : (Jvm.Cond.privateMethod ({ cls := "AgainstFeatherModel", name := "lendClause", desc := "(I)I" } : Jvm.MethodName)) ∈ lw_tbl := lw_at lw_m7 6 rfl
theorem q1583 : (Jvm.Cond.instanceMethod ({ cls := "AgainstFeatherModel", name := "lendClause", desc := "(I)I" } : Jvm.MethodName)) ∈ lw_all := lw_g (lw_at lw_m7 7 rfl) rfl
theorem q1584 : (Jvm.Cond.code ({ cls := "AgainstFeatherModel", name := "lendClause", desc := "(I)I" } : Jvm.MethodName) prog_15_method_48_code (3 : Nat) (Option.some Jvm.ClassFile.FieldType.int)) ∈ lw_all := lw_g (lw_at lw_m7 8 rfl) rfl
theorem q1585 : (Jvm.Cond.constantLong "AgainstFeatherModel" (228 : Nat) (29807 : Int64)) ∈ lw_all := lw_g (lw_at lw_m7 9 rfl) rfl
theorem q1586 : (Jvm.Cond.constantLong "AgainstFeatherModel" (230 : Nat) (25209 : Int64)) ∈ lw_all := lw_g (lw_at lw_m7 10 rfl) rfl
theorem q1587 : (Jvm.Cond.methodLink "AgainstFeatherModel" (244 : Nat) ({ cls := "AgainstFeatherModel", name := "lawClause", desc := "(I)I" } : Jvm.MethodName)) ∈ lw_all := lw_g (lw_at lw_m7 11 rfl) rfl
theorem q1588 : (Jvm.Cond.privateMethod ({ cls := "AgainstFeatherModel", name := "lawClause", desc := "(I)I" } : Jvm.MethodName)) ∈ lw_tbl := lw_at lw_m7 12 rfl
theorem q1589 : (Jvm.Cond.instanceMethod ({ cls := "AgainstFeatherModel", name := "lawClause", desc := "(I)I" } : Jvm.MethodName)) ∈ lw_all := lw_g (lw_at lw_m7 13 rfl) rfl
theorem q1590 : (Jvm.Cond.code ({ cls := "AgainstFeatherModel", name := "lawClause", desc := "(I)I" } : Jvm.MethodName) prog_15_method_49_code (3 : Nat) (Option.some Jvm.ClassFile.FieldType.int)) ∈ lw_all := lw_g (lw_at lw_m7 14 rfl) rfl
theorem q1591 : (Jvm.Cond.methodLink "AgainstFeatherModel" (232 : Nat) ({ cls := "AgainstFeatherModel", name := "summed", desc := "()I" } : Jvm.MethodName)) ∈ lw_all := lw_g (lw_at lw_m7 15 rfl) rfl
theorem q1592 : (Jvm.Cond.privateMethod ({ cls := "AgainstFeatherModel", name := "summed", desc := "()I" } : Jvm.MethodName)) ∈ lw_tbl := lw_at lw_m7 16 rfl
theorem q1593 : (Jvm.Cond.instanceMethod ({ cls := "AgainstFeatherModel", name := "summed", desc := "()I" } : Jvm.MethodName)) ∈ lw_all := lw_g (lw_at lw_m7 17 rfl) rfl
theorem q1594 : (Jvm.Cond.code ({ cls := "AgainstFeatherModel", name := "summed", desc := "()I" } : Jvm.MethodName) prog_15_method_42_code (2 : Nat) (Option.some Jvm.ClassFile.FieldType.int)) ∈ lw_all := lw_g (lw_at lw_m7 18 rfl) rfl
theorem q1595 : (Jvm.Cond.methodLink "AgainstFeatherModel" (201 : Nat) ({ cls := "AgainstFeatherModel", name := "behindOne", desc := "()I" } : Jvm.MethodName)) ∈ lw_all := lw_g (lw_at lw_m7 19 rfl) rfl
theorem q1596 : (Jvm.Cond.privateMethod ({ cls := "AgainstFeatherModel", name := "behindOne", desc := "()I" } : Jvm.MethodName)) ∈ lw_tbl := lw_at lw_m7 20 rfl
theorem q1597 : (Jvm.Cond.instanceMethod ({ cls := "AgainstFeatherModel", name := "behindOne", desc := "()I" } : Jvm.MethodName)) ∈ lw_all := lw_g (lw_at lw_m7 21 rfl) rfl
theorem q1598 : (Jvm.Cond.code ({ cls := "AgainstFeatherModel", name := "behindOne", desc := "()I" } : Jvm.MethodName) prog_15_method_41_code (3 : Nat) (Option.some Jvm.ClassFile.FieldType.int)) ∈ lw_all := lw_g (lw_at lw_m7 22 rfl) rfl
theorem q1599 : (Jvm.Cond.methodLink "AgainstFeatherModel" (169 : Nat) ({ cls := "AgainstFeatherModel", name := "rank", desc := "(I)I" } : Jvm.MethodName)) ∈ lw_all := lw_g (lw_at lw_m7 23 rfl) rfl
theorem q1600 : (Jvm.Cond.static ({ cls := "AgainstFeatherModel", name := "rank", desc := "(I)I" } : Jvm.MethodName)) ∈ lw_all := lw_g (lw_at lw_m7 24 rfl) rfl
theorem q1601 : (Jvm.Cond.code ({ cls := "AgainstFeatherModel", name := "rank", desc := "(I)I" } : Jvm.MethodName) prog_15_method_36_code (1 : Nat) (Option.some Jvm.ClassFile.FieldType.int)) ∈ lw_all := lw_g (lw_at lw_m7 25 rfl) rfl
theorem q1602 : (Jvm.Cond.methodLink "AgainstFeatherModel" (192 : Nat) ({ cls := "AgainstFeatherModel", name := "settlePile", desc := "(I)V" } : Jvm.MethodName)) ∈ lw_all := lw_g (lw_at lw_m7 26 rfl) rfl
theorem q1603 : (Jvm.Cond.privateMethod ({ cls := "AgainstFeatherModel", name := "settlePile", desc := "(I)V" } : Jvm.MethodName)) ∈ lw_tbl := lw_at lw_m7 27 rfl
theorem q1604 : (Jvm.Cond.instanceMethod ({ cls := "AgainstFeatherModel", name := "settlePile", desc := "(I)V" } : Jvm.MethodName)) ∈ lw_all := lw_g (lw_at lw_m7 28 rfl) rfl
theorem q1605 : (Jvm.Cond.code ({ cls := "AgainstFeatherModel", name := "settlePile", desc := "(I)V" } : Jvm.MethodName) prog_15_method_37_code (2 : Nat) (Option.none : Option Jvm.ClassFile.FieldType)) ∈ lw_all := lw_g (lw_at lw_m7 29 rfl) rfl
theorem q1606 : (Jvm.Cond.methodLink "AgainstFeatherModel" (172 : Nat) ({ cls := "AgainstFeatherModel", name := "emit", desc := "(II)V" } : Jvm.MethodName)) ∈ lw_all := lw_g (lw_at lw_m7 30 rfl) rfl
theorem q1607 : (Jvm.Cond.privateMethod ({ cls := "AgainstFeatherModel", name := "emit", desc := "(II)V" } : Jvm.MethodName)) ∈ lw_tbl := lw_at lw_m7 31 rfl
theorem q1608 : (Jvm.Cond.instanceMethod ({ cls := "AgainstFeatherModel", name := "emit", desc := "(II)V" } : Jvm.MethodName)) ∈ lw_all := lw_g (lw_at lw_m7 32 rfl) rfl
theorem q1609 : (Jvm.Cond.code ({ cls := "AgainstFeatherModel", name := "emit", desc := "(II)V" } : Jvm.MethodName) prog_15_method_32_code (3 : Nat) (Option.none : Option Jvm.ClassFile.FieldType)) ∈ lw_all := lw_g (lw_at lw_m7 33 rfl) rfl
theorem q1610 : (Jvm.Cond.methodLink "AgainstFeatherModel" (198 : Nat) ({ cls := "AgainstFeatherModel", name := "openAt", desc := "()I" } : Jvm.MethodName)) ∈ lw_all := lw_g (lw_at lw_m7 34 rfl) rfl
theorem q1611 : (Jvm.Cond.privateMethod ({ cls := "AgainstFeatherModel", name := "openAt", desc := "()I" } : Jvm.MethodName)) ∈ lw_tbl := lw_at lw_m7 35 rfl
theorem q1612 : (Jvm.Cond.instanceMethod ({ cls := "AgainstFeatherModel", name := "openAt", desc := "()I" } : Jvm.MethodName)) ∈ lw_all := lw_g (lw_at lw_m7 36 rfl) rfl
theorem q1613 : (Jvm.Cond.code ({ cls := "AgainstFeatherModel", name := "openAt", desc := "()I" } : Jvm.MethodName) prog_15_method_40_code (2 : Nat) (Option.some Jvm.ClassFile.FieldType.int)) ∈ lw_all := lw_g (lw_at lw_m7 37 rfl) rfl
theorem q1614 : (Jvm.Cond.methodLink "AgainstFeatherModel" (204 : Nat) ({ cls := "AgainstFeatherModel", name := "beginOne", desc := "()I" } : Jvm.MethodName)) ∈ lw_all := lw_g (lw_at lw_m7 38 rfl) rfl
theorem q1615 : (Jvm.Cond.privateMethod ({ cls := "AgainstFeatherModel", name := "beginOne", desc := "()I" } : Jvm.MethodName)) ∈ lw_tbl := lw_at lw_m7 39 rfl
theorem q1616 : (Jvm.Cond.instanceMethod ({ cls := "AgainstFeatherModel", name := "beginOne", desc := "()I" } : Jvm.MethodName)) ∈ lw_all := lw_g (lw_at lw_m7 40 rfl) rfl
theorem q1617 : (Jvm.Cond.code ({ cls := "AgainstFeatherModel", name := "beginOne", desc := "()I" } : Jvm.MethodName) prog_15_method_39_code (2 : Nat) (Option.some Jvm.ClassFile.FieldType.int)) ∈ lw_all := lw_g (lw_at lw_m7 41 rfl) rfl
theorem q1618 : (Jvm.Cond.methodLink "AgainstFeatherModel" (182 : Nat) ({ cls := "AgainstFeatherModel", name := "nameOf", desc := "()I" } : Jvm.MethodName)) ∈ lw_all := lw_g (lw_at lw_m7 42 rfl) rfl
theorem q1619 : (Jvm.Cond.privateMethod ({ cls := "AgainstFeatherModel", name := "nameOf", desc := "()I" } : Jvm.MethodName)) ∈ lw_tbl := lw_at lw_m7 43 rfl
theorem q1620 : (Jvm.Cond.instanceMethod ({ cls := "AgainstFeatherModel", name := "nameOf", desc := "()I" } : Jvm.MethodName)) ∈ lw_all := lw_g (lw_at lw_m7 44 rfl) rfl
theorem q1621 : (Jvm.Cond.code ({ cls := "AgainstFeatherModel", name := "nameOf", desc := "()I" } : Jvm.MethodName) prog_15_method_33_code (1 : Nat) (Option.some Jvm.ClassFile.FieldType.int)) ∈ lw_all := lw_g (lw_at lw_m7 45 rfl) rfl
theorem q1622 : (Jvm.Cond.methodLink "AgainstFeatherModel" (159 : Nat) ({ cls := "AgainstFeatherModel", name := "laterName", desc := "()I" } : Jvm.MethodName)) ∈ lw_all := lw_g (lw_at lw_m7 46 rfl) rfl
theorem q1623 : (Jvm.Cond.privateMethod ({ cls := "AgainstFeatherModel", name := "laterName", desc := "()I" } : Jvm.MethodName)) ∈ lw_tbl := lw_at lw_m7 47 rfl
theorem q1624 : (Jvm.Cond.instanceMethod ({ cls := "AgainstFeatherModel", name := "laterName", desc := "()I" } : Jvm.MethodName)) ∈ lw_all := lw_g (lw_at lw_m7 48 rfl) rfl
theorem q1625 : (Jvm.Cond.code ({ cls := "AgainstFeatherModel", name := "laterName", desc := "()I" } : Jvm.MethodName) prog_15_method_34_code (1 : Nat) (Option.some Jvm.ClassFile.FieldType.int)) ∈ lw_all := lw_g (lw_at lw_m7 49 rfl) rfl
theorem q1626 : (Jvm.Cond.methodLink "AgainstFeatherModel" (185 : Nat) ({ cls := "AgainstFeatherModel", name := "isOf", desc := "(I)Z" } : Jvm.MethodName)) ∈ lw_all := lw_g (lw_at lw_m7 50 rfl) rfl
theorem q1627 : (Jvm.Cond.privateMethod ({ cls := "AgainstFeatherModel", name := "isOf", desc := "(I)Z" } : Jvm.MethodName)) ∈ lw_tbl := lw_at lw_m7 51 rfl
theorem q1628 : (Jvm.Cond.instanceMethod ({ cls := "AgainstFeatherModel", name := "isOf", desc := "(I)Z" } : Jvm.MethodName)) ∈ lw_all := lw_g (lw_at lw_m7 52 rfl) rfl
theorem q1629 : (Jvm.Cond.code ({ cls := "AgainstFeatherModel", name := "isOf", desc := "(I)Z" } : Jvm.MethodName) prog_15_method_35_code (2 : Nat) (Option.some Jvm.ClassFile.FieldType.boolean)) ∈ lw_all := lw_g (lw_at lw_m7 53 rfl) rfl
theorem q1630 : (Jvm.Cond.methodLink "AgainstFeatherModel" (195 : Nat) ({ cls := "AgainstFeatherModel", name := "opened", desc := "(I)I" } : Jvm.MethodName)) ∈ lw_all := lw_g (lw_at lw_m7 54 rfl) rfl
theorem q1631 : (Jvm.Cond.privateMethod ({ cls := "AgainstFeatherModel", name := "opened", desc := "(I)I" } : Jvm.MethodName)) ∈ lw_tbl := lw_at lw_m7 55 rfl
theorem q1632 : (Jvm.Cond.instanceMethod ({ cls := "AgainstFeatherModel", name := "opened", desc := "(I)I" } : Jvm.MethodName)) ∈ lw_all := lw_g (lw_at lw_m7 56 rfl) rfl
theorem q1633 : (Jvm.Cond.code ({ cls := "AgainstFeatherModel", name := "opened", desc := "(I)I" } : Jvm.MethodName) prog_15_method_38_code (2 : Nat) (Option.some Jvm.ClassFile.FieldType.int)) ∈ lw_all := lw_g (lw_at lw_m7 57 rfl) rfl
theorem q1635 : (Jvm.Cond.instanceMethod ({ cls := "AgainstFeatherModel", name := "fault", desc := "(I)I" } : Jvm.MethodName)) ∈ lw_all := lw_g (lw_at lw_m7 59 rfl) rfl
theorem q1636 : (Jvm.Cond.selects "AgainstFeatherModel" ({ cls := "AgainstFeatherModel", name := "fault", desc := "(I)I" } : Jvm.MethodName) ({ cls := "AgainstFeatherModel", name := "fault", desc := "(I)I" } : Jvm.MethodName)) ∈ lw_all := lw_g (lw_at lw_m7 60 rfl) rfl
theorem q1637 : (Jvm.Cond.code ({ cls := "AgainstFeatherModel", name := "fault", desc := "(I)I" } : Jvm.MethodName) prog_15_method_55_code (2 : Nat) (Option.some Jvm.ClassFile.FieldType.int)) ∈ lw_all := lw_g (lw_at lw_m7 61 rfl) rfl
theorem q1639 : (Jvm.Cond.instanceMethod ({ cls := "AgainstFeatherModel", name := "by", desc := "(I)Z" } : Jvm.MethodName)) ∈ lw_all := lw_g (lw_at lw_m7 63 rfl) rfl
theorem q1640 : (Jvm.Cond.selects "AgainstFeatherModel" ({ cls := "AgainstFeatherModel", name := "by", desc := "(I)Z" } : Jvm.MethodName) ({ cls := "AgainstFeatherModel", name := "by", desc := "(I)Z" } : Jvm.MethodName)) ∈ lw_all := lw_g (lw_at lw_m7 64 rfl) rfl
theorem q1641 : (Jvm.Cond.code ({ cls := "AgainstFeatherModel", name := "by", desc := "(I)Z" } : Jvm.MethodName) prog_15_method_56_code (2 : Nat) (Option.some Jvm.ClassFile.FieldType.boolean)) ∈ lw_all := lw_g (lw_at lw_m7 65 rfl) rfl
theorem q1643 : (Jvm.Cond.instanceMethod ({ cls := "AgainstFeatherModel", name := "undo", desc := "()I" } : Jvm.MethodName)) ∈ lw_all := lw_g (lw_at lw_m7 67 rfl) rfl
theorem q1644 : (Jvm.Cond.selects "AgainstFeatherModel" ({ cls := "AgainstFeatherModel", name := "undo", desc := "()I" } : Jvm.MethodName) ({ cls := "AgainstFeatherModel", name := "undo", desc := "()I" } : Jvm.MethodName)) ∈ lw_all := lw_g (lw_at lw_m7 68 rfl) rfl
theorem q1645 : (Jvm.Cond.code ({ cls := "AgainstFeatherModel", name := "undo", desc := "()I" } : Jvm.MethodName) prog_15_method_74_code (3 : Nat) (Option.some Jvm.ClassFile.FieldType.int)) ∈ lw_all := lw_g (lw_at lw_m7 69 rfl) rfl
theorem q1647 : (Jvm.Cond.instanceMethod ({ cls := "AgainstFeatherModel", name := "lend", desc := "(III)Z" } : Jvm.MethodName)) ∈ lw_all := lw_g (lw_at lw_m7 71 rfl) rfl
theorem q1648 : (Jvm.Cond.selects "AgainstFeatherModel" ({ cls := "AgainstFeatherModel", name := "lend", desc := "(III)Z" } : Jvm.MethodName) ({ cls := "AgainstFeatherModel", name := "lend", desc := "(III)Z" } : Jvm.MethodName)) ∈ lw_all := lw_g (lw_at lw_m7 72 rfl) rfl
theorem q1649 : (Jvm.Cond.code ({ cls := "AgainstFeatherModel", name := "lend", desc := "(III)Z" } : Jvm.MethodName) prog_15_method_75_code (4 : Nat) (Option.some Jvm.ClassFile.FieldType.boolean)) ∈ lw_all := lw_g (lw_at lw_m7 73 rfl) rfl
theorem q1650 : (Jvm.Cond.methodLink "AgainstFeatherModel" (318 : Nat) ({ cls := "AgainstFeatherModel", name := "keep", desc := "()V" } : Jvm.MethodName)) ∈ lw_all := lw_g (lw_at lw_m7 74 rfl) rfl
theorem q1651 : (Jvm.Cond.privateMethod ({ cls := "AgainstFeatherModel", name := "keep", desc := "()V" } : Jvm.MethodName)) ∈ lw_tbl := lw_at lw_m7 75 rfl
theorem q1652 : (Jvm.Cond.instanceMethod ({ cls := "AgainstFeatherModel", name := "keep", desc := "()V" } : Jvm.MethodName)) ∈ lw_all := lw_g (lw_at lw_m7 76 rfl) rfl
theorem q1653 : (Jvm.Cond.code ({ cls := "AgainstFeatherModel", name := "keep", desc := "()V" } : Jvm.MethodName) prog_15_method_73_code (3 : Nat) (Option.none : Option Jvm.ClassFile.FieldType)) ∈ lw_all := lw_g (lw_at lw_m7 77 rfl) rfl
theorem q1655 : (Jvm.Cond.instanceMethod ({ cls := "AgainstFeatherModel", name := "weigh", desc := "(I)I" } : Jvm.MethodName)) ∈ lw_all := lw_g (lw_at lw_m7 79 rfl) rfl
theorem q1656 : (Jvm.Cond.selects "AgainstFeatherModel" ({ cls := "AgainstFeatherModel", name := "weigh", desc := "(I)I" } : Jvm.MethodName) ({ cls := "AgainstFeatherModel", name := "weigh", desc := "(I)I" } : Jvm.MethodName)) ∈ lw_all := lw_g (lw_at lw_m7 80 rfl) rfl
theorem q1657 : (Jvm.Cond.code ({ cls := "AgainstFeatherModel", name := "weigh", desc := "(I)I" } : Jvm.MethodName) prog_15_method_76_code (2 : Nat) (Option.some Jvm.ClassFile.FieldType.int)) ∈ lw_all := lw_g (lw_at lw_m7 81 rfl) rfl
theorem q1658 : (Jvm.Cond.constant "AgainstFeatherModel" (321 : Nat) (-100000 : Int32)) ∈ lw_all := lw_g (lw_at lw_m7 82 rfl) rfl
theorem q1659 : (Jvm.Cond.methodLink "AgainstFeatherModel" (322 : Nat) ({ cls := "AgainstFeatherModel", name := "weighNow", desc := "(II)V" } : Jvm.MethodName)) ∈ lw_all := lw_g (lw_at lw_m7 83 rfl) rfl
theorem q1660 : (Jvm.Cond.privateMethod ({ cls := "AgainstFeatherModel", name := "weighNow", desc := "(II)V" } : Jvm.MethodName)) ∈ lw_tbl := lw_at lw_m7 84 rfl
theorem q1661 : (Jvm.Cond.instanceMethod ({ cls := "AgainstFeatherModel", name := "weighNow", desc := "(II)V" } : Jvm.MethodName)) ∈ lw_all := lw_g (lw_at lw_m7 85 rfl) rfl
theorem q1662 : (Jvm.Cond.code ({ cls := "AgainstFeatherModel", name := "weighNow", desc := "(II)V" } : Jvm.MethodName) prog_15_method_66_code (4 : Nat) (Option.none : Option Jvm.ClassFile.FieldType)) ∈ lw_all := lw_g (lw_at lw_m7 86 rfl) rfl
theorem q1663 : (Jvm.Cond.methodLink "AgainstFeatherModel" (297 : Nat) ({ cls := "AgainstFeatherModel", name := "lentOf", desc := "(I)I" } : Jvm.MethodName)) ∈ lw_all := lw_g (lw_at lw_m7 87 rfl) rfl
theorem q1664 : (Jvm.Cond.privateMethod ({ cls := "AgainstFeatherModel", name := "lentOf", desc := "(I)I" } : Jvm.MethodName)) ∈ lw_tbl := lw_at lw_m7 88 rfl
theorem q1665 : (Jvm.Cond.instanceMethod ({ cls := "AgainstFeatherModel", name := "lentOf", desc := "(I)I" } : Jvm.MethodName)) ∈ lw_all := lw_g (lw_at lw_m7 89 rfl) rfl
theorem q1666 : (Jvm.Cond.code ({ cls := "AgainstFeatherModel", name := "lentOf", desc := "(I)I" } : Jvm.MethodName) prog_15_method_12_code (4 : Nat) (Option.some Jvm.ClassFile.FieldType.int)) ∈ lw_all := lw_g (lw_at lw_m7 90 rfl) rfl
theorem q1667 : (Jvm.Cond.methodLink "AgainstFeatherModel" (300 : Nat) ({ cls := "AgainstFeatherModel", name := "settle", desc := "(I)V" } : Jvm.MethodName)) ∈ lw_all := lw_g (lw_at lw_m7 91 rfl) rfl
theorem q1668 : (Jvm.Cond.privateMethod ({ cls := "AgainstFeatherModel", name := "settle", desc := "(I)V" } : Jvm.MethodName)) ∈ lw_tbl := lw_at lw_m7 92 rfl
theorem q1669 : (Jvm.Cond.instanceMethod ({ cls := "AgainstFeatherModel", name := "settle", desc := "(I)V" } : Jvm.MethodName)) ∈ lw_all := lw_g (lw_at lw_m7 93 rfl) rfl
theorem q1670 : (Jvm.Cond.code ({ cls := "AgainstFeatherModel", name := "settle", desc := "(I)V" } : Jvm.MethodName) prog_15_method_65_code (5 : Nat) (Option.none : Option Jvm.ClassFile.FieldType)) ∈ lw_all := lw_g (lw_at lw_m7 94 rfl) rfl
theorem q1671 : (Jvm.Cond.methodLink "AgainstFeatherModel" (294 : Nat) ({ cls := "AgainstFeatherModel", name := "bits", desc := "(I)I" } : Jvm.MethodName)) ∈ lw_all := lw_g (lw_at lw_m7 95 rfl) rfl
theorem q1672 : (Jvm.Cond.static ({ cls := "AgainstFeatherModel", name := "bits", desc := "(I)I" } : Jvm.MethodName)) ∈ lw_all := lw_g (lw_at lw_m7 96 rfl) rfl
theorem q1673 : (Jvm.Cond.code ({ cls := "AgainstFeatherModel", name := "bits", desc := "(I)I" } : Jvm.MethodName) prog_15_method_5_code (3 : Nat) (Option.some Jvm.ClassFile.FieldType.int)) ∈ lw_all := lw_g (lw_at lw_m7 97 rfl) rfl
theorem q1674 : (Jvm.Cond.methodLink "AgainstFeatherModel" (284 : Nat) ({ cls := "AgainstFeatherModel", name := "says", desc := "(IIIIII)I" } : Jvm.MethodName)) ∈ lw_all := lw_g (lw_at lw_m7 98 rfl) rfl
theorem q1675 : (Jvm.Cond.privateMethod ({ cls := "AgainstFeatherModel", name := "says", desc := "(IIIIII)I" } : Jvm.MethodName)) ∈ lw_tbl := lw_at lw_m7 99 rfl
theorem q1676 : (Jvm.Cond.instanceMethod ({ cls := "AgainstFeatherModel", name := "says", desc := "(IIIIII)I" } : Jvm.MethodName)) ∈ lw_all := lw_g (lw_at lw_m7 100 rfl) rfl
theorem q1677 : (Jvm.Cond.code ({ cls := "AgainstFeatherModel", name := "says", desc := "(IIIIII)I" } : Jvm.MethodName) prog_15_method_61_code (9 : Nat) (Option.some Jvm.ClassFile.FieldType.int)) ∈ lw_all := lw_g (lw_at lw_m7 101 rfl) rfl
theorem q1678 : (Jvm.Cond.methodLink "AgainstFeatherModel" (278 : Nat) ({ cls := "AgainstFeatherModel", name := "clauseOf", desc := "(II)I" } : Jvm.MethodName)) ∈ lw_all := lw_g (lw_at lw_m7 102 rfl) rfl
theorem q1679 : (Jvm.Cond.privateMethod ({ cls := "AgainstFeatherModel", name := "clauseOf", desc := "(II)I" } : Jvm.MethodName)) ∈ lw_tbl := lw_at lw_m7 103 rfl
theorem q1680 : (Jvm.Cond.instanceMethod ({ cls := "AgainstFeatherModel", name := "clauseOf", desc := "(II)I" } : Jvm.MethodName)) ∈ lw_all := lw_g (lw_at lw_m7 104 rfl) rfl
theorem q1681 : (Jvm.Cond.code ({ cls := "AgainstFeatherModel", name := "clauseOf", desc := "(II)I" } : Jvm.MethodName) prog_15_method_60_code (4 : Nat) (Option.some Jvm.ClassFile.FieldType.int)) ∈ lw_all := lw_g (lw_at lw_m7 105 rfl) rfl
theorem q1682 : (Jvm.Cond.methodLink "AgainstFeatherModel" (281 : Nat) ({ cls := "AgainstFeatherModel", name := "worked", desc := "(II)I" } : Jvm.MethodName)) ∈ lw_all := lw_g (lw_at lw_m7 106 rfl) rfl
theorem q1683 : (Jvm.Cond.privateMethod ({ cls := "AgainstFeatherModel", name := "worked", desc := "(II)I" } : Jvm.MethodName)) ∈ lw_tbl := lw_at lw_m7 107 rfl
theorem q1684 : (Jvm.Cond.instanceMethod ({ cls := "AgainstFeatherModel", name := "worked", desc := "(II)I" } : Jvm.MethodName)) ∈ lw_all := lw_g (lw_at lw_m7 108 rfl) rfl
theorem q1685 : (Jvm.Cond.code ({ cls := "AgainstFeatherModel", name := "worked", desc := "(II)I" } : Jvm.MethodName) prog_15_method_59_code (9 : Nat) (Option.some Jvm.ClassFile.FieldType.int)) ∈ lw_all := lw_g (lw_at lw_m7 109 rfl) rfl
theorem q1686 : (Jvm.Cond.methodLink "AgainstFeatherModel" (274 : Nat) ({ cls := "AgainstFeatherModel", name := "two", desc := "(IJJ)J" } : Jvm.MethodName)) ∈ lw_all := lw_g (lw_at lw_m7 110 rfl) rfl
theorem q1687 : (Jvm.Cond.static ({ cls := "AgainstFeatherModel", name := "two", desc := "(IJJ)J" } : Jvm.MethodName)) ∈ lw_all := lw_g (lw_at lw_m7 111 rfl) rfl
theorem q1688 : (Jvm.Cond.code ({ cls := "AgainstFeatherModel", name := "two", desc := "(IJJ)J" } : Jvm.MethodName) prog_15_method_58_code (5 : Nat) (Option.some Jvm.ClassFile.FieldType.long)) ∈ lw_all := lw_g (lw_at lw_m7 112 rfl) rfl
theorem q1689 : (Jvm.Cond.methodLink "AgainstFeatherModel" (270 : Nat) ({ cls := "AgainstFeatherModel", name := "held", desc := "(J)J" } : Jvm.MethodName)) ∈ lw_all := lw_g (lw_at lw_m7 113 rfl) rfl
theorem q1690 : (Jvm.Cond.static ({ cls := "AgainstFeatherModel", name := "held", desc := "(J)J" } : Jvm.MethodName)) ∈ lw_all := lw_g (lw_at lw_m7 114 rfl) rfl
theorem q1691 : (Jvm.Cond.code ({ cls := "AgainstFeatherModel", name := "held", desc := "(J)J" } : Jvm.MethodName) prog_15_method_57_code (2 : Nat) (Option.some Jvm.ClassFile.FieldType.long)) ∈ lw_all := lw_g (lw_at lw_m7 115 rfl) rfl
theorem q1692 : (Jvm.Cond.constantLong "AgainstFeatherModel" (266 : Nat) (1000000 : Int64)) ∈ lw_all := lw_g (lw_at lw_m7 116 rfl) rfl
theorem q1693 : (Jvm.Cond.constantLong "AgainstFeatherModel" (268 : Nat) (-1000000 : Int64)) ∈ lw_all := lw_g (lw_at lw_m7 117 rfl) rfl
theorem q1695 : (Jvm.Cond.instanceMethod ({ cls := "AgainstFeatherModel", name := "lay", desc := "(I)I" } : Jvm.MethodName)) ∈ lw_all := lw_g (lw_at lw_m7 119 rfl) rfl
theorem q1696 : (Jvm.Cond.selects "AgainstFeatherModel" ({ cls := "AgainstFeatherModel", name := "lay", desc := "(I)I" } : Jvm.MethodName) ({ cls := "AgainstFeatherModel", name := "lay", desc := "(I)I" } : Jvm.MethodName)) ∈ lw_all := lw_g (lw_at lw_m7 120 rfl) rfl
theorem q1697 : (Jvm.Cond.code ({ cls := "AgainstFeatherModel", name := "lay", desc := "(I)I" } : Jvm.MethodName) prog_15_method_77_code (2 : Nat) (Option.some Jvm.ClassFile.FieldType.int)) ∈ lw_all := lw_g (lw_at lw_m7 121 rfl) rfl
theorem q1698 : (Jvm.Cond.methodLink "AgainstFeatherModel" (84 : Nat) ({ cls := "AgainstFeatherModel", name := "deedOf", desc := "(II)I" } : Jvm.MethodName)) ∈ lw_all := lw_g (lw_at lw_m7 122 rfl) rfl
theorem q1699 : (Jvm.Cond.privateMethod ({ cls := "AgainstFeatherModel", name := "deedOf", desc := "(II)I" } : Jvm.MethodName)) ∈ lw_tbl := lw_at lw_m7 123 rfl
theorem q1700 : (Jvm.Cond.instanceMethod ({ cls := "AgainstFeatherModel", name := "deedOf", desc := "(II)I" } : Jvm.MethodName)) ∈ lw_all := lw_g (lw_at lw_m7 124 rfl) rfl
theorem q1701 : (Jvm.Cond.code ({ cls := "AgainstFeatherModel", name := "deedOf", desc := "(II)I" } : Jvm.MethodName) prog_15_method_10_code (3 : Nat) (Option.some Jvm.ClassFile.FieldType.int)) ∈ lw_all := lw_g (lw_at lw_m7 125 rfl) rfl
theorem q1702 : (Jvm.Cond.methodLink "AgainstFeatherModel" (325 : Nat) ({ cls := "AgainstFeatherModel", name := "layNow", desc := "(II)V" } : Jvm.MethodName)) ∈ lw_all := lw_g (lw_at lw_m7 126 rfl) rfl
theorem q1703 : (Jvm.Cond.privateMethod ({ cls := "AgainstFeatherModel", name := "layNow", desc := "(II)V" } : Jvm.MethodName)) ∈ lw_tbl := lw_at lw_m7 127 rfl
theorem q1704 : (Jvm.Cond.instanceMethod ({ cls := "AgainstFeatherModel", name := "layNow", desc := "(II)V" } : Jvm.MethodName)) ∈ lw_all := lw_g (lw_at lw_m7 128 rfl) rfl
theorem q1705 : (Jvm.Cond.code ({ cls := "AgainstFeatherModel", name := "layNow", desc := "(II)V" } : Jvm.MethodName) prog_15_method_67_code (3 : Nat) (Option.none : Option Jvm.ClassFile.FieldType)) ∈ lw_all := lw_g (lw_at lw_m7 129 rfl) rfl
theorem q1706 : (Jvm.Cond.methodLink "AgainstFeatherModel" (303 : Nat) ({ cls := "AgainstFeatherModel", name := "weightOf", desc := "(I)I" } : Jvm.MethodName)) ∈ lw_all := lw_g (lw_at lw_m7 130 rfl) rfl
theorem q1707 : (Jvm.Cond.privateMethod ({ cls := "AgainstFeatherModel", name := "weightOf", desc := "(I)I" } : Jvm.MethodName)) ∈ lw_tbl := lw_at lw_m7 131 rfl
theorem q1708 : (Jvm.Cond.instanceMethod ({ cls := "AgainstFeatherModel", name := "weightOf", desc := "(I)I" } : Jvm.MethodName)) ∈ lw_all := lw_g (lw_at lw_m7 132 rfl) rfl
theorem q1709 : (Jvm.Cond.code ({ cls := "AgainstFeatherModel", name := "weightOf", desc := "(I)I" } : Jvm.MethodName) prog_15_method_63_code (2 : Nat) (Option.some Jvm.ClassFile.FieldType.int)) ∈ lw_all := lw_g (lw_at lw_m7 133 rfl) rfl
theorem q1710 : (Jvm.Cond.methodLink "AgainstFeatherModel" (288 : Nat) ({ cls := "AgainstFeatherModel", name := "weightBy", desc := "(II)I" } : Jvm.MethodName)) ∈ lw_all := lw_g (lw_at lw_m7 134 rfl) rfl
theorem q1711 : (Jvm.Cond.privateMethod ({ cls := "AgainstFeatherModel", name := "weightBy", desc := "(II)I" } : Jvm.MethodName)) ∈ lw_tbl := lw_at lw_m7 135 rfl
theorem q1712 : (Jvm.Cond.instanceMethod ({ cls := "AgainstFeatherModel", name := "weightBy", desc := "(II)I" } : Jvm.MethodName)) ∈ lw_all := lw_g (lw_at lw_m7 136 rfl) rfl
theorem q1713 : (Jvm.Cond.code ({ cls := "AgainstFeatherModel", name := "weightBy", desc := "(II)I" } : Jvm.MethodName) prog_15_method_62_code (3 : Nat) (Option.some Jvm.ClassFile.FieldType.int)) ∈ lw_all := lw_g (lw_at lw_m7 137 rfl) rfl
theorem q1715 : (Jvm.Cond.instanceMethod ({ cls := "AgainstFeatherModel", name := "answer", desc := "(IZ)I" } : Jvm.MethodName)) ∈ lw_all := lw_g (lw_at lw_m7 139 rfl) rfl
theorem q1716 : (Jvm.Cond.selects "AgainstFeatherModel" ({ cls := "AgainstFeatherModel", name := "answer", desc := "(IZ)I" } : Jvm.MethodName) ({ cls := "AgainstFeatherModel", name := "answer", desc := "(IZ)I" } : Jvm.MethodName)) ∈ lw_all := lw_g (lw_at lw_m7 140 rfl) rfl
theorem q1717 : (Jvm.Cond.code ({ cls := "AgainstFeatherModel", name := "answer", desc := "(IZ)I" } : Jvm.MethodName) prog_15_method_78_code (3 : Nat) (Option.some Jvm.ClassFile.FieldType.int)) ∈ lw_all := lw_g (lw_at lw_m7 141 rfl) rfl
theorem q1718 : (Jvm.Cond.methodLink "AgainstFeatherModel" (328 : Nat) ({ cls := "AgainstFeatherModel", name := "isJudge", desc := "(I)Z" } : Jvm.MethodName)) ∈ lw_all := lw_g (lw_at lw_m7 142 rfl) rfl
theorem q1719 : (Jvm.Cond.privateMethod ({ cls := "AgainstFeatherModel", name := "isJudge", desc := "(I)Z" } : Jvm.MethodName)) ∈ lw_tbl := lw_at lw_m7 143 rfl
theorem q1720 : (Jvm.Cond.instanceMethod ({ cls := "AgainstFeatherModel", name := "isJudge", desc := "(I)Z" } : Jvm.MethodName)) ∈ lw_all := lw_g (lw_at lw_m7 144 rfl) rfl
theorem q1721 : (Jvm.Cond.code ({ cls := "AgainstFeatherModel", name := "isJudge", desc := "(I)Z" } : Jvm.MethodName) prog_15_method_8_code (2 : Nat) (Option.some Jvm.ClassFile.FieldType.boolean)) ∈ lw_all := lw_g (lw_at lw_m7 145 rfl) rfl
theorem q1722 : (Jvm.Cond.methodLink "AgainstFeatherModel" (331 : Nat) ({ cls := "AgainstFeatherModel", name := "answerNow", desc := "(IZ)Z" } : Jvm.MethodName)) ∈ lw_all := lw_g (lw_at lw_m7 146 rfl) rfl
theorem q1723 : (Jvm.Cond.privateMethod ({ cls := "AgainstFeatherModel", name := "answerNow", desc := "(IZ)Z" } : Jvm.MethodName)) ∈ lw_tbl := lw_at lw_m7 147 rfl
theorem q1724 : (Jvm.Cond.instanceMethod ({ cls := "AgainstFeatherModel", name := "answerNow", desc := "(IZ)Z" } : Jvm.MethodName)) ∈ lw_all := lw_g (lw_at lw_m7 148 rfl) rfl
theorem q1725 : (Jvm.Cond.code ({ cls := "AgainstFeatherModel", name := "answerNow", desc := "(IZ)Z" } : Jvm.MethodName) prog_15_method_70_code (4 : Nat) (Option.some Jvm.ClassFile.FieldType.boolean)) ∈ lw_all := lw_g (lw_at lw_m7 149 rfl) rfl
theorem q1726 : (Jvm.Cond.methodLink "AgainstFeatherModel" (306 : Nat) ({ cls := "AgainstFeatherModel", name := "isSoOf", desc := "(II)Z" } : Jvm.MethodName)) ∈ lw_all := lw_g (lw_at lw_m7 150 rfl) rfl
theorem q1727 : (Jvm.Cond.privateMethod ({ cls := "AgainstFeatherModel", name := "isSoOf", desc := "(II)Z" } : Jvm.MethodName)) ∈ lw_tbl := lw_at lw_m7 151 rfl
theorem q1728 : (Jvm.Cond.instanceMethod ({ cls := "AgainstFeatherModel", name := "isSoOf", desc := "(II)Z" } : Jvm.MethodName)) ∈ lw_all := lw_g (lw_at lw_m7 152 rfl) rfl
theorem q1729 : (Jvm.Cond.code ({ cls := "AgainstFeatherModel", name := "isSoOf", desc := "(II)Z" } : Jvm.MethodName) prog_15_method_68_code (4 : Nat) (Option.some Jvm.ClassFile.FieldType.boolean)) ∈ lw_all := lw_g (lw_at lw_m7 153 rfl) rfl
theorem q1730 : (Jvm.Cond.methodLink "AgainstFeatherModel" (309 : Nat) ({ cls := "AgainstFeatherModel", name := "lieNow", desc := "(I)V" } : Jvm.MethodName)) ∈ lw_all := lw_g (lw_at lw_m7 154 rfl) rfl
theorem q1731 : (Jvm.Cond.privateMethod ({ cls := "AgainstFeatherModel", name := "lieNow", desc := "(I)V" } : Jvm.MethodName)) ∈ lw_tbl := lw_at lw_m7 155 rfl
theorem q1732 : (Jvm.Cond.instanceMethod ({ cls := "AgainstFeatherModel", name := "lieNow", desc := "(I)V" } : Jvm.MethodName)) ∈ lw_all := lw_g (lw_at lw_m7 156 rfl) rfl
theorem q1733 : (Jvm.Cond.code ({ cls := "AgainstFeatherModel", name := "lieNow", desc := "(I)V" } : Jvm.MethodName) prog_15_method_69_code (5 : Nat) (Option.none : Option Jvm.ClassFile.FieldType)) ∈ lw_all := lw_g (lw_at lw_m7 157 rfl) rfl
theorem q1735 : (Jvm.Cond.instanceMethod ({ cls := "AgainstFeatherModel", name := "judged", desc := "()I" } : Jvm.MethodName)) ∈ lw_all := lw_g (lw_at lw_m7 159 rfl) rfl
theorem q1736 : (Jvm.Cond.selects "AgainstFeatherModel" ({ cls := "AgainstFeatherModel", name := "judged", desc := "()I" } : Jvm.MethodName) ({ cls := "AgainstFeatherModel", name := "judged", desc := "()I" } : Jvm.MethodName)) ∈ lw_all := lw_g (lw_at lw_m7 160 rfl) rfl
theorem q1737 : (Jvm.Cond.code ({ cls := "AgainstFeatherModel", name := "judged", desc := "()I" } : Jvm.MethodName) prog_15_method_79_code (1 : Nat) (Option.some Jvm.ClassFile.FieldType.int)) ∈ lw_all := lw_g (lw_at lw_m7 161 rfl) rfl
theorem q1738 : (Jvm.Cond.methodLink "AgainstFeatherModel" (335 : Nat) ({ cls := "AgainstFeatherModel", name := "judgeNow", desc := "()I" } : Jvm.MethodName)) ∈ lw_all := lw_g (lw_at lw_m7 162 rfl) rfl
theorem q1739 : (Jvm.Cond.privateMethod ({ cls := "AgainstFeatherModel", name := "judgeNow", desc := "()I" } : Jvm.MethodName)) ∈ lw_tbl := lw_at lw_m7 163 rfl
theorem q1740 : (Jvm.Cond.instanceMethod ({ cls := "AgainstFeatherModel", name := "judgeNow", desc := "()I" } : Jvm.MethodName)) ∈ lw_all := lw_g (lw_at lw_m7 164 rfl) rfl
theorem q1741 : (Jvm.Cond.code ({ cls := "AgainstFeatherModel", name := "judgeNow", desc := "()I" } : Jvm.MethodName) prog_15_method_72_code (4 : Nat) (Option.some Jvm.ClassFile.FieldType.int)) ∈ lw_all := lw_g (lw_at lw_m7 165 rfl) rfl
theorem q1742 : (Jvm.Cond.methodLink "AgainstFeatherModel" (315 : Nat) ({ cls := "AgainstFeatherModel", name := "verdict", desc := "()I" } : Jvm.MethodName)) ∈ lw_all := lw_g (lw_at lw_m7 166 rfl) rfl
theorem q1743 : (Jvm.Cond.privateMethod ({ cls := "AgainstFeatherModel", name := "verdict", desc := "()I" } : Jvm.MethodName)) ∈ lw_tbl := lw_at lw_m7 167 rfl
theorem q1744 : (Jvm.Cond.instanceMethod ({ cls := "AgainstFeatherModel", name := "verdict", desc := "()I" } : Jvm.MethodName)) ∈ lw_all := lw_g (lw_at lw_m7 168 rfl) rfl
theorem q1745 : (Jvm.Cond.code ({ cls := "AgainstFeatherModel", name := "verdict", desc := "()I" } : Jvm.MethodName) prog_15_method_71_code (2 : Nat) (Option.some Jvm.ClassFile.FieldType.int)) ∈ lw_all := lw_g (lw_at lw_m7 169 rfl) rfl
theorem q1746 : (Jvm.Cond.methodLink "AgainstFeatherModel" (312 : Nat) ({ cls := "AgainstFeatherModel", name := "upOf", desc := "(I)I" } : Jvm.MethodName)) ∈ lw_all := lw_g (lw_at lw_m7 170 rfl) rfl
theorem q1747 : (Jvm.Cond.privateMethod ({ cls := "AgainstFeatherModel", name := "upOf", desc := "(I)I" } : Jvm.MethodName)) ∈ lw_tbl := lw_at lw_m7 171 rfl
theorem q1748 : (Jvm.Cond.instanceMethod ({ cls := "AgainstFeatherModel", name := "upOf", desc := "(I)I" } : Jvm.MethodName)) ∈ lw_all := lw_g (lw_at lw_m7 172 rfl) rfl
theorem q1749 : (Jvm.Cond.code ({ cls := "AgainstFeatherModel", name := "upOf", desc := "(I)I" } : Jvm.MethodName) prog_15_method_64_code (2 : Nat) (Option.some Jvm.ClassFile.FieldType.int)) ∈ lw_all := lw_g (lw_at lw_m7 173 rfl) rfl
theorem q1750 : (Jvm.Cond.methodLink "AgainstFeatherModel" (291 : Nat) ({ cls := "AgainstFeatherModel", name := "deedsOf", desc := "(I)I" } : Jvm.MethodName)) ∈ lw_all := lw_g (lw_at lw_m7 174 rfl) rfl
theorem q1751 : (Jvm.Cond.privateMethod ({ cls := "AgainstFeatherModel", name := "deedsOf", desc := "(I)I" } : Jvm.MethodName)) ∈ lw_tbl := lw_at lw_m7 175 rfl
theorem q1752 : (Jvm.Cond.instanceMethod ({ cls := "AgainstFeatherModel", name := "deedsOf", desc := "(I)I" } : Jvm.MethodName)) ∈ lw_all := lw_g (lw_at lw_m7 176 rfl) rfl
theorem q1753 : (Jvm.Cond.code ({ cls := "AgainstFeatherModel", name := "deedsOf", desc := "(I)I" } : Jvm.MethodName) prog_15_method_11_code (4 : Nat) (Option.some Jvm.ClassFile.FieldType.int)) ∈ lw_all := lw_g (lw_at lw_m7 177 rfl) rfl
theorem q1755 : (Jvm.Cond.instanceMethod ({ cls := "AgainstFeatherModel", name := "played", desc := "(I)I" } : Jvm.MethodName)) ∈ lw_all := lw_g (lw_at lw_m7 179 rfl) rfl
theorem q1756 : (Jvm.Cond.selects "AgainstFeatherModel" ({ cls := "AgainstFeatherModel", name := "played", desc := "(I)I" } : Jvm.MethodName) ({ cls := "AgainstFeatherModel", name := "played", desc := "(I)I" } : Jvm.MethodName)) ∈ lw_all := lw_g (lw_at lw_m7 180 rfl) rfl
theorem q1757 : (Jvm.Cond.code ({ cls := "AgainstFeatherModel", name := "played", desc := "(I)I" } : Jvm.MethodName) prog_15_method_81_code (3 : Nat) (Option.some Jvm.ClassFile.FieldType.int)) ∈ lw_all := lw_g (lw_at lw_m7 181 rfl) rfl
theorem q1758 : (Jvm.Cond.methodLink "AgainstFeatherModel" (364 : Nat) ({ cls := "AgainstFeatherModel", name := "isPlayed", desc := "(I)Z" } : Jvm.MethodName)) ∈ lw_all := lw_g (lw_at lw_m7 182 rfl) rfl
theorem q1759 : (Jvm.Cond.privateMethod ({ cls := "AgainstFeatherModel", name := "isPlayed", desc := "(I)Z" } : Jvm.MethodName)) ∈ lw_tbl := lw_at lw_m7 183 rfl
theorem q1760 : (Jvm.Cond.instanceMethod ({ cls := "AgainstFeatherModel", name := "isPlayed", desc := "(I)Z" } : Jvm.MethodName)) ∈ lw_all := lw_g (lw_at lw_m7 184 rfl) rfl
theorem q1761 : (Jvm.Cond.code ({ cls := "AgainstFeatherModel", name := "isPlayed", desc := "(I)Z" } : Jvm.MethodName) prog_15_method_80_code (3 : Nat) (Option.some Jvm.ClassFile.FieldType.boolean)) ∈ lw_all := lw_g (lw_at lw_m7 185 rfl) rfl
theorem q1762 : (Jvm.Cond.methodLink "AgainstFeatherModel" (338 : Nat) ({ cls := "AgainstFeatherModel", name := "heart", desc := "(I)I" } : Jvm.MethodName)) ∈ lw_all := lw_g (lw_at lw_m7 186 rfl) rfl
theorem q1763 : (Jvm.Cond.methodLink "AgainstFeatherModel" (341 : Nat) ({ cls := "AgainstFeatherModel", name := "deed", desc := "(IIIII)I" } : Jvm.MethodName)) ∈ lw_all := lw_g (lw_at lw_m7 187 rfl) rfl
theorem q1764 : (Jvm.Cond.methodLink "AgainstFeatherModel" (345 : Nat) ({ cls := "AgainstFeatherModel", name := "judge", desc := "(I)I" } : Jvm.MethodName)) ∈ lw_all := lw_g (lw_at lw_m7 188 rfl) rfl
theorem q1765 : (Jvm.Cond.methodLink "AgainstFeatherModel" (348 : Nat) ({ cls := "AgainstFeatherModel", name := "lend", desc := "(III)Z" } : Jvm.MethodName)) ∈ lw_all := lw_g (lw_at lw_m7 189 rfl) rfl
theorem q1766 : (Jvm.Cond.methodLink "AgainstFeatherModel" (351 : Nat) ({ cls := "AgainstFeatherModel", name := "weigh", desc := "(I)I" } : Jvm.MethodName)) ∈ lw_all := lw_g (lw_at lw_m7 190 rfl) rfl
theorem q1767 : (Jvm.Cond.methodLink "AgainstFeatherModel" (354 : Nat) ({ cls := "AgainstFeatherModel", name := "lay", desc := "(I)I" } : Jvm.MethodName)) ∈ lw_all := lw_g (lw_at lw_m7 191 rfl) rfl
theorem q1768 : (Jvm.Cond.methodLink "AgainstFeatherModel" (357 : Nat) ({ cls := "AgainstFeatherModel", name := "answer", desc := "(IZ)I" } : Jvm.MethodName)) ∈ lw_all := lw_g (lw_at lw_m7 192 rfl) rfl
theorem q1769 : (Jvm.Cond.methodLink "AgainstFeatherModel" (361 : Nat) ({ cls := "AgainstFeatherModel", name := "judged", desc := "()I" } : Jvm.MethodName)) ∈ lw_all := lw_g (lw_at lw_m7 193 rfl) rfl
theorem q1771 : (Jvm.Cond.instanceMethod ({ cls := "AgainstFeatherModel", name := "day", desc := "(II)I" } : Jvm.MethodName)) ∈ lw_all := lw_g (lw_at lw_m7 195 rfl) rfl
theorem q1772 : (Jvm.Cond.selects "AgainstFeatherModel" ({ cls := "AgainstFeatherModel", name := "day", desc := "(II)I" } : Jvm.MethodName) ({ cls := "AgainstFeatherModel", name := "day", desc := "(II)I" } : Jvm.MethodName)) ∈ lw_all := lw_g (lw_at lw_m7 196 rfl) rfl
theorem q1773 : (Jvm.Cond.code ({ cls := "AgainstFeatherModel", name := "day", desc := "(II)I" } : Jvm.MethodName) prog_15_method_85_code (5 : Nat) (Option.some Jvm.ClassFile.FieldType.int)) ∈ lw_all := lw_g (lw_at lw_m7 197 rfl) rfl
theorem q1774 : (Jvm.Cond.methodLink "AgainstFeatherModel" (376 : Nat) ({ cls := "AgainstFeatherModel", name := "oneOfDay", desc := "()I" } : Jvm.MethodName)) ∈ lw_all := lw_g (lw_at lw_m7 198 rfl) rfl
theorem q1775 : (Jvm.Cond.privateMethod ({ cls := "AgainstFeatherModel", name := "oneOfDay", desc := "()I" } : Jvm.MethodName)) ∈ lw_tbl := lw_at lw_m7 199 rfl
theorem q1776 : (Jvm.Cond.instanceMethod ({ cls := "AgainstFeatherModel", name := "oneOfDay", desc := "()I" } : Jvm.MethodName)) ∈ lw_all := lw_g (lw_at lw_m7 200 rfl) rfl
theorem q1777 : (Jvm.Cond.code ({ cls := "AgainstFeatherModel", name := "oneOfDay", desc := "()I" } : Jvm.MethodName) prog_15_method_84_code (6 : Nat) (Option.some Jvm.ClassFile.FieldType.int)) ∈ lw_all := lw_g (lw_at lw_m7 201 rfl) rfl
theorem q1778 : (Jvm.Cond.methodLink "AgainstFeatherModel" (370 : Nat) ({ cls := "AgainstFeatherModel", name := "anew", desc := "()V" } : Jvm.MethodName)) ∈ lw_all := lw_g (lw_at lw_m7 202 rfl) rfl
theorem q1779 : (Jvm.Cond.privateMethod ({ cls := "AgainstFeatherModel", name := "anew", desc := "()V" } : Jvm.MethodName)) ∈ lw_tbl := lw_at lw_m7 203 rfl
theorem q1780 : (Jvm.Cond.instanceMethod ({ cls := "AgainstFeatherModel", name := "anew", desc := "()V" } : Jvm.MethodName)) ∈ lw_all := lw_g (lw_at lw_m7 204 rfl) rfl
theorem q1781 : (Jvm.Cond.code ({ cls := "AgainstFeatherModel", name := "anew", desc := "()V" } : Jvm.MethodName) prog_15_method_82_code (1 : Nat) (Option.none : Option Jvm.ClassFile.FieldType)) ∈ lw_all := lw_g (lw_at lw_m7 205 rfl) rfl
theorem q1782 : (Jvm.Cond.methodLink "AgainstFeatherModel" (373 : Nat) ({ cls := "AgainstFeatherModel", name := "layRow", desc := "(I)V" } : Jvm.MethodName)) ∈ lw_all := lw_g (lw_at lw_m7 206 rfl) rfl
theorem q1783 : (Jvm.Cond.privateMethod ({ cls := "AgainstFeatherModel", name := "layRow", desc := "(I)V" } : Jvm.MethodName)) ∈ lw_tbl := lw_at lw_m7 207 rfl
theorem q1784 : (Jvm.Cond.instanceMethod ({ cls := "AgainstFeatherModel", name := "layRow", desc := "(I)V" } : Jvm.MethodName)) ∈ lw_all := lw_g (lw_at lw_m7 208 rfl) rfl
theorem q1785 : (Jvm.Cond.code ({ cls := "AgainstFeatherModel", name := "layRow", desc := "(I)V" } : Jvm.MethodName) prog_15_method_83_code (3 : Nat) (Option.none : Option Jvm.ClassFile.FieldType)) ∈ lw_all := lw_g (lw_at lw_m7 209 rfl) rfl
theorem q1787 : (Jvm.Cond.instanceMethod ({ cls := "AgainstFeatherModel", name := "scale", desc := "(I)I" } : Jvm.MethodName)) ∈ lw_all := lw_g (lw_at lw_m7 211 rfl) rfl
theorem q1788 : (Jvm.Cond.selects "AgainstFeatherModel" ({ cls := "AgainstFeatherModel", name := "scale", desc := "(I)I" } : Jvm.MethodName) ({ cls := "AgainstFeatherModel", name := "scale", desc := "(I)I" } : Jvm.MethodName)) ∈ lw_all := lw_g (lw_at lw_m7 212 rfl) rfl
theorem q1789 : (Jvm.Cond.code ({ cls := "AgainstFeatherModel", name := "scale", desc := "(I)I" } : Jvm.MethodName) prog_15_method_86_code (2 : Nat) (Option.some Jvm.ClassFile.FieldType.int)) ∈ lw_all := lw_g (lw_at lw_m7 213 rfl) rfl
theorem q1791 : (Jvm.Cond.instanceMethod ({ cls := "AgainstFeatherModel", name := "ofHeart", desc := "(II)I" } : Jvm.MethodName)) ∈ lw_all := lw_g (lw_at lw_m7 215 rfl) rfl
theorem q1792 : (Jvm.Cond.selects "AgainstFeatherModel" ({ cls := "AgainstFeatherModel", name := "ofHeart", desc := "(II)I" } : Jvm.MethodName) ({ cls := "AgainstFeatherModel", name := "ofHeart", desc := "(II)I" } : Jvm.MethodName)) ∈ lw_all := lw_g (lw_at lw_m7 216 rfl) rfl
theorem q1793 : (Jvm.Cond.code ({ cls := "AgainstFeatherModel", name := "ofHeart", desc := "(II)I" } : Jvm.MethodName) prog_15_method_89_code (3 : Nat) (Option.some Jvm.ClassFile.FieldType.int)) ∈ lw_all := lw_g (lw_at lw_m7 217 rfl) rfl
theorem q1794 : (Jvm.Cond.methodLink "AgainstFeatherModel" (379 : Nat) ({ cls := "AgainstFeatherModel", name := "burdenOf", desc := "(I)I" } : Jvm.MethodName)) ∈ lw_all := lw_g (lw_at lw_m7 218 rfl) rfl
theorem q1795 : (Jvm.Cond.privateMethod ({ cls := "AgainstFeatherModel", name := "burdenOf", desc := "(I)I" } : Jvm.MethodName)) ∈ lw_tbl := lw_at lw_m7 219 rfl
theorem q1796 : (Jvm.Cond.instanceMethod ({ cls := "AgainstFeatherModel", name := "burdenOf", desc := "(I)I" } : Jvm.MethodName)) ∈ lw_all := lw_g (lw_at lw_m7 220 rfl) rfl
theorem q1797 : (Jvm.Cond.code ({ cls := "AgainstFeatherModel", name := "burdenOf", desc := "(I)I" } : Jvm.MethodName) prog_15_method_87_code (4 : Nat) (Option.some Jvm.ClassFile.FieldType.int)) ∈ lw_all := lw_g (lw_at lw_m7 221 rfl) rfl
theorem q1798 : (Jvm.Cond.methodLink "AgainstFeatherModel" (382 : Nat) ({ cls := "AgainstFeatherModel", name := "balanceOf", desc := "(I)I" } : Jvm.MethodName)) ∈ lw_all := lw_g (lw_at lw_m7 222 rfl) rfl
theorem q1799 : (Jvm.Cond.privateMethod ({ cls := "AgainstFeatherModel", name := "balanceOf", desc := "(I)I" } : Jvm.MethodName)) ∈ lw_tbl := lw_at lw_m7 223 rfl
theorem q1800 : (Jvm.Cond.instanceMethod ({ cls := "AgainstFeatherModel", name := "balanceOf", desc := "(I)I" } : Jvm.MethodName)) ∈ lw_all := lw_g (lw_at lw_m7 224 rfl) rfl
theorem q1801 : (Jvm.Cond.code ({ cls := "AgainstFeatherModel", name := "balanceOf", desc := "(I)I" } : Jvm.MethodName) prog_15_method_88_code (2 : Nat) (Option.some Jvm.ClassFile.FieldType.int)) ∈ lw_all := lw_g (lw_at lw_m7 225 rfl) rfl
theorem q1803 : (Jvm.Cond.instanceMethod ({ cls := "AgainstFeatherModel", name := "ofDeed", desc := "(II)I" } : Jvm.MethodName)) ∈ lw_all := lw_g (lw_at lw_m7 227 rfl) rfl
theorem q1804 : (Jvm.Cond.selects "AgainstFeatherModel" ({ cls := "AgainstFeatherModel", name := "ofDeed", desc := "(II)I" } : Jvm.MethodName) ({ cls := "AgainstFeatherModel", name := "ofDeed", desc := "(II)I" } : Jvm.MethodName)) ∈ lw_all := lw_g (lw_at lw_m7 228 rfl) rfl
theorem q1805 : (Jvm.Cond.code ({ cls := "AgainstFeatherModel", name := "ofDeed", desc := "(II)I" } : Jvm.MethodName) prog_15_method_90_code (3 : Nat) (Option.some Jvm.ClassFile.FieldType.int)) ∈ lw_all := lw_g (lw_at lw_m7 229 rfl) rfl
theorem q1807 : (Jvm.Cond.instanceMethod ({ cls := "AgainstFeatherModel", name := "isSo", desc := "(II)I" } : Jvm.MethodName)) ∈ lw_all := lw_g (lw_at lw_m7 231 rfl) rfl
theorem q1808 : (Jvm.Cond.selects "AgainstFeatherModel" ({ cls := "AgainstFeatherModel", name := "isSo", desc := "(II)I" } : Jvm.MethodName) ({ cls := "AgainstFeatherModel", name := "isSo", desc := "(II)I" } : Jvm.MethodName)) ∈ lw_all := lw_g (lw_at lw_m7 232 rfl) rfl
theorem q1809 : (Jvm.Cond.code ({ cls := "AgainstFeatherModel", name := "isSo", desc := "(II)I" } : Jvm.MethodName) prog_15_method_91_code (3 : Nat) (Option.some Jvm.ClassFile.FieldType.int)) ∈ lw_all := lw_g (lw_at lw_m7 233 rfl) rfl
theorem q1811 : (Jvm.Cond.instanceMethod ({ cls := "AgainstFeatherModel", name := "book", desc := "(II)I" } : Jvm.MethodName)) ∈ lw_all := lw_g (lw_at lw_m7 235 rfl) rfl
theorem q1812 : (Jvm.Cond.selects "AgainstFeatherModel" ({ cls := "AgainstFeatherModel", name := "book", desc := "(II)I" } : Jvm.MethodName) ({ cls := "AgainstFeatherModel", name := "book", desc := "(II)I" } : Jvm.MethodName)) ∈ lw_all := lw_g (lw_at lw_m7 236 rfl) rfl
theorem q1813 : (Jvm.Cond.code ({ cls := "AgainstFeatherModel", name := "book", desc := "(II)I" } : Jvm.MethodName) prog_15_method_92_code (4 : Nat) (Option.some Jvm.ClassFile.FieldType.int)) ∈ lw_all := lw_g (lw_at lw_m7 237 rfl) rfl
theorem q1815 : (Jvm.Cond.instanceMethod ({ cls := "AgainstFeatherModel", name := "lightest", desc := "(IZI)I" } : Jvm.MethodName)) ∈ lw_all := lw_g (lw_at lw_m7 239 rfl) rfl
theorem q1816 : (Jvm.Cond.selects "AgainstFeatherModel" ({ cls := "AgainstFeatherModel", name := "lightest", desc := "(IZI)I" } : Jvm.MethodName) ({ cls := "AgainstFeatherModel", name := "lightest", desc := "(IZI)I" } : Jvm.MethodName)) ∈ lw_all := lw_g (lw_at lw_m8 0 rfl) rfl
theorem q1817 : (Jvm.Cond.code ({ cls := "AgainstFeatherModel", name := "lightest", desc := "(IZI)I" } : Jvm.MethodName) prog_15_method_100_code (6 : Nat) (Option.some Jvm.ClassFile.FieldType.int)) ∈ lw_all := lw_g (lw_at lw_m8 1 rfl) rfl
theorem q1818 : (Jvm.Cond.methodLink "AgainstFeatherModel" (388 : Nat) ({ cls := "AgainstFeatherModel", name := "isFew", desc := "(II)Z" } : Jvm.MethodName)) ∈ lw_all := lw_g (lw_at lw_m8 2 rfl) rfl
theorem q1819 : (Jvm.Cond.privateMethod ({ cls := "AgainstFeatherModel", name := "isFew", desc := "(II)Z" } : Jvm.MethodName)) ∈ lw_tbl := lw_at lw_m8 3 rfl
theorem q1820 : (Jvm.Cond.instanceMethod ({ cls := "AgainstFeatherModel", name := "isFew", desc := "(II)Z" } : Jvm.MethodName)) ∈ lw_all := lw_g (lw_at lw_m8 4 rfl) rfl
theorem q1821 : (Jvm.Cond.code ({ cls := "AgainstFeatherModel", name := "isFew", desc := "(II)Z" } : Jvm.MethodName) prog_15_method_99_code (3 : Nat) (Option.some Jvm.ClassFile.FieldType.boolean)) ∈ lw_all := lw_g (lw_at lw_m8 5 rfl) rfl
theorem q1822 : (Jvm.Cond.methodLink "AgainstFeatherModel" (391 : Nat) ({ cls := "AgainstFeatherModel", name := "setAside", desc := "()V" } : Jvm.MethodName)) ∈ lw_all := lw_g (lw_at lw_m8 6 rfl) rfl
theorem q1823 : (Jvm.Cond.privateMethod ({ cls := "AgainstFeatherModel", name := "setAside", desc := "()V" } : Jvm.MethodName)) ∈ lw_tbl := lw_at lw_m8 7 rfl
theorem q1824 : (Jvm.Cond.instanceMethod ({ cls := "AgainstFeatherModel", name := "setAside", desc := "()V" } : Jvm.MethodName)) ∈ lw_all := lw_g (lw_at lw_m8 8 rfl) rfl
theorem q1825 : (Jvm.Cond.code ({ cls := "AgainstFeatherModel", name := "setAside", desc := "()V" } : Jvm.MethodName) prog_15_method_93_code (2 : Nat) (Option.none : Option Jvm.ClassFile.FieldType)) ∈ lw_all := lw_g (lw_at lw_m8 9 rfl) rfl
theorem q1826 : (Jvm.Cond.methodLink "AgainstFeatherModel" (394 : Nat) ({ cls := "AgainstFeatherModel", name := "endOf", desc := "(II)I" } : Jvm.MethodName)) ∈ lw_all := lw_g (lw_at lw_m8 10 rfl) rfl
theorem q1827 : (Jvm.Cond.privateMethod ({ cls := "AgainstFeatherModel", name := "endOf", desc := "(II)I" } : Jvm.MethodName)) ∈ lw_tbl := lw_at lw_m8 11 rfl
theorem q1828 : (Jvm.Cond.instanceMethod ({ cls := "AgainstFeatherModel", name := "endOf", desc := "(II)I" } : Jvm.MethodName)) ∈ lw_all := lw_g (lw_at lw_m8 12 rfl) rfl
theorem q1829 : (Jvm.Cond.code ({ cls := "AgainstFeatherModel", name := "endOf", desc := "(II)I" } : Jvm.MethodName) prog_15_method_95_code (4 : Nat) (Option.some Jvm.ClassFile.FieldType.int)) ∈ lw_all := lw_g (lw_at lw_m8 13 rfl) rfl
theorem q1830 : (Jvm.Cond.methodLink "AgainstFeatherModel" (397 : Nat) ({ cls := "AgainstFeatherModel", name := "takeRow", desc := "()V" } : Jvm.MethodName)) ∈ lw_all := lw_g (lw_at lw_m8 14 rfl) rfl
theorem q1831 : (Jvm.Cond.privateMethod ({ cls := "AgainstFeatherModel", name := "takeRow", desc := "()V" } : Jvm.MethodName)) ∈ lw_tbl := lw_at lw_m8 15 rfl
theorem q1832 : (Jvm.Cond.instanceMethod ({ cls := "AgainstFeatherModel", name := "takeRow", desc := "()V" } : Jvm.MethodName)) ∈ lw_all := lw_g (lw_at lw_m8 16 rfl) rfl
theorem q1833 : (Jvm.Cond.code ({ cls := "AgainstFeatherModel", name := "takeRow", desc := "()V" } : Jvm.MethodName) prog_15_method_98_code (2 : Nat) (Option.none : Option Jvm.ClassFile.FieldType)) ∈ lw_all := lw_g (lw_at lw_m8 17 rfl) rfl
theorem q1834 : (Jvm.Cond.methodLink "AgainstFeatherModel" (400 : Nat) ({ cls := "AgainstFeatherModel", name := "nextRow", desc := "()Z" } : Jvm.MethodName)) ∈ lw_all := lw_g (lw_at lw_m8 18 rfl) rfl
theorem q1835 : (Jvm.Cond.privateMethod ({ cls := "AgainstFeatherModel", name := "nextRow", desc := "()Z" } : Jvm.MethodName)) ∈ lw_tbl := lw_at lw_m8 19 rfl
theorem q1836 : (Jvm.Cond.instanceMethod ({ cls := "AgainstFeatherModel", name := "nextRow", desc := "()Z" } : Jvm.MethodName)) ∈ lw_all := lw_g (lw_at lw_m8 20 rfl) rfl
theorem q1837 : (Jvm.Cond.code ({ cls := "AgainstFeatherModel", name := "nextRow", desc := "()Z" } : Jvm.MethodName) prog_15_method_97_code (5 : Nat) (Option.some Jvm.ClassFile.FieldType.boolean)) ∈ lw_all := lw_g (lw_at lw_m8 21 rfl) rfl
theorem q1838 : (Jvm.Cond.methodLink "AgainstFeatherModel" (385 : Nat) ({ cls := "AgainstFeatherModel", name := "exchange", desc := "(II)V" } : Jvm.MethodName)) ∈ lw_all := lw_g (lw_at lw_m8 22 rfl) rfl
theorem q1839 : (Jvm.Cond.privateMethod ({ cls := "AgainstFeatherModel", name := "exchange", desc := "(II)V" } : Jvm.MethodName)) ∈ lw_tbl := lw_at lw_m8 23 rfl
theorem q1840 : (Jvm.Cond.instanceMethod ({ cls := "AgainstFeatherModel", name := "exchange", desc := "(II)V" } : Jvm.MethodName)) ∈ lw_all := lw_g (lw_at lw_m8 24 rfl) rfl
theorem q1841 : (Jvm.Cond.code ({ cls := "AgainstFeatherModel", name := "exchange", desc := "(II)V" } : Jvm.MethodName) prog_15_method_96_code (4 : Nat) (Option.none : Option Jvm.ClassFile.FieldType)) ∈ lw_all := lw_g (lw_at lw_m8 25 rfl) rfl
theorem q1842 : (Jvm.Cond.methodLink "AgainstFeatherModel" (404 : Nat) ({ cls := "AgainstFeatherModel", name := "putBack", desc := "()V" } : Jvm.MethodName)) ∈ lw_all := lw_g (lw_at lw_m8 26 rfl) rfl
theorem q1843 : (Jvm.Cond.privateMethod ({ cls := "AgainstFeatherModel", name := "putBack", desc := "()V" } : Jvm.MethodName)) ∈ lw_tbl := lw_at lw_m8 27 rfl
theorem q1844 : (Jvm.Cond.instanceMethod ({ cls := "AgainstFeatherModel", name := "putBack", desc := "()V" } : Jvm.MethodName)) ∈ lw_all := lw_g (lw_at lw_m8 28 rfl) rfl
theorem q1845 : (Jvm.Cond.code ({ cls := "AgainstFeatherModel", name := "putBack", desc := "()V" } : Jvm.MethodName) prog_15_method_94_code (2 : Nat) (Option.none : Option Jvm.ClassFile.FieldType)) ∈ lw_all := lw_g (lw_at lw_m8 29 rfl) rfl
theorem q1847 : (Jvm.Cond.instanceMethod ({ cls := "AgainstFeatherModel", name := "passing", desc := "(II)I" } : Jvm.MethodName)) ∈ lw_all := lw_g (lw_at lw_m8 31 rfl) rfl
theorem q1848 : (Jvm.Cond.selects "AgainstFeatherModel" ({ cls := "AgainstFeatherModel", name := "passing", desc := "(II)I" } : Jvm.MethodName) ({ cls := "AgainstFeatherModel", name := "passing", desc := "(II)I" } : Jvm.MethodName)) ∈ lw_all := lw_g (lw_at lw_m8 32 rfl) rfl
theorem q1849 : (Jvm.Cond.code ({ cls := "AgainstFeatherModel", name := "passing", desc := "(II)I" } : Jvm.MethodName) prog_15_method_101_code (6 : Nat) (Option.some Jvm.ClassFile.FieldType.int)) ∈ lw_all := lw_g (lw_at lw_m8 33 rfl) rfl
theorem q1851 : (Jvm.Cond.instanceMethod ({ cls := "AgainstFeatherModel", name := "orderless", desc := "(I)I" } : Jvm.MethodName)) ∈ lw_all := lw_g (lw_at lw_m8 35 rfl) rfl
theorem q1852 : (Jvm.Cond.selects "AgainstFeatherModel" ({ cls := "AgainstFeatherModel", name := "orderless", desc := "(I)I" } : Jvm.MethodName) ({ cls := "AgainstFeatherModel", name := "orderless", desc := "(I)I" } : Jvm.MethodName)) ∈ lw_all := lw_g (lw_at lw_m8 36 rfl) rfl
theorem q1853 : (Jvm.Cond.code ({ cls := "AgainstFeatherModel", name := "orderless", desc := "(I)I" } : Jvm.MethodName) prog_15_method_103_code (3 : Nat) (Option.some Jvm.ClassFile.FieldType.int)) ∈ lw_all := lw_g (lw_at lw_m8 37 rfl) rfl
theorem q1854 : (Jvm.Cond.methodLink "AgainstFeatherModel" (407 : Nat) ({ cls := "AgainstFeatherModel", name := "isOrderless", desc := "(II)Z" } : Jvm.MethodName)) ∈ lw_all := lw_g (lw_at lw_m8 38 rfl) rfl
theorem q1855 : (Jvm.Cond.privateMethod ({ cls := "AgainstFeatherModel", name := "isOrderless", desc := "(II)Z" } : Jvm.MethodName)) ∈ lw_tbl := lw_at lw_m8 39 rfl
theorem q1856 : (Jvm.Cond.instanceMethod ({ cls := "AgainstFeatherModel", name := "isOrderless", desc := "(II)Z" } : Jvm.MethodName)) ∈ lw_all := lw_g (lw_at lw_m8 40 rfl) rfl
theorem q1857 : (Jvm.Cond.code ({ cls := "AgainstFeatherModel", name := "isOrderless", desc := "(II)Z" } : Jvm.MethodName) prog_15_method_102_code (5 : Nat) (Option.some Jvm.ClassFile.FieldType.boolean)) ∈ lw_all := lw_g (lw_at lw_m8 41 rfl) rfl
theorem q1859 : (Jvm.Cond.instanceMethod ({ cls := "AgainstFeatherModel", name := "sticking", desc := "(I)I" } : Jvm.MethodName)) ∈ lw_all := lw_g (lw_at lw_m8 43 rfl) rfl
theorem q1860 : (Jvm.Cond.selects "AgainstFeatherModel" ({ cls := "AgainstFeatherModel", name := "sticking", desc := "(I)I" } : Jvm.MethodName) ({ cls := "AgainstFeatherModel", name := "sticking", desc := "(I)I" } : Jvm.MethodName)) ∈ lw_all := lw_g (lw_at lw_m8 44 rfl) rfl
theorem q1861 : (Jvm.Cond.code ({ cls := "AgainstFeatherModel", name := "sticking", desc := "(I)I" } : Jvm.MethodName) prog_15_method_104_code (3 : Nat) (Option.some Jvm.ClassFile.FieldType.int)) ∈ lw_all := lw_g (lw_at lw_m8 45 rfl) rfl
theorem q1863 : (Jvm.Cond.instanceMethod ({ cls := "AgainstFeatherModel", name := "truly", desc := "(I)I" } : Jvm.MethodName)) ∈ lw_all := lw_g (lw_at lw_m8 47 rfl) rfl
theorem q1864 : (Jvm.Cond.selects "AgainstFeatherModel" ({ cls := "AgainstFeatherModel", name := "truly", desc := "(I)I" } : Jvm.MethodName) ({ cls := "AgainstFeatherModel", name := "truly", desc := "(I)I" } : Jvm.MethodName)) ∈ lw_all := lw_g (lw_at lw_m8 48 rfl) rfl
theorem q1865 : (Jvm.Cond.code ({ cls := "AgainstFeatherModel", name := "truly", desc := "(I)I" } : Jvm.MethodName) prog_15_method_105_code (4 : Nat) (Option.some Jvm.ClassFile.FieldType.int)) ∈ lw_all := lw_g (lw_at lw_m8 49 rfl) rfl
theorem q1867 : (Jvm.Cond.instanceMethod ({ cls := "AgainstFeatherModel", name := "lies", desc := "(II)I" } : Jvm.MethodName)) ∈ lw_all := lw_g (lw_at lw_m8 51 rfl) rfl
theorem q1868 : (Jvm.Cond.selects "AgainstFeatherModel" ({ cls := "AgainstFeatherModel", name := "lies", desc := "(II)I" } : Jvm.MethodName) ({ cls := "AgainstFeatherModel", name := "lies", desc := "(II)I" } : Jvm.MethodName)) ∈ lw_all := lw_g (lw_at lw_m8 52 rfl) rfl
theorem q1869 : (Jvm.Cond.code ({ cls := "AgainstFeatherModel", name := "lies", desc := "(II)I" } : Jvm.MethodName) prog_15_method_107_code (6 : Nat) (Option.some Jvm.ClassFile.FieldType.int)) ∈ lw_all := lw_g (lw_at lw_m8 53 rfl) rfl
theorem q1870 : (Jvm.Cond.methodLink "AgainstFeatherModel" (410 : Nat) ({ cls := "AgainstFeatherModel", name := "truly", desc := "(I)I" } : Jvm.MethodName)) ∈ lw_all := lw_g (lw_at lw_m8 54 rfl) rfl
theorem q1871 : (Jvm.Cond.methodLink "AgainstFeatherModel" (413 : Nat) ({ cls := "AgainstFeatherModel", name := "comesThrough", desc := "(II)Z" } : Jvm.MethodName)) ∈ lw_all := lw_g (lw_at lw_m8 55 rfl) rfl
theorem q1872 : (Jvm.Cond.privateMethod ({ cls := "AgainstFeatherModel", name := "comesThrough", desc := "(II)Z" } : Jvm.MethodName)) ∈ lw_tbl := lw_at lw_m8 56 rfl
theorem q1873 : (Jvm.Cond.instanceMethod ({ cls := "AgainstFeatherModel", name := "comesThrough", desc := "(II)Z" } : Jvm.MethodName)) ∈ lw_all := lw_g (lw_at lw_m8 57 rfl) rfl
theorem q1874 : (Jvm.Cond.code ({ cls := "AgainstFeatherModel", name := "comesThrough", desc := "(II)Z" } : Jvm.MethodName) prog_15_method_106_code (6 : Nat) (Option.some Jvm.ClassFile.FieldType.boolean)) ∈ lw_all := lw_g (lw_at lw_m8 58 rfl) rfl
theorem q1876 : (Jvm.Cond.instanceMethod ({ cls := "AgainstFeatherModel", name := "lending", desc := "(II)I" } : Jvm.MethodName)) ∈ lw_all := lw_g (lw_at lw_m8 60 rfl) rfl
theorem q1877 : (Jvm.Cond.selects "AgainstFeatherModel" ({ cls := "AgainstFeatherModel", name := "lending", desc := "(II)I" } : Jvm.MethodName) ({ cls := "AgainstFeatherModel", name := "lending", desc := "(II)I" } : Jvm.MethodName)) ∈ lw_all := lw_g (lw_at lw_m8 61 rfl) rfl
theorem q1878 : (Jvm.Cond.code ({ cls := "AgainstFeatherModel", name := "lending", desc := "(II)I" } : Jvm.MethodName) prog_15_method_113_code (6 : Nat) (Option.some Jvm.ClassFile.FieldType.int)) ∈ lw_all := lw_g (lw_at lw_m8 62 rfl) rfl
theorem q1879 : (Jvm.Cond.methodLink "AgainstFeatherModel" (425 : Nat) ({ cls := "AgainstFeatherModel", name := "findBelow", desc := "()V" } : Jvm.MethodName)) ∈ lw_all := lw_g (lw_at lw_m8 63 rfl) rfl
theorem q1880 : (Jvm.Cond.privateMethod ({ cls := "AgainstFeatherModel", name := "findBelow", desc := "()V" } : Jvm.MethodName)) ∈ lw_tbl := lw_at lw_m8 64 rfl
theorem q1881 : (Jvm.Cond.instanceMethod ({ cls := "AgainstFeatherModel", name := "findBelow", desc := "()V" } : Jvm.MethodName)) ∈ lw_all := lw_g (lw_at lw_m8 65 rfl) rfl
theorem q1882 : (Jvm.Cond.code ({ cls := "AgainstFeatherModel", name := "findBelow", desc := "()V" } : Jvm.MethodName) prog_15_method_111_code (2 : Nat) (Option.none : Option Jvm.ClassFile.FieldType)) ∈ lw_all := lw_g (lw_at lw_m8 66 rfl) rfl
theorem q1883 : (Jvm.Cond.methodLink "AgainstFeatherModel" (419 : Nat) ({ cls := "AgainstFeatherModel", name := "findLacks", desc := "()V" } : Jvm.MethodName)) ∈ lw_all := lw_g (lw_at lw_m8 67 rfl) rfl
theorem q1884 : (Jvm.Cond.privateMethod ({ cls := "AgainstFeatherModel", name := "findLacks", desc := "()V" } : Jvm.MethodName)) ∈ lw_tbl := lw_at lw_m8 68 rfl
theorem q1885 : (Jvm.Cond.instanceMethod ({ cls := "AgainstFeatherModel", name := "findLacks", desc := "()V" } : Jvm.MethodName)) ∈ lw_all := lw_g (lw_at lw_m8 69 rfl) rfl
theorem q1886 : (Jvm.Cond.code ({ cls := "AgainstFeatherModel", name := "findLacks", desc := "()V" } : Jvm.MethodName) prog_15_method_108_code (3 : Nat) (Option.none : Option Jvm.ClassFile.FieldType)) ∈ lw_all := lw_g (lw_at lw_m8 70 rfl) rfl
theorem q1887 : (Jvm.Cond.methodLink "AgainstFeatherModel" (422 : Nat) ({ cls := "AgainstFeatherModel", name := "tooMuch", desc := "()I" } : Jvm.MethodName)) ∈ lw_all := lw_g (lw_at lw_m8 71 rfl) rfl
theorem q1888 : (Jvm.Cond.privateMethod ({ cls := "AgainstFeatherModel", name := "tooMuch", desc := "()I" } : Jvm.MethodName)) ∈ lw_tbl := lw_at lw_m8 72 rfl
theorem q1889 : (Jvm.Cond.instanceMethod ({ cls := "AgainstFeatherModel", name := "tooMuch", desc := "()I" } : Jvm.MethodName)) ∈ lw_all := lw_g (lw_at lw_m8 73 rfl) rfl
theorem q1890 : (Jvm.Cond.code ({ cls := "AgainstFeatherModel", name := "tooMuch", desc := "()I" } : Jvm.MethodName) prog_15_method_110_code (4 : Nat) (Option.some Jvm.ClassFile.FieldType.int)) ∈ lw_all := lw_g (lw_at lw_m8 74 rfl) rfl
theorem q1891 : (Jvm.Cond.methodLink "AgainstFeatherModel" (416 : Nat) ({ cls := "AgainstFeatherModel", name := "isTooMuch", desc := "(I)Z" } : Jvm.MethodName)) ∈ lw_all := lw_g (lw_at lw_m8 75 rfl) rfl
theorem q1892 : (Jvm.Cond.privateMethod ({ cls := "AgainstFeatherModel", name := "isTooMuch", desc := "(I)Z" } : Jvm.MethodName)) ∈ lw_tbl := lw_at lw_m8 76 rfl
theorem q1893 : (Jvm.Cond.instanceMethod ({ cls := "AgainstFeatherModel", name := "isTooMuch", desc := "(I)Z" } : Jvm.MethodName)) ∈ lw_all := lw_g (lw_at lw_m8 77 rfl) rfl
theorem q1894 : (Jvm.Cond.code ({ cls := "AgainstFeatherModel", name := "isTooMuch", desc := "(I)Z" } : Jvm.MethodName) prog_15_method_109_code (7 : Nat) (Option.some Jvm.ClassFile.FieldType.boolean)) ∈ lw_all := lw_g (lw_at lw_m8 78 rfl) rfl
theorem q1895 : (Jvm.Cond.methodLink "AgainstFeatherModel" (428 : Nat) ({ cls := "AgainstFeatherModel", name := "findLent", desc := "(II)V" } : Jvm.MethodName)) ∈ lw_all := lw_g (lw_at lw_m8 79 rfl) rfl
theorem q1896 : (Jvm.Cond.privateMethod ({ cls := "AgainstFeatherModel", name := "findLent", desc := "(II)V" } : Jvm.MethodName)) ∈ lw_tbl := lw_at lw_m8 80 rfl
theorem q1897 : (Jvm.Cond.instanceMethod ({ cls := "AgainstFeatherModel", name := "findLent", desc := "(II)V" } : Jvm.MethodName)) ∈ lw_all := lw_g (lw_at lw_m8 81 rfl) rfl
theorem q1898 : (Jvm.Cond.code ({ cls := "AgainstFeatherModel", name := "findLent", desc := "(II)V" } : Jvm.MethodName) prog_15_method_112_code (8 : Nat) (Option.none : Option Jvm.ClassFile.FieldType)) ∈ lw_all := lw_g (lw_at lw_m8 82 rfl) rfl
theorem q1900 : (Jvm.Cond.instanceMethod ({ cls := "AgainstFeatherModel", name := "whoCannot", desc := "()I" } : Jvm.MethodName)) ∈ lw_all := lw_g (lw_at lw_m8 84 rfl) rfl
theorem q1901 : (Jvm.Cond.selects "AgainstFeatherModel" ({ cls := "AgainstFeatherModel", name := "whoCannot", desc := "()I" } : Jvm.MethodName) ({ cls := "AgainstFeatherModel", name := "whoCannot", desc := "()I" } : Jvm.MethodName)) ∈ lw_all := lw_g (lw_at lw_m8 85 rfl) rfl
theorem q1902 : (Jvm.Cond.code ({ cls := "AgainstFeatherModel", name := "whoCannot", desc := "()I" } : Jvm.MethodName) prog_15_method_114_code (1 : Nat) (Option.some Jvm.ClassFile.FieldType.int)) ∈ lw_all := lw_g (lw_at lw_m8 86 rfl) rfl
theorem q1904 : (Jvm.Cond.instanceMethod ({ cls := "AgainstFeatherModel", name := "kindness", desc := "(I)I" } : Jvm.MethodName)) ∈ lw_all := lw_g (lw_at lw_m8 88 rfl) rfl
theorem q1905 : (Jvm.Cond.selects "AgainstFeatherModel" ({ cls := "AgainstFeatherModel", name := "kindness", desc := "(I)I" } : Jvm.MethodName) ({ cls := "AgainstFeatherModel", name := "kindness", desc := "(I)I" } : Jvm.MethodName)) ∈ lw_all := lw_g (lw_at lw_m8 89 rfl) rfl
theorem q1906 : (Jvm.Cond.code ({ cls := "AgainstFeatherModel", name := "kindness", desc := "(I)I" } : Jvm.MethodName) prog_15_method_115_code (6 : Nat) (Option.some Jvm.ClassFile.FieldType.int)) ∈ lw_all := lw_g (lw_at lw_m8 90 rfl) rfl
theorem q1908 : (Jvm.Cond.instanceMethod ({ cls := "AgainstFeatherModel", name := "known", desc := "(II)I" } : Jvm.MethodName)) ∈ lw_all := lw_g (lw_at lw_m8 92 rfl) rfl
theorem q1909 : (Jvm.Cond.selects "AgainstFeatherModel" ({ cls := "AgainstFeatherModel", name := "known", desc := "(II)I" } : Jvm.MethodName) ({ cls := "AgainstFeatherModel", name := "known", desc := "(II)I" } : Jvm.MethodName)) ∈ lw_all := lw_g (lw_at lw_m8 93 rfl) rfl
theorem q1910 : (Jvm.Cond.code ({ cls := "AgainstFeatherModel", name := "known", desc := "(II)I" } : Jvm.MethodName) prog_15_method_116_code (3 : Nat) (Option.some Jvm.ClassFile.FieldType.int)) ∈ lw_all := lw_g (lw_at lw_m8 94 rfl) rfl
theorem q1912 : (Jvm.Cond.instanceMethod ({ cls := "AgainstFeatherModel", name := "fit", desc := "()I" } : Jvm.MethodName)) ∈ lw_all := lw_g (lw_at lw_m8 96 rfl) rfl
theorem q1913 : (Jvm.Cond.selects "AgainstFeatherModel" ({ cls := "AgainstFeatherModel", name := "fit", desc := "()I" } : Jvm.MethodName) ({ cls := "AgainstFeatherModel", name := "fit", desc := "()I" } : Jvm.MethodName)) ∈ lw_all := lw_g (lw_at lw_m8 97 rfl) rfl
theorem q1914 : (Jvm.Cond.code ({ cls := "AgainstFeatherModel", name := "fit", desc := "()I" } : Jvm.MethodName) prog_15_method_118_code (3 : Nat) (Option.some Jvm.ClassFile.FieldType.int)) ∈ lw_all := lw_g (lw_at lw_m8 98 rfl) rfl
theorem q1915 : (Jvm.Cond.methodLink "AgainstFeatherModel" (431 : Nat) ({ cls := "AgainstFeatherModel", name := "isFitting", desc := "(I)Z" } : Jvm.MethodName)) ∈ lw_all := lw_g (lw_at lw_m8 99 rfl) rfl
theorem q1916 : (Jvm.Cond.privateMethod ({ cls := "AgainstFeatherModel", name := "isFitting", desc := "(I)Z" } : Jvm.MethodName)) ∈ lw_tbl := lw_at lw_m8 100 rfl
theorem q1917 : (Jvm.Cond.instanceMethod ({ cls := "AgainstFeatherModel", name := "isFitting", desc := "(I)Z" } : Jvm.MethodName)) ∈ lw_all := lw_g (lw_at lw_m8 101 rfl) rfl
theorem q1918 : (Jvm.Cond.code ({ cls := "AgainstFeatherModel", name := "isFitting", desc := "(I)Z" } : Jvm.MethodName) prog_15_method_117_code (5 : Nat) (Option.some Jvm.ClassFile.FieldType.boolean)) ∈ lw_all := lw_g (lw_at lw_m8 102 rfl) rfl
theorem q1920 : (Jvm.Cond.instanceMethod ({ cls := "AgainstFeatherModel", name := "smallest", desc := "(I)I" } : Jvm.MethodName)) ∈ lw_all := lw_g (lw_at lw_m8 104 rfl) rfl
theorem q1921 : (Jvm.Cond.selects "AgainstFeatherModel" ({ cls := "AgainstFeatherModel", name := "smallest", desc := "(I)I" } : Jvm.MethodName) ({ cls := "AgainstFeatherModel", name := "smallest", desc := "(I)I" } : Jvm.MethodName)) ∈ lw_all := lw_g (lw_at lw_m8 105 rfl) rfl
theorem q1922 : (Jvm.Cond.code ({ cls := "AgainstFeatherModel", name := "smallest", desc := "(I)I" } : Jvm.MethodName) prog_15_method_122_code (7 : Nat) (Option.some Jvm.ClassFile.FieldType.int)) ∈ lw_all := lw_g (lw_at lw_m8 106 rfl) rfl
theorem q1923 : (Jvm.Cond.methodLink "AgainstFeatherModel" (434 : Nat) ({ cls := "AgainstFeatherModel", name := "findFacts", desc := "()V" } : Jvm.MethodName)) ∈ lw_all := lw_g (lw_at lw_m8 107 rfl) rfl
theorem q1924 : (Jvm.Cond.privateMethod ({ cls := "AgainstFeatherModel", name := "findFacts", desc := "()V" } : Jvm.MethodName)) ∈ lw_tbl := lw_at lw_m8 108 rfl
theorem q1925 : (Jvm.Cond.instanceMethod ({ cls := "AgainstFeatherModel", name := "findFacts", desc := "()V" } : Jvm.MethodName)) ∈ lw_all := lw_g (lw_at lw_m8 109 rfl) rfl
theorem q1926 : (Jvm.Cond.code ({ cls := "AgainstFeatherModel", name := "findFacts", desc := "()V" } : Jvm.MethodName) prog_15_method_119_code (4 : Nat) (Option.none : Option Jvm.ClassFile.FieldType)) ∈ lw_all := lw_g (lw_at lw_m8 110 rfl) rfl
theorem q1927 : (Jvm.Cond.constant "AgainstFeatherModel" (437 : Nat) (1000000 : Int32)) ∈ lw_all := lw_g (lw_at lw_m8 111 rfl) rfl
theorem q1928 : (Jvm.Cond.methodLink "AgainstFeatherModel" (438 : Nat) ({ cls := "AgainstFeatherModel", name := "isRight", desc := "(I)Z" } : Jvm.MethodName)) ∈ lw_all := lw_g (lw_at lw_m8 112 rfl) rfl
theorem q1929 : (Jvm.Cond.privateMethod ({ cls := "AgainstFeatherModel", name := "isRight", desc := "(I)Z" } : Jvm.MethodName)) ∈ lw_tbl := lw_at lw_m8 113 rfl
theorem q1930 : (Jvm.Cond.instanceMethod ({ cls := "AgainstFeatherModel", name := "isRight", desc := "(I)Z" } : Jvm.MethodName)) ∈ lw_all := lw_g (lw_at lw_m8 114 rfl) rfl
theorem q1931 : (Jvm.Cond.code ({ cls := "AgainstFeatherModel", name := "isRight", desc := "(I)Z" } : Jvm.MethodName) prog_15_method_121_code (5 : Nat) (Option.some Jvm.ClassFile.FieldType.boolean)) ∈ lw_all := lw_g (lw_at lw_m8 115 rfl) rfl
theorem q1932 : (Jvm.Cond.methodLink "AgainstFeatherModel" (441 : Nat) ({ cls := "AgainstFeatherModel", name := "sizeOf", desc := "(I)I" } : Jvm.MethodName)) ∈ lw_all := lw_g (lw_at lw_m8 116 rfl) rfl
theorem q1933 : (Jvm.Cond.static ({ cls := "AgainstFeatherModel", name := "sizeOf", desc := "(I)I" } : Jvm.MethodName)) ∈ lw_all := lw_g (lw_at lw_m8 117 rfl) rfl
theorem q1934 : (Jvm.Cond.code ({ cls := "AgainstFeatherModel", name := "sizeOf", desc := "(I)I" } : Jvm.MethodName) prog_15_method_120_code (1 : Nat) (Option.some Jvm.ClassFile.FieldType.int)) ∈ lw_all := lw_g (lw_at lw_m8 118 rfl) rfl
theorem q1936 : (Jvm.Cond.instanceMethod ({ cls := "AgainstFeatherModel", name := "tells", desc := "()I" } : Jvm.MethodName)) ∈ lw_all := lw_g (lw_at lw_m8 120 rfl) rfl
theorem q1937 : (Jvm.Cond.selects "AgainstFeatherModel" ({ cls := "AgainstFeatherModel", name := "tells", desc := "()I" } : Jvm.MethodName) ({ cls := "AgainstFeatherModel", name := "tells", desc := "()I" } : Jvm.MethodName)) ∈ lw_all := lw_g (lw_at lw_m8 121 rfl) rfl
theorem q1938 : (Jvm.Cond.code ({ cls := "AgainstFeatherModel", name := "tells", desc := "()I" } : Jvm.MethodName) prog_15_method_124_code (6 : Nat) (Option.some Jvm.ClassFile.FieldType.int)) ∈ lw_all := lw_g (lw_at lw_m8 122 rfl) rfl
theorem q1939 : (Jvm.Cond.methodLink "AgainstFeatherModel" (444 : Nat) ({ cls := "AgainstFeatherModel", name := "fit", desc := "()I" } : Jvm.MethodName)) ∈ lw_all := lw_g (lw_at lw_m8 123 rfl) rfl
theorem q1940 : (Jvm.Cond.methodLink "AgainstFeatherModel" (447 : Nat) ({ cls := "AgainstFeatherModel", name := "alikeAt", desc := "(II)I" } : Jvm.MethodName)) ∈ lw_all := lw_g (lw_at lw_m8 124 rfl) rfl
theorem q1941 : (Jvm.Cond.privateMethod ({ cls := "AgainstFeatherModel", name := "alikeAt", desc := "(II)I" } : Jvm.MethodName)) ∈ lw_tbl := lw_at lw_m8 125 rfl
theorem q1942 : (Jvm.Cond.instanceMethod ({ cls := "AgainstFeatherModel", name := "alikeAt", desc := "(II)I" } : Jvm.MethodName)) ∈ lw_all := lw_g (lw_at lw_m8 126 rfl) rfl
theorem q1943 : (Jvm.Cond.code ({ cls := "AgainstFeatherModel", name := "alikeAt", desc := "(II)I" } : Jvm.MethodName) prog_15_method_123_code (7 : Nat) (Option.some Jvm.ClassFile.FieldType.int)) ∈ lw_all := lw_g (lw_at lw_m8 127 rfl) rfl
theorem q1945 : (Jvm.Cond.instanceMethod ({ cls := "AgainstFeatherModel", name := "should", desc := "(I)Z" } : Jvm.MethodName)) ∈ lw_all := lw_g (lw_at lw_m8 129 rfl) rfl
theorem q1946 : (Jvm.Cond.selects "AgainstFeatherModel" ({ cls := "AgainstFeatherModel", name := "should", desc := "(I)Z" } : Jvm.MethodName) ({ cls := "AgainstFeatherModel", name := "should", desc := "(I)Z" } : Jvm.MethodName)) ∈ lw_all := lw_g (lw_at lw_m8 130 rfl) rfl
theorem q1947 : (Jvm.Cond.code ({ cls := "AgainstFeatherModel", name := "should", desc := "(I)Z" } : Jvm.MethodName) prog_15_method_125_code (2 : Nat) (Option.some Jvm.ClassFile.FieldType.boolean)) ∈ lw_all := lw_g (lw_at lw_m8 131 rfl) rfl
theorem q1949 : (Jvm.Cond.instanceMethod ({ cls := "AgainstFeatherModel", name := "featherForAll", desc := "(Z)I" } : Jvm.MethodName)) ∈ lw_all := lw_g (lw_at lw_m8 133 rfl) rfl
theorem q1950 : (Jvm.Cond.selects "AgainstFeatherModel" ({ cls := "AgainstFeatherModel", name := "featherForAll", desc := "(Z)I" } : Jvm.MethodName) ({ cls := "AgainstFeatherModel", name := "featherForAll", desc := "(Z)I" } : Jvm.MethodName)) ∈ lw_all := lw_g (lw_at lw_m8 134 rfl) rfl
theorem q1951 : (Jvm.Cond.code ({ cls := "AgainstFeatherModel", name := "featherForAll", desc := "(Z)I" } : Jvm.MethodName) prog_15_method_126_code (7 : Nat) (Option.some Jvm.ClassFile.FieldType.int)) ∈ lw_all := lw_g (lw_at lw_m8 135 rfl) rfl
theorem q1953 : (Jvm.Cond.instanceMethod ({ cls := "AgainstFeatherModel", name := "odds", desc := "(IIZ)J" } : Jvm.MethodName)) ∈ lw_all := lw_g (lw_at lw_m8 137 rfl) rfl
theorem q1954 : (Jvm.Cond.selects "AgainstFeatherModel" ({ cls := "AgainstFeatherModel", name := "odds", desc := "(IIZ)J" } : Jvm.MethodName) ({ cls := "AgainstFeatherModel", name := "odds", desc := "(IIZ)J" } : Jvm.MethodName)) ∈ lw_all := lw_g (lw_at lw_m8 138 rfl) rfl
theorem q1955 : (Jvm.Cond.code ({ cls := "AgainstFeatherModel", name := "odds", desc := "(IIZ)J" } : Jvm.MethodName) prog_15_method_131_code (8 : Nat) (Option.some Jvm.ClassFile.FieldType.long)) ∈ lw_all := lw_g (lw_at lw_m8 139 rfl) rfl
theorem q1956 : (Jvm.Cond.methodLink "AgainstFeatherModel" (452 : Nat) ({ cls := "AgainstFeatherModel", name := "isOdd", desc := "(I)Z" } : Jvm.MethodName)) ∈ lw_all := lw_g (lw_at lw_m8 140 rfl) rfl
theorem q1957 : (Jvm.Cond.static ({ cls := "AgainstFeatherModel", name := "isOdd", desc := "(I)Z" } : Jvm.MethodName)) ∈ lw_all := lw_g (lw_at lw_m8 141 rfl) rfl
theorem q1958 : (Jvm.Cond.code ({ cls := "AgainstFeatherModel", name := "isOdd", desc := "(I)Z" } : Jvm.MethodName) prog_15_method_130_code (1 : Nat) (Option.some Jvm.ClassFile.FieldType.boolean)) ∈ lw_all := lw_g (lw_at lw_m8 142 rfl) rfl
theorem q1959 : (Jvm.Cond.constantLong "AgainstFeatherModel" (455 : Nat) (-1 : Int64)) ∈ lw_all := lw_g (lw_at lw_m8 143 rfl) rfl
theorem q1960 : (Jvm.Cond.methodLink "AgainstFeatherModel" (457 : Nat) ({ cls := "AgainstFeatherModel", name := "rightWays", desc := "(II)J" } : Jvm.MethodName)) ∈ lw_all := lw_g (lw_at lw_m8 144 rfl) rfl
theorem q1961 : (Jvm.Cond.privateMethod ({ cls := "AgainstFeatherModel", name := "rightWays", desc := "(II)J" } : Jvm.MethodName)) ∈ lw_tbl := lw_at lw_m8 145 rfl
theorem q1962 : (Jvm.Cond.instanceMethod ({ cls := "AgainstFeatherModel", name := "rightWays", desc := "(II)J" } : Jvm.MethodName)) ∈ lw_all := lw_g (lw_at lw_m8 146 rfl) rfl
theorem q1963 : (Jvm.Cond.code ({ cls := "AgainstFeatherModel", name := "rightWays", desc := "(II)J" } : Jvm.MethodName) prog_15_method_127_code (6 : Nat) (Option.some Jvm.ClassFile.FieldType.long)) ∈ lw_all := lw_g (lw_at lw_m8 147 rfl) rfl
theorem q1964 : (Jvm.Cond.methodLink "AgainstFeatherModel" (461 : Nat) ({ cls := "AgainstFeatherModel", name := "tenTo", desc := "(I)J" } : Jvm.MethodName)) ∈ lw_all := lw_g (lw_at lw_m8 148 rfl) rfl
theorem q1965 : (Jvm.Cond.static ({ cls := "AgainstFeatherModel", name := "tenTo", desc := "(I)J" } : Jvm.MethodName)) ∈ lw_all := lw_g (lw_at lw_m8 149 rfl) rfl
theorem q1966 : (Jvm.Cond.code ({ cls := "AgainstFeatherModel", name := "tenTo", desc := "(I)J" } : Jvm.MethodName) prog_15_method_128_code (4 : Nat) (Option.some Jvm.ClassFile.FieldType.long)) ∈ lw_all := lw_g (lw_at lw_m8 150 rfl) rfl
theorem q1967 : (Jvm.Cond.constantLong "AgainstFeatherModel" (450 : Nat) (10 : Int64)) ∈ lw_all := lw_g (lw_at lw_m8 151 rfl) rfl
theorem q1968 : (Jvm.Cond.methodLink "AgainstFeatherModel" (465 : Nat) ({ cls := "AgainstFeatherModel", name := "common", desc := "(JJ)J" } : Jvm.MethodName)) ∈ lw_all := lw_g (lw_at lw_m8 152 rfl) rfl
theorem q1969 : (Jvm.Cond.static ({ cls := "AgainstFeatherModel", name := "common", desc := "(JJ)J" } : Jvm.MethodName)) ∈ lw_all := lw_g (lw_at lw_m8 153 rfl) rfl
theorem q1970 : (Jvm.Cond.code ({ cls := "AgainstFeatherModel", name := "common", desc := "(JJ)J" } : Jvm.MethodName) prog_15_method_129_code (10 : Nat) (Option.some Jvm.ClassFile.FieldType.long)) ∈ lw_all := lw_g (lw_at lw_m8 154 rfl) rfl
theorem q1972 : (Jvm.Cond.instanceMethod ({ cls := "AgainstFeatherModel", name := "often", desc := "(II)I" } : Jvm.MethodName)) ∈ lw_all := lw_g (lw_at lw_m8 156 rfl) rfl
theorem q1973 : (Jvm.Cond.selects "AgainstFeatherModel" ({ cls := "AgainstFeatherModel", name := "often", desc := "(II)I" } : Jvm.MethodName) ({ cls := "AgainstFeatherModel", name := "often", desc := "(II)I" } : Jvm.MethodName)) ∈ lw_all := lw_g (lw_at lw_m8 157 rfl) rfl
theorem q1974 : (Jvm.Cond.code ({ cls := "AgainstFeatherModel", name := "often", desc := "(II)I" } : Jvm.MethodName) prog_15_method_132_code (4 : Nat) (Option.some Jvm.ClassFile.FieldType.int)) ∈ lw_all := lw_g (lw_at lw_m8 158 rfl) rfl
theorem q1975 : (Jvm.Cond.constantLong "AgainstFeatherModel" (469 : Nat) (100 : Int64)) ∈ lw_all := lw_g (lw_at lw_m8 159 rfl) rfl
theorem q1977 : (Jvm.Cond.instanceMethod ({ cls := "AgainstFeatherModel", name := "image", desc := "()I" } : Jvm.MethodName)) ∈ lw_all := lw_g (lw_at lw_m8 161 rfl) rfl
theorem q1978 : (Jvm.Cond.selects "AgainstFeatherModel" ({ cls := "AgainstFeatherModel", name := "image", desc := "()I" } : Jvm.MethodName) ({ cls := "AgainstFeatherModel", name := "image", desc := "()I" } : Jvm.MethodName)) ∈ lw_all := lw_g (lw_at lw_m8 162 rfl) rfl
theorem q1979 : (Jvm.Cond.code ({ cls := "AgainstFeatherModel", name := "image", desc := "()I" } : Jvm.MethodName) prog_15_method_133_code (1 : Nat) (Option.some Jvm.ClassFile.FieldType.int)) ∈ lw_all := lw_g (lw_at lw_m8 163 rfl) rfl
theorem q1981 : (Jvm.Cond.instanceMethod ({ cls := "AgainstFeatherModel", name := "back", desc := "()I" } : Jvm.MethodName)) ∈ lw_all := lw_g (lw_at lw_m8 165 rfl) rfl
theorem q1982 : (Jvm.Cond.selects "AgainstFeatherModel" ({ cls := "AgainstFeatherModel", name := "back", desc := "()I" } : Jvm.MethodName) ({ cls := "AgainstFeatherModel", name := "back", desc := "()I" } : Jvm.MethodName)) ∈ lw_all := lw_g (lw_at lw_m8 166 rfl) rfl
theorem q1983 : (Jvm.Cond.code ({ cls := "AgainstFeatherModel", name := "back", desc := "()I" } : Jvm.MethodName) prog_15_method_134_code (1 : Nat) (Option.some Jvm.ClassFile.FieldType.int)) ∈ lw_all := lw_g (lw_at lw_m8 167 rfl) rfl
theorem q1985 : (Jvm.Cond.instanceMethod ({ cls := "AgainstFeatherModel", name := "about", desc := "(I)I" } : Jvm.MethodName)) ∈ lw_all := lw_g (lw_at lw_m8 169 rfl) rfl
theorem q1986 : (Jvm.Cond.selects "AgainstFeatherModel" ({ cls := "AgainstFeatherModel", name := "about", desc := "(I)I" } : Jvm.MethodName) ({ cls := "AgainstFeatherModel", name := "about", desc := "(I)I" } : Jvm.MethodName)) ∈ lw_all := lw_g (lw_at lw_m8 170 rfl) rfl
theorem q1987 : (Jvm.Cond.code ({ cls := "AgainstFeatherModel", name := "about", desc := "(I)I" } : Jvm.MethodName) prog_15_method_135_code (2 : Nat) (Option.some Jvm.ClassFile.FieldType.int)) ∈ lw_all := lw_g (lw_at lw_m8 171 rfl) rfl
theorem q1995 : (Jvm.Cond.castable "AgainstFeatherModel" "java/lang/Object") ∈ lw_tbl := lw_at lw_m8 179 rfl
theorem in_X2 : ∀ w ∈ wsX20, w ∈ lw_all := lw_in wsX20 [1377, 1379, 1381, 1383, 1385, 1387, 1389, 1391, 1393, 1395, 1397, 1399, 1401, 1403, 1405, 1407, 1409, 1411, 1413, 1415, 1417, 1419, 1421, 1423, 1425, 1427, 1429, 1431, 1433, 1435, 1437, 1439, 1441, 1443, 1445] (by decide +kernel) (by decide +kernel)
