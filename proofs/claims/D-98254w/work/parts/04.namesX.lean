/-! AgainstFeather$State -/
set_option maxRecDepth 100000
def RX1 : String := "AgainstFeather$State"
def TX1 : u_T := fun k => match k with
  | 0 => ("AgainstFeather$State", "n", "[I", true)
  | 1 => ("AgainstFeather$State", "feather", "[I", true)
  | 2 => ("AgainstFeather$State", "judge", "[I", true)
  | 3 => ("AgainstFeather$State", "row", "[I", true)
  | 4 => ("AgainstFeather$State", "deed", "[[I", true)
  | 5 => ("AgainstFeather$State", "bond", "[[I", true)
  | 6 => ("AgainstFeather$State", "known", "[[I", true)
  | 7 => ("AgainstFeather$State", "step", "[[I", true)
  | _ => ("AgainstFeather$State", "text", "[LAgainstFeather$Text;", true)
def tyX1 : Nat → FieldType := fun k => match k with
  | 0 => .array .int
  | 1 => .array .int
  | 2 => .array .int
  | 3 => .array .int
  | 4 => .array (.array .int)
  | 5 => .array (.array .int)
  | 6 => .array (.array .int)
  | 7 => .array (.array .int)
  | _ => .array (.object "AgainstFeather$Text")
abbrev wsX10 : List Cond := u_ws RX1 TX1 9
theorem nmX1 : ∀ a, a < 9 → ∀ b, b < 9 → a ≠ b → (TX1 a).2.1 ≠ (TX1 b).2.1 := by decide +kernel
theorem tyX1_ok : ∀ k, k < 9 → parseFieldDescriptor (TX1 k).2.2.1 = some (tyX1 k) := by decide +kernel
abbrev cX1_init : ByteArray := prog_9_method_1_code
def yX1_init : MethodName := ⟨RX1, "<init>", "()V"⟩
def dkwX1_init_5 : List UInt8 := [180, 0, 21, 16, 7, 16, 19, 79, 177]
abbrev dktX1_init_5 : List UInt8 := dkwX1_init_5 ++ []
def dkwX1_init_4 : List UInt8 := [42, 180, 0, 9, 6, 4, 79, 42, 180, 0, 9, 8, 2, 79, 42, 180, 0, 21, 3, 2, 79, 42]
abbrev dktX1_init_4 : List UInt8 := dkwX1_init_4 ++ dktX1_init_5
def dkwX1_init_3 : List UInt8 := [181, 0, 32, 42, 16, 30, 17, 0, 195, 197, 0, 24, 2, 181, 0, 35, 42, 7, 189, 0, 38, 181, 0, 40]
abbrev dktX1_init_3 : List UInt8 := dkwX1_init_3 ++ dktX1_init_4
def dkwX1_init_2 : List UInt8 := [181, 0, 26, 42, 16, 6, 16, 6, 197, 0, 24, 2, 181, 0, 29, 42, 16, 8, 5, 197, 0, 24, 2]
abbrev dktX1_init_2 : List UInt8 := dkwX1_init_2 ++ dktX1_init_3
def dkwX1_init_1 : List UInt8 := [188, 10, 181, 0, 18, 42, 17, 0, 195, 188, 10, 181, 0, 21, 42, 16, 24, 16, 6, 197, 0, 24, 2]
abbrev dktX1_init_1 : List UInt8 := dkwX1_init_1 ++ dktX1_init_2
def dkwX1_init_0 : List UInt8 := [42, 183, 0, 3, 42, 16, 9, 188, 10, 181, 0, 9, 42, 16, 6, 188, 10, 181, 0, 15, 42, 16, 8]
abbrev dktX1_init_0 : List UInt8 := dkwX1_init_0 ++ dktX1_init_1
theorem dksX1_init_0 : cX1_init.data.toList.drop 0 = dktX1_init_0 := by decide +kernel
theorem dksX1_init_1 : cX1_init.data.toList.drop 23 = dktX1_init_1 := dk_seg dksX1_init_0 23 rfl rfl
theorem dksX1_init_2 : cX1_init.data.toList.drop 46 = dktX1_init_2 := dk_seg dksX1_init_1 23 rfl rfl
theorem dksX1_init_3 : cX1_init.data.toList.drop 69 = dktX1_init_3 := dk_seg dksX1_init_2 23 rfl rfl
theorem dksX1_init_4 : cX1_init.data.toList.drop 93 = dktX1_init_4 := dk_seg dksX1_init_3 24 rfl rfl
theorem dksX1_init_5 : cX1_init.data.toList.drop 115 = dktX1_init_5 := dk_seg dksX1_init_4 22 rfl rfl
theorem dX1_init_0 : decode cX1_init 0 = .ok (.aload_n 0, 1) := dk_42 (dk_at dksX1_init_0 0 rfl rfl)
theorem dX1_init_1 : decode cX1_init 1 = .ok (.invokespecial 3, 3) := dk_183 0 3 (dk_at dksX1_init_0 1 rfl rfl)
theorem dX1_init_4 : decode cX1_init 4 = .ok (.aload_n 0, 1) := dk_42 (dk_at dksX1_init_0 4 rfl rfl)
theorem dX1_init_5 : decode cX1_init 5 = .ok (.bipush 9, 2) := dk_16 9 (dk_at dksX1_init_0 5 rfl rfl)
theorem dX1_init_7 : decode cX1_init 7 = .ok (.newarray .int, 2) := dk_188_10 (dk_at dksX1_init_0 7 rfl rfl)
theorem dX1_init_9 : decode cX1_init 9 = .ok (.putfield 9, 3) := dk_181 0 9 (dk_at dksX1_init_0 9 rfl rfl)
theorem dX1_init_12 : decode cX1_init 12 = .ok (.aload_n 0, 1) := dk_42 (dk_at dksX1_init_0 12 rfl rfl)
theorem dX1_init_13 : decode cX1_init 13 = .ok (.bipush 6, 2) := dk_16 6 (dk_at dksX1_init_0 13 rfl rfl)
theorem dX1_init_15 : decode cX1_init 15 = .ok (.newarray .int, 2) := dk_188_10 (dk_at dksX1_init_0 15 rfl rfl)
theorem dX1_init_17 : decode cX1_init 17 = .ok (.putfield 15, 3) := dk_181 0 15 (dk_at dksX1_init_0 17 rfl rfl)
theorem dX1_init_20 : decode cX1_init 20 = .ok (.aload_n 0, 1) := dk_42 (dk_at dksX1_init_0 20 rfl rfl)
theorem dX1_init_21 : decode cX1_init 21 = .ok (.bipush 8, 2) := dk_16 8 (dk_at dksX1_init_0 21 rfl rfl)
theorem dX1_init_23 : decode cX1_init 23 = .ok (.newarray .int, 2) := dk_188_10 (dk_at dksX1_init_1 0 rfl rfl)
theorem dX1_init_25 : decode cX1_init 25 = .ok (.putfield 18, 3) := dk_181 0 18 (dk_at dksX1_init_1 2 rfl rfl)
theorem dX1_init_28 : decode cX1_init 28 = .ok (.aload_n 0, 1) := dk_42 (dk_at dksX1_init_1 5 rfl rfl)
theorem dX1_init_29 : decode cX1_init 29 = .ok (.sipush 195, 3) := dk_17 0 195 (dk_at dksX1_init_1 6 rfl rfl)
theorem dX1_init_32 : decode cX1_init 32 = .ok (.newarray .int, 2) := dk_188_10 (dk_at dksX1_init_1 9 rfl rfl)
theorem dX1_init_34 : decode cX1_init 34 = .ok (.putfield 21, 3) := dk_181 0 21 (dk_at dksX1_init_1 11 rfl rfl)
theorem dX1_init_37 : decode cX1_init 37 = .ok (.aload_n 0, 1) := dk_42 (dk_at dksX1_init_1 14 rfl rfl)
theorem dX1_init_38 : decode cX1_init 38 = .ok (.bipush 24, 2) := dk_16 24 (dk_at dksX1_init_1 15 rfl rfl)
theorem dX1_init_40 : decode cX1_init 40 = .ok (.bipush 6, 2) := dk_16 6 (dk_at dksX1_init_1 17 rfl rfl)
theorem dX1_init_42 : decode cX1_init 42 = .ok (.multianewarray 24 2, 4) := by decide +kernel
theorem dX1_init_46 : decode cX1_init 46 = .ok (.putfield 26, 3) := dk_181 0 26 (dk_at dksX1_init_2 0 rfl rfl)
theorem dX1_init_49 : decode cX1_init 49 = .ok (.aload_n 0, 1) := dk_42 (dk_at dksX1_init_2 3 rfl rfl)
theorem dX1_init_50 : decode cX1_init 50 = .ok (.bipush 6, 2) := dk_16 6 (dk_at dksX1_init_2 4 rfl rfl)
theorem dX1_init_52 : decode cX1_init 52 = .ok (.bipush 6, 2) := dk_16 6 (dk_at dksX1_init_2 6 rfl rfl)
theorem dX1_init_54 : decode cX1_init 54 = .ok (.multianewarray 24 2, 4) := by decide +kernel
theorem dX1_init_58 : decode cX1_init 58 = .ok (.putfield 29, 3) := dk_181 0 29 (dk_at dksX1_init_2 12 rfl rfl)
theorem dX1_init_61 : decode cX1_init 61 = .ok (.aload_n 0, 1) := dk_42 (dk_at dksX1_init_2 15 rfl rfl)
theorem dX1_init_62 : decode cX1_init 62 = .ok (.bipush 8, 2) := dk_16 8 (dk_at dksX1_init_2 16 rfl rfl)
theorem dX1_init_64 : decode cX1_init 64 = .ok (.iconst 2, 1) := dk_5 (dk_at dksX1_init_2 18 rfl rfl)
theorem dX1_init_65 : decode cX1_init 65 = .ok (.multianewarray 24 2, 4) := by decide +kernel
theorem dX1_init_69 : decode cX1_init 69 = .ok (.putfield 32, 3) := dk_181 0 32 (dk_at dksX1_init_3 0 rfl rfl)
theorem dX1_init_72 : decode cX1_init 72 = .ok (.aload_n 0, 1) := dk_42 (dk_at dksX1_init_3 3 rfl rfl)
theorem dX1_init_73 : decode cX1_init 73 = .ok (.bipush 30, 2) := dk_16 30 (dk_at dksX1_init_3 4 rfl rfl)
theorem dX1_init_75 : decode cX1_init 75 = .ok (.sipush 195, 3) := dk_17 0 195 (dk_at dksX1_init_3 6 rfl rfl)
theorem dX1_init_78 : decode cX1_init 78 = .ok (.multianewarray 24 2, 4) := by decide +kernel
theorem dX1_init_82 : decode cX1_init 82 = .ok (.putfield 35, 3) := dk_181 0 35 (dk_at dksX1_init_3 13 rfl rfl)
theorem dX1_init_85 : decode cX1_init 85 = .ok (.aload_n 0, 1) := dk_42 (dk_at dksX1_init_3 16 rfl rfl)
theorem dX1_init_86 : decode cX1_init 86 = .ok (.iconst 4, 1) := dk_7 (dk_at dksX1_init_3 17 rfl rfl)
theorem dX1_init_87 : decode cX1_init 87 = .ok (.anewarray 38, 3) := dk_189 0 38 (dk_at dksX1_init_3 18 rfl rfl)
theorem dX1_init_90 : decode cX1_init 90 = .ok (.putfield 40, 3) := dk_181 0 40 (dk_at dksX1_init_3 21 rfl rfl)
theorem dX1_init_93 : decode cX1_init 93 = .ok (.aload_n 0, 1) := dk_42 (dk_at dksX1_init_4 0 rfl rfl)
theorem dX1_init_94 : decode cX1_init 94 = .ok (.getfield 9, 3) := dk_180 0 9 (dk_at dksX1_init_4 1 rfl rfl)
theorem dX1_init_97 : decode cX1_init 97 = .ok (.iconst 3, 1) := dk_6 (dk_at dksX1_init_4 4 rfl rfl)
theorem dX1_init_98 : decode cX1_init 98 = .ok (.iconst 1, 1) := dk_4 (dk_at dksX1_init_4 5 rfl rfl)
theorem dX1_init_99 : decode cX1_init 99 = .ok (.iastore, 1) := dk_79 (dk_at dksX1_init_4 6 rfl rfl)
theorem dX1_init_100 : decode cX1_init 100 = .ok (.aload_n 0, 1) := dk_42 (dk_at dksX1_init_4 7 rfl rfl)
theorem dX1_init_101 : decode cX1_init 101 = .ok (.getfield 9, 3) := dk_180 0 9 (dk_at dksX1_init_4 8 rfl rfl)
theorem dX1_init_104 : decode cX1_init 104 = .ok (.iconst 5, 1) := dk_8 (dk_at dksX1_init_4 11 rfl rfl)
theorem dX1_init_105 : decode cX1_init 105 = .ok (.iconst (-1), 1) := dk_2 (dk_at dksX1_init_4 12 rfl rfl)
theorem dX1_init_106 : decode cX1_init 106 = .ok (.iastore, 1) := dk_79 (dk_at dksX1_init_4 13 rfl rfl)
theorem dX1_init_107 : decode cX1_init 107 = .ok (.aload_n 0, 1) := dk_42 (dk_at dksX1_init_4 14 rfl rfl)
theorem dX1_init_108 : decode cX1_init 108 = .ok (.getfield 21, 3) := dk_180 0 21 (dk_at dksX1_init_4 15 rfl rfl)
theorem dX1_init_111 : decode cX1_init 111 = .ok (.iconst 0, 1) := dk_3 (dk_at dksX1_init_4 18 rfl rfl)
theorem dX1_init_112 : decode cX1_init 112 = .ok (.iconst (-1), 1) := dk_2 (dk_at dksX1_init_4 19 rfl rfl)
theorem dX1_init_113 : decode cX1_init 113 = .ok (.iastore, 1) := dk_79 (dk_at dksX1_init_4 20 rfl rfl)
theorem dX1_init_114 : decode cX1_init 114 = .ok (.aload_n 0, 1) := dk_42 (dk_at dksX1_init_4 21 rfl rfl)
theorem dX1_init_115 : decode cX1_init 115 = .ok (.getfield 21, 3) := dk_180 0 21 (dk_at dksX1_init_5 0 rfl rfl)
theorem dX1_init_118 : decode cX1_init 118 = .ok (.bipush 7, 2) := dk_16 7 (dk_at dksX1_init_5 3 rfl rfl)
theorem dX1_init_120 : decode cX1_init 120 = .ok (.bipush 19, 2) := dk_16 19 (dk_at dksX1_init_5 5 rfl rfl)
theorem dX1_init_122 : decode cX1_init 122 = .ok (.iastore, 1) := dk_79 (dk_at dksX1_init_5 7 rfl rfl)
theorem dX1_init_123 : decode cX1_init 123 = .ok (.return_, 1) := dk_177 (dk_at dksX1_init_5 8 rfl rfl)
abbrev cX1_be : ByteArray := prog_9_method_4_code
def yX1_be : MethodName := ⟨RX1, "be", "(LAgainstFeather$State;)V"⟩
def dkwX1_be_4 : List UInt8 := [180, 0, 40, 3, 42, 180, 0, 40, 3, 7, 184, 0, 44, 177]
abbrev dktX1_be_4 : List UInt8 := dkwX1_be_4 ++ []
def dkwX1_be_3 : List UInt8 := [180, 0, 32, 42, 180, 0, 32, 184, 0, 54, 43, 180, 0, 35, 42, 180, 0, 35, 184, 0, 54, 43]
abbrev dktX1_be_3 : List UInt8 := dkwX1_be_3 ++ dktX1_be_4
def dkwX1_be_2 : List UInt8 := [180, 0, 26, 42, 180, 0, 26, 184, 0, 54, 43, 180, 0, 29, 42, 180, 0, 29, 184, 0, 54, 43]
abbrev dktX1_be_2 : List UInt8 := dkwX1_be_2 ++ dktX1_be_3
def dkwX1_be_1 : List UInt8 := [180, 0, 18, 42, 180, 0, 18, 184, 0, 50, 43, 180, 0, 21, 42, 180, 0, 21, 184, 0, 50, 43]
abbrev dktX1_be_1 : List UInt8 := dkwX1_be_1 ++ dktX1_be_2
def dkwX1_be_0 : List UInt8 := [43, 180, 0, 9, 42, 180, 0, 9, 184, 0, 50, 43, 180, 0, 15, 42, 180, 0, 15, 184, 0, 50, 43]
abbrev dktX1_be_0 : List UInt8 := dkwX1_be_0 ++ dktX1_be_1
theorem dksX1_be_0 : cX1_be.data.toList.drop 0 = dktX1_be_0 := by decide +kernel
theorem dksX1_be_1 : cX1_be.data.toList.drop 23 = dktX1_be_1 := dk_seg dksX1_be_0 23 rfl rfl
theorem dksX1_be_2 : cX1_be.data.toList.drop 45 = dktX1_be_2 := dk_seg dksX1_be_1 22 rfl rfl
theorem dksX1_be_3 : cX1_be.data.toList.drop 67 = dktX1_be_3 := dk_seg dksX1_be_2 22 rfl rfl
theorem dksX1_be_4 : cX1_be.data.toList.drop 89 = dktX1_be_4 := dk_seg dksX1_be_3 22 rfl rfl
theorem dX1_be_0 : decode cX1_be 0 = .ok (.aload_n 1, 1) := dk_43 (dk_at dksX1_be_0 0 rfl rfl)
theorem dX1_be_1 : decode cX1_be 1 = .ok (.getfield 9, 3) := dk_180 0 9 (dk_at dksX1_be_0 1 rfl rfl)
theorem dX1_be_4 : decode cX1_be 4 = .ok (.aload_n 0, 1) := dk_42 (dk_at dksX1_be_0 4 rfl rfl)
theorem dX1_be_5 : decode cX1_be 5 = .ok (.getfield 9, 3) := dk_180 0 9 (dk_at dksX1_be_0 5 rfl rfl)
theorem dX1_be_8 : decode cX1_be 8 = .ok (.invokestatic 50, 3) := dk_184 0 50 (dk_at dksX1_be_0 8 rfl rfl)
theorem dX1_be_11 : decode cX1_be 11 = .ok (.aload_n 1, 1) := dk_43 (dk_at dksX1_be_0 11 rfl rfl)
theorem dX1_be_12 : decode cX1_be 12 = .ok (.getfield 15, 3) := dk_180 0 15 (dk_at dksX1_be_0 12 rfl rfl)
theorem dX1_be_15 : decode cX1_be 15 = .ok (.aload_n 0, 1) := dk_42 (dk_at dksX1_be_0 15 rfl rfl)
theorem dX1_be_16 : decode cX1_be 16 = .ok (.getfield 15, 3) := dk_180 0 15 (dk_at dksX1_be_0 16 rfl rfl)
theorem dX1_be_19 : decode cX1_be 19 = .ok (.invokestatic 50, 3) := dk_184 0 50 (dk_at dksX1_be_0 19 rfl rfl)
theorem dX1_be_22 : decode cX1_be 22 = .ok (.aload_n 1, 1) := dk_43 (dk_at dksX1_be_0 22 rfl rfl)
theorem dX1_be_23 : decode cX1_be 23 = .ok (.getfield 18, 3) := dk_180 0 18 (dk_at dksX1_be_1 0 rfl rfl)
theorem dX1_be_26 : decode cX1_be 26 = .ok (.aload_n 0, 1) := dk_42 (dk_at dksX1_be_1 3 rfl rfl)
theorem dX1_be_27 : decode cX1_be 27 = .ok (.getfield 18, 3) := dk_180 0 18 (dk_at dksX1_be_1 4 rfl rfl)
theorem dX1_be_30 : decode cX1_be 30 = .ok (.invokestatic 50, 3) := dk_184 0 50 (dk_at dksX1_be_1 7 rfl rfl)
theorem dX1_be_33 : decode cX1_be 33 = .ok (.aload_n 1, 1) := dk_43 (dk_at dksX1_be_1 10 rfl rfl)
theorem dX1_be_34 : decode cX1_be 34 = .ok (.getfield 21, 3) := dk_180 0 21 (dk_at dksX1_be_1 11 rfl rfl)
theorem dX1_be_37 : decode cX1_be 37 = .ok (.aload_n 0, 1) := dk_42 (dk_at dksX1_be_1 14 rfl rfl)
theorem dX1_be_38 : decode cX1_be 38 = .ok (.getfield 21, 3) := dk_180 0 21 (dk_at dksX1_be_1 15 rfl rfl)
theorem dX1_be_41 : decode cX1_be 41 = .ok (.invokestatic 50, 3) := dk_184 0 50 (dk_at dksX1_be_1 18 rfl rfl)
theorem dX1_be_44 : decode cX1_be 44 = .ok (.aload_n 1, 1) := dk_43 (dk_at dksX1_be_1 21 rfl rfl)
theorem dX1_be_45 : decode cX1_be 45 = .ok (.getfield 26, 3) := dk_180 0 26 (dk_at dksX1_be_2 0 rfl rfl)
theorem dX1_be_48 : decode cX1_be 48 = .ok (.aload_n 0, 1) := dk_42 (dk_at dksX1_be_2 3 rfl rfl)
theorem dX1_be_49 : decode cX1_be 49 = .ok (.getfield 26, 3) := dk_180 0 26 (dk_at dksX1_be_2 4 rfl rfl)
theorem dX1_be_52 : decode cX1_be 52 = .ok (.invokestatic 54, 3) := dk_184 0 54 (dk_at dksX1_be_2 7 rfl rfl)
theorem dX1_be_55 : decode cX1_be 55 = .ok (.aload_n 1, 1) := dk_43 (dk_at dksX1_be_2 10 rfl rfl)
theorem dX1_be_56 : decode cX1_be 56 = .ok (.getfield 29, 3) := dk_180 0 29 (dk_at dksX1_be_2 11 rfl rfl)
theorem dX1_be_59 : decode cX1_be 59 = .ok (.aload_n 0, 1) := dk_42 (dk_at dksX1_be_2 14 rfl rfl)
theorem dX1_be_60 : decode cX1_be 60 = .ok (.getfield 29, 3) := dk_180 0 29 (dk_at dksX1_be_2 15 rfl rfl)
theorem dX1_be_63 : decode cX1_be 63 = .ok (.invokestatic 54, 3) := dk_184 0 54 (dk_at dksX1_be_2 18 rfl rfl)
theorem dX1_be_66 : decode cX1_be 66 = .ok (.aload_n 1, 1) := dk_43 (dk_at dksX1_be_2 21 rfl rfl)
theorem dX1_be_67 : decode cX1_be 67 = .ok (.getfield 32, 3) := dk_180 0 32 (dk_at dksX1_be_3 0 rfl rfl)
theorem dX1_be_70 : decode cX1_be 70 = .ok (.aload_n 0, 1) := dk_42 (dk_at dksX1_be_3 3 rfl rfl)
theorem dX1_be_71 : decode cX1_be 71 = .ok (.getfield 32, 3) := dk_180 0 32 (dk_at dksX1_be_3 4 rfl rfl)
theorem dX1_be_74 : decode cX1_be 74 = .ok (.invokestatic 54, 3) := dk_184 0 54 (dk_at dksX1_be_3 7 rfl rfl)
theorem dX1_be_77 : decode cX1_be 77 = .ok (.aload_n 1, 1) := dk_43 (dk_at dksX1_be_3 10 rfl rfl)
theorem dX1_be_78 : decode cX1_be 78 = .ok (.getfield 35, 3) := dk_180 0 35 (dk_at dksX1_be_3 11 rfl rfl)
theorem dX1_be_81 : decode cX1_be 81 = .ok (.aload_n 0, 1) := dk_42 (dk_at dksX1_be_3 14 rfl rfl)
theorem dX1_be_82 : decode cX1_be 82 = .ok (.getfield 35, 3) := dk_180 0 35 (dk_at dksX1_be_3 15 rfl rfl)
theorem dX1_be_85 : decode cX1_be 85 = .ok (.invokestatic 54, 3) := dk_184 0 54 (dk_at dksX1_be_3 18 rfl rfl)
theorem dX1_be_88 : decode cX1_be 88 = .ok (.aload_n 1, 1) := dk_43 (dk_at dksX1_be_3 21 rfl rfl)
theorem dX1_be_89 : decode cX1_be 89 = .ok (.getfield 40, 3) := dk_180 0 40 (dk_at dksX1_be_4 0 rfl rfl)
theorem dX1_be_92 : decode cX1_be 92 = .ok (.iconst 0, 1) := dk_3 (dk_at dksX1_be_4 3 rfl rfl)
theorem dX1_be_93 : decode cX1_be 93 = .ok (.aload_n 0, 1) := dk_42 (dk_at dksX1_be_4 4 rfl rfl)
theorem dX1_be_94 : decode cX1_be 94 = .ok (.getfield 40, 3) := dk_180 0 40 (dk_at dksX1_be_4 5 rfl rfl)
theorem dX1_be_97 : decode cX1_be 97 = .ok (.iconst 0, 1) := dk_3 (dk_at dksX1_be_4 8 rfl rfl)
theorem dX1_be_98 : decode cX1_be 98 = .ok (.iconst 4, 1) := dk_7 (dk_at dksX1_be_4 9 rfl rfl)
theorem dX1_be_99 : decode cX1_be 99 = .ok (.invokestatic 44, 3) := dk_184 0 44 (dk_at dksX1_be_4 10 rfl rfl)
theorem dX1_be_102 : decode cX1_be 102 = .ok (.return_, 1) := dk_177 (dk_at dksX1_be_4 13 rfl rfl)
abbrev cX1_copy : ByteArray := prog_9_method_2_code
def yX1_copy : MethodName := ⟨RX1, "copy", "([I[I)V"⟩
def dkwX1_copy_0 : List UInt8 := [42, 3, 43, 3, 42, 190, 184, 0, 44, 177]
abbrev dktX1_copy_0 : List UInt8 := dkwX1_copy_0 ++ []
theorem dksX1_copy_0 : cX1_copy.data.toList.drop 0 = dktX1_copy_0 := by decide +kernel
theorem dX1_copy_0 : decode cX1_copy 0 = .ok (.aload_n 0, 1) := dk_42 (dk_at dksX1_copy_0 0 rfl rfl)
theorem dX1_copy_1 : decode cX1_copy 1 = .ok (.iconst 0, 1) := dk_3 (dk_at dksX1_copy_0 1 rfl rfl)
theorem dX1_copy_2 : decode cX1_copy 2 = .ok (.aload_n 1, 1) := dk_43 (dk_at dksX1_copy_0 2 rfl rfl)
theorem dX1_copy_3 : decode cX1_copy 3 = .ok (.iconst 0, 1) := dk_3 (dk_at dksX1_copy_0 3 rfl rfl)
theorem dX1_copy_4 : decode cX1_copy 4 = .ok (.aload_n 0, 1) := dk_42 (dk_at dksX1_copy_0 4 rfl rfl)
theorem dX1_copy_5 : decode cX1_copy 5 = .ok (.arraylength, 1) := dk_190 (dk_at dksX1_copy_0 5 rfl rfl)
theorem dX1_copy_6 : decode cX1_copy 6 = .ok (.invokestatic 44, 3) := dk_184 0 44 (dk_at dksX1_copy_0 6 rfl rfl)
theorem dX1_copy_9 : decode cX1_copy 9 = .ok (.return_, 1) := dk_177 (dk_at dksX1_copy_0 9 rfl rfl)
abbrev cX1_copy_2 : ByteArray := prog_9_method_3_code
def yX1_copy_2 : MethodName := ⟨RX1, "copy", "([[I[[I)V"⟩
def dkwX1_copy_2_0 : List UInt8 := [3, 61, 28, 42, 190, 162, 0, 18, 42, 28, 50, 43, 28, 50, 184, 0, 50, 132, 2, 1, 167, 255, 238, 177]
abbrev dktX1_copy_2_0 : List UInt8 := dkwX1_copy_2_0 ++ []
theorem dksX1_copy_2_0 : cX1_copy_2.data.toList.drop 0 = dktX1_copy_2_0 := by decide +kernel
theorem dX1_copy_2_0 : decode cX1_copy_2 0 = .ok (.iconst 0, 1) := dk_3 (dk_at dksX1_copy_2_0 0 rfl rfl)
theorem dX1_copy_2_1 : decode cX1_copy_2 1 = .ok (.istore_n 2, 1) := dk_61 (dk_at dksX1_copy_2_0 1 rfl rfl)
theorem dX1_copy_2_2 : decode cX1_copy_2 2 = .ok (.iload_n 2, 1) := dk_28 (dk_at dksX1_copy_2_0 2 rfl rfl)
theorem dX1_copy_2_3 : decode cX1_copy_2 3 = .ok (.aload_n 0, 1) := dk_42 (dk_at dksX1_copy_2_0 3 rfl rfl)
theorem dX1_copy_2_4 : decode cX1_copy_2 4 = .ok (.arraylength, 1) := dk_190 (dk_at dksX1_copy_2_0 4 rfl rfl)
theorem dX1_copy_2_5 : decode cX1_copy_2 5 = .ok (.if_icmp .ge 18, 3) := dk_162 0 18 (dk_at dksX1_copy_2_0 5 rfl rfl)
theorem dX1_copy_2_8 : decode cX1_copy_2 8 = .ok (.aload_n 0, 1) := dk_42 (dk_at dksX1_copy_2_0 8 rfl rfl)
theorem dX1_copy_2_9 : decode cX1_copy_2 9 = .ok (.iload_n 2, 1) := dk_28 (dk_at dksX1_copy_2_0 9 rfl rfl)
theorem dX1_copy_2_10 : decode cX1_copy_2 10 = .ok (.aaload, 1) := dk_50 (dk_at dksX1_copy_2_0 10 rfl rfl)
theorem dX1_copy_2_11 : decode cX1_copy_2 11 = .ok (.aload_n 1, 1) := dk_43 (dk_at dksX1_copy_2_0 11 rfl rfl)
theorem dX1_copy_2_12 : decode cX1_copy_2 12 = .ok (.iload_n 2, 1) := dk_28 (dk_at dksX1_copy_2_0 12 rfl rfl)
theorem dX1_copy_2_13 : decode cX1_copy_2 13 = .ok (.aaload, 1) := dk_50 (dk_at dksX1_copy_2_0 13 rfl rfl)
theorem dX1_copy_2_14 : decode cX1_copy_2 14 = .ok (.invokestatic 50, 3) := dk_184 0 50 (dk_at dksX1_copy_2_0 14 rfl rfl)
theorem dX1_copy_2_17 : decode cX1_copy_2 17 = .ok (.iinc 2 1, 3) := dk_132 2 1 (dk_at dksX1_copy_2_0 17 rfl rfl)
theorem dX1_copy_2_20 : decode cX1_copy_2 20 = .ok (.goto (-18), 3) := dk_167 255 238 (dk_at dksX1_copy_2_0 20 rfl rfl)
theorem dX1_copy_2_23 : decode cX1_copy_2 23 = .ok (.return_, 1) := dk_177 (dk_at dksX1_copy_2_0 23 rfl rfl)
abbrev cX1_owes : ByteArray := prog_9_method_6_code
def yX1_owes : MethodName := ⟨RX1, "owes", "(II)I"⟩
def dkwX1_owes_0 : List UInt8 := [42, 180, 0, 21, 16, 8, 16, 6, 27, 104, 96, 28, 96, 46, 172]
abbrev dktX1_owes_0 : List UInt8 := dkwX1_owes_0 ++ []
theorem dksX1_owes_0 : cX1_owes.data.toList.drop 0 = dktX1_owes_0 := by decide +kernel
theorem dX1_owes_0 : decode cX1_owes 0 = .ok (.aload_n 0, 1) := dk_42 (dk_at dksX1_owes_0 0 rfl rfl)
theorem dX1_owes_1 : decode cX1_owes 1 = .ok (.getfield 21, 3) := dk_180 0 21 (dk_at dksX1_owes_0 1 rfl rfl)
theorem dX1_owes_4 : decode cX1_owes 4 = .ok (.bipush 8, 2) := dk_16 8 (dk_at dksX1_owes_0 4 rfl rfl)
theorem dX1_owes_6 : decode cX1_owes 6 = .ok (.bipush 6, 2) := dk_16 6 (dk_at dksX1_owes_0 6 rfl rfl)
theorem dX1_owes_8 : decode cX1_owes 8 = .ok (.iload_n 1, 1) := dk_27 (dk_at dksX1_owes_0 8 rfl rfl)
theorem dX1_owes_9 : decode cX1_owes 9 = .ok (.imul, 1) := dk_104 (dk_at dksX1_owes_0 9 rfl rfl)
theorem dX1_owes_10 : decode cX1_owes 10 = .ok (.iadd, 1) := dk_96 (dk_at dksX1_owes_0 10 rfl rfl)
theorem dX1_owes_11 : decode cX1_owes 11 = .ok (.iload_n 2, 1) := dk_28 (dk_at dksX1_owes_0 11 rfl rfl)
theorem dX1_owes_12 : decode cX1_owes 12 = .ok (.iadd, 1) := dk_96 (dk_at dksX1_owes_0 12 rfl rfl)
theorem dX1_owes_13 : decode cX1_owes 13 = .ok (.iaload, 1) := dk_46 (dk_at dksX1_owes_0 13 rfl rfl)
theorem dX1_owes_14 : decode cX1_owes 14 = .ok (.ireturn, 1) := dk_172 (dk_at dksX1_owes_0 14 rfl rfl)
abbrev cX1_keeps : ByteArray := prog_9_method_5_code
def yX1_keeps : MethodName := ⟨RX1, "keeps", "()V"⟩
def dkwX1_keeps_3 : List UInt8 := [184, 0, 50, 42, 180, 0, 9, 16, 6, 92, 46, 4, 96, 79, 177]
abbrev dktX1_keeps_3 : List UInt8 := dkwX1_keeps_3 ++ []
def dkwX1_keeps_2 : List UInt8 := [16, 6, 92, 46, 4, 100, 79, 42, 180, 0, 21, 42, 180, 0, 35, 42, 180, 0, 9, 16, 6, 46, 50]
abbrev dktX1_keeps_2 : List UInt8 := dkwX1_keeps_2 ++ dktX1_keeps_3
def dkwX1_keeps_1 : List UInt8 := [27, 50, 42, 180, 0, 35, 27, 4, 100, 50, 184, 0, 50, 132, 1, 1, 167, 255, 230, 42, 180, 0, 9]
abbrev dktX1_keeps_1 : List UInt8 := dkwX1_keeps_1 ++ dktX1_keeps_2
def dkwX1_keeps_0 : List UInt8 := [42, 180, 0, 9, 16, 6, 46, 16, 30, 160, 0, 45, 4, 60, 27, 16, 30, 162, 0, 26, 42, 180, 0, 35]
abbrev dktX1_keeps_0 : List UInt8 := dkwX1_keeps_0 ++ dktX1_keeps_1
theorem dksX1_keeps_0 : cX1_keeps.data.toList.drop 0 = dktX1_keeps_0 := by decide +kernel
theorem dksX1_keeps_1 : cX1_keeps.data.toList.drop 24 = dktX1_keeps_1 := dk_seg dksX1_keeps_0 24 rfl rfl
theorem dksX1_keeps_2 : cX1_keeps.data.toList.drop 47 = dktX1_keeps_2 := dk_seg dksX1_keeps_1 23 rfl rfl
theorem dksX1_keeps_3 : cX1_keeps.data.toList.drop 70 = dktX1_keeps_3 := dk_seg dksX1_keeps_2 23 rfl rfl
theorem dX1_keeps_0 : decode cX1_keeps 0 = .ok (.aload_n 0, 1) := dk_42 (dk_at dksX1_keeps_0 0 rfl rfl)
theorem dX1_keeps_1 : decode cX1_keeps 1 = .ok (.getfield 9, 3) := dk_180 0 9 (dk_at dksX1_keeps_0 1 rfl rfl)
theorem dX1_keeps_4 : decode cX1_keeps 4 = .ok (.bipush 6, 2) := dk_16 6 (dk_at dksX1_keeps_0 4 rfl rfl)
theorem dX1_keeps_6 : decode cX1_keeps 6 = .ok (.iaload, 1) := dk_46 (dk_at dksX1_keeps_0 6 rfl rfl)
theorem dX1_keeps_7 : decode cX1_keeps 7 = .ok (.bipush 30, 2) := dk_16 30 (dk_at dksX1_keeps_0 7 rfl rfl)
theorem dX1_keeps_9 : decode cX1_keeps 9 = .ok (.if_icmp .ne 45, 3) := dk_160 0 45 (dk_at dksX1_keeps_0 9 rfl rfl)
theorem dX1_keeps_12 : decode cX1_keeps 12 = .ok (.iconst 1, 1) := dk_4 (dk_at dksX1_keeps_0 12 rfl rfl)
theorem dX1_keeps_13 : decode cX1_keeps 13 = .ok (.istore_n 1, 1) := dk_60 (dk_at dksX1_keeps_0 13 rfl rfl)
theorem dX1_keeps_14 : decode cX1_keeps 14 = .ok (.iload_n 1, 1) := dk_27 (dk_at dksX1_keeps_0 14 rfl rfl)
theorem dX1_keeps_15 : decode cX1_keeps 15 = .ok (.bipush 30, 2) := dk_16 30 (dk_at dksX1_keeps_0 15 rfl rfl)
theorem dX1_keeps_17 : decode cX1_keeps 17 = .ok (.if_icmp .ge 26, 3) := dk_162 0 26 (dk_at dksX1_keeps_0 17 rfl rfl)
theorem dX1_keeps_20 : decode cX1_keeps 20 = .ok (.aload_n 0, 1) := dk_42 (dk_at dksX1_keeps_0 20 rfl rfl)
theorem dX1_keeps_21 : decode cX1_keeps 21 = .ok (.getfield 35, 3) := dk_180 0 35 (dk_at dksX1_keeps_0 21 rfl rfl)
theorem dX1_keeps_24 : decode cX1_keeps 24 = .ok (.iload_n 1, 1) := dk_27 (dk_at dksX1_keeps_1 0 rfl rfl)
theorem dX1_keeps_25 : decode cX1_keeps 25 = .ok (.aaload, 1) := dk_50 (dk_at dksX1_keeps_1 1 rfl rfl)
theorem dX1_keeps_26 : decode cX1_keeps 26 = .ok (.aload_n 0, 1) := dk_42 (dk_at dksX1_keeps_1 2 rfl rfl)
theorem dX1_keeps_27 : decode cX1_keeps 27 = .ok (.getfield 35, 3) := dk_180 0 35 (dk_at dksX1_keeps_1 3 rfl rfl)
theorem dX1_keeps_30 : decode cX1_keeps 30 = .ok (.iload_n 1, 1) := dk_27 (dk_at dksX1_keeps_1 6 rfl rfl)
theorem dX1_keeps_31 : decode cX1_keeps 31 = .ok (.iconst 1, 1) := dk_4 (dk_at dksX1_keeps_1 7 rfl rfl)
theorem dX1_keeps_32 : decode cX1_keeps 32 = .ok (.isub, 1) := dk_100 (dk_at dksX1_keeps_1 8 rfl rfl)
theorem dX1_keeps_33 : decode cX1_keeps 33 = .ok (.aaload, 1) := dk_50 (dk_at dksX1_keeps_1 9 rfl rfl)
theorem dX1_keeps_34 : decode cX1_keeps 34 = .ok (.invokestatic 50, 3) := dk_184 0 50 (dk_at dksX1_keeps_1 10 rfl rfl)
theorem dX1_keeps_37 : decode cX1_keeps 37 = .ok (.iinc 1 1, 3) := dk_132 1 1 (dk_at dksX1_keeps_1 13 rfl rfl)
theorem dX1_keeps_40 : decode cX1_keeps 40 = .ok (.goto (-26), 3) := dk_167 255 230 (dk_at dksX1_keeps_1 16 rfl rfl)
theorem dX1_keeps_43 : decode cX1_keeps 43 = .ok (.aload_n 0, 1) := dk_42 (dk_at dksX1_keeps_1 19 rfl rfl)
theorem dX1_keeps_44 : decode cX1_keeps 44 = .ok (.getfield 9, 3) := dk_180 0 9 (dk_at dksX1_keeps_1 20 rfl rfl)
theorem dX1_keeps_47 : decode cX1_keeps 47 = .ok (.bipush 6, 2) := dk_16 6 (dk_at dksX1_keeps_2 0 rfl rfl)
theorem dX1_keeps_49 : decode cX1_keeps 49 = .ok (.dup2, 1) := dk_92 (dk_at dksX1_keeps_2 2 rfl rfl)
theorem dX1_keeps_50 : decode cX1_keeps 50 = .ok (.iaload, 1) := dk_46 (dk_at dksX1_keeps_2 3 rfl rfl)
theorem dX1_keeps_51 : decode cX1_keeps 51 = .ok (.iconst 1, 1) := dk_4 (dk_at dksX1_keeps_2 4 rfl rfl)
theorem dX1_keeps_52 : decode cX1_keeps 52 = .ok (.isub, 1) := dk_100 (dk_at dksX1_keeps_2 5 rfl rfl)
theorem dX1_keeps_53 : decode cX1_keeps 53 = .ok (.iastore, 1) := dk_79 (dk_at dksX1_keeps_2 6 rfl rfl)
theorem dX1_keeps_54 : decode cX1_keeps 54 = .ok (.aload_n 0, 1) := dk_42 (dk_at dksX1_keeps_2 7 rfl rfl)
theorem dX1_keeps_55 : decode cX1_keeps 55 = .ok (.getfield 21, 3) := dk_180 0 21 (dk_at dksX1_keeps_2 8 rfl rfl)
theorem dX1_keeps_58 : decode cX1_keeps 58 = .ok (.aload_n 0, 1) := dk_42 (dk_at dksX1_keeps_2 11 rfl rfl)
theorem dX1_keeps_59 : decode cX1_keeps 59 = .ok (.getfield 35, 3) := dk_180 0 35 (dk_at dksX1_keeps_2 12 rfl rfl)
theorem dX1_keeps_62 : decode cX1_keeps 62 = .ok (.aload_n 0, 1) := dk_42 (dk_at dksX1_keeps_2 15 rfl rfl)
theorem dX1_keeps_63 : decode cX1_keeps 63 = .ok (.getfield 9, 3) := dk_180 0 9 (dk_at dksX1_keeps_2 16 rfl rfl)
theorem dX1_keeps_66 : decode cX1_keeps 66 = .ok (.bipush 6, 2) := dk_16 6 (dk_at dksX1_keeps_2 19 rfl rfl)
theorem dX1_keeps_68 : decode cX1_keeps 68 = .ok (.iaload, 1) := dk_46 (dk_at dksX1_keeps_2 21 rfl rfl)
theorem dX1_keeps_69 : decode cX1_keeps 69 = .ok (.aaload, 1) := dk_50 (dk_at dksX1_keeps_2 22 rfl rfl)
theorem dX1_keeps_70 : decode cX1_keeps 70 = .ok (.invokestatic 50, 3) := dk_184 0 50 (dk_at dksX1_keeps_3 0 rfl rfl)
theorem dX1_keeps_73 : decode cX1_keeps 73 = .ok (.aload_n 0, 1) := dk_42 (dk_at dksX1_keeps_3 3 rfl rfl)
theorem dX1_keeps_74 : decode cX1_keeps 74 = .ok (.getfield 9, 3) := dk_180 0 9 (dk_at dksX1_keeps_3 4 rfl rfl)
theorem dX1_keeps_77 : decode cX1_keeps 77 = .ok (.bipush 6, 2) := dk_16 6 (dk_at dksX1_keeps_3 7 rfl rfl)
theorem dX1_keeps_79 : decode cX1_keeps 79 = .ok (.dup2, 1) := dk_92 (dk_at dksX1_keeps_3 9 rfl rfl)
theorem dX1_keeps_80 : decode cX1_keeps 80 = .ok (.iaload, 1) := dk_46 (dk_at dksX1_keeps_3 10 rfl rfl)
theorem dX1_keeps_81 : decode cX1_keeps 81 = .ok (.iconst 1, 1) := dk_4 (dk_at dksX1_keeps_3 11 rfl rfl)
theorem dX1_keeps_82 : decode cX1_keeps 82 = .ok (.iadd, 1) := dk_96 (dk_at dksX1_keeps_3 12 rfl rfl)
theorem dX1_keeps_83 : decode cX1_keeps 83 = .ok (.iastore, 1) := dk_79 (dk_at dksX1_keeps_3 13 rfl rfl)
theorem dX1_keeps_84 : decode cX1_keeps 84 = .ok (.return_, 1) := dk_177 (dk_at dksX1_keeps_3 14 rfl rfl)
abbrev cX1_lentTo : ByteArray := prog_9_method_7_code
def yX1_lentTo : MethodName := ⟨RX1, "lentTo", "(I)I"⟩
def dkwX1_lentTo_1 : List UInt8 := [182, 0, 57, 100, 96, 61, 132, 3, 1, 167, 255, 227, 28, 172]
abbrev dktX1_lentTo_1 : List UInt8 := dkwX1_lentTo_1 ++ []
def dkwX1_lentTo_0 : List UInt8 := [3, 61, 3, 62, 29, 42, 180, 0, 9, 3, 46, 162, 0, 25, 28, 42, 29, 27, 182, 0, 57, 42, 27, 29]
abbrev dktX1_lentTo_0 : List UInt8 := dkwX1_lentTo_0 ++ dktX1_lentTo_1
theorem dksX1_lentTo_0 : cX1_lentTo.data.toList.drop 0 = dktX1_lentTo_0 := by decide +kernel
theorem dksX1_lentTo_1 : cX1_lentTo.data.toList.drop 24 = dktX1_lentTo_1 := dk_seg dksX1_lentTo_0 24 rfl rfl
theorem dX1_lentTo_0 : decode cX1_lentTo 0 = .ok (.iconst 0, 1) := dk_3 (dk_at dksX1_lentTo_0 0 rfl rfl)
theorem dX1_lentTo_1 : decode cX1_lentTo 1 = .ok (.istore_n 2, 1) := dk_61 (dk_at dksX1_lentTo_0 1 rfl rfl)
theorem dX1_lentTo_2 : decode cX1_lentTo 2 = .ok (.iconst 0, 1) := dk_3 (dk_at dksX1_lentTo_0 2 rfl rfl)
theorem dX1_lentTo_3 : decode cX1_lentTo 3 = .ok (.istore_n 3, 1) := dk_62 (dk_at dksX1_lentTo_0 3 rfl rfl)
theorem dX1_lentTo_4 : decode cX1_lentTo 4 = .ok (.iload_n 3, 1) := dk_29 (dk_at dksX1_lentTo_0 4 rfl rfl)
theorem dX1_lentTo_5 : decode cX1_lentTo 5 = .ok (.aload_n 0, 1) := dk_42 (dk_at dksX1_lentTo_0 5 rfl rfl)
theorem dX1_lentTo_6 : decode cX1_lentTo 6 = .ok (.getfield 9, 3) := dk_180 0 9 (dk_at dksX1_lentTo_0 6 rfl rfl)
theorem dX1_lentTo_9 : decode cX1_lentTo 9 = .ok (.iconst 0, 1) := dk_3 (dk_at dksX1_lentTo_0 9 rfl rfl)
theorem dX1_lentTo_10 : decode cX1_lentTo 10 = .ok (.iaload, 1) := dk_46 (dk_at dksX1_lentTo_0 10 rfl rfl)
theorem dX1_lentTo_11 : decode cX1_lentTo 11 = .ok (.if_icmp .ge 25, 3) := dk_162 0 25 (dk_at dksX1_lentTo_0 11 rfl rfl)
theorem dX1_lentTo_14 : decode cX1_lentTo 14 = .ok (.iload_n 2, 1) := dk_28 (dk_at dksX1_lentTo_0 14 rfl rfl)
theorem dX1_lentTo_15 : decode cX1_lentTo 15 = .ok (.aload_n 0, 1) := dk_42 (dk_at dksX1_lentTo_0 15 rfl rfl)
theorem dX1_lentTo_16 : decode cX1_lentTo 16 = .ok (.iload_n 3, 1) := dk_29 (dk_at dksX1_lentTo_0 16 rfl rfl)
theorem dX1_lentTo_17 : decode cX1_lentTo 17 = .ok (.iload_n 1, 1) := dk_27 (dk_at dksX1_lentTo_0 17 rfl rfl)
theorem dX1_lentTo_18 : decode cX1_lentTo 18 = .ok (.invokevirtual 57, 3) := dk_182 0 57 (dk_at dksX1_lentTo_0 18 rfl rfl)
theorem dX1_lentTo_21 : decode cX1_lentTo 21 = .ok (.aload_n 0, 1) := dk_42 (dk_at dksX1_lentTo_0 21 rfl rfl)
theorem dX1_lentTo_22 : decode cX1_lentTo 22 = .ok (.iload_n 1, 1) := dk_27 (dk_at dksX1_lentTo_0 22 rfl rfl)
theorem dX1_lentTo_23 : decode cX1_lentTo 23 = .ok (.iload_n 3, 1) := dk_29 (dk_at dksX1_lentTo_0 23 rfl rfl)
theorem dX1_lentTo_24 : decode cX1_lentTo 24 = .ok (.invokevirtual 57, 3) := dk_182 0 57 (dk_at dksX1_lentTo_1 0 rfl rfl)
theorem dX1_lentTo_27 : decode cX1_lentTo 27 = .ok (.isub, 1) := dk_100 (dk_at dksX1_lentTo_1 3 rfl rfl)
theorem dX1_lentTo_28 : decode cX1_lentTo 28 = .ok (.iadd, 1) := dk_96 (dk_at dksX1_lentTo_1 4 rfl rfl)
theorem dX1_lentTo_29 : decode cX1_lentTo 29 = .ok (.istore_n 2, 1) := dk_61 (dk_at dksX1_lentTo_1 5 rfl rfl)
theorem dX1_lentTo_30 : decode cX1_lentTo 30 = .ok (.iinc 3 1, 3) := dk_132 3 1 (dk_at dksX1_lentTo_1 6 rfl rfl)
theorem dX1_lentTo_33 : decode cX1_lentTo 33 = .ok (.goto (-29), 3) := dk_167 255 227 (dk_at dksX1_lentTo_1 9 rfl rfl)
theorem dX1_lentTo_36 : decode cX1_lentTo 36 = .ok (.iload_n 2, 1) := dk_28 (dk_at dksX1_lentTo_1 12 rfl rfl)
theorem dX1_lentTo_37 : decode cX1_lentTo 37 = .ok (.ireturn, 1) := dk_172 (dk_at dksX1_lentTo_1 13 rfl rfl)
abbrev cX1_deedsOf : ByteArray := prog_9_method_8_code
def yX1_deedsOf : MethodName := ⟨RX1, "deedsOf", "(I)I"⟩
def dkwX1_deedsOf_1 : List UInt8 := [160, 0, 9, 4, 29, 120, 167, 0, 4, 3, 128, 61, 132, 3, 1, 167, 255, 221, 28, 172]
abbrev dktX1_deedsOf_1 : List UInt8 := dkwX1_deedsOf_1 ++ []
def dkwX1_deedsOf_0 : List UInt8 := [3, 61, 3, 62, 29, 42, 180, 0, 9, 4, 46, 162, 0, 31, 28, 42, 180, 0, 26, 29, 50, 3, 46, 27]
abbrev dktX1_deedsOf_0 : List UInt8 := dkwX1_deedsOf_0 ++ dktX1_deedsOf_1
theorem dksX1_deedsOf_0 : cX1_deedsOf.data.toList.drop 0 = dktX1_deedsOf_0 := by decide +kernel
theorem dksX1_deedsOf_1 : cX1_deedsOf.data.toList.drop 24 = dktX1_deedsOf_1 := dk_seg dksX1_deedsOf_0 24 rfl rfl
theorem dX1_deedsOf_0 : decode cX1_deedsOf 0 = .ok (.iconst 0, 1) := dk_3 (dk_at dksX1_deedsOf_0 0 rfl rfl)
theorem dX1_deedsOf_1 : decode cX1_deedsOf 1 = .ok (.istore_n 2, 1) := dk_61 (dk_at dksX1_deedsOf_0 1 rfl rfl)
theorem dX1_deedsOf_2 : decode cX1_deedsOf 2 = .ok (.iconst 0, 1) := dk_3 (dk_at dksX1_deedsOf_0 2 rfl rfl)
theorem dX1_deedsOf_3 : decode cX1_deedsOf 3 = .ok (.istore_n 3, 1) := dk_62 (dk_at dksX1_deedsOf_0 3 rfl rfl)
theorem dX1_deedsOf_4 : decode cX1_deedsOf 4 = .ok (.iload_n 3, 1) := dk_29 (dk_at dksX1_deedsOf_0 4 rfl rfl)
theorem dX1_deedsOf_5 : decode cX1_deedsOf 5 = .ok (.aload_n 0, 1) := dk_42 (dk_at dksX1_deedsOf_0 5 rfl rfl)
theorem dX1_deedsOf_6 : decode cX1_deedsOf 6 = .ok (.getfield 9, 3) := dk_180 0 9 (dk_at dksX1_deedsOf_0 6 rfl rfl)
theorem dX1_deedsOf_9 : decode cX1_deedsOf 9 = .ok (.iconst 1, 1) := dk_4 (dk_at dksX1_deedsOf_0 9 rfl rfl)
theorem dX1_deedsOf_10 : decode cX1_deedsOf 10 = .ok (.iaload, 1) := dk_46 (dk_at dksX1_deedsOf_0 10 rfl rfl)
theorem dX1_deedsOf_11 : decode cX1_deedsOf 11 = .ok (.if_icmp .ge 31, 3) := dk_162 0 31 (dk_at dksX1_deedsOf_0 11 rfl rfl)
theorem dX1_deedsOf_14 : decode cX1_deedsOf 14 = .ok (.iload_n 2, 1) := dk_28 (dk_at dksX1_deedsOf_0 14 rfl rfl)
theorem dX1_deedsOf_15 : decode cX1_deedsOf 15 = .ok (.aload_n 0, 1) := dk_42 (dk_at dksX1_deedsOf_0 15 rfl rfl)
theorem dX1_deedsOf_16 : decode cX1_deedsOf 16 = .ok (.getfield 26, 3) := dk_180 0 26 (dk_at dksX1_deedsOf_0 16 rfl rfl)
theorem dX1_deedsOf_19 : decode cX1_deedsOf 19 = .ok (.iload_n 3, 1) := dk_29 (dk_at dksX1_deedsOf_0 19 rfl rfl)
theorem dX1_deedsOf_20 : decode cX1_deedsOf 20 = .ok (.aaload, 1) := dk_50 (dk_at dksX1_deedsOf_0 20 rfl rfl)
theorem dX1_deedsOf_21 : decode cX1_deedsOf 21 = .ok (.iconst 0, 1) := dk_3 (dk_at dksX1_deedsOf_0 21 rfl rfl)
theorem dX1_deedsOf_22 : decode cX1_deedsOf 22 = .ok (.iaload, 1) := dk_46 (dk_at dksX1_deedsOf_0 22 rfl rfl)
theorem dX1_deedsOf_23 : decode cX1_deedsOf 23 = .ok (.iload_n 1, 1) := dk_27 (dk_at dksX1_deedsOf_0 23 rfl rfl)
theorem dX1_deedsOf_24 : decode cX1_deedsOf 24 = .ok (.if_icmp .ne 9, 3) := dk_160 0 9 (dk_at dksX1_deedsOf_1 0 rfl rfl)
theorem dX1_deedsOf_27 : decode cX1_deedsOf 27 = .ok (.iconst 1, 1) := dk_4 (dk_at dksX1_deedsOf_1 3 rfl rfl)
theorem dX1_deedsOf_28 : decode cX1_deedsOf 28 = .ok (.iload_n 3, 1) := dk_29 (dk_at dksX1_deedsOf_1 4 rfl rfl)
theorem dX1_deedsOf_29 : decode cX1_deedsOf 29 = .ok (.ishl, 1) := dk_120 (dk_at dksX1_deedsOf_1 5 rfl rfl)
theorem dX1_deedsOf_30 : decode cX1_deedsOf 30 = .ok (.goto 4, 3) := dk_167 0 4 (dk_at dksX1_deedsOf_1 6 rfl rfl)
theorem dX1_deedsOf_33 : decode cX1_deedsOf 33 = .ok (.iconst 0, 1) := dk_3 (dk_at dksX1_deedsOf_1 9 rfl rfl)
theorem dX1_deedsOf_34 : decode cX1_deedsOf 34 = .ok (.ior, 1) := dk_128 (dk_at dksX1_deedsOf_1 10 rfl rfl)
theorem dX1_deedsOf_35 : decode cX1_deedsOf 35 = .ok (.istore_n 2, 1) := dk_61 (dk_at dksX1_deedsOf_1 11 rfl rfl)
theorem dX1_deedsOf_36 : decode cX1_deedsOf 36 = .ok (.iinc 3 1, 3) := dk_132 3 1 (dk_at dksX1_deedsOf_1 12 rfl rfl)
theorem dX1_deedsOf_39 : decode cX1_deedsOf 39 = .ok (.goto (-35), 3) := dk_167 255 221 (dk_at dksX1_deedsOf_1 15 rfl rfl)
theorem dX1_deedsOf_42 : decode cX1_deedsOf 42 = .ok (.iload_n 2, 1) := dk_28 (dk_at dksX1_deedsOf_1 18 rfl rfl)
theorem dX1_deedsOf_43 : decode cX1_deedsOf 43 = .ok (.ireturn, 1) := dk_172 (dk_at dksX1_deedsOf_1 19 rfl rfl)
abbrev cX1_writes : ByteArray := prog_9_method_9_code
def yX1_writes : MethodName := ⟨RX1, "writes", "(I)V"⟩
def dkwX1_writes_4 : List UInt8 := [180, 0, 21, 16, 44, 46, 104, 96, 8, 184, 0, 44, 42, 180, 0, 21, 16, 44, 92, 46, 4, 96, 79, 177]
abbrev dktX1_writes_4 : List UInt8 := dkwX1_writes_4 ++ []
def dkwX1_writes_3 : List UInt8 := [89, 6, 42, 180, 0, 21, 6, 46, 79, 89, 7, 27, 79, 77, 44, 3, 42, 180, 0, 21, 16, 45, 8, 42]
abbrev dktX1_writes_3 : List UInt8 := dkwX1_writes_3 ++ dktX1_writes_4
def dkwX1_writes_2 : List UInt8 := [180, 0, 21, 3, 46, 79, 89, 4, 42, 180, 0, 21, 5, 46, 79, 89, 5, 42, 180, 0, 21, 4, 46, 79]
abbrev dktX1_writes_2 : List UInt8 := dkwX1_writes_2 ++ dktX1_writes_3
def dkwX1_writes_1 : List UInt8 := [17, 0, 145, 184, 0, 44, 42, 180, 0, 21, 16, 44, 92, 46, 4, 100, 79, 8, 188, 10, 89, 3, 42]
abbrev dktX1_writes_1 : List UInt8 := dkwX1_writes_1 ++ dktX1_writes_2
def dkwX1_writes_0 : List UInt8 := [42, 180, 0, 21, 16, 44, 46, 16, 30, 160, 0, 32, 42, 180, 0, 21, 16, 50, 42, 180, 0, 21, 16, 45]
abbrev dktX1_writes_0 : List UInt8 := dkwX1_writes_0 ++ dktX1_writes_1
theorem dksX1_writes_0 : cX1_writes.data.toList.drop 0 = dktX1_writes_0 := by decide +kernel
theorem dksX1_writes_1 : cX1_writes.data.toList.drop 24 = dktX1_writes_1 := dk_seg dksX1_writes_0 24 rfl rfl
theorem dksX1_writes_2 : cX1_writes.data.toList.drop 47 = dktX1_writes_2 := dk_seg dksX1_writes_1 23 rfl rfl
theorem dksX1_writes_3 : cX1_writes.data.toList.drop 71 = dktX1_writes_3 := dk_seg dksX1_writes_2 24 rfl rfl
theorem dksX1_writes_4 : cX1_writes.data.toList.drop 95 = dktX1_writes_4 := dk_seg dksX1_writes_3 24 rfl rfl
theorem dX1_writes_0 : decode cX1_writes 0 = .ok (.aload_n 0, 1) := dk_42 (dk_at dksX1_writes_0 0 rfl rfl)
theorem dX1_writes_1 : decode cX1_writes 1 = .ok (.getfield 21, 3) := dk_180 0 21 (dk_at dksX1_writes_0 1 rfl rfl)
theorem dX1_writes_4 : decode cX1_writes 4 = .ok (.bipush 44, 2) := dk_16 44 (dk_at dksX1_writes_0 4 rfl rfl)
theorem dX1_writes_6 : decode cX1_writes 6 = .ok (.iaload, 1) := dk_46 (dk_at dksX1_writes_0 6 rfl rfl)
theorem dX1_writes_7 : decode cX1_writes 7 = .ok (.bipush 30, 2) := dk_16 30 (dk_at dksX1_writes_0 7 rfl rfl)
theorem dX1_writes_9 : decode cX1_writes 9 = .ok (.if_icmp .ne 32, 3) := dk_160 0 32 (dk_at dksX1_writes_0 9 rfl rfl)
theorem dX1_writes_12 : decode cX1_writes 12 = .ok (.aload_n 0, 1) := dk_42 (dk_at dksX1_writes_0 12 rfl rfl)
theorem dX1_writes_13 : decode cX1_writes 13 = .ok (.getfield 21, 3) := dk_180 0 21 (dk_at dksX1_writes_0 13 rfl rfl)
theorem dX1_writes_16 : decode cX1_writes 16 = .ok (.bipush 50, 2) := dk_16 50 (dk_at dksX1_writes_0 16 rfl rfl)
theorem dX1_writes_18 : decode cX1_writes 18 = .ok (.aload_n 0, 1) := dk_42 (dk_at dksX1_writes_0 18 rfl rfl)
theorem dX1_writes_19 : decode cX1_writes 19 = .ok (.getfield 21, 3) := dk_180 0 21 (dk_at dksX1_writes_0 19 rfl rfl)
theorem dX1_writes_22 : decode cX1_writes 22 = .ok (.bipush 45, 2) := dk_16 45 (dk_at dksX1_writes_0 22 rfl rfl)
theorem dX1_writes_24 : decode cX1_writes 24 = .ok (.sipush 145, 3) := dk_17 0 145 (dk_at dksX1_writes_1 0 rfl rfl)
theorem dX1_writes_27 : decode cX1_writes 27 = .ok (.invokestatic 44, 3) := dk_184 0 44 (dk_at dksX1_writes_1 3 rfl rfl)
theorem dX1_writes_30 : decode cX1_writes 30 = .ok (.aload_n 0, 1) := dk_42 (dk_at dksX1_writes_1 6 rfl rfl)
theorem dX1_writes_31 : decode cX1_writes 31 = .ok (.getfield 21, 3) := dk_180 0 21 (dk_at dksX1_writes_1 7 rfl rfl)
theorem dX1_writes_34 : decode cX1_writes 34 = .ok (.bipush 44, 2) := dk_16 44 (dk_at dksX1_writes_1 10 rfl rfl)
theorem dX1_writes_36 : decode cX1_writes 36 = .ok (.dup2, 1) := dk_92 (dk_at dksX1_writes_1 12 rfl rfl)
theorem dX1_writes_37 : decode cX1_writes 37 = .ok (.iaload, 1) := dk_46 (dk_at dksX1_writes_1 13 rfl rfl)
theorem dX1_writes_38 : decode cX1_writes 38 = .ok (.iconst 1, 1) := dk_4 (dk_at dksX1_writes_1 14 rfl rfl)
theorem dX1_writes_39 : decode cX1_writes 39 = .ok (.isub, 1) := dk_100 (dk_at dksX1_writes_1 15 rfl rfl)
theorem dX1_writes_40 : decode cX1_writes 40 = .ok (.iastore, 1) := dk_79 (dk_at dksX1_writes_1 16 rfl rfl)
theorem dX1_writes_41 : decode cX1_writes 41 = .ok (.iconst 5, 1) := dk_8 (dk_at dksX1_writes_1 17 rfl rfl)
theorem dX1_writes_42 : decode cX1_writes 42 = .ok (.newarray .int, 2) := dk_188_10 (dk_at dksX1_writes_1 18 rfl rfl)
theorem dX1_writes_44 : decode cX1_writes 44 = .ok (.dup, 1) := dk_89 (dk_at dksX1_writes_1 20 rfl rfl)
theorem dX1_writes_45 : decode cX1_writes 45 = .ok (.iconst 0, 1) := dk_3 (dk_at dksX1_writes_1 21 rfl rfl)
theorem dX1_writes_46 : decode cX1_writes 46 = .ok (.aload_n 0, 1) := dk_42 (dk_at dksX1_writes_1 22 rfl rfl)
theorem dX1_writes_47 : decode cX1_writes 47 = .ok (.getfield 21, 3) := dk_180 0 21 (dk_at dksX1_writes_2 0 rfl rfl)
theorem dX1_writes_50 : decode cX1_writes 50 = .ok (.iconst 0, 1) := dk_3 (dk_at dksX1_writes_2 3 rfl rfl)
theorem dX1_writes_51 : decode cX1_writes 51 = .ok (.iaload, 1) := dk_46 (dk_at dksX1_writes_2 4 rfl rfl)
theorem dX1_writes_52 : decode cX1_writes 52 = .ok (.iastore, 1) := dk_79 (dk_at dksX1_writes_2 5 rfl rfl)
theorem dX1_writes_53 : decode cX1_writes 53 = .ok (.dup, 1) := dk_89 (dk_at dksX1_writes_2 6 rfl rfl)
theorem dX1_writes_54 : decode cX1_writes 54 = .ok (.iconst 1, 1) := dk_4 (dk_at dksX1_writes_2 7 rfl rfl)
theorem dX1_writes_55 : decode cX1_writes 55 = .ok (.aload_n 0, 1) := dk_42 (dk_at dksX1_writes_2 8 rfl rfl)
theorem dX1_writes_56 : decode cX1_writes 56 = .ok (.getfield 21, 3) := dk_180 0 21 (dk_at dksX1_writes_2 9 rfl rfl)
theorem dX1_writes_59 : decode cX1_writes 59 = .ok (.iconst 2, 1) := dk_5 (dk_at dksX1_writes_2 12 rfl rfl)
theorem dX1_writes_60 : decode cX1_writes 60 = .ok (.iaload, 1) := dk_46 (dk_at dksX1_writes_2 13 rfl rfl)
theorem dX1_writes_61 : decode cX1_writes 61 = .ok (.iastore, 1) := dk_79 (dk_at dksX1_writes_2 14 rfl rfl)
theorem dX1_writes_62 : decode cX1_writes 62 = .ok (.dup, 1) := dk_89 (dk_at dksX1_writes_2 15 rfl rfl)
theorem dX1_writes_63 : decode cX1_writes 63 = .ok (.iconst 2, 1) := dk_5 (dk_at dksX1_writes_2 16 rfl rfl)
theorem dX1_writes_64 : decode cX1_writes 64 = .ok (.aload_n 0, 1) := dk_42 (dk_at dksX1_writes_2 17 rfl rfl)
theorem dX1_writes_65 : decode cX1_writes 65 = .ok (.getfield 21, 3) := dk_180 0 21 (dk_at dksX1_writes_2 18 rfl rfl)
theorem dX1_writes_68 : decode cX1_writes 68 = .ok (.iconst 1, 1) := dk_4 (dk_at dksX1_writes_2 21 rfl rfl)
theorem dX1_writes_69 : decode cX1_writes 69 = .ok (.iaload, 1) := dk_46 (dk_at dksX1_writes_2 22 rfl rfl)
theorem dX1_writes_70 : decode cX1_writes 70 = .ok (.iastore, 1) := dk_79 (dk_at dksX1_writes_2 23 rfl rfl)
theorem dX1_writes_71 : decode cX1_writes 71 = .ok (.dup, 1) := dk_89 (dk_at dksX1_writes_3 0 rfl rfl)
theorem dX1_writes_72 : decode cX1_writes 72 = .ok (.iconst 3, 1) := dk_6 (dk_at dksX1_writes_3 1 rfl rfl)
theorem dX1_writes_73 : decode cX1_writes 73 = .ok (.aload_n 0, 1) := dk_42 (dk_at dksX1_writes_3 2 rfl rfl)
theorem dX1_writes_74 : decode cX1_writes 74 = .ok (.getfield 21, 3) := dk_180 0 21 (dk_at dksX1_writes_3 3 rfl rfl)
theorem dX1_writes_77 : decode cX1_writes 77 = .ok (.iconst 3, 1) := dk_6 (dk_at dksX1_writes_3 6 rfl rfl)
theorem dX1_writes_78 : decode cX1_writes 78 = .ok (.iaload, 1) := dk_46 (dk_at dksX1_writes_3 7 rfl rfl)
theorem dX1_writes_79 : decode cX1_writes 79 = .ok (.iastore, 1) := dk_79 (dk_at dksX1_writes_3 8 rfl rfl)
theorem dX1_writes_80 : decode cX1_writes 80 = .ok (.dup, 1) := dk_89 (dk_at dksX1_writes_3 9 rfl rfl)
theorem dX1_writes_81 : decode cX1_writes 81 = .ok (.iconst 4, 1) := dk_7 (dk_at dksX1_writes_3 10 rfl rfl)
theorem dX1_writes_82 : decode cX1_writes 82 = .ok (.iload_n 1, 1) := dk_27 (dk_at dksX1_writes_3 11 rfl rfl)
theorem dX1_writes_83 : decode cX1_writes 83 = .ok (.iastore, 1) := dk_79 (dk_at dksX1_writes_3 12 rfl rfl)
theorem dX1_writes_84 : decode cX1_writes 84 = .ok (.astore_n 2, 1) := dk_77 (dk_at dksX1_writes_3 13 rfl rfl)
theorem dX1_writes_85 : decode cX1_writes 85 = .ok (.aload_n 2, 1) := dk_44 (dk_at dksX1_writes_3 14 rfl rfl)
theorem dX1_writes_86 : decode cX1_writes 86 = .ok (.iconst 0, 1) := dk_3 (dk_at dksX1_writes_3 15 rfl rfl)
theorem dX1_writes_87 : decode cX1_writes 87 = .ok (.aload_n 0, 1) := dk_42 (dk_at dksX1_writes_3 16 rfl rfl)
theorem dX1_writes_88 : decode cX1_writes 88 = .ok (.getfield 21, 3) := dk_180 0 21 (dk_at dksX1_writes_3 17 rfl rfl)
theorem dX1_writes_91 : decode cX1_writes 91 = .ok (.bipush 45, 2) := dk_16 45 (dk_at dksX1_writes_3 20 rfl rfl)
theorem dX1_writes_93 : decode cX1_writes 93 = .ok (.iconst 5, 1) := dk_8 (dk_at dksX1_writes_3 22 rfl rfl)
theorem dX1_writes_94 : decode cX1_writes 94 = .ok (.aload_n 0, 1) := dk_42 (dk_at dksX1_writes_3 23 rfl rfl)
theorem dX1_writes_95 : decode cX1_writes 95 = .ok (.getfield 21, 3) := dk_180 0 21 (dk_at dksX1_writes_4 0 rfl rfl)
theorem dX1_writes_98 : decode cX1_writes 98 = .ok (.bipush 44, 2) := dk_16 44 (dk_at dksX1_writes_4 3 rfl rfl)
theorem dX1_writes_100 : decode cX1_writes 100 = .ok (.iaload, 1) := dk_46 (dk_at dksX1_writes_4 5 rfl rfl)
theorem dX1_writes_101 : decode cX1_writes 101 = .ok (.imul, 1) := dk_104 (dk_at dksX1_writes_4 6 rfl rfl)
theorem dX1_writes_102 : decode cX1_writes 102 = .ok (.iadd, 1) := dk_96 (dk_at dksX1_writes_4 7 rfl rfl)
theorem dX1_writes_103 : decode cX1_writes 103 = .ok (.iconst 5, 1) := dk_8 (dk_at dksX1_writes_4 8 rfl rfl)
theorem dX1_writes_104 : decode cX1_writes 104 = .ok (.invokestatic 44, 3) := dk_184 0 44 (dk_at dksX1_writes_4 9 rfl rfl)
theorem dX1_writes_107 : decode cX1_writes 107 = .ok (.aload_n 0, 1) := dk_42 (dk_at dksX1_writes_4 12 rfl rfl)
theorem dX1_writes_108 : decode cX1_writes 108 = .ok (.getfield 21, 3) := dk_180 0 21 (dk_at dksX1_writes_4 13 rfl rfl)
theorem dX1_writes_111 : decode cX1_writes 111 = .ok (.bipush 44, 2) := dk_16 44 (dk_at dksX1_writes_4 16 rfl rfl)
theorem dX1_writes_113 : decode cX1_writes 113 = .ok (.dup2, 1) := dk_92 (dk_at dksX1_writes_4 18 rfl rfl)
theorem dX1_writes_114 : decode cX1_writes 114 = .ok (.iaload, 1) := dk_46 (dk_at dksX1_writes_4 19 rfl rfl)
theorem dX1_writes_115 : decode cX1_writes 115 = .ok (.iconst 1, 1) := dk_4 (dk_at dksX1_writes_4 20 rfl rfl)
theorem dX1_writes_116 : decode cX1_writes 116 = .ok (.iadd, 1) := dk_96 (dk_at dksX1_writes_4 21 rfl rfl)
theorem dX1_writes_117 : decode cX1_writes 117 = .ok (.iastore, 1) := dk_79 (dk_at dksX1_writes_4 22 rfl rfl)
theorem dX1_writes_118 : decode cX1_writes 118 = .ok (.return_, 1) := dk_177 (dk_at dksX1_writes_4 23 rfl rfl)
theorem q138 : (Jvm.Cond.initialized "AgainstFeather$State") ∈ lw_all := lw_g (lw_at lw_m1 2 rfl) rfl
theorem q177 : (Jvm.Cond.instantiable "AgainstFeather$State" (9 : Nat)) ∈ lw_all := lw_g (lw_at lw_m1 41 rfl) rfl
theorem q179 : (Jvm.Cond.instanceMethod ({ cls := "AgainstFeather$State", name := "<init>", desc := "()V" } : Jvm.MethodName)) ∈ lw_all := lw_g (lw_at lw_m1 43 rfl) rfl
theorem q180 : (Jvm.Cond.code ({ cls := "AgainstFeather$State", name := "<init>", desc := "()V" } : Jvm.MethodName) prog_9_method_1_code (1 : Nat) (Option.none : Option Jvm.ClassFile.FieldType)) ∈ lw_all := lw_g (lw_at lw_m1 44 rfl) rfl
theorem q181 : (Jvm.Cond.methodLink "AgainstFeather$State" (3 : Nat) ({ cls := "java/lang/Object", name := "<init>", desc := "()V" } : Jvm.MethodName)) ∈ lw_all := lw_g (lw_at lw_m1 45 rfl) rfl
theorem q182 : (Jvm.Cond.classLink "AgainstFeather$State" (24 : Nat) "[[I") ∈ lw_all := lw_g (lw_at lw_m1 46 rfl) rfl
theorem q184 : (Jvm.Cond.classLink "AgainstFeather$State" (38 : Nat) "AgainstFeather$Text") ∈ lw_all := lw_g (lw_at lw_m1 48 rfl) rfl
theorem q186 : (Jvm.Cond.fieldLink "AgainstFeather$State" (9 : Nat) "AgainstFeather$State" "n" "[I") ∈ lw_all := lw_g (lw_at lw_m1 50 rfl) rfl
theorem q188 : (Jvm.Cond.fieldLink "AgainstFeather$State" (15 : Nat) "AgainstFeather$State" "feather" "[I") ∈ lw_all := lw_g (lw_at lw_m1 52 rfl) rfl
theorem q190 : (Jvm.Cond.fieldLink "AgainstFeather$State" (18 : Nat) "AgainstFeather$State" "judge" "[I") ∈ lw_all := lw_g (lw_at lw_m1 54 rfl) rfl
theorem q192 : (Jvm.Cond.fieldLink "AgainstFeather$State" (21 : Nat) "AgainstFeather$State" "row" "[I") ∈ lw_all := lw_g (lw_at lw_m1 56 rfl) rfl
theorem q195 : (Jvm.Cond.fieldLink "AgainstFeather$State" (26 : Nat) "AgainstFeather$State" "deed" "[[I") ∈ lw_all := lw_g (lw_at lw_m1 59 rfl) rfl
theorem q197 : (Jvm.Cond.fieldLink "AgainstFeather$State" (29 : Nat) "AgainstFeather$State" "bond" "[[I") ∈ lw_all := lw_g (lw_at lw_m1 61 rfl) rfl
theorem q199 : (Jvm.Cond.fieldLink "AgainstFeather$State" (32 : Nat) "AgainstFeather$State" "known" "[[I") ∈ lw_all := lw_g (lw_at lw_m1 63 rfl) rfl
theorem q201 : (Jvm.Cond.fieldLink "AgainstFeather$State" (35 : Nat) "AgainstFeather$State" "step" "[[I") ∈ lw_all := lw_g (lw_at lw_m1 65 rfl) rfl
theorem q203 : (Jvm.Cond.fieldLink "AgainstFeather$State" (40 : Nat) "AgainstFeather$State" "text" "[LAgainstFeather$Text;") ∈ lw_all := lw_g (lw_at lw_m1 67 rfl) rfl
theorem q205 : (Jvm.Cond.laysFinal "AgainstFeather$State" "AgainstFeather$State" "n" "[I") ∈ lw_all := lw_g (lw_at lw_m1 69 rfl) rfl
theorem q206 : (Jvm.Cond.soleField "AgainstFeather$State" "n") ∈ lw_all := lw_g (lw_at lw_m1 70 rfl) rfl
theorem q207 : (Jvm.Cond.laysFinal "AgainstFeather$State" "AgainstFeather$State" "feather" "[I") ∈ lw_all := lw_g (lw_at lw_m1 71 rfl) rfl
theorem q208 : (Jvm.Cond.soleField "AgainstFeather$State" "feather") ∈ lw_all := lw_g (lw_at lw_m1 72 rfl) rfl
theorem q209 : (Jvm.Cond.laysFinal "AgainstFeather$State" "AgainstFeather$State" "judge" "[I") ∈ lw_all := lw_g (lw_at lw_m1 73 rfl) rfl
theorem q210 : (Jvm.Cond.soleField "AgainstFeather$State" "judge") ∈ lw_all := lw_g (lw_at lw_m1 74 rfl) rfl
theorem q211 : (Jvm.Cond.laysFinal "AgainstFeather$State" "AgainstFeather$State" "row" "[I") ∈ lw_all := lw_g (lw_at lw_m1 75 rfl) rfl
theorem q212 : (Jvm.Cond.soleField "AgainstFeather$State" "row") ∈ lw_all := lw_g (lw_at lw_m1 76 rfl) rfl
theorem q213 : (Jvm.Cond.laysFinal "AgainstFeather$State" "AgainstFeather$State" "deed" "[[I") ∈ lw_all := lw_g (lw_at lw_m1 77 rfl) rfl
theorem q214 : (Jvm.Cond.soleField "AgainstFeather$State" "deed") ∈ lw_all := lw_g (lw_at lw_m1 78 rfl) rfl
theorem q215 : (Jvm.Cond.laysFinal "AgainstFeather$State" "AgainstFeather$State" "bond" "[[I") ∈ lw_all := lw_g (lw_at lw_m1 79 rfl) rfl
theorem q216 : (Jvm.Cond.soleField "AgainstFeather$State" "bond") ∈ lw_all := lw_g (lw_at lw_m1 80 rfl) rfl
theorem q217 : (Jvm.Cond.laysFinal "AgainstFeather$State" "AgainstFeather$State" "known" "[[I") ∈ lw_all := lw_g (lw_at lw_m1 81 rfl) rfl
theorem q218 : (Jvm.Cond.soleField "AgainstFeather$State" "known") ∈ lw_all := lw_g (lw_at lw_m1 82 rfl) rfl
theorem q219 : (Jvm.Cond.laysFinal "AgainstFeather$State" "AgainstFeather$State" "step" "[[I") ∈ lw_all := lw_g (lw_at lw_m1 83 rfl) rfl
theorem q220 : (Jvm.Cond.soleField "AgainstFeather$State" "step") ∈ lw_all := lw_g (lw_at lw_m1 84 rfl) rfl
theorem q221 : (Jvm.Cond.laysFinal "AgainstFeather$State" "AgainstFeather$State" "text" "[LAgainstFeather$Text;") ∈ lw_all := lw_g (lw_at lw_m1 85 rfl) rfl
theorem q222 : (Jvm.Cond.soleField "AgainstFeather$State" "text") ∈ lw_all := lw_g (lw_at lw_m1 86 rfl) rfl
theorem q223 : (Jvm.Cond.superclass "AgainstFeather$State" "java/lang/Object") ∈ lw_all := lw_g (lw_at lw_m1 87 rfl) rfl
theorem q227 : (Jvm.Cond.instanceMethod ({ cls := "AgainstFeather$State", name := "be", desc := "(LAgainstFeather$State;)V" } : Jvm.MethodName)) ∈ lw_all := lw_g (lw_at lw_m1 91 rfl) rfl
theorem q228 : (Jvm.Cond.selects "AgainstFeather$State" ({ cls := "AgainstFeather$State", name := "be", desc := "(LAgainstFeather$State;)V" } : Jvm.MethodName) ({ cls := "AgainstFeather$State", name := "be", desc := "(LAgainstFeather$State;)V" } : Jvm.MethodName)) ∈ lw_all := lw_g (lw_at lw_m1 92 rfl) rfl
theorem q229 : (Jvm.Cond.code ({ cls := "AgainstFeather$State", name := "be", desc := "(LAgainstFeather$State;)V" } : Jvm.MethodName) prog_9_method_4_code (2 : Nat) (Option.none : Option Jvm.ClassFile.FieldType)) ∈ lw_all := lw_g (lw_at lw_m1 93 rfl) rfl
theorem q230 : (Jvm.Cond.methodLink "AgainstFeather$State" (50 : Nat) ({ cls := "AgainstFeather$State", name := "copy", desc := "([I[I)V" } : Jvm.MethodName)) ∈ lw_all := lw_g (lw_at lw_m1 94 rfl) rfl
theorem q231 : (Jvm.Cond.static ({ cls := "AgainstFeather$State", name := "copy", desc := "([I[I)V" } : Jvm.MethodName)) ∈ lw_all := lw_g (lw_at lw_m1 95 rfl) rfl
theorem q232 : (Jvm.Cond.code ({ cls := "AgainstFeather$State", name := "copy", desc := "([I[I)V" } : Jvm.MethodName) prog_9_method_2_code (2 : Nat) (Option.none : Option Jvm.ClassFile.FieldType)) ∈ lw_all := lw_g (lw_at lw_m1 96 rfl) rfl
theorem q233 : (Jvm.Cond.methodLink "AgainstFeather$State" (44 : Nat) ({ cls := "java/lang/System", name := "arraycopy", desc := "(Ljava/lang/Object;ILjava/lang/Object;II)V" } : Jvm.MethodName)) ∈ lw_all := lw_g (lw_at lw_m1 97 rfl) rfl
theorem q236 : (Jvm.Cond.methodLink "AgainstFeather$State" (54 : Nat) ({ cls := "AgainstFeather$State", name := "copy", desc := "([[I[[I)V" } : Jvm.MethodName)) ∈ lw_all := lw_g (lw_at lw_m1 100 rfl) rfl
theorem q237 : (Jvm.Cond.static ({ cls := "AgainstFeather$State", name := "copy", desc := "([[I[[I)V" } : Jvm.MethodName)) ∈ lw_all := lw_g (lw_at lw_m1 101 rfl) rfl
theorem q238 : (Jvm.Cond.code ({ cls := "AgainstFeather$State", name := "copy", desc := "([[I[[I)V" } : Jvm.MethodName) prog_9_method_3_code (3 : Nat) (Option.none : Option Jvm.ClassFile.FieldType)) ∈ lw_all := lw_g (lw_at lw_m1 102 rfl) rfl
theorem q746 : (Jvm.Cond.selects "AgainstFeather$State" ({ cls := "java/lang/Object", name := "getClass", desc := "()Ljava/lang/Class;" } : Jvm.MethodName) ({ cls := "java/lang/Object", name := "getClass", desc := "()Ljava/lang/Class;" } : Jvm.MethodName)) ∈ lw_all := lw_g (lw_at lw_m3 130 rfl) rfl
theorem q831 : (Jvm.Cond.instanceMethod ({ cls := "AgainstFeather$State", name := "owes", desc := "(II)I" } : Jvm.MethodName)) ∈ lw_all := lw_g (lw_at lw_m3 215 rfl) rfl
theorem q832 : (Jvm.Cond.selects "AgainstFeather$State" ({ cls := "AgainstFeather$State", name := "owes", desc := "(II)I" } : Jvm.MethodName) ({ cls := "AgainstFeather$State", name := "owes", desc := "(II)I" } : Jvm.MethodName)) ∈ lw_all := lw_g (lw_at lw_m3 216 rfl) rfl
theorem q833 : (Jvm.Cond.code ({ cls := "AgainstFeather$State", name := "owes", desc := "(II)I" } : Jvm.MethodName) prog_9_method_6_code (3 : Nat) (Option.some Jvm.ClassFile.FieldType.int)) ∈ lw_all := lw_g (lw_at lw_m3 217 rfl) rfl
theorem q835 : (Jvm.Cond.instanceMethod ({ cls := "AgainstFeather$State", name := "keeps", desc := "()V" } : Jvm.MethodName)) ∈ lw_all := lw_g (lw_at lw_m3 219 rfl) rfl
theorem q836 : (Jvm.Cond.selects "AgainstFeather$State" ({ cls := "AgainstFeather$State", name := "keeps", desc := "()V" } : Jvm.MethodName) ({ cls := "AgainstFeather$State", name := "keeps", desc := "()V" } : Jvm.MethodName)) ∈ lw_all := lw_g (lw_at lw_m3 220 rfl) rfl
theorem q837 : (Jvm.Cond.code ({ cls := "AgainstFeather$State", name := "keeps", desc := "()V" } : Jvm.MethodName) prog_9_method_5_code (2 : Nat) (Option.none : Option Jvm.ClassFile.FieldType)) ∈ lw_all := lw_g (lw_at lw_m3 221 rfl) rfl
theorem q854 : (Jvm.Cond.instanceMethod ({ cls := "AgainstFeather$State", name := "lentTo", desc := "(I)I" } : Jvm.MethodName)) ∈ lw_all := lw_g (lw_at lw_m3 238 rfl) rfl
theorem q855 : (Jvm.Cond.selects "AgainstFeather$State" ({ cls := "AgainstFeather$State", name := "lentTo", desc := "(I)I" } : Jvm.MethodName) ({ cls := "AgainstFeather$State", name := "lentTo", desc := "(I)I" } : Jvm.MethodName)) ∈ lw_all := lw_g (lw_at lw_m3 239 rfl) rfl
theorem q856 : (Jvm.Cond.code ({ cls := "AgainstFeather$State", name := "lentTo", desc := "(I)I" } : Jvm.MethodName) prog_9_method_7_code (4 : Nat) (Option.some Jvm.ClassFile.FieldType.int)) ∈ lw_all := lw_g (lw_at lw_m4 0 rfl) rfl
theorem q857 : (Jvm.Cond.methodLink "AgainstFeather$State" (57 : Nat) ({ cls := "AgainstFeather$State", name := "owes", desc := "(II)I" } : Jvm.MethodName)) ∈ lw_all := lw_g (lw_at lw_m4 1 rfl) rfl
theorem q1065 : (Jvm.Cond.instanceMethod ({ cls := "AgainstFeather$State", name := "deedsOf", desc := "(I)I" } : Jvm.MethodName)) ∈ lw_all := lw_g (lw_at lw_m4 209 rfl) rfl
theorem q1066 : (Jvm.Cond.selects "AgainstFeather$State" ({ cls := "AgainstFeather$State", name := "deedsOf", desc := "(I)I" } : Jvm.MethodName) ({ cls := "AgainstFeather$State", name := "deedsOf", desc := "(I)I" } : Jvm.MethodName)) ∈ lw_all := lw_g (lw_at lw_m4 210 rfl) rfl
theorem q1067 : (Jvm.Cond.code ({ cls := "AgainstFeather$State", name := "deedsOf", desc := "(I)I" } : Jvm.MethodName) prog_9_method_8_code (4 : Nat) (Option.some Jvm.ClassFile.FieldType.int)) ∈ lw_all := lw_g (lw_at lw_m4 211 rfl) rfl
theorem q1070 : (Jvm.Cond.instanceMethod ({ cls := "AgainstFeather$State", name := "writes", desc := "(I)V" } : Jvm.MethodName)) ∈ lw_all := lw_g (lw_at lw_m4 214 rfl) rfl
theorem q1071 : (Jvm.Cond.selects "AgainstFeather$State" ({ cls := "AgainstFeather$State", name := "writes", desc := "(I)V" } : Jvm.MethodName) ({ cls := "AgainstFeather$State", name := "writes", desc := "(I)V" } : Jvm.MethodName)) ∈ lw_all := lw_g (lw_at lw_m4 215 rfl) rfl
theorem q1072 : (Jvm.Cond.code ({ cls := "AgainstFeather$State", name := "writes", desc := "(I)V" } : Jvm.MethodName) prog_9_method_9_code (3 : Nat) (Option.none : Option Jvm.ClassFile.FieldType)) ∈ lw_all := lw_g (lw_at lw_m4 216 rfl) rfl
theorem q1994 : (Jvm.Cond.castable "AgainstFeather$State" "java/lang/Object") ∈ lw_tbl := lw_at lw_m8 178 rfl
theorem in_X1 : ∀ w ∈ wsX10, w ∈ lw_all := lw_in wsX10 [205, 207, 209, 211, 213, 215, 217, 219, 221] (by decide +kernel) (by decide +kernel)
/-! AgainstFeather$Size -/
set_option maxRecDepth 100000
def RX10 : String := "AgainstFeather$Size"
def TX10 : u_T := fun k => match k with
  | _ => ("AgainstFeather$Size", "x", "LAgainstFeather$Sum;", true)
def tyX10 : Nat → FieldType := fun k => match k with
  | _ => .object "AgainstFeather$Sum"
abbrev wsX100 : List Cond := u_ws RX10 TX10 1
theorem nmX10 : ∀ a, a < 1 → ∀ b, b < 1 → a ≠ b → (TX10 a).2.1 ≠ (TX10 b).2.1 := by decide +kernel
theorem tyX10_ok : ∀ k, k < 1 → parseFieldDescriptor (TX10 k).2.2.1 = some (tyX10 k) := by decide +kernel
abbrev cX10_init : ByteArray := prog_8_method_1_code
def yX10_init : MethodName := ⟨RX10, "<init>", "(LAgainstFeather$Sum;)V"⟩
def dkwX10_init_0 : List UInt8 := [42, 183, 0, 1, 42, 43, 181, 0, 7, 177]
abbrev dktX10_init_0 : List UInt8 := dkwX10_init_0 ++ []
theorem dksX10_init_0 : cX10_init.data.toList.drop 0 = dktX10_init_0 := by decide +kernel
theorem dX10_init_0 : decode cX10_init 0 = .ok (.aload_n 0, 1) := dk_42 (dk_at dksX10_init_0 0 rfl rfl)
theorem dX10_init_1 : decode cX10_init 1 = .ok (.invokespecial 1, 3) := dk_183 0 1 (dk_at dksX10_init_0 1 rfl rfl)
theorem dX10_init_4 : decode cX10_init 4 = .ok (.aload_n 0, 1) := dk_42 (dk_at dksX10_init_0 4 rfl rfl)
theorem dX10_init_5 : decode cX10_init 5 = .ok (.aload_n 1, 1) := dk_43 (dk_at dksX10_init_0 5 rfl rfl)
theorem dX10_init_6 : decode cX10_init 6 = .ok (.putfield 7, 3) := dk_181 0 7 (dk_at dksX10_init_0 6 rfl rfl)
theorem dX10_init_9 : decode cX10_init 9 = .ok (.return_, 1) := dk_177 (dk_at dksX10_init_0 9 rfl rfl)
abbrev cX10_of : ByteArray := prog_8_method_2_code
def yX10_of : MethodName := ⟨RX10, "of", "([I)J"⟩
def dkwX10_of_0 : List UInt8 := [42, 180, 0, 7, 43, 185, 0, 13, 2, 0, 184, 0, 19, 173]
abbrev dktX10_of_0 : List UInt8 := dkwX10_of_0 ++ []
theorem dksX10_of_0 : cX10_of.data.toList.drop 0 = dktX10_of_0 := by decide +kernel
theorem dX10_of_0 : decode cX10_of 0 = .ok (.aload_n 0, 1) := dk_42 (dk_at dksX10_of_0 0 rfl rfl)
theorem dX10_of_1 : decode cX10_of 1 = .ok (.getfield 7, 3) := dk_180 0 7 (dk_at dksX10_of_0 1 rfl rfl)
theorem dX10_of_4 : decode cX10_of 4 = .ok (.aload_n 1, 1) := dk_43 (dk_at dksX10_of_0 4 rfl rfl)
theorem dX10_of_5 : decode cX10_of 5 = .ok (.invokeinterface 13 2, 5) := by decide +kernel
theorem dX10_of_10 : decode cX10_of 10 = .ok (.invokestatic 19, 3) := dk_184 0 19 (dk_at dksX10_of_0 10 rfl rfl)
theorem dX10_of_13 : decode cX10_of 13 = .ok (.lreturn, 1) := dk_173 (dk_at dksX10_of_0 13 rfl rfl)
theorem q159 : (Jvm.Cond.initialized "AgainstFeather$Size") ∈ lw_all := lw_g (lw_at lw_m1 23 rfl) rfl
theorem q657 : (Jvm.Cond.instantiable "AgainstFeather$Size" (1 : Nat)) ∈ lw_all := lw_g (lw_at lw_m3 41 rfl) rfl
theorem q659 : (Jvm.Cond.instanceMethod ({ cls := "AgainstFeather$Size", name := "<init>", desc := "(LAgainstFeather$Sum;)V" } : Jvm.MethodName)) ∈ lw_all := lw_g (lw_at lw_m3 43 rfl) rfl
theorem q660 : (Jvm.Cond.code ({ cls := "AgainstFeather$Size", name := "<init>", desc := "(LAgainstFeather$Sum;)V" } : Jvm.MethodName) prog_8_method_1_code (2 : Nat) (Option.none : Option Jvm.ClassFile.FieldType)) ∈ lw_all := lw_g (lw_at lw_m3 44 rfl) rfl
theorem q661 : (Jvm.Cond.methodLink "AgainstFeather$Size" (1 : Nat) ({ cls := "java/lang/Record", name := "<init>", desc := "()V" } : Jvm.MethodName)) ∈ lw_all := lw_g (lw_at lw_m3 45 rfl) rfl
theorem q662 : (Jvm.Cond.fieldLink "AgainstFeather$Size" (7 : Nat) "AgainstFeather$Size" "x" "LAgainstFeather$Sum;") ∈ lw_all := lw_g (lw_at lw_m3 46 rfl) rfl
theorem q663 : (Jvm.Cond.laysFinal "AgainstFeather$Size" "AgainstFeather$Size" "x" "LAgainstFeather$Sum;") ∈ lw_all := lw_g (lw_at lw_m3 47 rfl) rfl
theorem q664 : (Jvm.Cond.soleField "AgainstFeather$Size" "x") ∈ lw_all := lw_g (lw_at lw_m3 48 rfl) rfl
theorem q665 : (Jvm.Cond.superclass "AgainstFeather$Size" "java/lang/Record") ∈ lw_all := lw_g (lw_at lw_m3 49 rfl) rfl
theorem q745 : (Jvm.Cond.selects "AgainstFeather$Size" ({ cls := "java/lang/Object", name := "getClass", desc := "()Ljava/lang/Class;" } : Jvm.MethodName) ({ cls := "java/lang/Object", name := "getClass", desc := "()Ljava/lang/Class;" } : Jvm.MethodName)) ∈ lw_all := lw_g (lw_at lw_m3 129 rfl) rfl
theorem q921 : (Jvm.Cond.castable "AgainstFeather$Size" "AgainstFeather$Sum") ∈ lw_tbl := lw_at lw_m4 65 rfl
theorem q922 : (Jvm.Cond.selects "AgainstFeather$Size" ({ cls := "AgainstFeather$Sum", name := "of", desc := "([I)J" } : Jvm.MethodName) ({ cls := "AgainstFeather$Size", name := "of", desc := "([I)J" } : Jvm.MethodName)) ∈ lw_all := lw_g (lw_at lw_m4 66 rfl) rfl
theorem q923 : (Jvm.Cond.unhidden "AgainstFeather$Size" "of" "([I)J") ∈ lw_tbl := lw_at lw_m4 67 rfl
theorem q924 : (Jvm.Cond.instanceMethod ({ cls := "AgainstFeather$Size", name := "of", desc := "([I)J" } : Jvm.MethodName)) ∈ lw_all := lw_g (lw_at lw_m4 68 rfl) rfl
theorem q925 : (Jvm.Cond.publicMethod ({ cls := "AgainstFeather$Size", name := "of", desc := "([I)J" } : Jvm.MethodName)) ∈ lw_tbl := lw_at lw_m4 69 rfl
theorem q926 : (Jvm.Cond.code ({ cls := "AgainstFeather$Size", name := "of", desc := "([I)J" } : Jvm.MethodName) prog_8_method_2_code (2 : Nat) (Option.some Jvm.ClassFile.FieldType.long)) ∈ lw_all := lw_g (lw_at lw_m4 70 rfl) rfl
theorem q927 : (Jvm.Cond.interfaceEntry "AgainstFeather$Size" (13 : Nat)) ∈ lw_tbl := lw_at lw_m4 71 rfl
theorem q928 : (Jvm.Cond.methodLink "AgainstFeather$Size" (13 : Nat) ({ cls := "AgainstFeather$Sum", name := "of", desc := "([I)J" } : Jvm.MethodName)) ∈ lw_all := lw_g (lw_at lw_m4 72 rfl) rfl
theorem q929 : (Jvm.Cond.methodLink "AgainstFeather$Size" (19 : Nat) ({ cls := "java/lang/Math", name := "abs", desc := "(J)J" } : Jvm.MethodName)) ∈ lw_all := lw_g (lw_at lw_m4 73 rfl) rfl
theorem q2003 : (Jvm.Cond.castable "AgainstFeather$Size" "java/lang/Object") ∈ lw_tbl := lw_at lw_m8 187 rfl
theorem in_X10 : ∀ w ∈ wsX100, w ∈ lw_all := lw_in wsX100 [663] (by decide +kernel) (by decide +kernel)
/-! AgainstFeather$Doing -/
set_option maxRecDepth 100000
def RX11 : String := "AgainstFeather$Doing"
def TX11 : u_T := fun k => match k with
  | 0 => ("AgainstFeather$Doing", "sort", "I", true)
  | 1 => ("AgainstFeather$Doing", "a", "I", true)
  | 2 => ("AgainstFeather$Doing", "b", "I", true)
  | 3 => ("AgainstFeather$Doing", "c", "I", true)
  | 4 => ("AgainstFeather$Doing", "marks", "I", true)
  | _ => ("AgainstFeather$Doing", "number", "I", true)
def tyX11 : Nat → FieldType := fun k => match k with
  | 0 => .int
  | 1 => .int
  | 2 => .int
  | 3 => .int
  | 4 => .int
  | _ => .int
abbrev wsX110 : List Cond := u_ws RX11 TX11 6
theorem nmX11 : ∀ a, a < 6 → ∀ b, b < 6 → a ≠ b → (TX11 a).2.1 ≠ (TX11 b).2.1 := by decide +kernel
theorem tyX11_ok : ∀ k, k < 6 → parseFieldDescriptor (TX11 k).2.2.1 = some (tyX11 k) := by decide +kernel
abbrev cX11_init : ByteArray := prog_3_method_1_code
def yX11_init : MethodName := ⟨RX11, "<init>", "(IIIIII)V"⟩
def dkwX11_init_1 : List UInt8 := [181, 0, 19, 42, 21, 5, 181, 0, 22, 42, 21, 6, 181, 0, 25, 177]
abbrev dktX11_init_1 : List UInt8 := dkwX11_init_1 ++ []
def dkwX11_init_0 : List UInt8 := [42, 183, 0, 1, 42, 27, 181, 0, 7, 42, 28, 181, 0, 13, 42, 29, 181, 0, 16, 42, 21, 4]
abbrev dktX11_init_0 : List UInt8 := dkwX11_init_0 ++ dktX11_init_1
theorem dksX11_init_0 : cX11_init.data.toList.drop 0 = dktX11_init_0 := by decide +kernel
theorem dksX11_init_1 : cX11_init.data.toList.drop 22 = dktX11_init_1 := dk_seg dksX11_init_0 22 rfl rfl
theorem dX11_init_0 : decode cX11_init 0 = .ok (.aload_n 0, 1) := dk_42 (dk_at dksX11_init_0 0 rfl rfl)
theorem dX11_init_1 : decode cX11_init 1 = .ok (.invokespecial 1, 3) := dk_183 0 1 (dk_at dksX11_init_0 1 rfl rfl)
theorem dX11_init_4 : decode cX11_init 4 = .ok (.aload_n 0, 1) := dk_42 (dk_at dksX11_init_0 4 rfl rfl)
theorem dX11_init_5 : decode cX11_init 5 = .ok (.iload_n 1, 1) := dk_27 (dk_at dksX11_init_0 5 rfl rfl)
theorem dX11_init_6 : decode cX11_init 6 = .ok (.putfield 7, 3) := dk_181 0 7 (dk_at dksX11_init_0 6 rfl rfl)
theorem dX11_init_9 : decode cX11_init 9 = .ok (.aload_n 0, 1) := dk_42 (dk_at dksX11_init_0 9 rfl rfl)
theorem dX11_init_10 : decode cX11_init 10 = .ok (.iload_n 2, 1) := dk_28 (dk_at dksX11_init_0 10 rfl rfl)
theorem dX11_init_11 : decode cX11_init 11 = .ok (.putfield 13, 3) := dk_181 0 13 (dk_at dksX11_init_0 11 rfl rfl)
theorem dX11_init_14 : decode cX11_init 14 = .ok (.aload_n 0, 1) := dk_42 (dk_at dksX11_init_0 14 rfl rfl)
theorem dX11_init_15 : decode cX11_init 15 = .ok (.iload_n 3, 1) := dk_29 (dk_at dksX11_init_0 15 rfl rfl)
theorem dX11_init_16 : decode cX11_init 16 = .ok (.putfield 16, 3) := dk_181 0 16 (dk_at dksX11_init_0 16 rfl rfl)
theorem dX11_init_19 : decode cX11_init 19 = .ok (.aload_n 0, 1) := dk_42 (dk_at dksX11_init_0 19 rfl rfl)
theorem dX11_init_20 : decode cX11_init 20 = .ok (.iload 4, 2) := dk_21 4 (dk_at dksX11_init_0 20 rfl rfl)
theorem dX11_init_22 : decode cX11_init 22 = .ok (.putfield 19, 3) := dk_181 0 19 (dk_at dksX11_init_1 0 rfl rfl)
theorem dX11_init_25 : decode cX11_init 25 = .ok (.aload_n 0, 1) := dk_42 (dk_at dksX11_init_1 3 rfl rfl)
theorem dX11_init_26 : decode cX11_init 26 = .ok (.iload 5, 2) := dk_21 5 (dk_at dksX11_init_1 4 rfl rfl)
theorem dX11_init_28 : decode cX11_init 28 = .ok (.putfield 22, 3) := dk_181 0 22 (dk_at dksX11_init_1 6 rfl rfl)
theorem dX11_init_31 : decode cX11_init 31 = .ok (.aload_n 0, 1) := dk_42 (dk_at dksX11_init_1 9 rfl rfl)
theorem dX11_init_32 : decode cX11_init 32 = .ok (.iload 6, 2) := dk_21 6 (dk_at dksX11_init_1 10 rfl rfl)
theorem dX11_init_34 : decode cX11_init 34 = .ok (.putfield 25, 3) := dk_181 0 25 (dk_at dksX11_init_1 12 rfl rfl)
theorem dX11_init_37 : decode cX11_init 37 = .ok (.return_, 1) := dk_177 (dk_at dksX11_init_1 15 rfl rfl)
abbrev cX11_sort : ByteArray := prog_3_method_5_code
def yX11_sort : MethodName := ⟨RX11, "sort", "()I"⟩
theorem dX11_sort_0 : decode cX11_sort 0 = .ok (.aload_n 0, 1) := by decide +kernel
theorem dX11_sort_1 : decode cX11_sort 1 = .ok (.getfield 7, 3) := by decide +kernel
theorem dX11_sort_4 : decode cX11_sort 4 = .ok (.ireturn, 1) := by decide +kernel
abbrev cX11_a : ByteArray := prog_3_method_6_code
def yX11_a : MethodName := ⟨RX11, "a", "()I"⟩
theorem dX11_a_0 : decode cX11_a 0 = .ok (.aload_n 0, 1) := by decide +kernel
theorem dX11_a_1 : decode cX11_a 1 = .ok (.getfield 13, 3) := by decide +kernel
theorem dX11_a_4 : decode cX11_a 4 = .ok (.ireturn, 1) := by decide +kernel
abbrev cX11_b : ByteArray := prog_3_method_7_code
def yX11_b : MethodName := ⟨RX11, "b", "()I"⟩
theorem dX11_b_0 : decode cX11_b 0 = .ok (.aload_n 0, 1) := by decide +kernel
theorem dX11_b_1 : decode cX11_b 1 = .ok (.getfield 16, 3) := by decide +kernel
theorem dX11_b_4 : decode cX11_b 4 = .ok (.ireturn, 1) := by decide +kernel
abbrev cX11_c : ByteArray := prog_3_method_8_code
def yX11_c : MethodName := ⟨RX11, "c", "()I"⟩
theorem dX11_c_0 : decode cX11_c 0 = .ok (.aload_n 0, 1) := by decide +kernel
theorem dX11_c_1 : decode cX11_c 1 = .ok (.getfield 19, 3) := by decide +kernel
theorem dX11_c_4 : decode cX11_c 4 = .ok (.ireturn, 1) := by decide +kernel
abbrev cX11_marks : ByteArray := prog_3_method_9_code
def yX11_marks : MethodName := ⟨RX11, "marks", "()I"⟩
theorem dX11_marks_0 : decode cX11_marks 0 = .ok (.aload_n 0, 1) := by decide +kernel
theorem dX11_marks_1 : decode cX11_marks 1 = .ok (.getfield 22, 3) := by decide +kernel
theorem dX11_marks_4 : decode cX11_marks 4 = .ok (.ireturn, 1) := by decide +kernel
abbrev cX11_number : ByteArray := prog_3_method_10_code
def yX11_number : MethodName := ⟨RX11, "number", "()I"⟩
theorem dX11_number_0 : decode cX11_number 0 = .ok (.aload_n 0, 1) := by decide +kernel
theorem dX11_number_1 : decode cX11_number 1 = .ok (.getfield 25, 3) := by decide +kernel
theorem dX11_number_4 : decode cX11_number 4 = .ok (.ireturn, 1) := by decide +kernel
theorem q165 : (Jvm.Cond.initialized "AgainstFeather$Doing") ∈ lw_all := lw_g (lw_at lw_m1 29 rfl) rfl
theorem q740 : (Jvm.Cond.selects "AgainstFeather$Doing" ({ cls := "java/lang/Object", name := "getClass", desc := "()Ljava/lang/Class;" } : Jvm.MethodName) ({ cls := "java/lang/Object", name := "getClass", desc := "()Ljava/lang/Class;" } : Jvm.MethodName)) ∈ lw_all := lw_g (lw_at lw_m3 124 rfl) rfl
theorem q777 : (Jvm.Cond.instantiable "AgainstFeather$Doing" (6 : Nat)) ∈ lw_all := lw_g (lw_at lw_m3 161 rfl) rfl
theorem q779 : (Jvm.Cond.instanceMethod ({ cls := "AgainstFeather$Doing", name := "<init>", desc := "(IIIIII)V" } : Jvm.MethodName)) ∈ lw_all := lw_g (lw_at lw_m3 163 rfl) rfl
theorem q780 : (Jvm.Cond.code ({ cls := "AgainstFeather$Doing", name := "<init>", desc := "(IIIIII)V" } : Jvm.MethodName) prog_3_method_1_code (7 : Nat) (Option.none : Option Jvm.ClassFile.FieldType)) ∈ lw_all := lw_g (lw_at lw_m3 164 rfl) rfl
theorem q781 : (Jvm.Cond.methodLink "AgainstFeather$Doing" (1 : Nat) ({ cls := "java/lang/Record", name := "<init>", desc := "()V" } : Jvm.MethodName)) ∈ lw_all := lw_g (lw_at lw_m3 165 rfl) rfl
theorem q782 : (Jvm.Cond.fieldLink "AgainstFeather$Doing" (7 : Nat) "AgainstFeather$Doing" "sort" "I") ∈ lw_all := lw_g (lw_at lw_m3 166 rfl) rfl
theorem q783 : (Jvm.Cond.fieldLink "AgainstFeather$Doing" (13 : Nat) "AgainstFeather$Doing" "a" "I") ∈ lw_all := lw_g (lw_at lw_m3 167 rfl) rfl
theorem q784 : (Jvm.Cond.fieldLink "AgainstFeather$Doing" (16 : Nat) "AgainstFeather$Doing" "b" "I") ∈ lw_all := lw_g (lw_at lw_m3 168 rfl) rfl
theorem q785 : (Jvm.Cond.fieldLink "AgainstFeather$Doing" (19 : Nat) "AgainstFeather$Doing" "c" "I") ∈ lw_all := lw_g (lw_at lw_m3 169 rfl) rfl
theorem q786 : (Jvm.Cond.fieldLink "AgainstFeather$Doing" (22 : Nat) "AgainstFeather$Doing" "marks" "I") ∈ lw_all := lw_g (lw_at lw_m3 170 rfl) rfl
theorem q787 : (Jvm.Cond.fieldLink "AgainstFeather$Doing" (25 : Nat) "AgainstFeather$Doing" "number" "I") ∈ lw_all := lw_g (lw_at lw_m3 171 rfl) rfl
theorem q788 : (Jvm.Cond.laysFinal "AgainstFeather$Doing" "AgainstFeather$Doing" "sort" "I") ∈ lw_all := lw_g (lw_at lw_m3 172 rfl) rfl
theorem q789 : (Jvm.Cond.soleField "AgainstFeather$Doing" "sort") ∈ lw_all := lw_g (lw_at lw_m3 173 rfl) rfl
theorem q790 : (Jvm.Cond.laysFinal "AgainstFeather$Doing" "AgainstFeather$Doing" "a" "I") ∈ lw_all := lw_g (lw_at lw_m3 174 rfl) rfl
theorem q791 : (Jvm.Cond.soleField "AgainstFeather$Doing" "a") ∈ lw_all := lw_g (lw_at lw_m3 175 rfl) rfl
theorem q792 : (Jvm.Cond.laysFinal "AgainstFeather$Doing" "AgainstFeather$Doing" "b" "I") ∈ lw_all := lw_g (lw_at lw_m3 176 rfl) rfl
theorem q793 : (Jvm.Cond.soleField "AgainstFeather$Doing" "b") ∈ lw_all := lw_g (lw_at lw_m3 177 rfl) rfl
theorem q794 : (Jvm.Cond.laysFinal "AgainstFeather$Doing" "AgainstFeather$Doing" "c" "I") ∈ lw_all := lw_g (lw_at lw_m3 178 rfl) rfl
theorem q795 : (Jvm.Cond.soleField "AgainstFeather$Doing" "c") ∈ lw_all := lw_g (lw_at lw_m3 179 rfl) rfl
theorem q796 : (Jvm.Cond.laysFinal "AgainstFeather$Doing" "AgainstFeather$Doing" "marks" "I") ∈ lw_all := lw_g (lw_at lw_m3 180 rfl) rfl
theorem q797 : (Jvm.Cond.soleField "AgainstFeather$Doing" "marks") ∈ lw_all := lw_g (lw_at lw_m3 181 rfl) rfl
theorem q798 : (Jvm.Cond.laysFinal "AgainstFeather$Doing" "AgainstFeather$Doing" "number" "I") ∈ lw_all := lw_g (lw_at lw_m3 182 rfl) rfl
theorem q799 : (Jvm.Cond.soleField "AgainstFeather$Doing" "number") ∈ lw_all := lw_g (lw_at lw_m3 183 rfl) rfl
theorem q800 : (Jvm.Cond.superclass "AgainstFeather$Doing" "java/lang/Record") ∈ lw_all := lw_g (lw_at lw_m3 184 rfl) rfl
theorem q1085 : (Jvm.Cond.instanceMethod ({ cls := "AgainstFeather$Doing", name := "sort", desc := "()I" } : Jvm.MethodName)) ∈ lw_all := lw_g (lw_at lw_m4 229 rfl) rfl
theorem q1086 : (Jvm.Cond.selects "AgainstFeather$Doing" ({ cls := "AgainstFeather$Doing", name := "sort", desc := "()I" } : Jvm.MethodName) ({ cls := "AgainstFeather$Doing", name := "sort", desc := "()I" } : Jvm.MethodName)) ∈ lw_all := lw_g (lw_at lw_m4 230 rfl) rfl
theorem q1087 : (Jvm.Cond.code ({ cls := "AgainstFeather$Doing", name := "sort", desc := "()I" } : Jvm.MethodName) prog_3_method_5_code (1 : Nat) (Option.some Jvm.ClassFile.FieldType.int)) ∈ lw_all := lw_g (lw_at lw_m4 231 rfl) rfl
theorem q1089 : (Jvm.Cond.instanceMethod ({ cls := "AgainstFeather$Doing", name := "a", desc := "()I" } : Jvm.MethodName)) ∈ lw_all := lw_g (lw_at lw_m4 233 rfl) rfl
theorem q1090 : (Jvm.Cond.selects "AgainstFeather$Doing" ({ cls := "AgainstFeather$Doing", name := "a", desc := "()I" } : Jvm.MethodName) ({ cls := "AgainstFeather$Doing", name := "a", desc := "()I" } : Jvm.MethodName)) ∈ lw_all := lw_g (lw_at lw_m4 234 rfl) rfl
theorem q1091 : (Jvm.Cond.code ({ cls := "AgainstFeather$Doing", name := "a", desc := "()I" } : Jvm.MethodName) prog_3_method_6_code (1 : Nat) (Option.some Jvm.ClassFile.FieldType.int)) ∈ lw_all := lw_g (lw_at lw_m4 235 rfl) rfl
theorem q1094 : (Jvm.Cond.instanceMethod ({ cls := "AgainstFeather$Doing", name := "b", desc := "()I" } : Jvm.MethodName)) ∈ lw_all := lw_g (lw_at lw_m4 238 rfl) rfl
theorem q1095 : (Jvm.Cond.selects "AgainstFeather$Doing" ({ cls := "AgainstFeather$Doing", name := "b", desc := "()I" } : Jvm.MethodName) ({ cls := "AgainstFeather$Doing", name := "b", desc := "()I" } : Jvm.MethodName)) ∈ lw_all := lw_g (lw_at lw_m4 239 rfl) rfl
theorem q1096 : (Jvm.Cond.code ({ cls := "AgainstFeather$Doing", name := "b", desc := "()I" } : Jvm.MethodName) prog_3_method_7_code (1 : Nat) (Option.some Jvm.ClassFile.FieldType.int)) ∈ lw_all := lw_g (lw_at lw_m5 0 rfl) rfl
theorem q1098 : (Jvm.Cond.instanceMethod ({ cls := "AgainstFeather$Doing", name := "c", desc := "()I" } : Jvm.MethodName)) ∈ lw_all := lw_g (lw_at lw_m5 2 rfl) rfl
theorem q1099 : (Jvm.Cond.selects "AgainstFeather$Doing" ({ cls := "AgainstFeather$Doing", name := "c", desc := "()I" } : Jvm.MethodName) ({ cls := "AgainstFeather$Doing", name := "c", desc := "()I" } : Jvm.MethodName)) ∈ lw_all := lw_g (lw_at lw_m5 3 rfl) rfl
theorem q1100 : (Jvm.Cond.code ({ cls := "AgainstFeather$Doing", name := "c", desc := "()I" } : Jvm.MethodName) prog_3_method_8_code (1 : Nat) (Option.some Jvm.ClassFile.FieldType.int)) ∈ lw_all := lw_g (lw_at lw_m5 4 rfl) rfl
theorem q1102 : (Jvm.Cond.instanceMethod ({ cls := "AgainstFeather$Doing", name := "marks", desc := "()I" } : Jvm.MethodName)) ∈ lw_all := lw_g (lw_at lw_m5 6 rfl) rfl
theorem q1103 : (Jvm.Cond.selects "AgainstFeather$Doing" ({ cls := "AgainstFeather$Doing", name := "marks", desc := "()I" } : Jvm.MethodName) ({ cls := "AgainstFeather$Doing", name := "marks", desc := "()I" } : Jvm.MethodName)) ∈ lw_all := lw_g (lw_at lw_m5 7 rfl) rfl
theorem q1104 : (Jvm.Cond.code ({ cls := "AgainstFeather$Doing", name := "marks", desc := "()I" } : Jvm.MethodName) prog_3_method_9_code (1 : Nat) (Option.some Jvm.ClassFile.FieldType.int)) ∈ lw_all := lw_g (lw_at lw_m5 8 rfl) rfl
theorem q1113 : (Jvm.Cond.instanceMethod ({ cls := "AgainstFeather$Doing", name := "number", desc := "()I" } : Jvm.MethodName)) ∈ lw_all := lw_g (lw_at lw_m5 17 rfl) rfl
theorem q1114 : (Jvm.Cond.selects "AgainstFeather$Doing" ({ cls := "AgainstFeather$Doing", name := "number", desc := "()I" } : Jvm.MethodName) ({ cls := "AgainstFeather$Doing", name := "number", desc := "()I" } : Jvm.MethodName)) ∈ lw_all := lw_g (lw_at lw_m5 18 rfl) rfl
theorem q1115 : (Jvm.Cond.code ({ cls := "AgainstFeather$Doing", name := "number", desc := "()I" } : Jvm.MethodName) prog_3_method_10_code (1 : Nat) (Option.some Jvm.ClassFile.FieldType.int)) ∈ lw_all := lw_g (lw_at lw_m5 19 rfl) rfl
theorem q2005 : (Jvm.Cond.castable "AgainstFeather$Doing" "java/lang/Object") ∈ lw_tbl := lw_at lw_m8 189 rfl
theorem in_X11 : ∀ w ∈ wsX110, w ∈ lw_all := lw_in wsX110 [788, 790, 792, 794, 796, 798] (by decide +kernel) (by decide +kernel)
/-! AgainstFeather$Pan -/
set_option maxRecDepth 100000
def RX12 : String := "AgainstFeather$Pan"
def TX12 : u_T := fun k => match k with
  | 0 => ("AgainstFeather$Pan", "heart", "I", true)
  | 1 => ("AgainstFeather$Pan", "real", "I", false)
  | 2 => ("AgainstFeather$Pan", "shown", "I", false)
  | 3 => ("AgainstFeather$Pan", "lies", "I", false)
  | 4 => ("AgainstFeather$Pan", "laid", "I", false)
  | _ => ("AgainstFeather$Pan", "this$0", "LAgainstFeather;", true)
def tyX12 : Nat → FieldType := fun k => match k with
  | 0 => .int
  | 1 => .int
  | 2 => .int
  | 3 => .int
  | 4 => .int
  | _ => .object "AgainstFeather"
abbrev wsX120 : List Cond := u_ws RX12 TX12 6
theorem nmX12 : ∀ a, a < 6 → ∀ b, b < 6 → a ≠ b → (TX12 a).2.1 ≠ (TX12 b).2.1 := by decide +kernel
theorem tyX12_ok : ∀ k, k < 6 → parseFieldDescriptor (TX12 k).2.2.1 = some (tyX12 k) := by decide +kernel
abbrev cX12_init : ByteArray := prog_6_method_1_code
def yX12_init : MethodName := ⟨RX12, "<init>", "(LAgainstFeather;I)V"⟩
def dkwX12_init_1 : List UInt8 := [181, 0, 29, 42, 182, 0, 32, 177]
abbrev dktX12_init_1 : List UInt8 := dkwX12_init_1 ++ []
def dkwX12_init_0 : List UInt8 := [42, 43, 181, 0, 3, 42, 183, 0, 9, 42, 28, 181, 0, 15, 42, 43, 180, 0, 19, 28, 182, 0, 23]
abbrev dktX12_init_0 : List UInt8 := dkwX12_init_0 ++ dktX12_init_1
theorem dksX12_init_0 : cX12_init.data.toList.drop 0 = dktX12_init_0 := by decide +kernel
theorem dksX12_init_1 : cX12_init.data.toList.drop 23 = dktX12_init_1 := dk_seg dksX12_init_0 23 rfl rfl
theorem dX12_init_0 : decode cX12_init 0 = .ok (.aload_n 0, 1) := dk_42 (dk_at dksX12_init_0 0 rfl rfl)
theorem dX12_init_1 : decode cX12_init 1 = .ok (.aload_n 1, 1) := dk_43 (dk_at dksX12_init_0 1 rfl rfl)
theorem dX12_init_2 : decode cX12_init 2 = .ok (.putfield 3, 3) := dk_181 0 3 (dk_at dksX12_init_0 2 rfl rfl)
theorem dX12_init_5 : decode cX12_init 5 = .ok (.aload_n 0, 1) := dk_42 (dk_at dksX12_init_0 5 rfl rfl)
theorem dX12_init_6 : decode cX12_init 6 = .ok (.invokespecial 9, 3) := dk_183 0 9 (dk_at dksX12_init_0 6 rfl rfl)
theorem dX12_init_9 : decode cX12_init 9 = .ok (.aload_n 0, 1) := dk_42 (dk_at dksX12_init_0 9 rfl rfl)
theorem dX12_init_10 : decode cX12_init 10 = .ok (.iload_n 2, 1) := dk_28 (dk_at dksX12_init_0 10 rfl rfl)
theorem dX12_init_11 : decode cX12_init 11 = .ok (.putfield 15, 3) := dk_181 0 15 (dk_at dksX12_init_0 11 rfl rfl)
theorem dX12_init_14 : decode cX12_init 14 = .ok (.aload_n 0, 1) := dk_42 (dk_at dksX12_init_0 14 rfl rfl)
theorem dX12_init_15 : decode cX12_init 15 = .ok (.aload_n 1, 1) := dk_43 (dk_at dksX12_init_0 15 rfl rfl)
theorem dX12_init_16 : decode cX12_init 16 = .ok (.getfield 19, 3) := dk_180 0 19 (dk_at dksX12_init_0 16 rfl rfl)
theorem dX12_init_19 : decode cX12_init 19 = .ok (.iload_n 2, 1) := dk_28 (dk_at dksX12_init_0 19 rfl rfl)
theorem dX12_init_20 : decode cX12_init 20 = .ok (.invokevirtual 23, 3) := dk_182 0 23 (dk_at dksX12_init_0 20 rfl rfl)
theorem dX12_init_23 : decode cX12_init 23 = .ok (.putfield 29, 3) := dk_181 0 29 (dk_at dksX12_init_1 0 rfl rfl)
theorem dX12_init_26 : decode cX12_init 26 = .ok (.aload_n 0, 1) := dk_42 (dk_at dksX12_init_1 3 rfl rfl)
theorem dX12_init_27 : decode cX12_init 27 = .ok (.invokevirtual 32, 3) := dk_182 0 32 (dk_at dksX12_init_1 4 rfl rfl)
theorem dX12_init_30 : decode cX12_init 30 = .ok (.return_, 1) := dk_177 (dk_at dksX12_init_1 7 rfl rfl)
abbrev cX12_settles : ByteArray := prog_6_method_3_code
def yX12_settles : MethodName := ⟨RX12, "settles", "()V"⟩
def dkwX12_settles_1 : List UInt8 := [42, 180, 0, 45, 184, 0, 53, 182, 0, 58, 164, 0, 11, 42, 42, 180, 0, 29, 181, 0, 39, 177]
abbrev dktX12_settles_1 : List UInt8 := dkwX12_settles_1 ++ []
def dkwX12_settles_0 : List UInt8 := [42, 180, 0, 39, 42, 180, 0, 29, 100, 184, 0, 48, 42, 180, 0, 3, 42, 180, 0, 15, 42, 180, 0, 39]
abbrev dktX12_settles_0 : List UInt8 := dkwX12_settles_0 ++ dktX12_settles_1
theorem dksX12_settles_0 : cX12_settles.data.toList.drop 0 = dktX12_settles_0 := by decide +kernel
theorem dksX12_settles_1 : cX12_settles.data.toList.drop 24 = dktX12_settles_1 := dk_seg dksX12_settles_0 24 rfl rfl
theorem dX12_settles_0 : decode cX12_settles 0 = .ok (.aload_n 0, 1) := dk_42 (dk_at dksX12_settles_0 0 rfl rfl)
theorem dX12_settles_1 : decode cX12_settles 1 = .ok (.getfield 39, 3) := dk_180 0 39 (dk_at dksX12_settles_0 1 rfl rfl)
theorem dX12_settles_4 : decode cX12_settles 4 = .ok (.aload_n 0, 1) := dk_42 (dk_at dksX12_settles_0 4 rfl rfl)
theorem dX12_settles_5 : decode cX12_settles 5 = .ok (.getfield 29, 3) := dk_180 0 29 (dk_at dksX12_settles_0 5 rfl rfl)
theorem dX12_settles_8 : decode cX12_settles 8 = .ok (.isub, 1) := dk_100 (dk_at dksX12_settles_0 8 rfl rfl)
theorem dX12_settles_9 : decode cX12_settles 9 = .ok (.invokestatic 48, 3) := dk_184 0 48 (dk_at dksX12_settles_0 9 rfl rfl)
theorem dX12_settles_12 : decode cX12_settles 12 = .ok (.aload_n 0, 1) := dk_42 (dk_at dksX12_settles_0 12 rfl rfl)
theorem dX12_settles_13 : decode cX12_settles 13 = .ok (.getfield 3, 3) := dk_180 0 3 (dk_at dksX12_settles_0 13 rfl rfl)
theorem dX12_settles_16 : decode cX12_settles 16 = .ok (.aload_n 0, 1) := dk_42 (dk_at dksX12_settles_0 16 rfl rfl)
theorem dX12_settles_17 : decode cX12_settles 17 = .ok (.getfield 15, 3) := dk_180 0 15 (dk_at dksX12_settles_0 17 rfl rfl)
theorem dX12_settles_20 : decode cX12_settles 20 = .ok (.aload_n 0, 1) := dk_42 (dk_at dksX12_settles_0 20 rfl rfl)
theorem dX12_settles_21 : decode cX12_settles 21 = .ok (.getfield 39, 3) := dk_180 0 39 (dk_at dksX12_settles_0 21 rfl rfl)
theorem dX12_settles_24 : decode cX12_settles 24 = .ok (.aload_n 0, 1) := dk_42 (dk_at dksX12_settles_1 0 rfl rfl)
theorem dX12_settles_25 : decode cX12_settles 25 = .ok (.getfield 45, 3) := dk_180 0 45 (dk_at dksX12_settles_1 1 rfl rfl)
theorem dX12_settles_28 : decode cX12_settles 28 = .ok (.invokestatic 53, 3) := dk_184 0 53 (dk_at dksX12_settles_1 4 rfl rfl)
theorem dX12_settles_31 : decode cX12_settles 31 = .ok (.invokevirtual 58, 3) := dk_182 0 58 (dk_at dksX12_settles_1 7 rfl rfl)
theorem dX12_settles_34 : decode cX12_settles 34 = .ok (.if_icmp .le 11, 3) := dk_164 0 11 (dk_at dksX12_settles_1 10 rfl rfl)
theorem dX12_settles_37 : decode cX12_settles 37 = .ok (.aload_n 0, 1) := dk_42 (dk_at dksX12_settles_1 13 rfl rfl)
theorem dX12_settles_38 : decode cX12_settles 38 = .ok (.aload_n 0, 1) := dk_42 (dk_at dksX12_settles_1 14 rfl rfl)
theorem dX12_settles_39 : decode cX12_settles 39 = .ok (.getfield 29, 3) := dk_180 0 29 (dk_at dksX12_settles_1 15 rfl rfl)
theorem dX12_settles_42 : decode cX12_settles 42 = .ok (.putfield 39, 3) := dk_181 0 39 (dk_at dksX12_settles_1 18 rfl rfl)
theorem dX12_settles_45 : decode cX12_settles 45 = .ok (.return_, 1) := dk_177 (dk_at dksX12_settles_1 21 rfl rfl)
abbrev cX12_keeps : ByteArray := prog_6_method_6_code
def yX12_keeps : MethodName := ⟨RX12, "keeps", "()V"⟩
def dkwX12_keeps_3 : List UInt8 := [180, 0, 35, 7, 42, 180, 0, 45, 79, 177]
abbrev dktX12_keeps_3 : List UInt8 := dkwX12_keeps_3 ++ []
def dkwX12_keeps_2 : List UInt8 := [79, 42, 180, 0, 3, 180, 0, 19, 180, 0, 35, 6, 42, 180, 0, 42, 79, 42, 180, 0, 3, 180, 0, 19]
abbrev dktX12_keeps_2 : List UInt8 := dkwX12_keeps_2 ++ dktX12_keeps_3
def dkwX12_keeps_1 : List UInt8 := [180, 0, 35, 4, 42, 180, 0, 29, 79, 42, 180, 0, 3, 180, 0, 19, 180, 0, 35, 5, 42, 180, 0, 39]
abbrev dktX12_keeps_1 : List UInt8 := dkwX12_keeps_1 ++ dktX12_keeps_2
def dkwX12_keeps_0 : List UInt8 := [42, 180, 0, 3, 180, 0, 19, 180, 0, 35, 3, 42, 180, 0, 15, 79, 42, 180, 0, 3, 180, 0, 19]
abbrev dktX12_keeps_0 : List UInt8 := dkwX12_keeps_0 ++ dktX12_keeps_1
theorem dksX12_keeps_0 : cX12_keeps.data.toList.drop 0 = dktX12_keeps_0 := by decide +kernel
theorem dksX12_keeps_1 : cX12_keeps.data.toList.drop 23 = dktX12_keeps_1 := dk_seg dksX12_keeps_0 23 rfl rfl
theorem dksX12_keeps_2 : cX12_keeps.data.toList.drop 47 = dktX12_keeps_2 := dk_seg dksX12_keeps_1 24 rfl rfl
theorem dksX12_keeps_3 : cX12_keeps.data.toList.drop 71 = dktX12_keeps_3 := dk_seg dksX12_keeps_2 24 rfl rfl
theorem dX12_keeps_0 : decode cX12_keeps 0 = .ok (.aload_n 0, 1) := dk_42 (dk_at dksX12_keeps_0 0 rfl rfl)
theorem dX12_keeps_1 : decode cX12_keeps 1 = .ok (.getfield 3, 3) := dk_180 0 3 (dk_at dksX12_keeps_0 1 rfl rfl)
theorem dX12_keeps_4 : decode cX12_keeps 4 = .ok (.getfield 19, 3) := dk_180 0 19 (dk_at dksX12_keeps_0 4 rfl rfl)
theorem dX12_keeps_7 : decode cX12_keeps 7 = .ok (.getfield 35, 3) := dk_180 0 35 (dk_at dksX12_keeps_0 7 rfl rfl)
theorem dX12_keeps_10 : decode cX12_keeps 10 = .ok (.iconst 0, 1) := dk_3 (dk_at dksX12_keeps_0 10 rfl rfl)
theorem dX12_keeps_11 : decode cX12_keeps 11 = .ok (.aload_n 0, 1) := dk_42 (dk_at dksX12_keeps_0 11 rfl rfl)
theorem dX12_keeps_12 : decode cX12_keeps 12 = .ok (.getfield 15, 3) := dk_180 0 15 (dk_at dksX12_keeps_0 12 rfl rfl)
theorem dX12_keeps_15 : decode cX12_keeps 15 = .ok (.iastore, 1) := dk_79 (dk_at dksX12_keeps_0 15 rfl rfl)
theorem dX12_keeps_16 : decode cX12_keeps 16 = .ok (.aload_n 0, 1) := dk_42 (dk_at dksX12_keeps_0 16 rfl rfl)
theorem dX12_keeps_17 : decode cX12_keeps 17 = .ok (.getfield 3, 3) := dk_180 0 3 (dk_at dksX12_keeps_0 17 rfl rfl)
theorem dX12_keeps_20 : decode cX12_keeps 20 = .ok (.getfield 19, 3) := dk_180 0 19 (dk_at dksX12_keeps_0 20 rfl rfl)
theorem dX12_keeps_23 : decode cX12_keeps 23 = .ok (.getfield 35, 3) := dk_180 0 35 (dk_at dksX12_keeps_1 0 rfl rfl)
theorem dX12_keeps_26 : decode cX12_keeps 26 = .ok (.iconst 1, 1) := dk_4 (dk_at dksX12_keeps_1 3 rfl rfl)
theorem dX12_keeps_27 : decode cX12_keeps 27 = .ok (.aload_n 0, 1) := dk_42 (dk_at dksX12_keeps_1 4 rfl rfl)
theorem dX12_keeps_28 : decode cX12_keeps 28 = .ok (.getfield 29, 3) := dk_180 0 29 (dk_at dksX12_keeps_1 5 rfl rfl)
theorem dX12_keeps_31 : decode cX12_keeps 31 = .ok (.iastore, 1) := dk_79 (dk_at dksX12_keeps_1 8 rfl rfl)
theorem dX12_keeps_32 : decode cX12_keeps 32 = .ok (.aload_n 0, 1) := dk_42 (dk_at dksX12_keeps_1 9 rfl rfl)
theorem dX12_keeps_33 : decode cX12_keeps 33 = .ok (.getfield 3, 3) := dk_180 0 3 (dk_at dksX12_keeps_1 10 rfl rfl)
theorem dX12_keeps_36 : decode cX12_keeps 36 = .ok (.getfield 19, 3) := dk_180 0 19 (dk_at dksX12_keeps_1 13 rfl rfl)
theorem dX12_keeps_39 : decode cX12_keeps 39 = .ok (.getfield 35, 3) := dk_180 0 35 (dk_at dksX12_keeps_1 16 rfl rfl)
theorem dX12_keeps_42 : decode cX12_keeps 42 = .ok (.iconst 2, 1) := dk_5 (dk_at dksX12_keeps_1 19 rfl rfl)
theorem dX12_keeps_43 : decode cX12_keeps 43 = .ok (.aload_n 0, 1) := dk_42 (dk_at dksX12_keeps_1 20 rfl rfl)
theorem dX12_keeps_44 : decode cX12_keeps 44 = .ok (.getfield 39, 3) := dk_180 0 39 (dk_at dksX12_keeps_1 21 rfl rfl)
theorem dX12_keeps_47 : decode cX12_keeps 47 = .ok (.iastore, 1) := dk_79 (dk_at dksX12_keeps_2 0 rfl rfl)
theorem dX12_keeps_48 : decode cX12_keeps 48 = .ok (.aload_n 0, 1) := dk_42 (dk_at dksX12_keeps_2 1 rfl rfl)
theorem dX12_keeps_49 : decode cX12_keeps 49 = .ok (.getfield 3, 3) := dk_180 0 3 (dk_at dksX12_keeps_2 2 rfl rfl)
theorem dX12_keeps_52 : decode cX12_keeps 52 = .ok (.getfield 19, 3) := dk_180 0 19 (dk_at dksX12_keeps_2 5 rfl rfl)
theorem dX12_keeps_55 : decode cX12_keeps 55 = .ok (.getfield 35, 3) := dk_180 0 35 (dk_at dksX12_keeps_2 8 rfl rfl)
theorem dX12_keeps_58 : decode cX12_keeps 58 = .ok (.iconst 3, 1) := dk_6 (dk_at dksX12_keeps_2 11 rfl rfl)
theorem dX12_keeps_59 : decode cX12_keeps 59 = .ok (.aload_n 0, 1) := dk_42 (dk_at dksX12_keeps_2 12 rfl rfl)
theorem dX12_keeps_60 : decode cX12_keeps 60 = .ok (.getfield 42, 3) := dk_180 0 42 (dk_at dksX12_keeps_2 13 rfl rfl)
theorem dX12_keeps_63 : decode cX12_keeps 63 = .ok (.iastore, 1) := dk_79 (dk_at dksX12_keeps_2 16 rfl rfl)
theorem dX12_keeps_64 : decode cX12_keeps 64 = .ok (.aload_n 0, 1) := dk_42 (dk_at dksX12_keeps_2 17 rfl rfl)
theorem dX12_keeps_65 : decode cX12_keeps 65 = .ok (.getfield 3, 3) := dk_180 0 3 (dk_at dksX12_keeps_2 18 rfl rfl)
theorem dX12_keeps_68 : decode cX12_keeps 68 = .ok (.getfield 19, 3) := dk_180 0 19 (dk_at dksX12_keeps_2 21 rfl rfl)
theorem dX12_keeps_71 : decode cX12_keeps 71 = .ok (.getfield 35, 3) := dk_180 0 35 (dk_at dksX12_keeps_3 0 rfl rfl)
theorem dX12_keeps_74 : decode cX12_keeps 74 = .ok (.iconst 4, 1) := dk_7 (dk_at dksX12_keeps_3 3 rfl rfl)
theorem dX12_keeps_75 : decode cX12_keeps 75 = .ok (.aload_n 0, 1) := dk_42 (dk_at dksX12_keeps_3 4 rfl rfl)
theorem dX12_keeps_76 : decode cX12_keeps 76 = .ok (.getfield 45, 3) := dk_180 0 45 (dk_at dksX12_keeps_3 5 rfl rfl)
theorem dX12_keeps_79 : decode cX12_keeps 79 = .ok (.iastore, 1) := dk_79 (dk_at dksX12_keeps_3 8 rfl rfl)
theorem dX12_keeps_80 : decode cX12_keeps 80 = .ok (.return_, 1) := dk_177 (dk_at dksX12_keeps_3 9 rfl rfl)
abbrev cX12_init_2 : ByteArray := prog_6_method_2_code
def yX12_init_2 : MethodName := ⟨RX12, "<init>", "(LAgainstFeather;)V"⟩
def dkwX12_init_2_3 : List UInt8 := [181, 0, 45, 177]
abbrev dktX12_init_2_3 : List UInt8 := dkwX12_init_2_3 ++ []
def dkwX12_init_2_2 : List UInt8 := [42, 43, 180, 0, 19, 180, 0, 35, 6, 46, 181, 0, 42, 42, 43, 180, 0, 19, 180, 0, 35, 7, 46]
abbrev dktX12_init_2_2 : List UInt8 := dkwX12_init_2_2 ++ dktX12_init_2_3
def dkwX12_init_2_1 : List UInt8 := [180, 0, 19, 180, 0, 35, 4, 46, 181, 0, 29, 42, 43, 180, 0, 19, 180, 0, 35, 5, 46, 181, 0, 39]
abbrev dktX12_init_2_1 : List UInt8 := dkwX12_init_2_1 ++ dktX12_init_2_2
def dkwX12_init_2_0 : List UInt8 := [42, 43, 181, 0, 3, 42, 183, 0, 9, 42, 43, 180, 0, 19, 180, 0, 35, 3, 46, 181, 0, 15, 42, 43]
abbrev dktX12_init_2_0 : List UInt8 := dkwX12_init_2_0 ++ dktX12_init_2_1
theorem dksX12_init_2_0 : cX12_init_2.data.toList.drop 0 = dktX12_init_2_0 := by decide +kernel
theorem dksX12_init_2_1 : cX12_init_2.data.toList.drop 24 = dktX12_init_2_1 := dk_seg dksX12_init_2_0 24 rfl rfl
theorem dksX12_init_2_2 : cX12_init_2.data.toList.drop 48 = dktX12_init_2_2 := dk_seg dksX12_init_2_1 24 rfl rfl
theorem dksX12_init_2_3 : cX12_init_2.data.toList.drop 71 = dktX12_init_2_3 := dk_seg dksX12_init_2_2 23 rfl rfl
theorem dX12_init_2_0 : decode cX12_init_2 0 = .ok (.aload_n 0, 1) := dk_42 (dk_at dksX12_init_2_0 0 rfl rfl)
theorem dX12_init_2_1 : decode cX12_init_2 1 = .ok (.aload_n 1, 1) := dk_43 (dk_at dksX12_init_2_0 1 rfl rfl)
theorem dX12_init_2_2 : decode cX12_init_2 2 = .ok (.putfield 3, 3) := dk_181 0 3 (dk_at dksX12_init_2_0 2 rfl rfl)
theorem dX12_init_2_5 : decode cX12_init_2 5 = .ok (.aload_n 0, 1) := dk_42 (dk_at dksX12_init_2_0 5 rfl rfl)
theorem dX12_init_2_6 : decode cX12_init_2 6 = .ok (.invokespecial 9, 3) := dk_183 0 9 (dk_at dksX12_init_2_0 6 rfl rfl)
theorem dX12_init_2_9 : decode cX12_init_2 9 = .ok (.aload_n 0, 1) := dk_42 (dk_at dksX12_init_2_0 9 rfl rfl)
theorem dX12_init_2_10 : decode cX12_init_2 10 = .ok (.aload_n 1, 1) := dk_43 (dk_at dksX12_init_2_0 10 rfl rfl)
theorem dX12_init_2_11 : decode cX12_init_2 11 = .ok (.getfield 19, 3) := dk_180 0 19 (dk_at dksX12_init_2_0 11 rfl rfl)
theorem dX12_init_2_14 : decode cX12_init_2 14 = .ok (.getfield 35, 3) := dk_180 0 35 (dk_at dksX12_init_2_0 14 rfl rfl)
theorem dX12_init_2_17 : decode cX12_init_2 17 = .ok (.iconst 0, 1) := dk_3 (dk_at dksX12_init_2_0 17 rfl rfl)
theorem dX12_init_2_18 : decode cX12_init_2 18 = .ok (.iaload, 1) := dk_46 (dk_at dksX12_init_2_0 18 rfl rfl)
theorem dX12_init_2_19 : decode cX12_init_2 19 = .ok (.putfield 15, 3) := dk_181 0 15 (dk_at dksX12_init_2_0 19 rfl rfl)
theorem dX12_init_2_22 : decode cX12_init_2 22 = .ok (.aload_n 0, 1) := dk_42 (dk_at dksX12_init_2_0 22 rfl rfl)
theorem dX12_init_2_23 : decode cX12_init_2 23 = .ok (.aload_n 1, 1) := dk_43 (dk_at dksX12_init_2_0 23 rfl rfl)
theorem dX12_init_2_24 : decode cX12_init_2 24 = .ok (.getfield 19, 3) := dk_180 0 19 (dk_at dksX12_init_2_1 0 rfl rfl)
theorem dX12_init_2_27 : decode cX12_init_2 27 = .ok (.getfield 35, 3) := dk_180 0 35 (dk_at dksX12_init_2_1 3 rfl rfl)
theorem dX12_init_2_30 : decode cX12_init_2 30 = .ok (.iconst 1, 1) := dk_4 (dk_at dksX12_init_2_1 6 rfl rfl)
theorem dX12_init_2_31 : decode cX12_init_2 31 = .ok (.iaload, 1) := dk_46 (dk_at dksX12_init_2_1 7 rfl rfl)
theorem dX12_init_2_32 : decode cX12_init_2 32 = .ok (.putfield 29, 3) := dk_181 0 29 (dk_at dksX12_init_2_1 8 rfl rfl)
theorem dX12_init_2_35 : decode cX12_init_2 35 = .ok (.aload_n 0, 1) := dk_42 (dk_at dksX12_init_2_1 11 rfl rfl)
theorem dX12_init_2_36 : decode cX12_init_2 36 = .ok (.aload_n 1, 1) := dk_43 (dk_at dksX12_init_2_1 12 rfl rfl)
theorem dX12_init_2_37 : decode cX12_init_2 37 = .ok (.getfield 19, 3) := dk_180 0 19 (dk_at dksX12_init_2_1 13 rfl rfl)
theorem dX12_init_2_40 : decode cX12_init_2 40 = .ok (.getfield 35, 3) := dk_180 0 35 (dk_at dksX12_init_2_1 16 rfl rfl)
theorem dX12_init_2_43 : decode cX12_init_2 43 = .ok (.iconst 2, 1) := dk_5 (dk_at dksX12_init_2_1 19 rfl rfl)
theorem dX12_init_2_44 : decode cX12_init_2 44 = .ok (.iaload, 1) := dk_46 (dk_at dksX12_init_2_1 20 rfl rfl)
theorem dX12_init_2_45 : decode cX12_init_2 45 = .ok (.putfield 39, 3) := dk_181 0 39 (dk_at dksX12_init_2_1 21 rfl rfl)
theorem dX12_init_2_48 : decode cX12_init_2 48 = .ok (.aload_n 0, 1) := dk_42 (dk_at dksX12_init_2_2 0 rfl rfl)
theorem dX12_init_2_49 : decode cX12_init_2 49 = .ok (.aload_n 1, 1) := dk_43 (dk_at dksX12_init_2_2 1 rfl rfl)
theorem dX12_init_2_50 : decode cX12_init_2 50 = .ok (.getfield 19, 3) := dk_180 0 19 (dk_at dksX12_init_2_2 2 rfl rfl)
theorem dX12_init_2_53 : decode cX12_init_2 53 = .ok (.getfield 35, 3) := dk_180 0 35 (dk_at dksX12_init_2_2 5 rfl rfl)
theorem dX12_init_2_56 : decode cX12_init_2 56 = .ok (.iconst 3, 1) := dk_6 (dk_at dksX12_init_2_2 8 rfl rfl)
theorem dX12_init_2_57 : decode cX12_init_2 57 = .ok (.iaload, 1) := dk_46 (dk_at dksX12_init_2_2 9 rfl rfl)
theorem dX12_init_2_58 : decode cX12_init_2 58 = .ok (.putfield 42, 3) := dk_181 0 42 (dk_at dksX12_init_2_2 10 rfl rfl)
theorem dX12_init_2_61 : decode cX12_init_2 61 = .ok (.aload_n 0, 1) := dk_42 (dk_at dksX12_init_2_2 13 rfl rfl)
theorem dX12_init_2_62 : decode cX12_init_2 62 = .ok (.aload_n 1, 1) := dk_43 (dk_at dksX12_init_2_2 14 rfl rfl)
theorem dX12_init_2_63 : decode cX12_init_2 63 = .ok (.getfield 19, 3) := dk_180 0 19 (dk_at dksX12_init_2_2 15 rfl rfl)
theorem dX12_init_2_66 : decode cX12_init_2 66 = .ok (.getfield 35, 3) := dk_180 0 35 (dk_at dksX12_init_2_2 18 rfl rfl)
theorem dX12_init_2_69 : decode cX12_init_2 69 = .ok (.iconst 4, 1) := dk_7 (dk_at dksX12_init_2_2 21 rfl rfl)
theorem dX12_init_2_70 : decode cX12_init_2 70 = .ok (.iaload, 1) := dk_46 (dk_at dksX12_init_2_2 22 rfl rfl)
theorem dX12_init_2_71 : decode cX12_init_2 71 = .ok (.putfield 45, 3) := dk_181 0 45 (dk_at dksX12_init_2_3 0 rfl rfl)
theorem dX12_init_2_74 : decode cX12_init_2 74 = .ok (.return_, 1) := dk_177 (dk_at dksX12_init_2_3 3 rfl rfl)
abbrev cX12_lays : ByteArray := prog_6_method_4_code
def yX12_lays : MethodName := ⟨RX12, "lays", "(I)V"⟩
def dkwX12_lays_1 : List UInt8 := [120, 128, 181, 0, 45, 42, 182, 0, 32, 177]
abbrev dktX12_lays_1 : List UInt8 := dkwX12_lays_1 ++ []
def dkwX12_lays_0 : List UInt8 := [42, 89, 180, 0, 29, 42, 180, 0, 3, 27, 182, 0, 62, 96, 181, 0, 29, 42, 89, 180, 0, 45, 4, 27]
abbrev dktX12_lays_0 : List UInt8 := dkwX12_lays_0 ++ dktX12_lays_1
theorem dksX12_lays_0 : cX12_lays.data.toList.drop 0 = dktX12_lays_0 := by decide +kernel
theorem dksX12_lays_1 : cX12_lays.data.toList.drop 24 = dktX12_lays_1 := dk_seg dksX12_lays_0 24 rfl rfl
theorem dX12_lays_0 : decode cX12_lays 0 = .ok (.aload_n 0, 1) := dk_42 (dk_at dksX12_lays_0 0 rfl rfl)
theorem dX12_lays_1 : decode cX12_lays 1 = .ok (.dup, 1) := dk_89 (dk_at dksX12_lays_0 1 rfl rfl)
theorem dX12_lays_2 : decode cX12_lays 2 = .ok (.getfield 29, 3) := dk_180 0 29 (dk_at dksX12_lays_0 2 rfl rfl)
theorem dX12_lays_5 : decode cX12_lays 5 = .ok (.aload_n 0, 1) := dk_42 (dk_at dksX12_lays_0 5 rfl rfl)
theorem dX12_lays_6 : decode cX12_lays 6 = .ok (.getfield 3, 3) := dk_180 0 3 (dk_at dksX12_lays_0 6 rfl rfl)
theorem dX12_lays_9 : decode cX12_lays 9 = .ok (.iload_n 1, 1) := dk_27 (dk_at dksX12_lays_0 9 rfl rfl)
theorem dX12_lays_10 : decode cX12_lays 10 = .ok (.invokevirtual 62, 3) := dk_182 0 62 (dk_at dksX12_lays_0 10 rfl rfl)
theorem dX12_lays_13 : decode cX12_lays 13 = .ok (.iadd, 1) := dk_96 (dk_at dksX12_lays_0 13 rfl rfl)
theorem dX12_lays_14 : decode cX12_lays 14 = .ok (.putfield 29, 3) := dk_181 0 29 (dk_at dksX12_lays_0 14 rfl rfl)
theorem dX12_lays_17 : decode cX12_lays 17 = .ok (.aload_n 0, 1) := dk_42 (dk_at dksX12_lays_0 17 rfl rfl)
theorem dX12_lays_18 : decode cX12_lays 18 = .ok (.dup, 1) := dk_89 (dk_at dksX12_lays_0 18 rfl rfl)
theorem dX12_lays_19 : decode cX12_lays 19 = .ok (.getfield 45, 3) := dk_180 0 45 (dk_at dksX12_lays_0 19 rfl rfl)
theorem dX12_lays_22 : decode cX12_lays 22 = .ok (.iconst 1, 1) := dk_4 (dk_at dksX12_lays_0 22 rfl rfl)
theorem dX12_lays_23 : decode cX12_lays 23 = .ok (.iload_n 1, 1) := dk_27 (dk_at dksX12_lays_0 23 rfl rfl)
theorem dX12_lays_24 : decode cX12_lays 24 = .ok (.ishl, 1) := dk_120 (dk_at dksX12_lays_1 0 rfl rfl)
theorem dX12_lays_25 : decode cX12_lays 25 = .ok (.ior, 1) := dk_128 (dk_at dksX12_lays_1 1 rfl rfl)
theorem dX12_lays_26 : decode cX12_lays 26 = .ok (.putfield 45, 3) := dk_181 0 45 (dk_at dksX12_lays_1 2 rfl rfl)
theorem dX12_lays_29 : decode cX12_lays 29 = .ok (.aload_n 0, 1) := dk_42 (dk_at dksX12_lays_1 5 rfl rfl)
theorem dX12_lays_30 : decode cX12_lays 30 = .ok (.invokevirtual 32, 3) := dk_182 0 32 (dk_at dksX12_lays_1 6 rfl rfl)
theorem dX12_lays_33 : decode cX12_lays 33 = .ok (.return_, 1) := dk_177 (dk_at dksX12_lays_1 9 rfl rfl)
abbrev cX12_hears : ByteArray := prog_6_method_5_code
def yX12_hears : MethodName := ⟨RX12, "hears", "(IZ)Z"⟩
def dkwX12_hears_2 : List UInt8 := [4, 96, 181, 0, 42, 42, 182, 0, 32, 4, 172]
abbrev dktX12_hears_2 : List UInt8 := dkwX12_hears_2 ++ []
def dkwX12_hears_1 : List UInt8 := [180, 0, 3, 42, 180, 0, 15, 27, 42, 180, 0, 42, 182, 0, 69, 96, 181, 0, 29, 42, 89, 180, 0, 42]
abbrev dktX12_hears_1 : List UInt8 := dkwX12_hears_1 ++ dktX12_hears_2
def dkwX12_hears_0 : List UInt8 := [42, 180, 0, 3, 27, 42, 180, 0, 15, 182, 0, 65, 28, 160, 0, 5, 3, 172, 42, 89, 180, 0, 29, 42]
abbrev dktX12_hears_0 : List UInt8 := dkwX12_hears_0 ++ dktX12_hears_1
theorem dksX12_hears_0 : cX12_hears.data.toList.drop 0 = dktX12_hears_0 := by decide +kernel
theorem dksX12_hears_1 : cX12_hears.data.toList.drop 24 = dktX12_hears_1 := dk_seg dksX12_hears_0 24 rfl rfl
theorem dksX12_hears_2 : cX12_hears.data.toList.drop 48 = dktX12_hears_2 := dk_seg dksX12_hears_1 24 rfl rfl
theorem dX12_hears_0 : decode cX12_hears 0 = .ok (.aload_n 0, 1) := dk_42 (dk_at dksX12_hears_0 0 rfl rfl)
theorem dX12_hears_1 : decode cX12_hears 1 = .ok (.getfield 3, 3) := dk_180 0 3 (dk_at dksX12_hears_0 1 rfl rfl)
theorem dX12_hears_4 : decode cX12_hears 4 = .ok (.iload_n 1, 1) := dk_27 (dk_at dksX12_hears_0 4 rfl rfl)
theorem dX12_hears_5 : decode cX12_hears 5 = .ok (.aload_n 0, 1) := dk_42 (dk_at dksX12_hears_0 5 rfl rfl)
theorem dX12_hears_6 : decode cX12_hears 6 = .ok (.getfield 15, 3) := dk_180 0 15 (dk_at dksX12_hears_0 6 rfl rfl)
theorem dX12_hears_9 : decode cX12_hears 9 = .ok (.invokevirtual 65, 3) := dk_182 0 65 (dk_at dksX12_hears_0 9 rfl rfl)
theorem dX12_hears_12 : decode cX12_hears 12 = .ok (.iload_n 2, 1) := dk_28 (dk_at dksX12_hears_0 12 rfl rfl)
theorem dX12_hears_13 : decode cX12_hears 13 = .ok (.if_icmp .ne 5, 3) := dk_160 0 5 (dk_at dksX12_hears_0 13 rfl rfl)
theorem dX12_hears_16 : decode cX12_hears 16 = .ok (.iconst 0, 1) := dk_3 (dk_at dksX12_hears_0 16 rfl rfl)
theorem dX12_hears_17 : decode cX12_hears 17 = .ok (.ireturn, 1) := dk_172 (dk_at dksX12_hears_0 17 rfl rfl)
theorem dX12_hears_18 : decode cX12_hears 18 = .ok (.aload_n 0, 1) := dk_42 (dk_at dksX12_hears_0 18 rfl rfl)
theorem dX12_hears_19 : decode cX12_hears 19 = .ok (.dup, 1) := dk_89 (dk_at dksX12_hears_0 19 rfl rfl)
theorem dX12_hears_20 : decode cX12_hears 20 = .ok (.getfield 29, 3) := dk_180 0 29 (dk_at dksX12_hears_0 20 rfl rfl)
theorem dX12_hears_23 : decode cX12_hears 23 = .ok (.aload_n 0, 1) := dk_42 (dk_at dksX12_hears_0 23 rfl rfl)
theorem dX12_hears_24 : decode cX12_hears 24 = .ok (.getfield 3, 3) := dk_180 0 3 (dk_at dksX12_hears_1 0 rfl rfl)
theorem dX12_hears_27 : decode cX12_hears 27 = .ok (.aload_n 0, 1) := dk_42 (dk_at dksX12_hears_1 3 rfl rfl)
theorem dX12_hears_28 : decode cX12_hears 28 = .ok (.getfield 15, 3) := dk_180 0 15 (dk_at dksX12_hears_1 4 rfl rfl)
theorem dX12_hears_31 : decode cX12_hears 31 = .ok (.iload_n 1, 1) := dk_27 (dk_at dksX12_hears_1 7 rfl rfl)
theorem dX12_hears_32 : decode cX12_hears 32 = .ok (.aload_n 0, 1) := dk_42 (dk_at dksX12_hears_1 8 rfl rfl)
theorem dX12_hears_33 : decode cX12_hears 33 = .ok (.getfield 42, 3) := dk_180 0 42 (dk_at dksX12_hears_1 9 rfl rfl)
theorem dX12_hears_36 : decode cX12_hears 36 = .ok (.invokevirtual 69, 3) := dk_182 0 69 (dk_at dksX12_hears_1 12 rfl rfl)
theorem dX12_hears_39 : decode cX12_hears 39 = .ok (.iadd, 1) := dk_96 (dk_at dksX12_hears_1 15 rfl rfl)
theorem dX12_hears_40 : decode cX12_hears 40 = .ok (.putfield 29, 3) := dk_181 0 29 (dk_at dksX12_hears_1 16 rfl rfl)
theorem dX12_hears_43 : decode cX12_hears 43 = .ok (.aload_n 0, 1) := dk_42 (dk_at dksX12_hears_1 19 rfl rfl)
theorem dX12_hears_44 : decode cX12_hears 44 = .ok (.dup, 1) := dk_89 (dk_at dksX12_hears_1 20 rfl rfl)
theorem dX12_hears_45 : decode cX12_hears 45 = .ok (.getfield 42, 3) := dk_180 0 42 (dk_at dksX12_hears_1 21 rfl rfl)
theorem dX12_hears_48 : decode cX12_hears 48 = .ok (.iconst 1, 1) := dk_4 (dk_at dksX12_hears_2 0 rfl rfl)
theorem dX12_hears_49 : decode cX12_hears 49 = .ok (.iadd, 1) := dk_96 (dk_at dksX12_hears_2 1 rfl rfl)
theorem dX12_hears_50 : decode cX12_hears 50 = .ok (.putfield 42, 3) := dk_181 0 42 (dk_at dksX12_hears_2 2 rfl rfl)
theorem dX12_hears_53 : decode cX12_hears 53 = .ok (.aload_n 0, 1) := dk_42 (dk_at dksX12_hears_2 5 rfl rfl)
theorem dX12_hears_54 : decode cX12_hears 54 = .ok (.invokevirtual 32, 3) := dk_182 0 32 (dk_at dksX12_hears_2 6 rfl rfl)
theorem dX12_hears_57 : decode cX12_hears 57 = .ok (.iconst 1, 1) := dk_4 (dk_at dksX12_hears_2 9 rfl rfl)
theorem dX12_hears_58 : decode cX12_hears 58 = .ok (.ireturn, 1) := dk_172 (dk_at dksX12_hears_2 10 rfl rfl)
theorem q166 : (Jvm.Cond.initialized "AgainstFeather$Pan") ∈ lw_all := lw_g (lw_at lw_m1 30 rfl) rfl
theorem q193 : (Jvm.Cond.fieldLinkNest "AgainstFeather$Pan" (35 : Nat) "AgainstFeather$State" "row" "[I" "AgainstFeather") ∈ lw_tbl := lw_at lw_m1 57 rfl
theorem q239 : (Jvm.Cond.fieldLinkNest "AgainstFeather$Pan" (19 : Nat) "AgainstFeather" "now" "LAgainstFeather$State;" "AgainstFeather") ∈ lw_tbl := lw_at lw_m1 103 rfl
theorem q743 : (Jvm.Cond.selects "AgainstFeather$Pan" ({ cls := "java/lang/Object", name := "getClass", desc := "()Ljava/lang/Class;" } : Jvm.MethodName) ({ cls := "java/lang/Object", name := "getClass", desc := "()Ljava/lang/Class;" } : Jvm.MethodName)) ∈ lw_all := lw_g (lw_at lw_m3 127 rfl) rfl
theorem q848 : (Jvm.Cond.instantiable "AgainstFeather$Pan" (6 : Nat)) ∈ lw_all := lw_g (lw_at lw_m3 232 rfl) rfl
theorem q850 : (Jvm.Cond.instanceMethod ({ cls := "AgainstFeather$Pan", name := "<init>", desc := "(LAgainstFeather;I)V" } : Jvm.MethodName)) ∈ lw_all := lw_g (lw_at lw_m3 234 rfl) rfl
theorem q851 : (Jvm.Cond.code ({ cls := "AgainstFeather$Pan", name := "<init>", desc := "(LAgainstFeather;I)V" } : Jvm.MethodName) prog_6_method_1_code (3 : Nat) (Option.none : Option Jvm.ClassFile.FieldType)) ∈ lw_all := lw_g (lw_at lw_m3 235 rfl) rfl
theorem q852 : (Jvm.Cond.methodLink "AgainstFeather$Pan" (9 : Nat) ({ cls := "java/lang/Object", name := "<init>", desc := "()V" } : Jvm.MethodName)) ∈ lw_all := lw_g (lw_at lw_m3 236 rfl) rfl
theorem q853 : (Jvm.Cond.methodLink "AgainstFeather$Pan" (23 : Nat) ({ cls := "AgainstFeather$State", name := "lentTo", desc := "(I)I" } : Jvm.MethodName)) ∈ lw_all := lw_g (lw_at lw_m3 237 rfl) rfl
theorem q858 : (Jvm.Cond.methodLink "AgainstFeather$Pan" (32 : Nat) ({ cls := "AgainstFeather$Pan", name := "settles", desc := "()V" } : Jvm.MethodName)) ∈ lw_all := lw_g (lw_at lw_m4 2 rfl) rfl
theorem q859 : (Jvm.Cond.privateMethod ({ cls := "AgainstFeather$Pan", name := "settles", desc := "()V" } : Jvm.MethodName)) ∈ lw_tbl := lw_at lw_m4 3 rfl
theorem q860 : (Jvm.Cond.instanceMethod ({ cls := "AgainstFeather$Pan", name := "settles", desc := "()V" } : Jvm.MethodName)) ∈ lw_all := lw_g (lw_at lw_m4 4 rfl) rfl
theorem q861 : (Jvm.Cond.code ({ cls := "AgainstFeather$Pan", name := "settles", desc := "()V" } : Jvm.MethodName) prog_6_method_3_code (1 : Nat) (Option.none : Option Jvm.ClassFile.FieldType)) ∈ lw_all := lw_g (lw_at lw_m4 5 rfl) rfl
theorem q862 : (Jvm.Cond.methodLink "AgainstFeather$Pan" (48 : Nat) ({ cls := "java/lang/Math", name := "abs", desc := "(I)I" } : Jvm.MethodName)) ∈ lw_all := lw_g (lw_at lw_m4 6 rfl) rfl
theorem q865 : (Jvm.Cond.methodLink "AgainstFeather$Pan" (53 : Nat) ({ cls := "java/lang/Integer", name := "bitCount", desc := "(I)I" } : Jvm.MethodName)) ∈ lw_all := lw_g (lw_at lw_m4 9 rfl) rfl
theorem q871 : (Jvm.Cond.methodLinkNest "AgainstFeather$Pan" (58 : Nat) ({ cls := "AgainstFeather", name := "sticksOf", desc := "(III)I" } : Jvm.MethodName) "AgainstFeather") ∈ lw_tbl := lw_at lw_m4 15 rfl
theorem q964 : (Jvm.Cond.fieldLink "AgainstFeather$Pan" (15 : Nat) "AgainstFeather$Pan" "heart" "I") ∈ lw_all := lw_g (lw_at lw_m4 108 rfl) rfl
theorem q965 : (Jvm.Cond.fieldLink "AgainstFeather$Pan" (29 : Nat) "AgainstFeather$Pan" "real" "I") ∈ lw_all := lw_g (lw_at lw_m4 109 rfl) rfl
theorem q966 : (Jvm.Cond.fieldLink "AgainstFeather$Pan" (39 : Nat) "AgainstFeather$Pan" "shown" "I") ∈ lw_all := lw_g (lw_at lw_m4 110 rfl) rfl
theorem q968 : (Jvm.Cond.fieldLink "AgainstFeather$Pan" (42 : Nat) "AgainstFeather$Pan" "lies" "I") ∈ lw_all := lw_g (lw_at lw_m4 112 rfl) rfl
theorem q969 : (Jvm.Cond.fieldLink "AgainstFeather$Pan" (45 : Nat) "AgainstFeather$Pan" "laid" "I") ∈ lw_all := lw_g (lw_at lw_m4 113 rfl) rfl
theorem q970 : (Jvm.Cond.fieldLink "AgainstFeather$Pan" (3 : Nat) "AgainstFeather$Pan" "this$0" "LAgainstFeather;") ∈ lw_all := lw_g (lw_at lw_m4 114 rfl) rfl
theorem q971 : (Jvm.Cond.laysFinal "AgainstFeather$Pan" "AgainstFeather$Pan" "heart" "I") ∈ lw_all := lw_g (lw_at lw_m4 115 rfl) rfl
theorem q972 : (Jvm.Cond.soleField "AgainstFeather$Pan" "heart") ∈ lw_all := lw_g (lw_at lw_m4 116 rfl) rfl
theorem q973 : (Jvm.Cond.lays "AgainstFeather$Pan" "AgainstFeather$Pan" "real" "I") ∈ lw_all := lw_g (lw_at lw_m4 117 rfl) rfl
theorem q974 : (Jvm.Cond.soleField "AgainstFeather$Pan" "real") ∈ lw_all := lw_g (lw_at lw_m4 118 rfl) rfl
theorem q975 : (Jvm.Cond.lays "AgainstFeather$Pan" "AgainstFeather$Pan" "shown" "I") ∈ lw_all := lw_g (lw_at lw_m4 119 rfl) rfl
theorem q976 : (Jvm.Cond.soleField "AgainstFeather$Pan" "shown") ∈ lw_all := lw_g (lw_at lw_m4 120 rfl) rfl
theorem q977 : (Jvm.Cond.lays "AgainstFeather$Pan" "AgainstFeather$Pan" "lies" "I") ∈ lw_all := lw_g (lw_at lw_m4 121 rfl) rfl
theorem q978 : (Jvm.Cond.soleField "AgainstFeather$Pan" "lies") ∈ lw_all := lw_g (lw_at lw_m4 122 rfl) rfl
theorem q979 : (Jvm.Cond.lays "AgainstFeather$Pan" "AgainstFeather$Pan" "laid" "I") ∈ lw_all := lw_g (lw_at lw_m4 123 rfl) rfl
theorem q980 : (Jvm.Cond.soleField "AgainstFeather$Pan" "laid") ∈ lw_all := lw_g (lw_at lw_m4 124 rfl) rfl
theorem q981 : (Jvm.Cond.laysFinal "AgainstFeather$Pan" "AgainstFeather$Pan" "this$0" "LAgainstFeather;") ∈ lw_all := lw_g (lw_at lw_m4 125 rfl) rfl
theorem q982 : (Jvm.Cond.soleField "AgainstFeather$Pan" "this$0") ∈ lw_all := lw_g (lw_at lw_m4 126 rfl) rfl
theorem q983 : (Jvm.Cond.superclass "AgainstFeather$Pan" "java/lang/Object") ∈ lw_all := lw_g (lw_at lw_m4 127 rfl) rfl
theorem q985 : (Jvm.Cond.instanceMethod ({ cls := "AgainstFeather$Pan", name := "keeps", desc := "()V" } : Jvm.MethodName)) ∈ lw_all := lw_g (lw_at lw_m4 129 rfl) rfl
theorem q986 : (Jvm.Cond.selects "AgainstFeather$Pan" ({ cls := "AgainstFeather$Pan", name := "keeps", desc := "()V" } : Jvm.MethodName) ({ cls := "AgainstFeather$Pan", name := "keeps", desc := "()V" } : Jvm.MethodName)) ∈ lw_all := lw_g (lw_at lw_m4 130 rfl) rfl
theorem q987 : (Jvm.Cond.code ({ cls := "AgainstFeather$Pan", name := "keeps", desc := "()V" } : Jvm.MethodName) prog_6_method_6_code (1 : Nat) (Option.none : Option Jvm.ClassFile.FieldType)) ∈ lw_all := lw_g (lw_at lw_m4 131 rfl) rfl
theorem q1004 : (Jvm.Cond.instanceMethod ({ cls := "AgainstFeather$Pan", name := "<init>", desc := "(LAgainstFeather;)V" } : Jvm.MethodName)) ∈ lw_all := lw_g (lw_at lw_m4 148 rfl) rfl
theorem q1005 : (Jvm.Cond.code ({ cls := "AgainstFeather$Pan", name := "<init>", desc := "(LAgainstFeather;)V" } : Jvm.MethodName) prog_6_method_2_code (2 : Nat) (Option.none : Option Jvm.ClassFile.FieldType)) ∈ lw_all := lw_g (lw_at lw_m4 149 rfl) rfl
theorem q1007 : (Jvm.Cond.instanceMethod ({ cls := "AgainstFeather$Pan", name := "lays", desc := "(I)V" } : Jvm.MethodName)) ∈ lw_all := lw_g (lw_at lw_m4 151 rfl) rfl
theorem q1008 : (Jvm.Cond.selects "AgainstFeather$Pan" ({ cls := "AgainstFeather$Pan", name := "lays", desc := "(I)V" } : Jvm.MethodName) ({ cls := "AgainstFeather$Pan", name := "lays", desc := "(I)V" } : Jvm.MethodName)) ∈ lw_all := lw_g (lw_at lw_m4 152 rfl) rfl
theorem q1009 : (Jvm.Cond.code ({ cls := "AgainstFeather$Pan", name := "lays", desc := "(I)V" } : Jvm.MethodName) prog_6_method_4_code (2 : Nat) (Option.none : Option Jvm.ClassFile.FieldType)) ∈ lw_all := lw_g (lw_at lw_m4 153 rfl) rfl
theorem q1010 : (Jvm.Cond.methodLinkNest "AgainstFeather$Pan" (62 : Nat) ({ cls := "AgainstFeather", name := "weightOf", desc := "(I)I" } : Jvm.MethodName) "AgainstFeather") ∈ lw_tbl := lw_at lw_m4 154 rfl
theorem q1031 : (Jvm.Cond.instanceMethod ({ cls := "AgainstFeather$Pan", name := "hears", desc := "(IZ)Z" } : Jvm.MethodName)) ∈ lw_all := lw_g (lw_at lw_m4 175 rfl) rfl
theorem q1032 : (Jvm.Cond.selects "AgainstFeather$Pan" ({ cls := "AgainstFeather$Pan", name := "hears", desc := "(IZ)Z" } : Jvm.MethodName) ({ cls := "AgainstFeather$Pan", name := "hears", desc := "(IZ)Z" } : Jvm.MethodName)) ∈ lw_all := lw_g (lw_at lw_m4 176 rfl) rfl
theorem q1033 : (Jvm.Cond.code ({ cls := "AgainstFeather$Pan", name := "hears", desc := "(IZ)Z" } : Jvm.MethodName) prog_6_method_5_code (3 : Nat) (Option.some Jvm.ClassFile.FieldType.boolean)) ∈ lw_all := lw_g (lw_at lw_m4 177 rfl) rfl
theorem q1034 : (Jvm.Cond.methodLinkNest "AgainstFeather$Pan" (65 : Nat) ({ cls := "AgainstFeather", name := "isSoOf", desc := "(II)Z" } : Jvm.MethodName) "AgainstFeather") ∈ lw_tbl := lw_at lw_m4 178 rfl
theorem q1043 : (Jvm.Cond.methodLinkNest "AgainstFeather$Pan" (69 : Nat) ({ cls := "AgainstFeather", name := "lieOf", desc := "(III)I" } : Jvm.MethodName) "AgainstFeather") ∈ lw_tbl := lw_at lw_m4 187 rfl
theorem q2006 : (Jvm.Cond.castable "AgainstFeather$Pan" "java/lang/Object") ∈ lw_tbl := lw_at lw_m8 190 rfl
theorem in_X12 : ∀ w ∈ wsX120, w ∈ lw_all := lw_in wsX120 [971, 973, 975, 977, 979, 981] (by decide +kernel) (by decide +kernel)
/-! AgainstFeather$Tokens -/
set_option maxRecDepth 100000
def RX3 : String := "AgainstFeather$Tokens"
def TX3 : u_T := fun k => match k with
  | 0 => ("AgainstFeather$Tokens", "text", "[B", true)
  | 1 => ("AgainstFeather$Tokens", "size", "I", true)
  | 2 => ("AgainstFeather$Tokens", "at", "I", false)
  | 3 => ("AgainstFeather$Tokens", "token", "I", false)
  | 4 => ("AgainstFeather$Tokens", "sort", "I", false)
  | 5 => ("AgainstFeather$Tokens", "number", "I", false)
  | 6 => ("AgainstFeather$Tokens", "open", "I", false)
  | _ => ("AgainstFeather$Tokens", "kind", "I", false)
def tyX3 : Nat → FieldType := fun k => match k with
  | 0 => .array .byte
  | 1 => .int
  | 2 => .int
  | 3 => .int
  | 4 => .int
  | 5 => .int
  | 6 => .int
  | _ => .int
abbrev wsX30 : List Cond := u_ws RX3 TX3 8
theorem nmX3 : ∀ a, a < 8 → ∀ b, b < 8 → a ≠ b → (TX3 a).2.1 ≠ (TX3 b).2.1 := by decide +kernel
theorem tyX3_ok : ∀ k, k < 8 → parseFieldDescriptor (TX3 k).2.2.1 = some (tyX3 k) := by decide +kernel
abbrev cX3_init : ByteArray := prog_12_method_1_code
def yX3_init : MethodName := ⟨RX3, "<init>", "([BI)V"⟩
def dkwX3_init_0 : List UInt8 := [42, 183, 0, 3, 42, 43, 181, 0, 9, 42, 28, 181, 0, 15, 177]
abbrev dktX3_init_0 : List UInt8 := dkwX3_init_0 ++ []
theorem dksX3_init_0 : cX3_init.data.toList.drop 0 = dktX3_init_0 := by decide +kernel
theorem dX3_init_0 : decode cX3_init 0 = .ok (.aload_n 0, 1) := dk_42 (dk_at dksX3_init_0 0 rfl rfl)
theorem dX3_init_1 : decode cX3_init 1 = .ok (.invokespecial 3, 3) := dk_183 0 3 (dk_at dksX3_init_0 1 rfl rfl)
theorem dX3_init_4 : decode cX3_init 4 = .ok (.aload_n 0, 1) := dk_42 (dk_at dksX3_init_0 4 rfl rfl)
theorem dX3_init_5 : decode cX3_init 5 = .ok (.aload_n 1, 1) := dk_43 (dk_at dksX3_init_0 5 rfl rfl)
theorem dX3_init_6 : decode cX3_init 6 = .ok (.putfield 9, 3) := dk_181 0 9 (dk_at dksX3_init_0 6 rfl rfl)
theorem dX3_init_9 : decode cX3_init 9 = .ok (.aload_n 0, 1) := dk_42 (dk_at dksX3_init_0 9 rfl rfl)
theorem dX3_init_10 : decode cX3_init 10 = .ok (.iload_n 2, 1) := dk_28 (dk_at dksX3_init_0 10 rfl rfl)
theorem dX3_init_11 : decode cX3_init 11 = .ok (.putfield 15, 3) := dk_181 0 15 (dk_at dksX3_init_0 11 rfl rfl)
theorem dX3_init_14 : decode cX3_init 14 = .ok (.return_, 1) := dk_177 (dk_at dksX3_init_0 14 rfl rfl)
abbrev cX3_read : ByteArray := prog_12_method_10_code
def yX3_read : MethodName := ⟨RX3, "read", "()LAgainstFeather$Text;"⟩
def dkwX3_read_7 : List UInt8 := [96, 181, 0, 90, 167, 255, 98, 43, 176]
abbrev dktX3_read_7 : List UInt8 := dkwX3_read_7 ++ []
def dkwX3_read_6 : List UInt8 := [42, 43, 180, 0, 90, 182, 0, 101, 182, 0, 105, 87, 42, 16, 59, 182, 0, 111, 43, 89, 180, 0, 90, 4]
abbrev dktX3_read_6 : List UInt8 := dkwX3_read_6 ++ dktX3_read_7
def dkwX3_read_5 : List UInt8 := [43, 180, 0, 86, 42, 180, 0, 83, 17, 0, 200, 100, 42, 182, 0, 93, 83, 167, 0, 19, 43, 180, 0, 97]
abbrev dktX3_read_5 : List UInt8 := dkwX3_read_5 ++ dktX3_read_6
def dkwX3_read_4 : List UInt8 := [160, 0, 10, 42, 16, 6, 182, 0, 70, 191, 42, 182, 0, 74, 42, 180, 0, 83, 17, 0, 203, 163, 0, 23]
abbrev dktX3_read_4 : List UInt8 := dkwX3_read_4 ++ dktX3_read_5
def dkwX3_read_3 : List UInt8 := [180, 0, 83, 17, 0, 200, 100, 50, 198, 0, 9, 42, 7, 182, 0, 70, 191, 43, 180, 0, 90, 16, 24]
abbrev dktX3_read_3 : List UInt8 := dkwX3_read_3 ++ dktX3_read_4
def dkwX3_read_2 : List UInt8 := [191, 42, 42, 180, 0, 25, 181, 0, 83, 42, 180, 0, 83, 17, 0, 203, 163, 0, 25, 43, 180, 0, 86, 42]
abbrev dktX3_read_2 : List UInt8 := dkwX3_read_2 ++ dktX3_read_3
def dkwX3_read_1 : List UInt8 := [180, 0, 25, 17, 0, 200, 161, 0, 13, 42, 180, 0, 25, 17, 0, 212, 164, 0, 9, 42, 4, 182, 0, 70]
abbrev dktX3_read_1 : List UInt8 := dkwX3_read_1 ++ dktX3_read_2
def dkwX3_read_0 : List UInt8 := [187, 0, 80, 89, 183, 0, 82, 76, 42, 182, 0, 74, 42, 180, 0, 25, 17, 1, 45, 159, 0, 154, 42]
abbrev dktX3_read_0 : List UInt8 := dkwX3_read_0 ++ dktX3_read_1
theorem dksX3_read_0 : cX3_read.data.toList.drop 0 = dktX3_read_0 := by decide +kernel
theorem dksX3_read_1 : cX3_read.data.toList.drop 23 = dktX3_read_1 := dk_seg dksX3_read_0 23 rfl rfl
theorem dksX3_read_2 : cX3_read.data.toList.drop 47 = dktX3_read_2 := dk_seg dksX3_read_1 24 rfl rfl
theorem dksX3_read_3 : cX3_read.data.toList.drop 71 = dktX3_read_3 := dk_seg dksX3_read_2 24 rfl rfl
theorem dksX3_read_4 : cX3_read.data.toList.drop 94 = dktX3_read_4 := dk_seg dksX3_read_3 23 rfl rfl
theorem dksX3_read_5 : cX3_read.data.toList.drop 118 = dktX3_read_5 := dk_seg dksX3_read_4 24 rfl rfl
theorem dksX3_read_6 : cX3_read.data.toList.drop 142 = dktX3_read_6 := dk_seg dksX3_read_5 24 rfl rfl
theorem dksX3_read_7 : cX3_read.data.toList.drop 166 = dktX3_read_7 := dk_seg dksX3_read_6 24 rfl rfl
theorem dX3_read_0 : decode cX3_read 0 = .ok (.new 80, 3) := dk_187 0 80 (dk_at dksX3_read_0 0 rfl rfl)
theorem dX3_read_3 : decode cX3_read 3 = .ok (.dup, 1) := dk_89 (dk_at dksX3_read_0 3 rfl rfl)
theorem dX3_read_4 : decode cX3_read 4 = .ok (.invokespecial 82, 3) := dk_183 0 82 (dk_at dksX3_read_0 4 rfl rfl)
theorem dX3_read_7 : decode cX3_read 7 = .ok (.astore_n 1, 1) := dk_76 (dk_at dksX3_read_0 7 rfl rfl)
theorem dX3_read_8 : decode cX3_read 8 = .ok (.aload_n 0, 1) := dk_42 (dk_at dksX3_read_0 8 rfl rfl)
theorem dX3_read_9 : decode cX3_read 9 = .ok (.invokevirtual 74, 3) := dk_182 0 74 (dk_at dksX3_read_0 9 rfl rfl)
theorem dX3_read_12 : decode cX3_read 12 = .ok (.aload_n 0, 1) := dk_42 (dk_at dksX3_read_0 12 rfl rfl)
theorem dX3_read_13 : decode cX3_read 13 = .ok (.getfield 25, 3) := dk_180 0 25 (dk_at dksX3_read_0 13 rfl rfl)
theorem dX3_read_16 : decode cX3_read 16 = .ok (.sipush 301, 3) := dk_17 1 45 (dk_at dksX3_read_0 16 rfl rfl)
theorem dX3_read_19 : decode cX3_read 19 = .ok (.if_icmp .eq 154, 3) := dk_159 0 154 (dk_at dksX3_read_0 19 rfl rfl)
theorem dX3_read_22 : decode cX3_read 22 = .ok (.aload_n 0, 1) := dk_42 (dk_at dksX3_read_0 22 rfl rfl)
theorem dX3_read_23 : decode cX3_read 23 = .ok (.getfield 25, 3) := dk_180 0 25 (dk_at dksX3_read_1 0 rfl rfl)
theorem dX3_read_26 : decode cX3_read 26 = .ok (.sipush 200, 3) := dk_17 0 200 (dk_at dksX3_read_1 3 rfl rfl)
theorem dX3_read_29 : decode cX3_read 29 = .ok (.if_icmp .lt 13, 3) := dk_161 0 13 (dk_at dksX3_read_1 6 rfl rfl)
theorem dX3_read_32 : decode cX3_read 32 = .ok (.aload_n 0, 1) := dk_42 (dk_at dksX3_read_1 9 rfl rfl)
theorem dX3_read_33 : decode cX3_read 33 = .ok (.getfield 25, 3) := dk_180 0 25 (dk_at dksX3_read_1 10 rfl rfl)
theorem dX3_read_36 : decode cX3_read 36 = .ok (.sipush 212, 3) := dk_17 0 212 (dk_at dksX3_read_1 13 rfl rfl)
theorem dX3_read_39 : decode cX3_read 39 = .ok (.if_icmp .le 9, 3) := dk_164 0 9 (dk_at dksX3_read_1 16 rfl rfl)
theorem dX3_read_42 : decode cX3_read 42 = .ok (.aload_n 0, 1) := dk_42 (dk_at dksX3_read_1 19 rfl rfl)
theorem dX3_read_43 : decode cX3_read 43 = .ok (.iconst 1, 1) := dk_4 (dk_at dksX3_read_1 20 rfl rfl)
theorem dX3_read_44 : decode cX3_read 44 = .ok (.invokevirtual 70, 3) := dk_182 0 70 (dk_at dksX3_read_1 21 rfl rfl)
theorem dX3_read_47 : decode cX3_read 47 = .ok (.athrow, 1) := dk_191 (dk_at dksX3_read_2 0 rfl rfl)
theorem dX3_read_48 : decode cX3_read 48 = .ok (.aload_n 0, 1) := dk_42 (dk_at dksX3_read_2 1 rfl rfl)
theorem dX3_read_49 : decode cX3_read 49 = .ok (.aload_n 0, 1) := dk_42 (dk_at dksX3_read_2 2 rfl rfl)
theorem dX3_read_50 : decode cX3_read 50 = .ok (.getfield 25, 3) := dk_180 0 25 (dk_at dksX3_read_2 3 rfl rfl)
theorem dX3_read_53 : decode cX3_read 53 = .ok (.putfield 83, 3) := dk_181 0 83 (dk_at dksX3_read_2 6 rfl rfl)
theorem dX3_read_56 : decode cX3_read 56 = .ok (.aload_n 0, 1) := dk_42 (dk_at dksX3_read_2 9 rfl rfl)
theorem dX3_read_57 : decode cX3_read 57 = .ok (.getfield 83, 3) := dk_180 0 83 (dk_at dksX3_read_2 10 rfl rfl)
theorem dX3_read_60 : decode cX3_read 60 = .ok (.sipush 203, 3) := dk_17 0 203 (dk_at dksX3_read_2 13 rfl rfl)
theorem dX3_read_63 : decode cX3_read 63 = .ok (.if_icmp .gt 25, 3) := dk_163 0 25 (dk_at dksX3_read_2 16 rfl rfl)
theorem dX3_read_66 : decode cX3_read 66 = .ok (.aload_n 1, 1) := dk_43 (dk_at dksX3_read_2 19 rfl rfl)
theorem dX3_read_67 : decode cX3_read 67 = .ok (.getfield 86, 3) := dk_180 0 86 (dk_at dksX3_read_2 20 rfl rfl)
theorem dX3_read_70 : decode cX3_read 70 = .ok (.aload_n 0, 1) := dk_42 (dk_at dksX3_read_2 23 rfl rfl)
theorem dX3_read_71 : decode cX3_read 71 = .ok (.getfield 83, 3) := dk_180 0 83 (dk_at dksX3_read_3 0 rfl rfl)
theorem dX3_read_74 : decode cX3_read 74 = .ok (.sipush 200, 3) := dk_17 0 200 (dk_at dksX3_read_3 3 rfl rfl)
theorem dX3_read_77 : decode cX3_read 77 = .ok (.isub, 1) := dk_100 (dk_at dksX3_read_3 6 rfl rfl)
theorem dX3_read_78 : decode cX3_read 78 = .ok (.aaload, 1) := dk_50 (dk_at dksX3_read_3 7 rfl rfl)
theorem dX3_read_79 : decode cX3_read 79 = .ok (.ifnull 9, 3) := dk_198 0 9 (dk_at dksX3_read_3 8 rfl rfl)
theorem dX3_read_82 : decode cX3_read 82 = .ok (.aload_n 0, 1) := dk_42 (dk_at dksX3_read_3 11 rfl rfl)
theorem dX3_read_83 : decode cX3_read 83 = .ok (.iconst 4, 1) := dk_7 (dk_at dksX3_read_3 12 rfl rfl)
theorem dX3_read_84 : decode cX3_read 84 = .ok (.invokevirtual 70, 3) := dk_182 0 70 (dk_at dksX3_read_3 13 rfl rfl)
theorem dX3_read_87 : decode cX3_read 87 = .ok (.athrow, 1) := dk_191 (dk_at dksX3_read_3 16 rfl rfl)
theorem dX3_read_88 : decode cX3_read 88 = .ok (.aload_n 1, 1) := dk_43 (dk_at dksX3_read_3 17 rfl rfl)
theorem dX3_read_89 : decode cX3_read 89 = .ok (.getfield 90, 3) := dk_180 0 90 (dk_at dksX3_read_3 18 rfl rfl)
theorem dX3_read_92 : decode cX3_read 92 = .ok (.bipush 24, 2) := dk_16 24 (dk_at dksX3_read_3 21 rfl rfl)
theorem dX3_read_94 : decode cX3_read 94 = .ok (.if_icmp .ne 10, 3) := dk_160 0 10 (dk_at dksX3_read_4 0 rfl rfl)
theorem dX3_read_97 : decode cX3_read 97 = .ok (.aload_n 0, 1) := dk_42 (dk_at dksX3_read_4 3 rfl rfl)
theorem dX3_read_98 : decode cX3_read 98 = .ok (.bipush 6, 2) := dk_16 6 (dk_at dksX3_read_4 4 rfl rfl)
theorem dX3_read_100 : decode cX3_read 100 = .ok (.invokevirtual 70, 3) := dk_182 0 70 (dk_at dksX3_read_4 6 rfl rfl)
theorem dX3_read_103 : decode cX3_read 103 = .ok (.athrow, 1) := dk_191 (dk_at dksX3_read_4 9 rfl rfl)
theorem dX3_read_104 : decode cX3_read 104 = .ok (.aload_n 0, 1) := dk_42 (dk_at dksX3_read_4 10 rfl rfl)
theorem dX3_read_105 : decode cX3_read 105 = .ok (.invokevirtual 74, 3) := dk_182 0 74 (dk_at dksX3_read_4 11 rfl rfl)
theorem dX3_read_108 : decode cX3_read 108 = .ok (.aload_n 0, 1) := dk_42 (dk_at dksX3_read_4 14 rfl rfl)
theorem dX3_read_109 : decode cX3_read 109 = .ok (.getfield 83, 3) := dk_180 0 83 (dk_at dksX3_read_4 15 rfl rfl)
theorem dX3_read_112 : decode cX3_read 112 = .ok (.sipush 203, 3) := dk_17 0 203 (dk_at dksX3_read_4 18 rfl rfl)
theorem dX3_read_115 : decode cX3_read 115 = .ok (.if_icmp .gt 23, 3) := dk_163 0 23 (dk_at dksX3_read_4 21 rfl rfl)
theorem dX3_read_118 : decode cX3_read 118 = .ok (.aload_n 1, 1) := dk_43 (dk_at dksX3_read_5 0 rfl rfl)
theorem dX3_read_119 : decode cX3_read 119 = .ok (.getfield 86, 3) := dk_180 0 86 (dk_at dksX3_read_5 1 rfl rfl)
theorem dX3_read_122 : decode cX3_read 122 = .ok (.aload_n 0, 1) := dk_42 (dk_at dksX3_read_5 4 rfl rfl)
theorem dX3_read_123 : decode cX3_read 123 = .ok (.getfield 83, 3) := dk_180 0 83 (dk_at dksX3_read_5 5 rfl rfl)
theorem dX3_read_126 : decode cX3_read 126 = .ok (.sipush 200, 3) := dk_17 0 200 (dk_at dksX3_read_5 8 rfl rfl)
theorem dX3_read_129 : decode cX3_read 129 = .ok (.isub, 1) := dk_100 (dk_at dksX3_read_5 11 rfl rfl)
theorem dX3_read_130 : decode cX3_read 130 = .ok (.aload_n 0, 1) := dk_42 (dk_at dksX3_read_5 12 rfl rfl)
theorem dX3_read_131 : decode cX3_read 131 = .ok (.invokevirtual 93, 3) := dk_182 0 93 (dk_at dksX3_read_5 13 rfl rfl)
theorem dX3_read_134 : decode cX3_read 134 = .ok (.aastore, 1) := dk_83 (dk_at dksX3_read_5 16 rfl rfl)
theorem dX3_read_135 : decode cX3_read 135 = .ok (.goto 19, 3) := dk_167 0 19 (dk_at dksX3_read_5 17 rfl rfl)
theorem dX3_read_138 : decode cX3_read 138 = .ok (.aload_n 1, 1) := dk_43 (dk_at dksX3_read_5 20 rfl rfl)
theorem dX3_read_139 : decode cX3_read 139 = .ok (.getfield 97, 3) := dk_180 0 97 (dk_at dksX3_read_5 21 rfl rfl)
theorem dX3_read_142 : decode cX3_read 142 = .ok (.aload_n 0, 1) := dk_42 (dk_at dksX3_read_6 0 rfl rfl)
theorem dX3_read_143 : decode cX3_read 143 = .ok (.aload_n 1, 1) := dk_43 (dk_at dksX3_read_6 1 rfl rfl)
theorem dX3_read_144 : decode cX3_read 144 = .ok (.getfield 90, 3) := dk_180 0 90 (dk_at dksX3_read_6 2 rfl rfl)
theorem dX3_read_147 : decode cX3_read 147 = .ok (.invokevirtual 101, 3) := dk_182 0 101 (dk_at dksX3_read_6 5 rfl rfl)
theorem dX3_read_150 : decode cX3_read 150 = .ok (.invokevirtual 105, 3) := dk_182 0 105 (dk_at dksX3_read_6 8 rfl rfl)
theorem dX3_read_153 : decode cX3_read 153 = .ok (.pop, 1) := dk_87 (dk_at dksX3_read_6 11 rfl rfl)
theorem dX3_read_154 : decode cX3_read 154 = .ok (.aload_n 0, 1) := dk_42 (dk_at dksX3_read_6 12 rfl rfl)
theorem dX3_read_155 : decode cX3_read 155 = .ok (.bipush 59, 2) := dk_16 59 (dk_at dksX3_read_6 13 rfl rfl)
theorem dX3_read_157 : decode cX3_read 157 = .ok (.invokevirtual 111, 3) := dk_182 0 111 (dk_at dksX3_read_6 15 rfl rfl)
theorem dX3_read_160 : decode cX3_read 160 = .ok (.aload_n 1, 1) := dk_43 (dk_at dksX3_read_6 18 rfl rfl)
theorem dX3_read_161 : decode cX3_read 161 = .ok (.dup, 1) := dk_89 (dk_at dksX3_read_6 19 rfl rfl)
theorem dX3_read_162 : decode cX3_read 162 = .ok (.getfield 90, 3) := dk_180 0 90 (dk_at dksX3_read_6 20 rfl rfl)
theorem dX3_read_165 : decode cX3_read 165 = .ok (.iconst 1, 1) := dk_4 (dk_at dksX3_read_6 23 rfl rfl)
theorem dX3_read_166 : decode cX3_read 166 = .ok (.iadd, 1) := dk_96 (dk_at dksX3_read_7 0 rfl rfl)
theorem dX3_read_167 : decode cX3_read 167 = .ok (.putfield 90, 3) := dk_181 0 90 (dk_at dksX3_read_7 1 rfl rfl)
theorem dX3_read_170 : decode cX3_read 170 = .ok (.goto (-158), 3) := dk_167 255 98 (dk_at dksX3_read_7 4 rfl rfl)
theorem dX3_read_173 : decode cX3_read 173 = .ok (.aload_n 1, 1) := dk_43 (dk_at dksX3_read_7 7 rfl rfl)
theorem dX3_read_174 : decode cX3_read 174 = .ok (.areturn, 1) := dk_176 (dk_at dksX3_read_7 8 rfl rfl)
abbrev cX3_next : ByteArray := prog_12_method_4_code
def yX3_next : MethodName := ⟨RX3, "next", "()V"⟩
def dkwX3_next_17 : List UInt8 := [4, 96, 181, 0, 19, 177]
abbrev dktX3_next_17 : List UInt8 := dkwX3_next_17 ++ []
def dkwX3_next_16 : List UInt8 := [42, 27, 16, 60, 160, 0, 9, 17, 1, 47, 167, 0, 6, 17, 1, 48, 181, 0, 25, 42, 89, 180, 0, 19]
abbrev dktX3_next_16 : List UInt8 := dkwX3_next_16 ++ dktX3_next_17
def dkwX3_next_15 : List UInt8 := [180, 0, 19, 42, 180, 0, 15, 162, 0, 46, 42, 180, 0, 9, 42, 180, 0, 19, 51, 16, 61, 160, 0, 32]
abbrev dktX3_next_15 : List UInt8 := dkwX3_next_15 ++ dktX3_next_16
def dkwX3_next_14 : List UInt8 := [42, 27, 181, 0, 25, 132, 2, 1, 167, 255, 229, 27, 16, 60, 159, 0, 9, 27, 16, 62, 160, 0, 57, 42]
abbrev dktX3_next_14 : List UInt8 := dkwX3_next_14 ++ dktX3_next_15
def dkwX3_next_13 : List UInt8 := [181, 0, 25, 3, 61, 28, 18, 53, 182, 0, 55, 162, 0, 24, 18, 53, 28, 182, 0, 61, 27, 160, 0, 8]
abbrev dktX3_next_13 : List UInt8 := dkwX3_next_13 ++ dktX3_next_14
def dkwX3_next_12 : List UInt8 := [42, 180, 0, 9, 42, 180, 0, 19, 51, 60, 42, 89, 180, 0, 19, 4, 96, 181, 0, 19, 42, 17, 1, 46]
abbrev dktX3_next_12 : List UInt8 := dkwX3_next_12 ++ dktX3_next_13
def dkwX3_next_11 : List UInt8 := [51, 96, 16, 48, 100, 184, 0, 47, 181, 0, 43, 42, 89, 180, 0, 19, 4, 96, 181, 0, 19, 167, 255, 191]
abbrev dktX3_next_11 : List UInt8 := dkwX3_next_11 ++ dktX3_next_12
def dkwX3_next_10 : List UInt8 := [184, 0, 40, 153, 0, 170, 42, 18, 46, 16, 10, 42, 180, 0, 43, 104, 42, 180, 0, 9, 42, 180, 0, 19]
abbrev dktX3_next_10 : List UInt8 := dkwX3_next_10 ++ dktX3_next_11
def dkwX3_next_9 : List UInt8 := [181, 0, 43, 42, 180, 0, 19, 42, 180, 0, 15, 162, 0, 185, 42, 180, 0, 9, 42, 180, 0, 19, 51]
abbrev dktX3_next_9 : List UInt8 := dkwX3_next_9 ++ dktX3_next_10
def dkwX3_next_8 : List UInt8 := [42, 180, 0, 9, 42, 180, 0, 19, 51, 184, 0, 40, 153, 0, 83, 42, 17, 1, 44, 181, 0, 25, 42, 3]
abbrev dktX3_next_8 : List UInt8 := dkwX3_next_8 ++ dktX3_next_9
def dkwX3_next_7 : List UInt8 := [182, 0, 36, 153, 0, 12, 42, 17, 0, 200, 27, 96, 181, 0, 25, 132, 1, 1, 167, 255, 224, 167, 0, 223]
abbrev dktX3_next_7 : List UInt8 := dkwX3_next_7 ++ dktX3_next_8
def dkwX3_next_6 : List UInt8 := [17, 1, 46, 181, 0, 25, 3, 60, 27, 178, 0, 32, 190, 162, 0, 30, 42, 178, 0, 32, 27, 50]
abbrev dktX3_next_6 : List UInt8 := dkwX3_next_6 ++ dktX3_next_7
def dkwX3_next_5 : List UInt8 := [180, 0, 19, 51, 184, 0, 28, 153, 0, 16, 42, 89, 180, 0, 19, 4, 96, 181, 0, 19, 167, 255, 220, 42]
abbrev dktX3_next_5 : List UInt8 := dkwX3_next_5 ++ dktX3_next_6
def dkwX3_next_4 : List UInt8 := [184, 0, 28, 153, 0, 89, 42, 180, 0, 19, 42, 180, 0, 15, 162, 0, 31, 42, 180, 0, 9, 42]
abbrev dktX3_next_4 : List UInt8 := dkwX3_next_4 ++ dktX3_next_5
def dkwX3_next_3 : List UInt8 := [160, 0, 13, 42, 17, 1, 45, 181, 0, 25, 167, 1, 68, 42, 180, 0, 9, 42, 180, 0, 19, 51]
abbrev dktX3_next_3 : List UInt8 := dkwX3_next_3 ++ dktX3_next_4
def dkwX3_next_2 : List UInt8 := [181, 0, 19, 167, 255, 207, 42, 42, 180, 0, 19, 181, 0, 22, 42, 180, 0, 19, 42, 180, 0, 15]
abbrev dktX3_next_2 : List UInt8 := dkwX3_next_2 ++ dktX3_next_3
def dkwX3_next_1 : List UInt8 := [159, 0, 17, 42, 180, 0, 9, 42, 180, 0, 19, 51, 16, 10, 160, 0, 16, 42, 89, 180, 0, 19, 4, 96]
abbrev dktX3_next_1 : List UInt8 := dkwX3_next_1 ++ dktX3_next_2
def dkwX3_next_0 : List UInt8 := [42, 180, 0, 19, 42, 180, 0, 15, 162, 0, 44, 42, 180, 0, 9, 42, 180, 0, 19, 51, 16, 32]
abbrev dktX3_next_0 : List UInt8 := dkwX3_next_0 ++ dktX3_next_1
theorem dksX3_next_0 : cX3_next.data.toList.drop 0 = dktX3_next_0 := by decide +kernel
theorem dksX3_next_1 : cX3_next.data.toList.drop 22 = dktX3_next_1 := dk_seg dksX3_next_0 22 rfl rfl
theorem dksX3_next_2 : cX3_next.data.toList.drop 46 = dktX3_next_2 := dk_seg dksX3_next_1 24 rfl rfl
theorem dksX3_next_3 : cX3_next.data.toList.drop 68 = dktX3_next_3 := dk_seg dksX3_next_2 22 rfl rfl
theorem dksX3_next_4 : cX3_next.data.toList.drop 90 = dktX3_next_4 := dk_seg dksX3_next_3 22 rfl rfl
theorem dksX3_next_5 : cX3_next.data.toList.drop 112 = dktX3_next_5 := dk_seg dksX3_next_4 22 rfl rfl
theorem dksX3_next_6 : cX3_next.data.toList.drop 136 = dktX3_next_6 := dk_seg dksX3_next_5 24 rfl rfl
theorem dksX3_next_7 : cX3_next.data.toList.drop 158 = dktX3_next_7 := dk_seg dksX3_next_6 22 rfl rfl
theorem dksX3_next_8 : cX3_next.data.toList.drop 182 = dktX3_next_8 := dk_seg dksX3_next_7 24 rfl rfl
theorem dksX3_next_9 : cX3_next.data.toList.drop 206 = dktX3_next_9 := dk_seg dksX3_next_8 24 rfl rfl
theorem dksX3_next_10 : cX3_next.data.toList.drop 229 = dktX3_next_10 := dk_seg dksX3_next_9 23 rfl rfl
theorem dksX3_next_11 : cX3_next.data.toList.drop 253 = dktX3_next_11 := dk_seg dksX3_next_10 24 rfl rfl
theorem dksX3_next_12 : cX3_next.data.toList.drop 277 = dktX3_next_12 := dk_seg dksX3_next_11 24 rfl rfl
theorem dksX3_next_13 : cX3_next.data.toList.drop 301 = dktX3_next_13 := dk_seg dksX3_next_12 24 rfl rfl
theorem dksX3_next_14 : cX3_next.data.toList.drop 325 = dktX3_next_14 := dk_seg dksX3_next_13 24 rfl rfl
theorem dksX3_next_15 : cX3_next.data.toList.drop 349 = dktX3_next_15 := dk_seg dksX3_next_14 24 rfl rfl
theorem dksX3_next_16 : cX3_next.data.toList.drop 373 = dktX3_next_16 := dk_seg dksX3_next_15 24 rfl rfl
theorem dksX3_next_17 : cX3_next.data.toList.drop 397 = dktX3_next_17 := dk_seg dksX3_next_16 24 rfl rfl
theorem dX3_next_0 : decode cX3_next 0 = .ok (.aload_n 0, 1) := dk_42 (dk_at dksX3_next_0 0 rfl rfl)
theorem dX3_next_1 : decode cX3_next 1 = .ok (.getfield 19, 3) := dk_180 0 19 (dk_at dksX3_next_0 1 rfl rfl)
theorem dX3_next_4 : decode cX3_next 4 = .ok (.aload_n 0, 1) := dk_42 (dk_at dksX3_next_0 4 rfl rfl)
theorem dX3_next_5 : decode cX3_next 5 = .ok (.getfield 15, 3) := dk_180 0 15 (dk_at dksX3_next_0 5 rfl rfl)
theorem dX3_next_8 : decode cX3_next 8 = .ok (.if_icmp .ge 44, 3) := dk_162 0 44 (dk_at dksX3_next_0 8 rfl rfl)
theorem dX3_next_11 : decode cX3_next 11 = .ok (.aload_n 0, 1) := dk_42 (dk_at dksX3_next_0 11 rfl rfl)
theorem dX3_next_12 : decode cX3_next 12 = .ok (.getfield 9, 3) := dk_180 0 9 (dk_at dksX3_next_0 12 rfl rfl)
theorem dX3_next_15 : decode cX3_next 15 = .ok (.aload_n 0, 1) := dk_42 (dk_at dksX3_next_0 15 rfl rfl)
theorem dX3_next_16 : decode cX3_next 16 = .ok (.getfield 19, 3) := dk_180 0 19 (dk_at dksX3_next_0 16 rfl rfl)
theorem dX3_next_19 : decode cX3_next 19 = .ok (.baload, 1) := dk_51 (dk_at dksX3_next_0 19 rfl rfl)
theorem dX3_next_20 : decode cX3_next 20 = .ok (.bipush 32, 2) := dk_16 32 (dk_at dksX3_next_0 20 rfl rfl)
theorem dX3_next_22 : decode cX3_next 22 = .ok (.if_icmp .eq 17, 3) := dk_159 0 17 (dk_at dksX3_next_1 0 rfl rfl)
theorem dX3_next_25 : decode cX3_next 25 = .ok (.aload_n 0, 1) := dk_42 (dk_at dksX3_next_1 3 rfl rfl)
theorem dX3_next_26 : decode cX3_next 26 = .ok (.getfield 9, 3) := dk_180 0 9 (dk_at dksX3_next_1 4 rfl rfl)
theorem dX3_next_29 : decode cX3_next 29 = .ok (.aload_n 0, 1) := dk_42 (dk_at dksX3_next_1 7 rfl rfl)
theorem dX3_next_30 : decode cX3_next 30 = .ok (.getfield 19, 3) := dk_180 0 19 (dk_at dksX3_next_1 8 rfl rfl)
theorem dX3_next_33 : decode cX3_next 33 = .ok (.baload, 1) := dk_51 (dk_at dksX3_next_1 11 rfl rfl)
theorem dX3_next_34 : decode cX3_next 34 = .ok (.bipush 10, 2) := dk_16 10 (dk_at dksX3_next_1 12 rfl rfl)
theorem dX3_next_36 : decode cX3_next 36 = .ok (.if_icmp .ne 16, 3) := dk_160 0 16 (dk_at dksX3_next_1 14 rfl rfl)
theorem dX3_next_39 : decode cX3_next 39 = .ok (.aload_n 0, 1) := dk_42 (dk_at dksX3_next_1 17 rfl rfl)
theorem dX3_next_40 : decode cX3_next 40 = .ok (.dup, 1) := dk_89 (dk_at dksX3_next_1 18 rfl rfl)
theorem dX3_next_41 : decode cX3_next 41 = .ok (.getfield 19, 3) := dk_180 0 19 (dk_at dksX3_next_1 19 rfl rfl)
theorem dX3_next_44 : decode cX3_next 44 = .ok (.iconst 1, 1) := dk_4 (dk_at dksX3_next_1 22 rfl rfl)
theorem dX3_next_45 : decode cX3_next 45 = .ok (.iadd, 1) := dk_96 (dk_at dksX3_next_1 23 rfl rfl)
theorem dX3_next_46 : decode cX3_next 46 = .ok (.putfield 19, 3) := dk_181 0 19 (dk_at dksX3_next_2 0 rfl rfl)
theorem dX3_next_49 : decode cX3_next 49 = .ok (.goto (-49), 3) := dk_167 255 207 (dk_at dksX3_next_2 3 rfl rfl)
theorem dX3_next_52 : decode cX3_next 52 = .ok (.aload_n 0, 1) := dk_42 (dk_at dksX3_next_2 6 rfl rfl)
theorem dX3_next_53 : decode cX3_next 53 = .ok (.aload_n 0, 1) := dk_42 (dk_at dksX3_next_2 7 rfl rfl)
theorem dX3_next_54 : decode cX3_next 54 = .ok (.getfield 19, 3) := dk_180 0 19 (dk_at dksX3_next_2 8 rfl rfl)
theorem dX3_next_57 : decode cX3_next 57 = .ok (.putfield 22, 3) := dk_181 0 22 (dk_at dksX3_next_2 11 rfl rfl)
theorem dX3_next_60 : decode cX3_next 60 = .ok (.aload_n 0, 1) := dk_42 (dk_at dksX3_next_2 14 rfl rfl)
theorem dX3_next_61 : decode cX3_next 61 = .ok (.getfield 19, 3) := dk_180 0 19 (dk_at dksX3_next_2 15 rfl rfl)
theorem dX3_next_64 : decode cX3_next 64 = .ok (.aload_n 0, 1) := dk_42 (dk_at dksX3_next_2 18 rfl rfl)
theorem dX3_next_65 : decode cX3_next 65 = .ok (.getfield 15, 3) := dk_180 0 15 (dk_at dksX3_next_2 19 rfl rfl)
theorem dX3_next_68 : decode cX3_next 68 = .ok (.if_icmp .ne 13, 3) := dk_160 0 13 (dk_at dksX3_next_3 0 rfl rfl)
theorem dX3_next_71 : decode cX3_next 71 = .ok (.aload_n 0, 1) := dk_42 (dk_at dksX3_next_3 3 rfl rfl)
theorem dX3_next_72 : decode cX3_next 72 = .ok (.sipush 301, 3) := dk_17 1 45 (dk_at dksX3_next_3 4 rfl rfl)
theorem dX3_next_75 : decode cX3_next 75 = .ok (.putfield 25, 3) := dk_181 0 25 (dk_at dksX3_next_3 7 rfl rfl)
theorem dX3_next_78 : decode cX3_next 78 = .ok (.goto 324, 3) := dk_167 1 68 (dk_at dksX3_next_3 10 rfl rfl)
theorem dX3_next_81 : decode cX3_next 81 = .ok (.aload_n 0, 1) := dk_42 (dk_at dksX3_next_3 13 rfl rfl)
theorem dX3_next_82 : decode cX3_next 82 = .ok (.getfield 9, 3) := dk_180 0 9 (dk_at dksX3_next_3 14 rfl rfl)
theorem dX3_next_85 : decode cX3_next 85 = .ok (.aload_n 0, 1) := dk_42 (dk_at dksX3_next_3 17 rfl rfl)
theorem dX3_next_86 : decode cX3_next 86 = .ok (.getfield 19, 3) := dk_180 0 19 (dk_at dksX3_next_3 18 rfl rfl)
theorem dX3_next_89 : decode cX3_next 89 = .ok (.baload, 1) := dk_51 (dk_at dksX3_next_3 21 rfl rfl)
theorem dX3_next_90 : decode cX3_next 90 = .ok (.invokestatic 28, 3) := dk_184 0 28 (dk_at dksX3_next_4 0 rfl rfl)
theorem dX3_next_93 : decode cX3_next 93 = .ok (.ifCond .eq 89, 3) := dk_153 0 89 (dk_at dksX3_next_4 3 rfl rfl)
theorem dX3_next_96 : decode cX3_next 96 = .ok (.aload_n 0, 1) := dk_42 (dk_at dksX3_next_4 6 rfl rfl)
theorem dX3_next_97 : decode cX3_next 97 = .ok (.getfield 19, 3) := dk_180 0 19 (dk_at dksX3_next_4 7 rfl rfl)
theorem dX3_next_100 : decode cX3_next 100 = .ok (.aload_n 0, 1) := dk_42 (dk_at dksX3_next_4 10 rfl rfl)
theorem dX3_next_101 : decode cX3_next 101 = .ok (.getfield 15, 3) := dk_180 0 15 (dk_at dksX3_next_4 11 rfl rfl)
theorem dX3_next_104 : decode cX3_next 104 = .ok (.if_icmp .ge 31, 3) := dk_162 0 31 (dk_at dksX3_next_4 14 rfl rfl)
theorem dX3_next_107 : decode cX3_next 107 = .ok (.aload_n 0, 1) := dk_42 (dk_at dksX3_next_4 17 rfl rfl)
theorem dX3_next_108 : decode cX3_next 108 = .ok (.getfield 9, 3) := dk_180 0 9 (dk_at dksX3_next_4 18 rfl rfl)
theorem dX3_next_111 : decode cX3_next 111 = .ok (.aload_n 0, 1) := dk_42 (dk_at dksX3_next_4 21 rfl rfl)
theorem dX3_next_112 : decode cX3_next 112 = .ok (.getfield 19, 3) := dk_180 0 19 (dk_at dksX3_next_5 0 rfl rfl)
theorem dX3_next_115 : decode cX3_next 115 = .ok (.baload, 1) := dk_51 (dk_at dksX3_next_5 3 rfl rfl)
theorem dX3_next_116 : decode cX3_next 116 = .ok (.invokestatic 28, 3) := dk_184 0 28 (dk_at dksX3_next_5 4 rfl rfl)
theorem dX3_next_119 : decode cX3_next 119 = .ok (.ifCond .eq 16, 3) := dk_153 0 16 (dk_at dksX3_next_5 7 rfl rfl)
theorem dX3_next_122 : decode cX3_next 122 = .ok (.aload_n 0, 1) := dk_42 (dk_at dksX3_next_5 10 rfl rfl)
theorem dX3_next_123 : decode cX3_next 123 = .ok (.dup, 1) := dk_89 (dk_at dksX3_next_5 11 rfl rfl)
theorem dX3_next_124 : decode cX3_next 124 = .ok (.getfield 19, 3) := dk_180 0 19 (dk_at dksX3_next_5 12 rfl rfl)
theorem dX3_next_127 : decode cX3_next 127 = .ok (.iconst 1, 1) := dk_4 (dk_at dksX3_next_5 15 rfl rfl)
theorem dX3_next_128 : decode cX3_next 128 = .ok (.iadd, 1) := dk_96 (dk_at dksX3_next_5 16 rfl rfl)
theorem dX3_next_129 : decode cX3_next 129 = .ok (.putfield 19, 3) := dk_181 0 19 (dk_at dksX3_next_5 17 rfl rfl)
theorem dX3_next_132 : decode cX3_next 132 = .ok (.goto (-36), 3) := dk_167 255 220 (dk_at dksX3_next_5 20 rfl rfl)
theorem dX3_next_135 : decode cX3_next 135 = .ok (.aload_n 0, 1) := dk_42 (dk_at dksX3_next_5 23 rfl rfl)
theorem dX3_next_136 : decode cX3_next 136 = .ok (.sipush 302, 3) := dk_17 1 46 (dk_at dksX3_next_6 0 rfl rfl)
theorem dX3_next_139 : decode cX3_next 139 = .ok (.putfield 25, 3) := dk_181 0 25 (dk_at dksX3_next_6 3 rfl rfl)
theorem dX3_next_142 : decode cX3_next 142 = .ok (.iconst 0, 1) := dk_3 (dk_at dksX3_next_6 6 rfl rfl)
theorem dX3_next_143 : decode cX3_next 143 = .ok (.istore_n 1, 1) := dk_60 (dk_at dksX3_next_6 7 rfl rfl)
theorem dX3_next_144 : decode cX3_next 144 = .ok (.iload_n 1, 1) := dk_27 (dk_at dksX3_next_6 8 rfl rfl)
theorem dX3_next_145 : decode cX3_next 145 = .ok (.getstatic 32, 3) := dk_178 0 32 (dk_at dksX3_next_6 9 rfl rfl)
theorem dX3_next_148 : decode cX3_next 148 = .ok (.arraylength, 1) := dk_190 (dk_at dksX3_next_6 12 rfl rfl)
theorem dX3_next_149 : decode cX3_next 149 = .ok (.if_icmp .ge 30, 3) := dk_162 0 30 (dk_at dksX3_next_6 13 rfl rfl)
theorem dX3_next_152 : decode cX3_next 152 = .ok (.aload_n 0, 1) := dk_42 (dk_at dksX3_next_6 16 rfl rfl)
theorem dX3_next_153 : decode cX3_next 153 = .ok (.getstatic 32, 3) := dk_178 0 32 (dk_at dksX3_next_6 17 rfl rfl)
theorem dX3_next_156 : decode cX3_next 156 = .ok (.iload_n 1, 1) := dk_27 (dk_at dksX3_next_6 20 rfl rfl)
theorem dX3_next_157 : decode cX3_next 157 = .ok (.aaload, 1) := dk_50 (dk_at dksX3_next_6 21 rfl rfl)
theorem dX3_next_158 : decode cX3_next 158 = .ok (.invokevirtual 36, 3) := dk_182 0 36 (dk_at dksX3_next_7 0 rfl rfl)
theorem dX3_next_161 : decode cX3_next 161 = .ok (.ifCond .eq 12, 3) := dk_153 0 12 (dk_at dksX3_next_7 3 rfl rfl)
theorem dX3_next_164 : decode cX3_next 164 = .ok (.aload_n 0, 1) := dk_42 (dk_at dksX3_next_7 6 rfl rfl)
theorem dX3_next_165 : decode cX3_next 165 = .ok (.sipush 200, 3) := dk_17 0 200 (dk_at dksX3_next_7 7 rfl rfl)
theorem dX3_next_168 : decode cX3_next 168 = .ok (.iload_n 1, 1) := dk_27 (dk_at dksX3_next_7 10 rfl rfl)
theorem dX3_next_169 : decode cX3_next 169 = .ok (.iadd, 1) := dk_96 (dk_at dksX3_next_7 11 rfl rfl)
theorem dX3_next_170 : decode cX3_next 170 = .ok (.putfield 25, 3) := dk_181 0 25 (dk_at dksX3_next_7 12 rfl rfl)
theorem dX3_next_173 : decode cX3_next 173 = .ok (.iinc 1 1, 3) := dk_132 1 1 (dk_at dksX3_next_7 15 rfl rfl)
theorem dX3_next_176 : decode cX3_next 176 = .ok (.goto (-32), 3) := dk_167 255 224 (dk_at dksX3_next_7 18 rfl rfl)
theorem dX3_next_179 : decode cX3_next 179 = .ok (.goto 223, 3) := dk_167 0 223 (dk_at dksX3_next_7 21 rfl rfl)
theorem dX3_next_182 : decode cX3_next 182 = .ok (.aload_n 0, 1) := dk_42 (dk_at dksX3_next_8 0 rfl rfl)
theorem dX3_next_183 : decode cX3_next 183 = .ok (.getfield 9, 3) := dk_180 0 9 (dk_at dksX3_next_8 1 rfl rfl)
theorem dX3_next_186 : decode cX3_next 186 = .ok (.aload_n 0, 1) := dk_42 (dk_at dksX3_next_8 4 rfl rfl)
theorem dX3_next_187 : decode cX3_next 187 = .ok (.getfield 19, 3) := dk_180 0 19 (dk_at dksX3_next_8 5 rfl rfl)
theorem dX3_next_190 : decode cX3_next 190 = .ok (.baload, 1) := dk_51 (dk_at dksX3_next_8 8 rfl rfl)
theorem dX3_next_191 : decode cX3_next 191 = .ok (.invokestatic 40, 3) := dk_184 0 40 (dk_at dksX3_next_8 9 rfl rfl)
theorem dX3_next_194 : decode cX3_next 194 = .ok (.ifCond .eq 83, 3) := dk_153 0 83 (dk_at dksX3_next_8 12 rfl rfl)
theorem dX3_next_197 : decode cX3_next 197 = .ok (.aload_n 0, 1) := dk_42 (dk_at dksX3_next_8 15 rfl rfl)
theorem dX3_next_198 : decode cX3_next 198 = .ok (.sipush 300, 3) := dk_17 1 44 (dk_at dksX3_next_8 16 rfl rfl)
theorem dX3_next_201 : decode cX3_next 201 = .ok (.putfield 25, 3) := dk_181 0 25 (dk_at dksX3_next_8 19 rfl rfl)
theorem dX3_next_204 : decode cX3_next 204 = .ok (.aload_n 0, 1) := dk_42 (dk_at dksX3_next_8 22 rfl rfl)
theorem dX3_next_205 : decode cX3_next 205 = .ok (.iconst 0, 1) := dk_3 (dk_at dksX3_next_8 23 rfl rfl)
theorem dX3_next_206 : decode cX3_next 206 = .ok (.putfield 43, 3) := dk_181 0 43 (dk_at dksX3_next_9 0 rfl rfl)
theorem dX3_next_209 : decode cX3_next 209 = .ok (.aload_n 0, 1) := dk_42 (dk_at dksX3_next_9 3 rfl rfl)
theorem dX3_next_210 : decode cX3_next 210 = .ok (.getfield 19, 3) := dk_180 0 19 (dk_at dksX3_next_9 4 rfl rfl)
theorem dX3_next_213 : decode cX3_next 213 = .ok (.aload_n 0, 1) := dk_42 (dk_at dksX3_next_9 7 rfl rfl)
theorem dX3_next_214 : decode cX3_next 214 = .ok (.getfield 15, 3) := dk_180 0 15 (dk_at dksX3_next_9 8 rfl rfl)
theorem dX3_next_217 : decode cX3_next 217 = .ok (.if_icmp .ge 185, 3) := dk_162 0 185 (dk_at dksX3_next_9 11 rfl rfl)
theorem dX3_next_220 : decode cX3_next 220 = .ok (.aload_n 0, 1) := dk_42 (dk_at dksX3_next_9 14 rfl rfl)
theorem dX3_next_221 : decode cX3_next 221 = .ok (.getfield 9, 3) := dk_180 0 9 (dk_at dksX3_next_9 15 rfl rfl)
theorem dX3_next_224 : decode cX3_next 224 = .ok (.aload_n 0, 1) := dk_42 (dk_at dksX3_next_9 18 rfl rfl)
theorem dX3_next_225 : decode cX3_next 225 = .ok (.getfield 19, 3) := dk_180 0 19 (dk_at dksX3_next_9 19 rfl rfl)
theorem dX3_next_228 : decode cX3_next 228 = .ok (.baload, 1) := dk_51 (dk_at dksX3_next_9 22 rfl rfl)
theorem dX3_next_229 : decode cX3_next 229 = .ok (.invokestatic 40, 3) := dk_184 0 40 (dk_at dksX3_next_10 0 rfl rfl)
theorem dX3_next_232 : decode cX3_next 232 = .ok (.ifCond .eq 170, 3) := dk_153 0 170 (dk_at dksX3_next_10 3 rfl rfl)
theorem dX3_next_235 : decode cX3_next 235 = .ok (.aload_n 0, 1) := dk_42 (dk_at dksX3_next_10 6 rfl rfl)
theorem dX3_next_236 : decode cX3_next 236 = .ok (.ldc 46, 2) := dk_18 46 (dk_at dksX3_next_10 7 rfl rfl)
theorem dX3_next_238 : decode cX3_next 238 = .ok (.bipush 10, 2) := dk_16 10 (dk_at dksX3_next_10 9 rfl rfl)
theorem dX3_next_240 : decode cX3_next 240 = .ok (.aload_n 0, 1) := dk_42 (dk_at dksX3_next_10 11 rfl rfl)
theorem dX3_next_241 : decode cX3_next 241 = .ok (.getfield 43, 3) := dk_180 0 43 (dk_at dksX3_next_10 12 rfl rfl)
theorem dX3_next_244 : decode cX3_next 244 = .ok (.imul, 1) := dk_104 (dk_at dksX3_next_10 15 rfl rfl)
theorem dX3_next_245 : decode cX3_next 245 = .ok (.aload_n 0, 1) := dk_42 (dk_at dksX3_next_10 16 rfl rfl)
theorem dX3_next_246 : decode cX3_next 246 = .ok (.getfield 9, 3) := dk_180 0 9 (dk_at dksX3_next_10 17 rfl rfl)
theorem dX3_next_249 : decode cX3_next 249 = .ok (.aload_n 0, 1) := dk_42 (dk_at dksX3_next_10 20 rfl rfl)
theorem dX3_next_250 : decode cX3_next 250 = .ok (.getfield 19, 3) := dk_180 0 19 (dk_at dksX3_next_10 21 rfl rfl)
theorem dX3_next_253 : decode cX3_next 253 = .ok (.baload, 1) := dk_51 (dk_at dksX3_next_11 0 rfl rfl)
theorem dX3_next_254 : decode cX3_next 254 = .ok (.iadd, 1) := dk_96 (dk_at dksX3_next_11 1 rfl rfl)
theorem dX3_next_255 : decode cX3_next 255 = .ok (.bipush 48, 2) := dk_16 48 (dk_at dksX3_next_11 2 rfl rfl)
theorem dX3_next_257 : decode cX3_next 257 = .ok (.isub, 1) := dk_100 (dk_at dksX3_next_11 4 rfl rfl)
theorem dX3_next_258 : decode cX3_next 258 = .ok (.invokestatic 47, 3) := dk_184 0 47 (dk_at dksX3_next_11 5 rfl rfl)
theorem dX3_next_261 : decode cX3_next 261 = .ok (.putfield 43, 3) := dk_181 0 43 (dk_at dksX3_next_11 8 rfl rfl)
theorem dX3_next_264 : decode cX3_next 264 = .ok (.aload_n 0, 1) := dk_42 (dk_at dksX3_next_11 11 rfl rfl)
theorem dX3_next_265 : decode cX3_next 265 = .ok (.dup, 1) := dk_89 (dk_at dksX3_next_11 12 rfl rfl)
theorem dX3_next_266 : decode cX3_next 266 = .ok (.getfield 19, 3) := dk_180 0 19 (dk_at dksX3_next_11 13 rfl rfl)
theorem dX3_next_269 : decode cX3_next 269 = .ok (.iconst 1, 1) := dk_4 (dk_at dksX3_next_11 16 rfl rfl)
theorem dX3_next_270 : decode cX3_next 270 = .ok (.iadd, 1) := dk_96 (dk_at dksX3_next_11 17 rfl rfl)
theorem dX3_next_271 : decode cX3_next 271 = .ok (.putfield 19, 3) := dk_181 0 19 (dk_at dksX3_next_11 18 rfl rfl)
theorem dX3_next_274 : decode cX3_next 274 = .ok (.goto (-65), 3) := dk_167 255 191 (dk_at dksX3_next_11 21 rfl rfl)
theorem dX3_next_277 : decode cX3_next 277 = .ok (.aload_n 0, 1) := dk_42 (dk_at dksX3_next_12 0 rfl rfl)
theorem dX3_next_278 : decode cX3_next 278 = .ok (.getfield 9, 3) := dk_180 0 9 (dk_at dksX3_next_12 1 rfl rfl)
theorem dX3_next_281 : decode cX3_next 281 = .ok (.aload_n 0, 1) := dk_42 (dk_at dksX3_next_12 4 rfl rfl)
theorem dX3_next_282 : decode cX3_next 282 = .ok (.getfield 19, 3) := dk_180 0 19 (dk_at dksX3_next_12 5 rfl rfl)
theorem dX3_next_285 : decode cX3_next 285 = .ok (.baload, 1) := dk_51 (dk_at dksX3_next_12 8 rfl rfl)
theorem dX3_next_286 : decode cX3_next 286 = .ok (.istore_n 1, 1) := dk_60 (dk_at dksX3_next_12 9 rfl rfl)
theorem dX3_next_287 : decode cX3_next 287 = .ok (.aload_n 0, 1) := dk_42 (dk_at dksX3_next_12 10 rfl rfl)
theorem dX3_next_288 : decode cX3_next 288 = .ok (.dup, 1) := dk_89 (dk_at dksX3_next_12 11 rfl rfl)
theorem dX3_next_289 : decode cX3_next 289 = .ok (.getfield 19, 3) := dk_180 0 19 (dk_at dksX3_next_12 12 rfl rfl)
theorem dX3_next_292 : decode cX3_next 292 = .ok (.iconst 1, 1) := dk_4 (dk_at dksX3_next_12 15 rfl rfl)
theorem dX3_next_293 : decode cX3_next 293 = .ok (.iadd, 1) := dk_96 (dk_at dksX3_next_12 16 rfl rfl)
theorem dX3_next_294 : decode cX3_next 294 = .ok (.putfield 19, 3) := dk_181 0 19 (dk_at dksX3_next_12 17 rfl rfl)
theorem dX3_next_297 : decode cX3_next 297 = .ok (.aload_n 0, 1) := dk_42 (dk_at dksX3_next_12 20 rfl rfl)
theorem dX3_next_298 : decode cX3_next 298 = .ok (.sipush 302, 3) := dk_17 1 46 (dk_at dksX3_next_12 21 rfl rfl)
theorem dX3_next_301 : decode cX3_next 301 = .ok (.putfield 25, 3) := dk_181 0 25 (dk_at dksX3_next_13 0 rfl rfl)
theorem dX3_next_304 : decode cX3_next 304 = .ok (.iconst 0, 1) := dk_3 (dk_at dksX3_next_13 3 rfl rfl)
theorem dX3_next_305 : decode cX3_next 305 = .ok (.istore_n 2, 1) := dk_61 (dk_at dksX3_next_13 4 rfl rfl)
theorem dX3_next_306 : decode cX3_next 306 = .ok (.iload_n 2, 1) := dk_28 (dk_at dksX3_next_13 5 rfl rfl)
theorem dX3_next_307 : decode cX3_next 307 = .ok (.ldc 53, 2) := dk_18 53 (dk_at dksX3_next_13 6 rfl rfl)
theorem dX3_next_309 : decode cX3_next 309 = .ok (.invokevirtual 55, 3) := dk_182 0 55 (dk_at dksX3_next_13 8 rfl rfl)
theorem dX3_next_312 : decode cX3_next 312 = .ok (.if_icmp .ge 24, 3) := dk_162 0 24 (dk_at dksX3_next_13 11 rfl rfl)
theorem dX3_next_315 : decode cX3_next 315 = .ok (.ldc 53, 2) := dk_18 53 (dk_at dksX3_next_13 14 rfl rfl)
theorem dX3_next_317 : decode cX3_next 317 = .ok (.iload_n 2, 1) := dk_28 (dk_at dksX3_next_13 16 rfl rfl)
theorem dX3_next_318 : decode cX3_next 318 = .ok (.invokevirtual 61, 3) := dk_182 0 61 (dk_at dksX3_next_13 17 rfl rfl)
theorem dX3_next_321 : decode cX3_next 321 = .ok (.iload_n 1, 1) := dk_27 (dk_at dksX3_next_13 20 rfl rfl)
theorem dX3_next_322 : decode cX3_next 322 = .ok (.if_icmp .ne 8, 3) := dk_160 0 8 (dk_at dksX3_next_13 21 rfl rfl)
theorem dX3_next_325 : decode cX3_next 325 = .ok (.aload_n 0, 1) := dk_42 (dk_at dksX3_next_14 0 rfl rfl)
theorem dX3_next_326 : decode cX3_next 326 = .ok (.iload_n 1, 1) := dk_27 (dk_at dksX3_next_14 1 rfl rfl)
theorem dX3_next_327 : decode cX3_next 327 = .ok (.putfield 25, 3) := dk_181 0 25 (dk_at dksX3_next_14 2 rfl rfl)
theorem dX3_next_330 : decode cX3_next 330 = .ok (.iinc 2 1, 3) := dk_132 2 1 (dk_at dksX3_next_14 5 rfl rfl)
theorem dX3_next_333 : decode cX3_next 333 = .ok (.goto (-27), 3) := dk_167 255 229 (dk_at dksX3_next_14 8 rfl rfl)
theorem dX3_next_336 : decode cX3_next 336 = .ok (.iload_n 1, 1) := dk_27 (dk_at dksX3_next_14 11 rfl rfl)
theorem dX3_next_337 : decode cX3_next 337 = .ok (.bipush 60, 2) := dk_16 60 (dk_at dksX3_next_14 12 rfl rfl)
theorem dX3_next_339 : decode cX3_next 339 = .ok (.if_icmp .eq 9, 3) := dk_159 0 9 (dk_at dksX3_next_14 14 rfl rfl)
theorem dX3_next_342 : decode cX3_next 342 = .ok (.iload_n 1, 1) := dk_27 (dk_at dksX3_next_14 17 rfl rfl)
theorem dX3_next_343 : decode cX3_next 343 = .ok (.bipush 62, 2) := dk_16 62 (dk_at dksX3_next_14 18 rfl rfl)
theorem dX3_next_345 : decode cX3_next 345 = .ok (.if_icmp .ne 57, 3) := dk_160 0 57 (dk_at dksX3_next_14 20 rfl rfl)
theorem dX3_next_348 : decode cX3_next 348 = .ok (.aload_n 0, 1) := dk_42 (dk_at dksX3_next_14 23 rfl rfl)
theorem dX3_next_349 : decode cX3_next 349 = .ok (.getfield 19, 3) := dk_180 0 19 (dk_at dksX3_next_15 0 rfl rfl)
theorem dX3_next_352 : decode cX3_next 352 = .ok (.aload_n 0, 1) := dk_42 (dk_at dksX3_next_15 3 rfl rfl)
theorem dX3_next_353 : decode cX3_next 353 = .ok (.getfield 15, 3) := dk_180 0 15 (dk_at dksX3_next_15 4 rfl rfl)
theorem dX3_next_356 : decode cX3_next 356 = .ok (.if_icmp .ge 46, 3) := dk_162 0 46 (dk_at dksX3_next_15 7 rfl rfl)
theorem dX3_next_359 : decode cX3_next 359 = .ok (.aload_n 0, 1) := dk_42 (dk_at dksX3_next_15 10 rfl rfl)
theorem dX3_next_360 : decode cX3_next 360 = .ok (.getfield 9, 3) := dk_180 0 9 (dk_at dksX3_next_15 11 rfl rfl)
theorem dX3_next_363 : decode cX3_next 363 = .ok (.aload_n 0, 1) := dk_42 (dk_at dksX3_next_15 14 rfl rfl)
theorem dX3_next_364 : decode cX3_next 364 = .ok (.getfield 19, 3) := dk_180 0 19 (dk_at dksX3_next_15 15 rfl rfl)
theorem dX3_next_367 : decode cX3_next 367 = .ok (.baload, 1) := dk_51 (dk_at dksX3_next_15 18 rfl rfl)
theorem dX3_next_368 : decode cX3_next 368 = .ok (.bipush 61, 2) := dk_16 61 (dk_at dksX3_next_15 19 rfl rfl)
theorem dX3_next_370 : decode cX3_next 370 = .ok (.if_icmp .ne 32, 3) := dk_160 0 32 (dk_at dksX3_next_15 21 rfl rfl)
theorem dX3_next_373 : decode cX3_next 373 = .ok (.aload_n 0, 1) := dk_42 (dk_at dksX3_next_16 0 rfl rfl)
theorem dX3_next_374 : decode cX3_next 374 = .ok (.iload_n 1, 1) := dk_27 (dk_at dksX3_next_16 1 rfl rfl)
theorem dX3_next_375 : decode cX3_next 375 = .ok (.bipush 60, 2) := dk_16 60 (dk_at dksX3_next_16 2 rfl rfl)
theorem dX3_next_377 : decode cX3_next 377 = .ok (.if_icmp .ne 9, 3) := dk_160 0 9 (dk_at dksX3_next_16 4 rfl rfl)
theorem dX3_next_380 : decode cX3_next 380 = .ok (.sipush 303, 3) := dk_17 1 47 (dk_at dksX3_next_16 7 rfl rfl)
theorem dX3_next_383 : decode cX3_next 383 = .ok (.goto 6, 3) := dk_167 0 6 (dk_at dksX3_next_16 10 rfl rfl)
theorem dX3_next_386 : decode cX3_next 386 = .ok (.sipush 304, 3) := dk_17 1 48 (dk_at dksX3_next_16 13 rfl rfl)
theorem dX3_next_389 : decode cX3_next 389 = .ok (.putfield 25, 3) := dk_181 0 25 (dk_at dksX3_next_16 16 rfl rfl)
theorem dX3_next_392 : decode cX3_next 392 = .ok (.aload_n 0, 1) := dk_42 (dk_at dksX3_next_16 19 rfl rfl)
theorem dX3_next_393 : decode cX3_next 393 = .ok (.dup, 1) := dk_89 (dk_at dksX3_next_16 20 rfl rfl)
theorem dX3_next_394 : decode cX3_next 394 = .ok (.getfield 19, 3) := dk_180 0 19 (dk_at dksX3_next_16 21 rfl rfl)
theorem dX3_next_397 : decode cX3_next 397 = .ok (.iconst 1, 1) := dk_4 (dk_at dksX3_next_17 0 rfl rfl)
theorem dX3_next_398 : decode cX3_next 398 = .ok (.iadd, 1) := dk_96 (dk_at dksX3_next_17 1 rfl rfl)
theorem dX3_next_399 : decode cX3_next 399 = .ok (.putfield 19, 3) := dk_181 0 19 (dk_at dksX3_next_17 2 rfl rfl)
theorem dX3_next_402 : decode cX3_next 402 = .ok (.return_, 1) := dk_177 (dk_at dksX3_next_17 5 rfl rfl)
abbrev cX3_isLetter : ByteArray := prog_12_method_2_code
def yX3_isLetter : MethodName := ⟨RX3, "isLetter", "(I)Z"⟩
def dkwX3_isLetter_1 : List UInt8 := [4, 167, 0, 4, 3, 172]
abbrev dktX3_isLetter_1 : List UInt8 := dkwX3_isLetter_1 ++ []
def dkwX3_isLetter_0 : List UInt8 := [26, 16, 97, 161, 0, 9, 26, 16, 122, 164, 0, 15, 26, 16, 65, 161, 0, 13, 26, 16, 90, 163, 0, 7]
abbrev dktX3_isLetter_0 : List UInt8 := dkwX3_isLetter_0 ++ dktX3_isLetter_1
theorem dksX3_isLetter_0 : cX3_isLetter.data.toList.drop 0 = dktX3_isLetter_0 := by decide +kernel
theorem dksX3_isLetter_1 : cX3_isLetter.data.toList.drop 24 = dktX3_isLetter_1 := dk_seg dksX3_isLetter_0 24 rfl rfl
theorem dX3_isLetter_0 : decode cX3_isLetter 0 = .ok (.iload_n 0, 1) := dk_26 (dk_at dksX3_isLetter_0 0 rfl rfl)
theorem dX3_isLetter_1 : decode cX3_isLetter 1 = .ok (.bipush 97, 2) := dk_16 97 (dk_at dksX3_isLetter_0 1 rfl rfl)
theorem dX3_isLetter_3 : decode cX3_isLetter 3 = .ok (.if_icmp .lt 9, 3) := dk_161 0 9 (dk_at dksX3_isLetter_0 3 rfl rfl)
theorem dX3_isLetter_6 : decode cX3_isLetter 6 = .ok (.iload_n 0, 1) := dk_26 (dk_at dksX3_isLetter_0 6 rfl rfl)
theorem dX3_isLetter_7 : decode cX3_isLetter 7 = .ok (.bipush 122, 2) := dk_16 122 (dk_at dksX3_isLetter_0 7 rfl rfl)
theorem dX3_isLetter_9 : decode cX3_isLetter 9 = .ok (.if_icmp .le 15, 3) := dk_164 0 15 (dk_at dksX3_isLetter_0 9 rfl rfl)
theorem dX3_isLetter_12 : decode cX3_isLetter 12 = .ok (.iload_n 0, 1) := dk_26 (dk_at dksX3_isLetter_0 12 rfl rfl)
theorem dX3_isLetter_13 : decode cX3_isLetter 13 = .ok (.bipush 65, 2) := dk_16 65 (dk_at dksX3_isLetter_0 13 rfl rfl)
theorem dX3_isLetter_15 : decode cX3_isLetter 15 = .ok (.if_icmp .lt 13, 3) := dk_161 0 13 (dk_at dksX3_isLetter_0 15 rfl rfl)
theorem dX3_isLetter_18 : decode cX3_isLetter 18 = .ok (.iload_n 0, 1) := dk_26 (dk_at dksX3_isLetter_0 18 rfl rfl)
theorem dX3_isLetter_19 : decode cX3_isLetter 19 = .ok (.bipush 90, 2) := dk_16 90 (dk_at dksX3_isLetter_0 19 rfl rfl)
theorem dX3_isLetter_21 : decode cX3_isLetter 21 = .ok (.if_icmp .gt 7, 3) := dk_163 0 7 (dk_at dksX3_isLetter_0 21 rfl rfl)
theorem dX3_isLetter_24 : decode cX3_isLetter 24 = .ok (.iconst 1, 1) := dk_4 (dk_at dksX3_isLetter_1 0 rfl rfl)
theorem dX3_isLetter_25 : decode cX3_isLetter 25 = .ok (.goto 4, 3) := dk_167 0 4 (dk_at dksX3_isLetter_1 1 rfl rfl)
theorem dX3_isLetter_28 : decode cX3_isLetter 28 = .ok (.iconst 0, 1) := dk_3 (dk_at dksX3_isLetter_1 4 rfl rfl)
theorem dX3_isLetter_29 : decode cX3_isLetter 29 = .ok (.ireturn, 1) := dk_172 (dk_at dksX3_isLetter_1 5 rfl rfl)
abbrev cX3_isWord : ByteArray := prog_12_method_5_code
def yX3_isWord : MethodName := ⟨RX3, "isWord", "(Ljava/lang/String;)Z"⟩
def dkwX3_isWord_2 : List UInt8 := [159, 0, 5, 3, 172, 132, 2, 1, 167, 255, 224, 4, 172]
abbrev dktX3_isWord_2 : List UInt8 := dkwX3_isWord_2 ++ []
def dkwX3_isWord_1 : List UInt8 := [182, 0, 55, 162, 0, 30, 42, 180, 0, 9, 42, 180, 0, 22, 28, 96, 51, 43, 28, 182, 0, 61]
abbrev dktX3_isWord_1 : List UInt8 := dkwX3_isWord_1 ++ dktX3_isWord_2
def dkwX3_isWord_0 : List UInt8 := [42, 180, 0, 19, 42, 180, 0, 22, 100, 43, 182, 0, 55, 159, 0, 5, 3, 172, 3, 61, 28, 43]
abbrev dktX3_isWord_0 : List UInt8 := dkwX3_isWord_0 ++ dktX3_isWord_1
theorem dksX3_isWord_0 : cX3_isWord.data.toList.drop 0 = dktX3_isWord_0 := by decide +kernel
theorem dksX3_isWord_1 : cX3_isWord.data.toList.drop 22 = dktX3_isWord_1 := dk_seg dksX3_isWord_0 22 rfl rfl
theorem dksX3_isWord_2 : cX3_isWord.data.toList.drop 44 = dktX3_isWord_2 := dk_seg dksX3_isWord_1 22 rfl rfl
theorem dX3_isWord_0 : decode cX3_isWord 0 = .ok (.aload_n 0, 1) := dk_42 (dk_at dksX3_isWord_0 0 rfl rfl)
theorem dX3_isWord_1 : decode cX3_isWord 1 = .ok (.getfield 19, 3) := dk_180 0 19 (dk_at dksX3_isWord_0 1 rfl rfl)
theorem dX3_isWord_4 : decode cX3_isWord 4 = .ok (.aload_n 0, 1) := dk_42 (dk_at dksX3_isWord_0 4 rfl rfl)
theorem dX3_isWord_5 : decode cX3_isWord 5 = .ok (.getfield 22, 3) := dk_180 0 22 (dk_at dksX3_isWord_0 5 rfl rfl)
theorem dX3_isWord_8 : decode cX3_isWord 8 = .ok (.isub, 1) := dk_100 (dk_at dksX3_isWord_0 8 rfl rfl)
theorem dX3_isWord_9 : decode cX3_isWord 9 = .ok (.aload_n 1, 1) := dk_43 (dk_at dksX3_isWord_0 9 rfl rfl)
theorem dX3_isWord_10 : decode cX3_isWord 10 = .ok (.invokevirtual 55, 3) := dk_182 0 55 (dk_at dksX3_isWord_0 10 rfl rfl)
theorem dX3_isWord_13 : decode cX3_isWord 13 = .ok (.if_icmp .eq 5, 3) := dk_159 0 5 (dk_at dksX3_isWord_0 13 rfl rfl)
theorem dX3_isWord_16 : decode cX3_isWord 16 = .ok (.iconst 0, 1) := dk_3 (dk_at dksX3_isWord_0 16 rfl rfl)
theorem dX3_isWord_17 : decode cX3_isWord 17 = .ok (.ireturn, 1) := dk_172 (dk_at dksX3_isWord_0 17 rfl rfl)
theorem dX3_isWord_18 : decode cX3_isWord 18 = .ok (.iconst 0, 1) := dk_3 (dk_at dksX3_isWord_0 18 rfl rfl)
theorem dX3_isWord_19 : decode cX3_isWord 19 = .ok (.istore_n 2, 1) := dk_61 (dk_at dksX3_isWord_0 19 rfl rfl)
theorem dX3_isWord_20 : decode cX3_isWord 20 = .ok (.iload_n 2, 1) := dk_28 (dk_at dksX3_isWord_0 20 rfl rfl)
theorem dX3_isWord_21 : decode cX3_isWord 21 = .ok (.aload_n 1, 1) := dk_43 (dk_at dksX3_isWord_0 21 rfl rfl)
theorem dX3_isWord_22 : decode cX3_isWord 22 = .ok (.invokevirtual 55, 3) := dk_182 0 55 (dk_at dksX3_isWord_1 0 rfl rfl)
theorem dX3_isWord_25 : decode cX3_isWord 25 = .ok (.if_icmp .ge 30, 3) := dk_162 0 30 (dk_at dksX3_isWord_1 3 rfl rfl)
theorem dX3_isWord_28 : decode cX3_isWord 28 = .ok (.aload_n 0, 1) := dk_42 (dk_at dksX3_isWord_1 6 rfl rfl)
theorem dX3_isWord_29 : decode cX3_isWord 29 = .ok (.getfield 9, 3) := dk_180 0 9 (dk_at dksX3_isWord_1 7 rfl rfl)
theorem dX3_isWord_32 : decode cX3_isWord 32 = .ok (.aload_n 0, 1) := dk_42 (dk_at dksX3_isWord_1 10 rfl rfl)
theorem dX3_isWord_33 : decode cX3_isWord 33 = .ok (.getfield 22, 3) := dk_180 0 22 (dk_at dksX3_isWord_1 11 rfl rfl)
theorem dX3_isWord_36 : decode cX3_isWord 36 = .ok (.iload_n 2, 1) := dk_28 (dk_at dksX3_isWord_1 14 rfl rfl)
theorem dX3_isWord_37 : decode cX3_isWord 37 = .ok (.iadd, 1) := dk_96 (dk_at dksX3_isWord_1 15 rfl rfl)
theorem dX3_isWord_38 : decode cX3_isWord 38 = .ok (.baload, 1) := dk_51 (dk_at dksX3_isWord_1 16 rfl rfl)
theorem dX3_isWord_39 : decode cX3_isWord 39 = .ok (.aload_n 1, 1) := dk_43 (dk_at dksX3_isWord_1 17 rfl rfl)
theorem dX3_isWord_40 : decode cX3_isWord 40 = .ok (.iload_n 2, 1) := dk_28 (dk_at dksX3_isWord_1 18 rfl rfl)
theorem dX3_isWord_41 : decode cX3_isWord 41 = .ok (.invokevirtual 61, 3) := dk_182 0 61 (dk_at dksX3_isWord_1 19 rfl rfl)
theorem dX3_isWord_44 : decode cX3_isWord 44 = .ok (.if_icmp .eq 5, 3) := dk_159 0 5 (dk_at dksX3_isWord_2 0 rfl rfl)
theorem dX3_isWord_47 : decode cX3_isWord 47 = .ok (.iconst 0, 1) := dk_3 (dk_at dksX3_isWord_2 3 rfl rfl)
theorem dX3_isWord_48 : decode cX3_isWord 48 = .ok (.ireturn, 1) := dk_172 (dk_at dksX3_isWord_2 4 rfl rfl)
theorem dX3_isWord_49 : decode cX3_isWord 49 = .ok (.iinc 2 1, 3) := dk_132 2 1 (dk_at dksX3_isWord_2 5 rfl rfl)
theorem dX3_isWord_52 : decode cX3_isWord 52 = .ok (.goto (-32), 3) := dk_167 255 224 (dk_at dksX3_isWord_2 8 rfl rfl)
theorem dX3_isWord_55 : decode cX3_isWord 55 = .ok (.iconst 1, 1) := dk_4 (dk_at dksX3_isWord_2 11 rfl rfl)
theorem dX3_isWord_56 : decode cX3_isWord 56 = .ok (.ireturn, 1) := dk_172 (dk_at dksX3_isWord_2 12 rfl rfl)
abbrev cX3_isDigit : ByteArray := prog_12_method_3_code
def yX3_isDigit : MethodName := ⟨RX3, "isDigit", "(I)Z"⟩
def dkwX3_isDigit_0 : List UInt8 := [26, 16, 48, 161, 0, 13, 26, 16, 57, 163, 0, 7, 4, 167, 0, 4, 3, 172]
abbrev dktX3_isDigit_0 : List UInt8 := dkwX3_isDigit_0 ++ []
theorem dksX3_isDigit_0 : cX3_isDigit.data.toList.drop 0 = dktX3_isDigit_0 := by decide +kernel
theorem dX3_isDigit_0 : decode cX3_isDigit 0 = .ok (.iload_n 0, 1) := dk_26 (dk_at dksX3_isDigit_0 0 rfl rfl)
theorem dX3_isDigit_1 : decode cX3_isDigit 1 = .ok (.bipush 48, 2) := dk_16 48 (dk_at dksX3_isDigit_0 1 rfl rfl)
theorem dX3_isDigit_3 : decode cX3_isDigit 3 = .ok (.if_icmp .lt 13, 3) := dk_161 0 13 (dk_at dksX3_isDigit_0 3 rfl rfl)
theorem dX3_isDigit_6 : decode cX3_isDigit 6 = .ok (.iload_n 0, 1) := dk_26 (dk_at dksX3_isDigit_0 6 rfl rfl)
theorem dX3_isDigit_7 : decode cX3_isDigit 7 = .ok (.bipush 57, 2) := dk_16 57 (dk_at dksX3_isDigit_0 7 rfl rfl)
theorem dX3_isDigit_9 : decode cX3_isDigit 9 = .ok (.if_icmp .gt 7, 3) := dk_163 0 7 (dk_at dksX3_isDigit_0 9 rfl rfl)
theorem dX3_isDigit_12 : decode cX3_isDigit 12 = .ok (.iconst 1, 1) := dk_4 (dk_at dksX3_isDigit_0 12 rfl rfl)
theorem dX3_isDigit_13 : decode cX3_isDigit 13 = .ok (.goto 4, 3) := dk_167 0 4 (dk_at dksX3_isDigit_0 13 rfl rfl)
theorem dX3_isDigit_16 : decode cX3_isDigit 16 = .ok (.iconst 0, 1) := dk_3 (dk_at dksX3_isDigit_0 16 rfl rfl)
theorem dX3_isDigit_17 : decode cX3_isDigit 17 = .ok (.ireturn, 1) := dk_172 (dk_at dksX3_isDigit_0 17 rfl rfl)
abbrev cX3_wrong : ByteArray := prog_12_method_6_code
def yX3_wrong : MethodName := ⟨RX3, "wrong", "(I)LAgainstFeather$Wrong;"⟩
def dkwX3_wrong_0 : List UInt8 := [187, 0, 65, 89, 27, 42, 180, 0, 22, 183, 0, 67, 176]
abbrev dktX3_wrong_0 : List UInt8 := dkwX3_wrong_0 ++ []
theorem dksX3_wrong_0 : cX3_wrong.data.toList.drop 0 = dktX3_wrong_0 := by decide +kernel
theorem dX3_wrong_0 : decode cX3_wrong 0 = .ok (.new 65, 3) := dk_187 0 65 (dk_at dksX3_wrong_0 0 rfl rfl)
theorem dX3_wrong_3 : decode cX3_wrong 3 = .ok (.dup, 1) := dk_89 (dk_at dksX3_wrong_0 3 rfl rfl)
theorem dX3_wrong_4 : decode cX3_wrong 4 = .ok (.iload_n 1, 1) := dk_27 (dk_at dksX3_wrong_0 4 rfl rfl)
theorem dX3_wrong_5 : decode cX3_wrong 5 = .ok (.aload_n 0, 1) := dk_42 (dk_at dksX3_wrong_0 5 rfl rfl)
theorem dX3_wrong_6 : decode cX3_wrong 6 = .ok (.getfield 22, 3) := dk_180 0 22 (dk_at dksX3_wrong_0 6 rfl rfl)
theorem dX3_wrong_9 : decode cX3_wrong 9 = .ok (.invokespecial 67, 3) := dk_183 0 67 (dk_at dksX3_wrong_0 9 rfl rfl)
theorem dX3_wrong_12 : decode cX3_wrong 12 = .ok (.areturn, 1) := dk_176 (dk_at dksX3_wrong_0 12 rfl rfl)
abbrev cX3_sum : ByteArray := prog_12_method_17_code
def yX3_sum : MethodName := ⟨RX3, "sum", "()LAgainstFeather$Sum;"⟩
def dkwX3_sum_2 : List UInt8 := [182, 0, 139, 167, 255, 220, 43, 182, 0, 142, 176]
abbrev dktX3_sum_2 : List UInt8 := dkwX3_sum_2 ++ []
def dkwX3_sum_1 : List UInt8 := [180, 0, 25, 16, 45, 160, 0, 24, 42, 180, 0, 25, 61, 42, 182, 0, 74, 43, 28, 42, 182, 0, 133]
abbrev dktX3_sum_1 : List UInt8 := dkwX3_sum_1 ++ dktX3_sum_2
def dkwX3_sum_0 : List UInt8 := [187, 0, 131, 89, 42, 182, 0, 133, 183, 0, 136, 76, 42, 180, 0, 25, 16, 43, 159, 0, 12, 42]
abbrev dktX3_sum_0 : List UInt8 := dkwX3_sum_0 ++ dktX3_sum_1
theorem dksX3_sum_0 : cX3_sum.data.toList.drop 0 = dktX3_sum_0 := by decide +kernel
theorem dksX3_sum_1 : cX3_sum.data.toList.drop 22 = dktX3_sum_1 := dk_seg dksX3_sum_0 22 rfl rfl
theorem dksX3_sum_2 : cX3_sum.data.toList.drop 45 = dktX3_sum_2 := dk_seg dksX3_sum_1 23 rfl rfl
theorem dX3_sum_0 : decode cX3_sum 0 = .ok (.new 131, 3) := dk_187 0 131 (dk_at dksX3_sum_0 0 rfl rfl)
theorem dX3_sum_3 : decode cX3_sum 3 = .ok (.dup, 1) := dk_89 (dk_at dksX3_sum_0 3 rfl rfl)
theorem dX3_sum_4 : decode cX3_sum 4 = .ok (.aload_n 0, 1) := dk_42 (dk_at dksX3_sum_0 4 rfl rfl)
theorem dX3_sum_5 : decode cX3_sum 5 = .ok (.invokevirtual 133, 3) := dk_182 0 133 (dk_at dksX3_sum_0 5 rfl rfl)
theorem dX3_sum_8 : decode cX3_sum 8 = .ok (.invokespecial 136, 3) := dk_183 0 136 (dk_at dksX3_sum_0 8 rfl rfl)
theorem dX3_sum_11 : decode cX3_sum 11 = .ok (.astore_n 1, 1) := dk_76 (dk_at dksX3_sum_0 11 rfl rfl)
theorem dX3_sum_12 : decode cX3_sum 12 = .ok (.aload_n 0, 1) := dk_42 (dk_at dksX3_sum_0 12 rfl rfl)
theorem dX3_sum_13 : decode cX3_sum 13 = .ok (.getfield 25, 3) := dk_180 0 25 (dk_at dksX3_sum_0 13 rfl rfl)
theorem dX3_sum_16 : decode cX3_sum 16 = .ok (.bipush 43, 2) := dk_16 43 (dk_at dksX3_sum_0 16 rfl rfl)
theorem dX3_sum_18 : decode cX3_sum 18 = .ok (.if_icmp .eq 12, 3) := dk_159 0 12 (dk_at dksX3_sum_0 18 rfl rfl)
theorem dX3_sum_21 : decode cX3_sum 21 = .ok (.aload_n 0, 1) := dk_42 (dk_at dksX3_sum_0 21 rfl rfl)
theorem dX3_sum_22 : decode cX3_sum 22 = .ok (.getfield 25, 3) := dk_180 0 25 (dk_at dksX3_sum_1 0 rfl rfl)
theorem dX3_sum_25 : decode cX3_sum 25 = .ok (.bipush 45, 2) := dk_16 45 (dk_at dksX3_sum_1 3 rfl rfl)
theorem dX3_sum_27 : decode cX3_sum 27 = .ok (.if_icmp .ne 24, 3) := dk_160 0 24 (dk_at dksX3_sum_1 5 rfl rfl)
theorem dX3_sum_30 : decode cX3_sum 30 = .ok (.aload_n 0, 1) := dk_42 (dk_at dksX3_sum_1 8 rfl rfl)
theorem dX3_sum_31 : decode cX3_sum 31 = .ok (.getfield 25, 3) := dk_180 0 25 (dk_at dksX3_sum_1 9 rfl rfl)
theorem dX3_sum_34 : decode cX3_sum 34 = .ok (.istore_n 2, 1) := dk_61 (dk_at dksX3_sum_1 12 rfl rfl)
theorem dX3_sum_35 : decode cX3_sum 35 = .ok (.aload_n 0, 1) := dk_42 (dk_at dksX3_sum_1 13 rfl rfl)
theorem dX3_sum_36 : decode cX3_sum 36 = .ok (.invokevirtual 74, 3) := dk_182 0 74 (dk_at dksX3_sum_1 14 rfl rfl)
theorem dX3_sum_39 : decode cX3_sum 39 = .ok (.aload_n 1, 1) := dk_43 (dk_at dksX3_sum_1 17 rfl rfl)
theorem dX3_sum_40 : decode cX3_sum 40 = .ok (.iload_n 2, 1) := dk_28 (dk_at dksX3_sum_1 18 rfl rfl)
theorem dX3_sum_41 : decode cX3_sum 41 = .ok (.aload_n 0, 1) := dk_42 (dk_at dksX3_sum_1 19 rfl rfl)
theorem dX3_sum_42 : decode cX3_sum 42 = .ok (.invokevirtual 133, 3) := dk_182 0 133 (dk_at dksX3_sum_1 20 rfl rfl)
theorem dX3_sum_45 : decode cX3_sum 45 = .ok (.invokevirtual 139, 3) := dk_182 0 139 (dk_at dksX3_sum_2 0 rfl rfl)
theorem dX3_sum_48 : decode cX3_sum 48 = .ok (.goto (-36), 3) := dk_167 255 220 (dk_at dksX3_sum_2 3 rfl rfl)
theorem dX3_sum_51 : decode cX3_sum 51 = .ok (.aload_n 1, 1) := dk_43 (dk_at dksX3_sum_2 6 rfl rfl)
theorem dX3_sum_52 : decode cX3_sum 52 = .ok (.invokevirtual 142, 3) := dk_182 0 142 (dk_at dksX3_sum_2 7 rfl rfl)
theorem dX3_sum_55 : decode cX3_sum 55 = .ok (.areturn, 1) := dk_176 (dk_at dksX3_sum_2 10 rfl rfl)
abbrev cX3_product : ByteArray := prog_12_method_18_code
def yX3_product : MethodName := ⟨RX3, "product", "()LAgainstFeather$Sum;"⟩
def dkwX3_product_2 : List UInt8 := [182, 0, 139, 167, 255, 220, 43, 182, 0, 142, 176]
abbrev dktX3_product_2 : List UInt8 := dkwX3_product_2 ++ []
def dkwX3_product_1 : List UInt8 := [180, 0, 25, 16, 47, 160, 0, 24, 42, 180, 0, 25, 61, 42, 182, 0, 74, 43, 28, 42, 182, 0, 145]
abbrev dktX3_product_1 : List UInt8 := dkwX3_product_1 ++ dktX3_product_2
def dkwX3_product_0 : List UInt8 := [187, 0, 131, 89, 42, 182, 0, 145, 183, 0, 136, 76, 42, 180, 0, 25, 16, 42, 159, 0, 12, 42]
abbrev dktX3_product_0 : List UInt8 := dkwX3_product_0 ++ dktX3_product_1
theorem dksX3_product_0 : cX3_product.data.toList.drop 0 = dktX3_product_0 := by decide +kernel
theorem dksX3_product_1 : cX3_product.data.toList.drop 22 = dktX3_product_1 := dk_seg dksX3_product_0 22 rfl rfl
theorem dksX3_product_2 : cX3_product.data.toList.drop 45 = dktX3_product_2 := dk_seg dksX3_product_1 23 rfl rfl
theorem dX3_product_0 : decode cX3_product 0 = .ok (.new 131, 3) := dk_187 0 131 (dk_at dksX3_product_0 0 rfl rfl)
theorem dX3_product_3 : decode cX3_product 3 = .ok (.dup, 1) := dk_89 (dk_at dksX3_product_0 3 rfl rfl)
theorem dX3_product_4 : decode cX3_product 4 = .ok (.aload_n 0, 1) := dk_42 (dk_at dksX3_product_0 4 rfl rfl)
theorem dX3_product_5 : decode cX3_product 5 = .ok (.invokevirtual 145, 3) := dk_182 0 145 (dk_at dksX3_product_0 5 rfl rfl)
theorem dX3_product_8 : decode cX3_product 8 = .ok (.invokespecial 136, 3) := dk_183 0 136 (dk_at dksX3_product_0 8 rfl rfl)
theorem dX3_product_11 : decode cX3_product 11 = .ok (.astore_n 1, 1) := dk_76 (dk_at dksX3_product_0 11 rfl rfl)
theorem dX3_product_12 : decode cX3_product 12 = .ok (.aload_n 0, 1) := dk_42 (dk_at dksX3_product_0 12 rfl rfl)
theorem dX3_product_13 : decode cX3_product 13 = .ok (.getfield 25, 3) := dk_180 0 25 (dk_at dksX3_product_0 13 rfl rfl)
theorem dX3_product_16 : decode cX3_product 16 = .ok (.bipush 42, 2) := dk_16 42 (dk_at dksX3_product_0 16 rfl rfl)
theorem dX3_product_18 : decode cX3_product 18 = .ok (.if_icmp .eq 12, 3) := dk_159 0 12 (dk_at dksX3_product_0 18 rfl rfl)
theorem dX3_product_21 : decode cX3_product 21 = .ok (.aload_n 0, 1) := dk_42 (dk_at dksX3_product_0 21 rfl rfl)
theorem dX3_product_22 : decode cX3_product 22 = .ok (.getfield 25, 3) := dk_180 0 25 (dk_at dksX3_product_1 0 rfl rfl)
theorem dX3_product_25 : decode cX3_product 25 = .ok (.bipush 47, 2) := dk_16 47 (dk_at dksX3_product_1 3 rfl rfl)
theorem dX3_product_27 : decode cX3_product 27 = .ok (.if_icmp .ne 24, 3) := dk_160 0 24 (dk_at dksX3_product_1 5 rfl rfl)
theorem dX3_product_30 : decode cX3_product 30 = .ok (.aload_n 0, 1) := dk_42 (dk_at dksX3_product_1 8 rfl rfl)
theorem dX3_product_31 : decode cX3_product 31 = .ok (.getfield 25, 3) := dk_180 0 25 (dk_at dksX3_product_1 9 rfl rfl)
theorem dX3_product_34 : decode cX3_product 34 = .ok (.istore_n 2, 1) := dk_61 (dk_at dksX3_product_1 12 rfl rfl)
theorem dX3_product_35 : decode cX3_product 35 = .ok (.aload_n 0, 1) := dk_42 (dk_at dksX3_product_1 13 rfl rfl)
theorem dX3_product_36 : decode cX3_product 36 = .ok (.invokevirtual 74, 3) := dk_182 0 74 (dk_at dksX3_product_1 14 rfl rfl)
theorem dX3_product_39 : decode cX3_product 39 = .ok (.aload_n 1, 1) := dk_43 (dk_at dksX3_product_1 17 rfl rfl)
theorem dX3_product_40 : decode cX3_product 40 = .ok (.iload_n 2, 1) := dk_28 (dk_at dksX3_product_1 18 rfl rfl)
theorem dX3_product_41 : decode cX3_product 41 = .ok (.aload_n 0, 1) := dk_42 (dk_at dksX3_product_1 19 rfl rfl)
theorem dX3_product_42 : decode cX3_product 42 = .ok (.invokevirtual 145, 3) := dk_182 0 145 (dk_at dksX3_product_1 20 rfl rfl)
theorem dX3_product_45 : decode cX3_product 45 = .ok (.invokevirtual 139, 3) := dk_182 0 139 (dk_at dksX3_product_2 0 rfl rfl)
theorem dX3_product_48 : decode cX3_product 48 = .ok (.goto (-36), 3) := dk_167 255 220 (dk_at dksX3_product_2 3 rfl rfl)
theorem dX3_product_51 : decode cX3_product 51 = .ok (.aload_n 1, 1) := dk_43 (dk_at dksX3_product_2 6 rfl rfl)
theorem dX3_product_52 : decode cX3_product 52 = .ok (.invokevirtual 142, 3) := dk_182 0 142 (dk_at dksX3_product_2 7 rfl rfl)
theorem dX3_product_55 : decode cX3_product 55 = .ok (.areturn, 1) := dk_176 (dk_at dksX3_product_2 10 rfl rfl)
abbrev cX3_one : ByteArray := prog_12_method_19_code
def yX3_one : MethodName := ⟨RX3, "one", "()LAgainstFeather$Sum;"⟩
def dkwX3_one_7 : List UInt8 := [16, 124, 160, 0, 14, 187, 0, 167, 89, 45, 183, 0, 169, 167, 0, 4, 45, 176]
abbrev dktX3_one_7 : List UInt8 := dkwX3_one_7 ++ []
def dkwX3_one_6 : List UInt8 := [160, 0, 8, 16, 41, 167, 0, 5, 16, 124, 182, 0, 111, 42, 89, 180, 0, 77, 4, 100, 181, 0, 77, 28]
abbrev dktX3_one_6 : List UInt8 := dkwX3_one_6 ++ dktX3_one_7
def dkwX3_one_5 : List UInt8 := [182, 0, 145, 183, 0, 166, 167, 0, 7, 42, 182, 0, 93, 78, 28, 16, 45, 159, 0, 20, 42, 28, 16, 40]
abbrev dktX3_one_5 : List UInt8 := dkwX3_one_5 ++ dktX3_one_6
def dkwX3_one_4 : List UInt8 := [182, 0, 70, 191, 42, 180, 0, 25, 61, 42, 182, 0, 161, 28, 16, 45, 160, 0, 17, 187, 0, 164, 89, 42]
abbrev dktX3_one_4 : List UInt8 := dkwX3_one_4 ++ dktX3_one_5
def dkwX3_one_3 : List UInt8 := [159, 0, 27, 42, 180, 0, 25, 16, 45, 159, 0, 18, 42, 180, 0, 25, 16, 124, 159, 0, 9, 42, 4]
abbrev dktX3_one_3 : List UInt8 := dkwX3_one_3 ++ dktX3_one_4
def dkwX3_one_2 : List UInt8 := [182, 0, 70, 191, 42, 182, 0, 74, 187, 0, 158, 89, 27, 183, 0, 160, 176, 42, 180, 0, 25, 16, 40]
abbrev dktX3_one_2 : List UInt8 := dkwX3_one_2 ++ dktX3_one_3
def dkwX3_one_1 : List UInt8 := [183, 0, 150, 176, 42, 182, 0, 152, 60, 27, 2, 159, 0, 30, 42, 27, 182, 0, 155, 154, 0, 9, 42, 8]
abbrev dktX3_one_1 : List UInt8 := dkwX3_one_1 ++ dktX3_one_2
def dkwX3_one_0 : List UInt8 := [42, 180, 0, 25, 17, 1, 44, 160, 0, 19, 187, 0, 148, 89, 42, 3, 17, 39, 15, 182, 0, 115]
abbrev dktX3_one_0 : List UInt8 := dkwX3_one_0 ++ dktX3_one_1
theorem dksX3_one_0 : cX3_one.data.toList.drop 0 = dktX3_one_0 := by decide +kernel
theorem dksX3_one_1 : cX3_one.data.toList.drop 22 = dktX3_one_1 := dk_seg dksX3_one_0 22 rfl rfl
theorem dksX3_one_2 : cX3_one.data.toList.drop 46 = dktX3_one_2 := dk_seg dksX3_one_1 24 rfl rfl
theorem dksX3_one_3 : cX3_one.data.toList.drop 69 = dktX3_one_3 := dk_seg dksX3_one_2 23 rfl rfl
theorem dksX3_one_4 : cX3_one.data.toList.drop 92 = dktX3_one_4 := dk_seg dksX3_one_3 23 rfl rfl
theorem dksX3_one_5 : cX3_one.data.toList.drop 116 = dktX3_one_5 := dk_seg dksX3_one_4 24 rfl rfl
theorem dksX3_one_6 : cX3_one.data.toList.drop 140 = dktX3_one_6 := dk_seg dksX3_one_5 24 rfl rfl
theorem dksX3_one_7 : cX3_one.data.toList.drop 164 = dktX3_one_7 := dk_seg dksX3_one_6 24 rfl rfl
theorem dX3_one_0 : decode cX3_one 0 = .ok (.aload_n 0, 1) := dk_42 (dk_at dksX3_one_0 0 rfl rfl)
theorem dX3_one_1 : decode cX3_one 1 = .ok (.getfield 25, 3) := dk_180 0 25 (dk_at dksX3_one_0 1 rfl rfl)
theorem dX3_one_4 : decode cX3_one 4 = .ok (.sipush 300, 3) := dk_17 1 44 (dk_at dksX3_one_0 4 rfl rfl)
theorem dX3_one_7 : decode cX3_one 7 = .ok (.if_icmp .ne 19, 3) := dk_160 0 19 (dk_at dksX3_one_0 7 rfl rfl)
theorem dX3_one_10 : decode cX3_one 10 = .ok (.new 148, 3) := dk_187 0 148 (dk_at dksX3_one_0 10 rfl rfl)
theorem dX3_one_13 : decode cX3_one 13 = .ok (.dup, 1) := dk_89 (dk_at dksX3_one_0 13 rfl rfl)
theorem dX3_one_14 : decode cX3_one 14 = .ok (.aload_n 0, 1) := dk_42 (dk_at dksX3_one_0 14 rfl rfl)
theorem dX3_one_15 : decode cX3_one 15 = .ok (.iconst 0, 1) := dk_3 (dk_at dksX3_one_0 15 rfl rfl)
theorem dX3_one_16 : decode cX3_one 16 = .ok (.sipush 9999, 3) := dk_17 39 15 (dk_at dksX3_one_0 16 rfl rfl)
theorem dX3_one_19 : decode cX3_one 19 = .ok (.invokevirtual 115, 3) := dk_182 0 115 (dk_at dksX3_one_0 19 rfl rfl)
theorem dX3_one_22 : decode cX3_one 22 = .ok (.invokespecial 150, 3) := dk_183 0 150 (dk_at dksX3_one_1 0 rfl rfl)
theorem dX3_one_25 : decode cX3_one 25 = .ok (.areturn, 1) := dk_176 (dk_at dksX3_one_1 3 rfl rfl)
theorem dX3_one_26 : decode cX3_one 26 = .ok (.aload_n 0, 1) := dk_42 (dk_at dksX3_one_1 4 rfl rfl)
theorem dX3_one_27 : decode cX3_one 27 = .ok (.invokevirtual 152, 3) := dk_182 0 152 (dk_at dksX3_one_1 5 rfl rfl)
theorem dX3_one_30 : decode cX3_one 30 = .ok (.istore_n 1, 1) := dk_60 (dk_at dksX3_one_1 8 rfl rfl)
theorem dX3_one_31 : decode cX3_one 31 = .ok (.iload_n 1, 1) := dk_27 (dk_at dksX3_one_1 9 rfl rfl)
theorem dX3_one_32 : decode cX3_one 32 = .ok (.iconst (-1), 1) := dk_2 (dk_at dksX3_one_1 10 rfl rfl)
theorem dX3_one_33 : decode cX3_one 33 = .ok (.if_icmp .eq 30, 3) := dk_159 0 30 (dk_at dksX3_one_1 11 rfl rfl)
theorem dX3_one_36 : decode cX3_one 36 = .ok (.aload_n 0, 1) := dk_42 (dk_at dksX3_one_1 14 rfl rfl)
theorem dX3_one_37 : decode cX3_one 37 = .ok (.iload_n 1, 1) := dk_27 (dk_at dksX3_one_1 15 rfl rfl)
theorem dX3_one_38 : decode cX3_one 38 = .ok (.invokevirtual 155, 3) := dk_182 0 155 (dk_at dksX3_one_1 16 rfl rfl)
theorem dX3_one_41 : decode cX3_one 41 = .ok (.ifCond .ne 9, 3) := dk_154 0 9 (dk_at dksX3_one_1 19 rfl rfl)
theorem dX3_one_44 : decode cX3_one 44 = .ok (.aload_n 0, 1) := dk_42 (dk_at dksX3_one_1 22 rfl rfl)
theorem dX3_one_45 : decode cX3_one 45 = .ok (.iconst 5, 1) := dk_8 (dk_at dksX3_one_1 23 rfl rfl)
theorem dX3_one_46 : decode cX3_one 46 = .ok (.invokevirtual 70, 3) := dk_182 0 70 (dk_at dksX3_one_2 0 rfl rfl)
theorem dX3_one_49 : decode cX3_one 49 = .ok (.athrow, 1) := dk_191 (dk_at dksX3_one_2 3 rfl rfl)
theorem dX3_one_50 : decode cX3_one 50 = .ok (.aload_n 0, 1) := dk_42 (dk_at dksX3_one_2 4 rfl rfl)
theorem dX3_one_51 : decode cX3_one 51 = .ok (.invokevirtual 74, 3) := dk_182 0 74 (dk_at dksX3_one_2 5 rfl rfl)
theorem dX3_one_54 : decode cX3_one 54 = .ok (.new 158, 3) := dk_187 0 158 (dk_at dksX3_one_2 8 rfl rfl)
theorem dX3_one_57 : decode cX3_one 57 = .ok (.dup, 1) := dk_89 (dk_at dksX3_one_2 11 rfl rfl)
theorem dX3_one_58 : decode cX3_one 58 = .ok (.iload_n 1, 1) := dk_27 (dk_at dksX3_one_2 12 rfl rfl)
theorem dX3_one_59 : decode cX3_one 59 = .ok (.invokespecial 160, 3) := dk_183 0 160 (dk_at dksX3_one_2 13 rfl rfl)
theorem dX3_one_62 : decode cX3_one 62 = .ok (.areturn, 1) := dk_176 (dk_at dksX3_one_2 16 rfl rfl)
theorem dX3_one_63 : decode cX3_one 63 = .ok (.aload_n 0, 1) := dk_42 (dk_at dksX3_one_2 17 rfl rfl)
theorem dX3_one_64 : decode cX3_one 64 = .ok (.getfield 25, 3) := dk_180 0 25 (dk_at dksX3_one_2 18 rfl rfl)
theorem dX3_one_67 : decode cX3_one 67 = .ok (.bipush 40, 2) := dk_16 40 (dk_at dksX3_one_2 21 rfl rfl)
theorem dX3_one_69 : decode cX3_one 69 = .ok (.if_icmp .eq 27, 3) := dk_159 0 27 (dk_at dksX3_one_3 0 rfl rfl)
theorem dX3_one_72 : decode cX3_one 72 = .ok (.aload_n 0, 1) := dk_42 (dk_at dksX3_one_3 3 rfl rfl)
theorem dX3_one_73 : decode cX3_one 73 = .ok (.getfield 25, 3) := dk_180 0 25 (dk_at dksX3_one_3 4 rfl rfl)
theorem dX3_one_76 : decode cX3_one 76 = .ok (.bipush 45, 2) := dk_16 45 (dk_at dksX3_one_3 7 rfl rfl)
theorem dX3_one_78 : decode cX3_one 78 = .ok (.if_icmp .eq 18, 3) := dk_159 0 18 (dk_at dksX3_one_3 9 rfl rfl)
theorem dX3_one_81 : decode cX3_one 81 = .ok (.aload_n 0, 1) := dk_42 (dk_at dksX3_one_3 12 rfl rfl)
theorem dX3_one_82 : decode cX3_one 82 = .ok (.getfield 25, 3) := dk_180 0 25 (dk_at dksX3_one_3 13 rfl rfl)
theorem dX3_one_85 : decode cX3_one 85 = .ok (.bipush 124, 2) := dk_16 124 (dk_at dksX3_one_3 16 rfl rfl)
theorem dX3_one_87 : decode cX3_one 87 = .ok (.if_icmp .eq 9, 3) := dk_159 0 9 (dk_at dksX3_one_3 18 rfl rfl)
theorem dX3_one_90 : decode cX3_one 90 = .ok (.aload_n 0, 1) := dk_42 (dk_at dksX3_one_3 21 rfl rfl)
theorem dX3_one_91 : decode cX3_one 91 = .ok (.iconst 1, 1) := dk_4 (dk_at dksX3_one_3 22 rfl rfl)
theorem dX3_one_92 : decode cX3_one 92 = .ok (.invokevirtual 70, 3) := dk_182 0 70 (dk_at dksX3_one_4 0 rfl rfl)
theorem dX3_one_95 : decode cX3_one 95 = .ok (.athrow, 1) := dk_191 (dk_at dksX3_one_4 3 rfl rfl)
theorem dX3_one_96 : decode cX3_one 96 = .ok (.aload_n 0, 1) := dk_42 (dk_at dksX3_one_4 4 rfl rfl)
theorem dX3_one_97 : decode cX3_one 97 = .ok (.getfield 25, 3) := dk_180 0 25 (dk_at dksX3_one_4 5 rfl rfl)
theorem dX3_one_100 : decode cX3_one 100 = .ok (.istore_n 2, 1) := dk_61 (dk_at dksX3_one_4 8 rfl rfl)
theorem dX3_one_101 : decode cX3_one 101 = .ok (.aload_n 0, 1) := dk_42 (dk_at dksX3_one_4 9 rfl rfl)
theorem dX3_one_102 : decode cX3_one 102 = .ok (.invokevirtual 161, 3) := dk_182 0 161 (dk_at dksX3_one_4 10 rfl rfl)
theorem dX3_one_105 : decode cX3_one 105 = .ok (.iload_n 2, 1) := dk_28 (dk_at dksX3_one_4 13 rfl rfl)
theorem dX3_one_106 : decode cX3_one 106 = .ok (.bipush 45, 2) := dk_16 45 (dk_at dksX3_one_4 14 rfl rfl)
theorem dX3_one_108 : decode cX3_one 108 = .ok (.if_icmp .ne 17, 3) := dk_160 0 17 (dk_at dksX3_one_4 16 rfl rfl)
theorem dX3_one_111 : decode cX3_one 111 = .ok (.new 164, 3) := dk_187 0 164 (dk_at dksX3_one_4 19 rfl rfl)
theorem dX3_one_114 : decode cX3_one 114 = .ok (.dup, 1) := dk_89 (dk_at dksX3_one_4 22 rfl rfl)
theorem dX3_one_115 : decode cX3_one 115 = .ok (.aload_n 0, 1) := dk_42 (dk_at dksX3_one_4 23 rfl rfl)
theorem dX3_one_116 : decode cX3_one 116 = .ok (.invokevirtual 145, 3) := dk_182 0 145 (dk_at dksX3_one_5 0 rfl rfl)
theorem dX3_one_119 : decode cX3_one 119 = .ok (.invokespecial 166, 3) := dk_183 0 166 (dk_at dksX3_one_5 3 rfl rfl)
theorem dX3_one_122 : decode cX3_one 122 = .ok (.goto 7, 3) := dk_167 0 7 (dk_at dksX3_one_5 6 rfl rfl)
theorem dX3_one_125 : decode cX3_one 125 = .ok (.aload_n 0, 1) := dk_42 (dk_at dksX3_one_5 9 rfl rfl)
theorem dX3_one_126 : decode cX3_one 126 = .ok (.invokevirtual 93, 3) := dk_182 0 93 (dk_at dksX3_one_5 10 rfl rfl)
theorem dX3_one_129 : decode cX3_one 129 = .ok (.astore_n 3, 1) := dk_78 (dk_at dksX3_one_5 13 rfl rfl)
theorem dX3_one_130 : decode cX3_one 130 = .ok (.iload_n 2, 1) := dk_28 (dk_at dksX3_one_5 14 rfl rfl)
theorem dX3_one_131 : decode cX3_one 131 = .ok (.bipush 45, 2) := dk_16 45 (dk_at dksX3_one_5 15 rfl rfl)
theorem dX3_one_133 : decode cX3_one 133 = .ok (.if_icmp .eq 20, 3) := dk_159 0 20 (dk_at dksX3_one_5 17 rfl rfl)
theorem dX3_one_136 : decode cX3_one 136 = .ok (.aload_n 0, 1) := dk_42 (dk_at dksX3_one_5 20 rfl rfl)
theorem dX3_one_137 : decode cX3_one 137 = .ok (.iload_n 2, 1) := dk_28 (dk_at dksX3_one_5 21 rfl rfl)
theorem dX3_one_138 : decode cX3_one 138 = .ok (.bipush 40, 2) := dk_16 40 (dk_at dksX3_one_5 22 rfl rfl)
theorem dX3_one_140 : decode cX3_one 140 = .ok (.if_icmp .ne 8, 3) := dk_160 0 8 (dk_at dksX3_one_6 0 rfl rfl)
theorem dX3_one_143 : decode cX3_one 143 = .ok (.bipush 41, 2) := dk_16 41 (dk_at dksX3_one_6 3 rfl rfl)
theorem dX3_one_145 : decode cX3_one 145 = .ok (.goto 5, 3) := dk_167 0 5 (dk_at dksX3_one_6 5 rfl rfl)
theorem dX3_one_148 : decode cX3_one 148 = .ok (.bipush 124, 2) := dk_16 124 (dk_at dksX3_one_6 8 rfl rfl)
theorem dX3_one_150 : decode cX3_one 150 = .ok (.invokevirtual 111, 3) := dk_182 0 111 (dk_at dksX3_one_6 10 rfl rfl)
theorem dX3_one_153 : decode cX3_one 153 = .ok (.aload_n 0, 1) := dk_42 (dk_at dksX3_one_6 13 rfl rfl)
theorem dX3_one_154 : decode cX3_one 154 = .ok (.dup, 1) := dk_89 (dk_at dksX3_one_6 14 rfl rfl)
theorem dX3_one_155 : decode cX3_one 155 = .ok (.getfield 77, 3) := dk_180 0 77 (dk_at dksX3_one_6 15 rfl rfl)
theorem dX3_one_158 : decode cX3_one 158 = .ok (.iconst 1, 1) := dk_4 (dk_at dksX3_one_6 18 rfl rfl)
theorem dX3_one_159 : decode cX3_one 159 = .ok (.isub, 1) := dk_100 (dk_at dksX3_one_6 19 rfl rfl)
theorem dX3_one_160 : decode cX3_one 160 = .ok (.putfield 77, 3) := dk_181 0 77 (dk_at dksX3_one_6 20 rfl rfl)
theorem dX3_one_163 : decode cX3_one 163 = .ok (.iload_n 2, 1) := dk_28 (dk_at dksX3_one_6 23 rfl rfl)
theorem dX3_one_164 : decode cX3_one 164 = .ok (.bipush 124, 2) := dk_16 124 (dk_at dksX3_one_7 0 rfl rfl)
theorem dX3_one_166 : decode cX3_one 166 = .ok (.if_icmp .ne 14, 3) := dk_160 0 14 (dk_at dksX3_one_7 2 rfl rfl)
theorem dX3_one_169 : decode cX3_one 169 = .ok (.new 167, 3) := dk_187 0 167 (dk_at dksX3_one_7 5 rfl rfl)
theorem dX3_one_172 : decode cX3_one 172 = .ok (.dup, 1) := dk_89 (dk_at dksX3_one_7 8 rfl rfl)
theorem dX3_one_173 : decode cX3_one 173 = .ok (.aload_n 3, 1) := dk_45 (dk_at dksX3_one_7 9 rfl rfl)
theorem dX3_one_174 : decode cX3_one 174 = .ok (.invokespecial 169, 3) := dk_183 0 169 (dk_at dksX3_one_7 10 rfl rfl)
theorem dX3_one_177 : decode cX3_one 177 = .ok (.goto 4, 3) := dk_167 0 4 (dk_at dksX3_one_7 13 rfl rfl)
theorem dX3_one_180 : decode cX3_one 180 = .ok (.aload_n 3, 1) := dk_45 (dk_at dksX3_one_7 16 rfl rfl)
theorem dX3_one_181 : decode cX3_one 181 = .ok (.areturn, 1) := dk_176 (dk_at dksX3_one_7 17 rfl rfl)
abbrev cX3_number : ByteArray := prog_12_method_8_code
def yX3_number : MethodName := ⟨RX3, "number", "(II)I"⟩
def dkwX3_number_2 : List UInt8 := [172]
abbrev dktX3_number_2 : List UInt8 := dkwX3_number_2 ++ []
def dkwX3_number_1 : List UInt8 := [42, 180, 0, 43, 28, 164, 0, 9, 42, 5, 182, 0, 70, 191, 42, 180, 0, 43, 62, 42, 182, 0, 74, 29]
abbrev dktX3_number_1 : List UInt8 := dkwX3_number_1 ++ dktX3_number_2
def dkwX3_number_0 : List UInt8 := [42, 180, 0, 25, 17, 1, 44, 159, 0, 9, 42, 4, 182, 0, 70, 191, 42, 180, 0, 43, 27, 161, 0, 11]
abbrev dktX3_number_0 : List UInt8 := dkwX3_number_0 ++ dktX3_number_1
theorem dksX3_number_0 : cX3_number.data.toList.drop 0 = dktX3_number_0 := by decide +kernel
theorem dksX3_number_1 : cX3_number.data.toList.drop 24 = dktX3_number_1 := dk_seg dksX3_number_0 24 rfl rfl
theorem dksX3_number_2 : cX3_number.data.toList.drop 48 = dktX3_number_2 := dk_seg dksX3_number_1 24 rfl rfl
theorem dX3_number_0 : decode cX3_number 0 = .ok (.aload_n 0, 1) := dk_42 (dk_at dksX3_number_0 0 rfl rfl)
theorem dX3_number_1 : decode cX3_number 1 = .ok (.getfield 25, 3) := dk_180 0 25 (dk_at dksX3_number_0 1 rfl rfl)
theorem dX3_number_4 : decode cX3_number 4 = .ok (.sipush 300, 3) := dk_17 1 44 (dk_at dksX3_number_0 4 rfl rfl)
theorem dX3_number_7 : decode cX3_number 7 = .ok (.if_icmp .eq 9, 3) := dk_159 0 9 (dk_at dksX3_number_0 7 rfl rfl)
theorem dX3_number_10 : decode cX3_number 10 = .ok (.aload_n 0, 1) := dk_42 (dk_at dksX3_number_0 10 rfl rfl)
theorem dX3_number_11 : decode cX3_number 11 = .ok (.iconst 1, 1) := dk_4 (dk_at dksX3_number_0 11 rfl rfl)
theorem dX3_number_12 : decode cX3_number 12 = .ok (.invokevirtual 70, 3) := dk_182 0 70 (dk_at dksX3_number_0 12 rfl rfl)
theorem dX3_number_15 : decode cX3_number 15 = .ok (.athrow, 1) := dk_191 (dk_at dksX3_number_0 15 rfl rfl)
theorem dX3_number_16 : decode cX3_number 16 = .ok (.aload_n 0, 1) := dk_42 (dk_at dksX3_number_0 16 rfl rfl)
theorem dX3_number_17 : decode cX3_number 17 = .ok (.getfield 43, 3) := dk_180 0 43 (dk_at dksX3_number_0 17 rfl rfl)
theorem dX3_number_20 : decode cX3_number 20 = .ok (.iload_n 1, 1) := dk_27 (dk_at dksX3_number_0 20 rfl rfl)
theorem dX3_number_21 : decode cX3_number 21 = .ok (.if_icmp .lt 11, 3) := dk_161 0 11 (dk_at dksX3_number_0 21 rfl rfl)
theorem dX3_number_24 : decode cX3_number 24 = .ok (.aload_n 0, 1) := dk_42 (dk_at dksX3_number_1 0 rfl rfl)
theorem dX3_number_25 : decode cX3_number 25 = .ok (.getfield 43, 3) := dk_180 0 43 (dk_at dksX3_number_1 1 rfl rfl)
theorem dX3_number_28 : decode cX3_number 28 = .ok (.iload_n 2, 1) := dk_28 (dk_at dksX3_number_1 4 rfl rfl)
theorem dX3_number_29 : decode cX3_number 29 = .ok (.if_icmp .le 9, 3) := dk_164 0 9 (dk_at dksX3_number_1 5 rfl rfl)
theorem dX3_number_32 : decode cX3_number 32 = .ok (.aload_n 0, 1) := dk_42 (dk_at dksX3_number_1 8 rfl rfl)
theorem dX3_number_33 : decode cX3_number 33 = .ok (.iconst 2, 1) := dk_5 (dk_at dksX3_number_1 9 rfl rfl)
theorem dX3_number_34 : decode cX3_number 34 = .ok (.invokevirtual 70, 3) := dk_182 0 70 (dk_at dksX3_number_1 10 rfl rfl)
theorem dX3_number_37 : decode cX3_number 37 = .ok (.athrow, 1) := dk_191 (dk_at dksX3_number_1 13 rfl rfl)
theorem dX3_number_38 : decode cX3_number 38 = .ok (.aload_n 0, 1) := dk_42 (dk_at dksX3_number_1 14 rfl rfl)
theorem dX3_number_39 : decode cX3_number 39 = .ok (.getfield 43, 3) := dk_180 0 43 (dk_at dksX3_number_1 15 rfl rfl)
theorem dX3_number_42 : decode cX3_number 42 = .ok (.istore_n 3, 1) := dk_62 (dk_at dksX3_number_1 18 rfl rfl)
theorem dX3_number_43 : decode cX3_number 43 = .ok (.aload_n 0, 1) := dk_42 (dk_at dksX3_number_1 19 rfl rfl)
theorem dX3_number_44 : decode cX3_number 44 = .ok (.invokevirtual 74, 3) := dk_182 0 74 (dk_at dksX3_number_1 20 rfl rfl)
theorem dX3_number_47 : decode cX3_number 47 = .ok (.iload_n 3, 1) := dk_29 (dk_at dksX3_number_1 23 rfl rfl)
theorem dX3_number_48 : decode cX3_number 48 = .ok (.ireturn, 1) := dk_172 (dk_at dksX3_number_2 0 rfl rfl)
abbrev cX3_nameNow : ByteArray := prog_12_method_15_code
def yX3_nameNow : MethodName := ⟨RX3, "nameNow", "()I"⟩
def dkwX3_nameNow_6 : List UInt8 := [17, 0, 228, 163, 0, 17, 42, 180, 0, 25, 17, 0, 226, 100, 16, 12, 96, 167, 0, 4, 2, 172]
abbrev dktX3_nameNow_6 : List UInt8 := dkwX3_nameNow_6 ++ []
def dkwX3_nameNow_5 : List UInt8 := [17, 0, 223, 100, 16, 8, 96, 167, 0, 38, 42, 180, 0, 25, 17, 0, 226, 161, 0, 27, 42, 180, 0, 25]
abbrev dktX3_nameNow_5 : List UInt8 := dkwX3_nameNow_5 ++ dktX3_nameNow_6
def dkwX3_nameNow_4 : List UInt8 := [180, 0, 25, 17, 0, 223, 159, 0, 13, 42, 180, 0, 25, 17, 0, 224, 160, 0, 17, 42, 180, 0, 25]
abbrev dktX3_nameNow_4 : List UInt8 := dkwX3_nameNow_4 ++ dktX3_nameNow_5
def dkwX3_nameNow_3 : List UInt8 := [42, 180, 0, 25, 17, 0, 222, 163, 0, 16, 42, 180, 0, 25, 17, 0, 219, 100, 7, 96, 167, 0, 72, 42]
abbrev dktX3_nameNow_3 : List UInt8 := dkwX3_nameNow_3 ++ dktX3_nameNow_4
def dkwX3_nameNow_2 : List UInt8 := [3, 172, 4, 172, 5, 172, 6, 172, 16, 11, 172, 16, 10, 172, 42, 180, 0, 25, 17, 0, 219, 161, 0, 26]
abbrev dktX3_nameNow_2 : List UInt8 := dkwX3_nameNow_2 ++ dktX3_nameNow_3
def dkwX3_nameNow_1 : List UInt8 := [171, 0, 0, 0, 0, 0, 0, 74, 0, 0, 0, 6, 0, 0, 0, 204, 0, 0, 0, 60, 0, 0, 0, 206, 0, 0, 0, 68, 0, 0, 0, 213, 0, 0, 0, 66, 0, 0, 0, 217, 0, 0, 0, 62, 0, 0, 0, 218, 0, 0, 0, 64, 0, 0, 0, 225, 0, 0, 0, 71]
abbrev dktX3_nameNow_1 : List UInt8 := dkwX3_nameNow_1 ++ dktX3_nameNow_2
def dkwX3_nameNow_0 : List UInt8 := [42, 180, 0, 25]
abbrev dktX3_nameNow_0 : List UInt8 := dkwX3_nameNow_0 ++ dktX3_nameNow_1
theorem dksX3_nameNow_0 : cX3_nameNow.data.toList.drop 0 = dktX3_nameNow_0 := by decide +kernel
theorem dksX3_nameNow_1 : cX3_nameNow.data.toList.drop 4 = dktX3_nameNow_1 := dk_seg dksX3_nameNow_0 4 rfl rfl
theorem dksX3_nameNow_2 : cX3_nameNow.data.toList.drop 64 = dktX3_nameNow_2 := dk_seg dksX3_nameNow_1 60 rfl rfl
theorem dksX3_nameNow_3 : cX3_nameNow.data.toList.drop 88 = dktX3_nameNow_3 := dk_seg dksX3_nameNow_2 24 rfl rfl
theorem dksX3_nameNow_4 : cX3_nameNow.data.toList.drop 112 = dktX3_nameNow_4 := dk_seg dksX3_nameNow_3 24 rfl rfl
theorem dksX3_nameNow_5 : cX3_nameNow.data.toList.drop 135 = dktX3_nameNow_5 := dk_seg dksX3_nameNow_4 23 rfl rfl
theorem dksX3_nameNow_6 : cX3_nameNow.data.toList.drop 159 = dktX3_nameNow_6 := dk_seg dksX3_nameNow_5 24 rfl rfl
theorem dX3_nameNow_0 : decode cX3_nameNow 0 = .ok (.aload_n 0, 1) := dk_42 (dk_at dksX3_nameNow_0 0 rfl rfl)
theorem dX3_nameNow_1 : decode cX3_nameNow 1 = .ok (.getfield 25, 3) := dk_180 0 25 (dk_at dksX3_nameNow_0 1 rfl rfl)
theorem dX3_nameNow_4 : decode cX3_nameNow 4 = .ok (.lookupswitch 74 #[(204, 60), (206, 68), (213, 66), (217, 62), (218, 64), (225, 71)], 60) := by decide +kernel
theorem dX3_nameNow_64 : decode cX3_nameNow 64 = .ok (.iconst 0, 1) := dk_3 (dk_at dksX3_nameNow_2 0 rfl rfl)
theorem dX3_nameNow_65 : decode cX3_nameNow 65 = .ok (.ireturn, 1) := dk_172 (dk_at dksX3_nameNow_2 1 rfl rfl)
theorem dX3_nameNow_66 : decode cX3_nameNow 66 = .ok (.iconst 1, 1) := dk_4 (dk_at dksX3_nameNow_2 2 rfl rfl)
theorem dX3_nameNow_67 : decode cX3_nameNow 67 = .ok (.ireturn, 1) := dk_172 (dk_at dksX3_nameNow_2 3 rfl rfl)
theorem dX3_nameNow_68 : decode cX3_nameNow 68 = .ok (.iconst 2, 1) := dk_5 (dk_at dksX3_nameNow_2 4 rfl rfl)
theorem dX3_nameNow_69 : decode cX3_nameNow 69 = .ok (.ireturn, 1) := dk_172 (dk_at dksX3_nameNow_2 5 rfl rfl)
theorem dX3_nameNow_70 : decode cX3_nameNow 70 = .ok (.iconst 3, 1) := dk_6 (dk_at dksX3_nameNow_2 6 rfl rfl)
theorem dX3_nameNow_71 : decode cX3_nameNow 71 = .ok (.ireturn, 1) := dk_172 (dk_at dksX3_nameNow_2 7 rfl rfl)
theorem dX3_nameNow_72 : decode cX3_nameNow 72 = .ok (.bipush 11, 2) := dk_16 11 (dk_at dksX3_nameNow_2 8 rfl rfl)
theorem dX3_nameNow_74 : decode cX3_nameNow 74 = .ok (.ireturn, 1) := dk_172 (dk_at dksX3_nameNow_2 10 rfl rfl)
theorem dX3_nameNow_75 : decode cX3_nameNow 75 = .ok (.bipush 10, 2) := dk_16 10 (dk_at dksX3_nameNow_2 11 rfl rfl)
theorem dX3_nameNow_77 : decode cX3_nameNow 77 = .ok (.ireturn, 1) := dk_172 (dk_at dksX3_nameNow_2 13 rfl rfl)
theorem dX3_nameNow_78 : decode cX3_nameNow 78 = .ok (.aload_n 0, 1) := dk_42 (dk_at dksX3_nameNow_2 14 rfl rfl)
theorem dX3_nameNow_79 : decode cX3_nameNow 79 = .ok (.getfield 25, 3) := dk_180 0 25 (dk_at dksX3_nameNow_2 15 rfl rfl)
theorem dX3_nameNow_82 : decode cX3_nameNow 82 = .ok (.sipush 219, 3) := dk_17 0 219 (dk_at dksX3_nameNow_2 18 rfl rfl)
theorem dX3_nameNow_85 : decode cX3_nameNow 85 = .ok (.if_icmp .lt 26, 3) := dk_161 0 26 (dk_at dksX3_nameNow_2 21 rfl rfl)
theorem dX3_nameNow_88 : decode cX3_nameNow 88 = .ok (.aload_n 0, 1) := dk_42 (dk_at dksX3_nameNow_3 0 rfl rfl)
theorem dX3_nameNow_89 : decode cX3_nameNow 89 = .ok (.getfield 25, 3) := dk_180 0 25 (dk_at dksX3_nameNow_3 1 rfl rfl)
theorem dX3_nameNow_92 : decode cX3_nameNow 92 = .ok (.sipush 222, 3) := dk_17 0 222 (dk_at dksX3_nameNow_3 4 rfl rfl)
theorem dX3_nameNow_95 : decode cX3_nameNow 95 = .ok (.if_icmp .gt 16, 3) := dk_163 0 16 (dk_at dksX3_nameNow_3 7 rfl rfl)
theorem dX3_nameNow_98 : decode cX3_nameNow 98 = .ok (.aload_n 0, 1) := dk_42 (dk_at dksX3_nameNow_3 10 rfl rfl)
theorem dX3_nameNow_99 : decode cX3_nameNow 99 = .ok (.getfield 25, 3) := dk_180 0 25 (dk_at dksX3_nameNow_3 11 rfl rfl)
theorem dX3_nameNow_102 : decode cX3_nameNow 102 = .ok (.sipush 219, 3) := dk_17 0 219 (dk_at dksX3_nameNow_3 14 rfl rfl)
theorem dX3_nameNow_105 : decode cX3_nameNow 105 = .ok (.isub, 1) := dk_100 (dk_at dksX3_nameNow_3 17 rfl rfl)
theorem dX3_nameNow_106 : decode cX3_nameNow 106 = .ok (.iconst 4, 1) := dk_7 (dk_at dksX3_nameNow_3 18 rfl rfl)
theorem dX3_nameNow_107 : decode cX3_nameNow 107 = .ok (.iadd, 1) := dk_96 (dk_at dksX3_nameNow_3 19 rfl rfl)
theorem dX3_nameNow_108 : decode cX3_nameNow 108 = .ok (.goto 72, 3) := dk_167 0 72 (dk_at dksX3_nameNow_3 20 rfl rfl)
theorem dX3_nameNow_111 : decode cX3_nameNow 111 = .ok (.aload_n 0, 1) := dk_42 (dk_at dksX3_nameNow_3 23 rfl rfl)
theorem dX3_nameNow_112 : decode cX3_nameNow 112 = .ok (.getfield 25, 3) := dk_180 0 25 (dk_at dksX3_nameNow_4 0 rfl rfl)
theorem dX3_nameNow_115 : decode cX3_nameNow 115 = .ok (.sipush 223, 3) := dk_17 0 223 (dk_at dksX3_nameNow_4 3 rfl rfl)
theorem dX3_nameNow_118 : decode cX3_nameNow 118 = .ok (.if_icmp .eq 13, 3) := dk_159 0 13 (dk_at dksX3_nameNow_4 6 rfl rfl)
theorem dX3_nameNow_121 : decode cX3_nameNow 121 = .ok (.aload_n 0, 1) := dk_42 (dk_at dksX3_nameNow_4 9 rfl rfl)
theorem dX3_nameNow_122 : decode cX3_nameNow 122 = .ok (.getfield 25, 3) := dk_180 0 25 (dk_at dksX3_nameNow_4 10 rfl rfl)
theorem dX3_nameNow_125 : decode cX3_nameNow 125 = .ok (.sipush 224, 3) := dk_17 0 224 (dk_at dksX3_nameNow_4 13 rfl rfl)
theorem dX3_nameNow_128 : decode cX3_nameNow 128 = .ok (.if_icmp .ne 17, 3) := dk_160 0 17 (dk_at dksX3_nameNow_4 16 rfl rfl)
theorem dX3_nameNow_131 : decode cX3_nameNow 131 = .ok (.aload_n 0, 1) := dk_42 (dk_at dksX3_nameNow_4 19 rfl rfl)
theorem dX3_nameNow_132 : decode cX3_nameNow 132 = .ok (.getfield 25, 3) := dk_180 0 25 (dk_at dksX3_nameNow_4 20 rfl rfl)
theorem dX3_nameNow_135 : decode cX3_nameNow 135 = .ok (.sipush 223, 3) := dk_17 0 223 (dk_at dksX3_nameNow_5 0 rfl rfl)
theorem dX3_nameNow_138 : decode cX3_nameNow 138 = .ok (.isub, 1) := dk_100 (dk_at dksX3_nameNow_5 3 rfl rfl)
theorem dX3_nameNow_139 : decode cX3_nameNow 139 = .ok (.bipush 8, 2) := dk_16 8 (dk_at dksX3_nameNow_5 4 rfl rfl)
theorem dX3_nameNow_141 : decode cX3_nameNow 141 = .ok (.iadd, 1) := dk_96 (dk_at dksX3_nameNow_5 6 rfl rfl)
theorem dX3_nameNow_142 : decode cX3_nameNow 142 = .ok (.goto 38, 3) := dk_167 0 38 (dk_at dksX3_nameNow_5 7 rfl rfl)
theorem dX3_nameNow_145 : decode cX3_nameNow 145 = .ok (.aload_n 0, 1) := dk_42 (dk_at dksX3_nameNow_5 10 rfl rfl)
theorem dX3_nameNow_146 : decode cX3_nameNow 146 = .ok (.getfield 25, 3) := dk_180 0 25 (dk_at dksX3_nameNow_5 11 rfl rfl)
theorem dX3_nameNow_149 : decode cX3_nameNow 149 = .ok (.sipush 226, 3) := dk_17 0 226 (dk_at dksX3_nameNow_5 14 rfl rfl)
theorem dX3_nameNow_152 : decode cX3_nameNow 152 = .ok (.if_icmp .lt 27, 3) := dk_161 0 27 (dk_at dksX3_nameNow_5 17 rfl rfl)
theorem dX3_nameNow_155 : decode cX3_nameNow 155 = .ok (.aload_n 0, 1) := dk_42 (dk_at dksX3_nameNow_5 20 rfl rfl)
theorem dX3_nameNow_156 : decode cX3_nameNow 156 = .ok (.getfield 25, 3) := dk_180 0 25 (dk_at dksX3_nameNow_5 21 rfl rfl)
theorem dX3_nameNow_159 : decode cX3_nameNow 159 = .ok (.sipush 228, 3) := dk_17 0 228 (dk_at dksX3_nameNow_6 0 rfl rfl)
theorem dX3_nameNow_162 : decode cX3_nameNow 162 = .ok (.if_icmp .gt 17, 3) := dk_163 0 17 (dk_at dksX3_nameNow_6 3 rfl rfl)
theorem dX3_nameNow_165 : decode cX3_nameNow 165 = .ok (.aload_n 0, 1) := dk_42 (dk_at dksX3_nameNow_6 6 rfl rfl)
theorem dX3_nameNow_166 : decode cX3_nameNow 166 = .ok (.getfield 25, 3) := dk_180 0 25 (dk_at dksX3_nameNow_6 7 rfl rfl)
theorem dX3_nameNow_169 : decode cX3_nameNow 169 = .ok (.sipush 226, 3) := dk_17 0 226 (dk_at dksX3_nameNow_6 10 rfl rfl)
theorem dX3_nameNow_172 : decode cX3_nameNow 172 = .ok (.isub, 1) := dk_100 (dk_at dksX3_nameNow_6 13 rfl rfl)
theorem dX3_nameNow_173 : decode cX3_nameNow 173 = .ok (.bipush 12, 2) := dk_16 12 (dk_at dksX3_nameNow_6 14 rfl rfl)
theorem dX3_nameNow_175 : decode cX3_nameNow 175 = .ok (.iadd, 1) := dk_96 (dk_at dksX3_nameNow_6 16 rfl rfl)
theorem dX3_nameNow_176 : decode cX3_nameNow 176 = .ok (.goto 4, 3) := dk_167 0 4 (dk_at dksX3_nameNow_6 17 rfl rfl)
theorem dX3_nameNow_179 : decode cX3_nameNow 179 = .ok (.iconst (-1), 1) := dk_2 (dk_at dksX3_nameNow_6 20 rfl rfl)
theorem dX3_nameNow_180 : decode cX3_nameNow 180 = .ok (.ireturn, 1) := dk_172 (dk_at dksX3_nameNow_6 21 rfl rfl)
abbrev cX3_mayName : ByteArray := prog_12_method_16_code
def yX3_mayName : MethodName := ⟨RX3, "mayName", "(I)Z"⟩
def dkwX3_mayName_3 : List UInt8 := [167, 0, 22, 3, 167, 0, 18, 42, 180, 0, 83, 17, 0, 203, 160, 0, 7, 4, 167, 0, 4, 3, 172]
abbrev dktX3_mayName_3 : List UInt8 := dkwX3_mayName_3 ++ []
def dkwX3_mayName_2 : List UInt8 := [167, 0, 46, 3, 167, 0, 42, 27, 16, 14, 162, 0, 21, 42, 180, 0, 83, 17, 0, 202, 160, 0, 7, 4]
abbrev dktX3_mayName_2 : List UInt8 := dkwX3_mayName_2 ++ dktX3_mayName_3
def dkwX3_mayName_1 : List UInt8 := [167, 0, 70, 3, 167, 0, 66, 27, 16, 10, 162, 0, 21, 42, 180, 0, 83, 17, 0, 201, 160, 0, 7, 4]
abbrev dktX3_mayName_1 : List UInt8 := dkwX3_mayName_1 ++ dktX3_mayName_2
def dkwX3_mayName_0 : List UInt8 := [27, 5, 162, 0, 5, 4, 172, 27, 16, 8, 162, 0, 21, 42, 180, 0, 83, 17, 0, 200, 160, 0, 7, 4]
abbrev dktX3_mayName_0 : List UInt8 := dkwX3_mayName_0 ++ dktX3_mayName_1
theorem dksX3_mayName_0 : cX3_mayName.data.toList.drop 0 = dktX3_mayName_0 := by decide +kernel
theorem dksX3_mayName_1 : cX3_mayName.data.toList.drop 24 = dktX3_mayName_1 := dk_seg dksX3_mayName_0 24 rfl rfl
theorem dksX3_mayName_2 : cX3_mayName.data.toList.drop 48 = dktX3_mayName_2 := dk_seg dksX3_mayName_1 24 rfl rfl
theorem dksX3_mayName_3 : cX3_mayName.data.toList.drop 72 = dktX3_mayName_3 := dk_seg dksX3_mayName_2 24 rfl rfl
theorem dX3_mayName_0 : decode cX3_mayName 0 = .ok (.iload_n 1, 1) := dk_27 (dk_at dksX3_mayName_0 0 rfl rfl)
theorem dX3_mayName_1 : decode cX3_mayName 1 = .ok (.iconst 2, 1) := dk_5 (dk_at dksX3_mayName_0 1 rfl rfl)
theorem dX3_mayName_2 : decode cX3_mayName 2 = .ok (.if_icmp .ge 5, 3) := dk_162 0 5 (dk_at dksX3_mayName_0 2 rfl rfl)
theorem dX3_mayName_5 : decode cX3_mayName 5 = .ok (.iconst 1, 1) := dk_4 (dk_at dksX3_mayName_0 5 rfl rfl)
theorem dX3_mayName_6 : decode cX3_mayName 6 = .ok (.ireturn, 1) := dk_172 (dk_at dksX3_mayName_0 6 rfl rfl)
theorem dX3_mayName_7 : decode cX3_mayName 7 = .ok (.iload_n 1, 1) := dk_27 (dk_at dksX3_mayName_0 7 rfl rfl)
theorem dX3_mayName_8 : decode cX3_mayName 8 = .ok (.bipush 8, 2) := dk_16 8 (dk_at dksX3_mayName_0 8 rfl rfl)
theorem dX3_mayName_10 : decode cX3_mayName 10 = .ok (.if_icmp .ge 21, 3) := dk_162 0 21 (dk_at dksX3_mayName_0 10 rfl rfl)
theorem dX3_mayName_13 : decode cX3_mayName 13 = .ok (.aload_n 0, 1) := dk_42 (dk_at dksX3_mayName_0 13 rfl rfl)
theorem dX3_mayName_14 : decode cX3_mayName 14 = .ok (.getfield 83, 3) := dk_180 0 83 (dk_at dksX3_mayName_0 14 rfl rfl)
theorem dX3_mayName_17 : decode cX3_mayName 17 = .ok (.sipush 200, 3) := dk_17 0 200 (dk_at dksX3_mayName_0 17 rfl rfl)
theorem dX3_mayName_20 : decode cX3_mayName 20 = .ok (.if_icmp .ne 7, 3) := dk_160 0 7 (dk_at dksX3_mayName_0 20 rfl rfl)
theorem dX3_mayName_23 : decode cX3_mayName 23 = .ok (.iconst 1, 1) := dk_4 (dk_at dksX3_mayName_0 23 rfl rfl)
theorem dX3_mayName_24 : decode cX3_mayName 24 = .ok (.goto 70, 3) := dk_167 0 70 (dk_at dksX3_mayName_1 0 rfl rfl)
theorem dX3_mayName_27 : decode cX3_mayName 27 = .ok (.iconst 0, 1) := dk_3 (dk_at dksX3_mayName_1 3 rfl rfl)
theorem dX3_mayName_28 : decode cX3_mayName 28 = .ok (.goto 66, 3) := dk_167 0 66 (dk_at dksX3_mayName_1 4 rfl rfl)
theorem dX3_mayName_31 : decode cX3_mayName 31 = .ok (.iload_n 1, 1) := dk_27 (dk_at dksX3_mayName_1 7 rfl rfl)
theorem dX3_mayName_32 : decode cX3_mayName 32 = .ok (.bipush 10, 2) := dk_16 10 (dk_at dksX3_mayName_1 8 rfl rfl)
theorem dX3_mayName_34 : decode cX3_mayName 34 = .ok (.if_icmp .ge 21, 3) := dk_162 0 21 (dk_at dksX3_mayName_1 10 rfl rfl)
theorem dX3_mayName_37 : decode cX3_mayName 37 = .ok (.aload_n 0, 1) := dk_42 (dk_at dksX3_mayName_1 13 rfl rfl)
theorem dX3_mayName_38 : decode cX3_mayName 38 = .ok (.getfield 83, 3) := dk_180 0 83 (dk_at dksX3_mayName_1 14 rfl rfl)
theorem dX3_mayName_41 : decode cX3_mayName 41 = .ok (.sipush 201, 3) := dk_17 0 201 (dk_at dksX3_mayName_1 17 rfl rfl)
theorem dX3_mayName_44 : decode cX3_mayName 44 = .ok (.if_icmp .ne 7, 3) := dk_160 0 7 (dk_at dksX3_mayName_1 20 rfl rfl)
theorem dX3_mayName_47 : decode cX3_mayName 47 = .ok (.iconst 1, 1) := dk_4 (dk_at dksX3_mayName_1 23 rfl rfl)
theorem dX3_mayName_48 : decode cX3_mayName 48 = .ok (.goto 46, 3) := dk_167 0 46 (dk_at dksX3_mayName_2 0 rfl rfl)
theorem dX3_mayName_51 : decode cX3_mayName 51 = .ok (.iconst 0, 1) := dk_3 (dk_at dksX3_mayName_2 3 rfl rfl)
theorem dX3_mayName_52 : decode cX3_mayName 52 = .ok (.goto 42, 3) := dk_167 0 42 (dk_at dksX3_mayName_2 4 rfl rfl)
theorem dX3_mayName_55 : decode cX3_mayName 55 = .ok (.iload_n 1, 1) := dk_27 (dk_at dksX3_mayName_2 7 rfl rfl)
theorem dX3_mayName_56 : decode cX3_mayName 56 = .ok (.bipush 14, 2) := dk_16 14 (dk_at dksX3_mayName_2 8 rfl rfl)
theorem dX3_mayName_58 : decode cX3_mayName 58 = .ok (.if_icmp .ge 21, 3) := dk_162 0 21 (dk_at dksX3_mayName_2 10 rfl rfl)
theorem dX3_mayName_61 : decode cX3_mayName 61 = .ok (.aload_n 0, 1) := dk_42 (dk_at dksX3_mayName_2 13 rfl rfl)
theorem dX3_mayName_62 : decode cX3_mayName 62 = .ok (.getfield 83, 3) := dk_180 0 83 (dk_at dksX3_mayName_2 14 rfl rfl)
theorem dX3_mayName_65 : decode cX3_mayName 65 = .ok (.sipush 202, 3) := dk_17 0 202 (dk_at dksX3_mayName_2 17 rfl rfl)
theorem dX3_mayName_68 : decode cX3_mayName 68 = .ok (.if_icmp .ne 7, 3) := dk_160 0 7 (dk_at dksX3_mayName_2 20 rfl rfl)
theorem dX3_mayName_71 : decode cX3_mayName 71 = .ok (.iconst 1, 1) := dk_4 (dk_at dksX3_mayName_2 23 rfl rfl)
theorem dX3_mayName_72 : decode cX3_mayName 72 = .ok (.goto 22, 3) := dk_167 0 22 (dk_at dksX3_mayName_3 0 rfl rfl)
theorem dX3_mayName_75 : decode cX3_mayName 75 = .ok (.iconst 0, 1) := dk_3 (dk_at dksX3_mayName_3 3 rfl rfl)
theorem dX3_mayName_76 : decode cX3_mayName 76 = .ok (.goto 18, 3) := dk_167 0 18 (dk_at dksX3_mayName_3 4 rfl rfl)
theorem dX3_mayName_79 : decode cX3_mayName 79 = .ok (.aload_n 0, 1) := dk_42 (dk_at dksX3_mayName_3 7 rfl rfl)
theorem dX3_mayName_80 : decode cX3_mayName 80 = .ok (.getfield 83, 3) := dk_180 0 83 (dk_at dksX3_mayName_3 8 rfl rfl)
theorem dX3_mayName_83 : decode cX3_mayName 83 = .ok (.sipush 203, 3) := dk_17 0 203 (dk_at dksX3_mayName_3 11 rfl rfl)
theorem dX3_mayName_86 : decode cX3_mayName 86 = .ok (.if_icmp .ne 7, 3) := dk_160 0 7 (dk_at dksX3_mayName_3 14 rfl rfl)
theorem dX3_mayName_89 : decode cX3_mayName 89 = .ok (.iconst 1, 1) := dk_4 (dk_at dksX3_mayName_3 17 rfl rfl)
theorem dX3_mayName_90 : decode cX3_mayName 90 = .ok (.goto 4, 3) := dk_167 0 4 (dk_at dksX3_mayName_3 18 rfl rfl)
theorem dX3_mayName_93 : decode cX3_mayName 93 = .ok (.iconst 0, 1) := dk_3 (dk_at dksX3_mayName_3 21 rfl rfl)
theorem dX3_mayName_94 : decode cX3_mayName 94 = .ok (.ireturn, 1) := dk_172 (dk_at dksX3_mayName_3 22 rfl rfl)
abbrev cX3_opens : ByteArray := prog_12_method_9_code
def yX3_opens : MethodName := ⟨RX3, "opens", "()V"⟩
def dkwX3_opens_1 : List UInt8 := [181, 0, 77, 42, 182, 0, 74, 177]
abbrev dktX3_opens_1 : List UInt8 := dkwX3_opens_1 ++ []
def dkwX3_opens_0 : List UInt8 := [42, 180, 0, 77, 16, 8, 160, 0, 9, 42, 6, 182, 0, 70, 191, 42, 89, 180, 0, 77, 4, 96]
abbrev dktX3_opens_0 : List UInt8 := dkwX3_opens_0 ++ dktX3_opens_1
theorem dksX3_opens_0 : cX3_opens.data.toList.drop 0 = dktX3_opens_0 := by decide +kernel
theorem dksX3_opens_1 : cX3_opens.data.toList.drop 22 = dktX3_opens_1 := dk_seg dksX3_opens_0 22 rfl rfl
theorem dX3_opens_0 : decode cX3_opens 0 = .ok (.aload_n 0, 1) := dk_42 (dk_at dksX3_opens_0 0 rfl rfl)
theorem dX3_opens_1 : decode cX3_opens 1 = .ok (.getfield 77, 3) := dk_180 0 77 (dk_at dksX3_opens_0 1 rfl rfl)
theorem dX3_opens_4 : decode cX3_opens 4 = .ok (.bipush 8, 2) := dk_16 8 (dk_at dksX3_opens_0 4 rfl rfl)
theorem dX3_opens_6 : decode cX3_opens 6 = .ok (.if_icmp .ne 9, 3) := dk_160 0 9 (dk_at dksX3_opens_0 6 rfl rfl)
theorem dX3_opens_9 : decode cX3_opens 9 = .ok (.aload_n 0, 1) := dk_42 (dk_at dksX3_opens_0 9 rfl rfl)
theorem dX3_opens_10 : decode cX3_opens 10 = .ok (.iconst 3, 1) := dk_6 (dk_at dksX3_opens_0 10 rfl rfl)
theorem dX3_opens_11 : decode cX3_opens 11 = .ok (.invokevirtual 70, 3) := dk_182 0 70 (dk_at dksX3_opens_0 11 rfl rfl)
theorem dX3_opens_14 : decode cX3_opens 14 = .ok (.athrow, 1) := dk_191 (dk_at dksX3_opens_0 14 rfl rfl)
theorem dX3_opens_15 : decode cX3_opens 15 = .ok (.aload_n 0, 1) := dk_42 (dk_at dksX3_opens_0 15 rfl rfl)
theorem dX3_opens_16 : decode cX3_opens 16 = .ok (.dup, 1) := dk_89 (dk_at dksX3_opens_0 16 rfl rfl)
theorem dX3_opens_17 : decode cX3_opens 17 = .ok (.getfield 77, 3) := dk_180 0 77 (dk_at dksX3_opens_0 17 rfl rfl)
theorem dX3_opens_20 : decode cX3_opens 20 = .ok (.iconst 1, 1) := dk_4 (dk_at dksX3_opens_0 20 rfl rfl)
theorem dX3_opens_21 : decode cX3_opens 21 = .ok (.iadd, 1) := dk_96 (dk_at dksX3_opens_0 21 rfl rfl)
theorem dX3_opens_22 : decode cX3_opens 22 = .ok (.putfield 77, 3) := dk_181 0 77 (dk_at dksX3_opens_1 0 rfl rfl)
theorem dX3_opens_25 : decode cX3_opens 25 = .ok (.aload_n 0, 1) := dk_42 (dk_at dksX3_opens_1 3 rfl rfl)
theorem dX3_opens_26 : decode cX3_opens 26 = .ok (.invokevirtual 74, 3) := dk_182 0 74 (dk_at dksX3_opens_1 4 rfl rfl)
theorem dX3_opens_29 : decode cX3_opens 29 = .ok (.return_, 1) := dk_177 (dk_at dksX3_opens_1 7 rfl rfl)
abbrev cX3_want : ByteArray := prog_12_method_7_code
def yX3_want : MethodName := ⟨RX3, "want", "(I)V"⟩
def dkwX3_want_0 : List UInt8 := [42, 180, 0, 25, 27, 159, 0, 9, 42, 4, 182, 0, 70, 191, 42, 182, 0, 74, 177]
abbrev dktX3_want_0 : List UInt8 := dkwX3_want_0 ++ []
theorem dksX3_want_0 : cX3_want.data.toList.drop 0 = dktX3_want_0 := by decide +kernel
theorem dX3_want_0 : decode cX3_want 0 = .ok (.aload_n 0, 1) := dk_42 (dk_at dksX3_want_0 0 rfl rfl)
theorem dX3_want_1 : decode cX3_want 1 = .ok (.getfield 25, 3) := dk_180 0 25 (dk_at dksX3_want_0 1 rfl rfl)
theorem dX3_want_4 : decode cX3_want 4 = .ok (.iload_n 1, 1) := dk_27 (dk_at dksX3_want_0 4 rfl rfl)
theorem dX3_want_5 : decode cX3_want 5 = .ok (.if_icmp .eq 9, 3) := dk_159 0 9 (dk_at dksX3_want_0 5 rfl rfl)
theorem dX3_want_8 : decode cX3_want 8 = .ok (.aload_n 0, 1) := dk_42 (dk_at dksX3_want_0 8 rfl rfl)
theorem dX3_want_9 : decode cX3_want 9 = .ok (.iconst 1, 1) := dk_4 (dk_at dksX3_want_0 9 rfl rfl)
theorem dX3_want_10 : decode cX3_want 10 = .ok (.invokevirtual 70, 3) := dk_182 0 70 (dk_at dksX3_want_0 10 rfl rfl)
theorem dX3_want_13 : decode cX3_want 13 = .ok (.athrow, 1) := dk_191 (dk_at dksX3_want_0 13 rfl rfl)
theorem dX3_want_14 : decode cX3_want 14 = .ok (.aload_n 0, 1) := dk_42 (dk_at dksX3_want_0 14 rfl rfl)
theorem dX3_want_15 : decode cX3_want 15 = .ok (.invokevirtual 74, 3) := dk_182 0 74 (dk_at dksX3_want_0 15 rfl rfl)
theorem dX3_want_18 : decode cX3_want 18 = .ok (.return_, 1) := dk_177 (dk_at dksX3_want_0 18 rfl rfl)
abbrev cX3_doing : ByteArray := prog_12_method_12_code
def yX3_doing : MethodName := ⟨RX3, "doing", "(I)LAgainstFeather$Doing;"⟩
def dkwX3_doing_9 : List UInt8 := [180, 0, 83, 2, 2, 2, 3, 27, 183, 0, 119, 176]
abbrev dktX3_doing_9 : List UInt8 := dkwX3_doing_9 ++ []
def dkwX3_doing_8 : List UInt8 := [180, 0, 83, 42, 3, 16, 7, 182, 0, 115, 2, 2, 3, 27, 183, 0, 119, 176, 187, 0, 117, 89, 42]
abbrev dktX3_doing_8 : List UInt8 := dkwX3_doing_8 ++ dktX3_doing_9
def dkwX3_doing_7 : List UInt8 := [180, 0, 83, 42, 3, 16, 23, 182, 0, 115, 2, 2, 3, 27, 183, 0, 119, 176, 187, 0, 117, 89, 42]
abbrev dktX3_doing_7 : List UInt8 := dkwX3_doing_7 ++ dktX3_doing_8
def dkwX3_doing_6 : List UInt8 := [89, 42, 180, 0, 83, 42, 3, 8, 182, 0, 115, 2, 2, 3, 27, 183, 0, 119, 176, 187, 0, 117, 89, 42]
abbrev dktX3_doing_6 : List UInt8 := dkwX3_doing_6 ++ dktX3_doing_7
def dkwX3_doing_5 : List UInt8 := [42, 180, 0, 83, 28, 29, 42, 17, 0, 216, 16, 99, 182, 0, 128, 3, 27, 183, 0, 119, 176, 187, 0, 117]
abbrev dktX3_doing_5 : List UInt8 := dkwX3_doing_5 ++ dktX3_doing_6
def dkwX3_doing_4 : List UInt8 := [183, 0, 119, 176, 42, 3, 8, 182, 0, 115, 61, 42, 17, 0, 215, 8, 182, 0, 128, 62, 187, 0, 117, 89]
abbrev dktX3_doing_4 : List UInt8 := dkwX3_doing_4 ++ dktX3_doing_5
def dkwX3_doing_3 : List UInt8 := [42, 27, 182, 0, 122, 176, 187, 0, 117, 89, 42, 180, 0, 83, 42, 182, 0, 125, 2, 2, 3, 27]
abbrev dktX3_doing_3 : List UInt8 := dkwX3_doing_3 ++ dktX3_doing_4
def dkwX3_doing_2 : List UInt8 := [187, 0, 117, 89, 42, 180, 0, 83, 42, 3, 17, 3, 231, 182, 0, 115, 2, 2, 3, 27, 183, 0, 119, 176]
abbrev dktX3_doing_2 : List UInt8 := dkwX3_doing_2 ++ dktX3_doing_3
def dkwX3_doing_1 : List UInt8 := [170, 0, 0, 0, 0, 0, 0, 207, 0, 0, 0, 204, 0, 0, 0, 211, 0, 0, 0, 48, 0, 0, 0, 72, 0, 0, 0, 78, 0, 0, 0, 98, 0, 0, 0, 139, 0, 0, 0, 161, 0, 0, 0, 184, 0, 0, 0, 184]
abbrev dktX3_doing_1 : List UInt8 := dkwX3_doing_1 ++ dktX3_doing_2
def dkwX3_doing_0 : List UInt8 := [42, 180, 0, 83]
abbrev dktX3_doing_0 : List UInt8 := dkwX3_doing_0 ++ dktX3_doing_1
theorem dksX3_doing_0 : cX3_doing.data.toList.drop 0 = dktX3_doing_0 := by decide +kernel
theorem dksX3_doing_1 : cX3_doing.data.toList.drop 4 = dktX3_doing_1 := dk_seg dksX3_doing_0 4 rfl rfl
theorem dksX3_doing_2 : cX3_doing.data.toList.drop 52 = dktX3_doing_2 := dk_seg dksX3_doing_1 48 rfl rfl
theorem dksX3_doing_3 : cX3_doing.data.toList.drop 76 = dktX3_doing_3 := dk_seg dksX3_doing_2 24 rfl rfl
theorem dksX3_doing_4 : cX3_doing.data.toList.drop 98 = dktX3_doing_4 := dk_seg dksX3_doing_3 22 rfl rfl
theorem dksX3_doing_5 : cX3_doing.data.toList.drop 122 = dktX3_doing_5 := dk_seg dksX3_doing_4 24 rfl rfl
theorem dksX3_doing_6 : cX3_doing.data.toList.drop 146 = dktX3_doing_6 := dk_seg dksX3_doing_5 24 rfl rfl
theorem dksX3_doing_7 : cX3_doing.data.toList.drop 170 = dktX3_doing_7 := dk_seg dksX3_doing_6 24 rfl rfl
theorem dksX3_doing_8 : cX3_doing.data.toList.drop 193 = dktX3_doing_8 := dk_seg dksX3_doing_7 23 rfl rfl
theorem dksX3_doing_9 : cX3_doing.data.toList.drop 216 = dktX3_doing_9 := dk_seg dksX3_doing_8 23 rfl rfl
theorem dX3_doing_0 : decode cX3_doing 0 = .ok (.aload_n 0, 1) := dk_42 (dk_at dksX3_doing_0 0 rfl rfl)
theorem dX3_doing_1 : decode cX3_doing 1 = .ok (.getfield 83, 3) := dk_180 0 83 (dk_at dksX3_doing_0 1 rfl rfl)
theorem dX3_doing_4 : decode cX3_doing 4 = .ok (.tableswitch 207 204 211 #[48, 72, 78, 98, 139, 161, 184, 184], 48) := by decide +kernel
theorem dX3_doing_52 : decode cX3_doing 52 = .ok (.new 117, 3) := dk_187 0 117 (dk_at dksX3_doing_2 0 rfl rfl)
theorem dX3_doing_55 : decode cX3_doing 55 = .ok (.dup, 1) := dk_89 (dk_at dksX3_doing_2 3 rfl rfl)
theorem dX3_doing_56 : decode cX3_doing 56 = .ok (.aload_n 0, 1) := dk_42 (dk_at dksX3_doing_2 4 rfl rfl)
theorem dX3_doing_57 : decode cX3_doing 57 = .ok (.getfield 83, 3) := dk_180 0 83 (dk_at dksX3_doing_2 5 rfl rfl)
theorem dX3_doing_60 : decode cX3_doing 60 = .ok (.aload_n 0, 1) := dk_42 (dk_at dksX3_doing_2 8 rfl rfl)
theorem dX3_doing_61 : decode cX3_doing 61 = .ok (.iconst 0, 1) := dk_3 (dk_at dksX3_doing_2 9 rfl rfl)
theorem dX3_doing_62 : decode cX3_doing 62 = .ok (.sipush 999, 3) := dk_17 3 231 (dk_at dksX3_doing_2 10 rfl rfl)
theorem dX3_doing_65 : decode cX3_doing 65 = .ok (.invokevirtual 115, 3) := dk_182 0 115 (dk_at dksX3_doing_2 13 rfl rfl)
theorem dX3_doing_68 : decode cX3_doing 68 = .ok (.iconst (-1), 1) := dk_2 (dk_at dksX3_doing_2 16 rfl rfl)
theorem dX3_doing_69 : decode cX3_doing 69 = .ok (.iconst (-1), 1) := dk_2 (dk_at dksX3_doing_2 17 rfl rfl)
theorem dX3_doing_70 : decode cX3_doing 70 = .ok (.iconst 0, 1) := dk_3 (dk_at dksX3_doing_2 18 rfl rfl)
theorem dX3_doing_71 : decode cX3_doing 71 = .ok (.iload_n 1, 1) := dk_27 (dk_at dksX3_doing_2 19 rfl rfl)
theorem dX3_doing_72 : decode cX3_doing 72 = .ok (.invokespecial 119, 3) := dk_183 0 119 (dk_at dksX3_doing_2 20 rfl rfl)
theorem dX3_doing_75 : decode cX3_doing 75 = .ok (.areturn, 1) := dk_176 (dk_at dksX3_doing_2 23 rfl rfl)
theorem dX3_doing_76 : decode cX3_doing 76 = .ok (.aload_n 0, 1) := dk_42 (dk_at dksX3_doing_3 0 rfl rfl)
theorem dX3_doing_77 : decode cX3_doing 77 = .ok (.iload_n 1, 1) := dk_27 (dk_at dksX3_doing_3 1 rfl rfl)
theorem dX3_doing_78 : decode cX3_doing 78 = .ok (.invokevirtual 122, 3) := dk_182 0 122 (dk_at dksX3_doing_3 2 rfl rfl)
theorem dX3_doing_81 : decode cX3_doing 81 = .ok (.areturn, 1) := dk_176 (dk_at dksX3_doing_3 5 rfl rfl)
theorem dX3_doing_82 : decode cX3_doing 82 = .ok (.new 117, 3) := dk_187 0 117 (dk_at dksX3_doing_3 6 rfl rfl)
theorem dX3_doing_85 : decode cX3_doing 85 = .ok (.dup, 1) := dk_89 (dk_at dksX3_doing_3 9 rfl rfl)
theorem dX3_doing_86 : decode cX3_doing 86 = .ok (.aload_n 0, 1) := dk_42 (dk_at dksX3_doing_3 10 rfl rfl)
theorem dX3_doing_87 : decode cX3_doing 87 = .ok (.getfield 83, 3) := dk_180 0 83 (dk_at dksX3_doing_3 11 rfl rfl)
theorem dX3_doing_90 : decode cX3_doing 90 = .ok (.aload_n 0, 1) := dk_42 (dk_at dksX3_doing_3 14 rfl rfl)
theorem dX3_doing_91 : decode cX3_doing 91 = .ok (.invokevirtual 125, 3) := dk_182 0 125 (dk_at dksX3_doing_3 15 rfl rfl)
theorem dX3_doing_94 : decode cX3_doing 94 = .ok (.iconst (-1), 1) := dk_2 (dk_at dksX3_doing_3 18 rfl rfl)
theorem dX3_doing_95 : decode cX3_doing 95 = .ok (.iconst (-1), 1) := dk_2 (dk_at dksX3_doing_3 19 rfl rfl)
theorem dX3_doing_96 : decode cX3_doing 96 = .ok (.iconst 0, 1) := dk_3 (dk_at dksX3_doing_3 20 rfl rfl)
theorem dX3_doing_97 : decode cX3_doing 97 = .ok (.iload_n 1, 1) := dk_27 (dk_at dksX3_doing_3 21 rfl rfl)
theorem dX3_doing_98 : decode cX3_doing 98 = .ok (.invokespecial 119, 3) := dk_183 0 119 (dk_at dksX3_doing_4 0 rfl rfl)
theorem dX3_doing_101 : decode cX3_doing 101 = .ok (.areturn, 1) := dk_176 (dk_at dksX3_doing_4 3 rfl rfl)
theorem dX3_doing_102 : decode cX3_doing 102 = .ok (.aload_n 0, 1) := dk_42 (dk_at dksX3_doing_4 4 rfl rfl)
theorem dX3_doing_103 : decode cX3_doing 103 = .ok (.iconst 0, 1) := dk_3 (dk_at dksX3_doing_4 5 rfl rfl)
theorem dX3_doing_104 : decode cX3_doing 104 = .ok (.iconst 5, 1) := dk_8 (dk_at dksX3_doing_4 6 rfl rfl)
theorem dX3_doing_105 : decode cX3_doing 105 = .ok (.invokevirtual 115, 3) := dk_182 0 115 (dk_at dksX3_doing_4 7 rfl rfl)
theorem dX3_doing_108 : decode cX3_doing 108 = .ok (.istore_n 2, 1) := dk_61 (dk_at dksX3_doing_4 10 rfl rfl)
theorem dX3_doing_109 : decode cX3_doing 109 = .ok (.aload_n 0, 1) := dk_42 (dk_at dksX3_doing_4 11 rfl rfl)
theorem dX3_doing_110 : decode cX3_doing 110 = .ok (.sipush 215, 3) := dk_17 0 215 (dk_at dksX3_doing_4 12 rfl rfl)
theorem dX3_doing_113 : decode cX3_doing 113 = .ok (.iconst 5, 1) := dk_8 (dk_at dksX3_doing_4 15 rfl rfl)
theorem dX3_doing_114 : decode cX3_doing 114 = .ok (.invokevirtual 128, 3) := dk_182 0 128 (dk_at dksX3_doing_4 16 rfl rfl)
theorem dX3_doing_117 : decode cX3_doing 117 = .ok (.istore_n 3, 1) := dk_62 (dk_at dksX3_doing_4 19 rfl rfl)
theorem dX3_doing_118 : decode cX3_doing 118 = .ok (.new 117, 3) := dk_187 0 117 (dk_at dksX3_doing_4 20 rfl rfl)
theorem dX3_doing_121 : decode cX3_doing 121 = .ok (.dup, 1) := dk_89 (dk_at dksX3_doing_4 23 rfl rfl)
theorem dX3_doing_122 : decode cX3_doing 122 = .ok (.aload_n 0, 1) := dk_42 (dk_at dksX3_doing_5 0 rfl rfl)
theorem dX3_doing_123 : decode cX3_doing 123 = .ok (.getfield 83, 3) := dk_180 0 83 (dk_at dksX3_doing_5 1 rfl rfl)
theorem dX3_doing_126 : decode cX3_doing 126 = .ok (.iload_n 2, 1) := dk_28 (dk_at dksX3_doing_5 4 rfl rfl)
theorem dX3_doing_127 : decode cX3_doing 127 = .ok (.iload_n 3, 1) := dk_29 (dk_at dksX3_doing_5 5 rfl rfl)
theorem dX3_doing_128 : decode cX3_doing 128 = .ok (.aload_n 0, 1) := dk_42 (dk_at dksX3_doing_5 6 rfl rfl)
theorem dX3_doing_129 : decode cX3_doing 129 = .ok (.sipush 216, 3) := dk_17 0 216 (dk_at dksX3_doing_5 7 rfl rfl)
theorem dX3_doing_132 : decode cX3_doing 132 = .ok (.bipush 99, 2) := dk_16 99 (dk_at dksX3_doing_5 10 rfl rfl)
theorem dX3_doing_134 : decode cX3_doing 134 = .ok (.invokevirtual 128, 3) := dk_182 0 128 (dk_at dksX3_doing_5 12 rfl rfl)
theorem dX3_doing_137 : decode cX3_doing 137 = .ok (.iconst 0, 1) := dk_3 (dk_at dksX3_doing_5 15 rfl rfl)
theorem dX3_doing_138 : decode cX3_doing 138 = .ok (.iload_n 1, 1) := dk_27 (dk_at dksX3_doing_5 16 rfl rfl)
theorem dX3_doing_139 : decode cX3_doing 139 = .ok (.invokespecial 119, 3) := dk_183 0 119 (dk_at dksX3_doing_5 17 rfl rfl)
theorem dX3_doing_142 : decode cX3_doing 142 = .ok (.areturn, 1) := dk_176 (dk_at dksX3_doing_5 20 rfl rfl)
theorem dX3_doing_143 : decode cX3_doing 143 = .ok (.new 117, 3) := dk_187 0 117 (dk_at dksX3_doing_5 21 rfl rfl)
theorem dX3_doing_146 : decode cX3_doing 146 = .ok (.dup, 1) := dk_89 (dk_at dksX3_doing_6 0 rfl rfl)
theorem dX3_doing_147 : decode cX3_doing 147 = .ok (.aload_n 0, 1) := dk_42 (dk_at dksX3_doing_6 1 rfl rfl)
theorem dX3_doing_148 : decode cX3_doing 148 = .ok (.getfield 83, 3) := dk_180 0 83 (dk_at dksX3_doing_6 2 rfl rfl)
theorem dX3_doing_151 : decode cX3_doing 151 = .ok (.aload_n 0, 1) := dk_42 (dk_at dksX3_doing_6 5 rfl rfl)
theorem dX3_doing_152 : decode cX3_doing 152 = .ok (.iconst 0, 1) := dk_3 (dk_at dksX3_doing_6 6 rfl rfl)
theorem dX3_doing_153 : decode cX3_doing 153 = .ok (.iconst 5, 1) := dk_8 (dk_at dksX3_doing_6 7 rfl rfl)
theorem dX3_doing_154 : decode cX3_doing 154 = .ok (.invokevirtual 115, 3) := dk_182 0 115 (dk_at dksX3_doing_6 8 rfl rfl)
theorem dX3_doing_157 : decode cX3_doing 157 = .ok (.iconst (-1), 1) := dk_2 (dk_at dksX3_doing_6 11 rfl rfl)
theorem dX3_doing_158 : decode cX3_doing 158 = .ok (.iconst (-1), 1) := dk_2 (dk_at dksX3_doing_6 12 rfl rfl)
theorem dX3_doing_159 : decode cX3_doing 159 = .ok (.iconst 0, 1) := dk_3 (dk_at dksX3_doing_6 13 rfl rfl)
theorem dX3_doing_160 : decode cX3_doing 160 = .ok (.iload_n 1, 1) := dk_27 (dk_at dksX3_doing_6 14 rfl rfl)
theorem dX3_doing_161 : decode cX3_doing 161 = .ok (.invokespecial 119, 3) := dk_183 0 119 (dk_at dksX3_doing_6 15 rfl rfl)
theorem dX3_doing_164 : decode cX3_doing 164 = .ok (.areturn, 1) := dk_176 (dk_at dksX3_doing_6 18 rfl rfl)
theorem dX3_doing_165 : decode cX3_doing 165 = .ok (.new 117, 3) := dk_187 0 117 (dk_at dksX3_doing_6 19 rfl rfl)
theorem dX3_doing_168 : decode cX3_doing 168 = .ok (.dup, 1) := dk_89 (dk_at dksX3_doing_6 22 rfl rfl)
theorem dX3_doing_169 : decode cX3_doing 169 = .ok (.aload_n 0, 1) := dk_42 (dk_at dksX3_doing_6 23 rfl rfl)
theorem dX3_doing_170 : decode cX3_doing 170 = .ok (.getfield 83, 3) := dk_180 0 83 (dk_at dksX3_doing_7 0 rfl rfl)
theorem dX3_doing_173 : decode cX3_doing 173 = .ok (.aload_n 0, 1) := dk_42 (dk_at dksX3_doing_7 3 rfl rfl)
theorem dX3_doing_174 : decode cX3_doing 174 = .ok (.iconst 0, 1) := dk_3 (dk_at dksX3_doing_7 4 rfl rfl)
theorem dX3_doing_175 : decode cX3_doing 175 = .ok (.bipush 23, 2) := dk_16 23 (dk_at dksX3_doing_7 5 rfl rfl)
theorem dX3_doing_177 : decode cX3_doing 177 = .ok (.invokevirtual 115, 3) := dk_182 0 115 (dk_at dksX3_doing_7 7 rfl rfl)
theorem dX3_doing_180 : decode cX3_doing 180 = .ok (.iconst (-1), 1) := dk_2 (dk_at dksX3_doing_7 10 rfl rfl)
theorem dX3_doing_181 : decode cX3_doing 181 = .ok (.iconst (-1), 1) := dk_2 (dk_at dksX3_doing_7 11 rfl rfl)
theorem dX3_doing_182 : decode cX3_doing 182 = .ok (.iconst 0, 1) := dk_3 (dk_at dksX3_doing_7 12 rfl rfl)
theorem dX3_doing_183 : decode cX3_doing 183 = .ok (.iload_n 1, 1) := dk_27 (dk_at dksX3_doing_7 13 rfl rfl)
theorem dX3_doing_184 : decode cX3_doing 184 = .ok (.invokespecial 119, 3) := dk_183 0 119 (dk_at dksX3_doing_7 14 rfl rfl)
theorem dX3_doing_187 : decode cX3_doing 187 = .ok (.areturn, 1) := dk_176 (dk_at dksX3_doing_7 17 rfl rfl)
theorem dX3_doing_188 : decode cX3_doing 188 = .ok (.new 117, 3) := dk_187 0 117 (dk_at dksX3_doing_7 18 rfl rfl)
theorem dX3_doing_191 : decode cX3_doing 191 = .ok (.dup, 1) := dk_89 (dk_at dksX3_doing_7 21 rfl rfl)
theorem dX3_doing_192 : decode cX3_doing 192 = .ok (.aload_n 0, 1) := dk_42 (dk_at dksX3_doing_7 22 rfl rfl)
theorem dX3_doing_193 : decode cX3_doing 193 = .ok (.getfield 83, 3) := dk_180 0 83 (dk_at dksX3_doing_8 0 rfl rfl)
theorem dX3_doing_196 : decode cX3_doing 196 = .ok (.aload_n 0, 1) := dk_42 (dk_at dksX3_doing_8 3 rfl rfl)
theorem dX3_doing_197 : decode cX3_doing 197 = .ok (.iconst 0, 1) := dk_3 (dk_at dksX3_doing_8 4 rfl rfl)
theorem dX3_doing_198 : decode cX3_doing 198 = .ok (.bipush 7, 2) := dk_16 7 (dk_at dksX3_doing_8 5 rfl rfl)
theorem dX3_doing_200 : decode cX3_doing 200 = .ok (.invokevirtual 115, 3) := dk_182 0 115 (dk_at dksX3_doing_8 7 rfl rfl)
theorem dX3_doing_203 : decode cX3_doing 203 = .ok (.iconst (-1), 1) := dk_2 (dk_at dksX3_doing_8 10 rfl rfl)
theorem dX3_doing_204 : decode cX3_doing 204 = .ok (.iconst (-1), 1) := dk_2 (dk_at dksX3_doing_8 11 rfl rfl)
theorem dX3_doing_205 : decode cX3_doing 205 = .ok (.iconst 0, 1) := dk_3 (dk_at dksX3_doing_8 12 rfl rfl)
theorem dX3_doing_206 : decode cX3_doing 206 = .ok (.iload_n 1, 1) := dk_27 (dk_at dksX3_doing_8 13 rfl rfl)
theorem dX3_doing_207 : decode cX3_doing 207 = .ok (.invokespecial 119, 3) := dk_183 0 119 (dk_at dksX3_doing_8 14 rfl rfl)
theorem dX3_doing_210 : decode cX3_doing 210 = .ok (.areturn, 1) := dk_176 (dk_at dksX3_doing_8 17 rfl rfl)
theorem dX3_doing_211 : decode cX3_doing 211 = .ok (.new 117, 3) := dk_187 0 117 (dk_at dksX3_doing_8 18 rfl rfl)
theorem dX3_doing_214 : decode cX3_doing 214 = .ok (.dup, 1) := dk_89 (dk_at dksX3_doing_8 21 rfl rfl)
theorem dX3_doing_215 : decode cX3_doing 215 = .ok (.aload_n 0, 1) := dk_42 (dk_at dksX3_doing_8 22 rfl rfl)
theorem dX3_doing_216 : decode cX3_doing 216 = .ok (.getfield 83, 3) := dk_180 0 83 (dk_at dksX3_doing_9 0 rfl rfl)
theorem dX3_doing_219 : decode cX3_doing 219 = .ok (.iconst (-1), 1) := dk_2 (dk_at dksX3_doing_9 3 rfl rfl)
theorem dX3_doing_220 : decode cX3_doing 220 = .ok (.iconst (-1), 1) := dk_2 (dk_at dksX3_doing_9 4 rfl rfl)
theorem dX3_doing_221 : decode cX3_doing 221 = .ok (.iconst (-1), 1) := dk_2 (dk_at dksX3_doing_9 5 rfl rfl)
theorem dX3_doing_222 : decode cX3_doing 222 = .ok (.iconst 0, 1) := dk_3 (dk_at dksX3_doing_9 6 rfl rfl)
theorem dX3_doing_223 : decode cX3_doing 223 = .ok (.iload_n 1, 1) := dk_27 (dk_at dksX3_doing_9 7 rfl rfl)
theorem dX3_doing_224 : decode cX3_doing 224 = .ok (.invokespecial 119, 3) := dk_183 0 119 (dk_at dksX3_doing_9 8 rfl rfl)
theorem dX3_doing_227 : decode cX3_doing 227 = .ok (.areturn, 1) := dk_176 (dk_at dksX3_doing_9 11 rfl rfl)
abbrev cX3_deed : ByteArray := prog_12_method_13_code
def yX3_deed : MethodName := ⟨RX3, "deed", "(I)LAgainstFeather$Doing;"⟩
def dkwX3_deed_5 : List UInt8 := [17, 0, 205, 21, 4, 28, 29, 21, 5, 27, 183, 0, 119, 176]
abbrev dktX3_deed_5 : List UInt8 := dkwX3_deed_5 ++ []
def dkwX3_deed_4 : List UInt8 := [182, 0, 70, 191, 21, 5, 21, 6, 128, 54, 5, 42, 182, 0, 74, 167, 255, 180, 187, 0, 117, 89]
abbrev dktX3_deed_4 : List UInt8 := dkwX3_deed_4 ++ dktX3_deed_5
def dkwX3_deed_3 : List UInt8 := [191, 4, 42, 180, 0, 25, 17, 0, 219, 100, 120, 54, 6, 21, 5, 21, 6, 126, 153, 0, 9, 42, 7]
abbrev dktX3_deed_3 : List UInt8 := dkwX3_deed_3 ++ dktX3_deed_4
def dkwX3_deed_2 : List UInt8 := [180, 0, 25, 17, 0, 219, 161, 0, 13, 42, 180, 0, 25, 17, 0, 221, 164, 0, 9, 42, 4, 182, 0, 70]
abbrev dktX3_deed_2 : List UInt8 := dkwX3_deed_2 ++ dktX3_deed_3
def dkwX3_deed_1 : List UInt8 := [182, 0, 128, 54, 4, 3, 54, 5, 42, 180, 0, 25, 16, 44, 160, 0, 73, 42, 182, 0, 74, 42]
abbrev dktX3_deed_1 : List UInt8 := dkwX3_deed_1 ++ dktX3_deed_2
def dkwX3_deed_0 : List UInt8 := [42, 3, 16, 9, 182, 0, 115, 61, 42, 17, 0, 213, 16, 99, 182, 0, 128, 62, 42, 17, 0, 214, 8]
abbrev dktX3_deed_0 : List UInt8 := dkwX3_deed_0 ++ dktX3_deed_1
theorem dksX3_deed_0 : cX3_deed.data.toList.drop 0 = dktX3_deed_0 := by decide +kernel
theorem dksX3_deed_1 : cX3_deed.data.toList.drop 23 = dktX3_deed_1 := dk_seg dksX3_deed_0 23 rfl rfl
theorem dksX3_deed_2 : cX3_deed.data.toList.drop 45 = dktX3_deed_2 := dk_seg dksX3_deed_1 22 rfl rfl
theorem dksX3_deed_3 : cX3_deed.data.toList.drop 69 = dktX3_deed_3 := dk_seg dksX3_deed_2 24 rfl rfl
theorem dksX3_deed_4 : cX3_deed.data.toList.drop 92 = dktX3_deed_4 := dk_seg dksX3_deed_3 23 rfl rfl
theorem dksX3_deed_5 : cX3_deed.data.toList.drop 114 = dktX3_deed_5 := dk_seg dksX3_deed_4 22 rfl rfl
theorem dX3_deed_0 : decode cX3_deed 0 = .ok (.aload_n 0, 1) := dk_42 (dk_at dksX3_deed_0 0 rfl rfl)
theorem dX3_deed_1 : decode cX3_deed 1 = .ok (.iconst 0, 1) := dk_3 (dk_at dksX3_deed_0 1 rfl rfl)
theorem dX3_deed_2 : decode cX3_deed 2 = .ok (.bipush 9, 2) := dk_16 9 (dk_at dksX3_deed_0 2 rfl rfl)
theorem dX3_deed_4 : decode cX3_deed 4 = .ok (.invokevirtual 115, 3) := dk_182 0 115 (dk_at dksX3_deed_0 4 rfl rfl)
theorem dX3_deed_7 : decode cX3_deed 7 = .ok (.istore_n 2, 1) := dk_61 (dk_at dksX3_deed_0 7 rfl rfl)
theorem dX3_deed_8 : decode cX3_deed 8 = .ok (.aload_n 0, 1) := dk_42 (dk_at dksX3_deed_0 8 rfl rfl)
theorem dX3_deed_9 : decode cX3_deed 9 = .ok (.sipush 213, 3) := dk_17 0 213 (dk_at dksX3_deed_0 9 rfl rfl)
theorem dX3_deed_12 : decode cX3_deed 12 = .ok (.bipush 99, 2) := dk_16 99 (dk_at dksX3_deed_0 12 rfl rfl)
theorem dX3_deed_14 : decode cX3_deed 14 = .ok (.invokevirtual 128, 3) := dk_182 0 128 (dk_at dksX3_deed_0 14 rfl rfl)
theorem dX3_deed_17 : decode cX3_deed 17 = .ok (.istore_n 3, 1) := dk_62 (dk_at dksX3_deed_0 17 rfl rfl)
theorem dX3_deed_18 : decode cX3_deed 18 = .ok (.aload_n 0, 1) := dk_42 (dk_at dksX3_deed_0 18 rfl rfl)
theorem dX3_deed_19 : decode cX3_deed 19 = .ok (.sipush 214, 3) := dk_17 0 214 (dk_at dksX3_deed_0 19 rfl rfl)
theorem dX3_deed_22 : decode cX3_deed 22 = .ok (.iconst 5, 1) := dk_8 (dk_at dksX3_deed_0 22 rfl rfl)
theorem dX3_deed_23 : decode cX3_deed 23 = .ok (.invokevirtual 128, 3) := dk_182 0 128 (dk_at dksX3_deed_1 0 rfl rfl)
theorem dX3_deed_26 : decode cX3_deed 26 = .ok (.istore 4, 2) := dk_54 4 (dk_at dksX3_deed_1 3 rfl rfl)
theorem dX3_deed_28 : decode cX3_deed 28 = .ok (.iconst 0, 1) := dk_3 (dk_at dksX3_deed_1 5 rfl rfl)
theorem dX3_deed_29 : decode cX3_deed 29 = .ok (.istore 5, 2) := dk_54 5 (dk_at dksX3_deed_1 6 rfl rfl)
theorem dX3_deed_31 : decode cX3_deed 31 = .ok (.aload_n 0, 1) := dk_42 (dk_at dksX3_deed_1 8 rfl rfl)
theorem dX3_deed_32 : decode cX3_deed 32 = .ok (.getfield 25, 3) := dk_180 0 25 (dk_at dksX3_deed_1 9 rfl rfl)
theorem dX3_deed_35 : decode cX3_deed 35 = .ok (.bipush 44, 2) := dk_16 44 (dk_at dksX3_deed_1 12 rfl rfl)
theorem dX3_deed_37 : decode cX3_deed 37 = .ok (.if_icmp .ne 73, 3) := dk_160 0 73 (dk_at dksX3_deed_1 14 rfl rfl)
theorem dX3_deed_40 : decode cX3_deed 40 = .ok (.aload_n 0, 1) := dk_42 (dk_at dksX3_deed_1 17 rfl rfl)
theorem dX3_deed_41 : decode cX3_deed 41 = .ok (.invokevirtual 74, 3) := dk_182 0 74 (dk_at dksX3_deed_1 18 rfl rfl)
theorem dX3_deed_44 : decode cX3_deed 44 = .ok (.aload_n 0, 1) := dk_42 (dk_at dksX3_deed_1 21 rfl rfl)
theorem dX3_deed_45 : decode cX3_deed 45 = .ok (.getfield 25, 3) := dk_180 0 25 (dk_at dksX3_deed_2 0 rfl rfl)
theorem dX3_deed_48 : decode cX3_deed 48 = .ok (.sipush 219, 3) := dk_17 0 219 (dk_at dksX3_deed_2 3 rfl rfl)
theorem dX3_deed_51 : decode cX3_deed 51 = .ok (.if_icmp .lt 13, 3) := dk_161 0 13 (dk_at dksX3_deed_2 6 rfl rfl)
theorem dX3_deed_54 : decode cX3_deed 54 = .ok (.aload_n 0, 1) := dk_42 (dk_at dksX3_deed_2 9 rfl rfl)
theorem dX3_deed_55 : decode cX3_deed 55 = .ok (.getfield 25, 3) := dk_180 0 25 (dk_at dksX3_deed_2 10 rfl rfl)
theorem dX3_deed_58 : decode cX3_deed 58 = .ok (.sipush 221, 3) := dk_17 0 221 (dk_at dksX3_deed_2 13 rfl rfl)
theorem dX3_deed_61 : decode cX3_deed 61 = .ok (.if_icmp .le 9, 3) := dk_164 0 9 (dk_at dksX3_deed_2 16 rfl rfl)
theorem dX3_deed_64 : decode cX3_deed 64 = .ok (.aload_n 0, 1) := dk_42 (dk_at dksX3_deed_2 19 rfl rfl)
theorem dX3_deed_65 : decode cX3_deed 65 = .ok (.iconst 1, 1) := dk_4 (dk_at dksX3_deed_2 20 rfl rfl)
theorem dX3_deed_66 : decode cX3_deed 66 = .ok (.invokevirtual 70, 3) := dk_182 0 70 (dk_at dksX3_deed_2 21 rfl rfl)
theorem dX3_deed_69 : decode cX3_deed 69 = .ok (.athrow, 1) := dk_191 (dk_at dksX3_deed_3 0 rfl rfl)
theorem dX3_deed_70 : decode cX3_deed 70 = .ok (.iconst 1, 1) := dk_4 (dk_at dksX3_deed_3 1 rfl rfl)
theorem dX3_deed_71 : decode cX3_deed 71 = .ok (.aload_n 0, 1) := dk_42 (dk_at dksX3_deed_3 2 rfl rfl)
theorem dX3_deed_72 : decode cX3_deed 72 = .ok (.getfield 25, 3) := dk_180 0 25 (dk_at dksX3_deed_3 3 rfl rfl)
theorem dX3_deed_75 : decode cX3_deed 75 = .ok (.sipush 219, 3) := dk_17 0 219 (dk_at dksX3_deed_3 6 rfl rfl)
theorem dX3_deed_78 : decode cX3_deed 78 = .ok (.isub, 1) := dk_100 (dk_at dksX3_deed_3 9 rfl rfl)
theorem dX3_deed_79 : decode cX3_deed 79 = .ok (.ishl, 1) := dk_120 (dk_at dksX3_deed_3 10 rfl rfl)
theorem dX3_deed_80 : decode cX3_deed 80 = .ok (.istore 6, 2) := dk_54 6 (dk_at dksX3_deed_3 11 rfl rfl)
theorem dX3_deed_82 : decode cX3_deed 82 = .ok (.iload 5, 2) := dk_21 5 (dk_at dksX3_deed_3 13 rfl rfl)
theorem dX3_deed_84 : decode cX3_deed 84 = .ok (.iload 6, 2) := dk_21 6 (dk_at dksX3_deed_3 15 rfl rfl)
theorem dX3_deed_86 : decode cX3_deed 86 = .ok (.iand, 1) := dk_126 (dk_at dksX3_deed_3 17 rfl rfl)
theorem dX3_deed_87 : decode cX3_deed 87 = .ok (.ifCond .eq 9, 3) := dk_153 0 9 (dk_at dksX3_deed_3 18 rfl rfl)
theorem dX3_deed_90 : decode cX3_deed 90 = .ok (.aload_n 0, 1) := dk_42 (dk_at dksX3_deed_3 21 rfl rfl)
theorem dX3_deed_91 : decode cX3_deed 91 = .ok (.iconst 4, 1) := dk_7 (dk_at dksX3_deed_3 22 rfl rfl)
theorem dX3_deed_92 : decode cX3_deed 92 = .ok (.invokevirtual 70, 3) := dk_182 0 70 (dk_at dksX3_deed_4 0 rfl rfl)
theorem dX3_deed_95 : decode cX3_deed 95 = .ok (.athrow, 1) := dk_191 (dk_at dksX3_deed_4 3 rfl rfl)
theorem dX3_deed_96 : decode cX3_deed 96 = .ok (.iload 5, 2) := dk_21 5 (dk_at dksX3_deed_4 4 rfl rfl)
theorem dX3_deed_98 : decode cX3_deed 98 = .ok (.iload 6, 2) := dk_21 6 (dk_at dksX3_deed_4 6 rfl rfl)
theorem dX3_deed_100 : decode cX3_deed 100 = .ok (.ior, 1) := dk_128 (dk_at dksX3_deed_4 8 rfl rfl)
theorem dX3_deed_101 : decode cX3_deed 101 = .ok (.istore 5, 2) := dk_54 5 (dk_at dksX3_deed_4 9 rfl rfl)
theorem dX3_deed_103 : decode cX3_deed 103 = .ok (.aload_n 0, 1) := dk_42 (dk_at dksX3_deed_4 11 rfl rfl)
theorem dX3_deed_104 : decode cX3_deed 104 = .ok (.invokevirtual 74, 3) := dk_182 0 74 (dk_at dksX3_deed_4 12 rfl rfl)
theorem dX3_deed_107 : decode cX3_deed 107 = .ok (.goto (-76), 3) := dk_167 255 180 (dk_at dksX3_deed_4 15 rfl rfl)
theorem dX3_deed_110 : decode cX3_deed 110 = .ok (.new 117, 3) := dk_187 0 117 (dk_at dksX3_deed_4 18 rfl rfl)
theorem dX3_deed_113 : decode cX3_deed 113 = .ok (.dup, 1) := dk_89 (dk_at dksX3_deed_4 21 rfl rfl)
theorem dX3_deed_114 : decode cX3_deed 114 = .ok (.sipush 205, 3) := dk_17 0 205 (dk_at dksX3_deed_5 0 rfl rfl)
theorem dX3_deed_117 : decode cX3_deed 117 = .ok (.iload 4, 2) := dk_21 4 (dk_at dksX3_deed_5 3 rfl rfl)
theorem dX3_deed_119 : decode cX3_deed 119 = .ok (.iload_n 2, 1) := dk_28 (dk_at dksX3_deed_5 5 rfl rfl)
theorem dX3_deed_120 : decode cX3_deed 120 = .ok (.iload_n 3, 1) := dk_29 (dk_at dksX3_deed_5 6 rfl rfl)
theorem dX3_deed_121 : decode cX3_deed 121 = .ok (.iload 5, 2) := dk_21 5 (dk_at dksX3_deed_5 7 rfl rfl)
theorem dX3_deed_123 : decode cX3_deed 123 = .ok (.iload_n 1, 1) := dk_27 (dk_at dksX3_deed_5 9 rfl rfl)
theorem dX3_deed_124 : decode cX3_deed 124 = .ok (.invokespecial 119, 3) := dk_183 0 119 (dk_at dksX3_deed_5 10 rfl rfl)
theorem dX3_deed_127 : decode cX3_deed 127 = .ok (.areturn, 1) := dk_176 (dk_at dksX3_deed_5 13 rfl rfl)
abbrev cX3_behind : ByteArray := prog_12_method_11_code
def yX3_behind : MethodName := ⟨RX3, "behind", "(II)I"⟩
def dkwX3_behind_0 : List UInt8 := [42, 27, 182, 0, 111, 42, 3, 28, 182, 0, 115, 172]
abbrev dktX3_behind_0 : List UInt8 := dkwX3_behind_0 ++ []
theorem dksX3_behind_0 : cX3_behind.data.toList.drop 0 = dktX3_behind_0 := by decide +kernel
theorem dX3_behind_0 : decode cX3_behind 0 = .ok (.aload_n 0, 1) := dk_42 (dk_at dksX3_behind_0 0 rfl rfl)
theorem dX3_behind_1 : decode cX3_behind 1 = .ok (.iload_n 1, 1) := dk_27 (dk_at dksX3_behind_0 1 rfl rfl)
theorem dX3_behind_2 : decode cX3_behind 2 = .ok (.invokevirtual 111, 3) := dk_182 0 111 (dk_at dksX3_behind_0 2 rfl rfl)
theorem dX3_behind_5 : decode cX3_behind 5 = .ok (.aload_n 0, 1) := dk_42 (dk_at dksX3_behind_0 5 rfl rfl)
theorem dX3_behind_6 : decode cX3_behind 6 = .ok (.iconst 0, 1) := dk_3 (dk_at dksX3_behind_0 6 rfl rfl)
theorem dX3_behind_7 : decode cX3_behind 7 = .ok (.iload_n 2, 1) := dk_28 (dk_at dksX3_behind_0 7 rfl rfl)
theorem dX3_behind_8 : decode cX3_behind 8 = .ok (.invokevirtual 115, 3) := dk_182 0 115 (dk_at dksX3_behind_0 8 rfl rfl)
theorem dX3_behind_11 : decode cX3_behind 11 = .ok (.ireturn, 1) := dk_172 (dk_at dksX3_behind_0 11 rfl rfl)
abbrev cX3_kinds : ByteArray := prog_12_method_14_code
def yX3_kinds : MethodName := ⟨RX3, "kinds", "()I"⟩
def dkwX3_kinds_3 : List UInt8 := [28, 153, 255, 187, 42, 182, 0, 74, 167, 255, 180, 27, 172]
abbrev dktX3_kinds_3 : List UInt8 := dkwX3_kinds_3 ++ []
def dkwX3_kinds_2 : List UInt8 := [3, 16, 9, 182, 0, 115, 120, 128, 60, 42, 180, 0, 25, 16, 44, 160, 0, 7, 4, 167, 0, 4, 3, 61]
abbrev dktX3_kinds_2 : List UInt8 := dkwX3_kinds_2 ++ dktX3_kinds_3
def dkwX3_kinds_1 : List UInt8 := [162, 0, 21, 27, 42, 180, 0, 43, 122, 4, 126, 4, 160, 0, 9, 42, 7, 182, 0, 70, 191, 27, 4, 42]
abbrev dktX3_kinds_1 : List UInt8 := dkwX3_kinds_1 ++ dktX3_kinds_2
def dkwX3_kinds_0 : List UInt8 := [3, 60, 4, 61, 28, 153, 0, 78, 42, 180, 0, 25, 17, 1, 44, 160, 0, 30, 42, 180, 0, 43, 16, 10]
abbrev dktX3_kinds_0 : List UInt8 := dkwX3_kinds_0 ++ dktX3_kinds_1
theorem dksX3_kinds_0 : cX3_kinds.data.toList.drop 0 = dktX3_kinds_0 := by decide +kernel
theorem dksX3_kinds_1 : cX3_kinds.data.toList.drop 24 = dktX3_kinds_1 := dk_seg dksX3_kinds_0 24 rfl rfl
theorem dksX3_kinds_2 : cX3_kinds.data.toList.drop 48 = dktX3_kinds_2 := dk_seg dksX3_kinds_1 24 rfl rfl
theorem dksX3_kinds_3 : cX3_kinds.data.toList.drop 72 = dktX3_kinds_3 := dk_seg dksX3_kinds_2 24 rfl rfl
theorem dX3_kinds_0 : decode cX3_kinds 0 = .ok (.iconst 0, 1) := dk_3 (dk_at dksX3_kinds_0 0 rfl rfl)
theorem dX3_kinds_1 : decode cX3_kinds 1 = .ok (.istore_n 1, 1) := dk_60 (dk_at dksX3_kinds_0 1 rfl rfl)
theorem dX3_kinds_2 : decode cX3_kinds 2 = .ok (.iconst 1, 1) := dk_4 (dk_at dksX3_kinds_0 2 rfl rfl)
theorem dX3_kinds_3 : decode cX3_kinds 3 = .ok (.istore_n 2, 1) := dk_61 (dk_at dksX3_kinds_0 3 rfl rfl)
theorem dX3_kinds_4 : decode cX3_kinds 4 = .ok (.iload_n 2, 1) := dk_28 (dk_at dksX3_kinds_0 4 rfl rfl)
theorem dX3_kinds_5 : decode cX3_kinds 5 = .ok (.ifCond .eq 78, 3) := dk_153 0 78 (dk_at dksX3_kinds_0 5 rfl rfl)
theorem dX3_kinds_8 : decode cX3_kinds 8 = .ok (.aload_n 0, 1) := dk_42 (dk_at dksX3_kinds_0 8 rfl rfl)
theorem dX3_kinds_9 : decode cX3_kinds 9 = .ok (.getfield 25, 3) := dk_180 0 25 (dk_at dksX3_kinds_0 9 rfl rfl)
theorem dX3_kinds_12 : decode cX3_kinds 12 = .ok (.sipush 300, 3) := dk_17 1 44 (dk_at dksX3_kinds_0 12 rfl rfl)
theorem dX3_kinds_15 : decode cX3_kinds 15 = .ok (.if_icmp .ne 30, 3) := dk_160 0 30 (dk_at dksX3_kinds_0 15 rfl rfl)
theorem dX3_kinds_18 : decode cX3_kinds 18 = .ok (.aload_n 0, 1) := dk_42 (dk_at dksX3_kinds_0 18 rfl rfl)
theorem dX3_kinds_19 : decode cX3_kinds 19 = .ok (.getfield 43, 3) := dk_180 0 43 (dk_at dksX3_kinds_0 19 rfl rfl)
theorem dX3_kinds_22 : decode cX3_kinds 22 = .ok (.bipush 10, 2) := dk_16 10 (dk_at dksX3_kinds_0 22 rfl rfl)
theorem dX3_kinds_24 : decode cX3_kinds 24 = .ok (.if_icmp .ge 21, 3) := dk_162 0 21 (dk_at dksX3_kinds_1 0 rfl rfl)
theorem dX3_kinds_27 : decode cX3_kinds 27 = .ok (.iload_n 1, 1) := dk_27 (dk_at dksX3_kinds_1 3 rfl rfl)
theorem dX3_kinds_28 : decode cX3_kinds 28 = .ok (.aload_n 0, 1) := dk_42 (dk_at dksX3_kinds_1 4 rfl rfl)
theorem dX3_kinds_29 : decode cX3_kinds 29 = .ok (.getfield 43, 3) := dk_180 0 43 (dk_at dksX3_kinds_1 5 rfl rfl)
theorem dX3_kinds_32 : decode cX3_kinds 32 = .ok (.ishr, 1) := dk_122 (dk_at dksX3_kinds_1 8 rfl rfl)
theorem dX3_kinds_33 : decode cX3_kinds 33 = .ok (.iconst 1, 1) := dk_4 (dk_at dksX3_kinds_1 9 rfl rfl)
theorem dX3_kinds_34 : decode cX3_kinds 34 = .ok (.iand, 1) := dk_126 (dk_at dksX3_kinds_1 10 rfl rfl)
theorem dX3_kinds_35 : decode cX3_kinds 35 = .ok (.iconst 1, 1) := dk_4 (dk_at dksX3_kinds_1 11 rfl rfl)
theorem dX3_kinds_36 : decode cX3_kinds 36 = .ok (.if_icmp .ne 9, 3) := dk_160 0 9 (dk_at dksX3_kinds_1 12 rfl rfl)
theorem dX3_kinds_39 : decode cX3_kinds 39 = .ok (.aload_n 0, 1) := dk_42 (dk_at dksX3_kinds_1 15 rfl rfl)
theorem dX3_kinds_40 : decode cX3_kinds 40 = .ok (.iconst 4, 1) := dk_7 (dk_at dksX3_kinds_1 16 rfl rfl)
theorem dX3_kinds_41 : decode cX3_kinds 41 = .ok (.invokevirtual 70, 3) := dk_182 0 70 (dk_at dksX3_kinds_1 17 rfl rfl)
theorem dX3_kinds_44 : decode cX3_kinds 44 = .ok (.athrow, 1) := dk_191 (dk_at dksX3_kinds_1 20 rfl rfl)
theorem dX3_kinds_45 : decode cX3_kinds 45 = .ok (.iload_n 1, 1) := dk_27 (dk_at dksX3_kinds_1 21 rfl rfl)
theorem dX3_kinds_46 : decode cX3_kinds 46 = .ok (.iconst 1, 1) := dk_4 (dk_at dksX3_kinds_1 22 rfl rfl)
theorem dX3_kinds_47 : decode cX3_kinds 47 = .ok (.aload_n 0, 1) := dk_42 (dk_at dksX3_kinds_1 23 rfl rfl)
theorem dX3_kinds_48 : decode cX3_kinds 48 = .ok (.iconst 0, 1) := dk_3 (dk_at dksX3_kinds_2 0 rfl rfl)
theorem dX3_kinds_49 : decode cX3_kinds 49 = .ok (.bipush 9, 2) := dk_16 9 (dk_at dksX3_kinds_2 1 rfl rfl)
theorem dX3_kinds_51 : decode cX3_kinds 51 = .ok (.invokevirtual 115, 3) := dk_182 0 115 (dk_at dksX3_kinds_2 3 rfl rfl)
theorem dX3_kinds_54 : decode cX3_kinds 54 = .ok (.ishl, 1) := dk_120 (dk_at dksX3_kinds_2 6 rfl rfl)
theorem dX3_kinds_55 : decode cX3_kinds 55 = .ok (.ior, 1) := dk_128 (dk_at dksX3_kinds_2 7 rfl rfl)
theorem dX3_kinds_56 : decode cX3_kinds 56 = .ok (.istore_n 1, 1) := dk_60 (dk_at dksX3_kinds_2 8 rfl rfl)
theorem dX3_kinds_57 : decode cX3_kinds 57 = .ok (.aload_n 0, 1) := dk_42 (dk_at dksX3_kinds_2 9 rfl rfl)
theorem dX3_kinds_58 : decode cX3_kinds 58 = .ok (.getfield 25, 3) := dk_180 0 25 (dk_at dksX3_kinds_2 10 rfl rfl)
theorem dX3_kinds_61 : decode cX3_kinds 61 = .ok (.bipush 44, 2) := dk_16 44 (dk_at dksX3_kinds_2 13 rfl rfl)
theorem dX3_kinds_63 : decode cX3_kinds 63 = .ok (.if_icmp .ne 7, 3) := dk_160 0 7 (dk_at dksX3_kinds_2 15 rfl rfl)
theorem dX3_kinds_66 : decode cX3_kinds 66 = .ok (.iconst 1, 1) := dk_4 (dk_at dksX3_kinds_2 18 rfl rfl)
theorem dX3_kinds_67 : decode cX3_kinds 67 = .ok (.goto 4, 3) := dk_167 0 4 (dk_at dksX3_kinds_2 19 rfl rfl)
theorem dX3_kinds_70 : decode cX3_kinds 70 = .ok (.iconst 0, 1) := dk_3 (dk_at dksX3_kinds_2 22 rfl rfl)
theorem dX3_kinds_71 : decode cX3_kinds 71 = .ok (.istore_n 2, 1) := dk_61 (dk_at dksX3_kinds_2 23 rfl rfl)
theorem dX3_kinds_72 : decode cX3_kinds 72 = .ok (.iload_n 2, 1) := dk_28 (dk_at dksX3_kinds_3 0 rfl rfl)
theorem dX3_kinds_73 : decode cX3_kinds 73 = .ok (.ifCond .eq (-69), 3) := dk_153 255 187 (dk_at dksX3_kinds_3 1 rfl rfl)
theorem dX3_kinds_76 : decode cX3_kinds 76 = .ok (.aload_n 0, 1) := dk_42 (dk_at dksX3_kinds_3 4 rfl rfl)
theorem dX3_kinds_77 : decode cX3_kinds 77 = .ok (.invokevirtual 74, 3) := dk_182 0 74 (dk_at dksX3_kinds_3 5 rfl rfl)
theorem dX3_kinds_80 : decode cX3_kinds 80 = .ok (.goto (-76), 3) := dk_167 255 180 (dk_at dksX3_kinds_3 8 rfl rfl)
theorem dX3_kinds_83 : decode cX3_kinds 83 = .ok (.iload_n 1, 1) := dk_27 (dk_at dksX3_kinds_3 11 rfl rfl)
theorem dX3_kinds_84 : decode cX3_kinds 84 = .ok (.ireturn, 1) := dk_172 (dk_at dksX3_kinds_3 12 rfl rfl)
theorem q141 : (Jvm.Cond.initialized "AgainstFeather$Tokens") ∈ lw_all := lw_g (lw_at lw_m1 5 rfl) rfl
theorem q370 : (Jvm.Cond.instantiable "AgainstFeather$Tokens" (8 : Nat)) ∈ lw_all := lw_g (lw_at lw_m1 234 rfl) rfl
theorem q372 : (Jvm.Cond.instanceMethod ({ cls := "AgainstFeather$Tokens", name := "<init>", desc := "([BI)V" } : Jvm.MethodName)) ∈ lw_all := lw_g (lw_at lw_m1 236 rfl) rfl
theorem q373 : (Jvm.Cond.code ({ cls := "AgainstFeather$Tokens", name := "<init>", desc := "([BI)V" } : Jvm.MethodName) prog_12_method_1_code (3 : Nat) (Option.none : Option Jvm.ClassFile.FieldType)) ∈ lw_all := lw_g (lw_at lw_m1 237 rfl) rfl
theorem q374 : (Jvm.Cond.methodLink "AgainstFeather$Tokens" (3 : Nat) ({ cls := "java/lang/Object", name := "<init>", desc := "()V" } : Jvm.MethodName)) ∈ lw_all := lw_g (lw_at lw_m1 238 rfl) rfl
theorem q375 : (Jvm.Cond.fieldLink "AgainstFeather$Tokens" (9 : Nat) "AgainstFeather$Tokens" "text" "[B") ∈ lw_all := lw_g (lw_at lw_m1 239 rfl) rfl
theorem q376 : (Jvm.Cond.fieldLink "AgainstFeather$Tokens" (15 : Nat) "AgainstFeather$Tokens" "size" "I") ∈ lw_all := lw_g (lw_at lw_m2 0 rfl) rfl
theorem q377 : (Jvm.Cond.fieldLink "AgainstFeather$Tokens" (19 : Nat) "AgainstFeather$Tokens" "at" "I") ∈ lw_all := lw_g (lw_at lw_m2 1 rfl) rfl
theorem q378 : (Jvm.Cond.fieldLink "AgainstFeather$Tokens" (22 : Nat) "AgainstFeather$Tokens" "token" "I") ∈ lw_all := lw_g (lw_at lw_m2 2 rfl) rfl
theorem q379 : (Jvm.Cond.fieldLink "AgainstFeather$Tokens" (25 : Nat) "AgainstFeather$Tokens" "sort" "I") ∈ lw_all := lw_g (lw_at lw_m2 3 rfl) rfl
theorem q380 : (Jvm.Cond.fieldLink "AgainstFeather$Tokens" (43 : Nat) "AgainstFeather$Tokens" "number" "I") ∈ lw_all := lw_g (lw_at lw_m2 4 rfl) rfl
theorem q381 : (Jvm.Cond.fieldLink "AgainstFeather$Tokens" (77 : Nat) "AgainstFeather$Tokens" "open" "I") ∈ lw_all := lw_g (lw_at lw_m2 5 rfl) rfl
theorem q382 : (Jvm.Cond.fieldLink "AgainstFeather$Tokens" (83 : Nat) "AgainstFeather$Tokens" "kind" "I") ∈ lw_all := lw_g (lw_at lw_m2 6 rfl) rfl
theorem q383 : (Jvm.Cond.laysFinal "AgainstFeather$Tokens" "AgainstFeather$Tokens" "text" "[B") ∈ lw_all := lw_g (lw_at lw_m2 7 rfl) rfl
theorem q384 : (Jvm.Cond.soleField "AgainstFeather$Tokens" "text") ∈ lw_all := lw_g (lw_at lw_m2 8 rfl) rfl
theorem q385 : (Jvm.Cond.laysFinal "AgainstFeather$Tokens" "AgainstFeather$Tokens" "size" "I") ∈ lw_all := lw_g (lw_at lw_m2 9 rfl) rfl
theorem q386 : (Jvm.Cond.soleField "AgainstFeather$Tokens" "size") ∈ lw_all := lw_g (lw_at lw_m2 10 rfl) rfl
theorem q387 : (Jvm.Cond.lays "AgainstFeather$Tokens" "AgainstFeather$Tokens" "at" "I") ∈ lw_all := lw_g (lw_at lw_m2 11 rfl) rfl
theorem q388 : (Jvm.Cond.soleField "AgainstFeather$Tokens" "at") ∈ lw_all := lw_g (lw_at lw_m2 12 rfl) rfl
theorem q389 : (Jvm.Cond.lays "AgainstFeather$Tokens" "AgainstFeather$Tokens" "token" "I") ∈ lw_all := lw_g (lw_at lw_m2 13 rfl) rfl
theorem q390 : (Jvm.Cond.soleField "AgainstFeather$Tokens" "token") ∈ lw_all := lw_g (lw_at lw_m2 14 rfl) rfl
theorem q391 : (Jvm.Cond.lays "AgainstFeather$Tokens" "AgainstFeather$Tokens" "sort" "I") ∈ lw_all := lw_g (lw_at lw_m2 15 rfl) rfl
theorem q392 : (Jvm.Cond.soleField "AgainstFeather$Tokens" "sort") ∈ lw_all := lw_g (lw_at lw_m2 16 rfl) rfl
theorem q393 : (Jvm.Cond.lays "AgainstFeather$Tokens" "AgainstFeather$Tokens" "number" "I") ∈ lw_all := lw_g (lw_at lw_m2 17 rfl) rfl
theorem q394 : (Jvm.Cond.soleField "AgainstFeather$Tokens" "number") ∈ lw_all := lw_g (lw_at lw_m2 18 rfl) rfl
theorem q395 : (Jvm.Cond.lays "AgainstFeather$Tokens" "AgainstFeather$Tokens" "open" "I") ∈ lw_all := lw_g (lw_at lw_m2 19 rfl) rfl
theorem q396 : (Jvm.Cond.soleField "AgainstFeather$Tokens" "open") ∈ lw_all := lw_g (lw_at lw_m2 20 rfl) rfl
theorem q397 : (Jvm.Cond.lays "AgainstFeather$Tokens" "AgainstFeather$Tokens" "kind" "I") ∈ lw_all := lw_g (lw_at lw_m2 21 rfl) rfl
theorem q398 : (Jvm.Cond.soleField "AgainstFeather$Tokens" "kind") ∈ lw_all := lw_g (lw_at lw_m2 22 rfl) rfl
theorem q399 : (Jvm.Cond.superclass "AgainstFeather$Tokens" "java/lang/Object") ∈ lw_all := lw_g (lw_at lw_m2 23 rfl) rfl
theorem q401 : (Jvm.Cond.instanceMethod ({ cls := "AgainstFeather$Tokens", name := "read", desc := "()LAgainstFeather$Text;" } : Jvm.MethodName)) ∈ lw_all := lw_g (lw_at lw_m2 25 rfl) rfl
theorem q402 : (Jvm.Cond.selects "AgainstFeather$Tokens" ({ cls := "AgainstFeather$Tokens", name := "read", desc := "()LAgainstFeather$Text;" } : Jvm.MethodName) ({ cls := "AgainstFeather$Tokens", name := "read", desc := "()LAgainstFeather$Text;" } : Jvm.MethodName)) ∈ lw_all := lw_g (lw_at lw_m2 26 rfl) rfl
theorem q403 : (Jvm.Cond.code ({ cls := "AgainstFeather$Tokens", name := "read", desc := "()LAgainstFeather$Text;" } : Jvm.MethodName) prog_12_method_10_code (2 : Nat) (Option.some (Jvm.ClassFile.FieldType.object "AgainstFeather$Text"))) ∈ lw_all := lw_g (lw_at lw_m2 27 rfl) rfl
theorem q404 : (Jvm.Cond.classLink "AgainstFeather$Tokens" (80 : Nat) "AgainstFeather$Text") ∈ lw_all := lw_g (lw_at lw_m2 28 rfl) rfl
theorem q406 : (Jvm.Cond.methodLinkNest "AgainstFeather$Tokens" (82 : Nat) ({ cls := "AgainstFeather$Text", name := "<init>", desc := "()V" } : Jvm.MethodName) "AgainstFeather") ∈ lw_tbl := lw_at lw_m2 30 rfl
theorem q439 : (Jvm.Cond.fieldLinkNest "AgainstFeather$Tokens" (86 : Nat) "AgainstFeather$Text" "law" "[LAgainstFeather$Sum;" "AgainstFeather") ∈ lw_tbl := lw_at lw_m2 63 rfl
theorem q441 : (Jvm.Cond.fieldLinkNest "AgainstFeather$Tokens" (90 : Nat) "AgainstFeather$Text" "clauses" "I" "AgainstFeather") ∈ lw_tbl := lw_at lw_m2 65 rfl
theorem q443 : (Jvm.Cond.fieldLinkNest "AgainstFeather$Tokens" (97 : Nat) "AgainstFeather$Text" "doings" "Ljava/util/ArrayList;" "AgainstFeather") ∈ lw_tbl := lw_at lw_m2 67 rfl
theorem q452 : (Jvm.Cond.methodLink "AgainstFeather$Tokens" (74 : Nat) ({ cls := "AgainstFeather$Tokens", name := "next", desc := "()V" } : Jvm.MethodName)) ∈ lw_all := lw_g (lw_at lw_m2 76 rfl) rfl
theorem q453 : (Jvm.Cond.privateMethod ({ cls := "AgainstFeather$Tokens", name := "next", desc := "()V" } : Jvm.MethodName)) ∈ lw_tbl := lw_at lw_m2 77 rfl
theorem q454 : (Jvm.Cond.instanceMethod ({ cls := "AgainstFeather$Tokens", name := "next", desc := "()V" } : Jvm.MethodName)) ∈ lw_all := lw_g (lw_at lw_m2 78 rfl) rfl
theorem q455 : (Jvm.Cond.code ({ cls := "AgainstFeather$Tokens", name := "next", desc := "()V" } : Jvm.MethodName) prog_12_method_4_code (3 : Nat) (Option.none : Option Jvm.ClassFile.FieldType)) ∈ lw_all := lw_g (lw_at lw_m2 79 rfl) rfl
theorem q456 : (Jvm.Cond.methodLink "AgainstFeather$Tokens" (28 : Nat) ({ cls := "AgainstFeather$Tokens", name := "isLetter", desc := "(I)Z" } : Jvm.MethodName)) ∈ lw_all := lw_g (lw_at lw_m2 80 rfl) rfl
theorem q457 : (Jvm.Cond.static ({ cls := "AgainstFeather$Tokens", name := "isLetter", desc := "(I)Z" } : Jvm.MethodName)) ∈ lw_all := lw_g (lw_at lw_m2 81 rfl) rfl
theorem q458 : (Jvm.Cond.code ({ cls := "AgainstFeather$Tokens", name := "isLetter", desc := "(I)Z" } : Jvm.MethodName) prog_12_method_2_code (1 : Nat) (Option.some Jvm.ClassFile.FieldType.boolean)) ∈ lw_all := lw_g (lw_at lw_m2 82 rfl) rfl
theorem q459 : (Jvm.Cond.fieldLink "AgainstFeather$Tokens" (32 : Nat) "AgainstFeather$Tokens" "WORDS" "[Ljava/lang/String;") ∈ lw_all := lw_g (lw_at lw_m2 83 rfl) rfl
theorem q460 : (Jvm.Cond.laysStatic "AgainstFeather$Tokens" "WORDS" "[Ljava/lang/String;") ∈ lw_tbl := lw_at lw_m2 84 rfl
theorem q461 : (Jvm.Cond.methodLink "AgainstFeather$Tokens" (36 : Nat) ({ cls := "AgainstFeather$Tokens", name := "isWord", desc := "(Ljava/lang/String;)Z" } : Jvm.MethodName)) ∈ lw_all := lw_g (lw_at lw_m2 85 rfl) rfl
theorem q462 : (Jvm.Cond.privateMethod ({ cls := "AgainstFeather$Tokens", name := "isWord", desc := "(Ljava/lang/String;)Z" } : Jvm.MethodName)) ∈ lw_tbl := lw_at lw_m2 86 rfl
theorem q463 : (Jvm.Cond.instanceMethod ({ cls := "AgainstFeather$Tokens", name := "isWord", desc := "(Ljava/lang/String;)Z" } : Jvm.MethodName)) ∈ lw_all := lw_g (lw_at lw_m2 87 rfl) rfl
theorem q464 : (Jvm.Cond.code ({ cls := "AgainstFeather$Tokens", name := "isWord", desc := "(Ljava/lang/String;)Z" } : Jvm.MethodName) prog_12_method_5_code (3 : Nat) (Option.some Jvm.ClassFile.FieldType.boolean)) ∈ lw_all := lw_g (lw_at lw_m2 88 rfl) rfl
theorem q465 : (Jvm.Cond.methodLink "AgainstFeather$Tokens" (55 : Nat) ({ cls := "java/lang/String", name := "length", desc := "()I" } : Jvm.MethodName)) ∈ lw_all := lw_g (lw_at lw_m2 89 rfl) rfl
theorem q475 : (Jvm.Cond.methodLink "AgainstFeather$Tokens" (61 : Nat) ({ cls := "java/lang/String", name := "charAt", desc := "(I)C" } : Jvm.MethodName)) ∈ lw_all := lw_g (lw_at lw_m2 99 rfl) rfl
theorem q513 : (Jvm.Cond.methodLink "AgainstFeather$Tokens" (40 : Nat) ({ cls := "AgainstFeather$Tokens", name := "isDigit", desc := "(I)Z" } : Jvm.MethodName)) ∈ lw_all := lw_g (lw_at lw_m2 137 rfl) rfl
theorem q514 : (Jvm.Cond.static ({ cls := "AgainstFeather$Tokens", name := "isDigit", desc := "(I)Z" } : Jvm.MethodName)) ∈ lw_all := lw_g (lw_at lw_m2 138 rfl) rfl
theorem q515 : (Jvm.Cond.code ({ cls := "AgainstFeather$Tokens", name := "isDigit", desc := "(I)Z" } : Jvm.MethodName) prog_12_method_3_code (1 : Nat) (Option.some Jvm.ClassFile.FieldType.boolean)) ∈ lw_all := lw_g (lw_at lw_m2 139 rfl) rfl
theorem q516 : (Jvm.Cond.constant "AgainstFeather$Tokens" (46 : Nat) (99999 : Int32)) ∈ lw_all := lw_g (lw_at lw_m2 140 rfl) rfl
theorem q517 : (Jvm.Cond.methodLink "AgainstFeather$Tokens" (47 : Nat) ({ cls := "java/lang/Math", name := "min", desc := "(II)I" } : Jvm.MethodName)) ∈ lw_all := lw_g (lw_at lw_m2 141 rfl) rfl
theorem q520 : (Jvm.Cond.stringRef "AgainstFeather$Tokens" (53 : Nat) "<>=#+-*/(),;|") ∈ lw_tbl := lw_at lw_m2 144 rfl
theorem q521 : (Jvm.Cond.methodLink "AgainstFeather$Tokens" (70 : Nat) ({ cls := "AgainstFeather$Tokens", name := "wrong", desc := "(I)LAgainstFeather$Wrong;" } : Jvm.MethodName)) ∈ lw_all := lw_g (lw_at lw_m2 145 rfl) rfl
theorem q522 : (Jvm.Cond.privateMethod ({ cls := "AgainstFeather$Tokens", name := "wrong", desc := "(I)LAgainstFeather$Wrong;" } : Jvm.MethodName)) ∈ lw_tbl := lw_at lw_m2 146 rfl
theorem q523 : (Jvm.Cond.instanceMethod ({ cls := "AgainstFeather$Tokens", name := "wrong", desc := "(I)LAgainstFeather$Wrong;" } : Jvm.MethodName)) ∈ lw_all := lw_g (lw_at lw_m2 147 rfl) rfl
theorem q524 : (Jvm.Cond.code ({ cls := "AgainstFeather$Tokens", name := "wrong", desc := "(I)LAgainstFeather$Wrong;" } : Jvm.MethodName) prog_12_method_6_code (2 : Nat) (Option.some (Jvm.ClassFile.FieldType.object "AgainstFeather$Wrong"))) ∈ lw_all := lw_g (lw_at lw_m2 148 rfl) rfl
theorem q525 : (Jvm.Cond.classLink "AgainstFeather$Tokens" (65 : Nat) "AgainstFeather$Wrong") ∈ lw_all := lw_g (lw_at lw_m2 149 rfl) rfl
theorem q562 : (Jvm.Cond.methodLink "AgainstFeather$Tokens" (67 : Nat) ({ cls := "AgainstFeather$Wrong", name := "<init>", desc := "(II)V" } : Jvm.MethodName)) ∈ lw_all := lw_g (lw_at lw_m2 186 rfl) rfl
theorem q589 : (Jvm.Cond.methodLink "AgainstFeather$Tokens" (93 : Nat) ({ cls := "AgainstFeather$Tokens", name := "sum", desc := "()LAgainstFeather$Sum;" } : Jvm.MethodName)) ∈ lw_all := lw_g (lw_at lw_m2 213 rfl) rfl
theorem q590 : (Jvm.Cond.privateMethod ({ cls := "AgainstFeather$Tokens", name := "sum", desc := "()LAgainstFeather$Sum;" } : Jvm.MethodName)) ∈ lw_tbl := lw_at lw_m2 214 rfl
theorem q591 : (Jvm.Cond.instanceMethod ({ cls := "AgainstFeather$Tokens", name := "sum", desc := "()LAgainstFeather$Sum;" } : Jvm.MethodName)) ∈ lw_all := lw_g (lw_at lw_m2 215 rfl) rfl
theorem q592 : (Jvm.Cond.code ({ cls := "AgainstFeather$Tokens", name := "sum", desc := "()LAgainstFeather$Sum;" } : Jvm.MethodName) prog_12_method_17_code (3 : Nat) (Option.some (Jvm.ClassFile.FieldType.object "AgainstFeather$Sum"))) ∈ lw_all := lw_g (lw_at lw_m2 216 rfl) rfl
theorem q593 : (Jvm.Cond.classLink "AgainstFeather$Tokens" (131 : Nat) "AgainstFeather$Chain") ∈ lw_all := lw_g (lw_at lw_m2 217 rfl) rfl
theorem q595 : (Jvm.Cond.methodLink "AgainstFeather$Tokens" (133 : Nat) ({ cls := "AgainstFeather$Tokens", name := "product", desc := "()LAgainstFeather$Sum;" } : Jvm.MethodName)) ∈ lw_all := lw_g (lw_at lw_m2 219 rfl) rfl
theorem q596 : (Jvm.Cond.privateMethod ({ cls := "AgainstFeather$Tokens", name := "product", desc := "()LAgainstFeather$Sum;" } : Jvm.MethodName)) ∈ lw_tbl := lw_at lw_m2 220 rfl
theorem q597 : (Jvm.Cond.instanceMethod ({ cls := "AgainstFeather$Tokens", name := "product", desc := "()LAgainstFeather$Sum;" } : Jvm.MethodName)) ∈ lw_all := lw_g (lw_at lw_m2 221 rfl) rfl
theorem q598 : (Jvm.Cond.code ({ cls := "AgainstFeather$Tokens", name := "product", desc := "()LAgainstFeather$Sum;" } : Jvm.MethodName) prog_12_method_18_code (3 : Nat) (Option.some (Jvm.ClassFile.FieldType.object "AgainstFeather$Sum"))) ∈ lw_all := lw_g (lw_at lw_m2 222 rfl) rfl
theorem q599 : (Jvm.Cond.methodLink "AgainstFeather$Tokens" (145 : Nat) ({ cls := "AgainstFeather$Tokens", name := "one", desc := "()LAgainstFeather$Sum;" } : Jvm.MethodName)) ∈ lw_all := lw_g (lw_at lw_m2 223 rfl) rfl
theorem q600 : (Jvm.Cond.privateMethod ({ cls := "AgainstFeather$Tokens", name := "one", desc := "()LAgainstFeather$Sum;" } : Jvm.MethodName)) ∈ lw_tbl := lw_at lw_m2 224 rfl
theorem q601 : (Jvm.Cond.instanceMethod ({ cls := "AgainstFeather$Tokens", name := "one", desc := "()LAgainstFeather$Sum;" } : Jvm.MethodName)) ∈ lw_all := lw_g (lw_at lw_m2 225 rfl) rfl
theorem q602 : (Jvm.Cond.code ({ cls := "AgainstFeather$Tokens", name := "one", desc := "()LAgainstFeather$Sum;" } : Jvm.MethodName) prog_12_method_19_code (4 : Nat) (Option.some (Jvm.ClassFile.FieldType.object "AgainstFeather$Sum"))) ∈ lw_all := lw_g (lw_at lw_m2 226 rfl) rfl
theorem q603 : (Jvm.Cond.classLink "AgainstFeather$Tokens" (148 : Nat) "AgainstFeather$Plain") ∈ lw_all := lw_g (lw_at lw_m2 227 rfl) rfl
theorem q605 : (Jvm.Cond.methodLink "AgainstFeather$Tokens" (115 : Nat) ({ cls := "AgainstFeather$Tokens", name := "number", desc := "(II)I" } : Jvm.MethodName)) ∈ lw_all := lw_g (lw_at lw_m2 229 rfl) rfl
theorem q606 : (Jvm.Cond.privateMethod ({ cls := "AgainstFeather$Tokens", name := "number", desc := "(II)I" } : Jvm.MethodName)) ∈ lw_tbl := lw_at lw_m2 230 rfl
theorem q607 : (Jvm.Cond.instanceMethod ({ cls := "AgainstFeather$Tokens", name := "number", desc := "(II)I" } : Jvm.MethodName)) ∈ lw_all := lw_g (lw_at lw_m2 231 rfl) rfl
theorem q608 : (Jvm.Cond.code ({ cls := "AgainstFeather$Tokens", name := "number", desc := "(II)I" } : Jvm.MethodName) prog_12_method_8_code (4 : Nat) (Option.some Jvm.ClassFile.FieldType.int)) ∈ lw_all := lw_g (lw_at lw_m2 232 rfl) rfl
theorem q609 : (Jvm.Cond.methodLinkNest "AgainstFeather$Tokens" (150 : Nat) ({ cls := "AgainstFeather$Plain", name := "<init>", desc := "(I)V" } : Jvm.MethodName) "AgainstFeather") ∈ lw_tbl := lw_at lw_m2 233 rfl
theorem q620 : (Jvm.Cond.methodLink "AgainstFeather$Tokens" (152 : Nat) ({ cls := "AgainstFeather$Tokens", name := "nameNow", desc := "()I" } : Jvm.MethodName)) ∈ lw_all := lw_g (lw_at lw_m3 4 rfl) rfl
theorem q621 : (Jvm.Cond.privateMethod ({ cls := "AgainstFeather$Tokens", name := "nameNow", desc := "()I" } : Jvm.MethodName)) ∈ lw_tbl := lw_at lw_m3 5 rfl
theorem q622 : (Jvm.Cond.instanceMethod ({ cls := "AgainstFeather$Tokens", name := "nameNow", desc := "()I" } : Jvm.MethodName)) ∈ lw_all := lw_g (lw_at lw_m3 6 rfl) rfl
theorem q623 : (Jvm.Cond.code ({ cls := "AgainstFeather$Tokens", name := "nameNow", desc := "()I" } : Jvm.MethodName) prog_12_method_15_code (1 : Nat) (Option.some Jvm.ClassFile.FieldType.int)) ∈ lw_all := lw_g (lw_at lw_m3 7 rfl) rfl
theorem q624 : (Jvm.Cond.methodLink "AgainstFeather$Tokens" (155 : Nat) ({ cls := "AgainstFeather$Tokens", name := "mayName", desc := "(I)Z" } : Jvm.MethodName)) ∈ lw_all := lw_g (lw_at lw_m3 8 rfl) rfl
theorem q625 : (Jvm.Cond.privateMethod ({ cls := "AgainstFeather$Tokens", name := "mayName", desc := "(I)Z" } : Jvm.MethodName)) ∈ lw_tbl := lw_at lw_m3 9 rfl
theorem q626 : (Jvm.Cond.instanceMethod ({ cls := "AgainstFeather$Tokens", name := "mayName", desc := "(I)Z" } : Jvm.MethodName)) ∈ lw_all := lw_g (lw_at lw_m3 10 rfl) rfl
theorem q627 : (Jvm.Cond.code ({ cls := "AgainstFeather$Tokens", name := "mayName", desc := "(I)Z" } : Jvm.MethodName) prog_12_method_16_code (2 : Nat) (Option.some Jvm.ClassFile.FieldType.boolean)) ∈ lw_all := lw_g (lw_at lw_m3 11 rfl) rfl
theorem q628 : (Jvm.Cond.classLink "AgainstFeather$Tokens" (158 : Nat) "AgainstFeather$Name") ∈ lw_all := lw_g (lw_at lw_m3 12 rfl) rfl
theorem q630 : (Jvm.Cond.methodLinkNest "AgainstFeather$Tokens" (160 : Nat) ({ cls := "AgainstFeather$Name", name := "<init>", desc := "(I)V" } : Jvm.MethodName) "AgainstFeather") ∈ lw_tbl := lw_at lw_m3 14 rfl
theorem q638 : (Jvm.Cond.methodLink "AgainstFeather$Tokens" (161 : Nat) ({ cls := "AgainstFeather$Tokens", name := "opens", desc := "()V" } : Jvm.MethodName)) ∈ lw_all := lw_g (lw_at lw_m3 22 rfl) rfl
theorem q639 : (Jvm.Cond.privateMethod ({ cls := "AgainstFeather$Tokens", name := "opens", desc := "()V" } : Jvm.MethodName)) ∈ lw_tbl := lw_at lw_m3 23 rfl
theorem q640 : (Jvm.Cond.instanceMethod ({ cls := "AgainstFeather$Tokens", name := "opens", desc := "()V" } : Jvm.MethodName)) ∈ lw_all := lw_g (lw_at lw_m3 24 rfl) rfl
theorem q641 : (Jvm.Cond.code ({ cls := "AgainstFeather$Tokens", name := "opens", desc := "()V" } : Jvm.MethodName) prog_12_method_9_code (1 : Nat) (Option.none : Option Jvm.ClassFile.FieldType)) ∈ lw_all := lw_g (lw_at lw_m3 25 rfl) rfl
theorem q642 : (Jvm.Cond.classLink "AgainstFeather$Tokens" (164 : Nat) "AgainstFeather$Minus") ∈ lw_all := lw_g (lw_at lw_m3 26 rfl) rfl
theorem q644 : (Jvm.Cond.methodLinkNest "AgainstFeather$Tokens" (166 : Nat) ({ cls := "AgainstFeather$Minus", name := "<init>", desc := "(LAgainstFeather$Sum;)V" } : Jvm.MethodName) "AgainstFeather") ∈ lw_tbl := lw_at lw_m3 28 rfl
theorem q652 : (Jvm.Cond.methodLink "AgainstFeather$Tokens" (111 : Nat) ({ cls := "AgainstFeather$Tokens", name := "want", desc := "(I)V" } : Jvm.MethodName)) ∈ lw_all := lw_g (lw_at lw_m3 36 rfl) rfl
theorem q653 : (Jvm.Cond.privateMethod ({ cls := "AgainstFeather$Tokens", name := "want", desc := "(I)V" } : Jvm.MethodName)) ∈ lw_tbl := lw_at lw_m3 37 rfl
theorem q654 : (Jvm.Cond.instanceMethod ({ cls := "AgainstFeather$Tokens", name := "want", desc := "(I)V" } : Jvm.MethodName)) ∈ lw_all := lw_g (lw_at lw_m3 38 rfl) rfl
theorem q655 : (Jvm.Cond.code ({ cls := "AgainstFeather$Tokens", name := "want", desc := "(I)V" } : Jvm.MethodName) prog_12_method_7_code (2 : Nat) (Option.none : Option Jvm.ClassFile.FieldType)) ∈ lw_all := lw_g (lw_at lw_m3 39 rfl) rfl
theorem q656 : (Jvm.Cond.classLink "AgainstFeather$Tokens" (167 : Nat) "AgainstFeather$Size") ∈ lw_all := lw_g (lw_at lw_m3 40 rfl) rfl
theorem q658 : (Jvm.Cond.methodLinkNest "AgainstFeather$Tokens" (169 : Nat) ({ cls := "AgainstFeather$Size", name := "<init>", desc := "(LAgainstFeather$Sum;)V" } : Jvm.MethodName) "AgainstFeather") ∈ lw_tbl := lw_at lw_m3 42 rfl
theorem q666 : (Jvm.Cond.methodLink "AgainstFeather$Tokens" (136 : Nat) ({ cls := "AgainstFeather$Chain", name := "<init>", desc := "(LAgainstFeather$Sum;)V" } : Jvm.MethodName)) ∈ lw_all := lw_g (lw_at lw_m3 50 rfl) rfl
theorem q682 : (Jvm.Cond.methodLink "AgainstFeather$Tokens" (139 : Nat) ({ cls := "AgainstFeather$Chain", name := "add", desc := "(ILAgainstFeather$Sum;)V" } : Jvm.MethodName)) ∈ lw_all := lw_g (lw_at lw_m3 66 rfl) rfl
theorem q748 : (Jvm.Cond.selects "AgainstFeather$Tokens" ({ cls := "java/lang/Object", name := "getClass", desc := "()Ljava/lang/Class;" } : Jvm.MethodName) ({ cls := "java/lang/Object", name := "getClass", desc := "()Ljava/lang/Class;" } : Jvm.MethodName)) ∈ lw_all := lw_g (lw_at lw_m3 132 rfl) rfl
theorem q764 : (Jvm.Cond.methodLink "AgainstFeather$Tokens" (142 : Nat) ({ cls := "AgainstFeather$Chain", name := "itself", desc := "()LAgainstFeather$Sum;" } : Jvm.MethodName)) ∈ lw_all := lw_g (lw_at lw_m3 148 rfl) rfl
theorem q772 : (Jvm.Cond.methodLink "AgainstFeather$Tokens" (101 : Nat) ({ cls := "AgainstFeather$Tokens", name := "doing", desc := "(I)LAgainstFeather$Doing;" } : Jvm.MethodName)) ∈ lw_all := lw_g (lw_at lw_m3 156 rfl) rfl
theorem q773 : (Jvm.Cond.privateMethod ({ cls := "AgainstFeather$Tokens", name := "doing", desc := "(I)LAgainstFeather$Doing;" } : Jvm.MethodName)) ∈ lw_tbl := lw_at lw_m3 157 rfl
theorem q774 : (Jvm.Cond.instanceMethod ({ cls := "AgainstFeather$Tokens", name := "doing", desc := "(I)LAgainstFeather$Doing;" } : Jvm.MethodName)) ∈ lw_all := lw_g (lw_at lw_m3 158 rfl) rfl
theorem q775 : (Jvm.Cond.code ({ cls := "AgainstFeather$Tokens", name := "doing", desc := "(I)LAgainstFeather$Doing;" } : Jvm.MethodName) prog_12_method_12_code (4 : Nat) (Option.some (Jvm.ClassFile.FieldType.object "AgainstFeather$Doing"))) ∈ lw_all := lw_g (lw_at lw_m3 159 rfl) rfl
theorem q776 : (Jvm.Cond.classLink "AgainstFeather$Tokens" (117 : Nat) "AgainstFeather$Doing") ∈ lw_all := lw_g (lw_at lw_m3 160 rfl) rfl
theorem q778 : (Jvm.Cond.methodLinkNest "AgainstFeather$Tokens" (119 : Nat) ({ cls := "AgainstFeather$Doing", name := "<init>", desc := "(IIIIII)V" } : Jvm.MethodName) "AgainstFeather") ∈ lw_tbl := lw_at lw_m3 162 rfl
theorem q801 : (Jvm.Cond.methodLink "AgainstFeather$Tokens" (122 : Nat) ({ cls := "AgainstFeather$Tokens", name := "deed", desc := "(I)LAgainstFeather$Doing;" } : Jvm.MethodName)) ∈ lw_all := lw_g (lw_at lw_m3 185 rfl) rfl
theorem q802 : (Jvm.Cond.privateMethod ({ cls := "AgainstFeather$Tokens", name := "deed", desc := "(I)LAgainstFeather$Doing;" } : Jvm.MethodName)) ∈ lw_tbl := lw_at lw_m3 186 rfl
theorem q803 : (Jvm.Cond.instanceMethod ({ cls := "AgainstFeather$Tokens", name := "deed", desc := "(I)LAgainstFeather$Doing;" } : Jvm.MethodName)) ∈ lw_all := lw_g (lw_at lw_m3 187 rfl) rfl
theorem q804 : (Jvm.Cond.code ({ cls := "AgainstFeather$Tokens", name := "deed", desc := "(I)LAgainstFeather$Doing;" } : Jvm.MethodName) prog_12_method_13_code (7 : Nat) (Option.some (Jvm.ClassFile.FieldType.object "AgainstFeather$Doing"))) ∈ lw_all := lw_g (lw_at lw_m3 188 rfl) rfl
theorem q805 : (Jvm.Cond.methodLink "AgainstFeather$Tokens" (128 : Nat) ({ cls := "AgainstFeather$Tokens", name := "behind", desc := "(II)I" } : Jvm.MethodName)) ∈ lw_all := lw_g (lw_at lw_m3 189 rfl) rfl
theorem q806 : (Jvm.Cond.privateMethod ({ cls := "AgainstFeather$Tokens", name := "behind", desc := "(II)I" } : Jvm.MethodName)) ∈ lw_tbl := lw_at lw_m3 190 rfl
theorem q807 : (Jvm.Cond.instanceMethod ({ cls := "AgainstFeather$Tokens", name := "behind", desc := "(II)I" } : Jvm.MethodName)) ∈ lw_all := lw_g (lw_at lw_m3 191 rfl) rfl
theorem q808 : (Jvm.Cond.code ({ cls := "AgainstFeather$Tokens", name := "behind", desc := "(II)I" } : Jvm.MethodName) prog_12_method_11_code (3 : Nat) (Option.some Jvm.ClassFile.FieldType.int)) ∈ lw_all := lw_g (lw_at lw_m3 192 rfl) rfl
theorem q809 : (Jvm.Cond.methodLink "AgainstFeather$Tokens" (125 : Nat) ({ cls := "AgainstFeather$Tokens", name := "kinds", desc := "()I" } : Jvm.MethodName)) ∈ lw_all := lw_g (lw_at lw_m3 193 rfl) rfl
theorem q810 : (Jvm.Cond.privateMethod ({ cls := "AgainstFeather$Tokens", name := "kinds", desc := "()I" } : Jvm.MethodName)) ∈ lw_tbl := lw_at lw_m3 194 rfl
theorem q811 : (Jvm.Cond.instanceMethod ({ cls := "AgainstFeather$Tokens", name := "kinds", desc := "()I" } : Jvm.MethodName)) ∈ lw_all := lw_g (lw_at lw_m3 195 rfl) rfl
theorem q812 : (Jvm.Cond.code ({ cls := "AgainstFeather$Tokens", name := "kinds", desc := "()I" } : Jvm.MethodName) prog_12_method_14_code (3 : Nat) (Option.some Jvm.ClassFile.FieldType.int)) ∈ lw_all := lw_g (lw_at lw_m3 196 rfl) rfl
theorem q813 : (Jvm.Cond.methodLink "AgainstFeather$Tokens" (105 : Nat) ({ cls := "java/util/ArrayList", name := "add", desc := "(Ljava/lang/Object;)Z" } : Jvm.MethodName)) ∈ lw_all := lw_g (lw_at lw_m3 197 rfl) rfl
theorem q1996 : (Jvm.Cond.castable "AgainstFeather$Tokens" "java/lang/Object") ∈ lw_tbl := lw_at lw_m8 180 rfl
theorem q2022 : (Jvm.Cond.stringRef "AgainstFeather$Tokens" (170 : Nat) "weight") ∈ lw_tbl := lw_at lw_m8 206 rfl
theorem q2023 : (Jvm.Cond.stringRef "AgainstFeather$Tokens" (172 : Nat) "sticks") ∈ lw_tbl := lw_at lw_m8 207 rfl
theorem q2024 : (Jvm.Cond.stringRef "AgainstFeather$Tokens" (174 : Nat) "lie") ∈ lw_tbl := lw_at lw_m8 208 rfl
theorem q2025 : (Jvm.Cond.stringRef "AgainstFeather$Tokens" (176 : Nat) "up") ∈ lw_tbl := lw_at lw_m8 209 rfl
theorem q2026 : (Jvm.Cond.stringRef "AgainstFeather$Tokens" (178 : Nat) "heart") ∈ lw_tbl := lw_at lw_m8 210 rfl
theorem q2027 : (Jvm.Cond.stringRef "AgainstFeather$Tokens" (180 : Nat) "deed") ∈ lw_tbl := lw_at lw_m8 211 rfl
theorem q2028 : (Jvm.Cond.stringRef "AgainstFeather$Tokens" (181 : Nat) "judge") ∈ lw_tbl := lw_at lw_m8 212 rfl
theorem q2029 : (Jvm.Cond.stringRef "AgainstFeather$Tokens" (183 : Nat) "lend") ∈ lw_tbl := lw_at lw_m8 213 rfl
theorem q2030 : (Jvm.Cond.stringRef "AgainstFeather$Tokens" (185 : Nat) "weigh") ∈ lw_tbl := lw_at lw_m8 214 rfl
theorem q2031 : (Jvm.Cond.stringRef "AgainstFeather$Tokens" (187 : Nat) "lay") ∈ lw_tbl := lw_at lw_m8 215 rfl
theorem q2032 : (Jvm.Cond.stringRef "AgainstFeather$Tokens" (189 : Nat) "yes") ∈ lw_tbl := lw_at lw_m8 216 rfl
theorem q2033 : (Jvm.Cond.stringRef "AgainstFeather$Tokens" (191 : Nat) "no") ∈ lw_tbl := lw_at lw_m8 217 rfl
theorem q2034 : (Jvm.Cond.stringRef "AgainstFeather$Tokens" (193 : Nat) "end") ∈ lw_tbl := lw_at lw_m8 218 rfl
theorem q2035 : (Jvm.Cond.stringRef "AgainstFeather$Tokens" (195 : Nat) "size") ∈ lw_tbl := lw_at lw_m8 219 rfl
theorem q2036 : (Jvm.Cond.stringRef "AgainstFeather$Tokens" (196 : Nat) "of") ∈ lw_tbl := lw_at lw_m8 220 rfl
theorem q2037 : (Jvm.Cond.stringRef "AgainstFeather$Tokens" (198 : Nat) "to") ∈ lw_tbl := lw_at lw_m8 221 rfl
theorem q2038 : (Jvm.Cond.stringRef "AgainstFeather$Tokens" (200 : Nat) "by") ∈ lw_tbl := lw_at lw_m8 222 rfl
theorem q2039 : (Jvm.Cond.stringRef "AgainstFeather$Tokens" (202 : Nat) "feather") ∈ lw_tbl := lw_at lw_m8 223 rfl
theorem q2040 : (Jvm.Cond.stringRef "AgainstFeather$Tokens" (204 : Nat) "kind") ∈ lw_tbl := lw_at lw_m8 224 rfl
theorem q2041 : (Jvm.Cond.stringRef "AgainstFeather$Tokens" (205 : Nat) "seen") ∈ lw_tbl := lw_at lw_m8 225 rfl
theorem q2042 : (Jvm.Cond.stringRef "AgainstFeather$Tokens" (207 : Nat) "repaid") ∈ lw_tbl := lw_at lw_m8 226 rfl
theorem q2043 : (Jvm.Cond.stringRef "AgainstFeather$Tokens" (209 : Nat) "fear") ∈ lw_tbl := lw_at lw_m8 227 rfl
theorem q2044 : (Jvm.Cond.stringRef "AgainstFeather$Tokens" (211 : Nat) "bid") ∈ lw_tbl := lw_at lw_m8 228 rfl
theorem q2045 : (Jvm.Cond.stringRef "AgainstFeather$Tokens" (213 : Nat) "shown") ∈ lw_tbl := lw_at lw_m8 229 rfl
theorem q2046 : (Jvm.Cond.stringRef "AgainstFeather$Tokens" (215 : Nat) "laid") ∈ lw_tbl := lw_at lw_m8 230 rfl
theorem q2047 : (Jvm.Cond.stringRef "AgainstFeather$Tokens" (217 : Nat) "lies") ∈ lw_tbl := lw_at lw_m8 231 rfl
theorem q2048 : (Jvm.Cond.stringRef "AgainstFeather$Tokens" (219 : Nat) "kinds") ∈ lw_tbl := lw_at lw_m8 232 rfl
theorem q2049 : (Jvm.Cond.stringRef "AgainstFeather$Tokens" (220 : Nat) "hidden") ∈ lw_tbl := lw_at lw_m8 233 rfl
theorem q2050 : (Jvm.Cond.stringRef "AgainstFeather$Tokens" (222 : Nat) "deeds") ∈ lw_tbl := lw_at lw_m8 234 rfl
theorem in_X3 : ∀ w ∈ wsX30, w ∈ lw_all := lw_in wsX30 [383, 385, 387, 389, 391, 393, 395, 397] (by decide +kernel) (by decide +kernel)
/-! AgainstFeather$Text -/
set_option maxRecDepth 100000
def RX4 : String := "AgainstFeather$Text"
def TX4 : u_T := fun k => match k with
  | 0 => ("AgainstFeather$Text", "law", "[LAgainstFeather$Sum;", true)
  | 1 => ("AgainstFeather$Text", "clauses", "I", false)
  | _ => ("AgainstFeather$Text", "doings", "Ljava/util/ArrayList;", true)
def tyX4 : Nat → FieldType := fun k => match k with
  | 0 => .array (.object "AgainstFeather$Sum")
  | 1 => .int
  | _ => .object "java/util/ArrayList"
abbrev wsX40 : List Cond := u_ws RX4 TX4 3
theorem nmX4 : ∀ a, a < 3 → ∀ b, b < 3 → a ≠ b → (TX4 a).2.1 ≠ (TX4 b).2.1 := by decide +kernel
theorem tyX4_ok : ∀ k, k < 3 → parseFieldDescriptor (TX4 k).2.2.1 = some (tyX4 k) := by decide +kernel
abbrev cX4_init : ByteArray := prog_11_method_1_code
def yX4_init : MethodName := ⟨RX4, "<init>", "()V"⟩
def dkwX4_init_0 : List UInt8 := [42, 183, 0, 1, 42, 7, 189, 0, 7, 181, 0, 9, 42, 187, 0, 15, 89, 183, 0, 17, 181, 0, 18, 177]
abbrev dktX4_init_0 : List UInt8 := dkwX4_init_0 ++ []
theorem dksX4_init_0 : cX4_init.data.toList.drop 0 = dktX4_init_0 := by decide +kernel
theorem dX4_init_0 : decode cX4_init 0 = .ok (.aload_n 0, 1) := dk_42 (dk_at dksX4_init_0 0 rfl rfl)
theorem dX4_init_1 : decode cX4_init 1 = .ok (.invokespecial 1, 3) := dk_183 0 1 (dk_at dksX4_init_0 1 rfl rfl)
theorem dX4_init_4 : decode cX4_init 4 = .ok (.aload_n 0, 1) := dk_42 (dk_at dksX4_init_0 4 rfl rfl)
theorem dX4_init_5 : decode cX4_init 5 = .ok (.iconst 4, 1) := dk_7 (dk_at dksX4_init_0 5 rfl rfl)
theorem dX4_init_6 : decode cX4_init 6 = .ok (.anewarray 7, 3) := dk_189 0 7 (dk_at dksX4_init_0 6 rfl rfl)
theorem dX4_init_9 : decode cX4_init 9 = .ok (.putfield 9, 3) := dk_181 0 9 (dk_at dksX4_init_0 9 rfl rfl)
theorem dX4_init_12 : decode cX4_init 12 = .ok (.aload_n 0, 1) := dk_42 (dk_at dksX4_init_0 12 rfl rfl)
theorem dX4_init_13 : decode cX4_init 13 = .ok (.new 15, 3) := dk_187 0 15 (dk_at dksX4_init_0 13 rfl rfl)
theorem dX4_init_16 : decode cX4_init 16 = .ok (.dup, 1) := dk_89 (dk_at dksX4_init_0 16 rfl rfl)
theorem dX4_init_17 : decode cX4_init 17 = .ok (.invokespecial 17, 3) := dk_183 0 17 (dk_at dksX4_init_0 17 rfl rfl)
theorem dX4_init_20 : decode cX4_init 20 = .ok (.putfield 18, 3) := dk_181 0 18 (dk_at dksX4_init_0 20 rfl rfl)
theorem dX4_init_23 : decode cX4_init 23 = .ok (.return_, 1) := dk_177 (dk_at dksX4_init_0 23 rfl rfl)
theorem q142 : (Jvm.Cond.initialized "AgainstFeather$Text") ∈ lw_all := lw_g (lw_at lw_m1 6 rfl) rfl
theorem q405 : (Jvm.Cond.instantiable "AgainstFeather$Text" (3 : Nat)) ∈ lw_all := lw_g (lw_at lw_m2 29 rfl) rfl
theorem q407 : (Jvm.Cond.instanceMethod ({ cls := "AgainstFeather$Text", name := "<init>", desc := "()V" } : Jvm.MethodName)) ∈ lw_all := lw_g (lw_at lw_m2 31 rfl) rfl
theorem q408 : (Jvm.Cond.code ({ cls := "AgainstFeather$Text", name := "<init>", desc := "()V" } : Jvm.MethodName) prog_11_method_1_code (1 : Nat) (Option.none : Option Jvm.ClassFile.FieldType)) ∈ lw_all := lw_g (lw_at lw_m2 32 rfl) rfl
theorem q409 : (Jvm.Cond.methodLink "AgainstFeather$Text" (1 : Nat) ({ cls := "java/lang/Object", name := "<init>", desc := "()V" } : Jvm.MethodName)) ∈ lw_all := lw_g (lw_at lw_m2 33 rfl) rfl
theorem q410 : (Jvm.Cond.classLink "AgainstFeather$Text" (7 : Nat) "AgainstFeather$Sum") ∈ lw_all := lw_g (lw_at lw_m2 34 rfl) rfl
theorem q412 : (Jvm.Cond.classLink "AgainstFeather$Text" (15 : Nat) "java/util/ArrayList") ∈ lw_all := lw_g (lw_at lw_m2 36 rfl) rfl
theorem q414 : (Jvm.Cond.methodLink "AgainstFeather$Text" (17 : Nat) ({ cls := "java/util/ArrayList", name := "<init>", desc := "()V" } : Jvm.MethodName)) ∈ lw_all := lw_g (lw_at lw_m2 38 rfl) rfl
theorem q438 : (Jvm.Cond.fieldLink "AgainstFeather$Text" (9 : Nat) "AgainstFeather$Text" "law" "[LAgainstFeather$Sum;") ∈ lw_all := lw_g (lw_at lw_m2 62 rfl) rfl
theorem q442 : (Jvm.Cond.fieldLink "AgainstFeather$Text" (18 : Nat) "AgainstFeather$Text" "doings" "Ljava/util/ArrayList;") ∈ lw_all := lw_g (lw_at lw_m2 66 rfl) rfl
theorem q445 : (Jvm.Cond.laysFinal "AgainstFeather$Text" "AgainstFeather$Text" "law" "[LAgainstFeather$Sum;") ∈ lw_all := lw_g (lw_at lw_m2 69 rfl) rfl
theorem q446 : (Jvm.Cond.soleField "AgainstFeather$Text" "law") ∈ lw_all := lw_g (lw_at lw_m2 70 rfl) rfl
theorem q447 : (Jvm.Cond.lays "AgainstFeather$Text" "AgainstFeather$Text" "clauses" "I") ∈ lw_all := lw_g (lw_at lw_m2 71 rfl) rfl
theorem q448 : (Jvm.Cond.soleField "AgainstFeather$Text" "clauses") ∈ lw_all := lw_g (lw_at lw_m2 72 rfl) rfl
theorem q449 : (Jvm.Cond.laysFinal "AgainstFeather$Text" "AgainstFeather$Text" "doings" "Ljava/util/ArrayList;") ∈ lw_all := lw_g (lw_at lw_m2 73 rfl) rfl
theorem q450 : (Jvm.Cond.soleField "AgainstFeather$Text" "doings") ∈ lw_all := lw_g (lw_at lw_m2 74 rfl) rfl
theorem q451 : (Jvm.Cond.superclass "AgainstFeather$Text" "java/lang/Object") ∈ lw_all := lw_g (lw_at lw_m2 75 rfl) rfl
theorem q747 : (Jvm.Cond.selects "AgainstFeather$Text" ({ cls := "java/lang/Object", name := "getClass", desc := "()Ljava/lang/Class;" } : Jvm.MethodName) ({ cls := "java/lang/Object", name := "getClass", desc := "()Ljava/lang/Class;" } : Jvm.MethodName)) ∈ lw_all := lw_g (lw_at lw_m3 131 rfl) rfl
theorem q1990 : (Jvm.Cond.castable "AgainstFeather$Text" "java/lang/Object") ∈ lw_tbl := lw_at lw_m8 174 rfl
theorem in_X4 : ∀ w ∈ wsX40, w ∈ lw_all := lw_in wsX40 [445, 447, 449] (by decide +kernel) (by decide +kernel)
/-! AgainstFeather$Wrong -/
set_option maxRecDepth 100000
def RX5 : String := "AgainstFeather$Wrong"
def TX5 : u_T := fun k => match k with
  | 0 => ("java/lang/Throwable", "cause", "Ljava/lang/Throwable;", false)
  | 1 => ("java/lang/Throwable", "stackTrace", "[Ljava/lang/StackTraceElement;", false)
  | 2 => ("java/lang/Throwable", "suppressedExceptions", "Ljava/util/List;", false)
  | 3 => ("java/lang/Throwable", "detailMessage", "Ljava/lang/String;", false)
  | 4 => ("java/lang/Throwable", "backtrace", "Ljava/lang/Object;", false)
  | 5 => ("java/lang/Throwable", "depth", "I", false)
  | 6 => ("AgainstFeather$Wrong", "fault", "I", true)
  | _ => ("AgainstFeather$Wrong", "place", "I", true)
def tyX5 : Nat → FieldType := fun k => match k with
  | 0 => .object "java/lang/Throwable"
  | 1 => .array (.object "java/lang/StackTraceElement")
  | 2 => .object "java/util/List"
  | 3 => .object "java/lang/String"
  | 4 => .object "java/lang/Object"
  | 5 => .int
  | 6 => .int
  | _ => .int
abbrev wsX50 : List Cond := u_ws RX5 TX5 8
theorem nmX5 : ∀ a, a < 8 → ∀ b, b < 8 → a ≠ b → (TX5 a).2.1 ≠ (TX5 b).2.1 := by decide +kernel
theorem tyX5_ok : ∀ k, k < 8 → parseFieldDescriptor (TX5 k).2.2.1 = some (tyX5 k) := by decide +kernel
abbrev cX5_init : ByteArray := prog_13_method_1_code
def yX5_init : MethodName := ⟨RX5, "<init>", "(II)V"⟩
def dkwX5_init_0 : List UInt8 := [42, 183, 0, 1, 42, 27, 181, 0, 7, 42, 28, 181, 0, 13, 177]
abbrev dktX5_init_0 : List UInt8 := dkwX5_init_0 ++ []
theorem dksX5_init_0 : cX5_init.data.toList.drop 0 = dktX5_init_0 := by decide +kernel
theorem dX5_init_0 : decode cX5_init 0 = .ok (.aload_n 0, 1) := dk_42 (dk_at dksX5_init_0 0 rfl rfl)
theorem dX5_init_1 : decode cX5_init 1 = .ok (.invokespecial 1, 3) := dk_183 0 1 (dk_at dksX5_init_0 1 rfl rfl)
theorem dX5_init_4 : decode cX5_init 4 = .ok (.aload_n 0, 1) := dk_42 (dk_at dksX5_init_0 4 rfl rfl)
theorem dX5_init_5 : decode cX5_init 5 = .ok (.iload_n 1, 1) := dk_27 (dk_at dksX5_init_0 5 rfl rfl)
theorem dX5_init_6 : decode cX5_init 6 = .ok (.putfield 7, 3) := dk_181 0 7 (dk_at dksX5_init_0 6 rfl rfl)
theorem dX5_init_9 : decode cX5_init 9 = .ok (.aload_n 0, 1) := dk_42 (dk_at dksX5_init_0 9 rfl rfl)
theorem dX5_init_10 : decode cX5_init 10 = .ok (.iload_n 2, 1) := dk_28 (dk_at dksX5_init_0 10 rfl rfl)
theorem dX5_init_11 : decode cX5_init 11 = .ok (.putfield 13, 3) := dk_181 0 13 (dk_at dksX5_init_0 11 rfl rfl)
theorem dX5_init_14 : decode cX5_init 14 = .ok (.return_, 1) := dk_177 (dk_at dksX5_init_0 14 rfl rfl)
theorem q153 : (Jvm.Cond.initialized "AgainstFeather$Wrong") ∈ lw_all := lw_g (lw_at lw_m1 17 rfl) rfl
theorem q526 : (Jvm.Cond.instantiable "AgainstFeather$Wrong" (8 : Nat)) ∈ lw_all := lw_g (lw_at lw_m2 150 rfl) rfl
theorem q527 : (Jvm.Cond.castable "AgainstFeather$Wrong" "AgainstFeather$Wrong") ∈ lw_tbl := lw_at lw_m2 151 rfl
theorem q532 : (Jvm.Cond.selects "AgainstFeather$Wrong" ({ cls := "java/lang/Throwable", name := "fillInStackTrace", desc := "(I)Ljava/lang/Throwable;" } : Jvm.MethodName) ({ cls := "java/lang/Throwable", name := "fillInStackTrace", desc := "(I)Ljava/lang/Throwable;" } : Jvm.MethodName)) ∈ lw_all := lw_g (lw_at lw_m2 156 rfl) rfl
theorem q533 : (Jvm.Cond.selects "AgainstFeather$Wrong" ({ cls := "java/lang/Throwable", name := "fillInStackTrace", desc := "()Ljava/lang/Throwable;" } : Jvm.MethodName) ({ cls := "java/lang/Throwable", name := "fillInStackTrace", desc := "()Ljava/lang/Throwable;" } : Jvm.MethodName)) ∈ lw_all := lw_g (lw_at lw_m2 157 rfl) rfl
theorem q534 : (Jvm.Cond.lays "AgainstFeather$Wrong" "java/lang/Throwable" "cause" "Ljava/lang/Throwable;") ∈ lw_all := lw_g (lw_at lw_m2 158 rfl) rfl
theorem q536 : (Jvm.Cond.lays "AgainstFeather$Wrong" "java/lang/Throwable" "stackTrace" "[Ljava/lang/StackTraceElement;") ∈ lw_all := lw_g (lw_at lw_m2 160 rfl) rfl
theorem q538 : (Jvm.Cond.lays "AgainstFeather$Wrong" "java/lang/Throwable" "suppressedExceptions" "Ljava/util/List;") ∈ lw_all := lw_g (lw_at lw_m2 162 rfl) rfl
theorem q540 : (Jvm.Cond.lays "AgainstFeather$Wrong" "java/lang/Throwable" "detailMessage" "Ljava/lang/String;") ∈ lw_all := lw_g (lw_at lw_m2 164 rfl) rfl
theorem q542 : (Jvm.Cond.lays "AgainstFeather$Wrong" "java/lang/Throwable" "backtrace" "Ljava/lang/Object;") ∈ lw_all := lw_g (lw_at lw_m2 166 rfl) rfl
theorem q563 : (Jvm.Cond.instanceMethod ({ cls := "AgainstFeather$Wrong", name := "<init>", desc := "(II)V" } : Jvm.MethodName)) ∈ lw_all := lw_g (lw_at lw_m2 187 rfl) rfl
theorem q564 : (Jvm.Cond.code ({ cls := "AgainstFeather$Wrong", name := "<init>", desc := "(II)V" } : Jvm.MethodName) prog_13_method_1_code (3 : Nat) (Option.none : Option Jvm.ClassFile.FieldType)) ∈ lw_all := lw_g (lw_at lw_m2 188 rfl) rfl
theorem q565 : (Jvm.Cond.methodLink "AgainstFeather$Wrong" (1 : Nat) ({ cls := "java/lang/Exception", name := "<init>", desc := "()V" } : Jvm.MethodName)) ∈ lw_all := lw_g (lw_at lw_m2 189 rfl) rfl
theorem q569 : (Jvm.Cond.fieldLink "AgainstFeather$Wrong" (7 : Nat) "AgainstFeather$Wrong" "fault" "I") ∈ lw_all := lw_g (lw_at lw_m2 193 rfl) rfl
theorem q571 : (Jvm.Cond.fieldLink "AgainstFeather$Wrong" (13 : Nat) "AgainstFeather$Wrong" "place" "I") ∈ lw_all := lw_g (lw_at lw_m2 195 rfl) rfl
theorem q577 : (Jvm.Cond.laysFinal "AgainstFeather$Wrong" "AgainstFeather$Wrong" "fault" "I") ∈ lw_all := lw_g (lw_at lw_m2 201 rfl) rfl
theorem q578 : (Jvm.Cond.soleField "AgainstFeather$Wrong" "fault") ∈ lw_all := lw_g (lw_at lw_m2 202 rfl) rfl
theorem q579 : (Jvm.Cond.laysFinal "AgainstFeather$Wrong" "AgainstFeather$Wrong" "place" "I") ∈ lw_all := lw_g (lw_at lw_m2 203 rfl) rfl
theorem q580 : (Jvm.Cond.soleField "AgainstFeather$Wrong" "place") ∈ lw_all := lw_g (lw_at lw_m2 204 rfl) rfl
theorem q585 : (Jvm.Cond.lays "AgainstFeather$Wrong" "java/lang/Throwable" "depth" "I") ∈ lw_all := lw_g (lw_at lw_m2 209 rfl) rfl
theorem q588 : (Jvm.Cond.superclass "AgainstFeather$Wrong" "java/lang/Exception") ∈ lw_all := lw_g (lw_at lw_m2 212 rfl) rfl
theorem q749 : (Jvm.Cond.selects "AgainstFeather$Wrong" ({ cls := "java/lang/Object", name := "getClass", desc := "()Ljava/lang/Class;" } : Jvm.MethodName) ({ cls := "java/lang/Object", name := "getClass", desc := "()Ljava/lang/Class;" } : Jvm.MethodName)) ∈ lw_all := lw_g (lw_at lw_m3 133 rfl) rfl
theorem q1998 : (Jvm.Cond.castable "AgainstFeather$Wrong" "java/lang/Object") ∈ lw_tbl := lw_at lw_m8 182 rfl
theorem in_X5 : ∀ w ∈ wsX50, w ∈ lw_all := lw_in wsX50 [534, 536, 538, 540, 542, 585, 577, 579] (by decide +kernel) (by decide +kernel)
/-! AgainstFeather$Chain -/
set_option maxRecDepth 100000
def RX6 : String := "AgainstFeather$Chain"
def TX6 : u_T := fun k => match k with
  | 0 => ("AgainstFeather$Chain", "first", "LAgainstFeather$Sum;", true)
  | 1 => ("AgainstFeather$Chain", "more", "Ljava/util/ArrayList;", true)
  | _ => ("AgainstFeather$Chain", "signs", "Ljava/util/ArrayList;", true)
def tyX6 : Nat → FieldType := fun k => match k with
  | 0 => .object "AgainstFeather$Sum"
  | 1 => .object "java/util/ArrayList"
  | _ => .object "java/util/ArrayList"
abbrev wsX60 : List Cond := u_ws RX6 TX6 3
theorem nmX6 : ∀ a, a < 3 → ∀ b, b < 3 → a ≠ b → (TX6 a).2.1 ≠ (TX6 b).2.1 := by decide +kernel
theorem tyX6_ok : ∀ k, k < 3 → parseFieldDescriptor (TX6 k).2.2.1 = some (tyX6 k) := by decide +kernel
abbrev cX6_init : ByteArray := prog_2_method_1_code
def yX6_init : MethodName := ⟨RX6, "<init>", "(LAgainstFeather$Sum;)V"⟩
def dkwX6_init_1 : List UInt8 := [181, 0, 18, 42, 43, 181, 0, 21, 177]
abbrev dktX6_init_1 : List UInt8 := dkwX6_init_1 ++ []
def dkwX6_init_0 : List UInt8 := [42, 183, 0, 3, 42, 187, 0, 9, 89, 183, 0, 11, 181, 0, 12, 42, 187, 0, 9, 89, 183, 0, 11]
abbrev dktX6_init_0 : List UInt8 := dkwX6_init_0 ++ dktX6_init_1
theorem dksX6_init_0 : cX6_init.data.toList.drop 0 = dktX6_init_0 := by decide +kernel
theorem dksX6_init_1 : cX6_init.data.toList.drop 23 = dktX6_init_1 := dk_seg dksX6_init_0 23 rfl rfl
theorem dX6_init_0 : decode cX6_init 0 = .ok (.aload_n 0, 1) := dk_42 (dk_at dksX6_init_0 0 rfl rfl)
theorem dX6_init_1 : decode cX6_init 1 = .ok (.invokespecial 3, 3) := dk_183 0 3 (dk_at dksX6_init_0 1 rfl rfl)
theorem dX6_init_4 : decode cX6_init 4 = .ok (.aload_n 0, 1) := dk_42 (dk_at dksX6_init_0 4 rfl rfl)
theorem dX6_init_5 : decode cX6_init 5 = .ok (.new 9, 3) := dk_187 0 9 (dk_at dksX6_init_0 5 rfl rfl)
theorem dX6_init_8 : decode cX6_init 8 = .ok (.dup, 1) := dk_89 (dk_at dksX6_init_0 8 rfl rfl)
theorem dX6_init_9 : decode cX6_init 9 = .ok (.invokespecial 11, 3) := dk_183 0 11 (dk_at dksX6_init_0 9 rfl rfl)
theorem dX6_init_12 : decode cX6_init 12 = .ok (.putfield 12, 3) := dk_181 0 12 (dk_at dksX6_init_0 12 rfl rfl)
theorem dX6_init_15 : decode cX6_init 15 = .ok (.aload_n 0, 1) := dk_42 (dk_at dksX6_init_0 15 rfl rfl)
theorem dX6_init_16 : decode cX6_init 16 = .ok (.new 9, 3) := dk_187 0 9 (dk_at dksX6_init_0 16 rfl rfl)
theorem dX6_init_19 : decode cX6_init 19 = .ok (.dup, 1) := dk_89 (dk_at dksX6_init_0 19 rfl rfl)
theorem dX6_init_20 : decode cX6_init 20 = .ok (.invokespecial 11, 3) := dk_183 0 11 (dk_at dksX6_init_0 20 rfl rfl)
theorem dX6_init_23 : decode cX6_init 23 = .ok (.putfield 18, 3) := dk_181 0 18 (dk_at dksX6_init_1 0 rfl rfl)
theorem dX6_init_26 : decode cX6_init 26 = .ok (.aload_n 0, 1) := dk_42 (dk_at dksX6_init_1 3 rfl rfl)
theorem dX6_init_27 : decode cX6_init 27 = .ok (.aload_n 1, 1) := dk_43 (dk_at dksX6_init_1 4 rfl rfl)
theorem dX6_init_28 : decode cX6_init 28 = .ok (.putfield 21, 3) := dk_181 0 21 (dk_at dksX6_init_1 5 rfl rfl)
theorem dX6_init_31 : decode cX6_init 31 = .ok (.return_, 1) := dk_177 (dk_at dksX6_init_1 8 rfl rfl)
abbrev cX6_add : ByteArray := prog_2_method_2_code
def yX6_add : MethodName := ⟨RX6, "add", "(ILAgainstFeather$Sum;)V"⟩
def dkwX6_add_0 : List UInt8 := [42, 180, 0, 18, 27, 184, 0, 25, 182, 0, 31, 87, 42, 180, 0, 12, 44, 182, 0, 31, 87, 177]
abbrev dktX6_add_0 : List UInt8 := dkwX6_add_0 ++ []
theorem dksX6_add_0 : cX6_add.data.toList.drop 0 = dktX6_add_0 := by decide +kernel
theorem dX6_add_0 : decode cX6_add 0 = .ok (.aload_n 0, 1) := dk_42 (dk_at dksX6_add_0 0 rfl rfl)
theorem dX6_add_1 : decode cX6_add 1 = .ok (.getfield 18, 3) := dk_180 0 18 (dk_at dksX6_add_0 1 rfl rfl)
theorem dX6_add_4 : decode cX6_add 4 = .ok (.iload_n 1, 1) := dk_27 (dk_at dksX6_add_0 4 rfl rfl)
theorem dX6_add_5 : decode cX6_add 5 = .ok (.invokestatic 25, 3) := dk_184 0 25 (dk_at dksX6_add_0 5 rfl rfl)
theorem dX6_add_8 : decode cX6_add 8 = .ok (.invokevirtual 31, 3) := dk_182 0 31 (dk_at dksX6_add_0 8 rfl rfl)
theorem dX6_add_11 : decode cX6_add 11 = .ok (.pop, 1) := dk_87 (dk_at dksX6_add_0 11 rfl rfl)
theorem dX6_add_12 : decode cX6_add 12 = .ok (.aload_n 0, 1) := dk_42 (dk_at dksX6_add_0 12 rfl rfl)
theorem dX6_add_13 : decode cX6_add 13 = .ok (.getfield 12, 3) := dk_180 0 12 (dk_at dksX6_add_0 13 rfl rfl)
theorem dX6_add_16 : decode cX6_add 16 = .ok (.aload_n 2, 1) := dk_44 (dk_at dksX6_add_0 16 rfl rfl)
theorem dX6_add_17 : decode cX6_add 17 = .ok (.invokevirtual 31, 3) := dk_182 0 31 (dk_at dksX6_add_0 17 rfl rfl)
theorem dX6_add_20 : decode cX6_add 20 = .ok (.pop, 1) := dk_87 (dk_at dksX6_add_0 20 rfl rfl)
theorem dX6_add_21 : decode cX6_add 21 = .ok (.return_, 1) := dk_177 (dk_at dksX6_add_0 21 rfl rfl)
abbrev cX6_itself : ByteArray := prog_2_method_3_code
def yX6_itself : MethodName := ⟨RX6, "itself", "()LAgainstFeather$Sum;"⟩
def dkwX6_itself_0 : List UInt8 := [42, 180, 0, 12, 182, 0, 35, 153, 0, 10, 42, 180, 0, 21, 167, 0, 4, 42, 176]
abbrev dktX6_itself_0 : List UInt8 := dkwX6_itself_0 ++ []
theorem dksX6_itself_0 : cX6_itself.data.toList.drop 0 = dktX6_itself_0 := by decide +kernel
theorem dX6_itself_0 : decode cX6_itself 0 = .ok (.aload_n 0, 1) := dk_42 (dk_at dksX6_itself_0 0 rfl rfl)
theorem dX6_itself_1 : decode cX6_itself 1 = .ok (.getfield 12, 3) := dk_180 0 12 (dk_at dksX6_itself_0 1 rfl rfl)
theorem dX6_itself_4 : decode cX6_itself 4 = .ok (.invokevirtual 35, 3) := dk_182 0 35 (dk_at dksX6_itself_0 4 rfl rfl)
theorem dX6_itself_7 : decode cX6_itself 7 = .ok (.ifCond .eq 10, 3) := dk_153 0 10 (dk_at dksX6_itself_0 7 rfl rfl)
theorem dX6_itself_10 : decode cX6_itself 10 = .ok (.aload_n 0, 1) := dk_42 (dk_at dksX6_itself_0 10 rfl rfl)
theorem dX6_itself_11 : decode cX6_itself 11 = .ok (.getfield 21, 3) := dk_180 0 21 (dk_at dksX6_itself_0 11 rfl rfl)
theorem dX6_itself_14 : decode cX6_itself 14 = .ok (.goto 4, 3) := dk_167 0 4 (dk_at dksX6_itself_0 14 rfl rfl)
theorem dX6_itself_17 : decode cX6_itself 17 = .ok (.aload_n 0, 1) := dk_42 (dk_at dksX6_itself_0 17 rfl rfl)
theorem dX6_itself_18 : decode cX6_itself 18 = .ok (.areturn, 1) := dk_176 (dk_at dksX6_itself_0 18 rfl rfl)
abbrev cX6_of : ByteArray := prog_2_method_4_code
def yX6_of : MethodName := ⟨RX6, "of", "([I)J"⟩
def dkwX6_of_6 : List UInt8 := [32, 173]
abbrev dktX6_of_6 : List UInt8 := dkwX6_of_6 ++ []
def dkwX6_of_5 : List UInt8 := [109, 55, 8, 20, 0, 56, 20, 0, 58, 22, 8, 184, 0, 60, 184, 0, 66, 65, 132, 4, 1, 167, 255, 130]
abbrev dktX6_of_5 : List UInt8 := dkwX6_of_5 ++ dktX6_of_6
def dkwX6_of_4 : List UInt8 := [160, 0, 10, 32, 22, 5, 105, 167, 0, 18, 22, 5, 9, 148, 154, 0, 7, 9, 167, 0, 7, 32, 22, 5]
abbrev dktX6_of_4 : List UInt8 := dkwX6_of_4 ++ dktX6_of_5
def dkwX6_of_3 : List UInt8 := [22, 5, 97, 167, 0, 46, 21, 7, 16, 45, 160, 0, 10, 32, 22, 5, 101, 167, 0, 32, 21, 7, 16, 42]
abbrev dktX6_of_3 : List UInt8 := dkwX6_of_3 ++ dktX6_of_4
def dkwX6_of_2 : List UInt8 := [180, 0, 18, 21, 4, 182, 0, 49, 192, 0, 26, 182, 0, 53, 54, 7, 21, 7, 16, 43, 160, 0, 10, 32]
abbrev dktX6_of_2 : List UInt8 := dkwX6_of_2 ++ dktX6_of_3
def dkwX6_of_1 : List UInt8 := [162, 0, 120, 42, 180, 0, 12, 21, 4, 182, 0, 49, 192, 0, 40, 43, 185, 0, 39, 2, 0, 55, 5, 42]
abbrev dktX6_of_1 : List UInt8 := dkwX6_of_1 ++ dktX6_of_2
def dkwX6_of_0 : List UInt8 := [42, 180, 0, 21, 43, 185, 0, 39, 2, 0, 65, 3, 54, 4, 21, 4, 42, 180, 0, 12, 182, 0, 45]
abbrev dktX6_of_0 : List UInt8 := dkwX6_of_0 ++ dktX6_of_1
theorem dksX6_of_0 : cX6_of.data.toList.drop 0 = dktX6_of_0 := by decide +kernel
theorem dksX6_of_1 : cX6_of.data.toList.drop 23 = dktX6_of_1 := dk_seg dksX6_of_0 23 rfl rfl
theorem dksX6_of_2 : cX6_of.data.toList.drop 47 = dktX6_of_2 := dk_seg dksX6_of_1 24 rfl rfl
theorem dksX6_of_3 : cX6_of.data.toList.drop 71 = dktX6_of_3 := dk_seg dksX6_of_2 24 rfl rfl
theorem dksX6_of_4 : cX6_of.data.toList.drop 95 = dktX6_of_4 := dk_seg dksX6_of_3 24 rfl rfl
theorem dksX6_of_5 : cX6_of.data.toList.drop 119 = dktX6_of_5 := dk_seg dksX6_of_4 24 rfl rfl
theorem dksX6_of_6 : cX6_of.data.toList.drop 143 = dktX6_of_6 := dk_seg dksX6_of_5 24 rfl rfl
theorem dX6_of_0 : decode cX6_of 0 = .ok (.aload_n 0, 1) := dk_42 (dk_at dksX6_of_0 0 rfl rfl)
theorem dX6_of_1 : decode cX6_of 1 = .ok (.getfield 21, 3) := dk_180 0 21 (dk_at dksX6_of_0 1 rfl rfl)
theorem dX6_of_4 : decode cX6_of 4 = .ok (.aload_n 1, 1) := dk_43 (dk_at dksX6_of_0 4 rfl rfl)
theorem dX6_of_5 : decode cX6_of 5 = .ok (.invokeinterface 39 2, 5) := by decide +kernel
theorem dX6_of_10 : decode cX6_of 10 = .ok (.lstore_n 2, 1) := dk_65 (dk_at dksX6_of_0 10 rfl rfl)
theorem dX6_of_11 : decode cX6_of 11 = .ok (.iconst 0, 1) := dk_3 (dk_at dksX6_of_0 11 rfl rfl)
theorem dX6_of_12 : decode cX6_of 12 = .ok (.istore 4, 2) := dk_54 4 (dk_at dksX6_of_0 12 rfl rfl)
theorem dX6_of_14 : decode cX6_of 14 = .ok (.iload 4, 2) := dk_21 4 (dk_at dksX6_of_0 14 rfl rfl)
theorem dX6_of_16 : decode cX6_of 16 = .ok (.aload_n 0, 1) := dk_42 (dk_at dksX6_of_0 16 rfl rfl)
theorem dX6_of_17 : decode cX6_of 17 = .ok (.getfield 12, 3) := dk_180 0 12 (dk_at dksX6_of_0 17 rfl rfl)
theorem dX6_of_20 : decode cX6_of 20 = .ok (.invokevirtual 45, 3) := dk_182 0 45 (dk_at dksX6_of_0 20 rfl rfl)
theorem dX6_of_23 : decode cX6_of 23 = .ok (.if_icmp .ge 120, 3) := dk_162 0 120 (dk_at dksX6_of_1 0 rfl rfl)
theorem dX6_of_26 : decode cX6_of 26 = .ok (.aload_n 0, 1) := dk_42 (dk_at dksX6_of_1 3 rfl rfl)
theorem dX6_of_27 : decode cX6_of 27 = .ok (.getfield 12, 3) := dk_180 0 12 (dk_at dksX6_of_1 4 rfl rfl)
theorem dX6_of_30 : decode cX6_of 30 = .ok (.iload 4, 2) := dk_21 4 (dk_at dksX6_of_1 7 rfl rfl)
theorem dX6_of_32 : decode cX6_of 32 = .ok (.invokevirtual 49, 3) := dk_182 0 49 (dk_at dksX6_of_1 9 rfl rfl)
theorem dX6_of_35 : decode cX6_of 35 = .ok (.checkcast 40, 3) := dk_192 0 40 (dk_at dksX6_of_1 12 rfl rfl)
theorem dX6_of_38 : decode cX6_of 38 = .ok (.aload_n 1, 1) := dk_43 (dk_at dksX6_of_1 15 rfl rfl)
theorem dX6_of_39 : decode cX6_of 39 = .ok (.invokeinterface 39 2, 5) := by decide +kernel
theorem dX6_of_44 : decode cX6_of 44 = .ok (.lstore 5, 2) := dk_55 5 (dk_at dksX6_of_1 21 rfl rfl)
theorem dX6_of_46 : decode cX6_of 46 = .ok (.aload_n 0, 1) := dk_42 (dk_at dksX6_of_1 23 rfl rfl)
theorem dX6_of_47 : decode cX6_of 47 = .ok (.getfield 18, 3) := dk_180 0 18 (dk_at dksX6_of_2 0 rfl rfl)
theorem dX6_of_50 : decode cX6_of 50 = .ok (.iload 4, 2) := dk_21 4 (dk_at dksX6_of_2 3 rfl rfl)
theorem dX6_of_52 : decode cX6_of 52 = .ok (.invokevirtual 49, 3) := dk_182 0 49 (dk_at dksX6_of_2 5 rfl rfl)
theorem dX6_of_55 : decode cX6_of 55 = .ok (.checkcast 26, 3) := dk_192 0 26 (dk_at dksX6_of_2 8 rfl rfl)
theorem dX6_of_58 : decode cX6_of 58 = .ok (.invokevirtual 53, 3) := dk_182 0 53 (dk_at dksX6_of_2 11 rfl rfl)
theorem dX6_of_61 : decode cX6_of 61 = .ok (.istore 7, 2) := dk_54 7 (dk_at dksX6_of_2 14 rfl rfl)
theorem dX6_of_63 : decode cX6_of 63 = .ok (.iload 7, 2) := dk_21 7 (dk_at dksX6_of_2 16 rfl rfl)
theorem dX6_of_65 : decode cX6_of 65 = .ok (.bipush 43, 2) := dk_16 43 (dk_at dksX6_of_2 18 rfl rfl)
theorem dX6_of_67 : decode cX6_of 67 = .ok (.if_icmp .ne 10, 3) := dk_160 0 10 (dk_at dksX6_of_2 20 rfl rfl)
theorem dX6_of_70 : decode cX6_of 70 = .ok (.lload_n 2, 1) := dk_32 (dk_at dksX6_of_2 23 rfl rfl)
theorem dX6_of_71 : decode cX6_of 71 = .ok (.lload 5, 2) := dk_22 5 (dk_at dksX6_of_3 0 rfl rfl)
theorem dX6_of_73 : decode cX6_of 73 = .ok (.ladd, 1) := dk_97 (dk_at dksX6_of_3 2 rfl rfl)
theorem dX6_of_74 : decode cX6_of 74 = .ok (.goto 46, 3) := dk_167 0 46 (dk_at dksX6_of_3 3 rfl rfl)
theorem dX6_of_77 : decode cX6_of 77 = .ok (.iload 7, 2) := dk_21 7 (dk_at dksX6_of_3 6 rfl rfl)
theorem dX6_of_79 : decode cX6_of 79 = .ok (.bipush 45, 2) := dk_16 45 (dk_at dksX6_of_3 8 rfl rfl)
theorem dX6_of_81 : decode cX6_of 81 = .ok (.if_icmp .ne 10, 3) := dk_160 0 10 (dk_at dksX6_of_3 10 rfl rfl)
theorem dX6_of_84 : decode cX6_of 84 = .ok (.lload_n 2, 1) := dk_32 (dk_at dksX6_of_3 13 rfl rfl)
theorem dX6_of_85 : decode cX6_of 85 = .ok (.lload 5, 2) := dk_22 5 (dk_at dksX6_of_3 14 rfl rfl)
theorem dX6_of_87 : decode cX6_of 87 = .ok (.lsub, 1) := dk_101 (dk_at dksX6_of_3 16 rfl rfl)
theorem dX6_of_88 : decode cX6_of 88 = .ok (.goto 32, 3) := dk_167 0 32 (dk_at dksX6_of_3 17 rfl rfl)
theorem dX6_of_91 : decode cX6_of 91 = .ok (.iload 7, 2) := dk_21 7 (dk_at dksX6_of_3 20 rfl rfl)
theorem dX6_of_93 : decode cX6_of 93 = .ok (.bipush 42, 2) := dk_16 42 (dk_at dksX6_of_3 22 rfl rfl)
theorem dX6_of_95 : decode cX6_of 95 = .ok (.if_icmp .ne 10, 3) := dk_160 0 10 (dk_at dksX6_of_4 0 rfl rfl)
theorem dX6_of_98 : decode cX6_of 98 = .ok (.lload_n 2, 1) := dk_32 (dk_at dksX6_of_4 3 rfl rfl)
theorem dX6_of_99 : decode cX6_of 99 = .ok (.lload 5, 2) := dk_22 5 (dk_at dksX6_of_4 4 rfl rfl)
theorem dX6_of_101 : decode cX6_of 101 = .ok (.lmul, 1) := dk_105 (dk_at dksX6_of_4 6 rfl rfl)
theorem dX6_of_102 : decode cX6_of 102 = .ok (.goto 18, 3) := dk_167 0 18 (dk_at dksX6_of_4 7 rfl rfl)
theorem dX6_of_105 : decode cX6_of 105 = .ok (.lload 5, 2) := dk_22 5 (dk_at dksX6_of_4 10 rfl rfl)
theorem dX6_of_107 : decode cX6_of 107 = .ok (.lconst 0, 1) := dk_9 (dk_at dksX6_of_4 12 rfl rfl)
theorem dX6_of_108 : decode cX6_of 108 = .ok (.lcmp, 1) := dk_148 (dk_at dksX6_of_4 13 rfl rfl)
theorem dX6_of_109 : decode cX6_of 109 = .ok (.ifCond .ne 7, 3) := dk_154 0 7 (dk_at dksX6_of_4 14 rfl rfl)
theorem dX6_of_112 : decode cX6_of 112 = .ok (.lconst 0, 1) := dk_9 (dk_at dksX6_of_4 17 rfl rfl)
theorem dX6_of_113 : decode cX6_of 113 = .ok (.goto 7, 3) := dk_167 0 7 (dk_at dksX6_of_4 18 rfl rfl)
theorem dX6_of_116 : decode cX6_of 116 = .ok (.lload_n 2, 1) := dk_32 (dk_at dksX6_of_4 21 rfl rfl)
theorem dX6_of_117 : decode cX6_of 117 = .ok (.lload 5, 2) := dk_22 5 (dk_at dksX6_of_4 22 rfl rfl)
theorem dX6_of_119 : decode cX6_of 119 = .ok (.ldiv, 1) := dk_109 (dk_at dksX6_of_5 0 rfl rfl)
theorem dX6_of_120 : decode cX6_of 120 = .ok (.lstore 8, 2) := dk_55 8 (dk_at dksX6_of_5 1 rfl rfl)
theorem dX6_of_122 : decode cX6_of 122 = .ok (.ldc2_w 56, 3) := dk_20 0 56 (dk_at dksX6_of_5 3 rfl rfl)
theorem dX6_of_125 : decode cX6_of 125 = .ok (.ldc2_w 58, 3) := dk_20 0 58 (dk_at dksX6_of_5 6 rfl rfl)
theorem dX6_of_128 : decode cX6_of 128 = .ok (.lload 8, 2) := dk_22 8 (dk_at dksX6_of_5 9 rfl rfl)
theorem dX6_of_130 : decode cX6_of 130 = .ok (.invokestatic 60, 3) := dk_184 0 60 (dk_at dksX6_of_5 11 rfl rfl)
theorem dX6_of_133 : decode cX6_of 133 = .ok (.invokestatic 66, 3) := dk_184 0 66 (dk_at dksX6_of_5 14 rfl rfl)
theorem dX6_of_136 : decode cX6_of 136 = .ok (.lstore_n 2, 1) := dk_65 (dk_at dksX6_of_5 17 rfl rfl)
theorem dX6_of_137 : decode cX6_of 137 = .ok (.iinc 4 1, 3) := dk_132 4 1 (dk_at dksX6_of_5 18 rfl rfl)
theorem dX6_of_140 : decode cX6_of 140 = .ok (.goto (-126), 3) := dk_167 255 130 (dk_at dksX6_of_5 21 rfl rfl)
theorem dX6_of_143 : decode cX6_of 143 = .ok (.lload_n 2, 1) := dk_32 (dk_at dksX6_of_6 0 rfl rfl)
theorem dX6_of_144 : decode cX6_of 144 = .ok (.lreturn, 1) := dk_173 (dk_at dksX6_of_6 1 rfl rfl)
theorem q154 : (Jvm.Cond.initialized "AgainstFeather$Chain") ∈ lw_all := lw_g (lw_at lw_m1 18 rfl) rfl
theorem q594 : (Jvm.Cond.instantiable "AgainstFeather$Chain" (3 : Nat)) ∈ lw_all := lw_g (lw_at lw_m2 218 rfl) rfl
theorem q667 : (Jvm.Cond.instanceMethod ({ cls := "AgainstFeather$Chain", name := "<init>", desc := "(LAgainstFeather$Sum;)V" } : Jvm.MethodName)) ∈ lw_all := lw_g (lw_at lw_m3 51 rfl) rfl
theorem q668 : (Jvm.Cond.code ({ cls := "AgainstFeather$Chain", name := "<init>", desc := "(LAgainstFeather$Sum;)V" } : Jvm.MethodName) prog_2_method_1_code (2 : Nat) (Option.none : Option Jvm.ClassFile.FieldType)) ∈ lw_all := lw_g (lw_at lw_m3 52 rfl) rfl
theorem q669 : (Jvm.Cond.methodLink "AgainstFeather$Chain" (3 : Nat) ({ cls := "java/lang/Object", name := "<init>", desc := "()V" } : Jvm.MethodName)) ∈ lw_all := lw_g (lw_at lw_m3 53 rfl) rfl
theorem q670 : (Jvm.Cond.classLink "AgainstFeather$Chain" (9 : Nat) "java/util/ArrayList") ∈ lw_all := lw_g (lw_at lw_m3 54 rfl) rfl
theorem q671 : (Jvm.Cond.methodLink "AgainstFeather$Chain" (11 : Nat) ({ cls := "java/util/ArrayList", name := "<init>", desc := "()V" } : Jvm.MethodName)) ∈ lw_all := lw_g (lw_at lw_m3 55 rfl) rfl
theorem q672 : (Jvm.Cond.fieldLink "AgainstFeather$Chain" (21 : Nat) "AgainstFeather$Chain" "first" "LAgainstFeather$Sum;") ∈ lw_all := lw_g (lw_at lw_m3 56 rfl) rfl
theorem q673 : (Jvm.Cond.fieldLink "AgainstFeather$Chain" (12 : Nat) "AgainstFeather$Chain" "more" "Ljava/util/ArrayList;") ∈ lw_all := lw_g (lw_at lw_m3 57 rfl) rfl
theorem q674 : (Jvm.Cond.fieldLink "AgainstFeather$Chain" (18 : Nat) "AgainstFeather$Chain" "signs" "Ljava/util/ArrayList;") ∈ lw_all := lw_g (lw_at lw_m3 58 rfl) rfl
theorem q675 : (Jvm.Cond.laysFinal "AgainstFeather$Chain" "AgainstFeather$Chain" "first" "LAgainstFeather$Sum;") ∈ lw_all := lw_g (lw_at lw_m3 59 rfl) rfl
theorem q676 : (Jvm.Cond.soleField "AgainstFeather$Chain" "first") ∈ lw_all := lw_g (lw_at lw_m3 60 rfl) rfl
theorem q677 : (Jvm.Cond.laysFinal "AgainstFeather$Chain" "AgainstFeather$Chain" "more" "Ljava/util/ArrayList;") ∈ lw_all := lw_g (lw_at lw_m3 61 rfl) rfl
theorem q678 : (Jvm.Cond.soleField "AgainstFeather$Chain" "more") ∈ lw_all := lw_g (lw_at lw_m3 62 rfl) rfl
theorem q679 : (Jvm.Cond.laysFinal "AgainstFeather$Chain" "AgainstFeather$Chain" "signs" "Ljava/util/ArrayList;") ∈ lw_all := lw_g (lw_at lw_m3 63 rfl) rfl
theorem q680 : (Jvm.Cond.soleField "AgainstFeather$Chain" "signs") ∈ lw_all := lw_g (lw_at lw_m3 64 rfl) rfl
theorem q681 : (Jvm.Cond.superclass "AgainstFeather$Chain" "java/lang/Object") ∈ lw_all := lw_g (lw_at lw_m3 65 rfl) rfl
theorem q683 : (Jvm.Cond.instanceMethod ({ cls := "AgainstFeather$Chain", name := "add", desc := "(ILAgainstFeather$Sum;)V" } : Jvm.MethodName)) ∈ lw_all := lw_g (lw_at lw_m3 67 rfl) rfl
theorem q684 : (Jvm.Cond.selects "AgainstFeather$Chain" ({ cls := "AgainstFeather$Chain", name := "add", desc := "(ILAgainstFeather$Sum;)V" } : Jvm.MethodName) ({ cls := "AgainstFeather$Chain", name := "add", desc := "(ILAgainstFeather$Sum;)V" } : Jvm.MethodName)) ∈ lw_all := lw_g (lw_at lw_m3 68 rfl) rfl
theorem q685 : (Jvm.Cond.code ({ cls := "AgainstFeather$Chain", name := "add", desc := "(ILAgainstFeather$Sum;)V" } : Jvm.MethodName) prog_2_method_2_code (3 : Nat) (Option.none : Option Jvm.ClassFile.FieldType)) ∈ lw_all := lw_g (lw_at lw_m3 69 rfl) rfl
theorem q686 : (Jvm.Cond.methodLink "AgainstFeather$Chain" (25 : Nat) ({ cls := "java/lang/Integer", name := "valueOf", desc := "(I)Ljava/lang/Integer;" } : Jvm.MethodName)) ∈ lw_all := lw_g (lw_at lw_m3 70 rfl) rfl
theorem q706 : (Jvm.Cond.methodLink "AgainstFeather$Chain" (31 : Nat) ({ cls := "java/util/ArrayList", name := "add", desc := "(Ljava/lang/Object;)Z" } : Jvm.MethodName)) ∈ lw_all := lw_g (lw_at lw_m3 90 rfl) rfl
theorem q739 : (Jvm.Cond.selects "AgainstFeather$Chain" ({ cls := "java/lang/Object", name := "getClass", desc := "()Ljava/lang/Class;" } : Jvm.MethodName) ({ cls := "java/lang/Object", name := "getClass", desc := "()Ljava/lang/Class;" } : Jvm.MethodName)) ∈ lw_all := lw_g (lw_at lw_m3 123 rfl) rfl
theorem q765 : (Jvm.Cond.instanceMethod ({ cls := "AgainstFeather$Chain", name := "itself", desc := "()LAgainstFeather$Sum;" } : Jvm.MethodName)) ∈ lw_all := lw_g (lw_at lw_m3 149 rfl) rfl
theorem q766 : (Jvm.Cond.selects "AgainstFeather$Chain" ({ cls := "AgainstFeather$Chain", name := "itself", desc := "()LAgainstFeather$Sum;" } : Jvm.MethodName) ({ cls := "AgainstFeather$Chain", name := "itself", desc := "()LAgainstFeather$Sum;" } : Jvm.MethodName)) ∈ lw_all := lw_g (lw_at lw_m3 150 rfl) rfl
theorem q767 : (Jvm.Cond.code ({ cls := "AgainstFeather$Chain", name := "itself", desc := "()LAgainstFeather$Sum;" } : Jvm.MethodName) prog_2_method_3_code (1 : Nat) (Option.some (Jvm.ClassFile.FieldType.object "AgainstFeather$Sum"))) ∈ lw_all := lw_g (lw_at lw_m3 151 rfl) rfl
theorem q768 : (Jvm.Cond.methodLink "AgainstFeather$Chain" (35 : Nat) ({ cls := "java/util/ArrayList", name := "isEmpty", desc := "()Z" } : Jvm.MethodName)) ∈ lw_all := lw_g (lw_at lw_m3 152 rfl) rfl
theorem q893 : (Jvm.Cond.castable "AgainstFeather$Chain" "AgainstFeather$Sum") ∈ lw_tbl := lw_at lw_m4 37 rfl
theorem q894 : (Jvm.Cond.selects "AgainstFeather$Chain" ({ cls := "AgainstFeather$Sum", name := "of", desc := "([I)J" } : Jvm.MethodName) ({ cls := "AgainstFeather$Chain", name := "of", desc := "([I)J" } : Jvm.MethodName)) ∈ lw_all := lw_g (lw_at lw_m4 38 rfl) rfl
theorem q895 : (Jvm.Cond.unhidden "AgainstFeather$Chain" "of" "([I)J") ∈ lw_tbl := lw_at lw_m4 39 rfl
theorem q896 : (Jvm.Cond.instanceMethod ({ cls := "AgainstFeather$Chain", name := "of", desc := "([I)J" } : Jvm.MethodName)) ∈ lw_all := lw_g (lw_at lw_m4 40 rfl) rfl
theorem q897 : (Jvm.Cond.publicMethod ({ cls := "AgainstFeather$Chain", name := "of", desc := "([I)J" } : Jvm.MethodName)) ∈ lw_tbl := lw_at lw_m4 41 rfl
theorem q898 : (Jvm.Cond.code ({ cls := "AgainstFeather$Chain", name := "of", desc := "([I)J" } : Jvm.MethodName) prog_2_method_4_code (10 : Nat) (Option.some Jvm.ClassFile.FieldType.long)) ∈ lw_all := lw_g (lw_at lw_m4 42 rfl) rfl
theorem q899 : (Jvm.Cond.interfaceEntry "AgainstFeather$Chain" (39 : Nat)) ∈ lw_tbl := lw_at lw_m4 43 rfl
theorem q900 : (Jvm.Cond.methodLink "AgainstFeather$Chain" (39 : Nat) ({ cls := "AgainstFeather$Sum", name := "of", desc := "([I)J" } : Jvm.MethodName)) ∈ lw_all := lw_g (lw_at lw_m4 44 rfl) rfl
theorem q932 : (Jvm.Cond.methodLink "AgainstFeather$Chain" (45 : Nat) ({ cls := "java/util/ArrayList", name := "size", desc := "()I" } : Jvm.MethodName)) ∈ lw_all := lw_g (lw_at lw_m4 76 rfl) rfl
theorem q936 : (Jvm.Cond.methodLink "AgainstFeather$Chain" (49 : Nat) ({ cls := "java/util/ArrayList", name := "get", desc := "(I)Ljava/lang/Object;" } : Jvm.MethodName)) ∈ lw_all := lw_g (lw_at lw_m4 80 rfl) rfl
theorem q948 : (Jvm.Cond.classLink "AgainstFeather$Chain" (40 : Nat) "AgainstFeather$Sum") ∈ lw_all := lw_g (lw_at lw_m4 92 rfl) rfl
theorem q949 : (Jvm.Cond.classLink "AgainstFeather$Chain" (26 : Nat) "java/lang/Integer") ∈ lw_all := lw_g (lw_at lw_m4 93 rfl) rfl
theorem q950 : (Jvm.Cond.methodLink "AgainstFeather$Chain" (53 : Nat) ({ cls := "java/lang/Integer", name := "intValue", desc := "()I" } : Jvm.MethodName)) ∈ lw_all := lw_g (lw_at lw_m4 94 rfl) rfl
theorem q954 : (Jvm.Cond.constantLong "AgainstFeather$Chain" (56 : Nat) (-1000000 : Int64)) ∈ lw_all := lw_g (lw_at lw_m4 98 rfl) rfl
theorem q955 : (Jvm.Cond.constantLong "AgainstFeather$Chain" (58 : Nat) (1000000 : Int64)) ∈ lw_all := lw_g (lw_at lw_m4 99 rfl) rfl
theorem q956 : (Jvm.Cond.methodLink "AgainstFeather$Chain" (60 : Nat) ({ cls := "java/lang/Math", name := "min", desc := "(JJ)J" } : Jvm.MethodName)) ∈ lw_all := lw_g (lw_at lw_m4 100 rfl) rfl
theorem q959 : (Jvm.Cond.methodLink "AgainstFeather$Chain" (66 : Nat) ({ cls := "java/lang/Math", name := "max", desc := "(JJ)J" } : Jvm.MethodName)) ∈ lw_all := lw_g (lw_at lw_m4 103 rfl) rfl
theorem q1999 : (Jvm.Cond.castable "AgainstFeather$Chain" "java/lang/Object") ∈ lw_tbl := lw_at lw_m8 183 rfl
theorem in_X6 : ∀ w ∈ wsX60, w ∈ lw_all := lw_in wsX60 [675, 677, 679] (by decide +kernel) (by decide +kernel)
/-! AgainstFeather$Plain -/
set_option maxRecDepth 100000
def RX7 : String := "AgainstFeather$Plain"
def TX7 : u_T := fun k => match k with
  | _ => ("AgainstFeather$Plain", "n", "I", true)
def tyX7 : Nat → FieldType := fun k => match k with
  | _ => .int
abbrev wsX70 : List Cond := u_ws RX7 TX7 1
theorem nmX7 : ∀ a, a < 1 → ∀ b, b < 1 → a ≠ b → (TX7 a).2.1 ≠ (TX7 b).2.1 := by decide +kernel
theorem tyX7_ok : ∀ k, k < 1 → parseFieldDescriptor (TX7 k).2.2.1 = some (tyX7 k) := by decide +kernel
abbrev cX7_init : ByteArray := prog_7_method_1_code
def yX7_init : MethodName := ⟨RX7, "<init>", "(I)V"⟩
def dkwX7_init_0 : List UInt8 := [42, 183, 0, 1, 42, 27, 181, 0, 7, 177]
abbrev dktX7_init_0 : List UInt8 := dkwX7_init_0 ++ []
theorem dksX7_init_0 : cX7_init.data.toList.drop 0 = dktX7_init_0 := by decide +kernel
theorem dX7_init_0 : decode cX7_init 0 = .ok (.aload_n 0, 1) := dk_42 (dk_at dksX7_init_0 0 rfl rfl)
theorem dX7_init_1 : decode cX7_init 1 = .ok (.invokespecial 1, 3) := dk_183 0 1 (dk_at dksX7_init_0 1 rfl rfl)
theorem dX7_init_4 : decode cX7_init 4 = .ok (.aload_n 0, 1) := dk_42 (dk_at dksX7_init_0 4 rfl rfl)
theorem dX7_init_5 : decode cX7_init 5 = .ok (.iload_n 1, 1) := dk_27 (dk_at dksX7_init_0 5 rfl rfl)
theorem dX7_init_6 : decode cX7_init 6 = .ok (.putfield 7, 3) := dk_181 0 7 (dk_at dksX7_init_0 6 rfl rfl)
theorem dX7_init_9 : decode cX7_init 9 = .ok (.return_, 1) := dk_177 (dk_at dksX7_init_0 9 rfl rfl)
abbrev cX7_of : ByteArray := prog_7_method_2_code
def yX7_of : MethodName := ⟨RX7, "of", "([I)J"⟩
def dkwX7_of_0 : List UInt8 := [42, 180, 0, 7, 133, 173]
abbrev dktX7_of_0 : List UInt8 := dkwX7_of_0 ++ []
theorem dksX7_of_0 : cX7_of.data.toList.drop 0 = dktX7_of_0 := by decide +kernel
theorem dX7_of_0 : decode cX7_of 0 = .ok (.aload_n 0, 1) := dk_42 (dk_at dksX7_of_0 0 rfl rfl)
theorem dX7_of_1 : decode cX7_of 1 = .ok (.getfield 7, 3) := dk_180 0 7 (dk_at dksX7_of_0 1 rfl rfl)
theorem dX7_of_4 : decode cX7_of 4 = .ok (.i2l, 1) := dk_133 (dk_at dksX7_of_0 4 rfl rfl)
theorem dX7_of_5 : decode cX7_of 5 = .ok (.lreturn, 1) := dk_173 (dk_at dksX7_of_0 5 rfl rfl)
theorem q156 : (Jvm.Cond.initialized "AgainstFeather$Plain") ∈ lw_all := lw_g (lw_at lw_m1 20 rfl) rfl
theorem q604 : (Jvm.Cond.instantiable "AgainstFeather$Plain" (1 : Nat)) ∈ lw_all := lw_g (lw_at lw_m2 228 rfl) rfl
theorem q610 : (Jvm.Cond.instanceMethod ({ cls := "AgainstFeather$Plain", name := "<init>", desc := "(I)V" } : Jvm.MethodName)) ∈ lw_all := lw_g (lw_at lw_m2 234 rfl) rfl
theorem q611 : (Jvm.Cond.code ({ cls := "AgainstFeather$Plain", name := "<init>", desc := "(I)V" } : Jvm.MethodName) prog_7_method_1_code (2 : Nat) (Option.none : Option Jvm.ClassFile.FieldType)) ∈ lw_all := lw_g (lw_at lw_m2 235 rfl) rfl
theorem q612 : (Jvm.Cond.methodLink "AgainstFeather$Plain" (1 : Nat) ({ cls := "java/lang/Record", name := "<init>", desc := "()V" } : Jvm.MethodName)) ∈ lw_all := lw_g (lw_at lw_m2 236 rfl) rfl
theorem q616 : (Jvm.Cond.fieldLink "AgainstFeather$Plain" (7 : Nat) "AgainstFeather$Plain" "n" "I") ∈ lw_all := lw_g (lw_at lw_m3 0 rfl) rfl
theorem q617 : (Jvm.Cond.laysFinal "AgainstFeather$Plain" "AgainstFeather$Plain" "n" "I") ∈ lw_all := lw_g (lw_at lw_m3 1 rfl) rfl
theorem q618 : (Jvm.Cond.soleField "AgainstFeather$Plain" "n") ∈ lw_all := lw_g (lw_at lw_m3 2 rfl) rfl
theorem q619 : (Jvm.Cond.superclass "AgainstFeather$Plain" "java/lang/Record") ∈ lw_all := lw_g (lw_at lw_m3 3 rfl) rfl
theorem q744 : (Jvm.Cond.selects "AgainstFeather$Plain" ({ cls := "java/lang/Object", name := "getClass", desc := "()Ljava/lang/Class;" } : Jvm.MethodName) ({ cls := "java/lang/Object", name := "getClass", desc := "()Ljava/lang/Class;" } : Jvm.MethodName)) ∈ lw_all := lw_g (lw_at lw_m3 128 rfl) rfl
theorem q915 : (Jvm.Cond.castable "AgainstFeather$Plain" "AgainstFeather$Sum") ∈ lw_tbl := lw_at lw_m4 59 rfl
theorem q916 : (Jvm.Cond.selects "AgainstFeather$Plain" ({ cls := "AgainstFeather$Sum", name := "of", desc := "([I)J" } : Jvm.MethodName) ({ cls := "AgainstFeather$Plain", name := "of", desc := "([I)J" } : Jvm.MethodName)) ∈ lw_all := lw_g (lw_at lw_m4 60 rfl) rfl
theorem q917 : (Jvm.Cond.unhidden "AgainstFeather$Plain" "of" "([I)J") ∈ lw_tbl := lw_at lw_m4 61 rfl
theorem q918 : (Jvm.Cond.instanceMethod ({ cls := "AgainstFeather$Plain", name := "of", desc := "([I)J" } : Jvm.MethodName)) ∈ lw_all := lw_g (lw_at lw_m4 62 rfl) rfl
theorem q919 : (Jvm.Cond.publicMethod ({ cls := "AgainstFeather$Plain", name := "of", desc := "([I)J" } : Jvm.MethodName)) ∈ lw_tbl := lw_at lw_m4 63 rfl
theorem q920 : (Jvm.Cond.code ({ cls := "AgainstFeather$Plain", name := "of", desc := "([I)J" } : Jvm.MethodName) prog_7_method_2_code (2 : Nat) (Option.some Jvm.ClassFile.FieldType.long)) ∈ lw_all := lw_g (lw_at lw_m4 64 rfl) rfl
theorem q2000 : (Jvm.Cond.castable "AgainstFeather$Plain" "java/lang/Object") ∈ lw_tbl := lw_at lw_m8 184 rfl
theorem in_X7 : ∀ w ∈ wsX70, w ∈ lw_all := lw_in wsX70 [617] (by decide +kernel) (by decide +kernel)
/-! AgainstFeather$Name -/
set_option maxRecDepth 100000
def RX8 : String := "AgainstFeather$Name"
def TX8 : u_T := fun k => match k with
  | _ => ("AgainstFeather$Name", "which", "I", true)
def tyX8 : Nat → FieldType := fun k => match k with
  | _ => .int
abbrev wsX80 : List Cond := u_ws RX8 TX8 1
theorem nmX8 : ∀ a, a < 1 → ∀ b, b < 1 → a ≠ b → (TX8 a).2.1 ≠ (TX8 b).2.1 := by decide +kernel
theorem tyX8_ok : ∀ k, k < 1 → parseFieldDescriptor (TX8 k).2.2.1 = some (tyX8 k) := by decide +kernel
abbrev cX8_init : ByteArray := prog_5_method_1_code
def yX8_init : MethodName := ⟨RX8, "<init>", "(I)V"⟩
def dkwX8_init_0 : List UInt8 := [42, 183, 0, 1, 42, 27, 181, 0, 7, 177]
abbrev dktX8_init_0 : List UInt8 := dkwX8_init_0 ++ []
theorem dksX8_init_0 : cX8_init.data.toList.drop 0 = dktX8_init_0 := by decide +kernel
theorem dX8_init_0 : decode cX8_init 0 = .ok (.aload_n 0, 1) := dk_42 (dk_at dksX8_init_0 0 rfl rfl)
theorem dX8_init_1 : decode cX8_init 1 = .ok (.invokespecial 1, 3) := dk_183 0 1 (dk_at dksX8_init_0 1 rfl rfl)
theorem dX8_init_4 : decode cX8_init 4 = .ok (.aload_n 0, 1) := dk_42 (dk_at dksX8_init_0 4 rfl rfl)
theorem dX8_init_5 : decode cX8_init 5 = .ok (.iload_n 1, 1) := dk_27 (dk_at dksX8_init_0 5 rfl rfl)
theorem dX8_init_6 : decode cX8_init 6 = .ok (.putfield 7, 3) := dk_181 0 7 (dk_at dksX8_init_0 6 rfl rfl)
theorem dX8_init_9 : decode cX8_init 9 = .ok (.return_, 1) := dk_177 (dk_at dksX8_init_0 9 rfl rfl)
abbrev cX8_of : ByteArray := prog_5_method_2_code
def yX8_of : MethodName := ⟨RX8, "of", "([I)J"⟩
def dkwX8_of_0 : List UInt8 := [43, 42, 180, 0, 7, 46, 133, 173]
abbrev dktX8_of_0 : List UInt8 := dkwX8_of_0 ++ []
theorem dksX8_of_0 : cX8_of.data.toList.drop 0 = dktX8_of_0 := by decide +kernel
theorem dX8_of_0 : decode cX8_of 0 = .ok (.aload_n 1, 1) := dk_43 (dk_at dksX8_of_0 0 rfl rfl)
theorem dX8_of_1 : decode cX8_of 1 = .ok (.aload_n 0, 1) := dk_42 (dk_at dksX8_of_0 1 rfl rfl)
theorem dX8_of_2 : decode cX8_of 2 = .ok (.getfield 7, 3) := dk_180 0 7 (dk_at dksX8_of_0 2 rfl rfl)
theorem dX8_of_5 : decode cX8_of 5 = .ok (.iaload, 1) := dk_46 (dk_at dksX8_of_0 5 rfl rfl)
theorem dX8_of_6 : decode cX8_of 6 = .ok (.i2l, 1) := dk_133 (dk_at dksX8_of_0 6 rfl rfl)
theorem dX8_of_7 : decode cX8_of 7 = .ok (.lreturn, 1) := dk_173 (dk_at dksX8_of_0 7 rfl rfl)
theorem q157 : (Jvm.Cond.initialized "AgainstFeather$Name") ∈ lw_all := lw_g (lw_at lw_m1 21 rfl) rfl
theorem q629 : (Jvm.Cond.instantiable "AgainstFeather$Name" (1 : Nat)) ∈ lw_all := lw_g (lw_at lw_m3 13 rfl) rfl
theorem q631 : (Jvm.Cond.instanceMethod ({ cls := "AgainstFeather$Name", name := "<init>", desc := "(I)V" } : Jvm.MethodName)) ∈ lw_all := lw_g (lw_at lw_m3 15 rfl) rfl
theorem q632 : (Jvm.Cond.code ({ cls := "AgainstFeather$Name", name := "<init>", desc := "(I)V" } : Jvm.MethodName) prog_5_method_1_code (2 : Nat) (Option.none : Option Jvm.ClassFile.FieldType)) ∈ lw_all := lw_g (lw_at lw_m3 16 rfl) rfl
theorem q633 : (Jvm.Cond.methodLink "AgainstFeather$Name" (1 : Nat) ({ cls := "java/lang/Record", name := "<init>", desc := "()V" } : Jvm.MethodName)) ∈ lw_all := lw_g (lw_at lw_m3 17 rfl) rfl
theorem q634 : (Jvm.Cond.fieldLink "AgainstFeather$Name" (7 : Nat) "AgainstFeather$Name" "which" "I") ∈ lw_all := lw_g (lw_at lw_m3 18 rfl) rfl
theorem q635 : (Jvm.Cond.laysFinal "AgainstFeather$Name" "AgainstFeather$Name" "which" "I") ∈ lw_all := lw_g (lw_at lw_m3 19 rfl) rfl
theorem q636 : (Jvm.Cond.soleField "AgainstFeather$Name" "which") ∈ lw_all := lw_g (lw_at lw_m3 20 rfl) rfl
theorem q637 : (Jvm.Cond.superclass "AgainstFeather$Name" "java/lang/Record") ∈ lw_all := lw_g (lw_at lw_m3 21 rfl) rfl
theorem q742 : (Jvm.Cond.selects "AgainstFeather$Name" ({ cls := "java/lang/Object", name := "getClass", desc := "()Ljava/lang/Class;" } : Jvm.MethodName) ({ cls := "java/lang/Object", name := "getClass", desc := "()Ljava/lang/Class;" } : Jvm.MethodName)) ∈ lw_all := lw_g (lw_at lw_m3 126 rfl) rfl
theorem q909 : (Jvm.Cond.castable "AgainstFeather$Name" "AgainstFeather$Sum") ∈ lw_tbl := lw_at lw_m4 53 rfl
theorem q910 : (Jvm.Cond.selects "AgainstFeather$Name" ({ cls := "AgainstFeather$Sum", name := "of", desc := "([I)J" } : Jvm.MethodName) ({ cls := "AgainstFeather$Name", name := "of", desc := "([I)J" } : Jvm.MethodName)) ∈ lw_all := lw_g (lw_at lw_m4 54 rfl) rfl
theorem q911 : (Jvm.Cond.unhidden "AgainstFeather$Name" "of" "([I)J") ∈ lw_tbl := lw_at lw_m4 55 rfl
theorem q912 : (Jvm.Cond.instanceMethod ({ cls := "AgainstFeather$Name", name := "of", desc := "([I)J" } : Jvm.MethodName)) ∈ lw_all := lw_g (lw_at lw_m4 56 rfl) rfl
theorem q913 : (Jvm.Cond.publicMethod ({ cls := "AgainstFeather$Name", name := "of", desc := "([I)J" } : Jvm.MethodName)) ∈ lw_tbl := lw_at lw_m4 57 rfl
theorem q914 : (Jvm.Cond.code ({ cls := "AgainstFeather$Name", name := "of", desc := "([I)J" } : Jvm.MethodName) prog_5_method_2_code (2 : Nat) (Option.some Jvm.ClassFile.FieldType.long)) ∈ lw_all := lw_g (lw_at lw_m4 58 rfl) rfl
theorem q2001 : (Jvm.Cond.castable "AgainstFeather$Name" "java/lang/Object") ∈ lw_tbl := lw_at lw_m8 185 rfl
theorem in_X8 : ∀ w ∈ wsX80, w ∈ lw_all := lw_in wsX80 [635] (by decide +kernel) (by decide +kernel)
/-! AgainstFeather$Minus -/
set_option maxRecDepth 100000
def RX9 : String := "AgainstFeather$Minus"
def TX9 : u_T := fun k => match k with
  | _ => ("AgainstFeather$Minus", "x", "LAgainstFeather$Sum;", true)
def tyX9 : Nat → FieldType := fun k => match k with
  | _ => .object "AgainstFeather$Sum"
abbrev wsX90 : List Cond := u_ws RX9 TX9 1
theorem nmX9 : ∀ a, a < 1 → ∀ b, b < 1 → a ≠ b → (TX9 a).2.1 ≠ (TX9 b).2.1 := by decide +kernel
theorem tyX9_ok : ∀ k, k < 1 → parseFieldDescriptor (TX9 k).2.2.1 = some (tyX9 k) := by decide +kernel
abbrev cX9_init : ByteArray := prog_4_method_1_code
def yX9_init : MethodName := ⟨RX9, "<init>", "(LAgainstFeather$Sum;)V"⟩
def dkwX9_init_0 : List UInt8 := [42, 183, 0, 1, 42, 43, 181, 0, 7, 177]
abbrev dktX9_init_0 : List UInt8 := dkwX9_init_0 ++ []
theorem dksX9_init_0 : cX9_init.data.toList.drop 0 = dktX9_init_0 := by decide +kernel
theorem dX9_init_0 : decode cX9_init 0 = .ok (.aload_n 0, 1) := dk_42 (dk_at dksX9_init_0 0 rfl rfl)
theorem dX9_init_1 : decode cX9_init 1 = .ok (.invokespecial 1, 3) := dk_183 0 1 (dk_at dksX9_init_0 1 rfl rfl)
theorem dX9_init_4 : decode cX9_init 4 = .ok (.aload_n 0, 1) := dk_42 (dk_at dksX9_init_0 4 rfl rfl)
theorem dX9_init_5 : decode cX9_init 5 = .ok (.aload_n 1, 1) := dk_43 (dk_at dksX9_init_0 5 rfl rfl)
theorem dX9_init_6 : decode cX9_init 6 = .ok (.putfield 7, 3) := dk_181 0 7 (dk_at dksX9_init_0 6 rfl rfl)
theorem dX9_init_9 : decode cX9_init 9 = .ok (.return_, 1) := dk_177 (dk_at dksX9_init_0 9 rfl rfl)
abbrev cX9_of : ByteArray := prog_4_method_2_code
def yX9_of : MethodName := ⟨RX9, "of", "([I)J"⟩
def dkwX9_of_0 : List UInt8 := [42, 180, 0, 7, 43, 185, 0, 13, 2, 0, 117, 173]
abbrev dktX9_of_0 : List UInt8 := dkwX9_of_0 ++ []
theorem dksX9_of_0 : cX9_of.data.toList.drop 0 = dktX9_of_0 := by decide +kernel
theorem dX9_of_0 : decode cX9_of 0 = .ok (.aload_n 0, 1) := dk_42 (dk_at dksX9_of_0 0 rfl rfl)
theorem dX9_of_1 : decode cX9_of 1 = .ok (.getfield 7, 3) := dk_180 0 7 (dk_at dksX9_of_0 1 rfl rfl)
theorem dX9_of_4 : decode cX9_of 4 = .ok (.aload_n 1, 1) := dk_43 (dk_at dksX9_of_0 4 rfl rfl)
theorem dX9_of_5 : decode cX9_of 5 = .ok (.invokeinterface 13 2, 5) := by decide +kernel
theorem dX9_of_10 : decode cX9_of 10 = .ok (.lneg, 1) := dk_117 (dk_at dksX9_of_0 10 rfl rfl)
theorem dX9_of_11 : decode cX9_of 11 = .ok (.lreturn, 1) := dk_173 (dk_at dksX9_of_0 11 rfl rfl)
theorem q158 : (Jvm.Cond.initialized "AgainstFeather$Minus") ∈ lw_all := lw_g (lw_at lw_m1 22 rfl) rfl
theorem q643 : (Jvm.Cond.instantiable "AgainstFeather$Minus" (1 : Nat)) ∈ lw_all := lw_g (lw_at lw_m3 27 rfl) rfl
theorem q645 : (Jvm.Cond.instanceMethod ({ cls := "AgainstFeather$Minus", name := "<init>", desc := "(LAgainstFeather$Sum;)V" } : Jvm.MethodName)) ∈ lw_all := lw_g (lw_at lw_m3 29 rfl) rfl
theorem q646 : (Jvm.Cond.code ({ cls := "AgainstFeather$Minus", name := "<init>", desc := "(LAgainstFeather$Sum;)V" } : Jvm.MethodName) prog_4_method_1_code (2 : Nat) (Option.none : Option Jvm.ClassFile.FieldType)) ∈ lw_all := lw_g (lw_at lw_m3 30 rfl) rfl
theorem q647 : (Jvm.Cond.methodLink "AgainstFeather$Minus" (1 : Nat) ({ cls := "java/lang/Record", name := "<init>", desc := "()V" } : Jvm.MethodName)) ∈ lw_all := lw_g (lw_at lw_m3 31 rfl) rfl
theorem q648 : (Jvm.Cond.fieldLink "AgainstFeather$Minus" (7 : Nat) "AgainstFeather$Minus" "x" "LAgainstFeather$Sum;") ∈ lw_all := lw_g (lw_at lw_m3 32 rfl) rfl
theorem q649 : (Jvm.Cond.laysFinal "AgainstFeather$Minus" "AgainstFeather$Minus" "x" "LAgainstFeather$Sum;") ∈ lw_all := lw_g (lw_at lw_m3 33 rfl) rfl
theorem q650 : (Jvm.Cond.soleField "AgainstFeather$Minus" "x") ∈ lw_all := lw_g (lw_at lw_m3 34 rfl) rfl
theorem q651 : (Jvm.Cond.superclass "AgainstFeather$Minus" "java/lang/Record") ∈ lw_all := lw_g (lw_at lw_m3 35 rfl) rfl
theorem q741 : (Jvm.Cond.selects "AgainstFeather$Minus" ({ cls := "java/lang/Object", name := "getClass", desc := "()Ljava/lang/Class;" } : Jvm.MethodName) ({ cls := "java/lang/Object", name := "getClass", desc := "()Ljava/lang/Class;" } : Jvm.MethodName)) ∈ lw_all := lw_g (lw_at lw_m3 125 rfl) rfl
theorem q901 : (Jvm.Cond.castable "AgainstFeather$Minus" "AgainstFeather$Sum") ∈ lw_tbl := lw_at lw_m4 45 rfl
theorem q902 : (Jvm.Cond.selects "AgainstFeather$Minus" ({ cls := "AgainstFeather$Sum", name := "of", desc := "([I)J" } : Jvm.MethodName) ({ cls := "AgainstFeather$Minus", name := "of", desc := "([I)J" } : Jvm.MethodName)) ∈ lw_all := lw_g (lw_at lw_m4 46 rfl) rfl
theorem q903 : (Jvm.Cond.unhidden "AgainstFeather$Minus" "of" "([I)J") ∈ lw_tbl := lw_at lw_m4 47 rfl
theorem q904 : (Jvm.Cond.instanceMethod ({ cls := "AgainstFeather$Minus", name := "of", desc := "([I)J" } : Jvm.MethodName)) ∈ lw_all := lw_g (lw_at lw_m4 48 rfl) rfl
theorem q905 : (Jvm.Cond.publicMethod ({ cls := "AgainstFeather$Minus", name := "of", desc := "([I)J" } : Jvm.MethodName)) ∈ lw_tbl := lw_at lw_m4 49 rfl
theorem q906 : (Jvm.Cond.code ({ cls := "AgainstFeather$Minus", name := "of", desc := "([I)J" } : Jvm.MethodName) prog_4_method_2_code (2 : Nat) (Option.some Jvm.ClassFile.FieldType.long)) ∈ lw_all := lw_g (lw_at lw_m4 50 rfl) rfl
theorem q907 : (Jvm.Cond.interfaceEntry "AgainstFeather$Minus" (13 : Nat)) ∈ lw_tbl := lw_at lw_m4 51 rfl
theorem q908 : (Jvm.Cond.methodLink "AgainstFeather$Minus" (13 : Nat) ({ cls := "AgainstFeather$Sum", name := "of", desc := "([I)J" } : Jvm.MethodName)) ∈ lw_all := lw_g (lw_at lw_m4 52 rfl) rfl
theorem q2002 : (Jvm.Cond.castable "AgainstFeather$Minus" "java/lang/Object") ∈ lw_tbl := lw_at lw_m8 186 rfl
theorem in_X9 : ∀ w ∈ wsX90, w ∈ lw_all := lw_in wsX90 [649] (by decide +kernel) (by decide +kernel)
