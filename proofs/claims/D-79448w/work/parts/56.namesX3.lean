/-! RosaryCarversModel -/
set_option maxRecDepth 100000
def RX3 : String := "RosaryCarversModel"
def TX3 : u_T := fun k => match k with
  | 0 => ("RosaryCarversModel", "s", "[I", true)
  | 1 => ("RosaryCarversModel", "was", "[I", true)
  | 2 => ("RosaryCarversModel", "saved", "[I", true)
  | 3 => ("RosaryCarversModel", "past", "[I", true)
  | 4 => ("RosaryCarversModel", "changes", "I", false)
  | 5 => ("RosaryCarversModel", "isSaved", "Z", false)
  | 6 => ("RosaryCarversModel", "reasons", "[I", true)
  | 7 => ("RosaryCarversModel", "details", "[I", true)
  | 8 => ("RosaryCarversModel", "line", "[I", true)
  | 9 => ("RosaryCarversModel", "lined", "I", false)
  | 10 => ("RosaryCarversModel", "words", "[Ljava/lang/String;", true)
  | 11 => ("RosaryCarversModel", "tape", "[I", true)
  | 12 => ("RosaryCarversModel", "commands", "[I", true)
  | 13 => ("RosaryCarversModel", "taped", "I", false)
  | 14 => ("RosaryCarversModel", "here", "I", false)
  | 15 => ("RosaryCarversModel", "commandMany", "I", false)
  | 16 => ("RosaryCarversModel", "told", "I", false)
  | _ => ("RosaryCarversModel", "faultAt", "I", false)
def tyX3 : Nat → FieldType := fun k => match k with
  | 0 => .array .int
  | 1 => .array .int
  | 2 => .array .int
  | 3 => .array .int
  | 4 => .int
  | 5 => .boolean
  | 6 => .array .int
  | 7 => .array .int
  | 8 => .array .int
  | 9 => .int
  | 10 => .array (.object "java/lang/String")
  | 11 => .array .int
  | 12 => .array .int
  | 13 => .int
  | 14 => .int
  | 15 => .int
  | 16 => .int
  | _ => .int
abbrev wsX30 : List Cond := u_ws RX3 TX3 18
set_option maxRecDepth 100000 in
theorem nmX3 : ∀ a, a < 18 → ∀ b, b < 18 → a ≠ b → (TX3 a).2.1 ≠ (TX3 b).2.1 := by decide +kernel
set_option maxRecDepth 100000 in
theorem tyX3_ok : ∀ k, k < 18 → parseFieldDescriptor (TX3 k).2.2.1 = some (tyX3 k) := by decide +kernel
abbrev cX3_init : ByteArray := prog_33_method_1_code
def yX3_init : MethodName := ⟨RX3, "<init>", "()V"⟩
def dkwX3_init_5 : List UInt8 := [181, 0, 53, 42, 16, 63, 188, 10, 181, 0, 56, 42, 2, 181, 0, 59, 177]
abbrev dktX3_init_5 : List UInt8 := dkwX3_init_5 ++ []
def dkwX3_init_4 : List UInt8 := [8, 18, 43, 83, 89, 16, 6, 18, 45, 83, 89, 16, 7, 18, 47, 83, 181, 0, 49, 42, 16, 60, 188, 10]
abbrev dktX3_init_4 : List UInt8 := dkwX3_init_4 ++ dktX3_init_5
def dkwX3_init_3 : List UInt8 := [18, 33, 83, 89, 4, 18, 35, 83, 89, 5, 18, 37, 83, 89, 6, 18, 39, 83, 89, 7, 18, 41, 83, 89]
abbrev dktX3_init_3 : List UInt8 := dkwX3_init_3 ++ dktX3_init_4
def dkwX3_init_2 : List UInt8 := [42, 6, 188, 10, 181, 0, 25, 42, 16, 80, 188, 10, 181, 0, 28, 42, 16, 8, 189, 0, 31, 89, 3]
abbrev dktX3_init_2 : List UInt8 := dkwX3_init_2 ++ dktX3_init_3
def dkwX3_init_1 : List UInt8 := [17, 8, 140, 188, 10, 181, 0, 16, 42, 17, 68, 96, 188, 10, 181, 0, 19, 42, 6, 188, 10, 181, 0, 22]
abbrev dktX3_init_1 : List UInt8 := dkwX3_init_1 ++ dktX3_init_2
def dkwX3_init_0 : List UInt8 := [42, 183, 0, 3, 42, 17, 8, 140, 188, 10, 181, 0, 9, 42, 17, 8, 140, 188, 10, 181, 0, 13, 42]
abbrev dktX3_init_0 : List UInt8 := dkwX3_init_0 ++ dktX3_init_1
theorem dksX3_init_0 : cX3_init.data.toList.drop 0 = dktX3_init_0 := by decide +kernel
theorem dksX3_init_1 : cX3_init.data.toList.drop 23 = dktX3_init_1 := dk_seg dksX3_init_0 23 rfl rfl
theorem dksX3_init_2 : cX3_init.data.toList.drop 47 = dktX3_init_2 := dk_seg dksX3_init_1 24 rfl rfl
theorem dksX3_init_3 : cX3_init.data.toList.drop 70 = dktX3_init_3 := dk_seg dksX3_init_2 23 rfl rfl
theorem dksX3_init_4 : cX3_init.data.toList.drop 94 = dktX3_init_4 := dk_seg dksX3_init_3 24 rfl rfl
theorem dksX3_init_5 : cX3_init.data.toList.drop 118 = dktX3_init_5 := dk_seg dksX3_init_4 24 rfl rfl
theorem dX3_init_0 : decode cX3_init 0 = .ok (.aload_n 0, 1) := dk_42 (dk_at dksX3_init_0 0 rfl rfl)
theorem dX3_init_1 : decode cX3_init 1 = .ok (.invokespecial 3, 3) := dk_183 0 3 (dk_at dksX3_init_0 1 rfl rfl)
theorem dX3_init_4 : decode cX3_init 4 = .ok (.aload_n 0, 1) := dk_42 (dk_at dksX3_init_0 4 rfl rfl)
theorem dX3_init_5 : decode cX3_init 5 = .ok (.sipush 2188, 3) := dk_17 8 140 (dk_at dksX3_init_0 5 rfl rfl)
theorem dX3_init_8 : decode cX3_init 8 = .ok (.newarray .int, 2) := dk_188_10 (dk_at dksX3_init_0 8 rfl rfl)
theorem dX3_init_10 : decode cX3_init 10 = .ok (.putfield 9, 3) := dk_181 0 9 (dk_at dksX3_init_0 10 rfl rfl)
theorem dX3_init_13 : decode cX3_init 13 = .ok (.aload_n 0, 1) := dk_42 (dk_at dksX3_init_0 13 rfl rfl)
theorem dX3_init_14 : decode cX3_init 14 = .ok (.sipush 2188, 3) := dk_17 8 140 (dk_at dksX3_init_0 14 rfl rfl)
theorem dX3_init_17 : decode cX3_init 17 = .ok (.newarray .int, 2) := dk_188_10 (dk_at dksX3_init_0 17 rfl rfl)
theorem dX3_init_19 : decode cX3_init 19 = .ok (.putfield 13, 3) := dk_181 0 13 (dk_at dksX3_init_0 19 rfl rfl)
theorem dX3_init_22 : decode cX3_init 22 = .ok (.aload_n 0, 1) := dk_42 (dk_at dksX3_init_0 22 rfl rfl)
theorem dX3_init_23 : decode cX3_init 23 = .ok (.sipush 2188, 3) := dk_17 8 140 (dk_at dksX3_init_1 0 rfl rfl)
theorem dX3_init_26 : decode cX3_init 26 = .ok (.newarray .int, 2) := dk_188_10 (dk_at dksX3_init_1 3 rfl rfl)
theorem dX3_init_28 : decode cX3_init 28 = .ok (.putfield 16, 3) := dk_181 0 16 (dk_at dksX3_init_1 5 rfl rfl)
theorem dX3_init_31 : decode cX3_init 31 = .ok (.aload_n 0, 1) := dk_42 (dk_at dksX3_init_1 8 rfl rfl)
theorem dX3_init_32 : decode cX3_init 32 = .ok (.sipush 17504, 3) := dk_17 68 96 (dk_at dksX3_init_1 9 rfl rfl)
theorem dX3_init_35 : decode cX3_init 35 = .ok (.newarray .int, 2) := dk_188_10 (dk_at dksX3_init_1 12 rfl rfl)
theorem dX3_init_37 : decode cX3_init 37 = .ok (.putfield 19, 3) := dk_181 0 19 (dk_at dksX3_init_1 14 rfl rfl)
theorem dX3_init_40 : decode cX3_init 40 = .ok (.aload_n 0, 1) := dk_42 (dk_at dksX3_init_1 17 rfl rfl)
theorem dX3_init_41 : decode cX3_init 41 = .ok (.iconst 3, 1) := dk_6 (dk_at dksX3_init_1 18 rfl rfl)
theorem dX3_init_42 : decode cX3_init 42 = .ok (.newarray .int, 2) := dk_188_10 (dk_at dksX3_init_1 19 rfl rfl)
theorem dX3_init_44 : decode cX3_init 44 = .ok (.putfield 22, 3) := dk_181 0 22 (dk_at dksX3_init_1 21 rfl rfl)
theorem dX3_init_47 : decode cX3_init 47 = .ok (.aload_n 0, 1) := dk_42 (dk_at dksX3_init_2 0 rfl rfl)
theorem dX3_init_48 : decode cX3_init 48 = .ok (.iconst 3, 1) := dk_6 (dk_at dksX3_init_2 1 rfl rfl)
theorem dX3_init_49 : decode cX3_init 49 = .ok (.newarray .int, 2) := dk_188_10 (dk_at dksX3_init_2 2 rfl rfl)
theorem dX3_init_51 : decode cX3_init 51 = .ok (.putfield 25, 3) := dk_181 0 25 (dk_at dksX3_init_2 4 rfl rfl)
theorem dX3_init_54 : decode cX3_init 54 = .ok (.aload_n 0, 1) := dk_42 (dk_at dksX3_init_2 7 rfl rfl)
theorem dX3_init_55 : decode cX3_init 55 = .ok (.bipush 80, 2) := dk_16 80 (dk_at dksX3_init_2 8 rfl rfl)
theorem dX3_init_57 : decode cX3_init 57 = .ok (.newarray .int, 2) := dk_188_10 (dk_at dksX3_init_2 10 rfl rfl)
theorem dX3_init_59 : decode cX3_init 59 = .ok (.putfield 28, 3) := dk_181 0 28 (dk_at dksX3_init_2 12 rfl rfl)
theorem dX3_init_62 : decode cX3_init 62 = .ok (.aload_n 0, 1) := dk_42 (dk_at dksX3_init_2 15 rfl rfl)
theorem dX3_init_63 : decode cX3_init 63 = .ok (.bipush 8, 2) := dk_16 8 (dk_at dksX3_init_2 16 rfl rfl)
theorem dX3_init_65 : decode cX3_init 65 = .ok (.anewarray 31, 3) := dk_189 0 31 (dk_at dksX3_init_2 18 rfl rfl)
theorem dX3_init_68 : decode cX3_init 68 = .ok (.dup, 1) := dk_89 (dk_at dksX3_init_2 21 rfl rfl)
theorem dX3_init_69 : decode cX3_init 69 = .ok (.iconst 0, 1) := dk_3 (dk_at dksX3_init_2 22 rfl rfl)
theorem dX3_init_70 : decode cX3_init 70 = .ok (.ldc 33, 2) := dk_18 33 (dk_at dksX3_init_3 0 rfl rfl)
theorem dX3_init_72 : decode cX3_init 72 = .ok (.aastore, 1) := dk_83 (dk_at dksX3_init_3 2 rfl rfl)
theorem dX3_init_73 : decode cX3_init 73 = .ok (.dup, 1) := dk_89 (dk_at dksX3_init_3 3 rfl rfl)
theorem dX3_init_74 : decode cX3_init 74 = .ok (.iconst 1, 1) := dk_4 (dk_at dksX3_init_3 4 rfl rfl)
theorem dX3_init_75 : decode cX3_init 75 = .ok (.ldc 35, 2) := dk_18 35 (dk_at dksX3_init_3 5 rfl rfl)
theorem dX3_init_77 : decode cX3_init 77 = .ok (.aastore, 1) := dk_83 (dk_at dksX3_init_3 7 rfl rfl)
theorem dX3_init_78 : decode cX3_init 78 = .ok (.dup, 1) := dk_89 (dk_at dksX3_init_3 8 rfl rfl)
theorem dX3_init_79 : decode cX3_init 79 = .ok (.iconst 2, 1) := dk_5 (dk_at dksX3_init_3 9 rfl rfl)
theorem dX3_init_80 : decode cX3_init 80 = .ok (.ldc 37, 2) := dk_18 37 (dk_at dksX3_init_3 10 rfl rfl)
theorem dX3_init_82 : decode cX3_init 82 = .ok (.aastore, 1) := dk_83 (dk_at dksX3_init_3 12 rfl rfl)
theorem dX3_init_83 : decode cX3_init 83 = .ok (.dup, 1) := dk_89 (dk_at dksX3_init_3 13 rfl rfl)
theorem dX3_init_84 : decode cX3_init 84 = .ok (.iconst 3, 1) := dk_6 (dk_at dksX3_init_3 14 rfl rfl)
theorem dX3_init_85 : decode cX3_init 85 = .ok (.ldc 39, 2) := dk_18 39 (dk_at dksX3_init_3 15 rfl rfl)
theorem dX3_init_87 : decode cX3_init 87 = .ok (.aastore, 1) := dk_83 (dk_at dksX3_init_3 17 rfl rfl)
theorem dX3_init_88 : decode cX3_init 88 = .ok (.dup, 1) := dk_89 (dk_at dksX3_init_3 18 rfl rfl)
theorem dX3_init_89 : decode cX3_init 89 = .ok (.iconst 4, 1) := dk_7 (dk_at dksX3_init_3 19 rfl rfl)
theorem dX3_init_90 : decode cX3_init 90 = .ok (.ldc 41, 2) := dk_18 41 (dk_at dksX3_init_3 20 rfl rfl)
theorem dX3_init_92 : decode cX3_init 92 = .ok (.aastore, 1) := dk_83 (dk_at dksX3_init_3 22 rfl rfl)
theorem dX3_init_93 : decode cX3_init 93 = .ok (.dup, 1) := dk_89 (dk_at dksX3_init_3 23 rfl rfl)
theorem dX3_init_94 : decode cX3_init 94 = .ok (.iconst 5, 1) := dk_8 (dk_at dksX3_init_4 0 rfl rfl)
theorem dX3_init_95 : decode cX3_init 95 = .ok (.ldc 43, 2) := dk_18 43 (dk_at dksX3_init_4 1 rfl rfl)
theorem dX3_init_97 : decode cX3_init 97 = .ok (.aastore, 1) := dk_83 (dk_at dksX3_init_4 3 rfl rfl)
theorem dX3_init_98 : decode cX3_init 98 = .ok (.dup, 1) := dk_89 (dk_at dksX3_init_4 4 rfl rfl)
theorem dX3_init_99 : decode cX3_init 99 = .ok (.bipush 6, 2) := dk_16 6 (dk_at dksX3_init_4 5 rfl rfl)
theorem dX3_init_101 : decode cX3_init 101 = .ok (.ldc 45, 2) := dk_18 45 (dk_at dksX3_init_4 7 rfl rfl)
theorem dX3_init_103 : decode cX3_init 103 = .ok (.aastore, 1) := dk_83 (dk_at dksX3_init_4 9 rfl rfl)
theorem dX3_init_104 : decode cX3_init 104 = .ok (.dup, 1) := dk_89 (dk_at dksX3_init_4 10 rfl rfl)
theorem dX3_init_105 : decode cX3_init 105 = .ok (.bipush 7, 2) := dk_16 7 (dk_at dksX3_init_4 11 rfl rfl)
theorem dX3_init_107 : decode cX3_init 107 = .ok (.ldc 47, 2) := dk_18 47 (dk_at dksX3_init_4 13 rfl rfl)
theorem dX3_init_109 : decode cX3_init 109 = .ok (.aastore, 1) := dk_83 (dk_at dksX3_init_4 15 rfl rfl)
theorem dX3_init_110 : decode cX3_init 110 = .ok (.putfield 49, 3) := dk_181 0 49 (dk_at dksX3_init_4 16 rfl rfl)
theorem dX3_init_113 : decode cX3_init 113 = .ok (.aload_n 0, 1) := dk_42 (dk_at dksX3_init_4 19 rfl rfl)
theorem dX3_init_114 : decode cX3_init 114 = .ok (.bipush 60, 2) := dk_16 60 (dk_at dksX3_init_4 20 rfl rfl)
theorem dX3_init_116 : decode cX3_init 116 = .ok (.newarray .int, 2) := dk_188_10 (dk_at dksX3_init_4 22 rfl rfl)
theorem dX3_init_118 : decode cX3_init 118 = .ok (.putfield 53, 3) := dk_181 0 53 (dk_at dksX3_init_5 0 rfl rfl)
theorem dX3_init_121 : decode cX3_init 121 = .ok (.aload_n 0, 1) := dk_42 (dk_at dksX3_init_5 3 rfl rfl)
theorem dX3_init_122 : decode cX3_init 122 = .ok (.bipush 63, 2) := dk_16 63 (dk_at dksX3_init_5 4 rfl rfl)
theorem dX3_init_124 : decode cX3_init 124 = .ok (.newarray .int, 2) := dk_188_10 (dk_at dksX3_init_5 6 rfl rfl)
theorem dX3_init_126 : decode cX3_init 126 = .ok (.putfield 56, 3) := dk_181 0 56 (dk_at dksX3_init_5 8 rfl rfl)
theorem dX3_init_129 : decode cX3_init 129 = .ok (.aload_n 0, 1) := dk_42 (dk_at dksX3_init_5 11 rfl rfl)
theorem dX3_init_130 : decode cX3_init 130 = .ok (.iconst (-1), 1) := dk_2 (dk_at dksX3_init_5 12 rfl rfl)
theorem dX3_init_131 : decode cX3_init 131 = .ok (.putfield 59, 3) := dk_181 0 59 (dk_at dksX3_init_5 13 rfl rfl)
theorem dX3_init_134 : decode cX3_init 134 = .ok (.return_, 1) := dk_177 (dk_at dksX3_init_5 16 rfl rfl)
abbrev cX3_stones : ByteArray := prog_33_method_13_code
def yX3_stones : MethodName := ⟨RX3, "stones", "(I)I"⟩
def dkwX3_stones_2 : List UInt8 := [182, 0, 91, 172]
abbrev dktX3_stones_2 : List UInt8 := dkwX3_stones_2 ++ []
def dkwX3_stones_1 : List UInt8 := [17, 3, 231, 42, 180, 0, 9, 4, 46, 27, 96, 184, 0, 88, 79, 42, 42, 180, 0, 9, 4, 46]
abbrev dktX3_stones_1 : List UInt8 := dkwX3_stones_1 ++ dktX3_stones_2
def dkwX3_stones_0 : List UInt8 := [27, 4, 17, 0, 200, 184, 0, 81, 154, 0, 6, 16, 254, 172, 42, 182, 0, 85, 42, 180, 0, 9, 4]
abbrev dktX3_stones_0 : List UInt8 := dkwX3_stones_0 ++ dktX3_stones_1
theorem dksX3_stones_0 : cX3_stones.data.toList.drop 0 = dktX3_stones_0 := by decide +kernel
theorem dksX3_stones_1 : cX3_stones.data.toList.drop 23 = dktX3_stones_1 := dk_seg dksX3_stones_0 23 rfl rfl
theorem dksX3_stones_2 : cX3_stones.data.toList.drop 45 = dktX3_stones_2 := dk_seg dksX3_stones_1 22 rfl rfl
theorem dX3_stones_0 : decode cX3_stones 0 = .ok (.iload_n 1, 1) := dk_27 (dk_at dksX3_stones_0 0 rfl rfl)
theorem dX3_stones_1 : decode cX3_stones 1 = .ok (.iconst 1, 1) := dk_4 (dk_at dksX3_stones_0 1 rfl rfl)
theorem dX3_stones_2 : decode cX3_stones 2 = .ok (.sipush 200, 3) := dk_17 0 200 (dk_at dksX3_stones_0 2 rfl rfl)
theorem dX3_stones_5 : decode cX3_stones 5 = .ok (.invokestatic 81, 3) := dk_184 0 81 (dk_at dksX3_stones_0 5 rfl rfl)
theorem dX3_stones_8 : decode cX3_stones 8 = .ok (.ifCond .ne 6, 3) := dk_154 0 6 (dk_at dksX3_stones_0 8 rfl rfl)
theorem dX3_stones_11 : decode cX3_stones 11 = .ok (.bipush (-2), 2) := dk_16 254 (dk_at dksX3_stones_0 11 rfl rfl)
theorem dX3_stones_13 : decode cX3_stones 13 = .ok (.ireturn, 1) := dk_172 (dk_at dksX3_stones_0 13 rfl rfl)
theorem dX3_stones_14 : decode cX3_stones 14 = .ok (.aload_n 0, 1) := dk_42 (dk_at dksX3_stones_0 14 rfl rfl)
theorem dX3_stones_15 : decode cX3_stones 15 = .ok (.invokevirtual 85, 3) := dk_182 0 85 (dk_at dksX3_stones_0 15 rfl rfl)
theorem dX3_stones_18 : decode cX3_stones 18 = .ok (.aload_n 0, 1) := dk_42 (dk_at dksX3_stones_0 18 rfl rfl)
theorem dX3_stones_19 : decode cX3_stones 19 = .ok (.getfield 9, 3) := dk_180 0 9 (dk_at dksX3_stones_0 19 rfl rfl)
theorem dX3_stones_22 : decode cX3_stones 22 = .ok (.iconst 1, 1) := dk_4 (dk_at dksX3_stones_0 22 rfl rfl)
theorem dX3_stones_23 : decode cX3_stones 23 = .ok (.sipush 999, 3) := dk_17 3 231 (dk_at dksX3_stones_1 0 rfl rfl)
theorem dX3_stones_26 : decode cX3_stones 26 = .ok (.aload_n 0, 1) := dk_42 (dk_at dksX3_stones_1 3 rfl rfl)
theorem dX3_stones_27 : decode cX3_stones 27 = .ok (.getfield 9, 3) := dk_180 0 9 (dk_at dksX3_stones_1 4 rfl rfl)
theorem dX3_stones_30 : decode cX3_stones 30 = .ok (.iconst 1, 1) := dk_4 (dk_at dksX3_stones_1 7 rfl rfl)
theorem dX3_stones_31 : decode cX3_stones 31 = .ok (.iaload, 1) := dk_46 (dk_at dksX3_stones_1 8 rfl rfl)
theorem dX3_stones_32 : decode cX3_stones 32 = .ok (.iload_n 1, 1) := dk_27 (dk_at dksX3_stones_1 9 rfl rfl)
theorem dX3_stones_33 : decode cX3_stones 33 = .ok (.iadd, 1) := dk_96 (dk_at dksX3_stones_1 10 rfl rfl)
theorem dX3_stones_34 : decode cX3_stones 34 = .ok (.invokestatic 88, 3) := dk_184 0 88 (dk_at dksX3_stones_1 11 rfl rfl)
theorem dX3_stones_37 : decode cX3_stones 37 = .ok (.iastore, 1) := dk_79 (dk_at dksX3_stones_1 14 rfl rfl)
theorem dX3_stones_38 : decode cX3_stones 38 = .ok (.aload_n 0, 1) := dk_42 (dk_at dksX3_stones_1 15 rfl rfl)
theorem dX3_stones_39 : decode cX3_stones 39 = .ok (.aload_n 0, 1) := dk_42 (dk_at dksX3_stones_1 16 rfl rfl)
theorem dX3_stones_40 : decode cX3_stones 40 = .ok (.getfield 9, 3) := dk_180 0 9 (dk_at dksX3_stones_1 17 rfl rfl)
theorem dX3_stones_43 : decode cX3_stones 43 = .ok (.iconst 1, 1) := dk_4 (dk_at dksX3_stones_1 20 rfl rfl)
theorem dX3_stones_44 : decode cX3_stones 44 = .ok (.iaload, 1) := dk_46 (dk_at dksX3_stones_1 21 rfl rfl)
theorem dX3_stones_45 : decode cX3_stones 45 = .ok (.invokevirtual 91, 3) := dk_182 0 91 (dk_at dksX3_stones_2 0 rfl rfl)
theorem dX3_stones_48 : decode cX3_stones 48 = .ok (.ireturn, 1) := dk_172 (dk_at dksX3_stones_2 3 rfl rfl)
abbrev cX3_isIn : ByteArray := prog_33_method_2_code
def yX3_isIn : MethodName := ⟨RX3, "isIn", "(III)Z"⟩
def dkwX3_isIn_0 : List UInt8 := [26, 27, 161, 0, 12, 26, 28, 163, 0, 7, 4, 167, 0, 4, 3, 172]
abbrev dktX3_isIn_0 : List UInt8 := dkwX3_isIn_0 ++ []
theorem dksX3_isIn_0 : cX3_isIn.data.toList.drop 0 = dktX3_isIn_0 := by decide +kernel
theorem dX3_isIn_0 : decode cX3_isIn 0 = .ok (.iload_n 0, 1) := dk_26 (dk_at dksX3_isIn_0 0 rfl rfl)
theorem dX3_isIn_1 : decode cX3_isIn 1 = .ok (.iload_n 1, 1) := dk_27 (dk_at dksX3_isIn_0 1 rfl rfl)
theorem dX3_isIn_2 : decode cX3_isIn 2 = .ok (.if_icmp .lt 12, 3) := dk_161 0 12 (dk_at dksX3_isIn_0 2 rfl rfl)
theorem dX3_isIn_5 : decode cX3_isIn 5 = .ok (.iload_n 0, 1) := dk_26 (dk_at dksX3_isIn_0 5 rfl rfl)
theorem dX3_isIn_6 : decode cX3_isIn 6 = .ok (.iload_n 2, 1) := dk_28 (dk_at dksX3_isIn_0 6 rfl rfl)
theorem dX3_isIn_7 : decode cX3_isIn 7 = .ok (.if_icmp .gt 7, 3) := dk_163 0 7 (dk_at dksX3_isIn_0 7 rfl rfl)
theorem dX3_isIn_10 : decode cX3_isIn 10 = .ok (.iconst 1, 1) := dk_4 (dk_at dksX3_isIn_0 10 rfl rfl)
theorem dX3_isIn_11 : decode cX3_isIn 11 = .ok (.goto 4, 3) := dk_167 0 4 (dk_at dksX3_isIn_0 11 rfl rfl)
theorem dX3_isIn_14 : decode cX3_isIn 14 = .ok (.iconst 0, 1) := dk_3 (dk_at dksX3_isIn_0 14 rfl rfl)
theorem dX3_isIn_15 : decode cX3_isIn 15 = .ok (.ireturn, 1) := dk_172 (dk_at dksX3_isIn_0 15 rfl rfl)
abbrev cX3_keeps : ByteArray := prog_33_method_6_code
def yX3_keeps : MethodName := ⟨RX3, "keeps", "()V"⟩
def dkwX3_keeps_0 : List UInt8 := [42, 180, 0, 9, 3, 42, 180, 0, 13, 3, 17, 8, 140, 184, 0, 63, 177]
abbrev dktX3_keeps_0 : List UInt8 := dkwX3_keeps_0 ++ []
theorem dksX3_keeps_0 : cX3_keeps.data.toList.drop 0 = dktX3_keeps_0 := by decide +kernel
theorem dX3_keeps_0 : decode cX3_keeps 0 = .ok (.aload_n 0, 1) := dk_42 (dk_at dksX3_keeps_0 0 rfl rfl)
theorem dX3_keeps_1 : decode cX3_keeps 1 = .ok (.getfield 9, 3) := dk_180 0 9 (dk_at dksX3_keeps_0 1 rfl rfl)
theorem dX3_keeps_4 : decode cX3_keeps 4 = .ok (.iconst 0, 1) := dk_3 (dk_at dksX3_keeps_0 4 rfl rfl)
theorem dX3_keeps_5 : decode cX3_keeps 5 = .ok (.aload_n 0, 1) := dk_42 (dk_at dksX3_keeps_0 5 rfl rfl)
theorem dX3_keeps_6 : decode cX3_keeps 6 = .ok (.getfield 13, 3) := dk_180 0 13 (dk_at dksX3_keeps_0 6 rfl rfl)
theorem dX3_keeps_9 : decode cX3_keeps 9 = .ok (.iconst 0, 1) := dk_3 (dk_at dksX3_keeps_0 9 rfl rfl)
theorem dX3_keeps_10 : decode cX3_keeps 10 = .ok (.sipush 2188, 3) := dk_17 8 140 (dk_at dksX3_keeps_0 10 rfl rfl)
theorem dX3_keeps_13 : decode cX3_keeps 13 = .ok (.invokestatic 63, 3) := dk_184 0 63 (dk_at dksX3_keeps_0 13 rfl rfl)
theorem dX3_keeps_16 : decode cX3_keeps 16 = .ok (.return_, 1) := dk_177 (dk_at dksX3_keeps_0 16 rfl rfl)
abbrev cX3_copies : ByteArray := prog_33_method_5_code
def yX3_copies : MethodName := ⟨RX3, "copies", "([II[III)V"⟩
def dkwX3_copies_1 : List UInt8 := [132, 5, 1, 167, 255, 234, 177]
abbrev dktX3_copies_1 : List UInt8 := dkwX3_copies_1 ++ []
def dkwX3_copies_0 : List UInt8 := [3, 54, 5, 21, 5, 21, 4, 162, 0, 21, 44, 29, 21, 5, 96, 42, 27, 21, 5, 96, 46, 79]
abbrev dktX3_copies_0 : List UInt8 := dkwX3_copies_0 ++ dktX3_copies_1
theorem dksX3_copies_0 : cX3_copies.data.toList.drop 0 = dktX3_copies_0 := by decide +kernel
theorem dksX3_copies_1 : cX3_copies.data.toList.drop 22 = dktX3_copies_1 := dk_seg dksX3_copies_0 22 rfl rfl
theorem dX3_copies_0 : decode cX3_copies 0 = .ok (.iconst 0, 1) := dk_3 (dk_at dksX3_copies_0 0 rfl rfl)
theorem dX3_copies_1 : decode cX3_copies 1 = .ok (.istore 5, 2) := dk_54 5 (dk_at dksX3_copies_0 1 rfl rfl)
theorem dX3_copies_3 : decode cX3_copies 3 = .ok (.iload 5, 2) := dk_21 5 (dk_at dksX3_copies_0 3 rfl rfl)
theorem dX3_copies_5 : decode cX3_copies 5 = .ok (.iload 4, 2) := dk_21 4 (dk_at dksX3_copies_0 5 rfl rfl)
theorem dX3_copies_7 : decode cX3_copies 7 = .ok (.if_icmp .ge 21, 3) := dk_162 0 21 (dk_at dksX3_copies_0 7 rfl rfl)
theorem dX3_copies_10 : decode cX3_copies 10 = .ok (.aload_n 2, 1) := dk_44 (dk_at dksX3_copies_0 10 rfl rfl)
theorem dX3_copies_11 : decode cX3_copies 11 = .ok (.iload_n 3, 1) := dk_29 (dk_at dksX3_copies_0 11 rfl rfl)
theorem dX3_copies_12 : decode cX3_copies 12 = .ok (.iload 5, 2) := dk_21 5 (dk_at dksX3_copies_0 12 rfl rfl)
theorem dX3_copies_14 : decode cX3_copies 14 = .ok (.iadd, 1) := dk_96 (dk_at dksX3_copies_0 14 rfl rfl)
theorem dX3_copies_15 : decode cX3_copies 15 = .ok (.aload_n 0, 1) := dk_42 (dk_at dksX3_copies_0 15 rfl rfl)
theorem dX3_copies_16 : decode cX3_copies 16 = .ok (.iload_n 1, 1) := dk_27 (dk_at dksX3_copies_0 16 rfl rfl)
theorem dX3_copies_17 : decode cX3_copies 17 = .ok (.iload 5, 2) := dk_21 5 (dk_at dksX3_copies_0 17 rfl rfl)
theorem dX3_copies_19 : decode cX3_copies 19 = .ok (.iadd, 1) := dk_96 (dk_at dksX3_copies_0 19 rfl rfl)
theorem dX3_copies_20 : decode cX3_copies 20 = .ok (.iaload, 1) := dk_46 (dk_at dksX3_copies_0 20 rfl rfl)
theorem dX3_copies_21 : decode cX3_copies 21 = .ok (.iastore, 1) := dk_79 (dk_at dksX3_copies_0 21 rfl rfl)
theorem dX3_copies_22 : decode cX3_copies 22 = .ok (.iinc 5 1, 3) := dk_132 5 1 (dk_at dksX3_copies_1 0 rfl rfl)
theorem dX3_copies_25 : decode cX3_copies 25 = .ok (.goto (-22), 3) := dk_167 255 234 (dk_at dksX3_copies_1 3 rfl rfl)
theorem dX3_copies_28 : decode cX3_copies 28 = .ok (.return_, 1) := dk_177 (dk_at dksX3_copies_1 6 rfl rfl)
abbrev cX3_lesser : ByteArray := prog_33_method_3_code
def yX3_lesser : MethodName := ⟨RX3, "lesser", "(II)I"⟩
def dkwX3_lesser_0 : List UInt8 := [26, 27, 162, 0, 7, 26, 167, 0, 4, 27, 172]
abbrev dktX3_lesser_0 : List UInt8 := dkwX3_lesser_0 ++ []
theorem dksX3_lesser_0 : cX3_lesser.data.toList.drop 0 = dktX3_lesser_0 := by decide +kernel
theorem dX3_lesser_0 : decode cX3_lesser 0 = .ok (.iload_n 0, 1) := dk_26 (dk_at dksX3_lesser_0 0 rfl rfl)
theorem dX3_lesser_1 : decode cX3_lesser 1 = .ok (.iload_n 1, 1) := dk_27 (dk_at dksX3_lesser_0 1 rfl rfl)
theorem dX3_lesser_2 : decode cX3_lesser 2 = .ok (.if_icmp .ge 7, 3) := dk_162 0 7 (dk_at dksX3_lesser_0 2 rfl rfl)
theorem dX3_lesser_5 : decode cX3_lesser 5 = .ok (.iload_n 0, 1) := dk_26 (dk_at dksX3_lesser_0 5 rfl rfl)
theorem dX3_lesser_6 : decode cX3_lesser 6 = .ok (.goto 4, 3) := dk_167 0 4 (dk_at dksX3_lesser_0 6 rfl rfl)
theorem dX3_lesser_9 : decode cX3_lesser 9 = .ok (.iload_n 1, 1) := dk_27 (dk_at dksX3_lesser_0 9 rfl rfl)
theorem dX3_lesser_10 : decode cX3_lesser 10 = .ok (.ireturn, 1) := dk_172 (dk_at dksX3_lesser_0 10 rfl rfl)
abbrev cX3_ends : ByteArray := prog_33_method_9_code
def yX3_ends : MethodName := ⟨RX3, "ends", "(I)I"⟩
def dkwX3_ends_0 : List UInt8 := [27, 184, 0, 70, 154, 0, 7, 42, 182, 0, 74, 27, 172]
abbrev dktX3_ends_0 : List UInt8 := dkwX3_ends_0 ++ []
theorem dksX3_ends_0 : cX3_ends.data.toList.drop 0 = dktX3_ends_0 := by decide +kernel
theorem dX3_ends_0 : decode cX3_ends 0 = .ok (.iload_n 1, 1) := dk_27 (dk_at dksX3_ends_0 0 rfl rfl)
theorem dX3_ends_1 : decode cX3_ends 1 = .ok (.invokestatic 70, 3) := dk_184 0 70 (dk_at dksX3_ends_0 1 rfl rfl)
theorem dX3_ends_4 : decode cX3_ends 4 = .ok (.ifCond .ne 7, 3) := dk_154 0 7 (dk_at dksX3_ends_0 4 rfl rfl)
theorem dX3_ends_7 : decode cX3_ends 7 = .ok (.aload_n 0, 1) := dk_42 (dk_at dksX3_ends_0 7 rfl rfl)
theorem dX3_ends_8 : decode cX3_ends 8 = .ok (.invokevirtual 74, 3) := dk_182 0 74 (dk_at dksX3_ends_0 8 rfl rfl)
theorem dX3_ends_11 : decode cX3_ends 11 = .ok (.iload_n 1, 1) := dk_27 (dk_at dksX3_ends_0 11 rfl rfl)
theorem dX3_ends_12 : decode cX3_ends 12 = .ok (.ireturn, 1) := dk_172 (dk_at dksX3_ends_0 12 rfl rfl)
abbrev cX3_isError : ByteArray := prog_33_method_8_code
def yX3_isError : MethodName := ⟨RX3, "isError", "(I)Z"⟩
def dkwX3_isError_0 : List UInt8 := [26, 156, 0, 13, 26, 16, 250, 159, 0, 7, 4, 167, 0, 4, 3, 172]
abbrev dktX3_isError_0 : List UInt8 := dkwX3_isError_0 ++ []
theorem dksX3_isError_0 : cX3_isError.data.toList.drop 0 = dktX3_isError_0 := by decide +kernel
theorem dX3_isError_0 : decode cX3_isError 0 = .ok (.iload_n 0, 1) := dk_26 (dk_at dksX3_isError_0 0 rfl rfl)
theorem dX3_isError_1 : decode cX3_isError 1 = .ok (.ifCond .ge 13, 3) := dk_156 0 13 (dk_at dksX3_isError_0 1 rfl rfl)
theorem dX3_isError_4 : decode cX3_isError 4 = .ok (.iload_n 0, 1) := dk_26 (dk_at dksX3_isError_0 4 rfl rfl)
theorem dX3_isError_5 : decode cX3_isError 5 = .ok (.bipush (-6), 2) := dk_16 250 (dk_at dksX3_isError_0 5 rfl rfl)
theorem dX3_isError_7 : decode cX3_isError 7 = .ok (.if_icmp .eq 7, 3) := dk_159 0 7 (dk_at dksX3_isError_0 7 rfl rfl)
theorem dX3_isError_10 : decode cX3_isError 10 = .ok (.iconst 1, 1) := dk_4 (dk_at dksX3_isError_0 10 rfl rfl)
theorem dX3_isError_11 : decode cX3_isError 11 = .ok (.goto 4, 3) := dk_167 0 4 (dk_at dksX3_isError_0 11 rfl rfl)
theorem dX3_isError_14 : decode cX3_isError 14 = .ok (.iconst 0, 1) := dk_3 (dk_at dksX3_isError_0 14 rfl rfl)
theorem dX3_isError_15 : decode cX3_isError 15 = .ok (.ireturn, 1) := dk_172 (dk_at dksX3_isError_0 15 rfl rfl)
abbrev cX3_changed : ByteArray := prog_33_method_7_code
def yX3_changed : MethodName := ⟨RX3, "changed", "()V"⟩
def dkwX3_changed_4 : List UInt8 := [177]
abbrev dktX3_changed_4 : List UInt8 := dkwX3_changed_4 ++ []
def dkwX3_changed_3 : List UInt8 := [17, 8, 140, 42, 180, 0, 67, 104, 17, 8, 140, 184, 0, 63, 42, 89, 180, 0, 67, 4, 96, 181, 0, 67]
abbrev dktX3_changed_3 : List UInt8 := dkwX3_changed_3 ++ dktX3_changed_4
def dkwX3_changed_2 : List UInt8 := [167, 255, 221, 42, 89, 180, 0, 67, 4, 100, 181, 0, 67, 42, 180, 0, 13, 3, 42, 180, 0, 19]
abbrev dktX3_changed_2 : List UInt8 := dkwX3_changed_2 ++ dktX3_changed_3
def dkwX3_changed_1 : List UInt8 := [27, 104, 42, 180, 0, 19, 17, 8, 140, 27, 4, 100, 104, 17, 8, 140, 184, 0, 63, 132, 1, 1]
abbrev dktX3_changed_1 : List UInt8 := dkwX3_changed_1 ++ dktX3_changed_2
def dkwX3_changed_0 : List UInt8 := [42, 180, 0, 67, 16, 8, 160, 0, 53, 4, 60, 27, 16, 8, 162, 0, 35, 42, 180, 0, 19, 17, 8, 140]
abbrev dktX3_changed_0 : List UInt8 := dkwX3_changed_0 ++ dktX3_changed_1
theorem dksX3_changed_0 : cX3_changed.data.toList.drop 0 = dktX3_changed_0 := by decide +kernel
theorem dksX3_changed_1 : cX3_changed.data.toList.drop 24 = dktX3_changed_1 := dk_seg dksX3_changed_0 24 rfl rfl
theorem dksX3_changed_2 : cX3_changed.data.toList.drop 46 = dktX3_changed_2 := dk_seg dksX3_changed_1 22 rfl rfl
theorem dksX3_changed_3 : cX3_changed.data.toList.drop 68 = dktX3_changed_3 := dk_seg dksX3_changed_2 22 rfl rfl
theorem dksX3_changed_4 : cX3_changed.data.toList.drop 92 = dktX3_changed_4 := dk_seg dksX3_changed_3 24 rfl rfl
theorem dX3_changed_0 : decode cX3_changed 0 = .ok (.aload_n 0, 1) := dk_42 (dk_at dksX3_changed_0 0 rfl rfl)
theorem dX3_changed_1 : decode cX3_changed 1 = .ok (.getfield 67, 3) := dk_180 0 67 (dk_at dksX3_changed_0 1 rfl rfl)
theorem dX3_changed_4 : decode cX3_changed 4 = .ok (.bipush 8, 2) := dk_16 8 (dk_at dksX3_changed_0 4 rfl rfl)
theorem dX3_changed_6 : decode cX3_changed 6 = .ok (.if_icmp .ne 53, 3) := dk_160 0 53 (dk_at dksX3_changed_0 6 rfl rfl)
theorem dX3_changed_9 : decode cX3_changed 9 = .ok (.iconst 1, 1) := dk_4 (dk_at dksX3_changed_0 9 rfl rfl)
theorem dX3_changed_10 : decode cX3_changed 10 = .ok (.istore_n 1, 1) := dk_60 (dk_at dksX3_changed_0 10 rfl rfl)
theorem dX3_changed_11 : decode cX3_changed 11 = .ok (.iload_n 1, 1) := dk_27 (dk_at dksX3_changed_0 11 rfl rfl)
theorem dX3_changed_12 : decode cX3_changed 12 = .ok (.bipush 8, 2) := dk_16 8 (dk_at dksX3_changed_0 12 rfl rfl)
theorem dX3_changed_14 : decode cX3_changed 14 = .ok (.if_icmp .ge 35, 3) := dk_162 0 35 (dk_at dksX3_changed_0 14 rfl rfl)
theorem dX3_changed_17 : decode cX3_changed 17 = .ok (.aload_n 0, 1) := dk_42 (dk_at dksX3_changed_0 17 rfl rfl)
theorem dX3_changed_18 : decode cX3_changed 18 = .ok (.getfield 19, 3) := dk_180 0 19 (dk_at dksX3_changed_0 18 rfl rfl)
theorem dX3_changed_21 : decode cX3_changed 21 = .ok (.sipush 2188, 3) := dk_17 8 140 (dk_at dksX3_changed_0 21 rfl rfl)
theorem dX3_changed_24 : decode cX3_changed 24 = .ok (.iload_n 1, 1) := dk_27 (dk_at dksX3_changed_1 0 rfl rfl)
theorem dX3_changed_25 : decode cX3_changed 25 = .ok (.imul, 1) := dk_104 (dk_at dksX3_changed_1 1 rfl rfl)
theorem dX3_changed_26 : decode cX3_changed 26 = .ok (.aload_n 0, 1) := dk_42 (dk_at dksX3_changed_1 2 rfl rfl)
theorem dX3_changed_27 : decode cX3_changed 27 = .ok (.getfield 19, 3) := dk_180 0 19 (dk_at dksX3_changed_1 3 rfl rfl)
theorem dX3_changed_30 : decode cX3_changed 30 = .ok (.sipush 2188, 3) := dk_17 8 140 (dk_at dksX3_changed_1 6 rfl rfl)
theorem dX3_changed_33 : decode cX3_changed 33 = .ok (.iload_n 1, 1) := dk_27 (dk_at dksX3_changed_1 9 rfl rfl)
theorem dX3_changed_34 : decode cX3_changed 34 = .ok (.iconst 1, 1) := dk_4 (dk_at dksX3_changed_1 10 rfl rfl)
theorem dX3_changed_35 : decode cX3_changed 35 = .ok (.isub, 1) := dk_100 (dk_at dksX3_changed_1 11 rfl rfl)
theorem dX3_changed_36 : decode cX3_changed 36 = .ok (.imul, 1) := dk_104 (dk_at dksX3_changed_1 12 rfl rfl)
theorem dX3_changed_37 : decode cX3_changed 37 = .ok (.sipush 2188, 3) := dk_17 8 140 (dk_at dksX3_changed_1 13 rfl rfl)
theorem dX3_changed_40 : decode cX3_changed 40 = .ok (.invokestatic 63, 3) := dk_184 0 63 (dk_at dksX3_changed_1 16 rfl rfl)
theorem dX3_changed_43 : decode cX3_changed 43 = .ok (.iinc 1 1, 3) := dk_132 1 1 (dk_at dksX3_changed_1 19 rfl rfl)
theorem dX3_changed_46 : decode cX3_changed 46 = .ok (.goto (-35), 3) := dk_167 255 221 (dk_at dksX3_changed_2 0 rfl rfl)
theorem dX3_changed_49 : decode cX3_changed 49 = .ok (.aload_n 0, 1) := dk_42 (dk_at dksX3_changed_2 3 rfl rfl)
theorem dX3_changed_50 : decode cX3_changed 50 = .ok (.dup, 1) := dk_89 (dk_at dksX3_changed_2 4 rfl rfl)
theorem dX3_changed_51 : decode cX3_changed 51 = .ok (.getfield 67, 3) := dk_180 0 67 (dk_at dksX3_changed_2 5 rfl rfl)
theorem dX3_changed_54 : decode cX3_changed 54 = .ok (.iconst 1, 1) := dk_4 (dk_at dksX3_changed_2 8 rfl rfl)
theorem dX3_changed_55 : decode cX3_changed 55 = .ok (.isub, 1) := dk_100 (dk_at dksX3_changed_2 9 rfl rfl)
theorem dX3_changed_56 : decode cX3_changed 56 = .ok (.putfield 67, 3) := dk_181 0 67 (dk_at dksX3_changed_2 10 rfl rfl)
theorem dX3_changed_59 : decode cX3_changed 59 = .ok (.aload_n 0, 1) := dk_42 (dk_at dksX3_changed_2 13 rfl rfl)
theorem dX3_changed_60 : decode cX3_changed 60 = .ok (.getfield 13, 3) := dk_180 0 13 (dk_at dksX3_changed_2 14 rfl rfl)
theorem dX3_changed_63 : decode cX3_changed 63 = .ok (.iconst 0, 1) := dk_3 (dk_at dksX3_changed_2 17 rfl rfl)
theorem dX3_changed_64 : decode cX3_changed 64 = .ok (.aload_n 0, 1) := dk_42 (dk_at dksX3_changed_2 18 rfl rfl)
theorem dX3_changed_65 : decode cX3_changed 65 = .ok (.getfield 19, 3) := dk_180 0 19 (dk_at dksX3_changed_2 19 rfl rfl)
theorem dX3_changed_68 : decode cX3_changed 68 = .ok (.sipush 2188, 3) := dk_17 8 140 (dk_at dksX3_changed_3 0 rfl rfl)
theorem dX3_changed_71 : decode cX3_changed 71 = .ok (.aload_n 0, 1) := dk_42 (dk_at dksX3_changed_3 3 rfl rfl)
theorem dX3_changed_72 : decode cX3_changed 72 = .ok (.getfield 67, 3) := dk_180 0 67 (dk_at dksX3_changed_3 4 rfl rfl)
theorem dX3_changed_75 : decode cX3_changed 75 = .ok (.imul, 1) := dk_104 (dk_at dksX3_changed_3 7 rfl rfl)
theorem dX3_changed_76 : decode cX3_changed 76 = .ok (.sipush 2188, 3) := dk_17 8 140 (dk_at dksX3_changed_3 8 rfl rfl)
theorem dX3_changed_79 : decode cX3_changed 79 = .ok (.invokestatic 63, 3) := dk_184 0 63 (dk_at dksX3_changed_3 11 rfl rfl)
theorem dX3_changed_82 : decode cX3_changed 82 = .ok (.aload_n 0, 1) := dk_42 (dk_at dksX3_changed_3 14 rfl rfl)
theorem dX3_changed_83 : decode cX3_changed 83 = .ok (.dup, 1) := dk_89 (dk_at dksX3_changed_3 15 rfl rfl)
theorem dX3_changed_84 : decode cX3_changed 84 = .ok (.getfield 67, 3) := dk_180 0 67 (dk_at dksX3_changed_3 16 rfl rfl)
theorem dX3_changed_87 : decode cX3_changed 87 = .ok (.iconst 1, 1) := dk_4 (dk_at dksX3_changed_3 19 rfl rfl)
theorem dX3_changed_88 : decode cX3_changed 88 = .ok (.iadd, 1) := dk_96 (dk_at dksX3_changed_3 20 rfl rfl)
theorem dX3_changed_89 : decode cX3_changed 89 = .ok (.putfield 67, 3) := dk_181 0 67 (dk_at dksX3_changed_3 21 rfl rfl)
theorem dX3_changed_92 : decode cX3_changed 92 = .ok (.return_, 1) := dk_177 (dk_at dksX3_changed_4 0 rfl rfl)
abbrev cX3_carver : ByteArray := prog_33_method_18_code
def yX3_carver : MethodName := ⟨RX3, "carver", "(I)I"⟩
def dkwX3_carver_2 : List UInt8 := [5, 184, 0, 99, 16, 250, 79, 42, 28, 182, 0, 91, 172]
abbrev dktX3_carver_2 : List UInt8 := dkwX3_carver_2 ++ []
def dkwX3_carver_1 : List UInt8 := [182, 0, 95, 61, 28, 155, 0, 26, 42, 180, 0, 9, 28, 3, 184, 0, 99, 27, 79, 42, 180, 0, 9, 28]
abbrev dktX3_carver_1 : List UInt8 := dkwX3_carver_1 ++ dktX3_carver_2
def dkwX3_carver_0 : List UInt8 := [27, 4, 16, 9, 184, 0, 81, 154, 0, 6, 16, 254, 172, 42, 182, 0, 85, 42, 16, 9, 7, 16, 16, 8]
abbrev dktX3_carver_0 : List UInt8 := dkwX3_carver_0 ++ dktX3_carver_1
theorem dksX3_carver_0 : cX3_carver.data.toList.drop 0 = dktX3_carver_0 := by decide +kernel
theorem dksX3_carver_1 : cX3_carver.data.toList.drop 24 = dktX3_carver_1 := dk_seg dksX3_carver_0 24 rfl rfl
theorem dksX3_carver_2 : cX3_carver.data.toList.drop 48 = dktX3_carver_2 := dk_seg dksX3_carver_1 24 rfl rfl
theorem dX3_carver_0 : decode cX3_carver 0 = .ok (.iload_n 1, 1) := dk_27 (dk_at dksX3_carver_0 0 rfl rfl)
theorem dX3_carver_1 : decode cX3_carver 1 = .ok (.iconst 1, 1) := dk_4 (dk_at dksX3_carver_0 1 rfl rfl)
theorem dX3_carver_2 : decode cX3_carver 2 = .ok (.bipush 9, 2) := dk_16 9 (dk_at dksX3_carver_0 2 rfl rfl)
theorem dX3_carver_4 : decode cX3_carver 4 = .ok (.invokestatic 81, 3) := dk_184 0 81 (dk_at dksX3_carver_0 4 rfl rfl)
theorem dX3_carver_7 : decode cX3_carver 7 = .ok (.ifCond .ne 6, 3) := dk_154 0 6 (dk_at dksX3_carver_0 7 rfl rfl)
theorem dX3_carver_10 : decode cX3_carver 10 = .ok (.bipush (-2), 2) := dk_16 254 (dk_at dksX3_carver_0 10 rfl rfl)
theorem dX3_carver_12 : decode cX3_carver 12 = .ok (.ireturn, 1) := dk_172 (dk_at dksX3_carver_0 12 rfl rfl)
theorem dX3_carver_13 : decode cX3_carver 13 = .ok (.aload_n 0, 1) := dk_42 (dk_at dksX3_carver_0 13 rfl rfl)
theorem dX3_carver_14 : decode cX3_carver 14 = .ok (.invokevirtual 85, 3) := dk_182 0 85 (dk_at dksX3_carver_0 14 rfl rfl)
theorem dX3_carver_17 : decode cX3_carver 17 = .ok (.aload_n 0, 1) := dk_42 (dk_at dksX3_carver_0 17 rfl rfl)
theorem dX3_carver_18 : decode cX3_carver 18 = .ok (.bipush 9, 2) := dk_16 9 (dk_at dksX3_carver_0 18 rfl rfl)
theorem dX3_carver_20 : decode cX3_carver 20 = .ok (.iconst 4, 1) := dk_7 (dk_at dksX3_carver_0 20 rfl rfl)
theorem dX3_carver_21 : decode cX3_carver 21 = .ok (.bipush 16, 2) := dk_16 16 (dk_at dksX3_carver_0 21 rfl rfl)
theorem dX3_carver_23 : decode cX3_carver 23 = .ok (.iconst 5, 1) := dk_8 (dk_at dksX3_carver_0 23 rfl rfl)
theorem dX3_carver_24 : decode cX3_carver 24 = .ok (.invokevirtual 95, 3) := dk_182 0 95 (dk_at dksX3_carver_1 0 rfl rfl)
theorem dX3_carver_27 : decode cX3_carver 27 = .ok (.istore_n 2, 1) := dk_61 (dk_at dksX3_carver_1 3 rfl rfl)
theorem dX3_carver_28 : decode cX3_carver 28 = .ok (.iload_n 2, 1) := dk_28 (dk_at dksX3_carver_1 4 rfl rfl)
theorem dX3_carver_29 : decode cX3_carver 29 = .ok (.ifCond .lt 26, 3) := dk_155 0 26 (dk_at dksX3_carver_1 5 rfl rfl)
theorem dX3_carver_32 : decode cX3_carver 32 = .ok (.aload_n 0, 1) := dk_42 (dk_at dksX3_carver_1 8 rfl rfl)
theorem dX3_carver_33 : decode cX3_carver 33 = .ok (.getfield 9, 3) := dk_180 0 9 (dk_at dksX3_carver_1 9 rfl rfl)
theorem dX3_carver_36 : decode cX3_carver 36 = .ok (.iload_n 2, 1) := dk_28 (dk_at dksX3_carver_1 12 rfl rfl)
theorem dX3_carver_37 : decode cX3_carver 37 = .ok (.iconst 0, 1) := dk_3 (dk_at dksX3_carver_1 13 rfl rfl)
theorem dX3_carver_38 : decode cX3_carver 38 = .ok (.invokestatic 99, 3) := dk_184 0 99 (dk_at dksX3_carver_1 14 rfl rfl)
theorem dX3_carver_41 : decode cX3_carver 41 = .ok (.iload_n 1, 1) := dk_27 (dk_at dksX3_carver_1 17 rfl rfl)
theorem dX3_carver_42 : decode cX3_carver 42 = .ok (.iastore, 1) := dk_79 (dk_at dksX3_carver_1 18 rfl rfl)
theorem dX3_carver_43 : decode cX3_carver 43 = .ok (.aload_n 0, 1) := dk_42 (dk_at dksX3_carver_1 19 rfl rfl)
theorem dX3_carver_44 : decode cX3_carver 44 = .ok (.getfield 9, 3) := dk_180 0 9 (dk_at dksX3_carver_1 20 rfl rfl)
theorem dX3_carver_47 : decode cX3_carver 47 = .ok (.iload_n 2, 1) := dk_28 (dk_at dksX3_carver_1 23 rfl rfl)
theorem dX3_carver_48 : decode cX3_carver 48 = .ok (.iconst 2, 1) := dk_5 (dk_at dksX3_carver_2 0 rfl rfl)
theorem dX3_carver_49 : decode cX3_carver 49 = .ok (.invokestatic 99, 3) := dk_184 0 99 (dk_at dksX3_carver_2 1 rfl rfl)
theorem dX3_carver_52 : decode cX3_carver 52 = .ok (.bipush (-6), 2) := dk_16 250 (dk_at dksX3_carver_2 4 rfl rfl)
theorem dX3_carver_54 : decode cX3_carver 54 = .ok (.iastore, 1) := dk_79 (dk_at dksX3_carver_2 6 rfl rfl)
theorem dX3_carver_55 : decode cX3_carver 55 = .ok (.aload_n 0, 1) := dk_42 (dk_at dksX3_carver_2 7 rfl rfl)
theorem dX3_carver_56 : decode cX3_carver 56 = .ok (.iload_n 2, 1) := dk_28 (dk_at dksX3_carver_2 8 rfl rfl)
theorem dX3_carver_57 : decode cX3_carver 57 = .ok (.invokevirtual 91, 3) := dk_182 0 91 (dk_at dksX3_carver_2 9 rfl rfl)
theorem dX3_carver_60 : decode cX3_carver 60 = .ok (.ireturn, 1) := dk_172 (dk_at dksX3_carver_2 12 rfl rfl)
abbrev cX3_adds : ByteArray := prog_33_method_11_code
def yX3_adds : MethodName := ⟨RX3, "adds", "(IIII)I"⟩
def dkwX3_adds_2 : List UInt8 := [21, 6, 96, 3, 79, 132, 6, 1, 167, 255, 230, 42, 180, 0, 9, 27, 92, 46, 4, 96, 79, 21, 5, 172]
abbrev dktX3_adds_2 : List UInt8 := dkwX3_adds_2 ++ []
def dkwX3_adds_1 : List UInt8 := [54, 5, 3, 54, 6, 21, 6, 21, 4, 162, 0, 25, 42, 180, 0, 9, 29, 21, 4, 21, 5, 104, 96]
abbrev dktX3_adds_1 : List UInt8 := dkwX3_adds_1 ++ dktX3_adds_2
def dkwX3_adds_0 : List UInt8 := [42, 180, 0, 9, 27, 46, 28, 160, 0, 10, 42, 4, 28, 182, 0, 77, 172, 42, 180, 0, 9, 27, 46]
abbrev dktX3_adds_0 : List UInt8 := dkwX3_adds_0 ++ dktX3_adds_1
theorem dksX3_adds_0 : cX3_adds.data.toList.drop 0 = dktX3_adds_0 := by decide +kernel
theorem dksX3_adds_1 : cX3_adds.data.toList.drop 23 = dktX3_adds_1 := dk_seg dksX3_adds_0 23 rfl rfl
theorem dksX3_adds_2 : cX3_adds.data.toList.drop 46 = dktX3_adds_2 := dk_seg dksX3_adds_1 23 rfl rfl
theorem dX3_adds_0 : decode cX3_adds 0 = .ok (.aload_n 0, 1) := dk_42 (dk_at dksX3_adds_0 0 rfl rfl)
theorem dX3_adds_1 : decode cX3_adds 1 = .ok (.getfield 9, 3) := dk_180 0 9 (dk_at dksX3_adds_0 1 rfl rfl)
theorem dX3_adds_4 : decode cX3_adds 4 = .ok (.iload_n 1, 1) := dk_27 (dk_at dksX3_adds_0 4 rfl rfl)
theorem dX3_adds_5 : decode cX3_adds 5 = .ok (.iaload, 1) := dk_46 (dk_at dksX3_adds_0 5 rfl rfl)
theorem dX3_adds_6 : decode cX3_adds 6 = .ok (.iload_n 2, 1) := dk_28 (dk_at dksX3_adds_0 6 rfl rfl)
theorem dX3_adds_7 : decode cX3_adds 7 = .ok (.if_icmp .ne 10, 3) := dk_160 0 10 (dk_at dksX3_adds_0 7 rfl rfl)
theorem dX3_adds_10 : decode cX3_adds 10 = .ok (.aload_n 0, 1) := dk_42 (dk_at dksX3_adds_0 10 rfl rfl)
theorem dX3_adds_11 : decode cX3_adds 11 = .ok (.iconst 1, 1) := dk_4 (dk_at dksX3_adds_0 11 rfl rfl)
theorem dX3_adds_12 : decode cX3_adds 12 = .ok (.iload_n 2, 1) := dk_28 (dk_at dksX3_adds_0 12 rfl rfl)
theorem dX3_adds_13 : decode cX3_adds 13 = .ok (.invokevirtual 77, 3) := dk_182 0 77 (dk_at dksX3_adds_0 13 rfl rfl)
theorem dX3_adds_16 : decode cX3_adds 16 = .ok (.ireturn, 1) := dk_172 (dk_at dksX3_adds_0 16 rfl rfl)
theorem dX3_adds_17 : decode cX3_adds 17 = .ok (.aload_n 0, 1) := dk_42 (dk_at dksX3_adds_0 17 rfl rfl)
theorem dX3_adds_18 : decode cX3_adds 18 = .ok (.getfield 9, 3) := dk_180 0 9 (dk_at dksX3_adds_0 18 rfl rfl)
theorem dX3_adds_21 : decode cX3_adds 21 = .ok (.iload_n 1, 1) := dk_27 (dk_at dksX3_adds_0 21 rfl rfl)
theorem dX3_adds_22 : decode cX3_adds 22 = .ok (.iaload, 1) := dk_46 (dk_at dksX3_adds_0 22 rfl rfl)
theorem dX3_adds_23 : decode cX3_adds 23 = .ok (.istore 5, 2) := dk_54 5 (dk_at dksX3_adds_1 0 rfl rfl)
theorem dX3_adds_25 : decode cX3_adds 25 = .ok (.iconst 0, 1) := dk_3 (dk_at dksX3_adds_1 2 rfl rfl)
theorem dX3_adds_26 : decode cX3_adds 26 = .ok (.istore 6, 2) := dk_54 6 (dk_at dksX3_adds_1 3 rfl rfl)
theorem dX3_adds_28 : decode cX3_adds 28 = .ok (.iload 6, 2) := dk_21 6 (dk_at dksX3_adds_1 5 rfl rfl)
theorem dX3_adds_30 : decode cX3_adds 30 = .ok (.iload 4, 2) := dk_21 4 (dk_at dksX3_adds_1 7 rfl rfl)
theorem dX3_adds_32 : decode cX3_adds 32 = .ok (.if_icmp .ge 25, 3) := dk_162 0 25 (dk_at dksX3_adds_1 9 rfl rfl)
theorem dX3_adds_35 : decode cX3_adds 35 = .ok (.aload_n 0, 1) := dk_42 (dk_at dksX3_adds_1 12 rfl rfl)
theorem dX3_adds_36 : decode cX3_adds 36 = .ok (.getfield 9, 3) := dk_180 0 9 (dk_at dksX3_adds_1 13 rfl rfl)
theorem dX3_adds_39 : decode cX3_adds 39 = .ok (.iload_n 3, 1) := dk_29 (dk_at dksX3_adds_1 16 rfl rfl)
theorem dX3_adds_40 : decode cX3_adds 40 = .ok (.iload 4, 2) := dk_21 4 (dk_at dksX3_adds_1 17 rfl rfl)
theorem dX3_adds_42 : decode cX3_adds 42 = .ok (.iload 5, 2) := dk_21 5 (dk_at dksX3_adds_1 19 rfl rfl)
theorem dX3_adds_44 : decode cX3_adds 44 = .ok (.imul, 1) := dk_104 (dk_at dksX3_adds_1 21 rfl rfl)
theorem dX3_adds_45 : decode cX3_adds 45 = .ok (.iadd, 1) := dk_96 (dk_at dksX3_adds_1 22 rfl rfl)
theorem dX3_adds_46 : decode cX3_adds 46 = .ok (.iload 6, 2) := dk_21 6 (dk_at dksX3_adds_2 0 rfl rfl)
theorem dX3_adds_48 : decode cX3_adds 48 = .ok (.iadd, 1) := dk_96 (dk_at dksX3_adds_2 2 rfl rfl)
theorem dX3_adds_49 : decode cX3_adds 49 = .ok (.iconst 0, 1) := dk_3 (dk_at dksX3_adds_2 3 rfl rfl)
theorem dX3_adds_50 : decode cX3_adds 50 = .ok (.iastore, 1) := dk_79 (dk_at dksX3_adds_2 4 rfl rfl)
theorem dX3_adds_51 : decode cX3_adds 51 = .ok (.iinc 6 1, 3) := dk_132 6 1 (dk_at dksX3_adds_2 5 rfl rfl)
theorem dX3_adds_54 : decode cX3_adds 54 = .ok (.goto (-26), 3) := dk_167 255 230 (dk_at dksX3_adds_2 8 rfl rfl)
theorem dX3_adds_57 : decode cX3_adds 57 = .ok (.aload_n 0, 1) := dk_42 (dk_at dksX3_adds_2 11 rfl rfl)
theorem dX3_adds_58 : decode cX3_adds 58 = .ok (.getfield 9, 3) := dk_180 0 9 (dk_at dksX3_adds_2 12 rfl rfl)
theorem dX3_adds_61 : decode cX3_adds 61 = .ok (.iload_n 1, 1) := dk_27 (dk_at dksX3_adds_2 15 rfl rfl)
theorem dX3_adds_62 : decode cX3_adds 62 = .ok (.dup2, 1) := dk_92 (dk_at dksX3_adds_2 16 rfl rfl)
theorem dX3_adds_63 : decode cX3_adds 63 = .ok (.iaload, 1) := dk_46 (dk_at dksX3_adds_2 17 rfl rfl)
theorem dX3_adds_64 : decode cX3_adds 64 = .ok (.iconst 1, 1) := dk_4 (dk_at dksX3_adds_2 18 rfl rfl)
theorem dX3_adds_65 : decode cX3_adds 65 = .ok (.iadd, 1) := dk_96 (dk_at dksX3_adds_2 19 rfl rfl)
theorem dX3_adds_66 : decode cX3_adds 66 = .ok (.iastore, 1) := dk_79 (dk_at dksX3_adds_2 20 rfl rfl)
theorem dX3_adds_67 : decode cX3_adds 67 = .ok (.iload 5, 2) := dk_21 5 (dk_at dksX3_adds_2 21 rfl rfl)
theorem dX3_adds_69 : decode cX3_adds 69 = .ok (.ireturn, 1) := dk_172 (dk_at dksX3_adds_2 23 rfl rfl)
abbrev cX3_refuses : ByteArray := prog_33_method_10_code
def yX3_refuses : MethodName := ⟨RX3, "refuses", "(II)I"⟩
def dkwX3_refuses_1 : List UInt8 := [180, 0, 22, 5, 3, 79, 16, 251, 172]
abbrev dktX3_refuses_1 : List UInt8 := dkwX3_refuses_1 ++ []
def dkwX3_refuses_0 : List UInt8 := [42, 180, 0, 22, 3, 27, 79, 42, 180, 0, 25, 3, 28, 79, 42, 180, 0, 22, 4, 3, 79, 42]
abbrev dktX3_refuses_0 : List UInt8 := dkwX3_refuses_0 ++ dktX3_refuses_1
theorem dksX3_refuses_0 : cX3_refuses.data.toList.drop 0 = dktX3_refuses_0 := by decide +kernel
theorem dksX3_refuses_1 : cX3_refuses.data.toList.drop 22 = dktX3_refuses_1 := dk_seg dksX3_refuses_0 22 rfl rfl
theorem dX3_refuses_0 : decode cX3_refuses 0 = .ok (.aload_n 0, 1) := dk_42 (dk_at dksX3_refuses_0 0 rfl rfl)
theorem dX3_refuses_1 : decode cX3_refuses 1 = .ok (.getfield 22, 3) := dk_180 0 22 (dk_at dksX3_refuses_0 1 rfl rfl)
theorem dX3_refuses_4 : decode cX3_refuses 4 = .ok (.iconst 0, 1) := dk_3 (dk_at dksX3_refuses_0 4 rfl rfl)
theorem dX3_refuses_5 : decode cX3_refuses 5 = .ok (.iload_n 1, 1) := dk_27 (dk_at dksX3_refuses_0 5 rfl rfl)
theorem dX3_refuses_6 : decode cX3_refuses 6 = .ok (.iastore, 1) := dk_79 (dk_at dksX3_refuses_0 6 rfl rfl)
theorem dX3_refuses_7 : decode cX3_refuses 7 = .ok (.aload_n 0, 1) := dk_42 (dk_at dksX3_refuses_0 7 rfl rfl)
theorem dX3_refuses_8 : decode cX3_refuses 8 = .ok (.getfield 25, 3) := dk_180 0 25 (dk_at dksX3_refuses_0 8 rfl rfl)
theorem dX3_refuses_11 : decode cX3_refuses 11 = .ok (.iconst 0, 1) := dk_3 (dk_at dksX3_refuses_0 11 rfl rfl)
theorem dX3_refuses_12 : decode cX3_refuses 12 = .ok (.iload_n 2, 1) := dk_28 (dk_at dksX3_refuses_0 12 rfl rfl)
theorem dX3_refuses_13 : decode cX3_refuses 13 = .ok (.iastore, 1) := dk_79 (dk_at dksX3_refuses_0 13 rfl rfl)
theorem dX3_refuses_14 : decode cX3_refuses 14 = .ok (.aload_n 0, 1) := dk_42 (dk_at dksX3_refuses_0 14 rfl rfl)
theorem dX3_refuses_15 : decode cX3_refuses 15 = .ok (.getfield 22, 3) := dk_180 0 22 (dk_at dksX3_refuses_0 15 rfl rfl)
theorem dX3_refuses_18 : decode cX3_refuses 18 = .ok (.iconst 1, 1) := dk_4 (dk_at dksX3_refuses_0 18 rfl rfl)
theorem dX3_refuses_19 : decode cX3_refuses 19 = .ok (.iconst 0, 1) := dk_3 (dk_at dksX3_refuses_0 19 rfl rfl)
theorem dX3_refuses_20 : decode cX3_refuses 20 = .ok (.iastore, 1) := dk_79 (dk_at dksX3_refuses_0 20 rfl rfl)
theorem dX3_refuses_21 : decode cX3_refuses 21 = .ok (.aload_n 0, 1) := dk_42 (dk_at dksX3_refuses_0 21 rfl rfl)
theorem dX3_refuses_22 : decode cX3_refuses 22 = .ok (.getfield 22, 3) := dk_180 0 22 (dk_at dksX3_refuses_1 0 rfl rfl)
theorem dX3_refuses_25 : decode cX3_refuses 25 = .ok (.iconst 2, 1) := dk_5 (dk_at dksX3_refuses_1 3 rfl rfl)
theorem dX3_refuses_26 : decode cX3_refuses 26 = .ok (.iconst 0, 1) := dk_3 (dk_at dksX3_refuses_1 4 rfl rfl)
theorem dX3_refuses_27 : decode cX3_refuses 27 = .ok (.iastore, 1) := dk_79 (dk_at dksX3_refuses_1 5 rfl rfl)
theorem dX3_refuses_28 : decode cX3_refuses 28 = .ok (.bipush (-5), 2) := dk_16 251 (dk_at dksX3_refuses_1 6 rfl rfl)
theorem dX3_refuses_30 : decode cX3_refuses 30 = .ok (.ireturn, 1) := dk_172 (dk_at dksX3_refuses_1 8 rfl rfl)
abbrev cX3_carverAt : ByteArray := prog_33_method_14_code
def yX3_carverAt : MethodName := ⟨RX3, "carverAt", "(II)I"⟩
def dkwX3_carverAt_0 : List UInt8 := [16, 16, 8, 26, 104, 96, 27, 96, 172]
abbrev dktX3_carverAt_0 : List UInt8 := dkwX3_carverAt_0 ++ []
theorem dksX3_carverAt_0 : cX3_carverAt.data.toList.drop 0 = dktX3_carverAt_0 := by decide +kernel
theorem dX3_carverAt_0 : decode cX3_carverAt 0 = .ok (.bipush 16, 2) := dk_16 16 (dk_at dksX3_carverAt_0 0 rfl rfl)
theorem dX3_carverAt_2 : decode cX3_carverAt 2 = .ok (.iconst 5, 1) := dk_8 (dk_at dksX3_carverAt_0 2 rfl rfl)
theorem dX3_carverAt_3 : decode cX3_carverAt 3 = .ok (.iload_n 0, 1) := dk_26 (dk_at dksX3_carverAt_0 3 rfl rfl)
theorem dX3_carverAt_4 : decode cX3_carverAt 4 = .ok (.imul, 1) := dk_104 (dk_at dksX3_carverAt_0 4 rfl rfl)
theorem dX3_carverAt_5 : decode cX3_carverAt 5 = .ok (.iadd, 1) := dk_96 (dk_at dksX3_carverAt_0 5 rfl rfl)
theorem dX3_carverAt_6 : decode cX3_carverAt 6 = .ok (.iload_n 1, 1) := dk_27 (dk_at dksX3_carverAt_0 6 rfl rfl)
theorem dX3_carverAt_7 : decode cX3_carverAt 7 = .ok (.iadd, 1) := dk_96 (dk_at dksX3_carverAt_0 7 rfl rfl)
theorem dX3_carverAt_8 : decode cX3_carverAt 8 = .ok (.ireturn, 1) := dk_172 (dk_at dksX3_carverAt_0 8 rfl rfl)
abbrev cX3_lens : ByteArray := prog_33_method_19_code
def yX3_lens : MethodName := ⟨RX3, "lens", "(I)I"⟩
def dkwX3_lens_2 : List UInt8 := [4, 184, 0, 102, 16, 250, 79, 42, 28, 182, 0, 91, 172]
abbrev dktX3_lens_2 : List UInt8 := dkwX3_lens_2 ++ []
def dkwX3_lens_1 : List UInt8 := [182, 0, 95, 61, 28, 155, 0, 26, 42, 180, 0, 9, 28, 3, 184, 0, 102, 27, 79, 42, 180, 0, 9, 28]
abbrev dktX3_lens_1 : List UInt8 := dkwX3_lens_1 ++ dktX3_lens_2
def dkwX3_lens_0 : List UInt8 := [27, 4, 16, 9, 184, 0, 81, 154, 0, 6, 16, 254, 172, 42, 182, 0, 85, 42, 16, 10, 7, 16, 36, 5]
abbrev dktX3_lens_0 : List UInt8 := dkwX3_lens_0 ++ dktX3_lens_1
theorem dksX3_lens_0 : cX3_lens.data.toList.drop 0 = dktX3_lens_0 := by decide +kernel
theorem dksX3_lens_1 : cX3_lens.data.toList.drop 24 = dktX3_lens_1 := dk_seg dksX3_lens_0 24 rfl rfl
theorem dksX3_lens_2 : cX3_lens.data.toList.drop 48 = dktX3_lens_2 := dk_seg dksX3_lens_1 24 rfl rfl
theorem dX3_lens_0 : decode cX3_lens 0 = .ok (.iload_n 1, 1) := dk_27 (dk_at dksX3_lens_0 0 rfl rfl)
theorem dX3_lens_1 : decode cX3_lens 1 = .ok (.iconst 1, 1) := dk_4 (dk_at dksX3_lens_0 1 rfl rfl)
theorem dX3_lens_2 : decode cX3_lens 2 = .ok (.bipush 9, 2) := dk_16 9 (dk_at dksX3_lens_0 2 rfl rfl)
theorem dX3_lens_4 : decode cX3_lens 4 = .ok (.invokestatic 81, 3) := dk_184 0 81 (dk_at dksX3_lens_0 4 rfl rfl)
theorem dX3_lens_7 : decode cX3_lens 7 = .ok (.ifCond .ne 6, 3) := dk_154 0 6 (dk_at dksX3_lens_0 7 rfl rfl)
theorem dX3_lens_10 : decode cX3_lens 10 = .ok (.bipush (-2), 2) := dk_16 254 (dk_at dksX3_lens_0 10 rfl rfl)
theorem dX3_lens_12 : decode cX3_lens 12 = .ok (.ireturn, 1) := dk_172 (dk_at dksX3_lens_0 12 rfl rfl)
theorem dX3_lens_13 : decode cX3_lens 13 = .ok (.aload_n 0, 1) := dk_42 (dk_at dksX3_lens_0 13 rfl rfl)
theorem dX3_lens_14 : decode cX3_lens 14 = .ok (.invokevirtual 85, 3) := dk_182 0 85 (dk_at dksX3_lens_0 14 rfl rfl)
theorem dX3_lens_17 : decode cX3_lens 17 = .ok (.aload_n 0, 1) := dk_42 (dk_at dksX3_lens_0 17 rfl rfl)
theorem dX3_lens_18 : decode cX3_lens 18 = .ok (.bipush 10, 2) := dk_16 10 (dk_at dksX3_lens_0 18 rfl rfl)
theorem dX3_lens_20 : decode cX3_lens 20 = .ok (.iconst 4, 1) := dk_7 (dk_at dksX3_lens_0 20 rfl rfl)
theorem dX3_lens_21 : decode cX3_lens 21 = .ok (.bipush 36, 2) := dk_16 36 (dk_at dksX3_lens_0 21 rfl rfl)
theorem dX3_lens_23 : decode cX3_lens 23 = .ok (.iconst 2, 1) := dk_5 (dk_at dksX3_lens_0 23 rfl rfl)
theorem dX3_lens_24 : decode cX3_lens 24 = .ok (.invokevirtual 95, 3) := dk_182 0 95 (dk_at dksX3_lens_1 0 rfl rfl)
theorem dX3_lens_27 : decode cX3_lens 27 = .ok (.istore_n 2, 1) := dk_61 (dk_at dksX3_lens_1 3 rfl rfl)
theorem dX3_lens_28 : decode cX3_lens 28 = .ok (.iload_n 2, 1) := dk_28 (dk_at dksX3_lens_1 4 rfl rfl)
theorem dX3_lens_29 : decode cX3_lens 29 = .ok (.ifCond .lt 26, 3) := dk_155 0 26 (dk_at dksX3_lens_1 5 rfl rfl)
theorem dX3_lens_32 : decode cX3_lens 32 = .ok (.aload_n 0, 1) := dk_42 (dk_at dksX3_lens_1 8 rfl rfl)
theorem dX3_lens_33 : decode cX3_lens 33 = .ok (.getfield 9, 3) := dk_180 0 9 (dk_at dksX3_lens_1 9 rfl rfl)
theorem dX3_lens_36 : decode cX3_lens 36 = .ok (.iload_n 2, 1) := dk_28 (dk_at dksX3_lens_1 12 rfl rfl)
theorem dX3_lens_37 : decode cX3_lens 37 = .ok (.iconst 0, 1) := dk_3 (dk_at dksX3_lens_1 13 rfl rfl)
theorem dX3_lens_38 : decode cX3_lens 38 = .ok (.invokestatic 102, 3) := dk_184 0 102 (dk_at dksX3_lens_1 14 rfl rfl)
theorem dX3_lens_41 : decode cX3_lens 41 = .ok (.iload_n 1, 1) := dk_27 (dk_at dksX3_lens_1 17 rfl rfl)
theorem dX3_lens_42 : decode cX3_lens 42 = .ok (.iastore, 1) := dk_79 (dk_at dksX3_lens_1 18 rfl rfl)
theorem dX3_lens_43 : decode cX3_lens 43 = .ok (.aload_n 0, 1) := dk_42 (dk_at dksX3_lens_1 19 rfl rfl)
theorem dX3_lens_44 : decode cX3_lens 44 = .ok (.getfield 9, 3) := dk_180 0 9 (dk_at dksX3_lens_1 20 rfl rfl)
theorem dX3_lens_47 : decode cX3_lens 47 = .ok (.iload_n 2, 1) := dk_28 (dk_at dksX3_lens_1 23 rfl rfl)
theorem dX3_lens_48 : decode cX3_lens 48 = .ok (.iconst 1, 1) := dk_4 (dk_at dksX3_lens_2 0 rfl rfl)
theorem dX3_lens_49 : decode cX3_lens 49 = .ok (.invokestatic 102, 3) := dk_184 0 102 (dk_at dksX3_lens_2 1 rfl rfl)
theorem dX3_lens_52 : decode cX3_lens 52 = .ok (.bipush (-6), 2) := dk_16 250 (dk_at dksX3_lens_2 4 rfl rfl)
theorem dX3_lens_54 : decode cX3_lens 54 = .ok (.iastore, 1) := dk_79 (dk_at dksX3_lens_2 6 rfl rfl)
theorem dX3_lens_55 : decode cX3_lens 55 = .ok (.aload_n 0, 1) := dk_42 (dk_at dksX3_lens_2 7 rfl rfl)
theorem dX3_lens_56 : decode cX3_lens 56 = .ok (.iload_n 2, 1) := dk_28 (dk_at dksX3_lens_2 8 rfl rfl)
theorem dX3_lens_57 : decode cX3_lens 57 = .ok (.invokevirtual 91, 3) := dk_182 0 91 (dk_at dksX3_lens_2 9 rfl rfl)
theorem dX3_lens_60 : decode cX3_lens 60 = .ok (.ireturn, 1) := dk_172 (dk_at dksX3_lens_2 12 rfl rfl)
abbrev cX3_lensAt : ByteArray := prog_33_method_15_code
def yX3_lensAt : MethodName := ⟨RX3, "lensAt", "(II)I"⟩
def dkwX3_lensAt_0 : List UInt8 := [16, 36, 5, 26, 104, 96, 27, 96, 172]
abbrev dktX3_lensAt_0 : List UInt8 := dkwX3_lensAt_0 ++ []
theorem dksX3_lensAt_0 : cX3_lensAt.data.toList.drop 0 = dktX3_lensAt_0 := by decide +kernel
theorem dX3_lensAt_0 : decode cX3_lensAt 0 = .ok (.bipush 36, 2) := dk_16 36 (dk_at dksX3_lensAt_0 0 rfl rfl)
theorem dX3_lensAt_2 : decode cX3_lensAt 2 = .ok (.iconst 2, 1) := dk_5 (dk_at dksX3_lensAt_0 2 rfl rfl)
theorem dX3_lensAt_3 : decode cX3_lensAt 3 = .ok (.iload_n 0, 1) := dk_26 (dk_at dksX3_lensAt_0 3 rfl rfl)
theorem dX3_lensAt_4 : decode cX3_lensAt 4 = .ok (.imul, 1) := dk_104 (dk_at dksX3_lensAt_0 4 rfl rfl)
theorem dX3_lensAt_5 : decode cX3_lensAt 5 = .ok (.iadd, 1) := dk_96 (dk_at dksX3_lensAt_0 5 rfl rfl)
theorem dX3_lensAt_6 : decode cX3_lensAt 6 = .ok (.iload_n 1, 1) := dk_27 (dk_at dksX3_lensAt_0 6 rfl rfl)
theorem dX3_lensAt_7 : decode cX3_lensAt 7 = .ok (.iadd, 1) := dk_96 (dk_at dksX3_lensAt_0 7 rfl rfl)
theorem dX3_lensAt_8 : decode cX3_lensAt 8 = .ok (.ireturn, 1) := dk_172 (dk_at dksX3_lensAt_0 8 rfl rfl)
abbrev cX3_give : ByteArray := prog_33_method_20_code
def yX3_give : MethodName := ⟨RX3, "give", "(II)I"⟩
def dkwX3_give_5 : List UInt8 := [184, 0, 102, 28, 79, 42, 29, 182, 0, 91, 172]
abbrev dktX3_give_5 : List UInt8 := dkwX3_give_5 ++ []
def dkwX3_give_4 : List UInt8 := [184, 0, 102, 16, 250, 79, 42, 180, 0, 9, 28, 5, 184, 0, 99, 27, 79, 42, 180, 0, 9, 27, 4]
abbrev dktX3_give_4 : List UInt8 := dkwX3_give_4 ++ dktX3_give_5
def dkwX3_give_3 : List UInt8 := [180, 0, 9, 28, 5, 184, 0, 99, 46, 54, 4, 21, 4, 155, 0, 16, 42, 180, 0, 9, 21, 4, 4]
abbrev dktX3_give_3 : List UInt8 := dkwX3_give_3 ++ dktX3_give_4
def dkwX3_give_2 : List UInt8 := [184, 0, 99, 16, 250, 79, 42, 180, 0, 9, 27, 4, 184, 0, 102, 16, 250, 79, 28, 155, 0, 55, 42]
abbrev dktX3_give_2 : List UInt8 := dkwX3_give_2 ++ dktX3_give_3
def dkwX3_give_1 : List UInt8 := [182, 0, 85, 42, 180, 0, 9, 27, 4, 184, 0, 102, 46, 62, 29, 155, 0, 15, 42, 180, 0, 9, 29, 5]
abbrev dktX3_give_1 : List UInt8 := dkwX3_give_1 ++ dktX3_give_2
def dkwX3_give_0 : List UInt8 := [42, 27, 182, 0, 105, 153, 0, 16, 28, 2, 159, 0, 13, 42, 28, 182, 0, 108, 154, 0, 5, 2, 172, 42]
abbrev dktX3_give_0 : List UInt8 := dkwX3_give_0 ++ dktX3_give_1
theorem dksX3_give_0 : cX3_give.data.toList.drop 0 = dktX3_give_0 := by decide +kernel
theorem dksX3_give_1 : cX3_give.data.toList.drop 24 = dktX3_give_1 := dk_seg dksX3_give_0 24 rfl rfl
theorem dksX3_give_2 : cX3_give.data.toList.drop 48 = dktX3_give_2 := dk_seg dksX3_give_1 24 rfl rfl
theorem dksX3_give_3 : cX3_give.data.toList.drop 71 = dktX3_give_3 := dk_seg dksX3_give_2 23 rfl rfl
theorem dksX3_give_4 : cX3_give.data.toList.drop 94 = dktX3_give_4 := dk_seg dksX3_give_3 23 rfl rfl
theorem dksX3_give_5 : cX3_give.data.toList.drop 117 = dktX3_give_5 := dk_seg dksX3_give_4 23 rfl rfl
theorem dX3_give_0 : decode cX3_give 0 = .ok (.aload_n 0, 1) := dk_42 (dk_at dksX3_give_0 0 rfl rfl)
theorem dX3_give_1 : decode cX3_give 1 = .ok (.iload_n 1, 1) := dk_27 (dk_at dksX3_give_0 1 rfl rfl)
theorem dX3_give_2 : decode cX3_give 2 = .ok (.invokevirtual 105, 3) := dk_182 0 105 (dk_at dksX3_give_0 2 rfl rfl)
theorem dX3_give_5 : decode cX3_give 5 = .ok (.ifCond .eq 16, 3) := dk_153 0 16 (dk_at dksX3_give_0 5 rfl rfl)
theorem dX3_give_8 : decode cX3_give 8 = .ok (.iload_n 2, 1) := dk_28 (dk_at dksX3_give_0 8 rfl rfl)
theorem dX3_give_9 : decode cX3_give 9 = .ok (.iconst (-1), 1) := dk_2 (dk_at dksX3_give_0 9 rfl rfl)
theorem dX3_give_10 : decode cX3_give 10 = .ok (.if_icmp .eq 13, 3) := dk_159 0 13 (dk_at dksX3_give_0 10 rfl rfl)
theorem dX3_give_13 : decode cX3_give 13 = .ok (.aload_n 0, 1) := dk_42 (dk_at dksX3_give_0 13 rfl rfl)
theorem dX3_give_14 : decode cX3_give 14 = .ok (.iload_n 2, 1) := dk_28 (dk_at dksX3_give_0 14 rfl rfl)
theorem dX3_give_15 : decode cX3_give 15 = .ok (.invokevirtual 108, 3) := dk_182 0 108 (dk_at dksX3_give_0 15 rfl rfl)
theorem dX3_give_18 : decode cX3_give 18 = .ok (.ifCond .ne 5, 3) := dk_154 0 5 (dk_at dksX3_give_0 18 rfl rfl)
theorem dX3_give_21 : decode cX3_give 21 = .ok (.iconst (-1), 1) := dk_2 (dk_at dksX3_give_0 21 rfl rfl)
theorem dX3_give_22 : decode cX3_give 22 = .ok (.ireturn, 1) := dk_172 (dk_at dksX3_give_0 22 rfl rfl)
theorem dX3_give_23 : decode cX3_give 23 = .ok (.aload_n 0, 1) := dk_42 (dk_at dksX3_give_0 23 rfl rfl)
theorem dX3_give_24 : decode cX3_give 24 = .ok (.invokevirtual 85, 3) := dk_182 0 85 (dk_at dksX3_give_1 0 rfl rfl)
theorem dX3_give_27 : decode cX3_give 27 = .ok (.aload_n 0, 1) := dk_42 (dk_at dksX3_give_1 3 rfl rfl)
theorem dX3_give_28 : decode cX3_give 28 = .ok (.getfield 9, 3) := dk_180 0 9 (dk_at dksX3_give_1 4 rfl rfl)
theorem dX3_give_31 : decode cX3_give 31 = .ok (.iload_n 1, 1) := dk_27 (dk_at dksX3_give_1 7 rfl rfl)
theorem dX3_give_32 : decode cX3_give 32 = .ok (.iconst 1, 1) := dk_4 (dk_at dksX3_give_1 8 rfl rfl)
theorem dX3_give_33 : decode cX3_give 33 = .ok (.invokestatic 102, 3) := dk_184 0 102 (dk_at dksX3_give_1 9 rfl rfl)
theorem dX3_give_36 : decode cX3_give 36 = .ok (.iaload, 1) := dk_46 (dk_at dksX3_give_1 12 rfl rfl)
theorem dX3_give_37 : decode cX3_give 37 = .ok (.istore_n 3, 1) := dk_62 (dk_at dksX3_give_1 13 rfl rfl)
theorem dX3_give_38 : decode cX3_give 38 = .ok (.iload_n 3, 1) := dk_29 (dk_at dksX3_give_1 14 rfl rfl)
theorem dX3_give_39 : decode cX3_give 39 = .ok (.ifCond .lt 15, 3) := dk_155 0 15 (dk_at dksX3_give_1 15 rfl rfl)
theorem dX3_give_42 : decode cX3_give 42 = .ok (.aload_n 0, 1) := dk_42 (dk_at dksX3_give_1 18 rfl rfl)
theorem dX3_give_43 : decode cX3_give 43 = .ok (.getfield 9, 3) := dk_180 0 9 (dk_at dksX3_give_1 19 rfl rfl)
theorem dX3_give_46 : decode cX3_give 46 = .ok (.iload_n 3, 1) := dk_29 (dk_at dksX3_give_1 22 rfl rfl)
theorem dX3_give_47 : decode cX3_give 47 = .ok (.iconst 2, 1) := dk_5 (dk_at dksX3_give_1 23 rfl rfl)
theorem dX3_give_48 : decode cX3_give 48 = .ok (.invokestatic 99, 3) := dk_184 0 99 (dk_at dksX3_give_2 0 rfl rfl)
theorem dX3_give_51 : decode cX3_give 51 = .ok (.bipush (-6), 2) := dk_16 250 (dk_at dksX3_give_2 3 rfl rfl)
theorem dX3_give_53 : decode cX3_give 53 = .ok (.iastore, 1) := dk_79 (dk_at dksX3_give_2 5 rfl rfl)
theorem dX3_give_54 : decode cX3_give 54 = .ok (.aload_n 0, 1) := dk_42 (dk_at dksX3_give_2 6 rfl rfl)
theorem dX3_give_55 : decode cX3_give 55 = .ok (.getfield 9, 3) := dk_180 0 9 (dk_at dksX3_give_2 7 rfl rfl)
theorem dX3_give_58 : decode cX3_give 58 = .ok (.iload_n 1, 1) := dk_27 (dk_at dksX3_give_2 10 rfl rfl)
theorem dX3_give_59 : decode cX3_give 59 = .ok (.iconst 1, 1) := dk_4 (dk_at dksX3_give_2 11 rfl rfl)
theorem dX3_give_60 : decode cX3_give 60 = .ok (.invokestatic 102, 3) := dk_184 0 102 (dk_at dksX3_give_2 12 rfl rfl)
theorem dX3_give_63 : decode cX3_give 63 = .ok (.bipush (-6), 2) := dk_16 250 (dk_at dksX3_give_2 15 rfl rfl)
theorem dX3_give_65 : decode cX3_give 65 = .ok (.iastore, 1) := dk_79 (dk_at dksX3_give_2 17 rfl rfl)
theorem dX3_give_66 : decode cX3_give 66 = .ok (.iload_n 2, 1) := dk_28 (dk_at dksX3_give_2 18 rfl rfl)
theorem dX3_give_67 : decode cX3_give 67 = .ok (.ifCond .lt 55, 3) := dk_155 0 55 (dk_at dksX3_give_2 19 rfl rfl)
theorem dX3_give_70 : decode cX3_give 70 = .ok (.aload_n 0, 1) := dk_42 (dk_at dksX3_give_2 22 rfl rfl)
theorem dX3_give_71 : decode cX3_give 71 = .ok (.getfield 9, 3) := dk_180 0 9 (dk_at dksX3_give_3 0 rfl rfl)
theorem dX3_give_74 : decode cX3_give 74 = .ok (.iload_n 2, 1) := dk_28 (dk_at dksX3_give_3 3 rfl rfl)
theorem dX3_give_75 : decode cX3_give 75 = .ok (.iconst 2, 1) := dk_5 (dk_at dksX3_give_3 4 rfl rfl)
theorem dX3_give_76 : decode cX3_give 76 = .ok (.invokestatic 99, 3) := dk_184 0 99 (dk_at dksX3_give_3 5 rfl rfl)
theorem dX3_give_79 : decode cX3_give 79 = .ok (.iaload, 1) := dk_46 (dk_at dksX3_give_3 8 rfl rfl)
theorem dX3_give_80 : decode cX3_give 80 = .ok (.istore 4, 2) := dk_54 4 (dk_at dksX3_give_3 9 rfl rfl)
theorem dX3_give_82 : decode cX3_give 82 = .ok (.iload 4, 2) := dk_21 4 (dk_at dksX3_give_3 11 rfl rfl)
theorem dX3_give_84 : decode cX3_give 84 = .ok (.ifCond .lt 16, 3) := dk_155 0 16 (dk_at dksX3_give_3 13 rfl rfl)
theorem dX3_give_87 : decode cX3_give 87 = .ok (.aload_n 0, 1) := dk_42 (dk_at dksX3_give_3 16 rfl rfl)
theorem dX3_give_88 : decode cX3_give 88 = .ok (.getfield 9, 3) := dk_180 0 9 (dk_at dksX3_give_3 17 rfl rfl)
theorem dX3_give_91 : decode cX3_give 91 = .ok (.iload 4, 2) := dk_21 4 (dk_at dksX3_give_3 20 rfl rfl)
theorem dX3_give_93 : decode cX3_give 93 = .ok (.iconst 1, 1) := dk_4 (dk_at dksX3_give_3 22 rfl rfl)
theorem dX3_give_94 : decode cX3_give 94 = .ok (.invokestatic 102, 3) := dk_184 0 102 (dk_at dksX3_give_4 0 rfl rfl)
theorem dX3_give_97 : decode cX3_give 97 = .ok (.bipush (-6), 2) := dk_16 250 (dk_at dksX3_give_4 3 rfl rfl)
theorem dX3_give_99 : decode cX3_give 99 = .ok (.iastore, 1) := dk_79 (dk_at dksX3_give_4 5 rfl rfl)
theorem dX3_give_100 : decode cX3_give 100 = .ok (.aload_n 0, 1) := dk_42 (dk_at dksX3_give_4 6 rfl rfl)
theorem dX3_give_101 : decode cX3_give 101 = .ok (.getfield 9, 3) := dk_180 0 9 (dk_at dksX3_give_4 7 rfl rfl)
theorem dX3_give_104 : decode cX3_give 104 = .ok (.iload_n 2, 1) := dk_28 (dk_at dksX3_give_4 10 rfl rfl)
theorem dX3_give_105 : decode cX3_give 105 = .ok (.iconst 2, 1) := dk_5 (dk_at dksX3_give_4 11 rfl rfl)
theorem dX3_give_106 : decode cX3_give 106 = .ok (.invokestatic 99, 3) := dk_184 0 99 (dk_at dksX3_give_4 12 rfl rfl)
theorem dX3_give_109 : decode cX3_give 109 = .ok (.iload_n 1, 1) := dk_27 (dk_at dksX3_give_4 15 rfl rfl)
theorem dX3_give_110 : decode cX3_give 110 = .ok (.iastore, 1) := dk_79 (dk_at dksX3_give_4 16 rfl rfl)
theorem dX3_give_111 : decode cX3_give 111 = .ok (.aload_n 0, 1) := dk_42 (dk_at dksX3_give_4 17 rfl rfl)
theorem dX3_give_112 : decode cX3_give 112 = .ok (.getfield 9, 3) := dk_180 0 9 (dk_at dksX3_give_4 18 rfl rfl)
theorem dX3_give_115 : decode cX3_give 115 = .ok (.iload_n 1, 1) := dk_27 (dk_at dksX3_give_4 21 rfl rfl)
theorem dX3_give_116 : decode cX3_give 116 = .ok (.iconst 1, 1) := dk_4 (dk_at dksX3_give_4 22 rfl rfl)
theorem dX3_give_117 : decode cX3_give 117 = .ok (.invokestatic 102, 3) := dk_184 0 102 (dk_at dksX3_give_5 0 rfl rfl)
theorem dX3_give_120 : decode cX3_give 120 = .ok (.iload_n 2, 1) := dk_28 (dk_at dksX3_give_5 3 rfl rfl)
theorem dX3_give_121 : decode cX3_give 121 = .ok (.iastore, 1) := dk_79 (dk_at dksX3_give_5 4 rfl rfl)
theorem dX3_give_122 : decode cX3_give 122 = .ok (.aload_n 0, 1) := dk_42 (dk_at dksX3_give_5 5 rfl rfl)
theorem dX3_give_123 : decode cX3_give 123 = .ok (.iload_n 3, 1) := dk_29 (dk_at dksX3_give_5 6 rfl rfl)
theorem dX3_give_124 : decode cX3_give 124 = .ok (.invokevirtual 91, 3) := dk_182 0 91 (dk_at dksX3_give_5 7 rfl rfl)
theorem dX3_give_127 : decode cX3_give 127 = .ok (.ireturn, 1) := dk_172 (dk_at dksX3_give_5 10 rfl rfl)
abbrev cX3_isLens : ByteArray := prog_33_method_17_code
def yX3_isLens : MethodName := ⟨RX3, "isLens", "(I)Z"⟩
def dkwX3_isLens_0 : List UInt8 := [27, 3, 42, 180, 0, 9, 16, 10, 46, 4, 100, 184, 0, 81, 172]
abbrev dktX3_isLens_0 : List UInt8 := dkwX3_isLens_0 ++ []
theorem dksX3_isLens_0 : cX3_isLens.data.toList.drop 0 = dktX3_isLens_0 := by decide +kernel
theorem dX3_isLens_0 : decode cX3_isLens 0 = .ok (.iload_n 1, 1) := dk_27 (dk_at dksX3_isLens_0 0 rfl rfl)
theorem dX3_isLens_1 : decode cX3_isLens 1 = .ok (.iconst 0, 1) := dk_3 (dk_at dksX3_isLens_0 1 rfl rfl)
theorem dX3_isLens_2 : decode cX3_isLens 2 = .ok (.aload_n 0, 1) := dk_42 (dk_at dksX3_isLens_0 2 rfl rfl)
theorem dX3_isLens_3 : decode cX3_isLens 3 = .ok (.getfield 9, 3) := dk_180 0 9 (dk_at dksX3_isLens_0 3 rfl rfl)
theorem dX3_isLens_6 : decode cX3_isLens 6 = .ok (.bipush 10, 2) := dk_16 10 (dk_at dksX3_isLens_0 6 rfl rfl)
theorem dX3_isLens_8 : decode cX3_isLens 8 = .ok (.iaload, 1) := dk_46 (dk_at dksX3_isLens_0 8 rfl rfl)
theorem dX3_isLens_9 : decode cX3_isLens 9 = .ok (.iconst 1, 1) := dk_4 (dk_at dksX3_isLens_0 9 rfl rfl)
theorem dX3_isLens_10 : decode cX3_isLens 10 = .ok (.isub, 1) := dk_100 (dk_at dksX3_isLens_0 10 rfl rfl)
theorem dX3_isLens_11 : decode cX3_isLens 11 = .ok (.invokestatic 81, 3) := dk_184 0 81 (dk_at dksX3_isLens_0 11 rfl rfl)
theorem dX3_isLens_14 : decode cX3_isLens 14 = .ok (.ireturn, 1) := dk_172 (dk_at dksX3_isLens_0 14 rfl rfl)
abbrev cX3_isCarver : ByteArray := prog_33_method_16_code
def yX3_isCarver : MethodName := ⟨RX3, "isCarver", "(I)Z"⟩
def dkwX3_isCarver_0 : List UInt8 := [27, 3, 42, 180, 0, 9, 16, 9, 46, 4, 100, 184, 0, 81, 172]
abbrev dktX3_isCarver_0 : List UInt8 := dkwX3_isCarver_0 ++ []
theorem dksX3_isCarver_0 : cX3_isCarver.data.toList.drop 0 = dktX3_isCarver_0 := by decide +kernel
theorem dX3_isCarver_0 : decode cX3_isCarver 0 = .ok (.iload_n 1, 1) := dk_27 (dk_at dksX3_isCarver_0 0 rfl rfl)
theorem dX3_isCarver_1 : decode cX3_isCarver 1 = .ok (.iconst 0, 1) := dk_3 (dk_at dksX3_isCarver_0 1 rfl rfl)
theorem dX3_isCarver_2 : decode cX3_isCarver 2 = .ok (.aload_n 0, 1) := dk_42 (dk_at dksX3_isCarver_0 2 rfl rfl)
theorem dX3_isCarver_3 : decode cX3_isCarver 3 = .ok (.getfield 9, 3) := dk_180 0 9 (dk_at dksX3_isCarver_0 3 rfl rfl)
theorem dX3_isCarver_6 : decode cX3_isCarver 6 = .ok (.bipush 9, 2) := dk_16 9 (dk_at dksX3_isCarver_0 6 rfl rfl)
theorem dX3_isCarver_8 : decode cX3_isCarver 8 = .ok (.iaload, 1) := dk_46 (dk_at dksX3_isCarver_0 8 rfl rfl)
theorem dX3_isCarver_9 : decode cX3_isCarver 9 = .ok (.iconst 1, 1) := dk_4 (dk_at dksX3_isCarver_0 9 rfl rfl)
theorem dX3_isCarver_10 : decode cX3_isCarver 10 = .ok (.isub, 1) := dk_100 (dk_at dksX3_isCarver_0 10 rfl rfl)
theorem dX3_isCarver_11 : decode cX3_isCarver 11 = .ok (.invokestatic 81, 3) := dk_184 0 81 (dk_at dksX3_isCarver_0 11 rfl rfl)
theorem dX3_isCarver_14 : decode cX3_isCarver 14 = .ok (.ireturn, 1) := dk_172 (dk_at dksX3_isCarver_0 14 rfl rfl)
abbrev cX3_carve : ByteArray := prog_33_method_26_code
def yX3_carve : MethodName := ⟨RX3, "carve", "(IZI)I"⟩
def dkwX3_carve_0 : List UInt8 := [42, 182, 0, 85, 42, 42, 27, 28, 29, 182, 0, 125, 182, 0, 91, 172]
abbrev dktX3_carve_0 : List UInt8 := dkwX3_carve_0 ++ []
theorem dksX3_carve_0 : cX3_carve.data.toList.drop 0 = dktX3_carve_0 := by decide +kernel
theorem dX3_carve_0 : decode cX3_carve 0 = .ok (.aload_n 0, 1) := dk_42 (dk_at dksX3_carve_0 0 rfl rfl)
theorem dX3_carve_1 : decode cX3_carve 1 = .ok (.invokevirtual 85, 3) := dk_182 0 85 (dk_at dksX3_carve_0 1 rfl rfl)
theorem dX3_carve_4 : decode cX3_carve 4 = .ok (.aload_n 0, 1) := dk_42 (dk_at dksX3_carve_0 4 rfl rfl)
theorem dX3_carve_5 : decode cX3_carve 5 = .ok (.aload_n 0, 1) := dk_42 (dk_at dksX3_carve_0 5 rfl rfl)
theorem dX3_carve_6 : decode cX3_carve 6 = .ok (.iload_n 1, 1) := dk_27 (dk_at dksX3_carve_0 6 rfl rfl)
theorem dX3_carve_7 : decode cX3_carve 7 = .ok (.iload_n 2, 1) := dk_28 (dk_at dksX3_carve_0 7 rfl rfl)
theorem dX3_carve_8 : decode cX3_carve 8 = .ok (.iload_n 3, 1) := dk_29 (dk_at dksX3_carve_0 8 rfl rfl)
theorem dX3_carve_9 : decode cX3_carve 9 = .ok (.invokevirtual 125, 3) := dk_182 0 125 (dk_at dksX3_carve_0 9 rfl rfl)
theorem dX3_carve_12 : decode cX3_carve 12 = .ok (.invokevirtual 91, 3) := dk_182 0 91 (dk_at dksX3_carve_0 12 rfl rfl)
theorem dX3_carve_15 : decode cX3_carve 15 = .ok (.ireturn, 1) := dk_172 (dk_at dksX3_carve_0 15 rfl rfl)
abbrev cX3_carves : ByteArray := prog_33_method_25_code
def yX3_carves : MethodName := ⟨RX3, "carves", "(IZI)I"⟩
def dkwX3_carves_6 : List UInt8 := [46, 21, 6, 100, 172]
abbrev dktX3_carves_6 : List UInt8 := dkwX3_carves_6 ++ []
def dkwX3_carves_5 : List UInt8 := [21, 7, 29, 162, 0, 15, 42, 27, 28, 182, 0, 121, 132, 7, 1, 167, 255, 241, 42, 180, 0, 9, 16, 11]
abbrev dktX3_carves_5 : List UInt8 := dkwX3_carves_5 ++ dktX3_carves_6
def dkwX3_carves_4 : List UInt8 := [164, 0, 11, 42, 4, 16, 60, 182, 0, 77, 172, 42, 180, 0, 9, 16, 11, 46, 54, 6, 3, 54, 7]
abbrev dktX3_carves_4 : List UInt8 := dkwX3_carves_4 ++ dktX3_carves_5
def dkwX3_carves_3 : List UInt8 := [21, 5, 158, 0, 11, 42, 6, 21, 5, 182, 0, 77, 172, 42, 180, 0, 9, 16, 11, 46, 29, 96, 16, 60]
abbrev dktX3_carves_3 : List UInt8 := dkwX3_carves_3 ++ dktX3_carves_4
def dkwX3_carves_2 : List UInt8 := [180, 0, 9, 4, 46, 100, 54, 5, 21, 4, 16, 60, 161, 0, 11, 42, 5, 21, 4, 182, 0, 77, 172]
abbrev dktX3_carves_2 : List UInt8 := dkwX3_carves_2 ++ dktX3_carves_3
def dkwX3_carves_1 : List UInt8 := [180, 0, 9, 27, 4, 184, 0, 99, 46, 54, 4, 29, 28, 153, 0, 7, 5, 167, 0, 4, 4, 104, 42]
abbrev dktX3_carves_1 : List UInt8 := dkwX3_carves_1 ++ dktX3_carves_2
def dkwX3_carves_0 : List UInt8 := [42, 27, 182, 0, 108, 154, 0, 5, 2, 172, 29, 4, 16, 10, 184, 0, 81, 154, 0, 6, 16, 254, 172, 42]
abbrev dktX3_carves_0 : List UInt8 := dkwX3_carves_0 ++ dktX3_carves_1
theorem dksX3_carves_0 : cX3_carves.data.toList.drop 0 = dktX3_carves_0 := by decide +kernel
theorem dksX3_carves_1 : cX3_carves.data.toList.drop 24 = dktX3_carves_1 := dk_seg dksX3_carves_0 24 rfl rfl
theorem dksX3_carves_2 : cX3_carves.data.toList.drop 47 = dktX3_carves_2 := dk_seg dksX3_carves_1 23 rfl rfl
theorem dksX3_carves_3 : cX3_carves.data.toList.drop 70 = dktX3_carves_3 := dk_seg dksX3_carves_2 23 rfl rfl
theorem dksX3_carves_4 : cX3_carves.data.toList.drop 94 = dktX3_carves_4 := dk_seg dksX3_carves_3 24 rfl rfl
theorem dksX3_carves_5 : cX3_carves.data.toList.drop 117 = dktX3_carves_5 := dk_seg dksX3_carves_4 23 rfl rfl
theorem dksX3_carves_6 : cX3_carves.data.toList.drop 141 = dktX3_carves_6 := dk_seg dksX3_carves_5 24 rfl rfl
theorem dX3_carves_0 : decode cX3_carves 0 = .ok (.aload_n 0, 1) := dk_42 (dk_at dksX3_carves_0 0 rfl rfl)
theorem dX3_carves_1 : decode cX3_carves 1 = .ok (.iload_n 1, 1) := dk_27 (dk_at dksX3_carves_0 1 rfl rfl)
theorem dX3_carves_2 : decode cX3_carves 2 = .ok (.invokevirtual 108, 3) := dk_182 0 108 (dk_at dksX3_carves_0 2 rfl rfl)
theorem dX3_carves_5 : decode cX3_carves 5 = .ok (.ifCond .ne 5, 3) := dk_154 0 5 (dk_at dksX3_carves_0 5 rfl rfl)
theorem dX3_carves_8 : decode cX3_carves 8 = .ok (.iconst (-1), 1) := dk_2 (dk_at dksX3_carves_0 8 rfl rfl)
theorem dX3_carves_9 : decode cX3_carves 9 = .ok (.ireturn, 1) := dk_172 (dk_at dksX3_carves_0 9 rfl rfl)
theorem dX3_carves_10 : decode cX3_carves 10 = .ok (.iload_n 3, 1) := dk_29 (dk_at dksX3_carves_0 10 rfl rfl)
theorem dX3_carves_11 : decode cX3_carves 11 = .ok (.iconst 1, 1) := dk_4 (dk_at dksX3_carves_0 11 rfl rfl)
theorem dX3_carves_12 : decode cX3_carves 12 = .ok (.bipush 10, 2) := dk_16 10 (dk_at dksX3_carves_0 12 rfl rfl)
theorem dX3_carves_14 : decode cX3_carves 14 = .ok (.invokestatic 81, 3) := dk_184 0 81 (dk_at dksX3_carves_0 14 rfl rfl)
theorem dX3_carves_17 : decode cX3_carves 17 = .ok (.ifCond .ne 6, 3) := dk_154 0 6 (dk_at dksX3_carves_0 17 rfl rfl)
theorem dX3_carves_20 : decode cX3_carves 20 = .ok (.bipush (-2), 2) := dk_16 254 (dk_at dksX3_carves_0 20 rfl rfl)
theorem dX3_carves_22 : decode cX3_carves 22 = .ok (.ireturn, 1) := dk_172 (dk_at dksX3_carves_0 22 rfl rfl)
theorem dX3_carves_23 : decode cX3_carves 23 = .ok (.aload_n 0, 1) := dk_42 (dk_at dksX3_carves_0 23 rfl rfl)
theorem dX3_carves_24 : decode cX3_carves 24 = .ok (.getfield 9, 3) := dk_180 0 9 (dk_at dksX3_carves_1 0 rfl rfl)
theorem dX3_carves_27 : decode cX3_carves 27 = .ok (.iload_n 1, 1) := dk_27 (dk_at dksX3_carves_1 3 rfl rfl)
theorem dX3_carves_28 : decode cX3_carves 28 = .ok (.iconst 1, 1) := dk_4 (dk_at dksX3_carves_1 4 rfl rfl)
theorem dX3_carves_29 : decode cX3_carves 29 = .ok (.invokestatic 99, 3) := dk_184 0 99 (dk_at dksX3_carves_1 5 rfl rfl)
theorem dX3_carves_32 : decode cX3_carves 32 = .ok (.iaload, 1) := dk_46 (dk_at dksX3_carves_1 8 rfl rfl)
theorem dX3_carves_33 : decode cX3_carves 33 = .ok (.istore 4, 2) := dk_54 4 (dk_at dksX3_carves_1 9 rfl rfl)
theorem dX3_carves_35 : decode cX3_carves 35 = .ok (.iload_n 3, 1) := dk_29 (dk_at dksX3_carves_1 11 rfl rfl)
theorem dX3_carves_36 : decode cX3_carves 36 = .ok (.iload_n 2, 1) := dk_28 (dk_at dksX3_carves_1 12 rfl rfl)
theorem dX3_carves_37 : decode cX3_carves 37 = .ok (.ifCond .eq 7, 3) := dk_153 0 7 (dk_at dksX3_carves_1 13 rfl rfl)
theorem dX3_carves_40 : decode cX3_carves 40 = .ok (.iconst 2, 1) := dk_5 (dk_at dksX3_carves_1 16 rfl rfl)
theorem dX3_carves_41 : decode cX3_carves 41 = .ok (.goto 4, 3) := dk_167 0 4 (dk_at dksX3_carves_1 17 rfl rfl)
theorem dX3_carves_44 : decode cX3_carves 44 = .ok (.iconst 1, 1) := dk_4 (dk_at dksX3_carves_1 20 rfl rfl)
theorem dX3_carves_45 : decode cX3_carves 45 = .ok (.imul, 1) := dk_104 (dk_at dksX3_carves_1 21 rfl rfl)
theorem dX3_carves_46 : decode cX3_carves 46 = .ok (.aload_n 0, 1) := dk_42 (dk_at dksX3_carves_1 22 rfl rfl)
theorem dX3_carves_47 : decode cX3_carves 47 = .ok (.getfield 9, 3) := dk_180 0 9 (dk_at dksX3_carves_2 0 rfl rfl)
theorem dX3_carves_50 : decode cX3_carves 50 = .ok (.iconst 1, 1) := dk_4 (dk_at dksX3_carves_2 3 rfl rfl)
theorem dX3_carves_51 : decode cX3_carves 51 = .ok (.iaload, 1) := dk_46 (dk_at dksX3_carves_2 4 rfl rfl)
theorem dX3_carves_52 : decode cX3_carves 52 = .ok (.isub, 1) := dk_100 (dk_at dksX3_carves_2 5 rfl rfl)
theorem dX3_carves_53 : decode cX3_carves 53 = .ok (.istore 5, 2) := dk_54 5 (dk_at dksX3_carves_2 6 rfl rfl)
theorem dX3_carves_55 : decode cX3_carves 55 = .ok (.iload 4, 2) := dk_21 4 (dk_at dksX3_carves_2 8 rfl rfl)
theorem dX3_carves_57 : decode cX3_carves 57 = .ok (.bipush 60, 2) := dk_16 60 (dk_at dksX3_carves_2 10 rfl rfl)
theorem dX3_carves_59 : decode cX3_carves 59 = .ok (.if_icmp .lt 11, 3) := dk_161 0 11 (dk_at dksX3_carves_2 12 rfl rfl)
theorem dX3_carves_62 : decode cX3_carves 62 = .ok (.aload_n 0, 1) := dk_42 (dk_at dksX3_carves_2 15 rfl rfl)
theorem dX3_carves_63 : decode cX3_carves 63 = .ok (.iconst 2, 1) := dk_5 (dk_at dksX3_carves_2 16 rfl rfl)
theorem dX3_carves_64 : decode cX3_carves 64 = .ok (.iload 4, 2) := dk_21 4 (dk_at dksX3_carves_2 17 rfl rfl)
theorem dX3_carves_66 : decode cX3_carves 66 = .ok (.invokevirtual 77, 3) := dk_182 0 77 (dk_at dksX3_carves_2 19 rfl rfl)
theorem dX3_carves_69 : decode cX3_carves 69 = .ok (.ireturn, 1) := dk_172 (dk_at dksX3_carves_2 22 rfl rfl)
theorem dX3_carves_70 : decode cX3_carves 70 = .ok (.iload 5, 2) := dk_21 5 (dk_at dksX3_carves_3 0 rfl rfl)
theorem dX3_carves_72 : decode cX3_carves 72 = .ok (.ifCond .le 11, 3) := dk_158 0 11 (dk_at dksX3_carves_3 2 rfl rfl)
theorem dX3_carves_75 : decode cX3_carves 75 = .ok (.aload_n 0, 1) := dk_42 (dk_at dksX3_carves_3 5 rfl rfl)
theorem dX3_carves_76 : decode cX3_carves 76 = .ok (.iconst 3, 1) := dk_6 (dk_at dksX3_carves_3 6 rfl rfl)
theorem dX3_carves_77 : decode cX3_carves 77 = .ok (.iload 5, 2) := dk_21 5 (dk_at dksX3_carves_3 7 rfl rfl)
theorem dX3_carves_79 : decode cX3_carves 79 = .ok (.invokevirtual 77, 3) := dk_182 0 77 (dk_at dksX3_carves_3 9 rfl rfl)
theorem dX3_carves_82 : decode cX3_carves 82 = .ok (.ireturn, 1) := dk_172 (dk_at dksX3_carves_3 12 rfl rfl)
theorem dX3_carves_83 : decode cX3_carves 83 = .ok (.aload_n 0, 1) := dk_42 (dk_at dksX3_carves_3 13 rfl rfl)
theorem dX3_carves_84 : decode cX3_carves 84 = .ok (.getfield 9, 3) := dk_180 0 9 (dk_at dksX3_carves_3 14 rfl rfl)
theorem dX3_carves_87 : decode cX3_carves 87 = .ok (.bipush 11, 2) := dk_16 11 (dk_at dksX3_carves_3 17 rfl rfl)
theorem dX3_carves_89 : decode cX3_carves 89 = .ok (.iaload, 1) := dk_46 (dk_at dksX3_carves_3 19 rfl rfl)
theorem dX3_carves_90 : decode cX3_carves 90 = .ok (.iload_n 3, 1) := dk_29 (dk_at dksX3_carves_3 20 rfl rfl)
theorem dX3_carves_91 : decode cX3_carves 91 = .ok (.iadd, 1) := dk_96 (dk_at dksX3_carves_3 21 rfl rfl)
theorem dX3_carves_92 : decode cX3_carves 92 = .ok (.bipush 60, 2) := dk_16 60 (dk_at dksX3_carves_3 22 rfl rfl)
theorem dX3_carves_94 : decode cX3_carves 94 = .ok (.if_icmp .le 11, 3) := dk_164 0 11 (dk_at dksX3_carves_4 0 rfl rfl)
theorem dX3_carves_97 : decode cX3_carves 97 = .ok (.aload_n 0, 1) := dk_42 (dk_at dksX3_carves_4 3 rfl rfl)
theorem dX3_carves_98 : decode cX3_carves 98 = .ok (.iconst 1, 1) := dk_4 (dk_at dksX3_carves_4 4 rfl rfl)
theorem dX3_carves_99 : decode cX3_carves 99 = .ok (.bipush 60, 2) := dk_16 60 (dk_at dksX3_carves_4 5 rfl rfl)
theorem dX3_carves_101 : decode cX3_carves 101 = .ok (.invokevirtual 77, 3) := dk_182 0 77 (dk_at dksX3_carves_4 7 rfl rfl)
theorem dX3_carves_104 : decode cX3_carves 104 = .ok (.ireturn, 1) := dk_172 (dk_at dksX3_carves_4 10 rfl rfl)
theorem dX3_carves_105 : decode cX3_carves 105 = .ok (.aload_n 0, 1) := dk_42 (dk_at dksX3_carves_4 11 rfl rfl)
theorem dX3_carves_106 : decode cX3_carves 106 = .ok (.getfield 9, 3) := dk_180 0 9 (dk_at dksX3_carves_4 12 rfl rfl)
theorem dX3_carves_109 : decode cX3_carves 109 = .ok (.bipush 11, 2) := dk_16 11 (dk_at dksX3_carves_4 15 rfl rfl)
theorem dX3_carves_111 : decode cX3_carves 111 = .ok (.iaload, 1) := dk_46 (dk_at dksX3_carves_4 17 rfl rfl)
theorem dX3_carves_112 : decode cX3_carves 112 = .ok (.istore 6, 2) := dk_54 6 (dk_at dksX3_carves_4 18 rfl rfl)
theorem dX3_carves_114 : decode cX3_carves 114 = .ok (.iconst 0, 1) := dk_3 (dk_at dksX3_carves_4 20 rfl rfl)
theorem dX3_carves_115 : decode cX3_carves 115 = .ok (.istore 7, 2) := dk_54 7 (dk_at dksX3_carves_4 21 rfl rfl)
theorem dX3_carves_117 : decode cX3_carves 117 = .ok (.iload 7, 2) := dk_21 7 (dk_at dksX3_carves_5 0 rfl rfl)
theorem dX3_carves_119 : decode cX3_carves 119 = .ok (.iload_n 3, 1) := dk_29 (dk_at dksX3_carves_5 2 rfl rfl)
theorem dX3_carves_120 : decode cX3_carves 120 = .ok (.if_icmp .ge 15, 3) := dk_162 0 15 (dk_at dksX3_carves_5 3 rfl rfl)
theorem dX3_carves_123 : decode cX3_carves 123 = .ok (.aload_n 0, 1) := dk_42 (dk_at dksX3_carves_5 6 rfl rfl)
theorem dX3_carves_124 : decode cX3_carves 124 = .ok (.iload_n 1, 1) := dk_27 (dk_at dksX3_carves_5 7 rfl rfl)
theorem dX3_carves_125 : decode cX3_carves 125 = .ok (.iload_n 2, 1) := dk_28 (dk_at dksX3_carves_5 8 rfl rfl)
theorem dX3_carves_126 : decode cX3_carves 126 = .ok (.invokevirtual 121, 3) := dk_182 0 121 (dk_at dksX3_carves_5 9 rfl rfl)
theorem dX3_carves_129 : decode cX3_carves 129 = .ok (.iinc 7 1, 3) := dk_132 7 1 (dk_at dksX3_carves_5 12 rfl rfl)
theorem dX3_carves_132 : decode cX3_carves 132 = .ok (.goto (-15), 3) := dk_167 255 241 (dk_at dksX3_carves_5 15 rfl rfl)
theorem dX3_carves_135 : decode cX3_carves 135 = .ok (.aload_n 0, 1) := dk_42 (dk_at dksX3_carves_5 18 rfl rfl)
theorem dX3_carves_136 : decode cX3_carves 136 = .ok (.getfield 9, 3) := dk_180 0 9 (dk_at dksX3_carves_5 19 rfl rfl)
theorem dX3_carves_139 : decode cX3_carves 139 = .ok (.bipush 11, 2) := dk_16 11 (dk_at dksX3_carves_5 22 rfl rfl)
theorem dX3_carves_141 : decode cX3_carves 141 = .ok (.iaload, 1) := dk_46 (dk_at dksX3_carves_6 0 rfl rfl)
theorem dX3_carves_142 : decode cX3_carves 142 = .ok (.iload 6, 2) := dk_21 6 (dk_at dksX3_carves_6 1 rfl rfl)
theorem dX3_carves_144 : decode cX3_carves 144 = .ok (.isub, 1) := dk_100 (dk_at dksX3_carves_6 3 rfl rfl)
theorem dX3_carves_145 : decode cX3_carves 145 = .ok (.ireturn, 1) := dk_172 (dk_at dksX3_carves_6 4 rfl rfl)
abbrev cX3_carvesOne : ByteArray := prog_33_method_24_code
def yX3_carvesOne : MethodName := ⟨RX3, "carvesOne", "(IZ)V"⟩
def dkwX3_carvesOne_5 : List UInt8 := [27, 4, 184, 0, 99, 46, 28, 153, 0, 7, 5, 167, 0, 4, 6, 96, 184, 0, 88, 79, 177]
abbrev dktX3_carvesOne_5 : List UInt8 := dkwX3_carvesOne_5 ++ []
def dkwX3_carvesOne_4 : List UInt8 := [6, 184, 0, 99, 92, 46, 4, 96, 79, 42, 180, 0, 9, 27, 4, 184, 0, 99, 16, 99, 42, 180, 0, 9]
abbrev dktX3_carvesOne_4 : List UInt8 := dkwX3_carvesOne_4 ++ dktX3_carvesOne_5
def dkwX3_carvesOne_3 : List UInt8 := [16, 9, 29, 184, 0, 88, 182, 0, 117, 42, 180, 0, 9, 5, 92, 46, 4, 96, 79, 42, 180, 0, 9, 27]
abbrev dktX3_carvesOne_3 : List UInt8 := dkwX3_carvesOne_3 ++ dktX3_carvesOne_4
def dkwX3_carvesOne_2 : List UInt8 := [180, 0, 9, 27, 7, 184, 0, 99, 92, 46, 4, 96, 79, 167, 0, 44, 42, 42, 180, 0, 9, 5, 46, 28]
abbrev dktX3_carvesOne_2 : List UInt8 := dkwX3_carvesOne_2 ++ dktX3_carvesOne_3
def dkwX3_carvesOne_1 : List UInt8 := [29, 28, 153, 0, 7, 5, 167, 0, 4, 7, 162, 0, 30, 42, 180, 0, 9, 6, 92, 46, 4, 96, 79, 42]
abbrev dktX3_carvesOne_1 : List UInt8 := dkwX3_carvesOne_1 ++ dktX3_carvesOne_2
def dkwX3_carvesOne_0 : List UInt8 := [42, 27, 182, 0, 114, 62, 42, 180, 0, 9, 4, 92, 46, 28, 153, 0, 7, 5, 167, 0, 4, 4, 100, 79]
abbrev dktX3_carvesOne_0 : List UInt8 := dkwX3_carvesOne_0 ++ dktX3_carvesOne_1
theorem dksX3_carvesOne_0 : cX3_carvesOne.data.toList.drop 0 = dktX3_carvesOne_0 := by decide +kernel
theorem dksX3_carvesOne_1 : cX3_carvesOne.data.toList.drop 24 = dktX3_carvesOne_1 := dk_seg dksX3_carvesOne_0 24 rfl rfl
theorem dksX3_carvesOne_2 : cX3_carvesOne.data.toList.drop 48 = dktX3_carvesOne_2 := dk_seg dksX3_carvesOne_1 24 rfl rfl
theorem dksX3_carvesOne_3 : cX3_carvesOne.data.toList.drop 72 = dktX3_carvesOne_3 := dk_seg dksX3_carvesOne_2 24 rfl rfl
theorem dksX3_carvesOne_4 : cX3_carvesOne.data.toList.drop 96 = dktX3_carvesOne_4 := dk_seg dksX3_carvesOne_3 24 rfl rfl
theorem dksX3_carvesOne_5 : cX3_carvesOne.data.toList.drop 120 = dktX3_carvesOne_5 := dk_seg dksX3_carvesOne_4 24 rfl rfl
theorem dX3_carvesOne_0 : decode cX3_carvesOne 0 = .ok (.aload_n 0, 1) := dk_42 (dk_at dksX3_carvesOne_0 0 rfl rfl)
theorem dX3_carvesOne_1 : decode cX3_carvesOne 1 = .ok (.iload_n 1, 1) := dk_27 (dk_at dksX3_carvesOne_0 1 rfl rfl)
theorem dX3_carvesOne_2 : decode cX3_carvesOne 2 = .ok (.invokevirtual 114, 3) := dk_182 0 114 (dk_at dksX3_carvesOne_0 2 rfl rfl)
theorem dX3_carvesOne_5 : decode cX3_carvesOne 5 = .ok (.istore_n 3, 1) := dk_62 (dk_at dksX3_carvesOne_0 5 rfl rfl)
theorem dX3_carvesOne_6 : decode cX3_carvesOne 6 = .ok (.aload_n 0, 1) := dk_42 (dk_at dksX3_carvesOne_0 6 rfl rfl)
theorem dX3_carvesOne_7 : decode cX3_carvesOne 7 = .ok (.getfield 9, 3) := dk_180 0 9 (dk_at dksX3_carvesOne_0 7 rfl rfl)
theorem dX3_carvesOne_10 : decode cX3_carvesOne 10 = .ok (.iconst 1, 1) := dk_4 (dk_at dksX3_carvesOne_0 10 rfl rfl)
theorem dX3_carvesOne_11 : decode cX3_carvesOne 11 = .ok (.dup2, 1) := dk_92 (dk_at dksX3_carvesOne_0 11 rfl rfl)
theorem dX3_carvesOne_12 : decode cX3_carvesOne 12 = .ok (.iaload, 1) := dk_46 (dk_at dksX3_carvesOne_0 12 rfl rfl)
theorem dX3_carvesOne_13 : decode cX3_carvesOne 13 = .ok (.iload_n 2, 1) := dk_28 (dk_at dksX3_carvesOne_0 13 rfl rfl)
theorem dX3_carvesOne_14 : decode cX3_carvesOne 14 = .ok (.ifCond .eq 7, 3) := dk_153 0 7 (dk_at dksX3_carvesOne_0 14 rfl rfl)
theorem dX3_carvesOne_17 : decode cX3_carvesOne 17 = .ok (.iconst 2, 1) := dk_5 (dk_at dksX3_carvesOne_0 17 rfl rfl)
theorem dX3_carvesOne_18 : decode cX3_carvesOne 18 = .ok (.goto 4, 3) := dk_167 0 4 (dk_at dksX3_carvesOne_0 18 rfl rfl)
theorem dX3_carvesOne_21 : decode cX3_carvesOne 21 = .ok (.iconst 1, 1) := dk_4 (dk_at dksX3_carvesOne_0 21 rfl rfl)
theorem dX3_carvesOne_22 : decode cX3_carvesOne 22 = .ok (.isub, 1) := dk_100 (dk_at dksX3_carvesOne_0 22 rfl rfl)
theorem dX3_carvesOne_23 : decode cX3_carvesOne 23 = .ok (.iastore, 1) := dk_79 (dk_at dksX3_carvesOne_0 23 rfl rfl)
theorem dX3_carvesOne_24 : decode cX3_carvesOne 24 = .ok (.iload_n 3, 1) := dk_29 (dk_at dksX3_carvesOne_1 0 rfl rfl)
theorem dX3_carvesOne_25 : decode cX3_carvesOne 25 = .ok (.iload_n 2, 1) := dk_28 (dk_at dksX3_carvesOne_1 1 rfl rfl)
theorem dX3_carvesOne_26 : decode cX3_carvesOne 26 = .ok (.ifCond .eq 7, 3) := dk_153 0 7 (dk_at dksX3_carvesOne_1 2 rfl rfl)
theorem dX3_carvesOne_29 : decode cX3_carvesOne 29 = .ok (.iconst 2, 1) := dk_5 (dk_at dksX3_carvesOne_1 5 rfl rfl)
theorem dX3_carvesOne_30 : decode cX3_carvesOne 30 = .ok (.goto 4, 3) := dk_167 0 4 (dk_at dksX3_carvesOne_1 6 rfl rfl)
theorem dX3_carvesOne_33 : decode cX3_carvesOne 33 = .ok (.iconst 4, 1) := dk_7 (dk_at dksX3_carvesOne_1 9 rfl rfl)
theorem dX3_carvesOne_34 : decode cX3_carvesOne 34 = .ok (.if_icmp .ge 30, 3) := dk_162 0 30 (dk_at dksX3_carvesOne_1 10 rfl rfl)
theorem dX3_carvesOne_37 : decode cX3_carvesOne 37 = .ok (.aload_n 0, 1) := dk_42 (dk_at dksX3_carvesOne_1 13 rfl rfl)
theorem dX3_carvesOne_38 : decode cX3_carvesOne 38 = .ok (.getfield 9, 3) := dk_180 0 9 (dk_at dksX3_carvesOne_1 14 rfl rfl)
theorem dX3_carvesOne_41 : decode cX3_carvesOne 41 = .ok (.iconst 3, 1) := dk_6 (dk_at dksX3_carvesOne_1 17 rfl rfl)
theorem dX3_carvesOne_42 : decode cX3_carvesOne 42 = .ok (.dup2, 1) := dk_92 (dk_at dksX3_carvesOne_1 18 rfl rfl)
theorem dX3_carvesOne_43 : decode cX3_carvesOne 43 = .ok (.iaload, 1) := dk_46 (dk_at dksX3_carvesOne_1 19 rfl rfl)
theorem dX3_carvesOne_44 : decode cX3_carvesOne 44 = .ok (.iconst 1, 1) := dk_4 (dk_at dksX3_carvesOne_1 20 rfl rfl)
theorem dX3_carvesOne_45 : decode cX3_carvesOne 45 = .ok (.iadd, 1) := dk_96 (dk_at dksX3_carvesOne_1 21 rfl rfl)
theorem dX3_carvesOne_46 : decode cX3_carvesOne 46 = .ok (.iastore, 1) := dk_79 (dk_at dksX3_carvesOne_1 22 rfl rfl)
theorem dX3_carvesOne_47 : decode cX3_carvesOne 47 = .ok (.aload_n 0, 1) := dk_42 (dk_at dksX3_carvesOne_1 23 rfl rfl)
theorem dX3_carvesOne_48 : decode cX3_carvesOne 48 = .ok (.getfield 9, 3) := dk_180 0 9 (dk_at dksX3_carvesOne_2 0 rfl rfl)
theorem dX3_carvesOne_51 : decode cX3_carvesOne 51 = .ok (.iload_n 1, 1) := dk_27 (dk_at dksX3_carvesOne_2 3 rfl rfl)
theorem dX3_carvesOne_52 : decode cX3_carvesOne 52 = .ok (.iconst 4, 1) := dk_7 (dk_at dksX3_carvesOne_2 4 rfl rfl)
theorem dX3_carvesOne_53 : decode cX3_carvesOne 53 = .ok (.invokestatic 99, 3) := dk_184 0 99 (dk_at dksX3_carvesOne_2 5 rfl rfl)
theorem dX3_carvesOne_56 : decode cX3_carvesOne 56 = .ok (.dup2, 1) := dk_92 (dk_at dksX3_carvesOne_2 8 rfl rfl)
theorem dX3_carvesOne_57 : decode cX3_carvesOne 57 = .ok (.iaload, 1) := dk_46 (dk_at dksX3_carvesOne_2 9 rfl rfl)
theorem dX3_carvesOne_58 : decode cX3_carvesOne 58 = .ok (.iconst 1, 1) := dk_4 (dk_at dksX3_carvesOne_2 10 rfl rfl)
theorem dX3_carvesOne_59 : decode cX3_carvesOne 59 = .ok (.iadd, 1) := dk_96 (dk_at dksX3_carvesOne_2 11 rfl rfl)
theorem dX3_carvesOne_60 : decode cX3_carvesOne 60 = .ok (.iastore, 1) := dk_79 (dk_at dksX3_carvesOne_2 12 rfl rfl)
theorem dX3_carvesOne_61 : decode cX3_carvesOne 61 = .ok (.goto 44, 3) := dk_167 0 44 (dk_at dksX3_carvesOne_2 13 rfl rfl)
theorem dX3_carvesOne_64 : decode cX3_carvesOne 64 = .ok (.aload_n 0, 1) := dk_42 (dk_at dksX3_carvesOne_2 16 rfl rfl)
theorem dX3_carvesOne_65 : decode cX3_carvesOne 65 = .ok (.aload_n 0, 1) := dk_42 (dk_at dksX3_carvesOne_2 17 rfl rfl)
theorem dX3_carvesOne_66 : decode cX3_carvesOne 66 = .ok (.getfield 9, 3) := dk_180 0 9 (dk_at dksX3_carvesOne_2 18 rfl rfl)
theorem dX3_carvesOne_69 : decode cX3_carvesOne 69 = .ok (.iconst 2, 1) := dk_5 (dk_at dksX3_carvesOne_2 21 rfl rfl)
theorem dX3_carvesOne_70 : decode cX3_carvesOne 70 = .ok (.iaload, 1) := dk_46 (dk_at dksX3_carvesOne_2 22 rfl rfl)
theorem dX3_carvesOne_71 : decode cX3_carvesOne 71 = .ok (.iload_n 2, 1) := dk_28 (dk_at dksX3_carvesOne_2 23 rfl rfl)
theorem dX3_carvesOne_72 : decode cX3_carvesOne 72 = .ok (.bipush 9, 2) := dk_16 9 (dk_at dksX3_carvesOne_3 0 rfl rfl)
theorem dX3_carvesOne_74 : decode cX3_carvesOne 74 = .ok (.iload_n 3, 1) := dk_29 (dk_at dksX3_carvesOne_3 2 rfl rfl)
theorem dX3_carvesOne_75 : decode cX3_carvesOne 75 = .ok (.invokestatic 88, 3) := dk_184 0 88 (dk_at dksX3_carvesOne_3 3 rfl rfl)
theorem dX3_carvesOne_78 : decode cX3_carvesOne 78 = .ok (.invokevirtual 117, 3) := dk_182 0 117 (dk_at dksX3_carvesOne_3 6 rfl rfl)
theorem dX3_carvesOne_81 : decode cX3_carvesOne 81 = .ok (.aload_n 0, 1) := dk_42 (dk_at dksX3_carvesOne_3 9 rfl rfl)
theorem dX3_carvesOne_82 : decode cX3_carvesOne 82 = .ok (.getfield 9, 3) := dk_180 0 9 (dk_at dksX3_carvesOne_3 10 rfl rfl)
theorem dX3_carvesOne_85 : decode cX3_carvesOne 85 = .ok (.iconst 2, 1) := dk_5 (dk_at dksX3_carvesOne_3 13 rfl rfl)
theorem dX3_carvesOne_86 : decode cX3_carvesOne 86 = .ok (.dup2, 1) := dk_92 (dk_at dksX3_carvesOne_3 14 rfl rfl)
theorem dX3_carvesOne_87 : decode cX3_carvesOne 87 = .ok (.iaload, 1) := dk_46 (dk_at dksX3_carvesOne_3 15 rfl rfl)
theorem dX3_carvesOne_88 : decode cX3_carvesOne 88 = .ok (.iconst 1, 1) := dk_4 (dk_at dksX3_carvesOne_3 16 rfl rfl)
theorem dX3_carvesOne_89 : decode cX3_carvesOne 89 = .ok (.iadd, 1) := dk_96 (dk_at dksX3_carvesOne_3 17 rfl rfl)
theorem dX3_carvesOne_90 : decode cX3_carvesOne 90 = .ok (.iastore, 1) := dk_79 (dk_at dksX3_carvesOne_3 18 rfl rfl)
theorem dX3_carvesOne_91 : decode cX3_carvesOne 91 = .ok (.aload_n 0, 1) := dk_42 (dk_at dksX3_carvesOne_3 19 rfl rfl)
theorem dX3_carvesOne_92 : decode cX3_carvesOne 92 = .ok (.getfield 9, 3) := dk_180 0 9 (dk_at dksX3_carvesOne_3 20 rfl rfl)
theorem dX3_carvesOne_95 : decode cX3_carvesOne 95 = .ok (.iload_n 1, 1) := dk_27 (dk_at dksX3_carvesOne_3 23 rfl rfl)
theorem dX3_carvesOne_96 : decode cX3_carvesOne 96 = .ok (.iconst 3, 1) := dk_6 (dk_at dksX3_carvesOne_4 0 rfl rfl)
theorem dX3_carvesOne_97 : decode cX3_carvesOne 97 = .ok (.invokestatic 99, 3) := dk_184 0 99 (dk_at dksX3_carvesOne_4 1 rfl rfl)
theorem dX3_carvesOne_100 : decode cX3_carvesOne 100 = .ok (.dup2, 1) := dk_92 (dk_at dksX3_carvesOne_4 4 rfl rfl)
theorem dX3_carvesOne_101 : decode cX3_carvesOne 101 = .ok (.iaload, 1) := dk_46 (dk_at dksX3_carvesOne_4 5 rfl rfl)
theorem dX3_carvesOne_102 : decode cX3_carvesOne 102 = .ok (.iconst 1, 1) := dk_4 (dk_at dksX3_carvesOne_4 6 rfl rfl)
theorem dX3_carvesOne_103 : decode cX3_carvesOne 103 = .ok (.iadd, 1) := dk_96 (dk_at dksX3_carvesOne_4 7 rfl rfl)
theorem dX3_carvesOne_104 : decode cX3_carvesOne 104 = .ok (.iastore, 1) := dk_79 (dk_at dksX3_carvesOne_4 8 rfl rfl)
theorem dX3_carvesOne_105 : decode cX3_carvesOne 105 = .ok (.aload_n 0, 1) := dk_42 (dk_at dksX3_carvesOne_4 9 rfl rfl)
theorem dX3_carvesOne_106 : decode cX3_carvesOne 106 = .ok (.getfield 9, 3) := dk_180 0 9 (dk_at dksX3_carvesOne_4 10 rfl rfl)
theorem dX3_carvesOne_109 : decode cX3_carvesOne 109 = .ok (.iload_n 1, 1) := dk_27 (dk_at dksX3_carvesOne_4 13 rfl rfl)
theorem dX3_carvesOne_110 : decode cX3_carvesOne 110 = .ok (.iconst 1, 1) := dk_4 (dk_at dksX3_carvesOne_4 14 rfl rfl)
theorem dX3_carvesOne_111 : decode cX3_carvesOne 111 = .ok (.invokestatic 99, 3) := dk_184 0 99 (dk_at dksX3_carvesOne_4 15 rfl rfl)
theorem dX3_carvesOne_114 : decode cX3_carvesOne 114 = .ok (.bipush 99, 2) := dk_16 99 (dk_at dksX3_carvesOne_4 18 rfl rfl)
theorem dX3_carvesOne_116 : decode cX3_carvesOne 116 = .ok (.aload_n 0, 1) := dk_42 (dk_at dksX3_carvesOne_4 20 rfl rfl)
theorem dX3_carvesOne_117 : decode cX3_carvesOne 117 = .ok (.getfield 9, 3) := dk_180 0 9 (dk_at dksX3_carvesOne_4 21 rfl rfl)
theorem dX3_carvesOne_120 : decode cX3_carvesOne 120 = .ok (.iload_n 1, 1) := dk_27 (dk_at dksX3_carvesOne_5 0 rfl rfl)
theorem dX3_carvesOne_121 : decode cX3_carvesOne 121 = .ok (.iconst 1, 1) := dk_4 (dk_at dksX3_carvesOne_5 1 rfl rfl)
theorem dX3_carvesOne_122 : decode cX3_carvesOne 122 = .ok (.invokestatic 99, 3) := dk_184 0 99 (dk_at dksX3_carvesOne_5 2 rfl rfl)
theorem dX3_carvesOne_125 : decode cX3_carvesOne 125 = .ok (.iaload, 1) := dk_46 (dk_at dksX3_carvesOne_5 5 rfl rfl)
theorem dX3_carvesOne_126 : decode cX3_carvesOne 126 = .ok (.iload_n 2, 1) := dk_28 (dk_at dksX3_carvesOne_5 6 rfl rfl)
theorem dX3_carvesOne_127 : decode cX3_carvesOne 127 = .ok (.ifCond .eq 7, 3) := dk_153 0 7 (dk_at dksX3_carvesOne_5 7 rfl rfl)
theorem dX3_carvesOne_130 : decode cX3_carvesOne 130 = .ok (.iconst 2, 1) := dk_5 (dk_at dksX3_carvesOne_5 10 rfl rfl)
theorem dX3_carvesOne_131 : decode cX3_carvesOne 131 = .ok (.goto 4, 3) := dk_167 0 4 (dk_at dksX3_carvesOne_5 11 rfl rfl)
theorem dX3_carvesOne_134 : decode cX3_carvesOne 134 = .ok (.iconst 3, 1) := dk_6 (dk_at dksX3_carvesOne_5 14 rfl rfl)
theorem dX3_carvesOne_135 : decode cX3_carvesOne 135 = .ok (.iadd, 1) := dk_96 (dk_at dksX3_carvesOne_5 15 rfl rfl)
theorem dX3_carvesOne_136 : decode cX3_carvesOne 136 = .ok (.invokestatic 88, 3) := dk_184 0 88 (dk_at dksX3_carvesOne_5 16 rfl rfl)
theorem dX3_carvesOne_139 : decode cX3_carvesOne 139 = .ok (.iastore, 1) := dk_79 (dk_at dksX3_carvesOne_5 19 rfl rfl)
theorem dX3_carvesOne_140 : decode cX3_carvesOne 140 = .ok (.return_, 1) := dk_177 (dk_at dksX3_carvesOne_5 20 rfl rfl)
abbrev cX3_sight : ByteArray := prog_33_method_21_code
def yX3_sight : MethodName := ⟨RX3, "sight", "(I)I"⟩
def dkwX3_sight_2 : List UInt8 := [184, 0, 99, 46, 16, 10, 108, 100, 172]
abbrev dktX3_sight_2 : List UInt8 := dkwX3_sight_2 ++ []
def dkwX3_sight_1 : List UInt8 := [155, 0, 16, 42, 180, 0, 9, 28, 3, 184, 0, 102, 46, 167, 0, 4, 3, 96, 42, 180, 0, 9, 27, 4]
abbrev dktX3_sight_1 : List UInt8 := dkwX3_sight_1 ++ dktX3_sight_2
def dkwX3_sight_0 : List UInt8 := [42, 180, 0, 9, 27, 5, 184, 0, 99, 46, 61, 42, 180, 0, 9, 27, 3, 184, 0, 99, 46, 28]
abbrev dktX3_sight_0 : List UInt8 := dkwX3_sight_0 ++ dktX3_sight_1
theorem dksX3_sight_0 : cX3_sight.data.toList.drop 0 = dktX3_sight_0 := by decide +kernel
theorem dksX3_sight_1 : cX3_sight.data.toList.drop 22 = dktX3_sight_1 := dk_seg dksX3_sight_0 22 rfl rfl
theorem dksX3_sight_2 : cX3_sight.data.toList.drop 46 = dktX3_sight_2 := dk_seg dksX3_sight_1 24 rfl rfl
theorem dX3_sight_0 : decode cX3_sight 0 = .ok (.aload_n 0, 1) := dk_42 (dk_at dksX3_sight_0 0 rfl rfl)
theorem dX3_sight_1 : decode cX3_sight 1 = .ok (.getfield 9, 3) := dk_180 0 9 (dk_at dksX3_sight_0 1 rfl rfl)
theorem dX3_sight_4 : decode cX3_sight 4 = .ok (.iload_n 1, 1) := dk_27 (dk_at dksX3_sight_0 4 rfl rfl)
theorem dX3_sight_5 : decode cX3_sight 5 = .ok (.iconst 2, 1) := dk_5 (dk_at dksX3_sight_0 5 rfl rfl)
theorem dX3_sight_6 : decode cX3_sight 6 = .ok (.invokestatic 99, 3) := dk_184 0 99 (dk_at dksX3_sight_0 6 rfl rfl)
theorem dX3_sight_9 : decode cX3_sight 9 = .ok (.iaload, 1) := dk_46 (dk_at dksX3_sight_0 9 rfl rfl)
theorem dX3_sight_10 : decode cX3_sight 10 = .ok (.istore_n 2, 1) := dk_61 (dk_at dksX3_sight_0 10 rfl rfl)
theorem dX3_sight_11 : decode cX3_sight 11 = .ok (.aload_n 0, 1) := dk_42 (dk_at dksX3_sight_0 11 rfl rfl)
theorem dX3_sight_12 : decode cX3_sight 12 = .ok (.getfield 9, 3) := dk_180 0 9 (dk_at dksX3_sight_0 12 rfl rfl)
theorem dX3_sight_15 : decode cX3_sight 15 = .ok (.iload_n 1, 1) := dk_27 (dk_at dksX3_sight_0 15 rfl rfl)
theorem dX3_sight_16 : decode cX3_sight 16 = .ok (.iconst 0, 1) := dk_3 (dk_at dksX3_sight_0 16 rfl rfl)
theorem dX3_sight_17 : decode cX3_sight 17 = .ok (.invokestatic 99, 3) := dk_184 0 99 (dk_at dksX3_sight_0 17 rfl rfl)
theorem dX3_sight_20 : decode cX3_sight 20 = .ok (.iaload, 1) := dk_46 (dk_at dksX3_sight_0 20 rfl rfl)
theorem dX3_sight_21 : decode cX3_sight 21 = .ok (.iload_n 2, 1) := dk_28 (dk_at dksX3_sight_0 21 rfl rfl)
theorem dX3_sight_22 : decode cX3_sight 22 = .ok (.ifCond .lt 16, 3) := dk_155 0 16 (dk_at dksX3_sight_1 0 rfl rfl)
theorem dX3_sight_25 : decode cX3_sight 25 = .ok (.aload_n 0, 1) := dk_42 (dk_at dksX3_sight_1 3 rfl rfl)
theorem dX3_sight_26 : decode cX3_sight 26 = .ok (.getfield 9, 3) := dk_180 0 9 (dk_at dksX3_sight_1 4 rfl rfl)
theorem dX3_sight_29 : decode cX3_sight 29 = .ok (.iload_n 2, 1) := dk_28 (dk_at dksX3_sight_1 7 rfl rfl)
theorem dX3_sight_30 : decode cX3_sight 30 = .ok (.iconst 0, 1) := dk_3 (dk_at dksX3_sight_1 8 rfl rfl)
theorem dX3_sight_31 : decode cX3_sight 31 = .ok (.invokestatic 102, 3) := dk_184 0 102 (dk_at dksX3_sight_1 9 rfl rfl)
theorem dX3_sight_34 : decode cX3_sight 34 = .ok (.iaload, 1) := dk_46 (dk_at dksX3_sight_1 12 rfl rfl)
theorem dX3_sight_35 : decode cX3_sight 35 = .ok (.goto 4, 3) := dk_167 0 4 (dk_at dksX3_sight_1 13 rfl rfl)
theorem dX3_sight_38 : decode cX3_sight 38 = .ok (.iconst 0, 1) := dk_3 (dk_at dksX3_sight_1 16 rfl rfl)
theorem dX3_sight_39 : decode cX3_sight 39 = .ok (.iadd, 1) := dk_96 (dk_at dksX3_sight_1 17 rfl rfl)
theorem dX3_sight_40 : decode cX3_sight 40 = .ok (.aload_n 0, 1) := dk_42 (dk_at dksX3_sight_1 18 rfl rfl)
theorem dX3_sight_41 : decode cX3_sight 41 = .ok (.getfield 9, 3) := dk_180 0 9 (dk_at dksX3_sight_1 19 rfl rfl)
theorem dX3_sight_44 : decode cX3_sight 44 = .ok (.iload_n 1, 1) := dk_27 (dk_at dksX3_sight_1 22 rfl rfl)
theorem dX3_sight_45 : decode cX3_sight 45 = .ok (.iconst 1, 1) := dk_4 (dk_at dksX3_sight_1 23 rfl rfl)
theorem dX3_sight_46 : decode cX3_sight 46 = .ok (.invokestatic 99, 3) := dk_184 0 99 (dk_at dksX3_sight_2 0 rfl rfl)
theorem dX3_sight_49 : decode cX3_sight 49 = .ok (.iaload, 1) := dk_46 (dk_at dksX3_sight_2 3 rfl rfl)
theorem dX3_sight_50 : decode cX3_sight 50 = .ok (.bipush 10, 2) := dk_16 10 (dk_at dksX3_sight_2 4 rfl rfl)
theorem dX3_sight_52 : decode cX3_sight 52 = .ok (.idiv, 1) := dk_108 (dk_at dksX3_sight_2 6 rfl rfl)
theorem dX3_sight_53 : decode cX3_sight 53 = .ok (.isub, 1) := dk_100 (dk_at dksX3_sight_2 7 rfl rfl)
theorem dX3_sight_54 : decode cX3_sight 54 = .ok (.ireturn, 1) := dk_172 (dk_at dksX3_sight_2 8 rfl rfl)
abbrev cX3_comesToBox : ByteArray := prog_33_method_23_code
def yX3_comesToBox : MethodName := ⟨RX3, "comesToBox", "(IZI)V"⟩
def dkwX3_comesToBox_2 : List UInt8 := [21, 4, 5, 184, 0, 111, 29, 79, 42, 180, 0, 9, 16, 11, 92, 46, 4, 96, 79, 177]
abbrev dktX3_comesToBox_2 : List UInt8 := dkwX3_comesToBox_2 ++ []
def dkwX3_comesToBox_1 : List UInt8 := [180, 0, 9, 21, 4, 4, 184, 0, 111, 28, 153, 0, 7, 4, 167, 0, 4, 3, 79, 42, 180, 0, 9]
abbrev dktX3_comesToBox_1 : List UInt8 := dkwX3_comesToBox_1 ++ dktX3_comesToBox_2
def dkwX3_comesToBox_0 : List UInt8 := [42, 180, 0, 9, 16, 11, 46, 54, 4, 42, 180, 0, 9, 21, 4, 3, 184, 0, 111, 27, 79, 42]
abbrev dktX3_comesToBox_0 : List UInt8 := dkwX3_comesToBox_0 ++ dktX3_comesToBox_1
theorem dksX3_comesToBox_0 : cX3_comesToBox.data.toList.drop 0 = dktX3_comesToBox_0 := by decide +kernel
theorem dksX3_comesToBox_1 : cX3_comesToBox.data.toList.drop 22 = dktX3_comesToBox_1 := dk_seg dksX3_comesToBox_0 22 rfl rfl
theorem dksX3_comesToBox_2 : cX3_comesToBox.data.toList.drop 45 = dktX3_comesToBox_2 := dk_seg dksX3_comesToBox_1 23 rfl rfl
theorem dX3_comesToBox_0 : decode cX3_comesToBox 0 = .ok (.aload_n 0, 1) := dk_42 (dk_at dksX3_comesToBox_0 0 rfl rfl)
theorem dX3_comesToBox_1 : decode cX3_comesToBox 1 = .ok (.getfield 9, 3) := dk_180 0 9 (dk_at dksX3_comesToBox_0 1 rfl rfl)
theorem dX3_comesToBox_4 : decode cX3_comesToBox 4 = .ok (.bipush 11, 2) := dk_16 11 (dk_at dksX3_comesToBox_0 4 rfl rfl)
theorem dX3_comesToBox_6 : decode cX3_comesToBox 6 = .ok (.iaload, 1) := dk_46 (dk_at dksX3_comesToBox_0 6 rfl rfl)
theorem dX3_comesToBox_7 : decode cX3_comesToBox 7 = .ok (.istore 4, 2) := dk_54 4 (dk_at dksX3_comesToBox_0 7 rfl rfl)
theorem dX3_comesToBox_9 : decode cX3_comesToBox 9 = .ok (.aload_n 0, 1) := dk_42 (dk_at dksX3_comesToBox_0 9 rfl rfl)
theorem dX3_comesToBox_10 : decode cX3_comesToBox 10 = .ok (.getfield 9, 3) := dk_180 0 9 (dk_at dksX3_comesToBox_0 10 rfl rfl)
theorem dX3_comesToBox_13 : decode cX3_comesToBox 13 = .ok (.iload 4, 2) := dk_21 4 (dk_at dksX3_comesToBox_0 13 rfl rfl)
theorem dX3_comesToBox_15 : decode cX3_comesToBox 15 = .ok (.iconst 0, 1) := dk_3 (dk_at dksX3_comesToBox_0 15 rfl rfl)
theorem dX3_comesToBox_16 : decode cX3_comesToBox 16 = .ok (.invokestatic 111, 3) := dk_184 0 111 (dk_at dksX3_comesToBox_0 16 rfl rfl)
theorem dX3_comesToBox_19 : decode cX3_comesToBox 19 = .ok (.iload_n 1, 1) := dk_27 (dk_at dksX3_comesToBox_0 19 rfl rfl)
theorem dX3_comesToBox_20 : decode cX3_comesToBox 20 = .ok (.iastore, 1) := dk_79 (dk_at dksX3_comesToBox_0 20 rfl rfl)
theorem dX3_comesToBox_21 : decode cX3_comesToBox 21 = .ok (.aload_n 0, 1) := dk_42 (dk_at dksX3_comesToBox_0 21 rfl rfl)
theorem dX3_comesToBox_22 : decode cX3_comesToBox 22 = .ok (.getfield 9, 3) := dk_180 0 9 (dk_at dksX3_comesToBox_1 0 rfl rfl)
theorem dX3_comesToBox_25 : decode cX3_comesToBox 25 = .ok (.iload 4, 2) := dk_21 4 (dk_at dksX3_comesToBox_1 3 rfl rfl)
theorem dX3_comesToBox_27 : decode cX3_comesToBox 27 = .ok (.iconst 1, 1) := dk_4 (dk_at dksX3_comesToBox_1 5 rfl rfl)
theorem dX3_comesToBox_28 : decode cX3_comesToBox 28 = .ok (.invokestatic 111, 3) := dk_184 0 111 (dk_at dksX3_comesToBox_1 6 rfl rfl)
theorem dX3_comesToBox_31 : decode cX3_comesToBox 31 = .ok (.iload_n 2, 1) := dk_28 (dk_at dksX3_comesToBox_1 9 rfl rfl)
theorem dX3_comesToBox_32 : decode cX3_comesToBox 32 = .ok (.ifCond .eq 7, 3) := dk_153 0 7 (dk_at dksX3_comesToBox_1 10 rfl rfl)
theorem dX3_comesToBox_35 : decode cX3_comesToBox 35 = .ok (.iconst 1, 1) := dk_4 (dk_at dksX3_comesToBox_1 13 rfl rfl)
theorem dX3_comesToBox_36 : decode cX3_comesToBox 36 = .ok (.goto 4, 3) := dk_167 0 4 (dk_at dksX3_comesToBox_1 14 rfl rfl)
theorem dX3_comesToBox_39 : decode cX3_comesToBox 39 = .ok (.iconst 0, 1) := dk_3 (dk_at dksX3_comesToBox_1 17 rfl rfl)
theorem dX3_comesToBox_40 : decode cX3_comesToBox 40 = .ok (.iastore, 1) := dk_79 (dk_at dksX3_comesToBox_1 18 rfl rfl)
theorem dX3_comesToBox_41 : decode cX3_comesToBox 41 = .ok (.aload_n 0, 1) := dk_42 (dk_at dksX3_comesToBox_1 19 rfl rfl)
theorem dX3_comesToBox_42 : decode cX3_comesToBox 42 = .ok (.getfield 9, 3) := dk_180 0 9 (dk_at dksX3_comesToBox_1 20 rfl rfl)
theorem dX3_comesToBox_45 : decode cX3_comesToBox 45 = .ok (.iload 4, 2) := dk_21 4 (dk_at dksX3_comesToBox_2 0 rfl rfl)
theorem dX3_comesToBox_47 : decode cX3_comesToBox 47 = .ok (.iconst 2, 1) := dk_5 (dk_at dksX3_comesToBox_2 2 rfl rfl)
theorem dX3_comesToBox_48 : decode cX3_comesToBox 48 = .ok (.invokestatic 111, 3) := dk_184 0 111 (dk_at dksX3_comesToBox_2 3 rfl rfl)
theorem dX3_comesToBox_51 : decode cX3_comesToBox 51 = .ok (.iload_n 3, 1) := dk_29 (dk_at dksX3_comesToBox_2 6 rfl rfl)
theorem dX3_comesToBox_52 : decode cX3_comesToBox 52 = .ok (.iastore, 1) := dk_79 (dk_at dksX3_comesToBox_2 7 rfl rfl)
theorem dX3_comesToBox_53 : decode cX3_comesToBox 53 = .ok (.aload_n 0, 1) := dk_42 (dk_at dksX3_comesToBox_2 8 rfl rfl)
theorem dX3_comesToBox_54 : decode cX3_comesToBox 54 = .ok (.getfield 9, 3) := dk_180 0 9 (dk_at dksX3_comesToBox_2 9 rfl rfl)
theorem dX3_comesToBox_57 : decode cX3_comesToBox 57 = .ok (.bipush 11, 2) := dk_16 11 (dk_at dksX3_comesToBox_2 12 rfl rfl)
theorem dX3_comesToBox_59 : decode cX3_comesToBox 59 = .ok (.dup2, 1) := dk_92 (dk_at dksX3_comesToBox_2 14 rfl rfl)
theorem dX3_comesToBox_60 : decode cX3_comesToBox 60 = .ok (.iaload, 1) := dk_46 (dk_at dksX3_comesToBox_2 15 rfl rfl)
theorem dX3_comesToBox_61 : decode cX3_comesToBox 61 = .ok (.iconst 1, 1) := dk_4 (dk_at dksX3_comesToBox_2 16 rfl rfl)
theorem dX3_comesToBox_62 : decode cX3_comesToBox 62 = .ok (.iadd, 1) := dk_96 (dk_at dksX3_comesToBox_2 17 rfl rfl)
theorem dX3_comesToBox_63 : decode cX3_comesToBox 63 = .ok (.iastore, 1) := dk_79 (dk_at dksX3_comesToBox_2 18 rfl rfl)
theorem dX3_comesToBox_64 : decode cX3_comesToBox 64 = .ok (.return_, 1) := dk_177 (dk_at dksX3_comesToBox_2 19 rfl rfl)
abbrev cX3_boxAt : ByteArray := prog_33_method_22_code
def yX3_boxAt : MethodName := ⟨RX3, "boxAt", "(II)I"⟩
def dkwX3_boxAt_0 : List UInt8 := [16, 44, 6, 26, 104, 96, 27, 96, 172]
abbrev dktX3_boxAt_0 : List UInt8 := dkwX3_boxAt_0 ++ []
theorem dksX3_boxAt_0 : cX3_boxAt.data.toList.drop 0 = dktX3_boxAt_0 := by decide +kernel
theorem dX3_boxAt_0 : decode cX3_boxAt 0 = .ok (.bipush 44, 2) := dk_16 44 (dk_at dksX3_boxAt_0 0 rfl rfl)
theorem dX3_boxAt_2 : decode cX3_boxAt 2 = .ok (.iconst 3, 1) := dk_6 (dk_at dksX3_boxAt_0 2 rfl rfl)
theorem dX3_boxAt_3 : decode cX3_boxAt 3 = .ok (.iload_n 0, 1) := dk_26 (dk_at dksX3_boxAt_0 3 rfl rfl)
theorem dX3_boxAt_4 : decode cX3_boxAt 4 = .ok (.imul, 1) := dk_104 (dk_at dksX3_boxAt_0 4 rfl rfl)
theorem dX3_boxAt_5 : decode cX3_boxAt 5 = .ok (.iadd, 1) := dk_96 (dk_at dksX3_boxAt_0 5 rfl rfl)
theorem dX3_boxAt_6 : decode cX3_boxAt 6 = .ok (.iload_n 1, 1) := dk_27 (dk_at dksX3_boxAt_0 6 rfl rfl)
theorem dX3_boxAt_7 : decode cX3_boxAt 7 = .ok (.iadd, 1) := dk_96 (dk_at dksX3_boxAt_0 7 rfl rfl)
theorem dX3_boxAt_8 : decode cX3_boxAt 8 = .ok (.ireturn, 1) := dk_172 (dk_at dksX3_boxAt_0 8 rfl rfl)
abbrev cX3_finest : ByteArray := prog_33_method_28_code
def yX3_finest : MethodName := ⟨RX3, "finest", "(Z)I"⟩
def dkwX3_finest_1 : List UInt8 := [46, 172]
abbrev dktX3_finest_1 : List UInt8 := dkwX3_finest_1 ++ []
def dkwX3_finest_0 : List UInt8 := [42, 27, 182, 0, 129, 61, 28, 156, 0, 8, 16, 250, 167, 0, 13, 42, 180, 0, 9, 28, 3, 184, 0, 111]
abbrev dktX3_finest_0 : List UInt8 := dkwX3_finest_0 ++ dktX3_finest_1
theorem dksX3_finest_0 : cX3_finest.data.toList.drop 0 = dktX3_finest_0 := by decide +kernel
theorem dksX3_finest_1 : cX3_finest.data.toList.drop 24 = dktX3_finest_1 := dk_seg dksX3_finest_0 24 rfl rfl
theorem dX3_finest_0 : decode cX3_finest 0 = .ok (.aload_n 0, 1) := dk_42 (dk_at dksX3_finest_0 0 rfl rfl)
theorem dX3_finest_1 : decode cX3_finest 1 = .ok (.iload_n 1, 1) := dk_27 (dk_at dksX3_finest_0 1 rfl rfl)
theorem dX3_finest_2 : decode cX3_finest 2 = .ok (.invokevirtual 129, 3) := dk_182 0 129 (dk_at dksX3_finest_0 2 rfl rfl)
theorem dX3_finest_5 : decode cX3_finest 5 = .ok (.istore_n 2, 1) := dk_61 (dk_at dksX3_finest_0 5 rfl rfl)
theorem dX3_finest_6 : decode cX3_finest 6 = .ok (.iload_n 2, 1) := dk_28 (dk_at dksX3_finest_0 6 rfl rfl)
theorem dX3_finest_7 : decode cX3_finest 7 = .ok (.ifCond .ge 8, 3) := dk_156 0 8 (dk_at dksX3_finest_0 7 rfl rfl)
theorem dX3_finest_10 : decode cX3_finest 10 = .ok (.bipush (-6), 2) := dk_16 250 (dk_at dksX3_finest_0 10 rfl rfl)
theorem dX3_finest_12 : decode cX3_finest 12 = .ok (.goto 13, 3) := dk_167 0 13 (dk_at dksX3_finest_0 12 rfl rfl)
theorem dX3_finest_15 : decode cX3_finest 15 = .ok (.aload_n 0, 1) := dk_42 (dk_at dksX3_finest_0 15 rfl rfl)
theorem dX3_finest_16 : decode cX3_finest 16 = .ok (.getfield 9, 3) := dk_180 0 9 (dk_at dksX3_finest_0 16 rfl rfl)
theorem dX3_finest_19 : decode cX3_finest 19 = .ok (.iload_n 2, 1) := dk_28 (dk_at dksX3_finest_0 19 rfl rfl)
theorem dX3_finest_20 : decode cX3_finest 20 = .ok (.iconst 0, 1) := dk_3 (dk_at dksX3_finest_0 20 rfl rfl)
theorem dX3_finest_21 : decode cX3_finest 21 = .ok (.invokestatic 111, 3) := dk_184 0 111 (dk_at dksX3_finest_0 21 rfl rfl)
theorem dX3_finest_24 : decode cX3_finest 24 = .ok (.iaload, 1) := dk_46 (dk_at dksX3_finest_1 0 rfl rfl)
theorem dX3_finest_25 : decode cX3_finest 25 = .ok (.ireturn, 1) := dk_172 (dk_at dksX3_finest_1 1 rfl rfl)
abbrev cX3_finestPlace : ByteArray := prog_33_method_27_code
def yX3_finestPlace : MethodName := ⟨RX3, "finestPlace", "(Z)I"⟩
def dkwX3_finestPlace_4 : List UInt8 := [28, 3, 184, 0, 111, 46, 162, 0, 7, 29, 167, 0, 4, 28, 61, 132, 3, 1, 167, 255, 147, 28, 172]
abbrev dktX3_finestPlace_4 : List UInt8 := dkwX3_finestPlace_4 ++ []
def dkwX3_finestPlace_3 : List UInt8 := [21, 4, 157, 0, 31, 21, 4, 154, 0, 30, 42, 180, 0, 9, 29, 3, 184, 0, 111, 46, 42, 180, 0, 9]
abbrev dktX3_finestPlace_3 : List UInt8 := dkwX3_finestPlace_3 ++ dktX3_finestPlace_4
def dkwX3_finestPlace_2 : List UInt8 := [42, 180, 0, 9, 29, 5, 184, 0, 111, 46, 42, 180, 0, 9, 28, 5, 184, 0, 111, 46, 100, 54, 4]
abbrev dktX3_finestPlace_2 : List UInt8 := dkwX3_finestPlace_2 ++ dktX3_finestPlace_3
def dkwX3_finestPlace_1 : List UInt8 := [46, 27, 153, 0, 7, 4, 167, 0, 4, 3, 159, 0, 6, 167, 0, 73, 28, 156, 0, 7, 4, 167, 0, 24]
abbrev dktX3_finestPlace_1 : List UInt8 := dkwX3_finestPlace_1 ++ dktX3_finestPlace_2
def dkwX3_finestPlace_0 : List UInt8 := [2, 61, 3, 62, 29, 42, 180, 0, 9, 16, 11, 46, 162, 0, 104, 42, 180, 0, 9, 29, 4, 184, 0, 111]
abbrev dktX3_finestPlace_0 : List UInt8 := dkwX3_finestPlace_0 ++ dktX3_finestPlace_1
theorem dksX3_finestPlace_0 : cX3_finestPlace.data.toList.drop 0 = dktX3_finestPlace_0 := by decide +kernel
theorem dksX3_finestPlace_1 : cX3_finestPlace.data.toList.drop 24 = dktX3_finestPlace_1 := dk_seg dksX3_finestPlace_0 24 rfl rfl
theorem dksX3_finestPlace_2 : cX3_finestPlace.data.toList.drop 48 = dktX3_finestPlace_2 := dk_seg dksX3_finestPlace_1 24 rfl rfl
theorem dksX3_finestPlace_3 : cX3_finestPlace.data.toList.drop 71 = dktX3_finestPlace_3 := dk_seg dksX3_finestPlace_2 23 rfl rfl
theorem dksX3_finestPlace_4 : cX3_finestPlace.data.toList.drop 95 = dktX3_finestPlace_4 := dk_seg dksX3_finestPlace_3 24 rfl rfl
theorem dX3_finestPlace_0 : decode cX3_finestPlace 0 = .ok (.iconst (-1), 1) := dk_2 (dk_at dksX3_finestPlace_0 0 rfl rfl)
theorem dX3_finestPlace_1 : decode cX3_finestPlace 1 = .ok (.istore_n 2, 1) := dk_61 (dk_at dksX3_finestPlace_0 1 rfl rfl)
theorem dX3_finestPlace_2 : decode cX3_finestPlace 2 = .ok (.iconst 0, 1) := dk_3 (dk_at dksX3_finestPlace_0 2 rfl rfl)
theorem dX3_finestPlace_3 : decode cX3_finestPlace 3 = .ok (.istore_n 3, 1) := dk_62 (dk_at dksX3_finestPlace_0 3 rfl rfl)
theorem dX3_finestPlace_4 : decode cX3_finestPlace 4 = .ok (.iload_n 3, 1) := dk_29 (dk_at dksX3_finestPlace_0 4 rfl rfl)
theorem dX3_finestPlace_5 : decode cX3_finestPlace 5 = .ok (.aload_n 0, 1) := dk_42 (dk_at dksX3_finestPlace_0 5 rfl rfl)
theorem dX3_finestPlace_6 : decode cX3_finestPlace 6 = .ok (.getfield 9, 3) := dk_180 0 9 (dk_at dksX3_finestPlace_0 6 rfl rfl)
theorem dX3_finestPlace_9 : decode cX3_finestPlace 9 = .ok (.bipush 11, 2) := dk_16 11 (dk_at dksX3_finestPlace_0 9 rfl rfl)
theorem dX3_finestPlace_11 : decode cX3_finestPlace 11 = .ok (.iaload, 1) := dk_46 (dk_at dksX3_finestPlace_0 11 rfl rfl)
theorem dX3_finestPlace_12 : decode cX3_finestPlace 12 = .ok (.if_icmp .ge 104, 3) := dk_162 0 104 (dk_at dksX3_finestPlace_0 12 rfl rfl)
theorem dX3_finestPlace_15 : decode cX3_finestPlace 15 = .ok (.aload_n 0, 1) := dk_42 (dk_at dksX3_finestPlace_0 15 rfl rfl)
theorem dX3_finestPlace_16 : decode cX3_finestPlace 16 = .ok (.getfield 9, 3) := dk_180 0 9 (dk_at dksX3_finestPlace_0 16 rfl rfl)
theorem dX3_finestPlace_19 : decode cX3_finestPlace 19 = .ok (.iload_n 3, 1) := dk_29 (dk_at dksX3_finestPlace_0 19 rfl rfl)
theorem dX3_finestPlace_20 : decode cX3_finestPlace 20 = .ok (.iconst 1, 1) := dk_4 (dk_at dksX3_finestPlace_0 20 rfl rfl)
theorem dX3_finestPlace_21 : decode cX3_finestPlace 21 = .ok (.invokestatic 111, 3) := dk_184 0 111 (dk_at dksX3_finestPlace_0 21 rfl rfl)
theorem dX3_finestPlace_24 : decode cX3_finestPlace 24 = .ok (.iaload, 1) := dk_46 (dk_at dksX3_finestPlace_1 0 rfl rfl)
theorem dX3_finestPlace_25 : decode cX3_finestPlace 25 = .ok (.iload_n 1, 1) := dk_27 (dk_at dksX3_finestPlace_1 1 rfl rfl)
theorem dX3_finestPlace_26 : decode cX3_finestPlace 26 = .ok (.ifCond .eq 7, 3) := dk_153 0 7 (dk_at dksX3_finestPlace_1 2 rfl rfl)
theorem dX3_finestPlace_29 : decode cX3_finestPlace 29 = .ok (.iconst 1, 1) := dk_4 (dk_at dksX3_finestPlace_1 5 rfl rfl)
theorem dX3_finestPlace_30 : decode cX3_finestPlace 30 = .ok (.goto 4, 3) := dk_167 0 4 (dk_at dksX3_finestPlace_1 6 rfl rfl)
theorem dX3_finestPlace_33 : decode cX3_finestPlace 33 = .ok (.iconst 0, 1) := dk_3 (dk_at dksX3_finestPlace_1 9 rfl rfl)
theorem dX3_finestPlace_34 : decode cX3_finestPlace 34 = .ok (.if_icmp .eq 6, 3) := dk_159 0 6 (dk_at dksX3_finestPlace_1 10 rfl rfl)
theorem dX3_finestPlace_37 : decode cX3_finestPlace 37 = .ok (.goto 73, 3) := dk_167 0 73 (dk_at dksX3_finestPlace_1 13 rfl rfl)
theorem dX3_finestPlace_40 : decode cX3_finestPlace 40 = .ok (.iload_n 2, 1) := dk_28 (dk_at dksX3_finestPlace_1 16 rfl rfl)
theorem dX3_finestPlace_41 : decode cX3_finestPlace 41 = .ok (.ifCond .ge 7, 3) := dk_156 0 7 (dk_at dksX3_finestPlace_1 17 rfl rfl)
theorem dX3_finestPlace_44 : decode cX3_finestPlace 44 = .ok (.iconst 1, 1) := dk_4 (dk_at dksX3_finestPlace_1 20 rfl rfl)
theorem dX3_finestPlace_45 : decode cX3_finestPlace 45 = .ok (.goto 24, 3) := dk_167 0 24 (dk_at dksX3_finestPlace_1 21 rfl rfl)
theorem dX3_finestPlace_48 : decode cX3_finestPlace 48 = .ok (.aload_n 0, 1) := dk_42 (dk_at dksX3_finestPlace_2 0 rfl rfl)
theorem dX3_finestPlace_49 : decode cX3_finestPlace 49 = .ok (.getfield 9, 3) := dk_180 0 9 (dk_at dksX3_finestPlace_2 1 rfl rfl)
theorem dX3_finestPlace_52 : decode cX3_finestPlace 52 = .ok (.iload_n 3, 1) := dk_29 (dk_at dksX3_finestPlace_2 4 rfl rfl)
theorem dX3_finestPlace_53 : decode cX3_finestPlace 53 = .ok (.iconst 2, 1) := dk_5 (dk_at dksX3_finestPlace_2 5 rfl rfl)
theorem dX3_finestPlace_54 : decode cX3_finestPlace 54 = .ok (.invokestatic 111, 3) := dk_184 0 111 (dk_at dksX3_finestPlace_2 6 rfl rfl)
theorem dX3_finestPlace_57 : decode cX3_finestPlace 57 = .ok (.iaload, 1) := dk_46 (dk_at dksX3_finestPlace_2 9 rfl rfl)
theorem dX3_finestPlace_58 : decode cX3_finestPlace 58 = .ok (.aload_n 0, 1) := dk_42 (dk_at dksX3_finestPlace_2 10 rfl rfl)
theorem dX3_finestPlace_59 : decode cX3_finestPlace 59 = .ok (.getfield 9, 3) := dk_180 0 9 (dk_at dksX3_finestPlace_2 11 rfl rfl)
theorem dX3_finestPlace_62 : decode cX3_finestPlace 62 = .ok (.iload_n 2, 1) := dk_28 (dk_at dksX3_finestPlace_2 14 rfl rfl)
theorem dX3_finestPlace_63 : decode cX3_finestPlace 63 = .ok (.iconst 2, 1) := dk_5 (dk_at dksX3_finestPlace_2 15 rfl rfl)
theorem dX3_finestPlace_64 : decode cX3_finestPlace 64 = .ok (.invokestatic 111, 3) := dk_184 0 111 (dk_at dksX3_finestPlace_2 16 rfl rfl)
theorem dX3_finestPlace_67 : decode cX3_finestPlace 67 = .ok (.iaload, 1) := dk_46 (dk_at dksX3_finestPlace_2 19 rfl rfl)
theorem dX3_finestPlace_68 : decode cX3_finestPlace 68 = .ok (.isub, 1) := dk_100 (dk_at dksX3_finestPlace_2 20 rfl rfl)
theorem dX3_finestPlace_69 : decode cX3_finestPlace 69 = .ok (.istore 4, 2) := dk_54 4 (dk_at dksX3_finestPlace_2 21 rfl rfl)
theorem dX3_finestPlace_71 : decode cX3_finestPlace 71 = .ok (.iload 4, 2) := dk_21 4 (dk_at dksX3_finestPlace_3 0 rfl rfl)
theorem dX3_finestPlace_73 : decode cX3_finestPlace 73 = .ok (.ifCond .gt 31, 3) := dk_157 0 31 (dk_at dksX3_finestPlace_3 2 rfl rfl)
theorem dX3_finestPlace_76 : decode cX3_finestPlace 76 = .ok (.iload 4, 2) := dk_21 4 (dk_at dksX3_finestPlace_3 5 rfl rfl)
theorem dX3_finestPlace_78 : decode cX3_finestPlace 78 = .ok (.ifCond .ne 30, 3) := dk_154 0 30 (dk_at dksX3_finestPlace_3 7 rfl rfl)
theorem dX3_finestPlace_81 : decode cX3_finestPlace 81 = .ok (.aload_n 0, 1) := dk_42 (dk_at dksX3_finestPlace_3 10 rfl rfl)
theorem dX3_finestPlace_82 : decode cX3_finestPlace 82 = .ok (.getfield 9, 3) := dk_180 0 9 (dk_at dksX3_finestPlace_3 11 rfl rfl)
theorem dX3_finestPlace_85 : decode cX3_finestPlace 85 = .ok (.iload_n 3, 1) := dk_29 (dk_at dksX3_finestPlace_3 14 rfl rfl)
theorem dX3_finestPlace_86 : decode cX3_finestPlace 86 = .ok (.iconst 0, 1) := dk_3 (dk_at dksX3_finestPlace_3 15 rfl rfl)
theorem dX3_finestPlace_87 : decode cX3_finestPlace 87 = .ok (.invokestatic 111, 3) := dk_184 0 111 (dk_at dksX3_finestPlace_3 16 rfl rfl)
theorem dX3_finestPlace_90 : decode cX3_finestPlace 90 = .ok (.iaload, 1) := dk_46 (dk_at dksX3_finestPlace_3 19 rfl rfl)
theorem dX3_finestPlace_91 : decode cX3_finestPlace 91 = .ok (.aload_n 0, 1) := dk_42 (dk_at dksX3_finestPlace_3 20 rfl rfl)
theorem dX3_finestPlace_92 : decode cX3_finestPlace 92 = .ok (.getfield 9, 3) := dk_180 0 9 (dk_at dksX3_finestPlace_3 21 rfl rfl)
theorem dX3_finestPlace_95 : decode cX3_finestPlace 95 = .ok (.iload_n 2, 1) := dk_28 (dk_at dksX3_finestPlace_4 0 rfl rfl)
theorem dX3_finestPlace_96 : decode cX3_finestPlace 96 = .ok (.iconst 0, 1) := dk_3 (dk_at dksX3_finestPlace_4 1 rfl rfl)
theorem dX3_finestPlace_97 : decode cX3_finestPlace 97 = .ok (.invokestatic 111, 3) := dk_184 0 111 (dk_at dksX3_finestPlace_4 2 rfl rfl)
theorem dX3_finestPlace_100 : decode cX3_finestPlace 100 = .ok (.iaload, 1) := dk_46 (dk_at dksX3_finestPlace_4 5 rfl rfl)
theorem dX3_finestPlace_101 : decode cX3_finestPlace 101 = .ok (.if_icmp .ge 7, 3) := dk_162 0 7 (dk_at dksX3_finestPlace_4 6 rfl rfl)
theorem dX3_finestPlace_104 : decode cX3_finestPlace 104 = .ok (.iload_n 3, 1) := dk_29 (dk_at dksX3_finestPlace_4 9 rfl rfl)
theorem dX3_finestPlace_105 : decode cX3_finestPlace 105 = .ok (.goto 4, 3) := dk_167 0 4 (dk_at dksX3_finestPlace_4 10 rfl rfl)
theorem dX3_finestPlace_108 : decode cX3_finestPlace 108 = .ok (.iload_n 2, 1) := dk_28 (dk_at dksX3_finestPlace_4 13 rfl rfl)
theorem dX3_finestPlace_109 : decode cX3_finestPlace 109 = .ok (.istore_n 2, 1) := dk_61 (dk_at dksX3_finestPlace_4 14 rfl rfl)
theorem dX3_finestPlace_110 : decode cX3_finestPlace 110 = .ok (.iinc 3 1, 3) := dk_132 3 1 (dk_at dksX3_finestPlace_4 15 rfl rfl)
theorem dX3_finestPlace_113 : decode cX3_finestPlace 113 = .ok (.goto (-109), 3) := dk_167 255 147 (dk_at dksX3_finestPlace_4 18 rfl rfl)
theorem dX3_finestPlace_116 : decode cX3_finestPlace 116 = .ok (.iload_n 2, 1) := dk_28 (dk_at dksX3_finestPlace_4 21 rfl rfl)
theorem dX3_finestPlace_117 : decode cX3_finestPlace 117 = .ok (.ireturn, 1) := dk_172 (dk_at dksX3_finestPlace_4 22 rfl rfl)
abbrev cX3_finestAgain : ByteArray := prog_33_method_29_code
def yX3_finestAgain : MethodName := ⟨RX3, "finestAgain", "(Z)I"⟩
def dkwX3_finestAgain_5 : List UInt8 := [167, 255, 154, 29, 16, 250, 159, 0, 5, 29, 172, 132, 2, 255, 167, 255, 130, 16, 250, 172]
abbrev dktX3_finestAgain_5 : List UInt8 := dkwX3_finestAgain_5 ++ []
def dkwX3_finestAgain_4 : List UInt8 := [29, 162, 0, 17, 42, 180, 0, 9, 21, 4, 3, 184, 0, 111, 46, 167, 0, 4, 29, 62, 132, 4, 1]
abbrev dktX3_finestAgain_4 : List UInt8 := dkwX3_finestAgain_4 ++ dktX3_finestAgain_5
def dkwX3_finestAgain_3 : List UInt8 := [54, 5, 21, 5, 153, 0, 38, 29, 16, 250, 159, 0, 18, 42, 180, 0, 9, 21, 4, 3, 184, 0, 111, 46]
abbrev dktX3_finestAgain_3 : List UInt8 := dkwX3_finestAgain_3 ++ dktX3_finestAgain_4
def dkwX3_finestAgain_2 : List UInt8 := [160, 0, 22, 42, 180, 0, 9, 21, 4, 5, 184, 0, 111, 46, 28, 160, 0, 7, 4, 167, 0, 4, 3]
abbrev dktX3_finestAgain_2 : List UInt8 := dkwX3_finestAgain_2 ++ dktX3_finestAgain_3
def dkwX3_finestAgain_1 : List UInt8 := [162, 0, 96, 42, 180, 0, 9, 21, 4, 4, 184, 0, 111, 46, 27, 153, 0, 7, 4, 167, 0, 4, 3]
abbrev dktX3_finestAgain_1 : List UInt8 := dkwX3_finestAgain_1 ++ dktX3_finestAgain_2
def dkwX3_finestAgain_0 : List UInt8 := [16, 9, 61, 28, 158, 0, 128, 16, 250, 62, 3, 54, 4, 21, 4, 42, 180, 0, 9, 16, 11, 46]
abbrev dktX3_finestAgain_0 : List UInt8 := dkwX3_finestAgain_0 ++ dktX3_finestAgain_1
theorem dksX3_finestAgain_0 : cX3_finestAgain.data.toList.drop 0 = dktX3_finestAgain_0 := by decide +kernel
theorem dksX3_finestAgain_1 : cX3_finestAgain.data.toList.drop 22 = dktX3_finestAgain_1 := dk_seg dksX3_finestAgain_0 22 rfl rfl
theorem dksX3_finestAgain_2 : cX3_finestAgain.data.toList.drop 45 = dktX3_finestAgain_2 := dk_seg dksX3_finestAgain_1 23 rfl rfl
theorem dksX3_finestAgain_3 : cX3_finestAgain.data.toList.drop 68 = dktX3_finestAgain_3 := dk_seg dksX3_finestAgain_2 23 rfl rfl
theorem dksX3_finestAgain_4 : cX3_finestAgain.data.toList.drop 92 = dktX3_finestAgain_4 := dk_seg dksX3_finestAgain_3 24 rfl rfl
theorem dksX3_finestAgain_5 : cX3_finestAgain.data.toList.drop 115 = dktX3_finestAgain_5 := dk_seg dksX3_finestAgain_4 23 rfl rfl
theorem dX3_finestAgain_0 : decode cX3_finestAgain 0 = .ok (.bipush 9, 2) := dk_16 9 (dk_at dksX3_finestAgain_0 0 rfl rfl)
theorem dX3_finestAgain_2 : decode cX3_finestAgain 2 = .ok (.istore_n 2, 1) := dk_61 (dk_at dksX3_finestAgain_0 2 rfl rfl)
theorem dX3_finestAgain_3 : decode cX3_finestAgain 3 = .ok (.iload_n 2, 1) := dk_28 (dk_at dksX3_finestAgain_0 3 rfl rfl)
theorem dX3_finestAgain_4 : decode cX3_finestAgain 4 = .ok (.ifCond .le 128, 3) := dk_158 0 128 (dk_at dksX3_finestAgain_0 4 rfl rfl)
theorem dX3_finestAgain_7 : decode cX3_finestAgain 7 = .ok (.bipush (-6), 2) := dk_16 250 (dk_at dksX3_finestAgain_0 7 rfl rfl)
theorem dX3_finestAgain_9 : decode cX3_finestAgain 9 = .ok (.istore_n 3, 1) := dk_62 (dk_at dksX3_finestAgain_0 9 rfl rfl)
theorem dX3_finestAgain_10 : decode cX3_finestAgain 10 = .ok (.iconst 0, 1) := dk_3 (dk_at dksX3_finestAgain_0 10 rfl rfl)
theorem dX3_finestAgain_11 : decode cX3_finestAgain 11 = .ok (.istore 4, 2) := dk_54 4 (dk_at dksX3_finestAgain_0 11 rfl rfl)
theorem dX3_finestAgain_13 : decode cX3_finestAgain 13 = .ok (.iload 4, 2) := dk_21 4 (dk_at dksX3_finestAgain_0 13 rfl rfl)
theorem dX3_finestAgain_15 : decode cX3_finestAgain 15 = .ok (.aload_n 0, 1) := dk_42 (dk_at dksX3_finestAgain_0 15 rfl rfl)
theorem dX3_finestAgain_16 : decode cX3_finestAgain 16 = .ok (.getfield 9, 3) := dk_180 0 9 (dk_at dksX3_finestAgain_0 16 rfl rfl)
theorem dX3_finestAgain_19 : decode cX3_finestAgain 19 = .ok (.bipush 11, 2) := dk_16 11 (dk_at dksX3_finestAgain_0 19 rfl rfl)
theorem dX3_finestAgain_21 : decode cX3_finestAgain 21 = .ok (.iaload, 1) := dk_46 (dk_at dksX3_finestAgain_0 21 rfl rfl)
theorem dX3_finestAgain_22 : decode cX3_finestAgain 22 = .ok (.if_icmp .ge 96, 3) := dk_162 0 96 (dk_at dksX3_finestAgain_1 0 rfl rfl)
theorem dX3_finestAgain_25 : decode cX3_finestAgain 25 = .ok (.aload_n 0, 1) := dk_42 (dk_at dksX3_finestAgain_1 3 rfl rfl)
theorem dX3_finestAgain_26 : decode cX3_finestAgain 26 = .ok (.getfield 9, 3) := dk_180 0 9 (dk_at dksX3_finestAgain_1 4 rfl rfl)
theorem dX3_finestAgain_29 : decode cX3_finestAgain 29 = .ok (.iload 4, 2) := dk_21 4 (dk_at dksX3_finestAgain_1 7 rfl rfl)
theorem dX3_finestAgain_31 : decode cX3_finestAgain 31 = .ok (.iconst 1, 1) := dk_4 (dk_at dksX3_finestAgain_1 9 rfl rfl)
theorem dX3_finestAgain_32 : decode cX3_finestAgain 32 = .ok (.invokestatic 111, 3) := dk_184 0 111 (dk_at dksX3_finestAgain_1 10 rfl rfl)
theorem dX3_finestAgain_35 : decode cX3_finestAgain 35 = .ok (.iaload, 1) := dk_46 (dk_at dksX3_finestAgain_1 13 rfl rfl)
theorem dX3_finestAgain_36 : decode cX3_finestAgain 36 = .ok (.iload_n 1, 1) := dk_27 (dk_at dksX3_finestAgain_1 14 rfl rfl)
theorem dX3_finestAgain_37 : decode cX3_finestAgain 37 = .ok (.ifCond .eq 7, 3) := dk_153 0 7 (dk_at dksX3_finestAgain_1 15 rfl rfl)
theorem dX3_finestAgain_40 : decode cX3_finestAgain 40 = .ok (.iconst 1, 1) := dk_4 (dk_at dksX3_finestAgain_1 18 rfl rfl)
theorem dX3_finestAgain_41 : decode cX3_finestAgain 41 = .ok (.goto 4, 3) := dk_167 0 4 (dk_at dksX3_finestAgain_1 19 rfl rfl)
theorem dX3_finestAgain_44 : decode cX3_finestAgain 44 = .ok (.iconst 0, 1) := dk_3 (dk_at dksX3_finestAgain_1 22 rfl rfl)
theorem dX3_finestAgain_45 : decode cX3_finestAgain 45 = .ok (.if_icmp .ne 22, 3) := dk_160 0 22 (dk_at dksX3_finestAgain_2 0 rfl rfl)
theorem dX3_finestAgain_48 : decode cX3_finestAgain 48 = .ok (.aload_n 0, 1) := dk_42 (dk_at dksX3_finestAgain_2 3 rfl rfl)
theorem dX3_finestAgain_49 : decode cX3_finestAgain 49 = .ok (.getfield 9, 3) := dk_180 0 9 (dk_at dksX3_finestAgain_2 4 rfl rfl)
theorem dX3_finestAgain_52 : decode cX3_finestAgain 52 = .ok (.iload 4, 2) := dk_21 4 (dk_at dksX3_finestAgain_2 7 rfl rfl)
theorem dX3_finestAgain_54 : decode cX3_finestAgain 54 = .ok (.iconst 2, 1) := dk_5 (dk_at dksX3_finestAgain_2 9 rfl rfl)
theorem dX3_finestAgain_55 : decode cX3_finestAgain 55 = .ok (.invokestatic 111, 3) := dk_184 0 111 (dk_at dksX3_finestAgain_2 10 rfl rfl)
theorem dX3_finestAgain_58 : decode cX3_finestAgain 58 = .ok (.iaload, 1) := dk_46 (dk_at dksX3_finestAgain_2 13 rfl rfl)
theorem dX3_finestAgain_59 : decode cX3_finestAgain 59 = .ok (.iload_n 2, 1) := dk_28 (dk_at dksX3_finestAgain_2 14 rfl rfl)
theorem dX3_finestAgain_60 : decode cX3_finestAgain 60 = .ok (.if_icmp .ne 7, 3) := dk_160 0 7 (dk_at dksX3_finestAgain_2 15 rfl rfl)
theorem dX3_finestAgain_63 : decode cX3_finestAgain 63 = .ok (.iconst 1, 1) := dk_4 (dk_at dksX3_finestAgain_2 18 rfl rfl)
theorem dX3_finestAgain_64 : decode cX3_finestAgain 64 = .ok (.goto 4, 3) := dk_167 0 4 (dk_at dksX3_finestAgain_2 19 rfl rfl)
theorem dX3_finestAgain_67 : decode cX3_finestAgain 67 = .ok (.iconst 0, 1) := dk_3 (dk_at dksX3_finestAgain_2 22 rfl rfl)
theorem dX3_finestAgain_68 : decode cX3_finestAgain 68 = .ok (.istore 5, 2) := dk_54 5 (dk_at dksX3_finestAgain_3 0 rfl rfl)
theorem dX3_finestAgain_70 : decode cX3_finestAgain 70 = .ok (.iload 5, 2) := dk_21 5 (dk_at dksX3_finestAgain_3 2 rfl rfl)
theorem dX3_finestAgain_72 : decode cX3_finestAgain 72 = .ok (.ifCond .eq 38, 3) := dk_153 0 38 (dk_at dksX3_finestAgain_3 4 rfl rfl)
theorem dX3_finestAgain_75 : decode cX3_finestAgain 75 = .ok (.iload_n 3, 1) := dk_29 (dk_at dksX3_finestAgain_3 7 rfl rfl)
theorem dX3_finestAgain_76 : decode cX3_finestAgain 76 = .ok (.bipush (-6), 2) := dk_16 250 (dk_at dksX3_finestAgain_3 8 rfl rfl)
theorem dX3_finestAgain_78 : decode cX3_finestAgain 78 = .ok (.if_icmp .eq 18, 3) := dk_159 0 18 (dk_at dksX3_finestAgain_3 10 rfl rfl)
theorem dX3_finestAgain_81 : decode cX3_finestAgain 81 = .ok (.aload_n 0, 1) := dk_42 (dk_at dksX3_finestAgain_3 13 rfl rfl)
theorem dX3_finestAgain_82 : decode cX3_finestAgain 82 = .ok (.getfield 9, 3) := dk_180 0 9 (dk_at dksX3_finestAgain_3 14 rfl rfl)
theorem dX3_finestAgain_85 : decode cX3_finestAgain 85 = .ok (.iload 4, 2) := dk_21 4 (dk_at dksX3_finestAgain_3 17 rfl rfl)
theorem dX3_finestAgain_87 : decode cX3_finestAgain 87 = .ok (.iconst 0, 1) := dk_3 (dk_at dksX3_finestAgain_3 19 rfl rfl)
theorem dX3_finestAgain_88 : decode cX3_finestAgain 88 = .ok (.invokestatic 111, 3) := dk_184 0 111 (dk_at dksX3_finestAgain_3 20 rfl rfl)
theorem dX3_finestAgain_91 : decode cX3_finestAgain 91 = .ok (.iaload, 1) := dk_46 (dk_at dksX3_finestAgain_3 23 rfl rfl)
theorem dX3_finestAgain_92 : decode cX3_finestAgain 92 = .ok (.iload_n 3, 1) := dk_29 (dk_at dksX3_finestAgain_4 0 rfl rfl)
theorem dX3_finestAgain_93 : decode cX3_finestAgain 93 = .ok (.if_icmp .ge 17, 3) := dk_162 0 17 (dk_at dksX3_finestAgain_4 1 rfl rfl)
theorem dX3_finestAgain_96 : decode cX3_finestAgain 96 = .ok (.aload_n 0, 1) := dk_42 (dk_at dksX3_finestAgain_4 4 rfl rfl)
theorem dX3_finestAgain_97 : decode cX3_finestAgain 97 = .ok (.getfield 9, 3) := dk_180 0 9 (dk_at dksX3_finestAgain_4 5 rfl rfl)
theorem dX3_finestAgain_100 : decode cX3_finestAgain 100 = .ok (.iload 4, 2) := dk_21 4 (dk_at dksX3_finestAgain_4 8 rfl rfl)
theorem dX3_finestAgain_102 : decode cX3_finestAgain 102 = .ok (.iconst 0, 1) := dk_3 (dk_at dksX3_finestAgain_4 10 rfl rfl)
theorem dX3_finestAgain_103 : decode cX3_finestAgain 103 = .ok (.invokestatic 111, 3) := dk_184 0 111 (dk_at dksX3_finestAgain_4 11 rfl rfl)
theorem dX3_finestAgain_106 : decode cX3_finestAgain 106 = .ok (.iaload, 1) := dk_46 (dk_at dksX3_finestAgain_4 14 rfl rfl)
theorem dX3_finestAgain_107 : decode cX3_finestAgain 107 = .ok (.goto 4, 3) := dk_167 0 4 (dk_at dksX3_finestAgain_4 15 rfl rfl)
theorem dX3_finestAgain_110 : decode cX3_finestAgain 110 = .ok (.iload_n 3, 1) := dk_29 (dk_at dksX3_finestAgain_4 18 rfl rfl)
theorem dX3_finestAgain_111 : decode cX3_finestAgain 111 = .ok (.istore_n 3, 1) := dk_62 (dk_at dksX3_finestAgain_4 19 rfl rfl)
theorem dX3_finestAgain_112 : decode cX3_finestAgain 112 = .ok (.iinc 4 1, 3) := dk_132 4 1 (dk_at dksX3_finestAgain_4 20 rfl rfl)
theorem dX3_finestAgain_115 : decode cX3_finestAgain 115 = .ok (.goto (-102), 3) := dk_167 255 154 (dk_at dksX3_finestAgain_5 0 rfl rfl)
theorem dX3_finestAgain_118 : decode cX3_finestAgain 118 = .ok (.iload_n 3, 1) := dk_29 (dk_at dksX3_finestAgain_5 3 rfl rfl)
theorem dX3_finestAgain_119 : decode cX3_finestAgain 119 = .ok (.bipush (-6), 2) := dk_16 250 (dk_at dksX3_finestAgain_5 4 rfl rfl)
theorem dX3_finestAgain_121 : decode cX3_finestAgain 121 = .ok (.if_icmp .eq 5, 3) := dk_159 0 5 (dk_at dksX3_finestAgain_5 6 rfl rfl)
theorem dX3_finestAgain_124 : decode cX3_finestAgain 124 = .ok (.iload_n 3, 1) := dk_29 (dk_at dksX3_finestAgain_5 9 rfl rfl)
theorem dX3_finestAgain_125 : decode cX3_finestAgain 125 = .ok (.ireturn, 1) := dk_172 (dk_at dksX3_finestAgain_5 10 rfl rfl)
theorem dX3_finestAgain_126 : decode cX3_finestAgain 126 = .ok (.iinc 2 (-1), 3) := dk_132 2 255 (dk_at dksX3_finestAgain_5 11 rfl rfl)
theorem dX3_finestAgain_129 : decode cX3_finestAgain 129 = .ok (.goto (-126), 3) := dk_167 255 130 (dk_at dksX3_finestAgain_5 14 rfl rfl)
theorem dX3_finestAgain_132 : decode cX3_finestAgain 132 = .ok (.bipush (-6), 2) := dk_16 250 (dk_at dksX3_finestAgain_5 17 rfl rfl)
theorem dX3_finestAgain_134 : decode cX3_finestAgain 134 = .ok (.ireturn, 1) := dk_172 (dk_at dksX3_finestAgain_5 19 rfl rfl)
abbrev cX3_box : ByteArray := prog_33_method_30_code
def yX3_box : MethodName := ⟨RX3, "box", "(ZZ)I"⟩
def dkwX3_box_3 : List UInt8 := [167, 0, 4, 4, 96, 62, 132, 4, 1, 167, 255, 180, 29, 172]
abbrev dktX3_box_3 : List UInt8 := dkwX3_box_3 ++ []
def dkwX3_box_2 : List UInt8 := [21, 5, 154, 0, 7, 3, 167, 0, 22, 28, 153, 0, 17, 42, 180, 0, 9, 21, 4, 5, 184, 0, 111, 46]
abbrev dktX3_box_2 : List UInt8 := dkwX3_box_2 ++ dktX3_box_3
def dkwX3_box_1 : List UInt8 := [184, 0, 111, 46, 27, 153, 0, 7, 4, 167, 0, 4, 3, 160, 0, 7, 4, 167, 0, 4, 3, 54, 5, 29]
abbrev dktX3_box_1 : List UInt8 := dkwX3_box_1 ++ dktX3_box_2
def dkwX3_box_0 : List UInt8 := [3, 62, 3, 54, 4, 21, 4, 42, 180, 0, 9, 16, 11, 46, 162, 0, 70, 42, 180, 0, 9, 21, 4, 4]
abbrev dktX3_box_0 : List UInt8 := dkwX3_box_0 ++ dktX3_box_1
theorem dksX3_box_0 : cX3_box.data.toList.drop 0 = dktX3_box_0 := by decide +kernel
theorem dksX3_box_1 : cX3_box.data.toList.drop 24 = dktX3_box_1 := dk_seg dksX3_box_0 24 rfl rfl
theorem dksX3_box_2 : cX3_box.data.toList.drop 48 = dktX3_box_2 := dk_seg dksX3_box_1 24 rfl rfl
theorem dksX3_box_3 : cX3_box.data.toList.drop 72 = dktX3_box_3 := dk_seg dksX3_box_2 24 rfl rfl
theorem dX3_box_0 : decode cX3_box 0 = .ok (.iconst 0, 1) := dk_3 (dk_at dksX3_box_0 0 rfl rfl)
theorem dX3_box_1 : decode cX3_box 1 = .ok (.istore_n 3, 1) := dk_62 (dk_at dksX3_box_0 1 rfl rfl)
theorem dX3_box_2 : decode cX3_box 2 = .ok (.iconst 0, 1) := dk_3 (dk_at dksX3_box_0 2 rfl rfl)
theorem dX3_box_3 : decode cX3_box 3 = .ok (.istore 4, 2) := dk_54 4 (dk_at dksX3_box_0 3 rfl rfl)
theorem dX3_box_5 : decode cX3_box 5 = .ok (.iload 4, 2) := dk_21 4 (dk_at dksX3_box_0 5 rfl rfl)
theorem dX3_box_7 : decode cX3_box 7 = .ok (.aload_n 0, 1) := dk_42 (dk_at dksX3_box_0 7 rfl rfl)
theorem dX3_box_8 : decode cX3_box 8 = .ok (.getfield 9, 3) := dk_180 0 9 (dk_at dksX3_box_0 8 rfl rfl)
theorem dX3_box_11 : decode cX3_box 11 = .ok (.bipush 11, 2) := dk_16 11 (dk_at dksX3_box_0 11 rfl rfl)
theorem dX3_box_13 : decode cX3_box 13 = .ok (.iaload, 1) := dk_46 (dk_at dksX3_box_0 13 rfl rfl)
theorem dX3_box_14 : decode cX3_box 14 = .ok (.if_icmp .ge 70, 3) := dk_162 0 70 (dk_at dksX3_box_0 14 rfl rfl)
theorem dX3_box_17 : decode cX3_box 17 = .ok (.aload_n 0, 1) := dk_42 (dk_at dksX3_box_0 17 rfl rfl)
theorem dX3_box_18 : decode cX3_box 18 = .ok (.getfield 9, 3) := dk_180 0 9 (dk_at dksX3_box_0 18 rfl rfl)
theorem dX3_box_21 : decode cX3_box 21 = .ok (.iload 4, 2) := dk_21 4 (dk_at dksX3_box_0 21 rfl rfl)
theorem dX3_box_23 : decode cX3_box 23 = .ok (.iconst 1, 1) := dk_4 (dk_at dksX3_box_0 23 rfl rfl)
theorem dX3_box_24 : decode cX3_box 24 = .ok (.invokestatic 111, 3) := dk_184 0 111 (dk_at dksX3_box_1 0 rfl rfl)
theorem dX3_box_27 : decode cX3_box 27 = .ok (.iaload, 1) := dk_46 (dk_at dksX3_box_1 3 rfl rfl)
theorem dX3_box_28 : decode cX3_box 28 = .ok (.iload_n 1, 1) := dk_27 (dk_at dksX3_box_1 4 rfl rfl)
theorem dX3_box_29 : decode cX3_box 29 = .ok (.ifCond .eq 7, 3) := dk_153 0 7 (dk_at dksX3_box_1 5 rfl rfl)
theorem dX3_box_32 : decode cX3_box 32 = .ok (.iconst 1, 1) := dk_4 (dk_at dksX3_box_1 8 rfl rfl)
theorem dX3_box_33 : decode cX3_box 33 = .ok (.goto 4, 3) := dk_167 0 4 (dk_at dksX3_box_1 9 rfl rfl)
theorem dX3_box_36 : decode cX3_box 36 = .ok (.iconst 0, 1) := dk_3 (dk_at dksX3_box_1 12 rfl rfl)
theorem dX3_box_37 : decode cX3_box 37 = .ok (.if_icmp .ne 7, 3) := dk_160 0 7 (dk_at dksX3_box_1 13 rfl rfl)
theorem dX3_box_40 : decode cX3_box 40 = .ok (.iconst 1, 1) := dk_4 (dk_at dksX3_box_1 16 rfl rfl)
theorem dX3_box_41 : decode cX3_box 41 = .ok (.goto 4, 3) := dk_167 0 4 (dk_at dksX3_box_1 17 rfl rfl)
theorem dX3_box_44 : decode cX3_box 44 = .ok (.iconst 0, 1) := dk_3 (dk_at dksX3_box_1 20 rfl rfl)
theorem dX3_box_45 : decode cX3_box 45 = .ok (.istore 5, 2) := dk_54 5 (dk_at dksX3_box_1 21 rfl rfl)
theorem dX3_box_47 : decode cX3_box 47 = .ok (.iload_n 3, 1) := dk_29 (dk_at dksX3_box_1 23 rfl rfl)
theorem dX3_box_48 : decode cX3_box 48 = .ok (.iload 5, 2) := dk_21 5 (dk_at dksX3_box_2 0 rfl rfl)
theorem dX3_box_50 : decode cX3_box 50 = .ok (.ifCond .ne 7, 3) := dk_154 0 7 (dk_at dksX3_box_2 2 rfl rfl)
theorem dX3_box_53 : decode cX3_box 53 = .ok (.iconst 0, 1) := dk_3 (dk_at dksX3_box_2 5 rfl rfl)
theorem dX3_box_54 : decode cX3_box 54 = .ok (.goto 22, 3) := dk_167 0 22 (dk_at dksX3_box_2 6 rfl rfl)
theorem dX3_box_57 : decode cX3_box 57 = .ok (.iload_n 2, 1) := dk_28 (dk_at dksX3_box_2 9 rfl rfl)
theorem dX3_box_58 : decode cX3_box 58 = .ok (.ifCond .eq 17, 3) := dk_153 0 17 (dk_at dksX3_box_2 10 rfl rfl)
theorem dX3_box_61 : decode cX3_box 61 = .ok (.aload_n 0, 1) := dk_42 (dk_at dksX3_box_2 13 rfl rfl)
theorem dX3_box_62 : decode cX3_box 62 = .ok (.getfield 9, 3) := dk_180 0 9 (dk_at dksX3_box_2 14 rfl rfl)
theorem dX3_box_65 : decode cX3_box 65 = .ok (.iload 4, 2) := dk_21 4 (dk_at dksX3_box_2 17 rfl rfl)
theorem dX3_box_67 : decode cX3_box 67 = .ok (.iconst 2, 1) := dk_5 (dk_at dksX3_box_2 19 rfl rfl)
theorem dX3_box_68 : decode cX3_box 68 = .ok (.invokestatic 111, 3) := dk_184 0 111 (dk_at dksX3_box_2 20 rfl rfl)
theorem dX3_box_71 : decode cX3_box 71 = .ok (.iaload, 1) := dk_46 (dk_at dksX3_box_2 23 rfl rfl)
theorem dX3_box_72 : decode cX3_box 72 = .ok (.goto 4, 3) := dk_167 0 4 (dk_at dksX3_box_3 0 rfl rfl)
theorem dX3_box_75 : decode cX3_box 75 = .ok (.iconst 1, 1) := dk_4 (dk_at dksX3_box_3 3 rfl rfl)
theorem dX3_box_76 : decode cX3_box 76 = .ok (.iadd, 1) := dk_96 (dk_at dksX3_box_3 4 rfl rfl)
theorem dX3_box_77 : decode cX3_box 77 = .ok (.istore_n 3, 1) := dk_62 (dk_at dksX3_box_3 5 rfl rfl)
theorem dX3_box_78 : decode cX3_box 78 = .ok (.iinc 4 1, 3) := dk_132 4 1 (dk_at dksX3_box_3 6 rfl rfl)
theorem dX3_box_81 : decode cX3_box 81 = .ok (.goto (-76), 3) := dk_167 255 180 (dk_at dksX3_box_3 9 rfl rfl)
theorem dX3_box_84 : decode cX3_box 84 = .ok (.iload_n 3, 1) := dk_29 (dk_at dksX3_box_3 12 rfl rfl)
theorem dX3_box_85 : decode cX3_box 85 = .ok (.ireturn, 1) := dk_172 (dk_at dksX3_box_3 13 rfl rfl)
abbrev cX3_begin : ByteArray := prog_33_method_41_code
def yX3_begin : MethodName := ⟨RX3, "begin", "(II)I"⟩
def dkwX3_begin_0 : List UInt8 := [42, 182, 0, 85, 42, 42, 27, 28, 182, 0, 152, 182, 0, 91, 172]
abbrev dktX3_begin_0 : List UInt8 := dkwX3_begin_0 ++ []
theorem dksX3_begin_0 : cX3_begin.data.toList.drop 0 = dktX3_begin_0 := by decide +kernel
theorem dX3_begin_0 : decode cX3_begin 0 = .ok (.aload_n 0, 1) := dk_42 (dk_at dksX3_begin_0 0 rfl rfl)
theorem dX3_begin_1 : decode cX3_begin 1 = .ok (.invokevirtual 85, 3) := dk_182 0 85 (dk_at dksX3_begin_0 1 rfl rfl)
theorem dX3_begin_4 : decode cX3_begin 4 = .ok (.aload_n 0, 1) := dk_42 (dk_at dksX3_begin_0 4 rfl rfl)
theorem dX3_begin_5 : decode cX3_begin 5 = .ok (.aload_n 0, 1) := dk_42 (dk_at dksX3_begin_0 5 rfl rfl)
theorem dX3_begin_6 : decode cX3_begin 6 = .ok (.iload_n 1, 1) := dk_27 (dk_at dksX3_begin_0 6 rfl rfl)
theorem dX3_begin_7 : decode cX3_begin 7 = .ok (.iload_n 2, 1) := dk_28 (dk_at dksX3_begin_0 7 rfl rfl)
theorem dX3_begin_8 : decode cX3_begin 8 = .ok (.invokevirtual 152, 3) := dk_182 0 152 (dk_at dksX3_begin_0 8 rfl rfl)
theorem dX3_begin_11 : decode cX3_begin 11 = .ok (.invokevirtual 91, 3) := dk_182 0 91 (dk_at dksX3_begin_0 11 rfl rfl)
theorem dX3_begin_14 : decode cX3_begin 14 = .ok (.ireturn, 1) := dk_172 (dk_at dksX3_begin_0 14 rfl rfl)
abbrev cX3_begins : ByteArray := prog_33_method_40_code
def yX3_begins : MethodName := ⟨RX3, "begins", "(II)I"⟩
def dkwX3_begins_2 : List UInt8 := [184, 0, 133, 27, 79, 42, 180, 0, 9, 29, 4, 184, 0, 133, 28, 79, 29, 172]
abbrev dktX3_begins_2 : List UInt8 := dkwX3_begins_2 ++ []
def dkwX3_begins_1 : List UInt8 := [16, 12, 16, 6, 17, 2, 252, 16, 60, 182, 0, 95, 62, 29, 155, 0, 25, 42, 180, 0, 9, 29, 3]
abbrev dktX3_begins_1 : List UInt8 := dkwX3_begins_1 ++ dktX3_begins_2
def dkwX3_begins_0 : List UInt8 := [27, 4, 7, 184, 0, 81, 153, 0, 13, 28, 4, 16, 6, 184, 0, 81, 154, 0, 6, 16, 254, 172, 42]
abbrev dktX3_begins_0 : List UInt8 := dkwX3_begins_0 ++ dktX3_begins_1
theorem dksX3_begins_0 : cX3_begins.data.toList.drop 0 = dktX3_begins_0 := by decide +kernel
theorem dksX3_begins_1 : cX3_begins.data.toList.drop 23 = dktX3_begins_1 := dk_seg dksX3_begins_0 23 rfl rfl
theorem dksX3_begins_2 : cX3_begins.data.toList.drop 46 = dktX3_begins_2 := dk_seg dksX3_begins_1 23 rfl rfl
theorem dX3_begins_0 : decode cX3_begins 0 = .ok (.iload_n 1, 1) := dk_27 (dk_at dksX3_begins_0 0 rfl rfl)
theorem dX3_begins_1 : decode cX3_begins 1 = .ok (.iconst 1, 1) := dk_4 (dk_at dksX3_begins_0 1 rfl rfl)
theorem dX3_begins_2 : decode cX3_begins 2 = .ok (.iconst 4, 1) := dk_7 (dk_at dksX3_begins_0 2 rfl rfl)
theorem dX3_begins_3 : decode cX3_begins 3 = .ok (.invokestatic 81, 3) := dk_184 0 81 (dk_at dksX3_begins_0 3 rfl rfl)
theorem dX3_begins_6 : decode cX3_begins 6 = .ok (.ifCond .eq 13, 3) := dk_153 0 13 (dk_at dksX3_begins_0 6 rfl rfl)
theorem dX3_begins_9 : decode cX3_begins 9 = .ok (.iload_n 2, 1) := dk_28 (dk_at dksX3_begins_0 9 rfl rfl)
theorem dX3_begins_10 : decode cX3_begins 10 = .ok (.iconst 1, 1) := dk_4 (dk_at dksX3_begins_0 10 rfl rfl)
theorem dX3_begins_11 : decode cX3_begins 11 = .ok (.bipush 6, 2) := dk_16 6 (dk_at dksX3_begins_0 11 rfl rfl)
theorem dX3_begins_13 : decode cX3_begins 13 = .ok (.invokestatic 81, 3) := dk_184 0 81 (dk_at dksX3_begins_0 13 rfl rfl)
theorem dX3_begins_16 : decode cX3_begins 16 = .ok (.ifCond .ne 6, 3) := dk_154 0 6 (dk_at dksX3_begins_0 16 rfl rfl)
theorem dX3_begins_19 : decode cX3_begins 19 = .ok (.bipush (-2), 2) := dk_16 254 (dk_at dksX3_begins_0 19 rfl rfl)
theorem dX3_begins_21 : decode cX3_begins 21 = .ok (.ireturn, 1) := dk_172 (dk_at dksX3_begins_0 21 rfl rfl)
theorem dX3_begins_22 : decode cX3_begins 22 = .ok (.aload_n 0, 1) := dk_42 (dk_at dksX3_begins_0 22 rfl rfl)
theorem dX3_begins_23 : decode cX3_begins 23 = .ok (.bipush 12, 2) := dk_16 12 (dk_at dksX3_begins_1 0 rfl rfl)
theorem dX3_begins_25 : decode cX3_begins 25 = .ok (.bipush 6, 2) := dk_16 6 (dk_at dksX3_begins_1 2 rfl rfl)
theorem dX3_begins_27 : decode cX3_begins 27 = .ok (.sipush 764, 3) := dk_17 2 252 (dk_at dksX3_begins_1 4 rfl rfl)
theorem dX3_begins_30 : decode cX3_begins 30 = .ok (.bipush 60, 2) := dk_16 60 (dk_at dksX3_begins_1 7 rfl rfl)
theorem dX3_begins_32 : decode cX3_begins 32 = .ok (.invokevirtual 95, 3) := dk_182 0 95 (dk_at dksX3_begins_1 9 rfl rfl)
theorem dX3_begins_35 : decode cX3_begins 35 = .ok (.istore_n 3, 1) := dk_62 (dk_at dksX3_begins_1 12 rfl rfl)
theorem dX3_begins_36 : decode cX3_begins 36 = .ok (.iload_n 3, 1) := dk_29 (dk_at dksX3_begins_1 13 rfl rfl)
theorem dX3_begins_37 : decode cX3_begins 37 = .ok (.ifCond .lt 25, 3) := dk_155 0 25 (dk_at dksX3_begins_1 14 rfl rfl)
theorem dX3_begins_40 : decode cX3_begins 40 = .ok (.aload_n 0, 1) := dk_42 (dk_at dksX3_begins_1 17 rfl rfl)
theorem dX3_begins_41 : decode cX3_begins 41 = .ok (.getfield 9, 3) := dk_180 0 9 (dk_at dksX3_begins_1 18 rfl rfl)
theorem dX3_begins_44 : decode cX3_begins 44 = .ok (.iload_n 3, 1) := dk_29 (dk_at dksX3_begins_1 21 rfl rfl)
theorem dX3_begins_45 : decode cX3_begins 45 = .ok (.iconst 0, 1) := dk_3 (dk_at dksX3_begins_1 22 rfl rfl)
theorem dX3_begins_46 : decode cX3_begins 46 = .ok (.invokestatic 133, 3) := dk_184 0 133 (dk_at dksX3_begins_2 0 rfl rfl)
theorem dX3_begins_49 : decode cX3_begins 49 = .ok (.iload_n 1, 1) := dk_27 (dk_at dksX3_begins_2 3 rfl rfl)
theorem dX3_begins_50 : decode cX3_begins 50 = .ok (.iastore, 1) := dk_79 (dk_at dksX3_begins_2 4 rfl rfl)
theorem dX3_begins_51 : decode cX3_begins 51 = .ok (.aload_n 0, 1) := dk_42 (dk_at dksX3_begins_2 5 rfl rfl)
theorem dX3_begins_52 : decode cX3_begins 52 = .ok (.getfield 9, 3) := dk_180 0 9 (dk_at dksX3_begins_2 6 rfl rfl)
theorem dX3_begins_55 : decode cX3_begins 55 = .ok (.iload_n 3, 1) := dk_29 (dk_at dksX3_begins_2 9 rfl rfl)
theorem dX3_begins_56 : decode cX3_begins 56 = .ok (.iconst 1, 1) := dk_4 (dk_at dksX3_begins_2 10 rfl rfl)
theorem dX3_begins_57 : decode cX3_begins 57 = .ok (.invokestatic 133, 3) := dk_184 0 133 (dk_at dksX3_begins_2 11 rfl rfl)
theorem dX3_begins_60 : decode cX3_begins 60 = .ok (.iload_n 2, 1) := dk_28 (dk_at dksX3_begins_2 14 rfl rfl)
theorem dX3_begins_61 : decode cX3_begins 61 = .ok (.iastore, 1) := dk_79 (dk_at dksX3_begins_2 15 rfl rfl)
theorem dX3_begins_62 : decode cX3_begins 62 = .ok (.iload_n 3, 1) := dk_29 (dk_at dksX3_begins_2 16 rfl rfl)
theorem dX3_begins_63 : decode cX3_begins 63 = .ok (.ireturn, 1) := dk_172 (dk_at dksX3_begins_2 17 rfl rfl)
abbrev cX3_stringAt : ByteArray := prog_33_method_31_code
def yX3_stringAt : MethodName := ⟨RX3, "stringAt", "(II)I"⟩
def dkwX3_stringAt_0 : List UInt8 := [17, 2, 252, 16, 60, 26, 104, 96, 27, 96, 172]
abbrev dktX3_stringAt_0 : List UInt8 := dkwX3_stringAt_0 ++ []
theorem dksX3_stringAt_0 : cX3_stringAt.data.toList.drop 0 = dktX3_stringAt_0 := by decide +kernel
theorem dX3_stringAt_0 : decode cX3_stringAt 0 = .ok (.sipush 764, 3) := dk_17 2 252 (dk_at dksX3_stringAt_0 0 rfl rfl)
theorem dX3_stringAt_3 : decode cX3_stringAt 3 = .ok (.bipush 60, 2) := dk_16 60 (dk_at dksX3_stringAt_0 3 rfl rfl)
theorem dX3_stringAt_5 : decode cX3_stringAt 5 = .ok (.iload_n 0, 1) := dk_26 (dk_at dksX3_stringAt_0 5 rfl rfl)
theorem dX3_stringAt_6 : decode cX3_stringAt 6 = .ok (.imul, 1) := dk_104 (dk_at dksX3_stringAt_0 6 rfl rfl)
theorem dX3_stringAt_7 : decode cX3_stringAt 7 = .ok (.iadd, 1) := dk_96 (dk_at dksX3_stringAt_0 7 rfl rfl)
theorem dX3_stringAt_8 : decode cX3_stringAt 8 = .ok (.iload_n 1, 1) := dk_27 (dk_at dksX3_stringAt_0 8 rfl rfl)
theorem dX3_stringAt_9 : decode cX3_stringAt 9 = .ok (.iadd, 1) := dk_96 (dk_at dksX3_stringAt_0 9 rfl rfl)
theorem dX3_stringAt_10 : decode cX3_stringAt 10 = .ok (.ireturn, 1) := dk_172 (dk_at dksX3_stringAt_0 10 rfl rfl)
abbrev cX3_thread : ByteArray := prog_33_method_45_code
def yX3_thread : MethodName := ⟨RX3, "thread", "(I)I"⟩
def dkwX3_thread_0 : List UInt8 := [42, 182, 0, 85, 42, 42, 27, 182, 0, 174, 182, 0, 91, 172]
abbrev dktX3_thread_0 : List UInt8 := dkwX3_thread_0 ++ []
theorem dksX3_thread_0 : cX3_thread.data.toList.drop 0 = dktX3_thread_0 := by decide +kernel
theorem dX3_thread_0 : decode cX3_thread 0 = .ok (.aload_n 0, 1) := dk_42 (dk_at dksX3_thread_0 0 rfl rfl)
theorem dX3_thread_1 : decode cX3_thread 1 = .ok (.invokevirtual 85, 3) := dk_182 0 85 (dk_at dksX3_thread_0 1 rfl rfl)
theorem dX3_thread_4 : decode cX3_thread 4 = .ok (.aload_n 0, 1) := dk_42 (dk_at dksX3_thread_0 4 rfl rfl)
theorem dX3_thread_5 : decode cX3_thread 5 = .ok (.aload_n 0, 1) := dk_42 (dk_at dksX3_thread_0 5 rfl rfl)
theorem dX3_thread_6 : decode cX3_thread 6 = .ok (.iload_n 1, 1) := dk_27 (dk_at dksX3_thread_0 6 rfl rfl)
theorem dX3_thread_7 : decode cX3_thread 7 = .ok (.invokevirtual 174, 3) := dk_182 0 174 (dk_at dksX3_thread_0 7 rfl rfl)
theorem dX3_thread_10 : decode cX3_thread 10 = .ok (.invokevirtual 91, 3) := dk_182 0 91 (dk_at dksX3_thread_0 10 rfl rfl)
theorem dX3_thread_13 : decode cX3_thread 13 = .ok (.ireturn, 1) := dk_172 (dk_at dksX3_thread_0 13 rfl rfl)
abbrev cX3_threads : ByteArray := prog_33_method_44_code
def yX3_threads : MethodName := ⟨RX3, "threads", "(I)I"⟩
def dkwX3_threads_6 : List UInt8 := [96, 79, 42, 16, 11, 16, 44, 6, 29, 182, 0, 170, 21, 5, 172]
abbrev dktX3_threads_6 : List UInt8 := dkwX3_threads_6 ++ []
def dkwX3_threads_5 : List UInt8 := [96, 42, 180, 0, 9, 29, 5, 184, 0, 111, 46, 79, 42, 180, 0, 9, 27, 6, 184, 0, 133, 92, 46, 4]
abbrev dktX3_threads_5 : List UInt8 := dkwX3_threads_5 ++ dktX3_threads_6
def dkwX3_threads_4 : List UInt8 := [29, 3, 184, 0, 111, 46, 54, 5, 42, 180, 0, 9, 21, 4, 21, 5, 79, 42, 180, 0, 9, 21, 4, 4]
abbrev dktX3_threads_4 : List UInt8 := dkwX3_threads_4 ++ dktX3_threads_5
def dkwX3_threads_3 : List UInt8 := [167, 0, 4, 3, 182, 0, 164, 172, 27, 42, 27, 6, 182, 0, 136, 184, 0, 167, 54, 4, 42, 180, 0, 9]
abbrev dktX3_threads_3 : List UInt8 := dkwX3_threads_3 ++ dktX3_threads_4
def dkwX3_threads_2 : List UInt8 := [160, 0, 7, 4, 167, 0, 4, 3, 182, 0, 129, 62, 29, 156, 0, 18, 42, 28, 4, 160, 0, 7, 4]
abbrev dktX3_threads_2 : List UInt8 := dkwX3_threads_2 ++ dktX3_threads_3
def dkwX3_threads_1 : List UInt8 := [182, 0, 77, 172, 28, 5, 160, 0, 15, 42, 8, 42, 27, 5, 182, 0, 136, 182, 0, 77, 172, 42, 28, 4]
abbrev dktX3_threads_1 : List UInt8 := dkwX3_threads_1 ++ dktX3_threads_2
def dkwX3_threads_0 : List UInt8 := [42, 27, 182, 0, 158, 154, 0, 5, 2, 172, 42, 27, 182, 0, 161, 61, 28, 6, 160, 0, 10, 42, 7, 27]
abbrev dktX3_threads_0 : List UInt8 := dkwX3_threads_0 ++ dktX3_threads_1
theorem dksX3_threads_0 : cX3_threads.data.toList.drop 0 = dktX3_threads_0 := by decide +kernel
theorem dksX3_threads_1 : cX3_threads.data.toList.drop 24 = dktX3_threads_1 := dk_seg dksX3_threads_0 24 rfl rfl
theorem dksX3_threads_2 : cX3_threads.data.toList.drop 48 = dktX3_threads_2 := dk_seg dksX3_threads_1 24 rfl rfl
theorem dksX3_threads_3 : cX3_threads.data.toList.drop 71 = dktX3_threads_3 := dk_seg dksX3_threads_2 23 rfl rfl
theorem dksX3_threads_4 : cX3_threads.data.toList.drop 95 = dktX3_threads_4 := dk_seg dksX3_threads_3 24 rfl rfl
theorem dksX3_threads_5 : cX3_threads.data.toList.drop 119 = dktX3_threads_5 := dk_seg dksX3_threads_4 24 rfl rfl
theorem dksX3_threads_6 : cX3_threads.data.toList.drop 143 = dktX3_threads_6 := dk_seg dksX3_threads_5 24 rfl rfl
theorem dX3_threads_0 : decode cX3_threads 0 = .ok (.aload_n 0, 1) := dk_42 (dk_at dksX3_threads_0 0 rfl rfl)
theorem dX3_threads_1 : decode cX3_threads 1 = .ok (.iload_n 1, 1) := dk_27 (dk_at dksX3_threads_0 1 rfl rfl)
theorem dX3_threads_2 : decode cX3_threads 2 = .ok (.invokevirtual 158, 3) := dk_182 0 158 (dk_at dksX3_threads_0 2 rfl rfl)
theorem dX3_threads_5 : decode cX3_threads 5 = .ok (.ifCond .ne 5, 3) := dk_154 0 5 (dk_at dksX3_threads_0 5 rfl rfl)
theorem dX3_threads_8 : decode cX3_threads 8 = .ok (.iconst (-1), 1) := dk_2 (dk_at dksX3_threads_0 8 rfl rfl)
theorem dX3_threads_9 : decode cX3_threads 9 = .ok (.ireturn, 1) := dk_172 (dk_at dksX3_threads_0 9 rfl rfl)
theorem dX3_threads_10 : decode cX3_threads 10 = .ok (.aload_n 0, 1) := dk_42 (dk_at dksX3_threads_0 10 rfl rfl)
theorem dX3_threads_11 : decode cX3_threads 11 = .ok (.iload_n 1, 1) := dk_27 (dk_at dksX3_threads_0 11 rfl rfl)
theorem dX3_threads_12 : decode cX3_threads 12 = .ok (.invokevirtual 161, 3) := dk_182 0 161 (dk_at dksX3_threads_0 12 rfl rfl)
theorem dX3_threads_15 : decode cX3_threads 15 = .ok (.istore_n 2, 1) := dk_61 (dk_at dksX3_threads_0 15 rfl rfl)
theorem dX3_threads_16 : decode cX3_threads 16 = .ok (.iload_n 2, 1) := dk_28 (dk_at dksX3_threads_0 16 rfl rfl)
theorem dX3_threads_17 : decode cX3_threads 17 = .ok (.iconst 3, 1) := dk_6 (dk_at dksX3_threads_0 17 rfl rfl)
theorem dX3_threads_18 : decode cX3_threads 18 = .ok (.if_icmp .ne 10, 3) := dk_160 0 10 (dk_at dksX3_threads_0 18 rfl rfl)
theorem dX3_threads_21 : decode cX3_threads 21 = .ok (.aload_n 0, 1) := dk_42 (dk_at dksX3_threads_0 21 rfl rfl)
theorem dX3_threads_22 : decode cX3_threads 22 = .ok (.iconst 4, 1) := dk_7 (dk_at dksX3_threads_0 22 rfl rfl)
theorem dX3_threads_23 : decode cX3_threads 23 = .ok (.iload_n 1, 1) := dk_27 (dk_at dksX3_threads_0 23 rfl rfl)
theorem dX3_threads_24 : decode cX3_threads 24 = .ok (.invokevirtual 77, 3) := dk_182 0 77 (dk_at dksX3_threads_1 0 rfl rfl)
theorem dX3_threads_27 : decode cX3_threads 27 = .ok (.ireturn, 1) := dk_172 (dk_at dksX3_threads_1 3 rfl rfl)
theorem dX3_threads_28 : decode cX3_threads 28 = .ok (.iload_n 2, 1) := dk_28 (dk_at dksX3_threads_1 4 rfl rfl)
theorem dX3_threads_29 : decode cX3_threads 29 = .ok (.iconst 2, 1) := dk_5 (dk_at dksX3_threads_1 5 rfl rfl)
theorem dX3_threads_30 : decode cX3_threads 30 = .ok (.if_icmp .ne 15, 3) := dk_160 0 15 (dk_at dksX3_threads_1 6 rfl rfl)
theorem dX3_threads_33 : decode cX3_threads 33 = .ok (.aload_n 0, 1) := dk_42 (dk_at dksX3_threads_1 9 rfl rfl)
theorem dX3_threads_34 : decode cX3_threads 34 = .ok (.iconst 5, 1) := dk_8 (dk_at dksX3_threads_1 10 rfl rfl)
theorem dX3_threads_35 : decode cX3_threads 35 = .ok (.aload_n 0, 1) := dk_42 (dk_at dksX3_threads_1 11 rfl rfl)
theorem dX3_threads_36 : decode cX3_threads 36 = .ok (.iload_n 1, 1) := dk_27 (dk_at dksX3_threads_1 12 rfl rfl)
theorem dX3_threads_37 : decode cX3_threads 37 = .ok (.iconst 2, 1) := dk_5 (dk_at dksX3_threads_1 13 rfl rfl)
theorem dX3_threads_38 : decode cX3_threads 38 = .ok (.invokevirtual 136, 3) := dk_182 0 136 (dk_at dksX3_threads_1 14 rfl rfl)
theorem dX3_threads_41 : decode cX3_threads 41 = .ok (.invokevirtual 77, 3) := dk_182 0 77 (dk_at dksX3_threads_1 17 rfl rfl)
theorem dX3_threads_44 : decode cX3_threads 44 = .ok (.ireturn, 1) := dk_172 (dk_at dksX3_threads_1 20 rfl rfl)
theorem dX3_threads_45 : decode cX3_threads 45 = .ok (.aload_n 0, 1) := dk_42 (dk_at dksX3_threads_1 21 rfl rfl)
theorem dX3_threads_46 : decode cX3_threads 46 = .ok (.iload_n 2, 1) := dk_28 (dk_at dksX3_threads_1 22 rfl rfl)
theorem dX3_threads_47 : decode cX3_threads 47 = .ok (.iconst 1, 1) := dk_4 (dk_at dksX3_threads_1 23 rfl rfl)
theorem dX3_threads_48 : decode cX3_threads 48 = .ok (.if_icmp .ne 7, 3) := dk_160 0 7 (dk_at dksX3_threads_2 0 rfl rfl)
theorem dX3_threads_51 : decode cX3_threads 51 = .ok (.iconst 1, 1) := dk_4 (dk_at dksX3_threads_2 3 rfl rfl)
theorem dX3_threads_52 : decode cX3_threads 52 = .ok (.goto 4, 3) := dk_167 0 4 (dk_at dksX3_threads_2 4 rfl rfl)
theorem dX3_threads_55 : decode cX3_threads 55 = .ok (.iconst 0, 1) := dk_3 (dk_at dksX3_threads_2 7 rfl rfl)
theorem dX3_threads_56 : decode cX3_threads 56 = .ok (.invokevirtual 129, 3) := dk_182 0 129 (dk_at dksX3_threads_2 8 rfl rfl)
theorem dX3_threads_59 : decode cX3_threads 59 = .ok (.istore_n 3, 1) := dk_62 (dk_at dksX3_threads_2 11 rfl rfl)
theorem dX3_threads_60 : decode cX3_threads 60 = .ok (.iload_n 3, 1) := dk_29 (dk_at dksX3_threads_2 12 rfl rfl)
theorem dX3_threads_61 : decode cX3_threads 61 = .ok (.ifCond .ge 18, 3) := dk_156 0 18 (dk_at dksX3_threads_2 13 rfl rfl)
theorem dX3_threads_64 : decode cX3_threads 64 = .ok (.aload_n 0, 1) := dk_42 (dk_at dksX3_threads_2 16 rfl rfl)
theorem dX3_threads_65 : decode cX3_threads 65 = .ok (.iload_n 2, 1) := dk_28 (dk_at dksX3_threads_2 17 rfl rfl)
theorem dX3_threads_66 : decode cX3_threads 66 = .ok (.iconst 1, 1) := dk_4 (dk_at dksX3_threads_2 18 rfl rfl)
theorem dX3_threads_67 : decode cX3_threads 67 = .ok (.if_icmp .ne 7, 3) := dk_160 0 7 (dk_at dksX3_threads_2 19 rfl rfl)
theorem dX3_threads_70 : decode cX3_threads 70 = .ok (.iconst 1, 1) := dk_4 (dk_at dksX3_threads_2 22 rfl rfl)
theorem dX3_threads_71 : decode cX3_threads 71 = .ok (.goto 4, 3) := dk_167 0 4 (dk_at dksX3_threads_3 0 rfl rfl)
theorem dX3_threads_74 : decode cX3_threads 74 = .ok (.iconst 0, 1) := dk_3 (dk_at dksX3_threads_3 3 rfl rfl)
theorem dX3_threads_75 : decode cX3_threads 75 = .ok (.invokevirtual 164, 3) := dk_182 0 164 (dk_at dksX3_threads_3 4 rfl rfl)
theorem dX3_threads_78 : decode cX3_threads 78 = .ok (.ireturn, 1) := dk_172 (dk_at dksX3_threads_3 7 rfl rfl)
theorem dX3_threads_79 : decode cX3_threads 79 = .ok (.iload_n 1, 1) := dk_27 (dk_at dksX3_threads_3 8 rfl rfl)
theorem dX3_threads_80 : decode cX3_threads 80 = .ok (.aload_n 0, 1) := dk_42 (dk_at dksX3_threads_3 9 rfl rfl)
theorem dX3_threads_81 : decode cX3_threads 81 = .ok (.iload_n 1, 1) := dk_27 (dk_at dksX3_threads_3 10 rfl rfl)
theorem dX3_threads_82 : decode cX3_threads 82 = .ok (.iconst 3, 1) := dk_6 (dk_at dksX3_threads_3 11 rfl rfl)
theorem dX3_threads_83 : decode cX3_threads 83 = .ok (.invokevirtual 136, 3) := dk_182 0 136 (dk_at dksX3_threads_3 12 rfl rfl)
theorem dX3_threads_86 : decode cX3_threads 86 = .ok (.invokestatic 167, 3) := dk_184 0 167 (dk_at dksX3_threads_3 15 rfl rfl)
theorem dX3_threads_89 : decode cX3_threads 89 = .ok (.istore 4, 2) := dk_54 4 (dk_at dksX3_threads_3 18 rfl rfl)
theorem dX3_threads_91 : decode cX3_threads 91 = .ok (.aload_n 0, 1) := dk_42 (dk_at dksX3_threads_3 20 rfl rfl)
theorem dX3_threads_92 : decode cX3_threads 92 = .ok (.getfield 9, 3) := dk_180 0 9 (dk_at dksX3_threads_3 21 rfl rfl)
theorem dX3_threads_95 : decode cX3_threads 95 = .ok (.iload_n 3, 1) := dk_29 (dk_at dksX3_threads_4 0 rfl rfl)
theorem dX3_threads_96 : decode cX3_threads 96 = .ok (.iconst 0, 1) := dk_3 (dk_at dksX3_threads_4 1 rfl rfl)
theorem dX3_threads_97 : decode cX3_threads 97 = .ok (.invokestatic 111, 3) := dk_184 0 111 (dk_at dksX3_threads_4 2 rfl rfl)
theorem dX3_threads_100 : decode cX3_threads 100 = .ok (.iaload, 1) := dk_46 (dk_at dksX3_threads_4 5 rfl rfl)
theorem dX3_threads_101 : decode cX3_threads 101 = .ok (.istore 5, 2) := dk_54 5 (dk_at dksX3_threads_4 6 rfl rfl)
theorem dX3_threads_103 : decode cX3_threads 103 = .ok (.aload_n 0, 1) := dk_42 (dk_at dksX3_threads_4 8 rfl rfl)
theorem dX3_threads_104 : decode cX3_threads 104 = .ok (.getfield 9, 3) := dk_180 0 9 (dk_at dksX3_threads_4 9 rfl rfl)
theorem dX3_threads_107 : decode cX3_threads 107 = .ok (.iload 4, 2) := dk_21 4 (dk_at dksX3_threads_4 12 rfl rfl)
theorem dX3_threads_109 : decode cX3_threads 109 = .ok (.iload 5, 2) := dk_21 5 (dk_at dksX3_threads_4 14 rfl rfl)
theorem dX3_threads_111 : decode cX3_threads 111 = .ok (.iastore, 1) := dk_79 (dk_at dksX3_threads_4 16 rfl rfl)
theorem dX3_threads_112 : decode cX3_threads 112 = .ok (.aload_n 0, 1) := dk_42 (dk_at dksX3_threads_4 17 rfl rfl)
theorem dX3_threads_113 : decode cX3_threads 113 = .ok (.getfield 9, 3) := dk_180 0 9 (dk_at dksX3_threads_4 18 rfl rfl)
theorem dX3_threads_116 : decode cX3_threads 116 = .ok (.iload 4, 2) := dk_21 4 (dk_at dksX3_threads_4 21 rfl rfl)
theorem dX3_threads_118 : decode cX3_threads 118 = .ok (.iconst 1, 1) := dk_4 (dk_at dksX3_threads_4 23 rfl rfl)
theorem dX3_threads_119 : decode cX3_threads 119 = .ok (.iadd, 1) := dk_96 (dk_at dksX3_threads_5 0 rfl rfl)
theorem dX3_threads_120 : decode cX3_threads 120 = .ok (.aload_n 0, 1) := dk_42 (dk_at dksX3_threads_5 1 rfl rfl)
theorem dX3_threads_121 : decode cX3_threads 121 = .ok (.getfield 9, 3) := dk_180 0 9 (dk_at dksX3_threads_5 2 rfl rfl)
theorem dX3_threads_124 : decode cX3_threads 124 = .ok (.iload_n 3, 1) := dk_29 (dk_at dksX3_threads_5 5 rfl rfl)
theorem dX3_threads_125 : decode cX3_threads 125 = .ok (.iconst 2, 1) := dk_5 (dk_at dksX3_threads_5 6 rfl rfl)
theorem dX3_threads_126 : decode cX3_threads 126 = .ok (.invokestatic 111, 3) := dk_184 0 111 (dk_at dksX3_threads_5 7 rfl rfl)
theorem dX3_threads_129 : decode cX3_threads 129 = .ok (.iaload, 1) := dk_46 (dk_at dksX3_threads_5 10 rfl rfl)
theorem dX3_threads_130 : decode cX3_threads 130 = .ok (.iastore, 1) := dk_79 (dk_at dksX3_threads_5 11 rfl rfl)
theorem dX3_threads_131 : decode cX3_threads 131 = .ok (.aload_n 0, 1) := dk_42 (dk_at dksX3_threads_5 12 rfl rfl)
theorem dX3_threads_132 : decode cX3_threads 132 = .ok (.getfield 9, 3) := dk_180 0 9 (dk_at dksX3_threads_5 13 rfl rfl)
theorem dX3_threads_135 : decode cX3_threads 135 = .ok (.iload_n 1, 1) := dk_27 (dk_at dksX3_threads_5 16 rfl rfl)
theorem dX3_threads_136 : decode cX3_threads 136 = .ok (.iconst 3, 1) := dk_6 (dk_at dksX3_threads_5 17 rfl rfl)
theorem dX3_threads_137 : decode cX3_threads 137 = .ok (.invokestatic 133, 3) := dk_184 0 133 (dk_at dksX3_threads_5 18 rfl rfl)
theorem dX3_threads_140 : decode cX3_threads 140 = .ok (.dup2, 1) := dk_92 (dk_at dksX3_threads_5 21 rfl rfl)
theorem dX3_threads_141 : decode cX3_threads 141 = .ok (.iaload, 1) := dk_46 (dk_at dksX3_threads_5 22 rfl rfl)
theorem dX3_threads_142 : decode cX3_threads 142 = .ok (.iconst 1, 1) := dk_4 (dk_at dksX3_threads_5 23 rfl rfl)
theorem dX3_threads_143 : decode cX3_threads 143 = .ok (.iadd, 1) := dk_96 (dk_at dksX3_threads_6 0 rfl rfl)
theorem dX3_threads_144 : decode cX3_threads 144 = .ok (.iastore, 1) := dk_79 (dk_at dksX3_threads_6 1 rfl rfl)
theorem dX3_threads_145 : decode cX3_threads 145 = .ok (.aload_n 0, 1) := dk_42 (dk_at dksX3_threads_6 2 rfl rfl)
theorem dX3_threads_146 : decode cX3_threads 146 = .ok (.bipush 11, 2) := dk_16 11 (dk_at dksX3_threads_6 3 rfl rfl)
theorem dX3_threads_148 : decode cX3_threads 148 = .ok (.bipush 44, 2) := dk_16 44 (dk_at dksX3_threads_6 5 rfl rfl)
theorem dX3_threads_150 : decode cX3_threads 150 = .ok (.iconst 3, 1) := dk_6 (dk_at dksX3_threads_6 7 rfl rfl)
theorem dX3_threads_151 : decode cX3_threads 151 = .ok (.iload_n 3, 1) := dk_29 (dk_at dksX3_threads_6 8 rfl rfl)
theorem dX3_threads_152 : decode cX3_threads 152 = .ok (.invokevirtual 170, 3) := dk_182 0 170 (dk_at dksX3_threads_6 9 rfl rfl)
theorem dX3_threads_155 : decode cX3_threads 155 = .ok (.iload 5, 2) := dk_21 5 (dk_at dksX3_threads_6 12 rfl rfl)
theorem dX3_threads_157 : decode cX3_threads 157 = .ok (.ireturn, 1) := dk_172 (dk_at dksX3_threads_6 14 rfl rfl)
abbrev cX3_isString : ByteArray := prog_33_method_33_code
def yX3_isString : MethodName := ⟨RX3, "isString", "(I)Z"⟩
def dkwX3_isString_0 : List UInt8 := [27, 3, 42, 180, 0, 9, 16, 12, 46, 4, 100, 184, 0, 81, 172]
abbrev dktX3_isString_0 : List UInt8 := dkwX3_isString_0 ++ []
theorem dksX3_isString_0 : cX3_isString.data.toList.drop 0 = dktX3_isString_0 := by decide +kernel
theorem dX3_isString_0 : decode cX3_isString 0 = .ok (.iload_n 1, 1) := dk_27 (dk_at dksX3_isString_0 0 rfl rfl)
theorem dX3_isString_1 : decode cX3_isString 1 = .ok (.iconst 0, 1) := dk_3 (dk_at dksX3_isString_0 1 rfl rfl)
theorem dX3_isString_2 : decode cX3_isString 2 = .ok (.aload_n 0, 1) := dk_42 (dk_at dksX3_isString_0 2 rfl rfl)
theorem dX3_isString_3 : decode cX3_isString 3 = .ok (.getfield 9, 3) := dk_180 0 9 (dk_at dksX3_isString_0 3 rfl rfl)
theorem dX3_isString_6 : decode cX3_isString 6 = .ok (.bipush 12, 2) := dk_16 12 (dk_at dksX3_isString_0 6 rfl rfl)
theorem dX3_isString_8 : decode cX3_isString 8 = .ok (.iaload, 1) := dk_46 (dk_at dksX3_isString_0 8 rfl rfl)
theorem dX3_isString_9 : decode cX3_isString 9 = .ok (.iconst 1, 1) := dk_4 (dk_at dksX3_isString_0 9 rfl rfl)
theorem dX3_isString_10 : decode cX3_isString 10 = .ok (.isub, 1) := dk_100 (dk_at dksX3_isString_0 10 rfl rfl)
theorem dX3_isString_11 : decode cX3_isString 11 = .ok (.invokestatic 81, 3) := dk_184 0 81 (dk_at dksX3_isString_0 11 rfl rfl)
theorem dX3_isString_14 : decode cX3_isString 14 = .ok (.ireturn, 1) := dk_172 (dk_at dksX3_isString_0 14 rfl rfl)
abbrev cX3_wants : ByteArray := prog_33_method_39_code
def yX3_wants : MethodName := ⟨RX3, "wants", "(I)I"⟩
def dkwX3_wants_1 : List UInt8 := [42, 27, 42, 27, 6, 182, 0, 136, 182, 0, 148, 153, 0, 7, 4, 167, 0, 4, 3, 172]
abbrev dktX3_wants_1 : List UInt8 := dkwX3_wants_1 ++ []
def dkwX3_wants_0 : List UInt8 := [42, 27, 182, 0, 142, 153, 0, 7, 6, 167, 0, 34, 42, 27, 182, 0, 145, 154, 0, 7, 5, 167, 0, 22]
abbrev dktX3_wants_0 : List UInt8 := dkwX3_wants_0 ++ dktX3_wants_1
theorem dksX3_wants_0 : cX3_wants.data.toList.drop 0 = dktX3_wants_0 := by decide +kernel
theorem dksX3_wants_1 : cX3_wants.data.toList.drop 24 = dktX3_wants_1 := dk_seg dksX3_wants_0 24 rfl rfl
theorem dX3_wants_0 : decode cX3_wants 0 = .ok (.aload_n 0, 1) := dk_42 (dk_at dksX3_wants_0 0 rfl rfl)
theorem dX3_wants_1 : decode cX3_wants 1 = .ok (.iload_n 1, 1) := dk_27 (dk_at dksX3_wants_0 1 rfl rfl)
theorem dX3_wants_2 : decode cX3_wants 2 = .ok (.invokevirtual 142, 3) := dk_182 0 142 (dk_at dksX3_wants_0 2 rfl rfl)
theorem dX3_wants_5 : decode cX3_wants 5 = .ok (.ifCond .eq 7, 3) := dk_153 0 7 (dk_at dksX3_wants_0 5 rfl rfl)
theorem dX3_wants_8 : decode cX3_wants 8 = .ok (.iconst 3, 1) := dk_6 (dk_at dksX3_wants_0 8 rfl rfl)
theorem dX3_wants_9 : decode cX3_wants 9 = .ok (.goto 34, 3) := dk_167 0 34 (dk_at dksX3_wants_0 9 rfl rfl)
theorem dX3_wants_12 : decode cX3_wants 12 = .ok (.aload_n 0, 1) := dk_42 (dk_at dksX3_wants_0 12 rfl rfl)
theorem dX3_wants_13 : decode cX3_wants 13 = .ok (.iload_n 1, 1) := dk_27 (dk_at dksX3_wants_0 13 rfl rfl)
theorem dX3_wants_14 : decode cX3_wants 14 = .ok (.invokevirtual 145, 3) := dk_182 0 145 (dk_at dksX3_wants_0 14 rfl rfl)
theorem dX3_wants_17 : decode cX3_wants 17 = .ok (.ifCond .ne 7, 3) := dk_154 0 7 (dk_at dksX3_wants_0 17 rfl rfl)
theorem dX3_wants_20 : decode cX3_wants 20 = .ok (.iconst 2, 1) := dk_5 (dk_at dksX3_wants_0 20 rfl rfl)
theorem dX3_wants_21 : decode cX3_wants 21 = .ok (.goto 22, 3) := dk_167 0 22 (dk_at dksX3_wants_0 21 rfl rfl)
theorem dX3_wants_24 : decode cX3_wants 24 = .ok (.aload_n 0, 1) := dk_42 (dk_at dksX3_wants_1 0 rfl rfl)
theorem dX3_wants_25 : decode cX3_wants 25 = .ok (.iload_n 1, 1) := dk_27 (dk_at dksX3_wants_1 1 rfl rfl)
theorem dX3_wants_26 : decode cX3_wants 26 = .ok (.aload_n 0, 1) := dk_42 (dk_at dksX3_wants_1 2 rfl rfl)
theorem dX3_wants_27 : decode cX3_wants 27 = .ok (.iload_n 1, 1) := dk_27 (dk_at dksX3_wants_1 3 rfl rfl)
theorem dX3_wants_28 : decode cX3_wants 28 = .ok (.iconst 3, 1) := dk_6 (dk_at dksX3_wants_1 4 rfl rfl)
theorem dX3_wants_29 : decode cX3_wants 29 = .ok (.invokevirtual 136, 3) := dk_182 0 136 (dk_at dksX3_wants_1 5 rfl rfl)
theorem dX3_wants_32 : decode cX3_wants 32 = .ok (.invokevirtual 148, 3) := dk_182 0 148 (dk_at dksX3_wants_1 8 rfl rfl)
theorem dX3_wants_35 : decode cX3_wants 35 = .ok (.ifCond .eq 7, 3) := dk_153 0 7 (dk_at dksX3_wants_1 11 rfl rfl)
theorem dX3_wants_38 : decode cX3_wants 38 = .ok (.iconst 1, 1) := dk_4 (dk_at dksX3_wants_1 14 rfl rfl)
theorem dX3_wants_39 : decode cX3_wants 39 = .ok (.goto 4, 3) := dk_167 0 4 (dk_at dksX3_wants_1 15 rfl rfl)
theorem dX3_wants_42 : decode cX3_wants 42 = .ok (.iconst 0, 1) := dk_3 (dk_at dksX3_wants_1 18 rfl rfl)
theorem dX3_wants_43 : decode cX3_wants 43 = .ok (.ireturn, 1) := dk_172 (dk_at dksX3_wants_1 19 rfl rfl)
abbrev cX3_isDone : ByteArray := prog_33_method_36_code
def yX3_isDone : MethodName := ⟨RX3, "isDone", "(I)Z"⟩
def dkwX3_isDone_0 : List UInt8 := [42, 27, 5, 182, 0, 136, 42, 27, 3, 182, 0, 136, 160, 0, 7, 4, 167, 0, 4, 3, 172]
abbrev dktX3_isDone_0 : List UInt8 := dkwX3_isDone_0 ++ []
theorem dksX3_isDone_0 : cX3_isDone.data.toList.drop 0 = dktX3_isDone_0 := by decide +kernel
theorem dX3_isDone_0 : decode cX3_isDone 0 = .ok (.aload_n 0, 1) := dk_42 (dk_at dksX3_isDone_0 0 rfl rfl)
theorem dX3_isDone_1 : decode cX3_isDone 1 = .ok (.iload_n 1, 1) := dk_27 (dk_at dksX3_isDone_0 1 rfl rfl)
theorem dX3_isDone_2 : decode cX3_isDone 2 = .ok (.iconst 2, 1) := dk_5 (dk_at dksX3_isDone_0 2 rfl rfl)
theorem dX3_isDone_3 : decode cX3_isDone 3 = .ok (.invokevirtual 136, 3) := dk_182 0 136 (dk_at dksX3_isDone_0 3 rfl rfl)
theorem dX3_isDone_6 : decode cX3_isDone 6 = .ok (.aload_n 0, 1) := dk_42 (dk_at dksX3_isDone_0 6 rfl rfl)
theorem dX3_isDone_7 : decode cX3_isDone 7 = .ok (.iload_n 1, 1) := dk_27 (dk_at dksX3_isDone_0 7 rfl rfl)
theorem dX3_isDone_8 : decode cX3_isDone 8 = .ok (.iconst 0, 1) := dk_3 (dk_at dksX3_isDone_0 8 rfl rfl)
theorem dX3_isDone_9 : decode cX3_isDone 9 = .ok (.invokevirtual 136, 3) := dk_182 0 136 (dk_at dksX3_isDone_0 9 rfl rfl)
theorem dX3_isDone_12 : decode cX3_isDone 12 = .ok (.if_icmp .ne 7, 3) := dk_160 0 7 (dk_at dksX3_isDone_0 12 rfl rfl)
theorem dX3_isDone_15 : decode cX3_isDone 15 = .ok (.iconst 1, 1) := dk_4 (dk_at dksX3_isDone_0 15 rfl rfl)
theorem dX3_isDone_16 : decode cX3_isDone 16 = .ok (.goto 4, 3) := dk_167 0 4 (dk_at dksX3_isDone_0 16 rfl rfl)
theorem dX3_isDone_19 : decode cX3_isDone 19 = .ok (.iconst 0, 1) := dk_3 (dk_at dksX3_isDone_0 19 rfl rfl)
theorem dX3_isDone_20 : decode cX3_isDone 20 = .ok (.ireturn, 1) := dk_172 (dk_at dksX3_isDone_0 20 rfl rfl)
abbrev cX3_ofString : ByteArray := prog_33_method_32_code
def yX3_ofString : MethodName := ⟨RX3, "ofString", "(II)I"⟩
def dkwX3_ofString_0 : List UInt8 := [42, 180, 0, 9, 27, 28, 184, 0, 133, 46, 172]
abbrev dktX3_ofString_0 : List UInt8 := dkwX3_ofString_0 ++ []
theorem dksX3_ofString_0 : cX3_ofString.data.toList.drop 0 = dktX3_ofString_0 := by decide +kernel
theorem dX3_ofString_0 : decode cX3_ofString 0 = .ok (.aload_n 0, 1) := dk_42 (dk_at dksX3_ofString_0 0 rfl rfl)
theorem dX3_ofString_1 : decode cX3_ofString 1 = .ok (.getfield 9, 3) := dk_180 0 9 (dk_at dksX3_ofString_0 1 rfl rfl)
theorem dX3_ofString_4 : decode cX3_ofString 4 = .ok (.iload_n 1, 1) := dk_27 (dk_at dksX3_ofString_0 4 rfl rfl)
theorem dX3_ofString_5 : decode cX3_ofString 5 = .ok (.iload_n 2, 1) := dk_28 (dk_at dksX3_ofString_0 5 rfl rfl)
theorem dX3_ofString_6 : decode cX3_ofString 6 = .ok (.invokestatic 133, 3) := dk_184 0 133 (dk_at dksX3_ofString_0 6 rfl rfl)
theorem dX3_ofString_9 : decode cX3_ofString 9 = .ok (.iaload, 1) := dk_46 (dk_at dksX3_ofString_0 9 rfl rfl)
theorem dX3_ofString_10 : decode cX3_ofString 10 = .ok (.ireturn, 1) := dk_172 (dk_at dksX3_ofString_0 10 rfl rfl)
abbrev cX3_lacks : ByteArray := prog_33_method_38_code
def yX3_lacks : MethodName := ⟨RX3, "lacks", "(I)I"⟩
def dkwX3_lacks_0 : List UInt8 := [42, 27, 182, 0, 139, 42, 27, 4, 182, 0, 136, 96, 4, 96, 42, 27, 6, 182, 0, 136, 100, 172]
abbrev dktX3_lacks_0 : List UInt8 := dkwX3_lacks_0 ++ []
theorem dksX3_lacks_0 : cX3_lacks.data.toList.drop 0 = dktX3_lacks_0 := by decide +kernel
theorem dX3_lacks_0 : decode cX3_lacks 0 = .ok (.aload_n 0, 1) := dk_42 (dk_at dksX3_lacks_0 0 rfl rfl)
theorem dX3_lacks_1 : decode cX3_lacks 1 = .ok (.iload_n 1, 1) := dk_27 (dk_at dksX3_lacks_0 1 rfl rfl)
theorem dX3_lacks_2 : decode cX3_lacks 2 = .ok (.invokevirtual 139, 3) := dk_182 0 139 (dk_at dksX3_lacks_0 2 rfl rfl)
theorem dX3_lacks_5 : decode cX3_lacks 5 = .ok (.aload_n 0, 1) := dk_42 (dk_at dksX3_lacks_0 5 rfl rfl)
theorem dX3_lacks_6 : decode cX3_lacks 6 = .ok (.iload_n 1, 1) := dk_27 (dk_at dksX3_lacks_0 6 rfl rfl)
theorem dX3_lacks_7 : decode cX3_lacks 7 = .ok (.iconst 1, 1) := dk_4 (dk_at dksX3_lacks_0 7 rfl rfl)
theorem dX3_lacks_8 : decode cX3_lacks 8 = .ok (.invokevirtual 136, 3) := dk_182 0 136 (dk_at dksX3_lacks_0 8 rfl rfl)
theorem dX3_lacks_11 : decode cX3_lacks 11 = .ok (.iadd, 1) := dk_96 (dk_at dksX3_lacks_0 11 rfl rfl)
theorem dX3_lacks_12 : decode cX3_lacks 12 = .ok (.iconst 1, 1) := dk_4 (dk_at dksX3_lacks_0 12 rfl rfl)
theorem dX3_lacks_13 : decode cX3_lacks 13 = .ok (.iadd, 1) := dk_96 (dk_at dksX3_lacks_0 13 rfl rfl)
theorem dX3_lacks_14 : decode cX3_lacks 14 = .ok (.aload_n 0, 1) := dk_42 (dk_at dksX3_lacks_0 14 rfl rfl)
theorem dX3_lacks_15 : decode cX3_lacks 15 = .ok (.iload_n 1, 1) := dk_27 (dk_at dksX3_lacks_0 15 rfl rfl)
theorem dX3_lacks_16 : decode cX3_lacks 16 = .ok (.iconst 3, 1) := dk_6 (dk_at dksX3_lacks_0 16 rfl rfl)
theorem dX3_lacks_17 : decode cX3_lacks 17 = .ok (.invokevirtual 136, 3) := dk_182 0 136 (dk_at dksX3_lacks_0 17 rfl rfl)
theorem dX3_lacks_20 : decode cX3_lacks 20 = .ok (.isub, 1) := dk_100 (dk_at dksX3_lacks_0 20 rfl rfl)
theorem dX3_lacks_21 : decode cX3_lacks 21 = .ok (.ireturn, 1) := dk_172 (dk_at dksX3_lacks_0 21 rfl rfl)
abbrev cX3_knotted : ByteArray := prog_33_method_37_code
def yX3_knotted : MethodName := ⟨RX3, "knotted", "(I)I"⟩
def dkwX3_knotted_0 : List UInt8 := [42, 27, 5, 182, 0, 136, 42, 27, 4, 182, 0, 136, 4, 96, 104, 172]
abbrev dktX3_knotted_0 : List UInt8 := dkwX3_knotted_0 ++ []
theorem dksX3_knotted_0 : cX3_knotted.data.toList.drop 0 = dktX3_knotted_0 := by decide +kernel
theorem dX3_knotted_0 : decode cX3_knotted 0 = .ok (.aload_n 0, 1) := dk_42 (dk_at dksX3_knotted_0 0 rfl rfl)
theorem dX3_knotted_1 : decode cX3_knotted 1 = .ok (.iload_n 1, 1) := dk_27 (dk_at dksX3_knotted_0 1 rfl rfl)
theorem dX3_knotted_2 : decode cX3_knotted 2 = .ok (.iconst 2, 1) := dk_5 (dk_at dksX3_knotted_0 2 rfl rfl)
theorem dX3_knotted_3 : decode cX3_knotted 3 = .ok (.invokevirtual 136, 3) := dk_182 0 136 (dk_at dksX3_knotted_0 3 rfl rfl)
theorem dX3_knotted_6 : decode cX3_knotted 6 = .ok (.aload_n 0, 1) := dk_42 (dk_at dksX3_knotted_0 6 rfl rfl)
theorem dX3_knotted_7 : decode cX3_knotted 7 = .ok (.iload_n 1, 1) := dk_27 (dk_at dksX3_knotted_0 7 rfl rfl)
theorem dX3_knotted_8 : decode cX3_knotted 8 = .ok (.iconst 1, 1) := dk_4 (dk_at dksX3_knotted_0 8 rfl rfl)
theorem dX3_knotted_9 : decode cX3_knotted 9 = .ok (.invokevirtual 136, 3) := dk_182 0 136 (dk_at dksX3_knotted_0 9 rfl rfl)
theorem dX3_knotted_12 : decode cX3_knotted 12 = .ok (.iconst 1, 1) := dk_4 (dk_at dksX3_knotted_0 12 rfl rfl)
theorem dX3_knotted_13 : decode cX3_knotted 13 = .ok (.iadd, 1) := dk_96 (dk_at dksX3_knotted_0 13 rfl rfl)
theorem dX3_knotted_14 : decode cX3_knotted 14 = .ok (.imul, 1) := dk_104 (dk_at dksX3_knotted_0 14 rfl rfl)
theorem dX3_knotted_15 : decode cX3_knotted 15 = .ok (.ireturn, 1) := dk_172 (dk_at dksX3_knotted_0 15 rfl rfl)
abbrev cX3_isLargeAt : ByteArray := prog_33_method_35_code
def yX3_isLargeAt : MethodName := ⟨RX3, "isLargeAt", "(II)Z"⟩
def dkwX3_isLargeAt_0 : List UInt8 := [28, 42, 27, 4, 182, 0, 136, 4, 96, 112, 154, 0, 7, 4, 167, 0, 4, 3, 172]
abbrev dktX3_isLargeAt_0 : List UInt8 := dkwX3_isLargeAt_0 ++ []
theorem dksX3_isLargeAt_0 : cX3_isLargeAt.data.toList.drop 0 = dktX3_isLargeAt_0 := by decide +kernel
theorem dX3_isLargeAt_0 : decode cX3_isLargeAt 0 = .ok (.iload_n 2, 1) := dk_28 (dk_at dksX3_isLargeAt_0 0 rfl rfl)
theorem dX3_isLargeAt_1 : decode cX3_isLargeAt 1 = .ok (.aload_n 0, 1) := dk_42 (dk_at dksX3_isLargeAt_0 1 rfl rfl)
theorem dX3_isLargeAt_2 : decode cX3_isLargeAt 2 = .ok (.iload_n 1, 1) := dk_27 (dk_at dksX3_isLargeAt_0 2 rfl rfl)
theorem dX3_isLargeAt_3 : decode cX3_isLargeAt 3 = .ok (.iconst 1, 1) := dk_4 (dk_at dksX3_isLargeAt_0 3 rfl rfl)
theorem dX3_isLargeAt_4 : decode cX3_isLargeAt 4 = .ok (.invokevirtual 136, 3) := dk_182 0 136 (dk_at dksX3_isLargeAt_0 4 rfl rfl)
theorem dX3_isLargeAt_7 : decode cX3_isLargeAt 7 = .ok (.iconst 1, 1) := dk_4 (dk_at dksX3_isLargeAt_0 7 rfl rfl)
theorem dX3_isLargeAt_8 : decode cX3_isLargeAt 8 = .ok (.iadd, 1) := dk_96 (dk_at dksX3_isLargeAt_0 8 rfl rfl)
theorem dX3_isLargeAt_9 : decode cX3_isLargeAt 9 = .ok (.irem, 1) := dk_112 (dk_at dksX3_isLargeAt_0 9 rfl rfl)
theorem dX3_isLargeAt_10 : decode cX3_isLargeAt 10 = .ok (.ifCond .ne 7, 3) := dk_154 0 7 (dk_at dksX3_isLargeAt_0 10 rfl rfl)
theorem dX3_isLargeAt_13 : decode cX3_isLargeAt 13 = .ok (.iconst 1, 1) := dk_4 (dk_at dksX3_isLargeAt_0 13 rfl rfl)
theorem dX3_isLargeAt_14 : decode cX3_isLargeAt 14 = .ok (.goto 4, 3) := dk_167 0 4 (dk_at dksX3_isLargeAt_0 14 rfl rfl)
theorem dX3_isLargeAt_17 : decode cX3_isLargeAt 17 = .ok (.iconst 0, 1) := dk_3 (dk_at dksX3_isLargeAt_0 17 rfl rfl)
theorem dX3_isLargeAt_18 : decode cX3_isLargeAt 18 = .ok (.ireturn, 1) := dk_172 (dk_at dksX3_isLargeAt_0 18 rfl rfl)
abbrev cX3_refusesBead : ByteArray := prog_33_method_43_code
def yX3_refusesBead : MethodName := ⟨RX3, "refusesBead", "(Z)I"⟩
def dkwX3_refusesBead_1 : List UInt8 := [42, 180, 0, 25, 4, 42, 27, 182, 0, 155, 79, 28, 172]
abbrev dktX3_refusesBead_1 : List UInt8 := dkwX3_refusesBead_1 ++ []
def dkwX3_refusesBead_0 : List UInt8 := [42, 16, 6, 27, 153, 0, 7, 4, 167, 0, 4, 3, 182, 0, 77, 61, 42, 180, 0, 22, 4, 16, 10, 79]
abbrev dktX3_refusesBead_0 : List UInt8 := dkwX3_refusesBead_0 ++ dktX3_refusesBead_1
theorem dksX3_refusesBead_0 : cX3_refusesBead.data.toList.drop 0 = dktX3_refusesBead_0 := by decide +kernel
theorem dksX3_refusesBead_1 : cX3_refusesBead.data.toList.drop 24 = dktX3_refusesBead_1 := dk_seg dksX3_refusesBead_0 24 rfl rfl
theorem dX3_refusesBead_0 : decode cX3_refusesBead 0 = .ok (.aload_n 0, 1) := dk_42 (dk_at dksX3_refusesBead_0 0 rfl rfl)
theorem dX3_refusesBead_1 : decode cX3_refusesBead 1 = .ok (.bipush 6, 2) := dk_16 6 (dk_at dksX3_refusesBead_0 1 rfl rfl)
theorem dX3_refusesBead_3 : decode cX3_refusesBead 3 = .ok (.iload_n 1, 1) := dk_27 (dk_at dksX3_refusesBead_0 3 rfl rfl)
theorem dX3_refusesBead_4 : decode cX3_refusesBead 4 = .ok (.ifCond .eq 7, 3) := dk_153 0 7 (dk_at dksX3_refusesBead_0 4 rfl rfl)
theorem dX3_refusesBead_7 : decode cX3_refusesBead 7 = .ok (.iconst 1, 1) := dk_4 (dk_at dksX3_refusesBead_0 7 rfl rfl)
theorem dX3_refusesBead_8 : decode cX3_refusesBead 8 = .ok (.goto 4, 3) := dk_167 0 4 (dk_at dksX3_refusesBead_0 8 rfl rfl)
theorem dX3_refusesBead_11 : decode cX3_refusesBead 11 = .ok (.iconst 0, 1) := dk_3 (dk_at dksX3_refusesBead_0 11 rfl rfl)
theorem dX3_refusesBead_12 : decode cX3_refusesBead 12 = .ok (.invokevirtual 77, 3) := dk_182 0 77 (dk_at dksX3_refusesBead_0 12 rfl rfl)
theorem dX3_refusesBead_15 : decode cX3_refusesBead 15 = .ok (.istore_n 2, 1) := dk_61 (dk_at dksX3_refusesBead_0 15 rfl rfl)
theorem dX3_refusesBead_16 : decode cX3_refusesBead 16 = .ok (.aload_n 0, 1) := dk_42 (dk_at dksX3_refusesBead_0 16 rfl rfl)
theorem dX3_refusesBead_17 : decode cX3_refusesBead 17 = .ok (.getfield 22, 3) := dk_180 0 22 (dk_at dksX3_refusesBead_0 17 rfl rfl)
theorem dX3_refusesBead_20 : decode cX3_refusesBead 20 = .ok (.iconst 1, 1) := dk_4 (dk_at dksX3_refusesBead_0 20 rfl rfl)
theorem dX3_refusesBead_21 : decode cX3_refusesBead 21 = .ok (.bipush 10, 2) := dk_16 10 (dk_at dksX3_refusesBead_0 21 rfl rfl)
theorem dX3_refusesBead_23 : decode cX3_refusesBead 23 = .ok (.iastore, 1) := dk_79 (dk_at dksX3_refusesBead_0 23 rfl rfl)
theorem dX3_refusesBead_24 : decode cX3_refusesBead 24 = .ok (.aload_n 0, 1) := dk_42 (dk_at dksX3_refusesBead_1 0 rfl rfl)
theorem dX3_refusesBead_25 : decode cX3_refusesBead 25 = .ok (.getfield 25, 3) := dk_180 0 25 (dk_at dksX3_refusesBead_1 1 rfl rfl)
theorem dX3_refusesBead_28 : decode cX3_refusesBead 28 = .ok (.iconst 1, 1) := dk_4 (dk_at dksX3_refusesBead_1 4 rfl rfl)
theorem dX3_refusesBead_29 : decode cX3_refusesBead 29 = .ok (.aload_n 0, 1) := dk_42 (dk_at dksX3_refusesBead_1 5 rfl rfl)
theorem dX3_refusesBead_30 : decode cX3_refusesBead 30 = .ok (.iload_n 1, 1) := dk_27 (dk_at dksX3_refusesBead_1 6 rfl rfl)
theorem dX3_refusesBead_31 : decode cX3_refusesBead 31 = .ok (.invokevirtual 155, 3) := dk_182 0 155 (dk_at dksX3_refusesBead_1 7 rfl rfl)
theorem dX3_refusesBead_34 : decode cX3_refusesBead 34 = .ok (.iastore, 1) := dk_79 (dk_at dksX3_refusesBead_1 10 rfl rfl)
theorem dX3_refusesBead_35 : decode cX3_refusesBead 35 = .ok (.iload_n 2, 1) := dk_28 (dk_at dksX3_refusesBead_1 11 rfl rfl)
theorem dX3_refusesBead_36 : decode cX3_refusesBead 36 = .ok (.ireturn, 1) := dk_172 (dk_at dksX3_refusesBead_1 12 rfl rfl)
abbrev cX3_onOthers : ByteArray := prog_33_method_42_code
def yX3_onOthers : MethodName := ⟨RX3, "onOthers", "(Z)I"⟩
def dkwX3_onOthers_2 : List UInt8 := [160, 0, 7, 4, 167, 0, 4, 3, 96, 61, 132, 4, 1, 167, 255, 215, 132, 3, 1, 167, 255, 195, 28, 172]
abbrev dktX3_onOthers_2 : List UInt8 := dkwX3_onOthers_2 ++ []
def dkwX3_onOthers_1 : List UInt8 := [182, 0, 136, 162, 0, 36, 42, 29, 182, 0, 142, 154, 0, 28, 28, 42, 29, 21, 4, 182, 0, 148, 27]
abbrev dktX3_onOthers_1 : List UInt8 := dkwX3_onOthers_1 ++ dktX3_onOthers_2
def dkwX3_onOthers_0 : List UInt8 := [3, 61, 3, 62, 29, 42, 180, 0, 9, 16, 12, 46, 162, 0, 56, 3, 54, 4, 21, 4, 42, 29, 6]
abbrev dktX3_onOthers_0 : List UInt8 := dkwX3_onOthers_0 ++ dktX3_onOthers_1
theorem dksX3_onOthers_0 : cX3_onOthers.data.toList.drop 0 = dktX3_onOthers_0 := by decide +kernel
theorem dksX3_onOthers_1 : cX3_onOthers.data.toList.drop 23 = dktX3_onOthers_1 := dk_seg dksX3_onOthers_0 23 rfl rfl
theorem dksX3_onOthers_2 : cX3_onOthers.data.toList.drop 46 = dktX3_onOthers_2 := dk_seg dksX3_onOthers_1 23 rfl rfl
theorem dX3_onOthers_0 : decode cX3_onOthers 0 = .ok (.iconst 0, 1) := dk_3 (dk_at dksX3_onOthers_0 0 rfl rfl)
theorem dX3_onOthers_1 : decode cX3_onOthers 1 = .ok (.istore_n 2, 1) := dk_61 (dk_at dksX3_onOthers_0 1 rfl rfl)
theorem dX3_onOthers_2 : decode cX3_onOthers 2 = .ok (.iconst 0, 1) := dk_3 (dk_at dksX3_onOthers_0 2 rfl rfl)
theorem dX3_onOthers_3 : decode cX3_onOthers 3 = .ok (.istore_n 3, 1) := dk_62 (dk_at dksX3_onOthers_0 3 rfl rfl)
theorem dX3_onOthers_4 : decode cX3_onOthers 4 = .ok (.iload_n 3, 1) := dk_29 (dk_at dksX3_onOthers_0 4 rfl rfl)
theorem dX3_onOthers_5 : decode cX3_onOthers 5 = .ok (.aload_n 0, 1) := dk_42 (dk_at dksX3_onOthers_0 5 rfl rfl)
theorem dX3_onOthers_6 : decode cX3_onOthers 6 = .ok (.getfield 9, 3) := dk_180 0 9 (dk_at dksX3_onOthers_0 6 rfl rfl)
theorem dX3_onOthers_9 : decode cX3_onOthers 9 = .ok (.bipush 12, 2) := dk_16 12 (dk_at dksX3_onOthers_0 9 rfl rfl)
theorem dX3_onOthers_11 : decode cX3_onOthers 11 = .ok (.iaload, 1) := dk_46 (dk_at dksX3_onOthers_0 11 rfl rfl)
theorem dX3_onOthers_12 : decode cX3_onOthers 12 = .ok (.if_icmp .ge 56, 3) := dk_162 0 56 (dk_at dksX3_onOthers_0 12 rfl rfl)
theorem dX3_onOthers_15 : decode cX3_onOthers 15 = .ok (.iconst 0, 1) := dk_3 (dk_at dksX3_onOthers_0 15 rfl rfl)
theorem dX3_onOthers_16 : decode cX3_onOthers 16 = .ok (.istore 4, 2) := dk_54 4 (dk_at dksX3_onOthers_0 16 rfl rfl)
theorem dX3_onOthers_18 : decode cX3_onOthers 18 = .ok (.iload 4, 2) := dk_21 4 (dk_at dksX3_onOthers_0 18 rfl rfl)
theorem dX3_onOthers_20 : decode cX3_onOthers 20 = .ok (.aload_n 0, 1) := dk_42 (dk_at dksX3_onOthers_0 20 rfl rfl)
theorem dX3_onOthers_21 : decode cX3_onOthers 21 = .ok (.iload_n 3, 1) := dk_29 (dk_at dksX3_onOthers_0 21 rfl rfl)
theorem dX3_onOthers_22 : decode cX3_onOthers 22 = .ok (.iconst 3, 1) := dk_6 (dk_at dksX3_onOthers_0 22 rfl rfl)
theorem dX3_onOthers_23 : decode cX3_onOthers 23 = .ok (.invokevirtual 136, 3) := dk_182 0 136 (dk_at dksX3_onOthers_1 0 rfl rfl)
theorem dX3_onOthers_26 : decode cX3_onOthers 26 = .ok (.if_icmp .ge 36, 3) := dk_162 0 36 (dk_at dksX3_onOthers_1 3 rfl rfl)
theorem dX3_onOthers_29 : decode cX3_onOthers 29 = .ok (.aload_n 0, 1) := dk_42 (dk_at dksX3_onOthers_1 6 rfl rfl)
theorem dX3_onOthers_30 : decode cX3_onOthers 30 = .ok (.iload_n 3, 1) := dk_29 (dk_at dksX3_onOthers_1 7 rfl rfl)
theorem dX3_onOthers_31 : decode cX3_onOthers 31 = .ok (.invokevirtual 142, 3) := dk_182 0 142 (dk_at dksX3_onOthers_1 8 rfl rfl)
theorem dX3_onOthers_34 : decode cX3_onOthers 34 = .ok (.ifCond .ne 28, 3) := dk_154 0 28 (dk_at dksX3_onOthers_1 11 rfl rfl)
theorem dX3_onOthers_37 : decode cX3_onOthers 37 = .ok (.iload_n 2, 1) := dk_28 (dk_at dksX3_onOthers_1 14 rfl rfl)
theorem dX3_onOthers_38 : decode cX3_onOthers 38 = .ok (.aload_n 0, 1) := dk_42 (dk_at dksX3_onOthers_1 15 rfl rfl)
theorem dX3_onOthers_39 : decode cX3_onOthers 39 = .ok (.iload_n 3, 1) := dk_29 (dk_at dksX3_onOthers_1 16 rfl rfl)
theorem dX3_onOthers_40 : decode cX3_onOthers 40 = .ok (.iload 4, 2) := dk_21 4 (dk_at dksX3_onOthers_1 17 rfl rfl)
theorem dX3_onOthers_42 : decode cX3_onOthers 42 = .ok (.invokevirtual 148, 3) := dk_182 0 148 (dk_at dksX3_onOthers_1 19 rfl rfl)
theorem dX3_onOthers_45 : decode cX3_onOthers 45 = .ok (.iload_n 1, 1) := dk_27 (dk_at dksX3_onOthers_1 22 rfl rfl)
theorem dX3_onOthers_46 : decode cX3_onOthers 46 = .ok (.if_icmp .ne 7, 3) := dk_160 0 7 (dk_at dksX3_onOthers_2 0 rfl rfl)
theorem dX3_onOthers_49 : decode cX3_onOthers 49 = .ok (.iconst 1, 1) := dk_4 (dk_at dksX3_onOthers_2 3 rfl rfl)
theorem dX3_onOthers_50 : decode cX3_onOthers 50 = .ok (.goto 4, 3) := dk_167 0 4 (dk_at dksX3_onOthers_2 4 rfl rfl)
theorem dX3_onOthers_53 : decode cX3_onOthers 53 = .ok (.iconst 0, 1) := dk_3 (dk_at dksX3_onOthers_2 7 rfl rfl)
theorem dX3_onOthers_54 : decode cX3_onOthers 54 = .ok (.iadd, 1) := dk_96 (dk_at dksX3_onOthers_2 8 rfl rfl)
theorem dX3_onOthers_55 : decode cX3_onOthers 55 = .ok (.istore_n 2, 1) := dk_61 (dk_at dksX3_onOthers_2 9 rfl rfl)
theorem dX3_onOthers_56 : decode cX3_onOthers 56 = .ok (.iinc 4 1, 3) := dk_132 4 1 (dk_at dksX3_onOthers_2 10 rfl rfl)
theorem dX3_onOthers_59 : decode cX3_onOthers 59 = .ok (.goto (-41), 3) := dk_167 255 215 (dk_at dksX3_onOthers_2 13 rfl rfl)
theorem dX3_onOthers_62 : decode cX3_onOthers 62 = .ok (.iinc 3 1, 3) := dk_132 3 1 (dk_at dksX3_onOthers_2 16 rfl rfl)
theorem dX3_onOthers_65 : decode cX3_onOthers 65 = .ok (.goto (-61), 3) := dk_167 255 195 (dk_at dksX3_onOthers_2 19 rfl rfl)
theorem dX3_onOthers_68 : decode cX3_onOthers 68 = .ok (.iload_n 2, 1) := dk_28 (dk_at dksX3_onOthers_2 22 rfl rfl)
theorem dX3_onOthers_69 : decode cX3_onOthers 69 = .ok (.ireturn, 1) := dk_172 (dk_at dksX3_onOthers_2 23 rfl rfl)
abbrev cX3_beadAt : ByteArray := prog_33_method_34_code
def yX3_beadAt : MethodName := ⟨RX3, "beadAt", "(II)I"⟩
def dkwX3_beadAt_0 : List UInt8 := [26, 7, 5, 27, 104, 96, 184, 0, 133, 172]
abbrev dktX3_beadAt_0 : List UInt8 := dkwX3_beadAt_0 ++ []
theorem dksX3_beadAt_0 : cX3_beadAt.data.toList.drop 0 = dktX3_beadAt_0 := by decide +kernel
theorem dX3_beadAt_0 : decode cX3_beadAt 0 = .ok (.iload_n 0, 1) := dk_26 (dk_at dksX3_beadAt_0 0 rfl rfl)
theorem dX3_beadAt_1 : decode cX3_beadAt 1 = .ok (.iconst 4, 1) := dk_7 (dk_at dksX3_beadAt_0 1 rfl rfl)
theorem dX3_beadAt_2 : decode cX3_beadAt 2 = .ok (.iconst 2, 1) := dk_5 (dk_at dksX3_beadAt_0 2 rfl rfl)
theorem dX3_beadAt_3 : decode cX3_beadAt 3 = .ok (.iload_n 1, 1) := dk_27 (dk_at dksX3_beadAt_0 3 rfl rfl)
theorem dX3_beadAt_4 : decode cX3_beadAt 4 = .ok (.imul, 1) := dk_104 (dk_at dksX3_beadAt_0 4 rfl rfl)
theorem dX3_beadAt_5 : decode cX3_beadAt 5 = .ok (.iadd, 1) := dk_96 (dk_at dksX3_beadAt_0 5 rfl rfl)
theorem dX3_beadAt_6 : decode cX3_beadAt 6 = .ok (.invokestatic 133, 3) := dk_184 0 133 (dk_at dksX3_beadAt_0 6 rfl rfl)
theorem dX3_beadAt_9 : decode cX3_beadAt 9 = .ok (.ireturn, 1) := dk_172 (dk_at dksX3_beadAt_0 9 rfl rfl)
abbrev cX3_goes : ByteArray := prog_33_method_12_code
def yX3_goes : MethodName := ⟨RX3, "goes", "(IIII)V"⟩
def dkwX3_goes_2 : List UInt8 := [167, 255, 220, 42, 180, 0, 9, 27, 92, 46, 4, 100, 79, 177]
abbrev dktX3_goes_2 : List UInt8 := dkwX3_goes_2 ++ []
def dkwX3_goes_1 : List UInt8 := [162, 0, 25, 42, 180, 0, 9, 21, 5, 42, 180, 0, 9, 21, 5, 29, 96, 46, 79, 132, 5, 1]
abbrev dktX3_goes_1 : List UInt8 := dkwX3_goes_1 ++ dktX3_goes_2
def dkwX3_goes_0 : List UInt8 := [28, 29, 21, 4, 104, 96, 54, 5, 21, 5, 28, 29, 42, 180, 0, 9, 27, 46, 4, 100, 104, 96]
abbrev dktX3_goes_0 : List UInt8 := dkwX3_goes_0 ++ dktX3_goes_1
theorem dksX3_goes_0 : cX3_goes.data.toList.drop 0 = dktX3_goes_0 := by decide +kernel
theorem dksX3_goes_1 : cX3_goes.data.toList.drop 22 = dktX3_goes_1 := dk_seg dksX3_goes_0 22 rfl rfl
theorem dksX3_goes_2 : cX3_goes.data.toList.drop 44 = dktX3_goes_2 := dk_seg dksX3_goes_1 22 rfl rfl
theorem dX3_goes_0 : decode cX3_goes 0 = .ok (.iload_n 2, 1) := dk_28 (dk_at dksX3_goes_0 0 rfl rfl)
theorem dX3_goes_1 : decode cX3_goes 1 = .ok (.iload_n 3, 1) := dk_29 (dk_at dksX3_goes_0 1 rfl rfl)
theorem dX3_goes_2 : decode cX3_goes 2 = .ok (.iload 4, 2) := dk_21 4 (dk_at dksX3_goes_0 2 rfl rfl)
theorem dX3_goes_4 : decode cX3_goes 4 = .ok (.imul, 1) := dk_104 (dk_at dksX3_goes_0 4 rfl rfl)
theorem dX3_goes_5 : decode cX3_goes 5 = .ok (.iadd, 1) := dk_96 (dk_at dksX3_goes_0 5 rfl rfl)
theorem dX3_goes_6 : decode cX3_goes 6 = .ok (.istore 5, 2) := dk_54 5 (dk_at dksX3_goes_0 6 rfl rfl)
theorem dX3_goes_8 : decode cX3_goes 8 = .ok (.iload 5, 2) := dk_21 5 (dk_at dksX3_goes_0 8 rfl rfl)
theorem dX3_goes_10 : decode cX3_goes 10 = .ok (.iload_n 2, 1) := dk_28 (dk_at dksX3_goes_0 10 rfl rfl)
theorem dX3_goes_11 : decode cX3_goes 11 = .ok (.iload_n 3, 1) := dk_29 (dk_at dksX3_goes_0 11 rfl rfl)
theorem dX3_goes_12 : decode cX3_goes 12 = .ok (.aload_n 0, 1) := dk_42 (dk_at dksX3_goes_0 12 rfl rfl)
theorem dX3_goes_13 : decode cX3_goes 13 = .ok (.getfield 9, 3) := dk_180 0 9 (dk_at dksX3_goes_0 13 rfl rfl)
theorem dX3_goes_16 : decode cX3_goes 16 = .ok (.iload_n 1, 1) := dk_27 (dk_at dksX3_goes_0 16 rfl rfl)
theorem dX3_goes_17 : decode cX3_goes 17 = .ok (.iaload, 1) := dk_46 (dk_at dksX3_goes_0 17 rfl rfl)
theorem dX3_goes_18 : decode cX3_goes 18 = .ok (.iconst 1, 1) := dk_4 (dk_at dksX3_goes_0 18 rfl rfl)
theorem dX3_goes_19 : decode cX3_goes 19 = .ok (.isub, 1) := dk_100 (dk_at dksX3_goes_0 19 rfl rfl)
theorem dX3_goes_20 : decode cX3_goes 20 = .ok (.imul, 1) := dk_104 (dk_at dksX3_goes_0 20 rfl rfl)
theorem dX3_goes_21 : decode cX3_goes 21 = .ok (.iadd, 1) := dk_96 (dk_at dksX3_goes_0 21 rfl rfl)
theorem dX3_goes_22 : decode cX3_goes 22 = .ok (.if_icmp .ge 25, 3) := dk_162 0 25 (dk_at dksX3_goes_1 0 rfl rfl)
theorem dX3_goes_25 : decode cX3_goes 25 = .ok (.aload_n 0, 1) := dk_42 (dk_at dksX3_goes_1 3 rfl rfl)
theorem dX3_goes_26 : decode cX3_goes 26 = .ok (.getfield 9, 3) := dk_180 0 9 (dk_at dksX3_goes_1 4 rfl rfl)
theorem dX3_goes_29 : decode cX3_goes 29 = .ok (.iload 5, 2) := dk_21 5 (dk_at dksX3_goes_1 7 rfl rfl)
theorem dX3_goes_31 : decode cX3_goes 31 = .ok (.aload_n 0, 1) := dk_42 (dk_at dksX3_goes_1 9 rfl rfl)
theorem dX3_goes_32 : decode cX3_goes 32 = .ok (.getfield 9, 3) := dk_180 0 9 (dk_at dksX3_goes_1 10 rfl rfl)
theorem dX3_goes_35 : decode cX3_goes 35 = .ok (.iload 5, 2) := dk_21 5 (dk_at dksX3_goes_1 13 rfl rfl)
theorem dX3_goes_37 : decode cX3_goes 37 = .ok (.iload_n 3, 1) := dk_29 (dk_at dksX3_goes_1 15 rfl rfl)
theorem dX3_goes_38 : decode cX3_goes 38 = .ok (.iadd, 1) := dk_96 (dk_at dksX3_goes_1 16 rfl rfl)
theorem dX3_goes_39 : decode cX3_goes 39 = .ok (.iaload, 1) := dk_46 (dk_at dksX3_goes_1 17 rfl rfl)
theorem dX3_goes_40 : decode cX3_goes 40 = .ok (.iastore, 1) := dk_79 (dk_at dksX3_goes_1 18 rfl rfl)
theorem dX3_goes_41 : decode cX3_goes 41 = .ok (.iinc 5 1, 3) := dk_132 5 1 (dk_at dksX3_goes_1 19 rfl rfl)
theorem dX3_goes_44 : decode cX3_goes 44 = .ok (.goto (-36), 3) := dk_167 255 220 (dk_at dksX3_goes_2 0 rfl rfl)
theorem dX3_goes_47 : decode cX3_goes 47 = .ok (.aload_n 0, 1) := dk_42 (dk_at dksX3_goes_2 3 rfl rfl)
theorem dX3_goes_48 : decode cX3_goes 48 = .ok (.getfield 9, 3) := dk_180 0 9 (dk_at dksX3_goes_2 4 rfl rfl)
theorem dX3_goes_51 : decode cX3_goes 51 = .ok (.iload_n 1, 1) := dk_27 (dk_at dksX3_goes_2 7 rfl rfl)
theorem dX3_goes_52 : decode cX3_goes 52 = .ok (.dup2, 1) := dk_92 (dk_at dksX3_goes_2 8 rfl rfl)
theorem dX3_goes_53 : decode cX3_goes 53 = .ok (.iaload, 1) := dk_46 (dk_at dksX3_goes_2 9 rfl rfl)
theorem dX3_goes_54 : decode cX3_goes 54 = .ok (.iconst 1, 1) := dk_4 (dk_at dksX3_goes_2 10 rfl rfl)
theorem dX3_goes_55 : decode cX3_goes 55 = .ok (.isub, 1) := dk_100 (dk_at dksX3_goes_2 11 rfl rfl)
theorem dX3_goes_56 : decode cX3_goes 56 = .ok (.iastore, 1) := dk_79 (dk_at dksX3_goes_2 12 rfl rfl)
theorem dX3_goes_57 : decode cX3_goes 57 = .ok (.return_, 1) := dk_177 (dk_at dksX3_goes_2 13 rfl rfl)
abbrev cX3_knot : ByteArray := prog_33_method_47_code
def yX3_knot : MethodName := ⟨RX3, "knot", "(I)I"⟩
def dkwX3_knot_0 : List UInt8 := [42, 182, 0, 85, 42, 42, 27, 182, 0, 177, 182, 0, 91, 172]
abbrev dktX3_knot_0 : List UInt8 := dkwX3_knot_0 ++ []
theorem dksX3_knot_0 : cX3_knot.data.toList.drop 0 = dktX3_knot_0 := by decide +kernel
theorem dX3_knot_0 : decode cX3_knot 0 = .ok (.aload_n 0, 1) := dk_42 (dk_at dksX3_knot_0 0 rfl rfl)
theorem dX3_knot_1 : decode cX3_knot 1 = .ok (.invokevirtual 85, 3) := dk_182 0 85 (dk_at dksX3_knot_0 1 rfl rfl)
theorem dX3_knot_4 : decode cX3_knot 4 = .ok (.aload_n 0, 1) := dk_42 (dk_at dksX3_knot_0 4 rfl rfl)
theorem dX3_knot_5 : decode cX3_knot 5 = .ok (.aload_n 0, 1) := dk_42 (dk_at dksX3_knot_0 5 rfl rfl)
theorem dX3_knot_6 : decode cX3_knot 6 = .ok (.iload_n 1, 1) := dk_27 (dk_at dksX3_knot_0 6 rfl rfl)
theorem dX3_knot_7 : decode cX3_knot 7 = .ok (.invokevirtual 177, 3) := dk_182 0 177 (dk_at dksX3_knot_0 7 rfl rfl)
theorem dX3_knot_10 : decode cX3_knot 10 = .ok (.invokevirtual 91, 3) := dk_182 0 91 (dk_at dksX3_knot_0 10 rfl rfl)
theorem dX3_knot_13 : decode cX3_knot 13 = .ok (.ireturn, 1) := dk_172 (dk_at dksX3_knot_0 13 rfl rfl)
abbrev cX3_knots : ByteArray := prog_33_method_46_code
def yX3_knots : MethodName := ⟨RX3, "knots", "(I)I"⟩
def dkwX3_knots_2 : List UInt8 := [180, 0, 9, 27, 5, 184, 0, 133, 92, 46, 4, 96, 79, 42, 27, 5, 182, 0, 136, 172]
abbrev dktX3_knots_2 : List UInt8 := dkwX3_knots_2 ++ []
def dkwX3_knots_1 : List UInt8 := [172, 42, 27, 182, 0, 145, 158, 0, 15, 42, 16, 7, 42, 27, 182, 0, 145, 182, 0, 77, 172, 42]
abbrev dktX3_knots_1 : List UInt8 := dkwX3_knots_1 ++ dktX3_knots_2
def dkwX3_knots_0 : List UInt8 := [42, 27, 182, 0, 158, 154, 0, 5, 2, 172, 42, 27, 182, 0, 142, 153, 0, 10, 42, 7, 27, 182, 0, 77]
abbrev dktX3_knots_0 : List UInt8 := dkwX3_knots_0 ++ dktX3_knots_1
theorem dksX3_knots_0 : cX3_knots.data.toList.drop 0 = dktX3_knots_0 := by decide +kernel
theorem dksX3_knots_1 : cX3_knots.data.toList.drop 24 = dktX3_knots_1 := dk_seg dksX3_knots_0 24 rfl rfl
theorem dksX3_knots_2 : cX3_knots.data.toList.drop 46 = dktX3_knots_2 := dk_seg dksX3_knots_1 22 rfl rfl
theorem dX3_knots_0 : decode cX3_knots 0 = .ok (.aload_n 0, 1) := dk_42 (dk_at dksX3_knots_0 0 rfl rfl)
theorem dX3_knots_1 : decode cX3_knots 1 = .ok (.iload_n 1, 1) := dk_27 (dk_at dksX3_knots_0 1 rfl rfl)
theorem dX3_knots_2 : decode cX3_knots 2 = .ok (.invokevirtual 158, 3) := dk_182 0 158 (dk_at dksX3_knots_0 2 rfl rfl)
theorem dX3_knots_5 : decode cX3_knots 5 = .ok (.ifCond .ne 5, 3) := dk_154 0 5 (dk_at dksX3_knots_0 5 rfl rfl)
theorem dX3_knots_8 : decode cX3_knots 8 = .ok (.iconst (-1), 1) := dk_2 (dk_at dksX3_knots_0 8 rfl rfl)
theorem dX3_knots_9 : decode cX3_knots 9 = .ok (.ireturn, 1) := dk_172 (dk_at dksX3_knots_0 9 rfl rfl)
theorem dX3_knots_10 : decode cX3_knots 10 = .ok (.aload_n 0, 1) := dk_42 (dk_at dksX3_knots_0 10 rfl rfl)
theorem dX3_knots_11 : decode cX3_knots 11 = .ok (.iload_n 1, 1) := dk_27 (dk_at dksX3_knots_0 11 rfl rfl)
theorem dX3_knots_12 : decode cX3_knots 12 = .ok (.invokevirtual 142, 3) := dk_182 0 142 (dk_at dksX3_knots_0 12 rfl rfl)
theorem dX3_knots_15 : decode cX3_knots 15 = .ok (.ifCond .eq 10, 3) := dk_153 0 10 (dk_at dksX3_knots_0 15 rfl rfl)
theorem dX3_knots_18 : decode cX3_knots 18 = .ok (.aload_n 0, 1) := dk_42 (dk_at dksX3_knots_0 18 rfl rfl)
theorem dX3_knots_19 : decode cX3_knots 19 = .ok (.iconst 4, 1) := dk_7 (dk_at dksX3_knots_0 19 rfl rfl)
theorem dX3_knots_20 : decode cX3_knots 20 = .ok (.iload_n 1, 1) := dk_27 (dk_at dksX3_knots_0 20 rfl rfl)
theorem dX3_knots_21 : decode cX3_knots 21 = .ok (.invokevirtual 77, 3) := dk_182 0 77 (dk_at dksX3_knots_0 21 rfl rfl)
theorem dX3_knots_24 : decode cX3_knots 24 = .ok (.ireturn, 1) := dk_172 (dk_at dksX3_knots_1 0 rfl rfl)
theorem dX3_knots_25 : decode cX3_knots 25 = .ok (.aload_n 0, 1) := dk_42 (dk_at dksX3_knots_1 1 rfl rfl)
theorem dX3_knots_26 : decode cX3_knots 26 = .ok (.iload_n 1, 1) := dk_27 (dk_at dksX3_knots_1 2 rfl rfl)
theorem dX3_knots_27 : decode cX3_knots 27 = .ok (.invokevirtual 145, 3) := dk_182 0 145 (dk_at dksX3_knots_1 3 rfl rfl)
theorem dX3_knots_30 : decode cX3_knots 30 = .ok (.ifCond .le 15, 3) := dk_158 0 15 (dk_at dksX3_knots_1 6 rfl rfl)
theorem dX3_knots_33 : decode cX3_knots 33 = .ok (.aload_n 0, 1) := dk_42 (dk_at dksX3_knots_1 9 rfl rfl)
theorem dX3_knots_34 : decode cX3_knots 34 = .ok (.bipush 7, 2) := dk_16 7 (dk_at dksX3_knots_1 10 rfl rfl)
theorem dX3_knots_36 : decode cX3_knots 36 = .ok (.aload_n 0, 1) := dk_42 (dk_at dksX3_knots_1 12 rfl rfl)
theorem dX3_knots_37 : decode cX3_knots 37 = .ok (.iload_n 1, 1) := dk_27 (dk_at dksX3_knots_1 13 rfl rfl)
theorem dX3_knots_38 : decode cX3_knots 38 = .ok (.invokevirtual 145, 3) := dk_182 0 145 (dk_at dksX3_knots_1 14 rfl rfl)
theorem dX3_knots_41 : decode cX3_knots 41 = .ok (.invokevirtual 77, 3) := dk_182 0 77 (dk_at dksX3_knots_1 17 rfl rfl)
theorem dX3_knots_44 : decode cX3_knots 44 = .ok (.ireturn, 1) := dk_172 (dk_at dksX3_knots_1 20 rfl rfl)
theorem dX3_knots_45 : decode cX3_knots 45 = .ok (.aload_n 0, 1) := dk_42 (dk_at dksX3_knots_1 21 rfl rfl)
theorem dX3_knots_46 : decode cX3_knots 46 = .ok (.getfield 9, 3) := dk_180 0 9 (dk_at dksX3_knots_2 0 rfl rfl)
theorem dX3_knots_49 : decode cX3_knots 49 = .ok (.iload_n 1, 1) := dk_27 (dk_at dksX3_knots_2 3 rfl rfl)
theorem dX3_knots_50 : decode cX3_knots 50 = .ok (.iconst 2, 1) := dk_5 (dk_at dksX3_knots_2 4 rfl rfl)
theorem dX3_knots_51 : decode cX3_knots 51 = .ok (.invokestatic 133, 3) := dk_184 0 133 (dk_at dksX3_knots_2 5 rfl rfl)
theorem dX3_knots_54 : decode cX3_knots 54 = .ok (.dup2, 1) := dk_92 (dk_at dksX3_knots_2 8 rfl rfl)
theorem dX3_knots_55 : decode cX3_knots 55 = .ok (.iaload, 1) := dk_46 (dk_at dksX3_knots_2 9 rfl rfl)
theorem dX3_knots_56 : decode cX3_knots 56 = .ok (.iconst 1, 1) := dk_4 (dk_at dksX3_knots_2 10 rfl rfl)
theorem dX3_knots_57 : decode cX3_knots 57 = .ok (.iadd, 1) := dk_96 (dk_at dksX3_knots_2 11 rfl rfl)
theorem dX3_knots_58 : decode cX3_knots 58 = .ok (.iastore, 1) := dk_79 (dk_at dksX3_knots_2 12 rfl rfl)
theorem dX3_knots_59 : decode cX3_knots 59 = .ok (.aload_n 0, 1) := dk_42 (dk_at dksX3_knots_2 13 rfl rfl)
theorem dX3_knots_60 : decode cX3_knots 60 = .ok (.iload_n 1, 1) := dk_27 (dk_at dksX3_knots_2 14 rfl rfl)
theorem dX3_knots_61 : decode cX3_knots 61 = .ok (.iconst 2, 1) := dk_5 (dk_at dksX3_knots_2 15 rfl rfl)
theorem dX3_knots_62 : decode cX3_knots 62 = .ok (.invokevirtual 136, 3) := dk_182 0 136 (dk_at dksX3_knots_2 16 rfl rfl)
theorem dX3_knots_65 : decode cX3_knots 65 = .ok (.ireturn, 1) := dk_172 (dk_at dksX3_knots_2 19 rfl rfl)
abbrev cX3_drop : ByteArray := prog_33_method_49_code
def yX3_drop : MethodName := ⟨RX3, "drop", "(I)I"⟩
def dkwX3_drop_0 : List UInt8 := [42, 182, 0, 85, 42, 42, 27, 182, 0, 180, 182, 0, 91, 172]
abbrev dktX3_drop_0 : List UInt8 := dkwX3_drop_0 ++ []
theorem dksX3_drop_0 : cX3_drop.data.toList.drop 0 = dktX3_drop_0 := by decide +kernel
theorem dX3_drop_0 : decode cX3_drop 0 = .ok (.aload_n 0, 1) := dk_42 (dk_at dksX3_drop_0 0 rfl rfl)
theorem dX3_drop_1 : decode cX3_drop 1 = .ok (.invokevirtual 85, 3) := dk_182 0 85 (dk_at dksX3_drop_0 1 rfl rfl)
theorem dX3_drop_4 : decode cX3_drop 4 = .ok (.aload_n 0, 1) := dk_42 (dk_at dksX3_drop_0 4 rfl rfl)
theorem dX3_drop_5 : decode cX3_drop 5 = .ok (.aload_n 0, 1) := dk_42 (dk_at dksX3_drop_0 5 rfl rfl)
theorem dX3_drop_6 : decode cX3_drop 6 = .ok (.iload_n 1, 1) := dk_27 (dk_at dksX3_drop_0 6 rfl rfl)
theorem dX3_drop_7 : decode cX3_drop 7 = .ok (.invokevirtual 180, 3) := dk_182 0 180 (dk_at dksX3_drop_0 7 rfl rfl)
theorem dX3_drop_10 : decode cX3_drop 10 = .ok (.invokevirtual 91, 3) := dk_182 0 91 (dk_at dksX3_drop_0 10 rfl rfl)
theorem dX3_drop_13 : decode cX3_drop 13 = .ok (.ireturn, 1) := dk_172 (dk_at dksX3_drop_0 13 rfl rfl)
abbrev cX3_drops : ByteArray := prog_33_method_48_code
def yX3_drops : MethodName := ⟨RX3, "drops", "(I)I"⟩
def dkwX3_drops_3 : List UInt8 := [167, 255, 212, 42, 180, 0, 9, 27, 6, 184, 0, 133, 28, 79, 29, 28, 100, 172]
abbrev dktX3_drops_3 : List UInt8 := dkwX3_drops_3 ++ []
def dkwX3_drops_2 : List UInt8 := [182, 0, 148, 42, 180, 0, 9, 27, 21, 4, 184, 0, 167, 4, 96, 46, 182, 0, 117, 132, 4, 1]
abbrev dktX3_drops_2 : List UInt8 := dkwX3_drops_2 ++ dktX3_drops_3
def dkwX3_drops_1 : List UInt8 := [54, 4, 21, 4, 29, 162, 0, 44, 42, 42, 180, 0, 9, 27, 21, 4, 184, 0, 167, 46, 42, 27, 21, 4]
abbrev dktX3_drops_1 : List UInt8 := dkwX3_drops_1 ++ dktX3_drops_2
def dkwX3_drops_0 : List UInt8 := [42, 27, 182, 0, 158, 154, 0, 5, 2, 172, 42, 27, 182, 0, 139, 61, 42, 27, 6, 182, 0, 136, 62, 28]
abbrev dktX3_drops_0 : List UInt8 := dkwX3_drops_0 ++ dktX3_drops_1
theorem dksX3_drops_0 : cX3_drops.data.toList.drop 0 = dktX3_drops_0 := by decide +kernel
theorem dksX3_drops_1 : cX3_drops.data.toList.drop 24 = dktX3_drops_1 := dk_seg dksX3_drops_0 24 rfl rfl
theorem dksX3_drops_2 : cX3_drops.data.toList.drop 48 = dktX3_drops_2 := dk_seg dksX3_drops_1 24 rfl rfl
theorem dksX3_drops_3 : cX3_drops.data.toList.drop 70 = dktX3_drops_3 := dk_seg dksX3_drops_2 22 rfl rfl
theorem dX3_drops_0 : decode cX3_drops 0 = .ok (.aload_n 0, 1) := dk_42 (dk_at dksX3_drops_0 0 rfl rfl)
theorem dX3_drops_1 : decode cX3_drops 1 = .ok (.iload_n 1, 1) := dk_27 (dk_at dksX3_drops_0 1 rfl rfl)
theorem dX3_drops_2 : decode cX3_drops 2 = .ok (.invokevirtual 158, 3) := dk_182 0 158 (dk_at dksX3_drops_0 2 rfl rfl)
theorem dX3_drops_5 : decode cX3_drops 5 = .ok (.ifCond .ne 5, 3) := dk_154 0 5 (dk_at dksX3_drops_0 5 rfl rfl)
theorem dX3_drops_8 : decode cX3_drops 8 = .ok (.iconst (-1), 1) := dk_2 (dk_at dksX3_drops_0 8 rfl rfl)
theorem dX3_drops_9 : decode cX3_drops 9 = .ok (.ireturn, 1) := dk_172 (dk_at dksX3_drops_0 9 rfl rfl)
theorem dX3_drops_10 : decode cX3_drops 10 = .ok (.aload_n 0, 1) := dk_42 (dk_at dksX3_drops_0 10 rfl rfl)
theorem dX3_drops_11 : decode cX3_drops 11 = .ok (.iload_n 1, 1) := dk_27 (dk_at dksX3_drops_0 11 rfl rfl)
theorem dX3_drops_12 : decode cX3_drops 12 = .ok (.invokevirtual 139, 3) := dk_182 0 139 (dk_at dksX3_drops_0 12 rfl rfl)
theorem dX3_drops_15 : decode cX3_drops 15 = .ok (.istore_n 2, 1) := dk_61 (dk_at dksX3_drops_0 15 rfl rfl)
theorem dX3_drops_16 : decode cX3_drops 16 = .ok (.aload_n 0, 1) := dk_42 (dk_at dksX3_drops_0 16 rfl rfl)
theorem dX3_drops_17 : decode cX3_drops 17 = .ok (.iload_n 1, 1) := dk_27 (dk_at dksX3_drops_0 17 rfl rfl)
theorem dX3_drops_18 : decode cX3_drops 18 = .ok (.iconst 3, 1) := dk_6 (dk_at dksX3_drops_0 18 rfl rfl)
theorem dX3_drops_19 : decode cX3_drops 19 = .ok (.invokevirtual 136, 3) := dk_182 0 136 (dk_at dksX3_drops_0 19 rfl rfl)
theorem dX3_drops_22 : decode cX3_drops 22 = .ok (.istore_n 3, 1) := dk_62 (dk_at dksX3_drops_0 22 rfl rfl)
theorem dX3_drops_23 : decode cX3_drops 23 = .ok (.iload_n 2, 1) := dk_28 (dk_at dksX3_drops_0 23 rfl rfl)
theorem dX3_drops_24 : decode cX3_drops 24 = .ok (.istore 4, 2) := dk_54 4 (dk_at dksX3_drops_1 0 rfl rfl)
theorem dX3_drops_26 : decode cX3_drops 26 = .ok (.iload 4, 2) := dk_21 4 (dk_at dksX3_drops_1 2 rfl rfl)
theorem dX3_drops_28 : decode cX3_drops 28 = .ok (.iload_n 3, 1) := dk_29 (dk_at dksX3_drops_1 4 rfl rfl)
theorem dX3_drops_29 : decode cX3_drops 29 = .ok (.if_icmp .ge 44, 3) := dk_162 0 44 (dk_at dksX3_drops_1 5 rfl rfl)
theorem dX3_drops_32 : decode cX3_drops 32 = .ok (.aload_n 0, 1) := dk_42 (dk_at dksX3_drops_1 8 rfl rfl)
theorem dX3_drops_33 : decode cX3_drops 33 = .ok (.aload_n 0, 1) := dk_42 (dk_at dksX3_drops_1 9 rfl rfl)
theorem dX3_drops_34 : decode cX3_drops 34 = .ok (.getfield 9, 3) := dk_180 0 9 (dk_at dksX3_drops_1 10 rfl rfl)
theorem dX3_drops_37 : decode cX3_drops 37 = .ok (.iload_n 1, 1) := dk_27 (dk_at dksX3_drops_1 13 rfl rfl)
theorem dX3_drops_38 : decode cX3_drops 38 = .ok (.iload 4, 2) := dk_21 4 (dk_at dksX3_drops_1 14 rfl rfl)
theorem dX3_drops_40 : decode cX3_drops 40 = .ok (.invokestatic 167, 3) := dk_184 0 167 (dk_at dksX3_drops_1 16 rfl rfl)
theorem dX3_drops_43 : decode cX3_drops 43 = .ok (.iaload, 1) := dk_46 (dk_at dksX3_drops_1 19 rfl rfl)
theorem dX3_drops_44 : decode cX3_drops 44 = .ok (.aload_n 0, 1) := dk_42 (dk_at dksX3_drops_1 20 rfl rfl)
theorem dX3_drops_45 : decode cX3_drops 45 = .ok (.iload_n 1, 1) := dk_27 (dk_at dksX3_drops_1 21 rfl rfl)
theorem dX3_drops_46 : decode cX3_drops 46 = .ok (.iload 4, 2) := dk_21 4 (dk_at dksX3_drops_1 22 rfl rfl)
theorem dX3_drops_48 : decode cX3_drops 48 = .ok (.invokevirtual 148, 3) := dk_182 0 148 (dk_at dksX3_drops_2 0 rfl rfl)
theorem dX3_drops_51 : decode cX3_drops 51 = .ok (.aload_n 0, 1) := dk_42 (dk_at dksX3_drops_2 3 rfl rfl)
theorem dX3_drops_52 : decode cX3_drops 52 = .ok (.getfield 9, 3) := dk_180 0 9 (dk_at dksX3_drops_2 4 rfl rfl)
theorem dX3_drops_55 : decode cX3_drops 55 = .ok (.iload_n 1, 1) := dk_27 (dk_at dksX3_drops_2 7 rfl rfl)
theorem dX3_drops_56 : decode cX3_drops 56 = .ok (.iload 4, 2) := dk_21 4 (dk_at dksX3_drops_2 8 rfl rfl)
theorem dX3_drops_58 : decode cX3_drops 58 = .ok (.invokestatic 167, 3) := dk_184 0 167 (dk_at dksX3_drops_2 10 rfl rfl)
theorem dX3_drops_61 : decode cX3_drops 61 = .ok (.iconst 1, 1) := dk_4 (dk_at dksX3_drops_2 13 rfl rfl)
theorem dX3_drops_62 : decode cX3_drops 62 = .ok (.iadd, 1) := dk_96 (dk_at dksX3_drops_2 14 rfl rfl)
theorem dX3_drops_63 : decode cX3_drops 63 = .ok (.iaload, 1) := dk_46 (dk_at dksX3_drops_2 15 rfl rfl)
theorem dX3_drops_64 : decode cX3_drops 64 = .ok (.invokevirtual 117, 3) := dk_182 0 117 (dk_at dksX3_drops_2 16 rfl rfl)
theorem dX3_drops_67 : decode cX3_drops 67 = .ok (.iinc 4 1, 3) := dk_132 4 1 (dk_at dksX3_drops_2 19 rfl rfl)
theorem dX3_drops_70 : decode cX3_drops 70 = .ok (.goto (-44), 3) := dk_167 255 212 (dk_at dksX3_drops_3 0 rfl rfl)
theorem dX3_drops_73 : decode cX3_drops 73 = .ok (.aload_n 0, 1) := dk_42 (dk_at dksX3_drops_3 3 rfl rfl)
theorem dX3_drops_74 : decode cX3_drops 74 = .ok (.getfield 9, 3) := dk_180 0 9 (dk_at dksX3_drops_3 4 rfl rfl)
theorem dX3_drops_77 : decode cX3_drops 77 = .ok (.iload_n 1, 1) := dk_27 (dk_at dksX3_drops_3 7 rfl rfl)
theorem dX3_drops_78 : decode cX3_drops 78 = .ok (.iconst 3, 1) := dk_6 (dk_at dksX3_drops_3 8 rfl rfl)
theorem dX3_drops_79 : decode cX3_drops 79 = .ok (.invokestatic 133, 3) := dk_184 0 133 (dk_at dksX3_drops_3 9 rfl rfl)
theorem dX3_drops_82 : decode cX3_drops 82 = .ok (.iload_n 2, 1) := dk_28 (dk_at dksX3_drops_3 12 rfl rfl)
theorem dX3_drops_83 : decode cX3_drops 83 = .ok (.iastore, 1) := dk_79 (dk_at dksX3_drops_3 13 rfl rfl)
theorem dX3_drops_84 : decode cX3_drops 84 = .ok (.iload_n 3, 1) := dk_29 (dk_at dksX3_drops_3 14 rfl rfl)
theorem dX3_drops_85 : decode cX3_drops 85 = .ok (.iload_n 2, 1) := dk_28 (dk_at dksX3_drops_3 15 rfl rfl)
theorem dX3_drops_86 : decode cX3_drops 86 = .ok (.isub, 1) := dk_100 (dk_at dksX3_drops_3 16 rfl rfl)
theorem dX3_drops_87 : decode cX3_drops 87 = .ok (.ireturn, 1) := dk_172 (dk_at dksX3_drops_3 17 rfl rfl)
abbrev cX3_pilgrim : ByteArray := prog_33_method_54_code
def yX3_pilgrim : MethodName := ⟨RX3, "pilgrim", "(IIII)I"⟩
def dkwX3_pilgrim_6 : List UInt8 := [21, 5, 6, 184, 0, 186, 21, 4, 79, 42, 42, 180, 0, 9, 16, 13, 46, 182, 0, 91, 172]
abbrev dktX3_pilgrim_6 : List UInt8 := dkwX3_pilgrim_6 ++ []
def dkwX3_pilgrim_5 : List UInt8 := [21, 5, 4, 184, 0, 186, 28, 79, 42, 180, 0, 9, 21, 5, 5, 184, 0, 186, 29, 79, 42, 180, 0, 9]
abbrev dktX3_pilgrim_5 : List UInt8 := dkwX3_pilgrim_5 ++ dktX3_pilgrim_6
def dkwX3_pilgrim_4 : List UInt8 := [6, 160, 0, 16, 16, 120, 21, 6, 16, 120, 108, 4, 96, 104, 167, 0, 5, 21, 6, 79, 42, 180, 0, 9]
abbrev dktX3_pilgrim_4 : List UInt8 := dkwX3_pilgrim_4 ++ dktX3_pilgrim_5
def dkwX3_pilgrim_3 : List UInt8 := [180, 0, 9, 3, 46, 27, 96, 54, 6, 42, 180, 0, 9, 21, 5, 3, 184, 0, 186, 21, 6, 184, 0, 189]
abbrev dktX3_pilgrim_3 : List UInt8 := dkwX3_pilgrim_3 ++ dktX3_pilgrim_4
def dkwX3_pilgrim_2 : List UInt8 := [42, 16, 13, 16, 6, 17, 4, 100, 7, 182, 0, 95, 54, 5, 21, 5, 156, 0, 6, 21, 5, 172, 42]
abbrev dktX3_pilgrim_2 : List UInt8 := dkwX3_pilgrim_2 ++ dktX3_pilgrim_3
def dkwX3_pilgrim_1 : List UInt8 := [184, 0, 81, 153, 0, 14, 21, 4, 4, 16, 99, 184, 0, 81, 154, 0, 6, 16, 254, 172, 42, 182, 0, 85]
abbrev dktX3_pilgrim_1 : List UInt8 := dkwX3_pilgrim_1 ++ dktX3_pilgrim_2
def dkwX3_pilgrim_0 : List UInt8 := [27, 4, 16, 60, 184, 0, 81, 153, 0, 33, 28, 4, 7, 184, 0, 81, 153, 0, 24, 29, 3, 16, 9]
abbrev dktX3_pilgrim_0 : List UInt8 := dkwX3_pilgrim_0 ++ dktX3_pilgrim_1
theorem dksX3_pilgrim_0 : cX3_pilgrim.data.toList.drop 0 = dktX3_pilgrim_0 := by decide +kernel
theorem dksX3_pilgrim_1 : cX3_pilgrim.data.toList.drop 23 = dktX3_pilgrim_1 := dk_seg dksX3_pilgrim_0 23 rfl rfl
theorem dksX3_pilgrim_2 : cX3_pilgrim.data.toList.drop 47 = dktX3_pilgrim_2 := dk_seg dksX3_pilgrim_1 24 rfl rfl
theorem dksX3_pilgrim_3 : cX3_pilgrim.data.toList.drop 70 = dktX3_pilgrim_3 := dk_seg dksX3_pilgrim_2 23 rfl rfl
theorem dksX3_pilgrim_4 : cX3_pilgrim.data.toList.drop 94 = dktX3_pilgrim_4 := dk_seg dksX3_pilgrim_3 24 rfl rfl
theorem dksX3_pilgrim_5 : cX3_pilgrim.data.toList.drop 118 = dktX3_pilgrim_5 := dk_seg dksX3_pilgrim_4 24 rfl rfl
theorem dksX3_pilgrim_6 : cX3_pilgrim.data.toList.drop 142 = dktX3_pilgrim_6 := dk_seg dksX3_pilgrim_5 24 rfl rfl
theorem dX3_pilgrim_0 : decode cX3_pilgrim 0 = .ok (.iload_n 1, 1) := dk_27 (dk_at dksX3_pilgrim_0 0 rfl rfl)
theorem dX3_pilgrim_1 : decode cX3_pilgrim 1 = .ok (.iconst 1, 1) := dk_4 (dk_at dksX3_pilgrim_0 1 rfl rfl)
theorem dX3_pilgrim_2 : decode cX3_pilgrim 2 = .ok (.bipush 60, 2) := dk_16 60 (dk_at dksX3_pilgrim_0 2 rfl rfl)
theorem dX3_pilgrim_4 : decode cX3_pilgrim 4 = .ok (.invokestatic 81, 3) := dk_184 0 81 (dk_at dksX3_pilgrim_0 4 rfl rfl)
theorem dX3_pilgrim_7 : decode cX3_pilgrim 7 = .ok (.ifCond .eq 33, 3) := dk_153 0 33 (dk_at dksX3_pilgrim_0 7 rfl rfl)
theorem dX3_pilgrim_10 : decode cX3_pilgrim 10 = .ok (.iload_n 2, 1) := dk_28 (dk_at dksX3_pilgrim_0 10 rfl rfl)
theorem dX3_pilgrim_11 : decode cX3_pilgrim 11 = .ok (.iconst 1, 1) := dk_4 (dk_at dksX3_pilgrim_0 11 rfl rfl)
theorem dX3_pilgrim_12 : decode cX3_pilgrim 12 = .ok (.iconst 4, 1) := dk_7 (dk_at dksX3_pilgrim_0 12 rfl rfl)
theorem dX3_pilgrim_13 : decode cX3_pilgrim 13 = .ok (.invokestatic 81, 3) := dk_184 0 81 (dk_at dksX3_pilgrim_0 13 rfl rfl)
theorem dX3_pilgrim_16 : decode cX3_pilgrim 16 = .ok (.ifCond .eq 24, 3) := dk_153 0 24 (dk_at dksX3_pilgrim_0 16 rfl rfl)
theorem dX3_pilgrim_19 : decode cX3_pilgrim 19 = .ok (.iload_n 3, 1) := dk_29 (dk_at dksX3_pilgrim_0 19 rfl rfl)
theorem dX3_pilgrim_20 : decode cX3_pilgrim 20 = .ok (.iconst 0, 1) := dk_3 (dk_at dksX3_pilgrim_0 20 rfl rfl)
theorem dX3_pilgrim_21 : decode cX3_pilgrim 21 = .ok (.bipush 9, 2) := dk_16 9 (dk_at dksX3_pilgrim_0 21 rfl rfl)
theorem dX3_pilgrim_23 : decode cX3_pilgrim 23 = .ok (.invokestatic 81, 3) := dk_184 0 81 (dk_at dksX3_pilgrim_1 0 rfl rfl)
theorem dX3_pilgrim_26 : decode cX3_pilgrim 26 = .ok (.ifCond .eq 14, 3) := dk_153 0 14 (dk_at dksX3_pilgrim_1 3 rfl rfl)
theorem dX3_pilgrim_29 : decode cX3_pilgrim 29 = .ok (.iload 4, 2) := dk_21 4 (dk_at dksX3_pilgrim_1 6 rfl rfl)
theorem dX3_pilgrim_31 : decode cX3_pilgrim 31 = .ok (.iconst 1, 1) := dk_4 (dk_at dksX3_pilgrim_1 8 rfl rfl)
theorem dX3_pilgrim_32 : decode cX3_pilgrim 32 = .ok (.bipush 99, 2) := dk_16 99 (dk_at dksX3_pilgrim_1 9 rfl rfl)
theorem dX3_pilgrim_34 : decode cX3_pilgrim 34 = .ok (.invokestatic 81, 3) := dk_184 0 81 (dk_at dksX3_pilgrim_1 11 rfl rfl)
theorem dX3_pilgrim_37 : decode cX3_pilgrim 37 = .ok (.ifCond .ne 6, 3) := dk_154 0 6 (dk_at dksX3_pilgrim_1 14 rfl rfl)
theorem dX3_pilgrim_40 : decode cX3_pilgrim 40 = .ok (.bipush (-2), 2) := dk_16 254 (dk_at dksX3_pilgrim_1 17 rfl rfl)
theorem dX3_pilgrim_42 : decode cX3_pilgrim 42 = .ok (.ireturn, 1) := dk_172 (dk_at dksX3_pilgrim_1 19 rfl rfl)
theorem dX3_pilgrim_43 : decode cX3_pilgrim 43 = .ok (.aload_n 0, 1) := dk_42 (dk_at dksX3_pilgrim_1 20 rfl rfl)
theorem dX3_pilgrim_44 : decode cX3_pilgrim 44 = .ok (.invokevirtual 85, 3) := dk_182 0 85 (dk_at dksX3_pilgrim_1 21 rfl rfl)
theorem dX3_pilgrim_47 : decode cX3_pilgrim 47 = .ok (.aload_n 0, 1) := dk_42 (dk_at dksX3_pilgrim_2 0 rfl rfl)
theorem dX3_pilgrim_48 : decode cX3_pilgrim 48 = .ok (.bipush 13, 2) := dk_16 13 (dk_at dksX3_pilgrim_2 1 rfl rfl)
theorem dX3_pilgrim_50 : decode cX3_pilgrim 50 = .ok (.bipush 6, 2) := dk_16 6 (dk_at dksX3_pilgrim_2 3 rfl rfl)
theorem dX3_pilgrim_52 : decode cX3_pilgrim 52 = .ok (.sipush 1124, 3) := dk_17 4 100 (dk_at dksX3_pilgrim_2 5 rfl rfl)
theorem dX3_pilgrim_55 : decode cX3_pilgrim 55 = .ok (.iconst 4, 1) := dk_7 (dk_at dksX3_pilgrim_2 8 rfl rfl)
theorem dX3_pilgrim_56 : decode cX3_pilgrim 56 = .ok (.invokevirtual 95, 3) := dk_182 0 95 (dk_at dksX3_pilgrim_2 9 rfl rfl)
theorem dX3_pilgrim_59 : decode cX3_pilgrim 59 = .ok (.istore 5, 2) := dk_54 5 (dk_at dksX3_pilgrim_2 12 rfl rfl)
theorem dX3_pilgrim_61 : decode cX3_pilgrim 61 = .ok (.iload 5, 2) := dk_21 5 (dk_at dksX3_pilgrim_2 14 rfl rfl)
theorem dX3_pilgrim_63 : decode cX3_pilgrim 63 = .ok (.ifCond .ge 6, 3) := dk_156 0 6 (dk_at dksX3_pilgrim_2 16 rfl rfl)
theorem dX3_pilgrim_66 : decode cX3_pilgrim 66 = .ok (.iload 5, 2) := dk_21 5 (dk_at dksX3_pilgrim_2 19 rfl rfl)
theorem dX3_pilgrim_68 : decode cX3_pilgrim 68 = .ok (.ireturn, 1) := dk_172 (dk_at dksX3_pilgrim_2 21 rfl rfl)
theorem dX3_pilgrim_69 : decode cX3_pilgrim 69 = .ok (.aload_n 0, 1) := dk_42 (dk_at dksX3_pilgrim_2 22 rfl rfl)
theorem dX3_pilgrim_70 : decode cX3_pilgrim 70 = .ok (.getfield 9, 3) := dk_180 0 9 (dk_at dksX3_pilgrim_3 0 rfl rfl)
theorem dX3_pilgrim_73 : decode cX3_pilgrim 73 = .ok (.iconst 0, 1) := dk_3 (dk_at dksX3_pilgrim_3 3 rfl rfl)
theorem dX3_pilgrim_74 : decode cX3_pilgrim 74 = .ok (.iaload, 1) := dk_46 (dk_at dksX3_pilgrim_3 4 rfl rfl)
theorem dX3_pilgrim_75 : decode cX3_pilgrim 75 = .ok (.iload_n 1, 1) := dk_27 (dk_at dksX3_pilgrim_3 5 rfl rfl)
theorem dX3_pilgrim_76 : decode cX3_pilgrim 76 = .ok (.iadd, 1) := dk_96 (dk_at dksX3_pilgrim_3 6 rfl rfl)
theorem dX3_pilgrim_77 : decode cX3_pilgrim 77 = .ok (.istore 6, 2) := dk_54 6 (dk_at dksX3_pilgrim_3 7 rfl rfl)
theorem dX3_pilgrim_79 : decode cX3_pilgrim 79 = .ok (.aload_n 0, 1) := dk_42 (dk_at dksX3_pilgrim_3 9 rfl rfl)
theorem dX3_pilgrim_80 : decode cX3_pilgrim 80 = .ok (.getfield 9, 3) := dk_180 0 9 (dk_at dksX3_pilgrim_3 10 rfl rfl)
theorem dX3_pilgrim_83 : decode cX3_pilgrim 83 = .ok (.iload 5, 2) := dk_21 5 (dk_at dksX3_pilgrim_3 13 rfl rfl)
theorem dX3_pilgrim_85 : decode cX3_pilgrim 85 = .ok (.iconst 0, 1) := dk_3 (dk_at dksX3_pilgrim_3 15 rfl rfl)
theorem dX3_pilgrim_86 : decode cX3_pilgrim 86 = .ok (.invokestatic 186, 3) := dk_184 0 186 (dk_at dksX3_pilgrim_3 16 rfl rfl)
theorem dX3_pilgrim_89 : decode cX3_pilgrim 89 = .ok (.iload 6, 2) := dk_21 6 (dk_at dksX3_pilgrim_3 19 rfl rfl)
theorem dX3_pilgrim_91 : decode cX3_pilgrim 91 = .ok (.invokestatic 189, 3) := dk_184 0 189 (dk_at dksX3_pilgrim_3 21 rfl rfl)
theorem dX3_pilgrim_94 : decode cX3_pilgrim 94 = .ok (.iconst 3, 1) := dk_6 (dk_at dksX3_pilgrim_4 0 rfl rfl)
theorem dX3_pilgrim_95 : decode cX3_pilgrim 95 = .ok (.if_icmp .ne 16, 3) := dk_160 0 16 (dk_at dksX3_pilgrim_4 1 rfl rfl)
theorem dX3_pilgrim_98 : decode cX3_pilgrim 98 = .ok (.bipush 120, 2) := dk_16 120 (dk_at dksX3_pilgrim_4 4 rfl rfl)
theorem dX3_pilgrim_100 : decode cX3_pilgrim 100 = .ok (.iload 6, 2) := dk_21 6 (dk_at dksX3_pilgrim_4 6 rfl rfl)
theorem dX3_pilgrim_102 : decode cX3_pilgrim 102 = .ok (.bipush 120, 2) := dk_16 120 (dk_at dksX3_pilgrim_4 8 rfl rfl)
theorem dX3_pilgrim_104 : decode cX3_pilgrim 104 = .ok (.idiv, 1) := dk_108 (dk_at dksX3_pilgrim_4 10 rfl rfl)
theorem dX3_pilgrim_105 : decode cX3_pilgrim 105 = .ok (.iconst 1, 1) := dk_4 (dk_at dksX3_pilgrim_4 11 rfl rfl)
theorem dX3_pilgrim_106 : decode cX3_pilgrim 106 = .ok (.iadd, 1) := dk_96 (dk_at dksX3_pilgrim_4 12 rfl rfl)
theorem dX3_pilgrim_107 : decode cX3_pilgrim 107 = .ok (.imul, 1) := dk_104 (dk_at dksX3_pilgrim_4 13 rfl rfl)
theorem dX3_pilgrim_108 : decode cX3_pilgrim 108 = .ok (.goto 5, 3) := dk_167 0 5 (dk_at dksX3_pilgrim_4 14 rfl rfl)
theorem dX3_pilgrim_111 : decode cX3_pilgrim 111 = .ok (.iload 6, 2) := dk_21 6 (dk_at dksX3_pilgrim_4 17 rfl rfl)
theorem dX3_pilgrim_113 : decode cX3_pilgrim 113 = .ok (.iastore, 1) := dk_79 (dk_at dksX3_pilgrim_4 19 rfl rfl)
theorem dX3_pilgrim_114 : decode cX3_pilgrim 114 = .ok (.aload_n 0, 1) := dk_42 (dk_at dksX3_pilgrim_4 20 rfl rfl)
theorem dX3_pilgrim_115 : decode cX3_pilgrim 115 = .ok (.getfield 9, 3) := dk_180 0 9 (dk_at dksX3_pilgrim_4 21 rfl rfl)
theorem dX3_pilgrim_118 : decode cX3_pilgrim 118 = .ok (.iload 5, 2) := dk_21 5 (dk_at dksX3_pilgrim_5 0 rfl rfl)
theorem dX3_pilgrim_120 : decode cX3_pilgrim 120 = .ok (.iconst 1, 1) := dk_4 (dk_at dksX3_pilgrim_5 2 rfl rfl)
theorem dX3_pilgrim_121 : decode cX3_pilgrim 121 = .ok (.invokestatic 186, 3) := dk_184 0 186 (dk_at dksX3_pilgrim_5 3 rfl rfl)
theorem dX3_pilgrim_124 : decode cX3_pilgrim 124 = .ok (.iload_n 2, 1) := dk_28 (dk_at dksX3_pilgrim_5 6 rfl rfl)
theorem dX3_pilgrim_125 : decode cX3_pilgrim 125 = .ok (.iastore, 1) := dk_79 (dk_at dksX3_pilgrim_5 7 rfl rfl)
theorem dX3_pilgrim_126 : decode cX3_pilgrim 126 = .ok (.aload_n 0, 1) := dk_42 (dk_at dksX3_pilgrim_5 8 rfl rfl)
theorem dX3_pilgrim_127 : decode cX3_pilgrim 127 = .ok (.getfield 9, 3) := dk_180 0 9 (dk_at dksX3_pilgrim_5 9 rfl rfl)
theorem dX3_pilgrim_130 : decode cX3_pilgrim 130 = .ok (.iload 5, 2) := dk_21 5 (dk_at dksX3_pilgrim_5 12 rfl rfl)
theorem dX3_pilgrim_132 : decode cX3_pilgrim 132 = .ok (.iconst 2, 1) := dk_5 (dk_at dksX3_pilgrim_5 14 rfl rfl)
theorem dX3_pilgrim_133 : decode cX3_pilgrim 133 = .ok (.invokestatic 186, 3) := dk_184 0 186 (dk_at dksX3_pilgrim_5 15 rfl rfl)
theorem dX3_pilgrim_136 : decode cX3_pilgrim 136 = .ok (.iload_n 3, 1) := dk_29 (dk_at dksX3_pilgrim_5 18 rfl rfl)
theorem dX3_pilgrim_137 : decode cX3_pilgrim 137 = .ok (.iastore, 1) := dk_79 (dk_at dksX3_pilgrim_5 19 rfl rfl)
theorem dX3_pilgrim_138 : decode cX3_pilgrim 138 = .ok (.aload_n 0, 1) := dk_42 (dk_at dksX3_pilgrim_5 20 rfl rfl)
theorem dX3_pilgrim_139 : decode cX3_pilgrim 139 = .ok (.getfield 9, 3) := dk_180 0 9 (dk_at dksX3_pilgrim_5 21 rfl rfl)
theorem dX3_pilgrim_142 : decode cX3_pilgrim 142 = .ok (.iload 5, 2) := dk_21 5 (dk_at dksX3_pilgrim_6 0 rfl rfl)
theorem dX3_pilgrim_144 : decode cX3_pilgrim 144 = .ok (.iconst 3, 1) := dk_6 (dk_at dksX3_pilgrim_6 2 rfl rfl)
theorem dX3_pilgrim_145 : decode cX3_pilgrim 145 = .ok (.invokestatic 186, 3) := dk_184 0 186 (dk_at dksX3_pilgrim_6 3 rfl rfl)
theorem dX3_pilgrim_148 : decode cX3_pilgrim 148 = .ok (.iload 4, 2) := dk_21 4 (dk_at dksX3_pilgrim_6 6 rfl rfl)
theorem dX3_pilgrim_150 : decode cX3_pilgrim 150 = .ok (.iastore, 1) := dk_79 (dk_at dksX3_pilgrim_6 8 rfl rfl)
theorem dX3_pilgrim_151 : decode cX3_pilgrim 151 = .ok (.aload_n 0, 1) := dk_42 (dk_at dksX3_pilgrim_6 9 rfl rfl)
theorem dX3_pilgrim_152 : decode cX3_pilgrim 152 = .ok (.aload_n 0, 1) := dk_42 (dk_at dksX3_pilgrim_6 10 rfl rfl)
theorem dX3_pilgrim_153 : decode cX3_pilgrim 153 = .ok (.getfield 9, 3) := dk_180 0 9 (dk_at dksX3_pilgrim_6 11 rfl rfl)
theorem dX3_pilgrim_156 : decode cX3_pilgrim 156 = .ok (.bipush 13, 2) := dk_16 13 (dk_at dksX3_pilgrim_6 14 rfl rfl)
theorem dX3_pilgrim_158 : decode cX3_pilgrim 158 = .ok (.iaload, 1) := dk_46 (dk_at dksX3_pilgrim_6 16 rfl rfl)
theorem dX3_pilgrim_159 : decode cX3_pilgrim 159 = .ok (.invokevirtual 91, 3) := dk_182 0 91 (dk_at dksX3_pilgrim_6 17 rfl rfl)
theorem dX3_pilgrim_162 : decode cX3_pilgrim 162 = .ok (.ireturn, 1) := dk_172 (dk_at dksX3_pilgrim_6 20 rfl rfl)
abbrev cX3_pilgrimAt : ByteArray := prog_33_method_52_code
def yX3_pilgrimAt : MethodName := ⟨RX3, "pilgrimAt", "(II)I"⟩
def dkwX3_pilgrimAt_0 : List UInt8 := [17, 4, 100, 7, 26, 104, 96, 27, 96, 172]
abbrev dktX3_pilgrimAt_0 : List UInt8 := dkwX3_pilgrimAt_0 ++ []
theorem dksX3_pilgrimAt_0 : cX3_pilgrimAt.data.toList.drop 0 = dktX3_pilgrimAt_0 := by decide +kernel
theorem dX3_pilgrimAt_0 : decode cX3_pilgrimAt 0 = .ok (.sipush 1124, 3) := dk_17 4 100 (dk_at dksX3_pilgrimAt_0 0 rfl rfl)
theorem dX3_pilgrimAt_3 : decode cX3_pilgrimAt 3 = .ok (.iconst 4, 1) := dk_7 (dk_at dksX3_pilgrimAt_0 3 rfl rfl)
theorem dX3_pilgrimAt_4 : decode cX3_pilgrimAt 4 = .ok (.iload_n 0, 1) := dk_26 (dk_at dksX3_pilgrimAt_0 4 rfl rfl)
theorem dX3_pilgrimAt_5 : decode cX3_pilgrimAt 5 = .ok (.imul, 1) := dk_104 (dk_at dksX3_pilgrimAt_0 5 rfl rfl)
theorem dX3_pilgrimAt_6 : decode cX3_pilgrimAt 6 = .ok (.iadd, 1) := dk_96 (dk_at dksX3_pilgrimAt_0 6 rfl rfl)
theorem dX3_pilgrimAt_7 : decode cX3_pilgrimAt 7 = .ok (.iload_n 1, 1) := dk_27 (dk_at dksX3_pilgrimAt_0 7 rfl rfl)
theorem dX3_pilgrimAt_8 : decode cX3_pilgrimAt 8 = .ok (.iadd, 1) := dk_96 (dk_at dksX3_pilgrimAt_0 8 rfl rfl)
theorem dX3_pilgrimAt_9 : decode cX3_pilgrimAt 9 = .ok (.ireturn, 1) := dk_172 (dk_at dksX3_pilgrimAt_0 9 rfl rfl)
abbrev cX3_season : ByteArray := prog_33_method_53_code
def yX3_season : MethodName := ⟨RX3, "season", "(I)I"⟩
def dkwX3_season_0 : List UInt8 := [26, 16, 30, 108, 7, 112, 172]
abbrev dktX3_season_0 : List UInt8 := dkwX3_season_0 ++ []
theorem dksX3_season_0 : cX3_season.data.toList.drop 0 = dktX3_season_0 := by decide +kernel
theorem dX3_season_0 : decode cX3_season 0 = .ok (.iload_n 0, 1) := dk_26 (dk_at dksX3_season_0 0 rfl rfl)
theorem dX3_season_1 : decode cX3_season 1 = .ok (.bipush 30, 2) := dk_16 30 (dk_at dksX3_season_0 1 rfl rfl)
theorem dX3_season_3 : decode cX3_season 3 = .ok (.idiv, 1) := dk_108 (dk_at dksX3_season_0 3 rfl rfl)
theorem dX3_season_4 : decode cX3_season 4 = .ok (.iconst 4, 1) := dk_7 (dk_at dksX3_season_0 4 rfl rfl)
theorem dX3_season_5 : decode cX3_season 5 = .ok (.irem, 1) := dk_112 (dk_at dksX3_season_0 5 rfl rfl)
theorem dX3_season_6 : decode cX3_season 6 = .ok (.ireturn, 1) := dk_172 (dk_at dksX3_season_0 6 rfl rfl)
abbrev cX3_mend : ByteArray := prog_33_method_60_code
def yX3_mend : MethodName := ⟨RX3, "mend", "()I"⟩
def dkwX3_mend_0 : List UInt8 := [42, 182, 0, 85, 42, 42, 182, 0, 202, 182, 0, 91, 172]
abbrev dktX3_mend_0 : List UInt8 := dkwX3_mend_0 ++ []
theorem dksX3_mend_0 : cX3_mend.data.toList.drop 0 = dktX3_mend_0 := by decide +kernel
theorem dX3_mend_0 : decode cX3_mend 0 = .ok (.aload_n 0, 1) := dk_42 (dk_at dksX3_mend_0 0 rfl rfl)
theorem dX3_mend_1 : decode cX3_mend 1 = .ok (.invokevirtual 85, 3) := dk_182 0 85 (dk_at dksX3_mend_0 1 rfl rfl)
theorem dX3_mend_4 : decode cX3_mend 4 = .ok (.aload_n 0, 1) := dk_42 (dk_at dksX3_mend_0 4 rfl rfl)
theorem dX3_mend_5 : decode cX3_mend 5 = .ok (.aload_n 0, 1) := dk_42 (dk_at dksX3_mend_0 5 rfl rfl)
theorem dX3_mend_6 : decode cX3_mend 6 = .ok (.invokevirtual 202, 3) := dk_182 0 202 (dk_at dksX3_mend_0 6 rfl rfl)
theorem dX3_mend_9 : decode cX3_mend 9 = .ok (.invokevirtual 91, 3) := dk_182 0 91 (dk_at dksX3_mend_0 9 rfl rfl)
theorem dX3_mend_12 : decode cX3_mend 12 = .ok (.ireturn, 1) := dk_172 (dk_at dksX3_mend_0 12 rfl rfl)
abbrev cX3_mends : ByteArray := prog_33_method_59_code
def yX3_mends : MethodName := ⟨RX3, "mends", "()I"⟩
def dkwX3_mends_5 : List UInt8 := [17, 4, 164, 8, 3, 182, 0, 170, 29, 172]
abbrev dktX3_mends_5 : List UInt8 := dkwX3_mends_5 ++ []
def dkwX3_mends_4 : List UInt8 := [180, 0, 9, 16, 6, 92, 46, 6, 96, 79, 42, 180, 0, 9, 8, 92, 46, 4, 96, 79, 42, 16, 15]
abbrev dktX3_mends_4 : List UInt8 := dkwX3_mends_4 ++ dktX3_mends_5
def dkwX3_mends_3 : List UInt8 := [182, 0, 170, 42, 180, 0, 9, 16, 8, 92, 46, 42, 180, 0, 9, 17, 4, 165, 46, 4, 96, 96, 79, 42]
abbrev dktX3_mends_3 : List UInt8 := dkwX3_mends_3 ++ dktX3_mends_4
def dkwX3_mends_2 : List UInt8 := [42, 27, 182, 0, 164, 172, 42, 180, 0, 9, 28, 3, 184, 0, 111, 46, 62, 42, 16, 11, 16, 44, 6, 28]
abbrev dktX3_mends_2 : List UInt8 := dkwX3_mends_2 ++ dktX3_mends_3
def dkwX3_mends_1 : List UInt8 := [17, 4, 167, 46, 4, 160, 0, 7, 4, 167, 0, 4, 3, 60, 42, 27, 182, 0, 129, 61, 28, 156, 0, 9]
abbrev dktX3_mends_1 : List UInt8 := dkwX3_mends_1 ++ dktX3_mends_2
def dkwX3_mends_0 : List UInt8 := [42, 180, 0, 9, 16, 15, 46, 154, 0, 11, 42, 16, 8, 3, 182, 0, 77, 172, 42, 180, 0, 9]
abbrev dktX3_mends_0 : List UInt8 := dkwX3_mends_0 ++ dktX3_mends_1
theorem dksX3_mends_0 : cX3_mends.data.toList.drop 0 = dktX3_mends_0 := by decide +kernel
theorem dksX3_mends_1 : cX3_mends.data.toList.drop 22 = dktX3_mends_1 := dk_seg dksX3_mends_0 22 rfl rfl
theorem dksX3_mends_2 : cX3_mends.data.toList.drop 46 = dktX3_mends_2 := dk_seg dksX3_mends_1 24 rfl rfl
theorem dksX3_mends_3 : cX3_mends.data.toList.drop 70 = dktX3_mends_3 := dk_seg dksX3_mends_2 24 rfl rfl
theorem dksX3_mends_4 : cX3_mends.data.toList.drop 94 = dktX3_mends_4 := dk_seg dksX3_mends_3 24 rfl rfl
theorem dksX3_mends_5 : cX3_mends.data.toList.drop 117 = dktX3_mends_5 := dk_seg dksX3_mends_4 23 rfl rfl
theorem dX3_mends_0 : decode cX3_mends 0 = .ok (.aload_n 0, 1) := dk_42 (dk_at dksX3_mends_0 0 rfl rfl)
theorem dX3_mends_1 : decode cX3_mends 1 = .ok (.getfield 9, 3) := dk_180 0 9 (dk_at dksX3_mends_0 1 rfl rfl)
theorem dX3_mends_4 : decode cX3_mends 4 = .ok (.bipush 15, 2) := dk_16 15 (dk_at dksX3_mends_0 4 rfl rfl)
theorem dX3_mends_6 : decode cX3_mends 6 = .ok (.iaload, 1) := dk_46 (dk_at dksX3_mends_0 6 rfl rfl)
theorem dX3_mends_7 : decode cX3_mends 7 = .ok (.ifCond .ne 11, 3) := dk_154 0 11 (dk_at dksX3_mends_0 7 rfl rfl)
theorem dX3_mends_10 : decode cX3_mends 10 = .ok (.aload_n 0, 1) := dk_42 (dk_at dksX3_mends_0 10 rfl rfl)
theorem dX3_mends_11 : decode cX3_mends 11 = .ok (.bipush 8, 2) := dk_16 8 (dk_at dksX3_mends_0 11 rfl rfl)
theorem dX3_mends_13 : decode cX3_mends 13 = .ok (.iconst 0, 1) := dk_3 (dk_at dksX3_mends_0 13 rfl rfl)
theorem dX3_mends_14 : decode cX3_mends 14 = .ok (.invokevirtual 77, 3) := dk_182 0 77 (dk_at dksX3_mends_0 14 rfl rfl)
theorem dX3_mends_17 : decode cX3_mends 17 = .ok (.ireturn, 1) := dk_172 (dk_at dksX3_mends_0 17 rfl rfl)
theorem dX3_mends_18 : decode cX3_mends 18 = .ok (.aload_n 0, 1) := dk_42 (dk_at dksX3_mends_0 18 rfl rfl)
theorem dX3_mends_19 : decode cX3_mends 19 = .ok (.getfield 9, 3) := dk_180 0 9 (dk_at dksX3_mends_0 19 rfl rfl)
theorem dX3_mends_22 : decode cX3_mends 22 = .ok (.sipush 1191, 3) := dk_17 4 167 (dk_at dksX3_mends_1 0 rfl rfl)
theorem dX3_mends_25 : decode cX3_mends 25 = .ok (.iaload, 1) := dk_46 (dk_at dksX3_mends_1 3 rfl rfl)
theorem dX3_mends_26 : decode cX3_mends 26 = .ok (.iconst 1, 1) := dk_4 (dk_at dksX3_mends_1 4 rfl rfl)
theorem dX3_mends_27 : decode cX3_mends 27 = .ok (.if_icmp .ne 7, 3) := dk_160 0 7 (dk_at dksX3_mends_1 5 rfl rfl)
theorem dX3_mends_30 : decode cX3_mends 30 = .ok (.iconst 1, 1) := dk_4 (dk_at dksX3_mends_1 8 rfl rfl)
theorem dX3_mends_31 : decode cX3_mends 31 = .ok (.goto 4, 3) := dk_167 0 4 (dk_at dksX3_mends_1 9 rfl rfl)
theorem dX3_mends_34 : decode cX3_mends 34 = .ok (.iconst 0, 1) := dk_3 (dk_at dksX3_mends_1 12 rfl rfl)
theorem dX3_mends_35 : decode cX3_mends 35 = .ok (.istore_n 1, 1) := dk_60 (dk_at dksX3_mends_1 13 rfl rfl)
theorem dX3_mends_36 : decode cX3_mends 36 = .ok (.aload_n 0, 1) := dk_42 (dk_at dksX3_mends_1 14 rfl rfl)
theorem dX3_mends_37 : decode cX3_mends 37 = .ok (.iload_n 1, 1) := dk_27 (dk_at dksX3_mends_1 15 rfl rfl)
theorem dX3_mends_38 : decode cX3_mends 38 = .ok (.invokevirtual 129, 3) := dk_182 0 129 (dk_at dksX3_mends_1 16 rfl rfl)
theorem dX3_mends_41 : decode cX3_mends 41 = .ok (.istore_n 2, 1) := dk_61 (dk_at dksX3_mends_1 19 rfl rfl)
theorem dX3_mends_42 : decode cX3_mends 42 = .ok (.iload_n 2, 1) := dk_28 (dk_at dksX3_mends_1 20 rfl rfl)
theorem dX3_mends_43 : decode cX3_mends 43 = .ok (.ifCond .ge 9, 3) := dk_156 0 9 (dk_at dksX3_mends_1 21 rfl rfl)
theorem dX3_mends_46 : decode cX3_mends 46 = .ok (.aload_n 0, 1) := dk_42 (dk_at dksX3_mends_2 0 rfl rfl)
theorem dX3_mends_47 : decode cX3_mends 47 = .ok (.iload_n 1, 1) := dk_27 (dk_at dksX3_mends_2 1 rfl rfl)
theorem dX3_mends_48 : decode cX3_mends 48 = .ok (.invokevirtual 164, 3) := dk_182 0 164 (dk_at dksX3_mends_2 2 rfl rfl)
theorem dX3_mends_51 : decode cX3_mends 51 = .ok (.ireturn, 1) := dk_172 (dk_at dksX3_mends_2 5 rfl rfl)
theorem dX3_mends_52 : decode cX3_mends 52 = .ok (.aload_n 0, 1) := dk_42 (dk_at dksX3_mends_2 6 rfl rfl)
theorem dX3_mends_53 : decode cX3_mends 53 = .ok (.getfield 9, 3) := dk_180 0 9 (dk_at dksX3_mends_2 7 rfl rfl)
theorem dX3_mends_56 : decode cX3_mends 56 = .ok (.iload_n 2, 1) := dk_28 (dk_at dksX3_mends_2 10 rfl rfl)
theorem dX3_mends_57 : decode cX3_mends 57 = .ok (.iconst 0, 1) := dk_3 (dk_at dksX3_mends_2 11 rfl rfl)
theorem dX3_mends_58 : decode cX3_mends 58 = .ok (.invokestatic 111, 3) := dk_184 0 111 (dk_at dksX3_mends_2 12 rfl rfl)
theorem dX3_mends_61 : decode cX3_mends 61 = .ok (.iaload, 1) := dk_46 (dk_at dksX3_mends_2 15 rfl rfl)
theorem dX3_mends_62 : decode cX3_mends 62 = .ok (.istore_n 3, 1) := dk_62 (dk_at dksX3_mends_2 16 rfl rfl)
theorem dX3_mends_63 : decode cX3_mends 63 = .ok (.aload_n 0, 1) := dk_42 (dk_at dksX3_mends_2 17 rfl rfl)
theorem dX3_mends_64 : decode cX3_mends 64 = .ok (.bipush 11, 2) := dk_16 11 (dk_at dksX3_mends_2 18 rfl rfl)
theorem dX3_mends_66 : decode cX3_mends 66 = .ok (.bipush 44, 2) := dk_16 44 (dk_at dksX3_mends_2 20 rfl rfl)
theorem dX3_mends_68 : decode cX3_mends 68 = .ok (.iconst 3, 1) := dk_6 (dk_at dksX3_mends_2 22 rfl rfl)
theorem dX3_mends_69 : decode cX3_mends 69 = .ok (.iload_n 2, 1) := dk_28 (dk_at dksX3_mends_2 23 rfl rfl)
theorem dX3_mends_70 : decode cX3_mends 70 = .ok (.invokevirtual 170, 3) := dk_182 0 170 (dk_at dksX3_mends_3 0 rfl rfl)
theorem dX3_mends_73 : decode cX3_mends 73 = .ok (.aload_n 0, 1) := dk_42 (dk_at dksX3_mends_3 3 rfl rfl)
theorem dX3_mends_74 : decode cX3_mends 74 = .ok (.getfield 9, 3) := dk_180 0 9 (dk_at dksX3_mends_3 4 rfl rfl)
theorem dX3_mends_77 : decode cX3_mends 77 = .ok (.bipush 8, 2) := dk_16 8 (dk_at dksX3_mends_3 7 rfl rfl)
theorem dX3_mends_79 : decode cX3_mends 79 = .ok (.dup2, 1) := dk_92 (dk_at dksX3_mends_3 9 rfl rfl)
theorem dX3_mends_80 : decode cX3_mends 80 = .ok (.iaload, 1) := dk_46 (dk_at dksX3_mends_3 10 rfl rfl)
theorem dX3_mends_81 : decode cX3_mends 81 = .ok (.aload_n 0, 1) := dk_42 (dk_at dksX3_mends_3 11 rfl rfl)
theorem dX3_mends_82 : decode cX3_mends 82 = .ok (.getfield 9, 3) := dk_180 0 9 (dk_at dksX3_mends_3 12 rfl rfl)
theorem dX3_mends_85 : decode cX3_mends 85 = .ok (.sipush 1189, 3) := dk_17 4 165 (dk_at dksX3_mends_3 15 rfl rfl)
theorem dX3_mends_88 : decode cX3_mends 88 = .ok (.iaload, 1) := dk_46 (dk_at dksX3_mends_3 18 rfl rfl)
theorem dX3_mends_89 : decode cX3_mends 89 = .ok (.iconst 1, 1) := dk_4 (dk_at dksX3_mends_3 19 rfl rfl)
theorem dX3_mends_90 : decode cX3_mends 90 = .ok (.iadd, 1) := dk_96 (dk_at dksX3_mends_3 20 rfl rfl)
theorem dX3_mends_91 : decode cX3_mends 91 = .ok (.iadd, 1) := dk_96 (dk_at dksX3_mends_3 21 rfl rfl)
theorem dX3_mends_92 : decode cX3_mends 92 = .ok (.iastore, 1) := dk_79 (dk_at dksX3_mends_3 22 rfl rfl)
theorem dX3_mends_93 : decode cX3_mends 93 = .ok (.aload_n 0, 1) := dk_42 (dk_at dksX3_mends_3 23 rfl rfl)
theorem dX3_mends_94 : decode cX3_mends 94 = .ok (.getfield 9, 3) := dk_180 0 9 (dk_at dksX3_mends_4 0 rfl rfl)
theorem dX3_mends_97 : decode cX3_mends 97 = .ok (.bipush 6, 2) := dk_16 6 (dk_at dksX3_mends_4 3 rfl rfl)
theorem dX3_mends_99 : decode cX3_mends 99 = .ok (.dup2, 1) := dk_92 (dk_at dksX3_mends_4 5 rfl rfl)
theorem dX3_mends_100 : decode cX3_mends 100 = .ok (.iaload, 1) := dk_46 (dk_at dksX3_mends_4 6 rfl rfl)
theorem dX3_mends_101 : decode cX3_mends 101 = .ok (.iconst 3, 1) := dk_6 (dk_at dksX3_mends_4 7 rfl rfl)
theorem dX3_mends_102 : decode cX3_mends 102 = .ok (.iadd, 1) := dk_96 (dk_at dksX3_mends_4 8 rfl rfl)
theorem dX3_mends_103 : decode cX3_mends 103 = .ok (.iastore, 1) := dk_79 (dk_at dksX3_mends_4 9 rfl rfl)
theorem dX3_mends_104 : decode cX3_mends 104 = .ok (.aload_n 0, 1) := dk_42 (dk_at dksX3_mends_4 10 rfl rfl)
theorem dX3_mends_105 : decode cX3_mends 105 = .ok (.getfield 9, 3) := dk_180 0 9 (dk_at dksX3_mends_4 11 rfl rfl)
theorem dX3_mends_108 : decode cX3_mends 108 = .ok (.iconst 5, 1) := dk_8 (dk_at dksX3_mends_4 14 rfl rfl)
theorem dX3_mends_109 : decode cX3_mends 109 = .ok (.dup2, 1) := dk_92 (dk_at dksX3_mends_4 15 rfl rfl)
theorem dX3_mends_110 : decode cX3_mends 110 = .ok (.iaload, 1) := dk_46 (dk_at dksX3_mends_4 16 rfl rfl)
theorem dX3_mends_111 : decode cX3_mends 111 = .ok (.iconst 1, 1) := dk_4 (dk_at dksX3_mends_4 17 rfl rfl)
theorem dX3_mends_112 : decode cX3_mends 112 = .ok (.iadd, 1) := dk_96 (dk_at dksX3_mends_4 18 rfl rfl)
theorem dX3_mends_113 : decode cX3_mends 113 = .ok (.iastore, 1) := dk_79 (dk_at dksX3_mends_4 19 rfl rfl)
theorem dX3_mends_114 : decode cX3_mends 114 = .ok (.aload_n 0, 1) := dk_42 (dk_at dksX3_mends_4 20 rfl rfl)
theorem dX3_mends_115 : decode cX3_mends 115 = .ok (.bipush 15, 2) := dk_16 15 (dk_at dksX3_mends_4 21 rfl rfl)
theorem dX3_mends_117 : decode cX3_mends 117 = .ok (.sipush 1188, 3) := dk_17 4 164 (dk_at dksX3_mends_5 0 rfl rfl)
theorem dX3_mends_120 : decode cX3_mends 120 = .ok (.iconst 5, 1) := dk_8 (dk_at dksX3_mends_5 3 rfl rfl)
theorem dX3_mends_121 : decode cX3_mends 121 = .ok (.iconst 0, 1) := dk_3 (dk_at dksX3_mends_5 4 rfl rfl)
theorem dX3_mends_122 : decode cX3_mends 122 = .ok (.invokevirtual 170, 3) := dk_182 0 170 (dk_at dksX3_mends_5 5 rfl rfl)
theorem dX3_mends_125 : decode cX3_mends 125 = .ok (.iload_n 3, 1) := dk_29 (dk_at dksX3_mends_5 8 rfl rfl)
theorem dX3_mends_126 : decode cX3_mends 126 = .ok (.ireturn, 1) := dk_172 (dk_at dksX3_mends_5 9 rfl rfl)
abbrev cX3_pass : ByteArray := prog_33_method_63_code
def yX3_pass : MethodName := ⟨RX3, "pass", "(I)I"⟩
def dkwX3_pass_0 : List UInt8 := [42, 182, 0, 85, 42, 42, 27, 182, 0, 218, 182, 0, 91, 172]
abbrev dktX3_pass_0 : List UInt8 := dkwX3_pass_0 ++ []
theorem dksX3_pass_0 : cX3_pass.data.toList.drop 0 = dktX3_pass_0 := by decide +kernel
theorem dX3_pass_0 : decode cX3_pass 0 = .ok (.aload_n 0, 1) := dk_42 (dk_at dksX3_pass_0 0 rfl rfl)
theorem dX3_pass_1 : decode cX3_pass 1 = .ok (.invokevirtual 85, 3) := dk_182 0 85 (dk_at dksX3_pass_0 1 rfl rfl)
theorem dX3_pass_4 : decode cX3_pass 4 = .ok (.aload_n 0, 1) := dk_42 (dk_at dksX3_pass_0 4 rfl rfl)
theorem dX3_pass_5 : decode cX3_pass 5 = .ok (.aload_n 0, 1) := dk_42 (dk_at dksX3_pass_0 5 rfl rfl)
theorem dX3_pass_6 : decode cX3_pass 6 = .ok (.iload_n 1, 1) := dk_27 (dk_at dksX3_pass_0 6 rfl rfl)
theorem dX3_pass_7 : decode cX3_pass 7 = .ok (.invokevirtual 218, 3) := dk_182 0 218 (dk_at dksX3_pass_0 7 rfl rfl)
theorem dX3_pass_10 : decode cX3_pass 10 = .ok (.invokevirtual 91, 3) := dk_182 0 91 (dk_at dksX3_pass_0 10 rfl rfl)
theorem dX3_pass_13 : decode cX3_pass 13 = .ok (.ireturn, 1) := dk_172 (dk_at dksX3_pass_0 13 rfl rfl)
abbrev cX3_passes : ByteArray := prog_33_method_62_code
def yX3_passes : MethodName := ⟨RX3, "passes", "(I)I"⟩
def dkwX3_passes_1 : List UInt8 := [182, 0, 215, 96, 61, 132, 3, 1, 167, 255, 241, 28, 172]
abbrev dktX3_passes_1 : List UInt8 := dkwX3_passes_1 ++ []
def dkwX3_passes_0 : List UInt8 := [27, 4, 16, 60, 184, 0, 81, 154, 0, 6, 16, 254, 172, 3, 61, 3, 62, 29, 27, 162, 0, 16, 28, 42]
abbrev dktX3_passes_0 : List UInt8 := dkwX3_passes_0 ++ dktX3_passes_1
theorem dksX3_passes_0 : cX3_passes.data.toList.drop 0 = dktX3_passes_0 := by decide +kernel
theorem dksX3_passes_1 : cX3_passes.data.toList.drop 24 = dktX3_passes_1 := dk_seg dksX3_passes_0 24 rfl rfl
theorem dX3_passes_0 : decode cX3_passes 0 = .ok (.iload_n 1, 1) := dk_27 (dk_at dksX3_passes_0 0 rfl rfl)
theorem dX3_passes_1 : decode cX3_passes 1 = .ok (.iconst 1, 1) := dk_4 (dk_at dksX3_passes_0 1 rfl rfl)
theorem dX3_passes_2 : decode cX3_passes 2 = .ok (.bipush 60, 2) := dk_16 60 (dk_at dksX3_passes_0 2 rfl rfl)
theorem dX3_passes_4 : decode cX3_passes 4 = .ok (.invokestatic 81, 3) := dk_184 0 81 (dk_at dksX3_passes_0 4 rfl rfl)
theorem dX3_passes_7 : decode cX3_passes 7 = .ok (.ifCond .ne 6, 3) := dk_154 0 6 (dk_at dksX3_passes_0 7 rfl rfl)
theorem dX3_passes_10 : decode cX3_passes 10 = .ok (.bipush (-2), 2) := dk_16 254 (dk_at dksX3_passes_0 10 rfl rfl)
theorem dX3_passes_12 : decode cX3_passes 12 = .ok (.ireturn, 1) := dk_172 (dk_at dksX3_passes_0 12 rfl rfl)
theorem dX3_passes_13 : decode cX3_passes 13 = .ok (.iconst 0, 1) := dk_3 (dk_at dksX3_passes_0 13 rfl rfl)
theorem dX3_passes_14 : decode cX3_passes 14 = .ok (.istore_n 2, 1) := dk_61 (dk_at dksX3_passes_0 14 rfl rfl)
theorem dX3_passes_15 : decode cX3_passes 15 = .ok (.iconst 0, 1) := dk_3 (dk_at dksX3_passes_0 15 rfl rfl)
theorem dX3_passes_16 : decode cX3_passes 16 = .ok (.istore_n 3, 1) := dk_62 (dk_at dksX3_passes_0 16 rfl rfl)
theorem dX3_passes_17 : decode cX3_passes 17 = .ok (.iload_n 3, 1) := dk_29 (dk_at dksX3_passes_0 17 rfl rfl)
theorem dX3_passes_18 : decode cX3_passes 18 = .ok (.iload_n 1, 1) := dk_27 (dk_at dksX3_passes_0 18 rfl rfl)
theorem dX3_passes_19 : decode cX3_passes 19 = .ok (.if_icmp .ge 16, 3) := dk_162 0 16 (dk_at dksX3_passes_0 19 rfl rfl)
theorem dX3_passes_22 : decode cX3_passes 22 = .ok (.iload_n 2, 1) := dk_28 (dk_at dksX3_passes_0 22 rfl rfl)
theorem dX3_passes_23 : decode cX3_passes 23 = .ok (.aload_n 0, 1) := dk_42 (dk_at dksX3_passes_0 23 rfl rfl)
theorem dX3_passes_24 : decode cX3_passes 24 = .ok (.invokevirtual 215, 3) := dk_182 0 215 (dk_at dksX3_passes_1 0 rfl rfl)
theorem dX3_passes_27 : decode cX3_passes 27 = .ok (.iadd, 1) := dk_96 (dk_at dksX3_passes_1 3 rfl rfl)
theorem dX3_passes_28 : decode cX3_passes 28 = .ok (.istore_n 2, 1) := dk_61 (dk_at dksX3_passes_1 4 rfl rfl)
theorem dX3_passes_29 : decode cX3_passes 29 = .ok (.iinc 3 1, 3) := dk_132 3 1 (dk_at dksX3_passes_1 5 rfl rfl)
theorem dX3_passes_32 : decode cX3_passes 32 = .ok (.goto (-15), 3) := dk_167 255 241 (dk_at dksX3_passes_1 8 rfl rfl)
theorem dX3_passes_35 : decode cX3_passes 35 = .ok (.iload_n 2, 1) := dk_28 (dk_at dksX3_passes_1 11 rfl rfl)
theorem dX3_passes_36 : decode cX3_passes 36 = .ok (.ireturn, 1) := dk_172 (dk_at dksX3_passes_1 12 rfl rfl)
abbrev cX3_dayGoes : ByteArray := prog_33_method_61_code
def yX3_dayGoes : MethodName := ⟨RX3, "dayGoes", "()I"⟩
def dkwX3_dayGoes_2 : List UInt8 := [184, 0, 206, 79, 132, 1, 1, 167, 255, 215, 42, 182, 0, 209, 42, 182, 0, 212, 172]
abbrev dktX3_dayGoes_2 : List UInt8 := dkwX3_dayGoes_2 ++ []
def dkwX3_dayGoes_1 : List UInt8 := [180, 0, 9, 27, 4, 184, 0, 99, 3, 42, 180, 0, 9, 27, 4, 184, 0, 99, 46, 16, 30, 100]
abbrev dktX3_dayGoes_1 : List UInt8 := dkwX3_dayGoes_1 ++ dktX3_dayGoes_2
def dkwX3_dayGoes_0 : List UInt8 := [42, 180, 0, 9, 3, 92, 46, 4, 96, 79, 3, 60, 27, 42, 180, 0, 9, 16, 9, 46, 162, 0, 36, 42]
abbrev dktX3_dayGoes_0 : List UInt8 := dkwX3_dayGoes_0 ++ dktX3_dayGoes_1
theorem dksX3_dayGoes_0 : cX3_dayGoes.data.toList.drop 0 = dktX3_dayGoes_0 := by decide +kernel
theorem dksX3_dayGoes_1 : cX3_dayGoes.data.toList.drop 24 = dktX3_dayGoes_1 := dk_seg dksX3_dayGoes_0 24 rfl rfl
theorem dksX3_dayGoes_2 : cX3_dayGoes.data.toList.drop 46 = dktX3_dayGoes_2 := dk_seg dksX3_dayGoes_1 22 rfl rfl
theorem dX3_dayGoes_0 : decode cX3_dayGoes 0 = .ok (.aload_n 0, 1) := dk_42 (dk_at dksX3_dayGoes_0 0 rfl rfl)
theorem dX3_dayGoes_1 : decode cX3_dayGoes 1 = .ok (.getfield 9, 3) := dk_180 0 9 (dk_at dksX3_dayGoes_0 1 rfl rfl)
theorem dX3_dayGoes_4 : decode cX3_dayGoes 4 = .ok (.iconst 0, 1) := dk_3 (dk_at dksX3_dayGoes_0 4 rfl rfl)
theorem dX3_dayGoes_5 : decode cX3_dayGoes 5 = .ok (.dup2, 1) := dk_92 (dk_at dksX3_dayGoes_0 5 rfl rfl)
theorem dX3_dayGoes_6 : decode cX3_dayGoes 6 = .ok (.iaload, 1) := dk_46 (dk_at dksX3_dayGoes_0 6 rfl rfl)
theorem dX3_dayGoes_7 : decode cX3_dayGoes 7 = .ok (.iconst 1, 1) := dk_4 (dk_at dksX3_dayGoes_0 7 rfl rfl)
theorem dX3_dayGoes_8 : decode cX3_dayGoes 8 = .ok (.iadd, 1) := dk_96 (dk_at dksX3_dayGoes_0 8 rfl rfl)
theorem dX3_dayGoes_9 : decode cX3_dayGoes 9 = .ok (.iastore, 1) := dk_79 (dk_at dksX3_dayGoes_0 9 rfl rfl)
theorem dX3_dayGoes_10 : decode cX3_dayGoes 10 = .ok (.iconst 0, 1) := dk_3 (dk_at dksX3_dayGoes_0 10 rfl rfl)
theorem dX3_dayGoes_11 : decode cX3_dayGoes 11 = .ok (.istore_n 1, 1) := dk_60 (dk_at dksX3_dayGoes_0 11 rfl rfl)
theorem dX3_dayGoes_12 : decode cX3_dayGoes 12 = .ok (.iload_n 1, 1) := dk_27 (dk_at dksX3_dayGoes_0 12 rfl rfl)
theorem dX3_dayGoes_13 : decode cX3_dayGoes 13 = .ok (.aload_n 0, 1) := dk_42 (dk_at dksX3_dayGoes_0 13 rfl rfl)
theorem dX3_dayGoes_14 : decode cX3_dayGoes 14 = .ok (.getfield 9, 3) := dk_180 0 9 (dk_at dksX3_dayGoes_0 14 rfl rfl)
theorem dX3_dayGoes_17 : decode cX3_dayGoes 17 = .ok (.bipush 9, 2) := dk_16 9 (dk_at dksX3_dayGoes_0 17 rfl rfl)
theorem dX3_dayGoes_19 : decode cX3_dayGoes 19 = .ok (.iaload, 1) := dk_46 (dk_at dksX3_dayGoes_0 19 rfl rfl)
theorem dX3_dayGoes_20 : decode cX3_dayGoes 20 = .ok (.if_icmp .ge 36, 3) := dk_162 0 36 (dk_at dksX3_dayGoes_0 20 rfl rfl)
theorem dX3_dayGoes_23 : decode cX3_dayGoes 23 = .ok (.aload_n 0, 1) := dk_42 (dk_at dksX3_dayGoes_0 23 rfl rfl)
theorem dX3_dayGoes_24 : decode cX3_dayGoes 24 = .ok (.getfield 9, 3) := dk_180 0 9 (dk_at dksX3_dayGoes_1 0 rfl rfl)
theorem dX3_dayGoes_27 : decode cX3_dayGoes 27 = .ok (.iload_n 1, 1) := dk_27 (dk_at dksX3_dayGoes_1 3 rfl rfl)
theorem dX3_dayGoes_28 : decode cX3_dayGoes 28 = .ok (.iconst 1, 1) := dk_4 (dk_at dksX3_dayGoes_1 4 rfl rfl)
theorem dX3_dayGoes_29 : decode cX3_dayGoes 29 = .ok (.invokestatic 99, 3) := dk_184 0 99 (dk_at dksX3_dayGoes_1 5 rfl rfl)
theorem dX3_dayGoes_32 : decode cX3_dayGoes 32 = .ok (.iconst 0, 1) := dk_3 (dk_at dksX3_dayGoes_1 8 rfl rfl)
theorem dX3_dayGoes_33 : decode cX3_dayGoes 33 = .ok (.aload_n 0, 1) := dk_42 (dk_at dksX3_dayGoes_1 9 rfl rfl)
theorem dX3_dayGoes_34 : decode cX3_dayGoes 34 = .ok (.getfield 9, 3) := dk_180 0 9 (dk_at dksX3_dayGoes_1 10 rfl rfl)
theorem dX3_dayGoes_37 : decode cX3_dayGoes 37 = .ok (.iload_n 1, 1) := dk_27 (dk_at dksX3_dayGoes_1 13 rfl rfl)
theorem dX3_dayGoes_38 : decode cX3_dayGoes 38 = .ok (.iconst 1, 1) := dk_4 (dk_at dksX3_dayGoes_1 14 rfl rfl)
theorem dX3_dayGoes_39 : decode cX3_dayGoes 39 = .ok (.invokestatic 99, 3) := dk_184 0 99 (dk_at dksX3_dayGoes_1 15 rfl rfl)
theorem dX3_dayGoes_42 : decode cX3_dayGoes 42 = .ok (.iaload, 1) := dk_46 (dk_at dksX3_dayGoes_1 18 rfl rfl)
theorem dX3_dayGoes_43 : decode cX3_dayGoes 43 = .ok (.bipush 30, 2) := dk_16 30 (dk_at dksX3_dayGoes_1 19 rfl rfl)
theorem dX3_dayGoes_45 : decode cX3_dayGoes 45 = .ok (.isub, 1) := dk_100 (dk_at dksX3_dayGoes_1 21 rfl rfl)
theorem dX3_dayGoes_46 : decode cX3_dayGoes 46 = .ok (.invokestatic 206, 3) := dk_184 0 206 (dk_at dksX3_dayGoes_2 0 rfl rfl)
theorem dX3_dayGoes_49 : decode cX3_dayGoes 49 = .ok (.iastore, 1) := dk_79 (dk_at dksX3_dayGoes_2 3 rfl rfl)
theorem dX3_dayGoes_50 : decode cX3_dayGoes 50 = .ok (.iinc 1 1, 3) := dk_132 1 1 (dk_at dksX3_dayGoes_2 4 rfl rfl)
theorem dX3_dayGoes_53 : decode cX3_dayGoes 53 = .ok (.goto (-41), 3) := dk_167 255 215 (dk_at dksX3_dayGoes_2 7 rfl rfl)
theorem dX3_dayGoes_56 : decode cX3_dayGoes 56 = .ok (.aload_n 0, 1) := dk_42 (dk_at dksX3_dayGoes_2 10 rfl rfl)
theorem dX3_dayGoes_57 : decode cX3_dayGoes 57 = .ok (.invokevirtual 209, 3) := dk_182 0 209 (dk_at dksX3_dayGoes_2 11 rfl rfl)
theorem dX3_dayGoes_60 : decode cX3_dayGoes 60 = .ok (.aload_n 0, 1) := dk_42 (dk_at dksX3_dayGoes_2 14 rfl rfl)
theorem dX3_dayGoes_61 : decode cX3_dayGoes 61 = .ok (.invokevirtual 212, 3) := dk_182 0 212 (dk_at dksX3_dayGoes_2 15 rfl rfl)
theorem dX3_dayGoes_64 : decode cX3_dayGoes 64 = .ok (.ireturn, 1) := dk_172 (dk_at dksX3_dayGoes_2 18 rfl rfl)
abbrev cX3_greater : ByteArray := prog_33_method_4_code
def yX3_greater : MethodName := ⟨RX3, "greater", "(II)I"⟩
def dkwX3_greater_0 : List UInt8 := [26, 27, 164, 0, 7, 26, 167, 0, 4, 27, 172]
abbrev dktX3_greater_0 : List UInt8 := dkwX3_greater_0 ++ []
theorem dksX3_greater_0 : cX3_greater.data.toList.drop 0 = dktX3_greater_0 := by decide +kernel
theorem dX3_greater_0 : decode cX3_greater 0 = .ok (.iload_n 0, 1) := dk_26 (dk_at dksX3_greater_0 0 rfl rfl)
theorem dX3_greater_1 : decode cX3_greater 1 = .ok (.iload_n 1, 1) := dk_27 (dk_at dksX3_greater_0 1 rfl rfl)
theorem dX3_greater_2 : decode cX3_greater 2 = .ok (.if_icmp .le 7, 3) := dk_164 0 7 (dk_at dksX3_greater_0 2 rfl rfl)
theorem dX3_greater_5 : decode cX3_greater 5 = .ok (.iload_n 0, 1) := dk_26 (dk_at dksX3_greater_0 5 rfl rfl)
theorem dX3_greater_6 : decode cX3_greater 6 = .ok (.goto 4, 3) := dk_167 0 4 (dk_at dksX3_greater_0 6 rfl rfl)
theorem dX3_greater_9 : decode cX3_greater 9 = .ok (.iload_n 1, 1) := dk_27 (dk_at dksX3_greater_0 9 rfl rfl)
theorem dX3_greater_10 : decode cX3_greater 10 = .ok (.ireturn, 1) := dk_172 (dk_at dksX3_greater_0 10 rfl rfl)
abbrev cX3_comeBack : ByteArray := prog_33_method_58_code
def yX3_comeBack : MethodName := ⟨RX3, "comeBack", "()V"⟩
def dkwX3_comeBack_6 : List UInt8 := [177]
abbrev dktX3_comeBack_6 : List UInt8 := dkwX3_comeBack_6 ++ []
def dkwX3_comeBack_5 : List UInt8 := [180, 0, 9, 16, 7, 92, 46, 4, 96, 79, 42, 16, 14, 17, 4, 124, 8, 27, 182, 0, 170, 167, 255, 122]
abbrev dktX3_comeBack_5 : List UInt8 := dkwX3_comeBack_5 ++ dktX3_comeBack_6
def dkwX3_comeBack_4 : List UInt8 := [46, 42, 180, 0, 9, 29, 7, 96, 46, 100, 79, 42, 180, 0, 9, 16, 15, 92, 46, 4, 96, 79, 42]
abbrev dktX3_comeBack_4 : List UInt8 := dkwX3_comeBack_4 ++ dktX3_comeBack_5
def dkwX3_comeBack_3 : List UInt8 := [8, 184, 0, 63, 42, 180, 0, 9, 29, 4, 96, 92, 46, 4, 100, 79, 42, 180, 0, 9, 29, 5, 96, 92]
abbrev dktX3_comeBack_3 : List UInt8 := dkwX3_comeBack_3 ++ dktX3_comeBack_4
def dkwX3_comeBack_2 : List UInt8 := [17, 4, 164, 8, 42, 180, 0, 9, 16, 15, 46, 104, 96, 62, 42, 180, 0, 9, 28, 42, 180, 0, 9, 29]
abbrev dktX3_comeBack_2 : List UInt8 := dkwX3_comeBack_2 ++ dktX3_comeBack_3
def dkwX3_comeBack_1 : List UInt8 := [180, 0, 9, 28, 3, 96, 46, 42, 180, 0, 9, 3, 46, 164, 0, 9, 132, 1, 1, 167, 255, 217]
abbrev dktX3_comeBack_1 : List UInt8 := dkwX3_comeBack_1 ++ dktX3_comeBack_2
def dkwX3_comeBack_0 : List UInt8 := [3, 60, 27, 42, 180, 0, 9, 16, 14, 46, 162, 0, 129, 17, 4, 124, 8, 27, 104, 96, 61, 42]
abbrev dktX3_comeBack_0 : List UInt8 := dkwX3_comeBack_0 ++ dktX3_comeBack_1
theorem dksX3_comeBack_0 : cX3_comeBack.data.toList.drop 0 = dktX3_comeBack_0 := by decide +kernel
theorem dksX3_comeBack_1 : cX3_comeBack.data.toList.drop 22 = dktX3_comeBack_1 := dk_seg dksX3_comeBack_0 22 rfl rfl
theorem dksX3_comeBack_2 : cX3_comeBack.data.toList.drop 44 = dktX3_comeBack_2 := dk_seg dksX3_comeBack_1 22 rfl rfl
theorem dksX3_comeBack_3 : cX3_comeBack.data.toList.drop 68 = dktX3_comeBack_3 := dk_seg dksX3_comeBack_2 24 rfl rfl
theorem dksX3_comeBack_4 : cX3_comeBack.data.toList.drop 92 = dktX3_comeBack_4 := dk_seg dksX3_comeBack_3 24 rfl rfl
theorem dksX3_comeBack_5 : cX3_comeBack.data.toList.drop 115 = dktX3_comeBack_5 := dk_seg dksX3_comeBack_4 23 rfl rfl
theorem dksX3_comeBack_6 : cX3_comeBack.data.toList.drop 139 = dktX3_comeBack_6 := dk_seg dksX3_comeBack_5 24 rfl rfl
theorem dX3_comeBack_0 : decode cX3_comeBack 0 = .ok (.iconst 0, 1) := dk_3 (dk_at dksX3_comeBack_0 0 rfl rfl)
theorem dX3_comeBack_1 : decode cX3_comeBack 1 = .ok (.istore_n 1, 1) := dk_60 (dk_at dksX3_comeBack_0 1 rfl rfl)
theorem dX3_comeBack_2 : decode cX3_comeBack 2 = .ok (.iload_n 1, 1) := dk_27 (dk_at dksX3_comeBack_0 2 rfl rfl)
theorem dX3_comeBack_3 : decode cX3_comeBack 3 = .ok (.aload_n 0, 1) := dk_42 (dk_at dksX3_comeBack_0 3 rfl rfl)
theorem dX3_comeBack_4 : decode cX3_comeBack 4 = .ok (.getfield 9, 3) := dk_180 0 9 (dk_at dksX3_comeBack_0 4 rfl rfl)
theorem dX3_comeBack_7 : decode cX3_comeBack 7 = .ok (.bipush 14, 2) := dk_16 14 (dk_at dksX3_comeBack_0 7 rfl rfl)
theorem dX3_comeBack_9 : decode cX3_comeBack 9 = .ok (.iaload, 1) := dk_46 (dk_at dksX3_comeBack_0 9 rfl rfl)
theorem dX3_comeBack_10 : decode cX3_comeBack 10 = .ok (.if_icmp .ge 129, 3) := dk_162 0 129 (dk_at dksX3_comeBack_0 10 rfl rfl)
theorem dX3_comeBack_13 : decode cX3_comeBack 13 = .ok (.sipush 1148, 3) := dk_17 4 124 (dk_at dksX3_comeBack_0 13 rfl rfl)
theorem dX3_comeBack_16 : decode cX3_comeBack 16 = .ok (.iconst 5, 1) := dk_8 (dk_at dksX3_comeBack_0 16 rfl rfl)
theorem dX3_comeBack_17 : decode cX3_comeBack 17 = .ok (.iload_n 1, 1) := dk_27 (dk_at dksX3_comeBack_0 17 rfl rfl)
theorem dX3_comeBack_18 : decode cX3_comeBack 18 = .ok (.imul, 1) := dk_104 (dk_at dksX3_comeBack_0 18 rfl rfl)
theorem dX3_comeBack_19 : decode cX3_comeBack 19 = .ok (.iadd, 1) := dk_96 (dk_at dksX3_comeBack_0 19 rfl rfl)
theorem dX3_comeBack_20 : decode cX3_comeBack 20 = .ok (.istore_n 2, 1) := dk_61 (dk_at dksX3_comeBack_0 20 rfl rfl)
theorem dX3_comeBack_21 : decode cX3_comeBack 21 = .ok (.aload_n 0, 1) := dk_42 (dk_at dksX3_comeBack_0 21 rfl rfl)
theorem dX3_comeBack_22 : decode cX3_comeBack 22 = .ok (.getfield 9, 3) := dk_180 0 9 (dk_at dksX3_comeBack_1 0 rfl rfl)
theorem dX3_comeBack_25 : decode cX3_comeBack 25 = .ok (.iload_n 2, 1) := dk_28 (dk_at dksX3_comeBack_1 3 rfl rfl)
theorem dX3_comeBack_26 : decode cX3_comeBack 26 = .ok (.iconst 0, 1) := dk_3 (dk_at dksX3_comeBack_1 4 rfl rfl)
theorem dX3_comeBack_27 : decode cX3_comeBack 27 = .ok (.iadd, 1) := dk_96 (dk_at dksX3_comeBack_1 5 rfl rfl)
theorem dX3_comeBack_28 : decode cX3_comeBack 28 = .ok (.iaload, 1) := dk_46 (dk_at dksX3_comeBack_1 6 rfl rfl)
theorem dX3_comeBack_29 : decode cX3_comeBack 29 = .ok (.aload_n 0, 1) := dk_42 (dk_at dksX3_comeBack_1 7 rfl rfl)
theorem dX3_comeBack_30 : decode cX3_comeBack 30 = .ok (.getfield 9, 3) := dk_180 0 9 (dk_at dksX3_comeBack_1 8 rfl rfl)
theorem dX3_comeBack_33 : decode cX3_comeBack 33 = .ok (.iconst 0, 1) := dk_3 (dk_at dksX3_comeBack_1 11 rfl rfl)
theorem dX3_comeBack_34 : decode cX3_comeBack 34 = .ok (.iaload, 1) := dk_46 (dk_at dksX3_comeBack_1 12 rfl rfl)
theorem dX3_comeBack_35 : decode cX3_comeBack 35 = .ok (.if_icmp .le 9, 3) := dk_164 0 9 (dk_at dksX3_comeBack_1 13 rfl rfl)
theorem dX3_comeBack_38 : decode cX3_comeBack 38 = .ok (.iinc 1 1, 3) := dk_132 1 1 (dk_at dksX3_comeBack_1 16 rfl rfl)
theorem dX3_comeBack_41 : decode cX3_comeBack 41 = .ok (.goto (-39), 3) := dk_167 255 217 (dk_at dksX3_comeBack_1 19 rfl rfl)
theorem dX3_comeBack_44 : decode cX3_comeBack 44 = .ok (.sipush 1188, 3) := dk_17 4 164 (dk_at dksX3_comeBack_2 0 rfl rfl)
theorem dX3_comeBack_47 : decode cX3_comeBack 47 = .ok (.iconst 5, 1) := dk_8 (dk_at dksX3_comeBack_2 3 rfl rfl)
theorem dX3_comeBack_48 : decode cX3_comeBack 48 = .ok (.aload_n 0, 1) := dk_42 (dk_at dksX3_comeBack_2 4 rfl rfl)
theorem dX3_comeBack_49 : decode cX3_comeBack 49 = .ok (.getfield 9, 3) := dk_180 0 9 (dk_at dksX3_comeBack_2 5 rfl rfl)
theorem dX3_comeBack_52 : decode cX3_comeBack 52 = .ok (.bipush 15, 2) := dk_16 15 (dk_at dksX3_comeBack_2 8 rfl rfl)
theorem dX3_comeBack_54 : decode cX3_comeBack 54 = .ok (.iaload, 1) := dk_46 (dk_at dksX3_comeBack_2 10 rfl rfl)
theorem dX3_comeBack_55 : decode cX3_comeBack 55 = .ok (.imul, 1) := dk_104 (dk_at dksX3_comeBack_2 11 rfl rfl)
theorem dX3_comeBack_56 : decode cX3_comeBack 56 = .ok (.iadd, 1) := dk_96 (dk_at dksX3_comeBack_2 12 rfl rfl)
theorem dX3_comeBack_57 : decode cX3_comeBack 57 = .ok (.istore_n 3, 1) := dk_62 (dk_at dksX3_comeBack_2 13 rfl rfl)
theorem dX3_comeBack_58 : decode cX3_comeBack 58 = .ok (.aload_n 0, 1) := dk_42 (dk_at dksX3_comeBack_2 14 rfl rfl)
theorem dX3_comeBack_59 : decode cX3_comeBack 59 = .ok (.getfield 9, 3) := dk_180 0 9 (dk_at dksX3_comeBack_2 15 rfl rfl)
theorem dX3_comeBack_62 : decode cX3_comeBack 62 = .ok (.iload_n 2, 1) := dk_28 (dk_at dksX3_comeBack_2 18 rfl rfl)
theorem dX3_comeBack_63 : decode cX3_comeBack 63 = .ok (.aload_n 0, 1) := dk_42 (dk_at dksX3_comeBack_2 19 rfl rfl)
theorem dX3_comeBack_64 : decode cX3_comeBack 64 = .ok (.getfield 9, 3) := dk_180 0 9 (dk_at dksX3_comeBack_2 20 rfl rfl)
theorem dX3_comeBack_67 : decode cX3_comeBack 67 = .ok (.iload_n 3, 1) := dk_29 (dk_at dksX3_comeBack_2 23 rfl rfl)
theorem dX3_comeBack_68 : decode cX3_comeBack 68 = .ok (.iconst 5, 1) := dk_8 (dk_at dksX3_comeBack_3 0 rfl rfl)
theorem dX3_comeBack_69 : decode cX3_comeBack 69 = .ok (.invokestatic 63, 3) := dk_184 0 63 (dk_at dksX3_comeBack_3 1 rfl rfl)
theorem dX3_comeBack_72 : decode cX3_comeBack 72 = .ok (.aload_n 0, 1) := dk_42 (dk_at dksX3_comeBack_3 4 rfl rfl)
theorem dX3_comeBack_73 : decode cX3_comeBack 73 = .ok (.getfield 9, 3) := dk_180 0 9 (dk_at dksX3_comeBack_3 5 rfl rfl)
theorem dX3_comeBack_76 : decode cX3_comeBack 76 = .ok (.iload_n 3, 1) := dk_29 (dk_at dksX3_comeBack_3 8 rfl rfl)
theorem dX3_comeBack_77 : decode cX3_comeBack 77 = .ok (.iconst 1, 1) := dk_4 (dk_at dksX3_comeBack_3 9 rfl rfl)
theorem dX3_comeBack_78 : decode cX3_comeBack 78 = .ok (.iadd, 1) := dk_96 (dk_at dksX3_comeBack_3 10 rfl rfl)
theorem dX3_comeBack_79 : decode cX3_comeBack 79 = .ok (.dup2, 1) := dk_92 (dk_at dksX3_comeBack_3 11 rfl rfl)
theorem dX3_comeBack_80 : decode cX3_comeBack 80 = .ok (.iaload, 1) := dk_46 (dk_at dksX3_comeBack_3 12 rfl rfl)
theorem dX3_comeBack_81 : decode cX3_comeBack 81 = .ok (.iconst 1, 1) := dk_4 (dk_at dksX3_comeBack_3 13 rfl rfl)
theorem dX3_comeBack_82 : decode cX3_comeBack 82 = .ok (.isub, 1) := dk_100 (dk_at dksX3_comeBack_3 14 rfl rfl)
theorem dX3_comeBack_83 : decode cX3_comeBack 83 = .ok (.iastore, 1) := dk_79 (dk_at dksX3_comeBack_3 15 rfl rfl)
theorem dX3_comeBack_84 : decode cX3_comeBack 84 = .ok (.aload_n 0, 1) := dk_42 (dk_at dksX3_comeBack_3 16 rfl rfl)
theorem dX3_comeBack_85 : decode cX3_comeBack 85 = .ok (.getfield 9, 3) := dk_180 0 9 (dk_at dksX3_comeBack_3 17 rfl rfl)
theorem dX3_comeBack_88 : decode cX3_comeBack 88 = .ok (.iload_n 3, 1) := dk_29 (dk_at dksX3_comeBack_3 20 rfl rfl)
theorem dX3_comeBack_89 : decode cX3_comeBack 89 = .ok (.iconst 2, 1) := dk_5 (dk_at dksX3_comeBack_3 21 rfl rfl)
theorem dX3_comeBack_90 : decode cX3_comeBack 90 = .ok (.iadd, 1) := dk_96 (dk_at dksX3_comeBack_3 22 rfl rfl)
theorem dX3_comeBack_91 : decode cX3_comeBack 91 = .ok (.dup2, 1) := dk_92 (dk_at dksX3_comeBack_3 23 rfl rfl)
theorem dX3_comeBack_92 : decode cX3_comeBack 92 = .ok (.iaload, 1) := dk_46 (dk_at dksX3_comeBack_4 0 rfl rfl)
theorem dX3_comeBack_93 : decode cX3_comeBack 93 = .ok (.aload_n 0, 1) := dk_42 (dk_at dksX3_comeBack_4 1 rfl rfl)
theorem dX3_comeBack_94 : decode cX3_comeBack 94 = .ok (.getfield 9, 3) := dk_180 0 9 (dk_at dksX3_comeBack_4 2 rfl rfl)
theorem dX3_comeBack_97 : decode cX3_comeBack 97 = .ok (.iload_n 3, 1) := dk_29 (dk_at dksX3_comeBack_4 5 rfl rfl)
theorem dX3_comeBack_98 : decode cX3_comeBack 98 = .ok (.iconst 4, 1) := dk_7 (dk_at dksX3_comeBack_4 6 rfl rfl)
theorem dX3_comeBack_99 : decode cX3_comeBack 99 = .ok (.iadd, 1) := dk_96 (dk_at dksX3_comeBack_4 7 rfl rfl)
theorem dX3_comeBack_100 : decode cX3_comeBack 100 = .ok (.iaload, 1) := dk_46 (dk_at dksX3_comeBack_4 8 rfl rfl)
theorem dX3_comeBack_101 : decode cX3_comeBack 101 = .ok (.isub, 1) := dk_100 (dk_at dksX3_comeBack_4 9 rfl rfl)
theorem dX3_comeBack_102 : decode cX3_comeBack 102 = .ok (.iastore, 1) := dk_79 (dk_at dksX3_comeBack_4 10 rfl rfl)
theorem dX3_comeBack_103 : decode cX3_comeBack 103 = .ok (.aload_n 0, 1) := dk_42 (dk_at dksX3_comeBack_4 11 rfl rfl)
theorem dX3_comeBack_104 : decode cX3_comeBack 104 = .ok (.getfield 9, 3) := dk_180 0 9 (dk_at dksX3_comeBack_4 12 rfl rfl)
theorem dX3_comeBack_107 : decode cX3_comeBack 107 = .ok (.bipush 15, 2) := dk_16 15 (dk_at dksX3_comeBack_4 15 rfl rfl)
theorem dX3_comeBack_109 : decode cX3_comeBack 109 = .ok (.dup2, 1) := dk_92 (dk_at dksX3_comeBack_4 17 rfl rfl)
theorem dX3_comeBack_110 : decode cX3_comeBack 110 = .ok (.iaload, 1) := dk_46 (dk_at dksX3_comeBack_4 18 rfl rfl)
theorem dX3_comeBack_111 : decode cX3_comeBack 111 = .ok (.iconst 1, 1) := dk_4 (dk_at dksX3_comeBack_4 19 rfl rfl)
theorem dX3_comeBack_112 : decode cX3_comeBack 112 = .ok (.iadd, 1) := dk_96 (dk_at dksX3_comeBack_4 20 rfl rfl)
theorem dX3_comeBack_113 : decode cX3_comeBack 113 = .ok (.iastore, 1) := dk_79 (dk_at dksX3_comeBack_4 21 rfl rfl)
theorem dX3_comeBack_114 : decode cX3_comeBack 114 = .ok (.aload_n 0, 1) := dk_42 (dk_at dksX3_comeBack_4 22 rfl rfl)
theorem dX3_comeBack_115 : decode cX3_comeBack 115 = .ok (.getfield 9, 3) := dk_180 0 9 (dk_at dksX3_comeBack_5 0 rfl rfl)
theorem dX3_comeBack_118 : decode cX3_comeBack 118 = .ok (.bipush 7, 2) := dk_16 7 (dk_at dksX3_comeBack_5 3 rfl rfl)
theorem dX3_comeBack_120 : decode cX3_comeBack 120 = .ok (.dup2, 1) := dk_92 (dk_at dksX3_comeBack_5 5 rfl rfl)
theorem dX3_comeBack_121 : decode cX3_comeBack 121 = .ok (.iaload, 1) := dk_46 (dk_at dksX3_comeBack_5 6 rfl rfl)
theorem dX3_comeBack_122 : decode cX3_comeBack 122 = .ok (.iconst 1, 1) := dk_4 (dk_at dksX3_comeBack_5 7 rfl rfl)
theorem dX3_comeBack_123 : decode cX3_comeBack 123 = .ok (.iadd, 1) := dk_96 (dk_at dksX3_comeBack_5 8 rfl rfl)
theorem dX3_comeBack_124 : decode cX3_comeBack 124 = .ok (.iastore, 1) := dk_79 (dk_at dksX3_comeBack_5 9 rfl rfl)
theorem dX3_comeBack_125 : decode cX3_comeBack 125 = .ok (.aload_n 0, 1) := dk_42 (dk_at dksX3_comeBack_5 10 rfl rfl)
theorem dX3_comeBack_126 : decode cX3_comeBack 126 = .ok (.bipush 14, 2) := dk_16 14 (dk_at dksX3_comeBack_5 11 rfl rfl)
theorem dX3_comeBack_128 : decode cX3_comeBack 128 = .ok (.sipush 1148, 3) := dk_17 4 124 (dk_at dksX3_comeBack_5 13 rfl rfl)
theorem dX3_comeBack_131 : decode cX3_comeBack 131 = .ok (.iconst 5, 1) := dk_8 (dk_at dksX3_comeBack_5 16 rfl rfl)
theorem dX3_comeBack_132 : decode cX3_comeBack 132 = .ok (.iload_n 1, 1) := dk_27 (dk_at dksX3_comeBack_5 17 rfl rfl)
theorem dX3_comeBack_133 : decode cX3_comeBack 133 = .ok (.invokevirtual 170, 3) := dk_182 0 170 (dk_at dksX3_comeBack_5 18 rfl rfl)
theorem dX3_comeBack_136 : decode cX3_comeBack 136 = .ok (.goto (-134), 3) := dk_167 255 122 (dk_at dksX3_comeBack_5 21 rfl rfl)
theorem dX3_comeBack_139 : decode cX3_comeBack 139 = .ok (.return_, 1) := dk_177 (dk_at dksX3_comeBack_6 0 rfl rfl)
abbrev cX3_pilgrimsCome : ByteArray := prog_33_method_57_code
def yX3_pilgrimsCome : MethodName := ⟨RX3, "pilgrimsCome", "()I"⟩
def dkwX3_pilgrimsCome_3 : List UInt8 := [16, 13, 17, 4, 100, 7, 28, 182, 0, 170, 167, 255, 179, 27, 172]
abbrev dktX3_pilgrimsCome_3 : List UInt8 := dkwX3_pilgrimsCome_3 ++ []
def dkwX3_pilgrimsCome_2 : List UInt8 := [16, 250, 159, 0, 21, 42, 29, 42, 180, 0, 9, 28, 6, 184, 0, 186, 46, 182, 0, 198, 132, 1, 1, 42]
abbrev dktX3_pilgrimsCome_2 : List UInt8 := dkwX3_pilgrimsCome_2 ++ dktX3_pilgrimsCome_3
def dkwX3_pilgrimsCome_1 : List UInt8 := [46, 42, 180, 0, 9, 3, 46, 159, 0, 9, 132, 2, 1, 167, 255, 223, 42, 28, 182, 0, 195, 62, 29]
abbrev dktX3_pilgrimsCome_1 : List UInt8 := dkwX3_pilgrimsCome_1 ++ dktX3_pilgrimsCome_2
def dkwX3_pilgrimsCome_0 : List UInt8 := [3, 60, 3, 61, 28, 42, 180, 0, 9, 16, 13, 46, 162, 0, 72, 42, 180, 0, 9, 28, 3, 184, 0, 186]
abbrev dktX3_pilgrimsCome_0 : List UInt8 := dkwX3_pilgrimsCome_0 ++ dktX3_pilgrimsCome_1
theorem dksX3_pilgrimsCome_0 : cX3_pilgrimsCome.data.toList.drop 0 = dktX3_pilgrimsCome_0 := by decide +kernel
theorem dksX3_pilgrimsCome_1 : cX3_pilgrimsCome.data.toList.drop 24 = dktX3_pilgrimsCome_1 := dk_seg dksX3_pilgrimsCome_0 24 rfl rfl
theorem dksX3_pilgrimsCome_2 : cX3_pilgrimsCome.data.toList.drop 47 = dktX3_pilgrimsCome_2 := dk_seg dksX3_pilgrimsCome_1 23 rfl rfl
theorem dksX3_pilgrimsCome_3 : cX3_pilgrimsCome.data.toList.drop 71 = dktX3_pilgrimsCome_3 := dk_seg dksX3_pilgrimsCome_2 24 rfl rfl
theorem dX3_pilgrimsCome_0 : decode cX3_pilgrimsCome 0 = .ok (.iconst 0, 1) := dk_3 (dk_at dksX3_pilgrimsCome_0 0 rfl rfl)
theorem dX3_pilgrimsCome_1 : decode cX3_pilgrimsCome 1 = .ok (.istore_n 1, 1) := dk_60 (dk_at dksX3_pilgrimsCome_0 1 rfl rfl)
theorem dX3_pilgrimsCome_2 : decode cX3_pilgrimsCome 2 = .ok (.iconst 0, 1) := dk_3 (dk_at dksX3_pilgrimsCome_0 2 rfl rfl)
theorem dX3_pilgrimsCome_3 : decode cX3_pilgrimsCome 3 = .ok (.istore_n 2, 1) := dk_61 (dk_at dksX3_pilgrimsCome_0 3 rfl rfl)
theorem dX3_pilgrimsCome_4 : decode cX3_pilgrimsCome 4 = .ok (.iload_n 2, 1) := dk_28 (dk_at dksX3_pilgrimsCome_0 4 rfl rfl)
theorem dX3_pilgrimsCome_5 : decode cX3_pilgrimsCome 5 = .ok (.aload_n 0, 1) := dk_42 (dk_at dksX3_pilgrimsCome_0 5 rfl rfl)
theorem dX3_pilgrimsCome_6 : decode cX3_pilgrimsCome 6 = .ok (.getfield 9, 3) := dk_180 0 9 (dk_at dksX3_pilgrimsCome_0 6 rfl rfl)
theorem dX3_pilgrimsCome_9 : decode cX3_pilgrimsCome 9 = .ok (.bipush 13, 2) := dk_16 13 (dk_at dksX3_pilgrimsCome_0 9 rfl rfl)
theorem dX3_pilgrimsCome_11 : decode cX3_pilgrimsCome 11 = .ok (.iaload, 1) := dk_46 (dk_at dksX3_pilgrimsCome_0 11 rfl rfl)
theorem dX3_pilgrimsCome_12 : decode cX3_pilgrimsCome 12 = .ok (.if_icmp .ge 72, 3) := dk_162 0 72 (dk_at dksX3_pilgrimsCome_0 12 rfl rfl)
theorem dX3_pilgrimsCome_15 : decode cX3_pilgrimsCome 15 = .ok (.aload_n 0, 1) := dk_42 (dk_at dksX3_pilgrimsCome_0 15 rfl rfl)
theorem dX3_pilgrimsCome_16 : decode cX3_pilgrimsCome 16 = .ok (.getfield 9, 3) := dk_180 0 9 (dk_at dksX3_pilgrimsCome_0 16 rfl rfl)
theorem dX3_pilgrimsCome_19 : decode cX3_pilgrimsCome 19 = .ok (.iload_n 2, 1) := dk_28 (dk_at dksX3_pilgrimsCome_0 19 rfl rfl)
theorem dX3_pilgrimsCome_20 : decode cX3_pilgrimsCome 20 = .ok (.iconst 0, 1) := dk_3 (dk_at dksX3_pilgrimsCome_0 20 rfl rfl)
theorem dX3_pilgrimsCome_21 : decode cX3_pilgrimsCome 21 = .ok (.invokestatic 186, 3) := dk_184 0 186 (dk_at dksX3_pilgrimsCome_0 21 rfl rfl)
theorem dX3_pilgrimsCome_24 : decode cX3_pilgrimsCome 24 = .ok (.iaload, 1) := dk_46 (dk_at dksX3_pilgrimsCome_1 0 rfl rfl)
theorem dX3_pilgrimsCome_25 : decode cX3_pilgrimsCome 25 = .ok (.aload_n 0, 1) := dk_42 (dk_at dksX3_pilgrimsCome_1 1 rfl rfl)
theorem dX3_pilgrimsCome_26 : decode cX3_pilgrimsCome 26 = .ok (.getfield 9, 3) := dk_180 0 9 (dk_at dksX3_pilgrimsCome_1 2 rfl rfl)
theorem dX3_pilgrimsCome_29 : decode cX3_pilgrimsCome 29 = .ok (.iconst 0, 1) := dk_3 (dk_at dksX3_pilgrimsCome_1 5 rfl rfl)
theorem dX3_pilgrimsCome_30 : decode cX3_pilgrimsCome 30 = .ok (.iaload, 1) := dk_46 (dk_at dksX3_pilgrimsCome_1 6 rfl rfl)
theorem dX3_pilgrimsCome_31 : decode cX3_pilgrimsCome 31 = .ok (.if_icmp .eq 9, 3) := dk_159 0 9 (dk_at dksX3_pilgrimsCome_1 7 rfl rfl)
theorem dX3_pilgrimsCome_34 : decode cX3_pilgrimsCome 34 = .ok (.iinc 2 1, 3) := dk_132 2 1 (dk_at dksX3_pilgrimsCome_1 10 rfl rfl)
theorem dX3_pilgrimsCome_37 : decode cX3_pilgrimsCome 37 = .ok (.goto (-33), 3) := dk_167 255 223 (dk_at dksX3_pilgrimsCome_1 13 rfl rfl)
theorem dX3_pilgrimsCome_40 : decode cX3_pilgrimsCome 40 = .ok (.aload_n 0, 1) := dk_42 (dk_at dksX3_pilgrimsCome_1 16 rfl rfl)
theorem dX3_pilgrimsCome_41 : decode cX3_pilgrimsCome 41 = .ok (.iload_n 2, 1) := dk_28 (dk_at dksX3_pilgrimsCome_1 17 rfl rfl)
theorem dX3_pilgrimsCome_42 : decode cX3_pilgrimsCome 42 = .ok (.invokevirtual 195, 3) := dk_182 0 195 (dk_at dksX3_pilgrimsCome_1 18 rfl rfl)
theorem dX3_pilgrimsCome_45 : decode cX3_pilgrimsCome 45 = .ok (.istore_n 3, 1) := dk_62 (dk_at dksX3_pilgrimsCome_1 21 rfl rfl)
theorem dX3_pilgrimsCome_46 : decode cX3_pilgrimsCome 46 = .ok (.iload_n 3, 1) := dk_29 (dk_at dksX3_pilgrimsCome_1 22 rfl rfl)
theorem dX3_pilgrimsCome_47 : decode cX3_pilgrimsCome 47 = .ok (.bipush (-6), 2) := dk_16 250 (dk_at dksX3_pilgrimsCome_2 0 rfl rfl)
theorem dX3_pilgrimsCome_49 : decode cX3_pilgrimsCome 49 = .ok (.if_icmp .eq 21, 3) := dk_159 0 21 (dk_at dksX3_pilgrimsCome_2 2 rfl rfl)
theorem dX3_pilgrimsCome_52 : decode cX3_pilgrimsCome 52 = .ok (.aload_n 0, 1) := dk_42 (dk_at dksX3_pilgrimsCome_2 5 rfl rfl)
theorem dX3_pilgrimsCome_53 : decode cX3_pilgrimsCome 53 = .ok (.iload_n 3, 1) := dk_29 (dk_at dksX3_pilgrimsCome_2 6 rfl rfl)
theorem dX3_pilgrimsCome_54 : decode cX3_pilgrimsCome 54 = .ok (.aload_n 0, 1) := dk_42 (dk_at dksX3_pilgrimsCome_2 7 rfl rfl)
theorem dX3_pilgrimsCome_55 : decode cX3_pilgrimsCome 55 = .ok (.getfield 9, 3) := dk_180 0 9 (dk_at dksX3_pilgrimsCome_2 8 rfl rfl)
theorem dX3_pilgrimsCome_58 : decode cX3_pilgrimsCome 58 = .ok (.iload_n 2, 1) := dk_28 (dk_at dksX3_pilgrimsCome_2 11 rfl rfl)
theorem dX3_pilgrimsCome_59 : decode cX3_pilgrimsCome 59 = .ok (.iconst 3, 1) := dk_6 (dk_at dksX3_pilgrimsCome_2 12 rfl rfl)
theorem dX3_pilgrimsCome_60 : decode cX3_pilgrimsCome 60 = .ok (.invokestatic 186, 3) := dk_184 0 186 (dk_at dksX3_pilgrimsCome_2 13 rfl rfl)
theorem dX3_pilgrimsCome_63 : decode cX3_pilgrimsCome 63 = .ok (.iaload, 1) := dk_46 (dk_at dksX3_pilgrimsCome_2 16 rfl rfl)
theorem dX3_pilgrimsCome_64 : decode cX3_pilgrimsCome 64 = .ok (.invokevirtual 198, 3) := dk_182 0 198 (dk_at dksX3_pilgrimsCome_2 17 rfl rfl)
theorem dX3_pilgrimsCome_67 : decode cX3_pilgrimsCome 67 = .ok (.iinc 1 1, 3) := dk_132 1 1 (dk_at dksX3_pilgrimsCome_2 20 rfl rfl)
theorem dX3_pilgrimsCome_70 : decode cX3_pilgrimsCome 70 = .ok (.aload_n 0, 1) := dk_42 (dk_at dksX3_pilgrimsCome_2 23 rfl rfl)
theorem dX3_pilgrimsCome_71 : decode cX3_pilgrimsCome 71 = .ok (.bipush 13, 2) := dk_16 13 (dk_at dksX3_pilgrimsCome_3 0 rfl rfl)
theorem dX3_pilgrimsCome_73 : decode cX3_pilgrimsCome 73 = .ok (.sipush 1124, 3) := dk_17 4 100 (dk_at dksX3_pilgrimsCome_3 2 rfl rfl)
theorem dX3_pilgrimsCome_76 : decode cX3_pilgrimsCome 76 = .ok (.iconst 4, 1) := dk_7 (dk_at dksX3_pilgrimsCome_3 5 rfl rfl)
theorem dX3_pilgrimsCome_77 : decode cX3_pilgrimsCome 77 = .ok (.iload_n 2, 1) := dk_28 (dk_at dksX3_pilgrimsCome_3 6 rfl rfl)
theorem dX3_pilgrimsCome_78 : decode cX3_pilgrimsCome 78 = .ok (.invokevirtual 170, 3) := dk_182 0 170 (dk_at dksX3_pilgrimsCome_3 7 rfl rfl)
theorem dX3_pilgrimsCome_81 : decode cX3_pilgrimsCome 81 = .ok (.goto (-77), 3) := dk_167 255 179 (dk_at dksX3_pilgrimsCome_3 10 rfl rfl)
theorem dX3_pilgrimsCome_84 : decode cX3_pilgrimsCome 84 = .ok (.iload_n 1, 1) := dk_27 (dk_at dksX3_pilgrimsCome_3 13 rfl rfl)
theorem dX3_pilgrimsCome_85 : decode cX3_pilgrimsCome 85 = .ok (.ireturn, 1) := dk_172 (dk_at dksX3_pilgrimsCome_3 14 rfl rfl)
abbrev cX3_wouldBuy : ByteArray := prog_33_method_55_code
def yX3_wouldBuy : MethodName := ⟨RX3, "wouldBuy", "(I)I"⟩
def dkwX3_wouldBuy_5 : List UInt8 := [172]
abbrev dktX3_wouldBuy_5 : List UInt8 := dkwX3_wouldBuy_5 ++ []
def dkwX3_wouldBuy_4 : List UInt8 := [182, 0, 192, 42, 28, 182, 0, 192, 162, 0, 7, 29, 167, 0, 4, 28, 61, 132, 3, 1, 167, 255, 148, 28]
abbrev dktX3_wouldBuy_4 : List UInt8 := dkwX3_wouldBuy_4 ++ dktX3_wouldBuy_5
def dkwX3_wouldBuy_3 : List UInt8 := [161, 0, 7, 4, 167, 0, 4, 3, 54, 4, 21, 4, 153, 0, 26, 28, 16, 250, 159, 0, 16, 42, 29]
abbrev dktX3_wouldBuy_3 : List UInt8 := dkwX3_wouldBuy_3 ++ dktX3_wouldBuy_4
def dkwX3_wouldBuy_2 : List UInt8 := [4, 184, 0, 186, 46, 160, 0, 25, 42, 29, 182, 0, 192, 42, 180, 0, 9, 27, 5, 184, 0, 186, 46]
abbrev dktX3_wouldBuy_2 : List UInt8 := dkwX3_wouldBuy_2 ++ dktX3_wouldBuy_3
def dkwX3_wouldBuy_1 : List UInt8 := [16, 8, 162, 0, 91, 42, 29, 182, 0, 142, 153, 0, 44, 42, 29, 3, 182, 0, 136, 42, 180, 0, 9, 27]
abbrev dktX3_wouldBuy_1 : List UInt8 := dkwX3_wouldBuy_1 ++ dktX3_wouldBuy_2
def dkwX3_wouldBuy_0 : List UInt8 := [16, 250, 61, 3, 62, 29, 42, 180, 0, 9, 16, 12, 46, 162, 0, 103, 42, 180, 0, 9, 16, 14, 46]
abbrev dktX3_wouldBuy_0 : List UInt8 := dkwX3_wouldBuy_0 ++ dktX3_wouldBuy_1
theorem dksX3_wouldBuy_0 : cX3_wouldBuy.data.toList.drop 0 = dktX3_wouldBuy_0 := by decide +kernel
theorem dksX3_wouldBuy_1 : cX3_wouldBuy.data.toList.drop 23 = dktX3_wouldBuy_1 := dk_seg dksX3_wouldBuy_0 23 rfl rfl
theorem dksX3_wouldBuy_2 : cX3_wouldBuy.data.toList.drop 47 = dktX3_wouldBuy_2 := dk_seg dksX3_wouldBuy_1 24 rfl rfl
theorem dksX3_wouldBuy_3 : cX3_wouldBuy.data.toList.drop 70 = dktX3_wouldBuy_3 := dk_seg dksX3_wouldBuy_2 23 rfl rfl
theorem dksX3_wouldBuy_4 : cX3_wouldBuy.data.toList.drop 93 = dktX3_wouldBuy_4 := dk_seg dksX3_wouldBuy_3 23 rfl rfl
theorem dksX3_wouldBuy_5 : cX3_wouldBuy.data.toList.drop 117 = dktX3_wouldBuy_5 := dk_seg dksX3_wouldBuy_4 24 rfl rfl
theorem dX3_wouldBuy_0 : decode cX3_wouldBuy 0 = .ok (.bipush (-6), 2) := dk_16 250 (dk_at dksX3_wouldBuy_0 0 rfl rfl)
theorem dX3_wouldBuy_2 : decode cX3_wouldBuy 2 = .ok (.istore_n 2, 1) := dk_61 (dk_at dksX3_wouldBuy_0 2 rfl rfl)
theorem dX3_wouldBuy_3 : decode cX3_wouldBuy 3 = .ok (.iconst 0, 1) := dk_3 (dk_at dksX3_wouldBuy_0 3 rfl rfl)
theorem dX3_wouldBuy_4 : decode cX3_wouldBuy 4 = .ok (.istore_n 3, 1) := dk_62 (dk_at dksX3_wouldBuy_0 4 rfl rfl)
theorem dX3_wouldBuy_5 : decode cX3_wouldBuy 5 = .ok (.iload_n 3, 1) := dk_29 (dk_at dksX3_wouldBuy_0 5 rfl rfl)
theorem dX3_wouldBuy_6 : decode cX3_wouldBuy 6 = .ok (.aload_n 0, 1) := dk_42 (dk_at dksX3_wouldBuy_0 6 rfl rfl)
theorem dX3_wouldBuy_7 : decode cX3_wouldBuy 7 = .ok (.getfield 9, 3) := dk_180 0 9 (dk_at dksX3_wouldBuy_0 7 rfl rfl)
theorem dX3_wouldBuy_10 : decode cX3_wouldBuy 10 = .ok (.bipush 12, 2) := dk_16 12 (dk_at dksX3_wouldBuy_0 10 rfl rfl)
theorem dX3_wouldBuy_12 : decode cX3_wouldBuy 12 = .ok (.iaload, 1) := dk_46 (dk_at dksX3_wouldBuy_0 12 rfl rfl)
theorem dX3_wouldBuy_13 : decode cX3_wouldBuy 13 = .ok (.if_icmp .ge 103, 3) := dk_162 0 103 (dk_at dksX3_wouldBuy_0 13 rfl rfl)
theorem dX3_wouldBuy_16 : decode cX3_wouldBuy 16 = .ok (.aload_n 0, 1) := dk_42 (dk_at dksX3_wouldBuy_0 16 rfl rfl)
theorem dX3_wouldBuy_17 : decode cX3_wouldBuy 17 = .ok (.getfield 9, 3) := dk_180 0 9 (dk_at dksX3_wouldBuy_0 17 rfl rfl)
theorem dX3_wouldBuy_20 : decode cX3_wouldBuy 20 = .ok (.bipush 14, 2) := dk_16 14 (dk_at dksX3_wouldBuy_0 20 rfl rfl)
theorem dX3_wouldBuy_22 : decode cX3_wouldBuy 22 = .ok (.iaload, 1) := dk_46 (dk_at dksX3_wouldBuy_0 22 rfl rfl)
theorem dX3_wouldBuy_23 : decode cX3_wouldBuy 23 = .ok (.bipush 8, 2) := dk_16 8 (dk_at dksX3_wouldBuy_1 0 rfl rfl)
theorem dX3_wouldBuy_25 : decode cX3_wouldBuy 25 = .ok (.if_icmp .ge 91, 3) := dk_162 0 91 (dk_at dksX3_wouldBuy_1 2 rfl rfl)
theorem dX3_wouldBuy_28 : decode cX3_wouldBuy 28 = .ok (.aload_n 0, 1) := dk_42 (dk_at dksX3_wouldBuy_1 5 rfl rfl)
theorem dX3_wouldBuy_29 : decode cX3_wouldBuy 29 = .ok (.iload_n 3, 1) := dk_29 (dk_at dksX3_wouldBuy_1 6 rfl rfl)
theorem dX3_wouldBuy_30 : decode cX3_wouldBuy 30 = .ok (.invokevirtual 142, 3) := dk_182 0 142 (dk_at dksX3_wouldBuy_1 7 rfl rfl)
theorem dX3_wouldBuy_33 : decode cX3_wouldBuy 33 = .ok (.ifCond .eq 44, 3) := dk_153 0 44 (dk_at dksX3_wouldBuy_1 10 rfl rfl)
theorem dX3_wouldBuy_36 : decode cX3_wouldBuy 36 = .ok (.aload_n 0, 1) := dk_42 (dk_at dksX3_wouldBuy_1 13 rfl rfl)
theorem dX3_wouldBuy_37 : decode cX3_wouldBuy 37 = .ok (.iload_n 3, 1) := dk_29 (dk_at dksX3_wouldBuy_1 14 rfl rfl)
theorem dX3_wouldBuy_38 : decode cX3_wouldBuy 38 = .ok (.iconst 0, 1) := dk_3 (dk_at dksX3_wouldBuy_1 15 rfl rfl)
theorem dX3_wouldBuy_39 : decode cX3_wouldBuy 39 = .ok (.invokevirtual 136, 3) := dk_182 0 136 (dk_at dksX3_wouldBuy_1 16 rfl rfl)
theorem dX3_wouldBuy_42 : decode cX3_wouldBuy 42 = .ok (.aload_n 0, 1) := dk_42 (dk_at dksX3_wouldBuy_1 19 rfl rfl)
theorem dX3_wouldBuy_43 : decode cX3_wouldBuy 43 = .ok (.getfield 9, 3) := dk_180 0 9 (dk_at dksX3_wouldBuy_1 20 rfl rfl)
theorem dX3_wouldBuy_46 : decode cX3_wouldBuy 46 = .ok (.iload_n 1, 1) := dk_27 (dk_at dksX3_wouldBuy_1 23 rfl rfl)
theorem dX3_wouldBuy_47 : decode cX3_wouldBuy 47 = .ok (.iconst 1, 1) := dk_4 (dk_at dksX3_wouldBuy_2 0 rfl rfl)
theorem dX3_wouldBuy_48 : decode cX3_wouldBuy 48 = .ok (.invokestatic 186, 3) := dk_184 0 186 (dk_at dksX3_wouldBuy_2 1 rfl rfl)
theorem dX3_wouldBuy_51 : decode cX3_wouldBuy 51 = .ok (.iaload, 1) := dk_46 (dk_at dksX3_wouldBuy_2 4 rfl rfl)
theorem dX3_wouldBuy_52 : decode cX3_wouldBuy 52 = .ok (.if_icmp .ne 25, 3) := dk_160 0 25 (dk_at dksX3_wouldBuy_2 5 rfl rfl)
theorem dX3_wouldBuy_55 : decode cX3_wouldBuy 55 = .ok (.aload_n 0, 1) := dk_42 (dk_at dksX3_wouldBuy_2 8 rfl rfl)
theorem dX3_wouldBuy_56 : decode cX3_wouldBuy 56 = .ok (.iload_n 3, 1) := dk_29 (dk_at dksX3_wouldBuy_2 9 rfl rfl)
theorem dX3_wouldBuy_57 : decode cX3_wouldBuy 57 = .ok (.invokevirtual 192, 3) := dk_182 0 192 (dk_at dksX3_wouldBuy_2 10 rfl rfl)
theorem dX3_wouldBuy_60 : decode cX3_wouldBuy 60 = .ok (.aload_n 0, 1) := dk_42 (dk_at dksX3_wouldBuy_2 13 rfl rfl)
theorem dX3_wouldBuy_61 : decode cX3_wouldBuy 61 = .ok (.getfield 9, 3) := dk_180 0 9 (dk_at dksX3_wouldBuy_2 14 rfl rfl)
theorem dX3_wouldBuy_64 : decode cX3_wouldBuy 64 = .ok (.iload_n 1, 1) := dk_27 (dk_at dksX3_wouldBuy_2 17 rfl rfl)
theorem dX3_wouldBuy_65 : decode cX3_wouldBuy 65 = .ok (.iconst 2, 1) := dk_5 (dk_at dksX3_wouldBuy_2 18 rfl rfl)
theorem dX3_wouldBuy_66 : decode cX3_wouldBuy 66 = .ok (.invokestatic 186, 3) := dk_184 0 186 (dk_at dksX3_wouldBuy_2 19 rfl rfl)
theorem dX3_wouldBuy_69 : decode cX3_wouldBuy 69 = .ok (.iaload, 1) := dk_46 (dk_at dksX3_wouldBuy_2 22 rfl rfl)
theorem dX3_wouldBuy_70 : decode cX3_wouldBuy 70 = .ok (.if_icmp .lt 7, 3) := dk_161 0 7 (dk_at dksX3_wouldBuy_3 0 rfl rfl)
theorem dX3_wouldBuy_73 : decode cX3_wouldBuy 73 = .ok (.iconst 1, 1) := dk_4 (dk_at dksX3_wouldBuy_3 3 rfl rfl)
theorem dX3_wouldBuy_74 : decode cX3_wouldBuy 74 = .ok (.goto 4, 3) := dk_167 0 4 (dk_at dksX3_wouldBuy_3 4 rfl rfl)
theorem dX3_wouldBuy_77 : decode cX3_wouldBuy 77 = .ok (.iconst 0, 1) := dk_3 (dk_at dksX3_wouldBuy_3 7 rfl rfl)
theorem dX3_wouldBuy_78 : decode cX3_wouldBuy 78 = .ok (.istore 4, 2) := dk_54 4 (dk_at dksX3_wouldBuy_3 8 rfl rfl)
theorem dX3_wouldBuy_80 : decode cX3_wouldBuy 80 = .ok (.iload 4, 2) := dk_21 4 (dk_at dksX3_wouldBuy_3 10 rfl rfl)
theorem dX3_wouldBuy_82 : decode cX3_wouldBuy 82 = .ok (.ifCond .eq 26, 3) := dk_153 0 26 (dk_at dksX3_wouldBuy_3 12 rfl rfl)
theorem dX3_wouldBuy_85 : decode cX3_wouldBuy 85 = .ok (.iload_n 2, 1) := dk_28 (dk_at dksX3_wouldBuy_3 15 rfl rfl)
theorem dX3_wouldBuy_86 : decode cX3_wouldBuy 86 = .ok (.bipush (-6), 2) := dk_16 250 (dk_at dksX3_wouldBuy_3 16 rfl rfl)
theorem dX3_wouldBuy_88 : decode cX3_wouldBuy 88 = .ok (.if_icmp .eq 16, 3) := dk_159 0 16 (dk_at dksX3_wouldBuy_3 18 rfl rfl)
theorem dX3_wouldBuy_91 : decode cX3_wouldBuy 91 = .ok (.aload_n 0, 1) := dk_42 (dk_at dksX3_wouldBuy_3 21 rfl rfl)
theorem dX3_wouldBuy_92 : decode cX3_wouldBuy 92 = .ok (.iload_n 3, 1) := dk_29 (dk_at dksX3_wouldBuy_3 22 rfl rfl)
theorem dX3_wouldBuy_93 : decode cX3_wouldBuy 93 = .ok (.invokevirtual 192, 3) := dk_182 0 192 (dk_at dksX3_wouldBuy_4 0 rfl rfl)
theorem dX3_wouldBuy_96 : decode cX3_wouldBuy 96 = .ok (.aload_n 0, 1) := dk_42 (dk_at dksX3_wouldBuy_4 3 rfl rfl)
theorem dX3_wouldBuy_97 : decode cX3_wouldBuy 97 = .ok (.iload_n 2, 1) := dk_28 (dk_at dksX3_wouldBuy_4 4 rfl rfl)
theorem dX3_wouldBuy_98 : decode cX3_wouldBuy 98 = .ok (.invokevirtual 192, 3) := dk_182 0 192 (dk_at dksX3_wouldBuy_4 5 rfl rfl)
theorem dX3_wouldBuy_101 : decode cX3_wouldBuy 101 = .ok (.if_icmp .ge 7, 3) := dk_162 0 7 (dk_at dksX3_wouldBuy_4 8 rfl rfl)
theorem dX3_wouldBuy_104 : decode cX3_wouldBuy 104 = .ok (.iload_n 3, 1) := dk_29 (dk_at dksX3_wouldBuy_4 11 rfl rfl)
theorem dX3_wouldBuy_105 : decode cX3_wouldBuy 105 = .ok (.goto 4, 3) := dk_167 0 4 (dk_at dksX3_wouldBuy_4 12 rfl rfl)
theorem dX3_wouldBuy_108 : decode cX3_wouldBuy 108 = .ok (.iload_n 2, 1) := dk_28 (dk_at dksX3_wouldBuy_4 15 rfl rfl)
theorem dX3_wouldBuy_109 : decode cX3_wouldBuy 109 = .ok (.istore_n 2, 1) := dk_61 (dk_at dksX3_wouldBuy_4 16 rfl rfl)
theorem dX3_wouldBuy_110 : decode cX3_wouldBuy 110 = .ok (.iinc 3 1, 3) := dk_132 3 1 (dk_at dksX3_wouldBuy_4 17 rfl rfl)
theorem dX3_wouldBuy_113 : decode cX3_wouldBuy 113 = .ok (.goto (-108), 3) := dk_167 255 148 (dk_at dksX3_wouldBuy_4 20 rfl rfl)
theorem dX3_wouldBuy_116 : decode cX3_wouldBuy 116 = .ok (.iload_n 2, 1) := dk_28 (dk_at dksX3_wouldBuy_4 23 rfl rfl)
theorem dX3_wouldBuy_117 : decode cX3_wouldBuy 117 = .ok (.ireturn, 1) := dk_172 (dk_at dksX3_wouldBuy_5 0 rfl rfl)
abbrev cX3_fineness : ByteArray := prog_33_method_51_code
def yX3_fineness : MethodName := ⟨RX3, "fineness", "(I)I"⟩
def dkwX3_fineness_0 : List UInt8 := [42, 27, 6, 182, 0, 136, 61, 28, 154, 0, 7, 3, 167, 0, 10, 42, 27, 182, 0, 183, 28, 108, 172]
abbrev dktX3_fineness_0 : List UInt8 := dkwX3_fineness_0 ++ []
theorem dksX3_fineness_0 : cX3_fineness.data.toList.drop 0 = dktX3_fineness_0 := by decide +kernel
theorem dX3_fineness_0 : decode cX3_fineness 0 = .ok (.aload_n 0, 1) := dk_42 (dk_at dksX3_fineness_0 0 rfl rfl)
theorem dX3_fineness_1 : decode cX3_fineness 1 = .ok (.iload_n 1, 1) := dk_27 (dk_at dksX3_fineness_0 1 rfl rfl)
theorem dX3_fineness_2 : decode cX3_fineness 2 = .ok (.iconst 3, 1) := dk_6 (dk_at dksX3_fineness_0 2 rfl rfl)
theorem dX3_fineness_3 : decode cX3_fineness 3 = .ok (.invokevirtual 136, 3) := dk_182 0 136 (dk_at dksX3_fineness_0 3 rfl rfl)
theorem dX3_fineness_6 : decode cX3_fineness 6 = .ok (.istore_n 2, 1) := dk_61 (dk_at dksX3_fineness_0 6 rfl rfl)
theorem dX3_fineness_7 : decode cX3_fineness 7 = .ok (.iload_n 2, 1) := dk_28 (dk_at dksX3_fineness_0 7 rfl rfl)
theorem dX3_fineness_8 : decode cX3_fineness 8 = .ok (.ifCond .ne 7, 3) := dk_154 0 7 (dk_at dksX3_fineness_0 8 rfl rfl)
theorem dX3_fineness_11 : decode cX3_fineness 11 = .ok (.iconst 0, 1) := dk_3 (dk_at dksX3_fineness_0 11 rfl rfl)
theorem dX3_fineness_12 : decode cX3_fineness 12 = .ok (.goto 10, 3) := dk_167 0 10 (dk_at dksX3_fineness_0 12 rfl rfl)
theorem dX3_fineness_15 : decode cX3_fineness 15 = .ok (.aload_n 0, 1) := dk_42 (dk_at dksX3_fineness_0 15 rfl rfl)
theorem dX3_fineness_16 : decode cX3_fineness 16 = .ok (.iload_n 1, 1) := dk_27 (dk_at dksX3_fineness_0 16 rfl rfl)
theorem dX3_fineness_17 : decode cX3_fineness 17 = .ok (.invokevirtual 183, 3) := dk_182 0 183 (dk_at dksX3_fineness_0 17 rfl rfl)
theorem dX3_fineness_20 : decode cX3_fineness 20 = .ok (.iload_n 2, 1) := dk_28 (dk_at dksX3_fineness_0 20 rfl rfl)
theorem dX3_fineness_21 : decode cX3_fineness 21 = .ok (.idiv, 1) := dk_108 (dk_at dksX3_fineness_0 21 rfl rfl)
theorem dX3_fineness_22 : decode cX3_fineness 22 = .ok (.ireturn, 1) := dk_172 (dk_at dksX3_fineness_0 22 rfl rfl)
abbrev cX3_sumOn : ByteArray := prog_33_method_50_code
def yX3_sumOn : MethodName := ⟨RX3, "sumOn", "(I)I"⟩
def dkwX3_sumOn_1 : List UInt8 := [4, 96, 46, 96, 61, 132, 3, 1, 167, 255, 228, 28, 172]
abbrev dktX3_sumOn_1 : List UInt8 := dkwX3_sumOn_1 ++ []
def dkwX3_sumOn_0 : List UInt8 := [3, 61, 3, 62, 29, 42, 27, 6, 182, 0, 136, 162, 0, 24, 28, 42, 180, 0, 9, 27, 29, 184, 0, 167]
abbrev dktX3_sumOn_0 : List UInt8 := dkwX3_sumOn_0 ++ dktX3_sumOn_1
theorem dksX3_sumOn_0 : cX3_sumOn.data.toList.drop 0 = dktX3_sumOn_0 := by decide +kernel
theorem dksX3_sumOn_1 : cX3_sumOn.data.toList.drop 24 = dktX3_sumOn_1 := dk_seg dksX3_sumOn_0 24 rfl rfl
theorem dX3_sumOn_0 : decode cX3_sumOn 0 = .ok (.iconst 0, 1) := dk_3 (dk_at dksX3_sumOn_0 0 rfl rfl)
theorem dX3_sumOn_1 : decode cX3_sumOn 1 = .ok (.istore_n 2, 1) := dk_61 (dk_at dksX3_sumOn_0 1 rfl rfl)
theorem dX3_sumOn_2 : decode cX3_sumOn 2 = .ok (.iconst 0, 1) := dk_3 (dk_at dksX3_sumOn_0 2 rfl rfl)
theorem dX3_sumOn_3 : decode cX3_sumOn 3 = .ok (.istore_n 3, 1) := dk_62 (dk_at dksX3_sumOn_0 3 rfl rfl)
theorem dX3_sumOn_4 : decode cX3_sumOn 4 = .ok (.iload_n 3, 1) := dk_29 (dk_at dksX3_sumOn_0 4 rfl rfl)
theorem dX3_sumOn_5 : decode cX3_sumOn 5 = .ok (.aload_n 0, 1) := dk_42 (dk_at dksX3_sumOn_0 5 rfl rfl)
theorem dX3_sumOn_6 : decode cX3_sumOn 6 = .ok (.iload_n 1, 1) := dk_27 (dk_at dksX3_sumOn_0 6 rfl rfl)
theorem dX3_sumOn_7 : decode cX3_sumOn 7 = .ok (.iconst 3, 1) := dk_6 (dk_at dksX3_sumOn_0 7 rfl rfl)
theorem dX3_sumOn_8 : decode cX3_sumOn 8 = .ok (.invokevirtual 136, 3) := dk_182 0 136 (dk_at dksX3_sumOn_0 8 rfl rfl)
theorem dX3_sumOn_11 : decode cX3_sumOn 11 = .ok (.if_icmp .ge 24, 3) := dk_162 0 24 (dk_at dksX3_sumOn_0 11 rfl rfl)
theorem dX3_sumOn_14 : decode cX3_sumOn 14 = .ok (.iload_n 2, 1) := dk_28 (dk_at dksX3_sumOn_0 14 rfl rfl)
theorem dX3_sumOn_15 : decode cX3_sumOn 15 = .ok (.aload_n 0, 1) := dk_42 (dk_at dksX3_sumOn_0 15 rfl rfl)
theorem dX3_sumOn_16 : decode cX3_sumOn 16 = .ok (.getfield 9, 3) := dk_180 0 9 (dk_at dksX3_sumOn_0 16 rfl rfl)
theorem dX3_sumOn_19 : decode cX3_sumOn 19 = .ok (.iload_n 1, 1) := dk_27 (dk_at dksX3_sumOn_0 19 rfl rfl)
theorem dX3_sumOn_20 : decode cX3_sumOn 20 = .ok (.iload_n 3, 1) := dk_29 (dk_at dksX3_sumOn_0 20 rfl rfl)
theorem dX3_sumOn_21 : decode cX3_sumOn 21 = .ok (.invokestatic 167, 3) := dk_184 0 167 (dk_at dksX3_sumOn_0 21 rfl rfl)
theorem dX3_sumOn_24 : decode cX3_sumOn 24 = .ok (.iconst 1, 1) := dk_4 (dk_at dksX3_sumOn_1 0 rfl rfl)
theorem dX3_sumOn_25 : decode cX3_sumOn 25 = .ok (.iadd, 1) := dk_96 (dk_at dksX3_sumOn_1 1 rfl rfl)
theorem dX3_sumOn_26 : decode cX3_sumOn 26 = .ok (.iaload, 1) := dk_46 (dk_at dksX3_sumOn_1 2 rfl rfl)
theorem dX3_sumOn_27 : decode cX3_sumOn 27 = .ok (.iadd, 1) := dk_96 (dk_at dksX3_sumOn_1 3 rfl rfl)
theorem dX3_sumOn_28 : decode cX3_sumOn 28 = .ok (.istore_n 2, 1) := dk_61 (dk_at dksX3_sumOn_1 4 rfl rfl)
theorem dX3_sumOn_29 : decode cX3_sumOn 29 = .ok (.iinc 3 1, 3) := dk_132 3 1 (dk_at dksX3_sumOn_1 5 rfl rfl)
theorem dX3_sumOn_32 : decode cX3_sumOn 32 = .ok (.goto (-28), 3) := dk_167 255 228 (dk_at dksX3_sumOn_1 8 rfl rfl)
theorem dX3_sumOn_35 : decode cX3_sumOn 35 = .ok (.iload_n 2, 1) := dk_28 (dk_at dksX3_sumOn_1 11 rfl rfl)
theorem dX3_sumOn_36 : decode cX3_sumOn 36 = .ok (.ireturn, 1) := dk_172 (dk_at dksX3_sumOn_1 12 rfl rfl)
abbrev cX3_sells : ByteArray := prog_33_method_56_code
def yX3_sells : MethodName := ⟨RX3, "sells", "(II)V"⟩
def dkwX3_sells_8 : List UInt8 := [180, 0, 9, 16, 6, 92, 46, 28, 96, 79, 42, 16, 12, 17, 2, 252, 16, 60, 27, 182, 0, 170, 177]
abbrev dktX3_sells_8 : List UInt8 := dkwX3_sells_8 ++ []
def dkwX3_sells_7 : List UInt8 := [46, 79, 42, 180, 0, 9, 16, 14, 92, 46, 4, 96, 79, 42, 180, 0, 9, 7, 92, 46, 4, 96, 79, 42]
abbrev dktX3_sells_7 : List UInt8 := dkwX3_sells_7 ++ dktX3_sells_8
def dkwX3_sells_6 : List UInt8 := [167, 0, 4, 3, 79, 42, 180, 0, 9, 29, 7, 96, 42, 180, 0, 9, 27, 21, 4, 184, 0, 167, 4, 96]
abbrev dktX3_sells_6 : List UInt8 := dkwX3_sells_6 ++ dktX3_sells_7
def dkwX3_sells_5 : List UInt8 := [27, 182, 0, 183, 79, 42, 180, 0, 9, 29, 6, 96, 42, 27, 21, 4, 182, 0, 148, 153, 0, 7, 4]
abbrev dktX3_sells_5 : List UInt8 := dkwX3_sells_5 ++ dktX3_sells_6
def dkwX3_sells_4 : List UInt8 := [96, 79, 42, 180, 0, 9, 29, 4, 96, 42, 27, 6, 182, 0, 136, 79, 42, 180, 0, 9, 29, 5, 96, 42]
abbrev dktX3_sells_4 : List UInt8 := dkwX3_sells_4 ++ dktX3_sells_5
def dkwX3_sells_3 : List UInt8 := [167, 255, 204, 42, 180, 0, 9, 29, 3, 96, 42, 180, 0, 9, 3, 46, 16, 10, 42, 27, 182, 0, 192, 104]
abbrev dktX3_sells_3 : List UInt8 := dkwX3_sells_3 ++ dktX3_sells_4
def dkwX3_sells_2 : List UInt8 := [27, 21, 4, 184, 0, 167, 4, 96, 46, 162, 0, 8, 21, 5, 167, 0, 5, 21, 4, 54, 4, 132, 5, 1]
abbrev dktX3_sells_2 : List UInt8 := dkwX3_sells_2 ++ dktX3_sells_3
def dkwX3_sells_1 : List UInt8 := [6, 182, 0, 136, 162, 0, 47, 42, 180, 0, 9, 27, 21, 5, 184, 0, 167, 4, 96, 46, 42, 180, 0, 9]
abbrev dktX3_sells_1 : List UInt8 := dkwX3_sells_1 ++ dktX3_sells_2
def dkwX3_sells_0 : List UInt8 := [17, 4, 124, 8, 42, 180, 0, 9, 16, 14, 46, 104, 96, 62, 3, 54, 4, 4, 54, 5, 21, 5, 42, 27]
abbrev dktX3_sells_0 : List UInt8 := dkwX3_sells_0 ++ dktX3_sells_1
theorem dksX3_sells_0 : cX3_sells.data.toList.drop 0 = dktX3_sells_0 := by decide +kernel
theorem dksX3_sells_1 : cX3_sells.data.toList.drop 24 = dktX3_sells_1 := dk_seg dksX3_sells_0 24 rfl rfl
theorem dksX3_sells_2 : cX3_sells.data.toList.drop 48 = dktX3_sells_2 := dk_seg dksX3_sells_1 24 rfl rfl
theorem dksX3_sells_3 : cX3_sells.data.toList.drop 72 = dktX3_sells_3 := dk_seg dksX3_sells_2 24 rfl rfl
theorem dksX3_sells_4 : cX3_sells.data.toList.drop 96 = dktX3_sells_4 := dk_seg dksX3_sells_3 24 rfl rfl
theorem dksX3_sells_5 : cX3_sells.data.toList.drop 120 = dktX3_sells_5 := dk_seg dksX3_sells_4 24 rfl rfl
theorem dksX3_sells_6 : cX3_sells.data.toList.drop 143 = dktX3_sells_6 := dk_seg dksX3_sells_5 23 rfl rfl
theorem dksX3_sells_7 : cX3_sells.data.toList.drop 167 = dktX3_sells_7 := dk_seg dksX3_sells_6 24 rfl rfl
theorem dksX3_sells_8 : cX3_sells.data.toList.drop 191 = dktX3_sells_8 := dk_seg dksX3_sells_7 24 rfl rfl
theorem dX3_sells_0 : decode cX3_sells 0 = .ok (.sipush 1148, 3) := dk_17 4 124 (dk_at dksX3_sells_0 0 rfl rfl)
theorem dX3_sells_3 : decode cX3_sells 3 = .ok (.iconst 5, 1) := dk_8 (dk_at dksX3_sells_0 3 rfl rfl)
theorem dX3_sells_4 : decode cX3_sells 4 = .ok (.aload_n 0, 1) := dk_42 (dk_at dksX3_sells_0 4 rfl rfl)
theorem dX3_sells_5 : decode cX3_sells 5 = .ok (.getfield 9, 3) := dk_180 0 9 (dk_at dksX3_sells_0 5 rfl rfl)
theorem dX3_sells_8 : decode cX3_sells 8 = .ok (.bipush 14, 2) := dk_16 14 (dk_at dksX3_sells_0 8 rfl rfl)
theorem dX3_sells_10 : decode cX3_sells 10 = .ok (.iaload, 1) := dk_46 (dk_at dksX3_sells_0 10 rfl rfl)
theorem dX3_sells_11 : decode cX3_sells 11 = .ok (.imul, 1) := dk_104 (dk_at dksX3_sells_0 11 rfl rfl)
theorem dX3_sells_12 : decode cX3_sells 12 = .ok (.iadd, 1) := dk_96 (dk_at dksX3_sells_0 12 rfl rfl)
theorem dX3_sells_13 : decode cX3_sells 13 = .ok (.istore_n 3, 1) := dk_62 (dk_at dksX3_sells_0 13 rfl rfl)
theorem dX3_sells_14 : decode cX3_sells 14 = .ok (.iconst 0, 1) := dk_3 (dk_at dksX3_sells_0 14 rfl rfl)
theorem dX3_sells_15 : decode cX3_sells 15 = .ok (.istore 4, 2) := dk_54 4 (dk_at dksX3_sells_0 15 rfl rfl)
theorem dX3_sells_17 : decode cX3_sells 17 = .ok (.iconst 1, 1) := dk_4 (dk_at dksX3_sells_0 17 rfl rfl)
theorem dX3_sells_18 : decode cX3_sells 18 = .ok (.istore 5, 2) := dk_54 5 (dk_at dksX3_sells_0 18 rfl rfl)
theorem dX3_sells_20 : decode cX3_sells 20 = .ok (.iload 5, 2) := dk_21 5 (dk_at dksX3_sells_0 20 rfl rfl)
theorem dX3_sells_22 : decode cX3_sells 22 = .ok (.aload_n 0, 1) := dk_42 (dk_at dksX3_sells_0 22 rfl rfl)
theorem dX3_sells_23 : decode cX3_sells 23 = .ok (.iload_n 1, 1) := dk_27 (dk_at dksX3_sells_0 23 rfl rfl)
theorem dX3_sells_24 : decode cX3_sells 24 = .ok (.iconst 3, 1) := dk_6 (dk_at dksX3_sells_1 0 rfl rfl)
theorem dX3_sells_25 : decode cX3_sells 25 = .ok (.invokevirtual 136, 3) := dk_182 0 136 (dk_at dksX3_sells_1 1 rfl rfl)
theorem dX3_sells_28 : decode cX3_sells 28 = .ok (.if_icmp .ge 47, 3) := dk_162 0 47 (dk_at dksX3_sells_1 4 rfl rfl)
theorem dX3_sells_31 : decode cX3_sells 31 = .ok (.aload_n 0, 1) := dk_42 (dk_at dksX3_sells_1 7 rfl rfl)
theorem dX3_sells_32 : decode cX3_sells 32 = .ok (.getfield 9, 3) := dk_180 0 9 (dk_at dksX3_sells_1 8 rfl rfl)
theorem dX3_sells_35 : decode cX3_sells 35 = .ok (.iload_n 1, 1) := dk_27 (dk_at dksX3_sells_1 11 rfl rfl)
theorem dX3_sells_36 : decode cX3_sells 36 = .ok (.iload 5, 2) := dk_21 5 (dk_at dksX3_sells_1 12 rfl rfl)
theorem dX3_sells_38 : decode cX3_sells 38 = .ok (.invokestatic 167, 3) := dk_184 0 167 (dk_at dksX3_sells_1 14 rfl rfl)
theorem dX3_sells_41 : decode cX3_sells 41 = .ok (.iconst 1, 1) := dk_4 (dk_at dksX3_sells_1 17 rfl rfl)
theorem dX3_sells_42 : decode cX3_sells 42 = .ok (.iadd, 1) := dk_96 (dk_at dksX3_sells_1 18 rfl rfl)
theorem dX3_sells_43 : decode cX3_sells 43 = .ok (.iaload, 1) := dk_46 (dk_at dksX3_sells_1 19 rfl rfl)
theorem dX3_sells_44 : decode cX3_sells 44 = .ok (.aload_n 0, 1) := dk_42 (dk_at dksX3_sells_1 20 rfl rfl)
theorem dX3_sells_45 : decode cX3_sells 45 = .ok (.getfield 9, 3) := dk_180 0 9 (dk_at dksX3_sells_1 21 rfl rfl)
theorem dX3_sells_48 : decode cX3_sells 48 = .ok (.iload_n 1, 1) := dk_27 (dk_at dksX3_sells_2 0 rfl rfl)
theorem dX3_sells_49 : decode cX3_sells 49 = .ok (.iload 4, 2) := dk_21 4 (dk_at dksX3_sells_2 1 rfl rfl)
theorem dX3_sells_51 : decode cX3_sells 51 = .ok (.invokestatic 167, 3) := dk_184 0 167 (dk_at dksX3_sells_2 3 rfl rfl)
theorem dX3_sells_54 : decode cX3_sells 54 = .ok (.iconst 1, 1) := dk_4 (dk_at dksX3_sells_2 6 rfl rfl)
theorem dX3_sells_55 : decode cX3_sells 55 = .ok (.iadd, 1) := dk_96 (dk_at dksX3_sells_2 7 rfl rfl)
theorem dX3_sells_56 : decode cX3_sells 56 = .ok (.iaload, 1) := dk_46 (dk_at dksX3_sells_2 8 rfl rfl)
theorem dX3_sells_57 : decode cX3_sells 57 = .ok (.if_icmp .ge 8, 3) := dk_162 0 8 (dk_at dksX3_sells_2 9 rfl rfl)
theorem dX3_sells_60 : decode cX3_sells 60 = .ok (.iload 5, 2) := dk_21 5 (dk_at dksX3_sells_2 12 rfl rfl)
theorem dX3_sells_62 : decode cX3_sells 62 = .ok (.goto 5, 3) := dk_167 0 5 (dk_at dksX3_sells_2 14 rfl rfl)
theorem dX3_sells_65 : decode cX3_sells 65 = .ok (.iload 4, 2) := dk_21 4 (dk_at dksX3_sells_2 17 rfl rfl)
theorem dX3_sells_67 : decode cX3_sells 67 = .ok (.istore 4, 2) := dk_54 4 (dk_at dksX3_sells_2 19 rfl rfl)
theorem dX3_sells_69 : decode cX3_sells 69 = .ok (.iinc 5 1, 3) := dk_132 5 1 (dk_at dksX3_sells_2 21 rfl rfl)
theorem dX3_sells_72 : decode cX3_sells 72 = .ok (.goto (-52), 3) := dk_167 255 204 (dk_at dksX3_sells_3 0 rfl rfl)
theorem dX3_sells_75 : decode cX3_sells 75 = .ok (.aload_n 0, 1) := dk_42 (dk_at dksX3_sells_3 3 rfl rfl)
theorem dX3_sells_76 : decode cX3_sells 76 = .ok (.getfield 9, 3) := dk_180 0 9 (dk_at dksX3_sells_3 4 rfl rfl)
theorem dX3_sells_79 : decode cX3_sells 79 = .ok (.iload_n 3, 1) := dk_29 (dk_at dksX3_sells_3 7 rfl rfl)
theorem dX3_sells_80 : decode cX3_sells 80 = .ok (.iconst 0, 1) := dk_3 (dk_at dksX3_sells_3 8 rfl rfl)
theorem dX3_sells_81 : decode cX3_sells 81 = .ok (.iadd, 1) := dk_96 (dk_at dksX3_sells_3 9 rfl rfl)
theorem dX3_sells_82 : decode cX3_sells 82 = .ok (.aload_n 0, 1) := dk_42 (dk_at dksX3_sells_3 10 rfl rfl)
theorem dX3_sells_83 : decode cX3_sells 83 = .ok (.getfield 9, 3) := dk_180 0 9 (dk_at dksX3_sells_3 11 rfl rfl)
theorem dX3_sells_86 : decode cX3_sells 86 = .ok (.iconst 0, 1) := dk_3 (dk_at dksX3_sells_3 14 rfl rfl)
theorem dX3_sells_87 : decode cX3_sells 87 = .ok (.iaload, 1) := dk_46 (dk_at dksX3_sells_3 15 rfl rfl)
theorem dX3_sells_88 : decode cX3_sells 88 = .ok (.bipush 10, 2) := dk_16 10 (dk_at dksX3_sells_3 16 rfl rfl)
theorem dX3_sells_90 : decode cX3_sells 90 = .ok (.aload_n 0, 1) := dk_42 (dk_at dksX3_sells_3 18 rfl rfl)
theorem dX3_sells_91 : decode cX3_sells 91 = .ok (.iload_n 1, 1) := dk_27 (dk_at dksX3_sells_3 19 rfl rfl)
theorem dX3_sells_92 : decode cX3_sells 92 = .ok (.invokevirtual 192, 3) := dk_182 0 192 (dk_at dksX3_sells_3 20 rfl rfl)
theorem dX3_sells_95 : decode cX3_sells 95 = .ok (.imul, 1) := dk_104 (dk_at dksX3_sells_3 23 rfl rfl)
theorem dX3_sells_96 : decode cX3_sells 96 = .ok (.iadd, 1) := dk_96 (dk_at dksX3_sells_4 0 rfl rfl)
theorem dX3_sells_97 : decode cX3_sells 97 = .ok (.iastore, 1) := dk_79 (dk_at dksX3_sells_4 1 rfl rfl)
theorem dX3_sells_98 : decode cX3_sells 98 = .ok (.aload_n 0, 1) := dk_42 (dk_at dksX3_sells_4 2 rfl rfl)
theorem dX3_sells_99 : decode cX3_sells 99 = .ok (.getfield 9, 3) := dk_180 0 9 (dk_at dksX3_sells_4 3 rfl rfl)
theorem dX3_sells_102 : decode cX3_sells 102 = .ok (.iload_n 3, 1) := dk_29 (dk_at dksX3_sells_4 6 rfl rfl)
theorem dX3_sells_103 : decode cX3_sells 103 = .ok (.iconst 1, 1) := dk_4 (dk_at dksX3_sells_4 7 rfl rfl)
theorem dX3_sells_104 : decode cX3_sells 104 = .ok (.iadd, 1) := dk_96 (dk_at dksX3_sells_4 8 rfl rfl)
theorem dX3_sells_105 : decode cX3_sells 105 = .ok (.aload_n 0, 1) := dk_42 (dk_at dksX3_sells_4 9 rfl rfl)
theorem dX3_sells_106 : decode cX3_sells 106 = .ok (.iload_n 1, 1) := dk_27 (dk_at dksX3_sells_4 10 rfl rfl)
theorem dX3_sells_107 : decode cX3_sells 107 = .ok (.iconst 3, 1) := dk_6 (dk_at dksX3_sells_4 11 rfl rfl)
theorem dX3_sells_108 : decode cX3_sells 108 = .ok (.invokevirtual 136, 3) := dk_182 0 136 (dk_at dksX3_sells_4 12 rfl rfl)
theorem dX3_sells_111 : decode cX3_sells 111 = .ok (.iastore, 1) := dk_79 (dk_at dksX3_sells_4 15 rfl rfl)
theorem dX3_sells_112 : decode cX3_sells 112 = .ok (.aload_n 0, 1) := dk_42 (dk_at dksX3_sells_4 16 rfl rfl)
theorem dX3_sells_113 : decode cX3_sells 113 = .ok (.getfield 9, 3) := dk_180 0 9 (dk_at dksX3_sells_4 17 rfl rfl)
theorem dX3_sells_116 : decode cX3_sells 116 = .ok (.iload_n 3, 1) := dk_29 (dk_at dksX3_sells_4 20 rfl rfl)
theorem dX3_sells_117 : decode cX3_sells 117 = .ok (.iconst 2, 1) := dk_5 (dk_at dksX3_sells_4 21 rfl rfl)
theorem dX3_sells_118 : decode cX3_sells 118 = .ok (.iadd, 1) := dk_96 (dk_at dksX3_sells_4 22 rfl rfl)
theorem dX3_sells_119 : decode cX3_sells 119 = .ok (.aload_n 0, 1) := dk_42 (dk_at dksX3_sells_4 23 rfl rfl)
theorem dX3_sells_120 : decode cX3_sells 120 = .ok (.iload_n 1, 1) := dk_27 (dk_at dksX3_sells_5 0 rfl rfl)
theorem dX3_sells_121 : decode cX3_sells 121 = .ok (.invokevirtual 183, 3) := dk_182 0 183 (dk_at dksX3_sells_5 1 rfl rfl)
theorem dX3_sells_124 : decode cX3_sells 124 = .ok (.iastore, 1) := dk_79 (dk_at dksX3_sells_5 4 rfl rfl)
theorem dX3_sells_125 : decode cX3_sells 125 = .ok (.aload_n 0, 1) := dk_42 (dk_at dksX3_sells_5 5 rfl rfl)
theorem dX3_sells_126 : decode cX3_sells 126 = .ok (.getfield 9, 3) := dk_180 0 9 (dk_at dksX3_sells_5 6 rfl rfl)
theorem dX3_sells_129 : decode cX3_sells 129 = .ok (.iload_n 3, 1) := dk_29 (dk_at dksX3_sells_5 9 rfl rfl)
theorem dX3_sells_130 : decode cX3_sells 130 = .ok (.iconst 3, 1) := dk_6 (dk_at dksX3_sells_5 10 rfl rfl)
theorem dX3_sells_131 : decode cX3_sells 131 = .ok (.iadd, 1) := dk_96 (dk_at dksX3_sells_5 11 rfl rfl)
theorem dX3_sells_132 : decode cX3_sells 132 = .ok (.aload_n 0, 1) := dk_42 (dk_at dksX3_sells_5 12 rfl rfl)
theorem dX3_sells_133 : decode cX3_sells 133 = .ok (.iload_n 1, 1) := dk_27 (dk_at dksX3_sells_5 13 rfl rfl)
theorem dX3_sells_134 : decode cX3_sells 134 = .ok (.iload 4, 2) := dk_21 4 (dk_at dksX3_sells_5 14 rfl rfl)
theorem dX3_sells_136 : decode cX3_sells 136 = .ok (.invokevirtual 148, 3) := dk_182 0 148 (dk_at dksX3_sells_5 16 rfl rfl)
theorem dX3_sells_139 : decode cX3_sells 139 = .ok (.ifCond .eq 7, 3) := dk_153 0 7 (dk_at dksX3_sells_5 19 rfl rfl)
theorem dX3_sells_142 : decode cX3_sells 142 = .ok (.iconst 1, 1) := dk_4 (dk_at dksX3_sells_5 22 rfl rfl)
theorem dX3_sells_143 : decode cX3_sells 143 = .ok (.goto 4, 3) := dk_167 0 4 (dk_at dksX3_sells_6 0 rfl rfl)
theorem dX3_sells_146 : decode cX3_sells 146 = .ok (.iconst 0, 1) := dk_3 (dk_at dksX3_sells_6 3 rfl rfl)
theorem dX3_sells_147 : decode cX3_sells 147 = .ok (.iastore, 1) := dk_79 (dk_at dksX3_sells_6 4 rfl rfl)
theorem dX3_sells_148 : decode cX3_sells 148 = .ok (.aload_n 0, 1) := dk_42 (dk_at dksX3_sells_6 5 rfl rfl)
theorem dX3_sells_149 : decode cX3_sells 149 = .ok (.getfield 9, 3) := dk_180 0 9 (dk_at dksX3_sells_6 6 rfl rfl)
theorem dX3_sells_152 : decode cX3_sells 152 = .ok (.iload_n 3, 1) := dk_29 (dk_at dksX3_sells_6 9 rfl rfl)
theorem dX3_sells_153 : decode cX3_sells 153 = .ok (.iconst 4, 1) := dk_7 (dk_at dksX3_sells_6 10 rfl rfl)
theorem dX3_sells_154 : decode cX3_sells 154 = .ok (.iadd, 1) := dk_96 (dk_at dksX3_sells_6 11 rfl rfl)
theorem dX3_sells_155 : decode cX3_sells 155 = .ok (.aload_n 0, 1) := dk_42 (dk_at dksX3_sells_6 12 rfl rfl)
theorem dX3_sells_156 : decode cX3_sells 156 = .ok (.getfield 9, 3) := dk_180 0 9 (dk_at dksX3_sells_6 13 rfl rfl)
theorem dX3_sells_159 : decode cX3_sells 159 = .ok (.iload_n 1, 1) := dk_27 (dk_at dksX3_sells_6 16 rfl rfl)
theorem dX3_sells_160 : decode cX3_sells 160 = .ok (.iload 4, 2) := dk_21 4 (dk_at dksX3_sells_6 17 rfl rfl)
theorem dX3_sells_162 : decode cX3_sells 162 = .ok (.invokestatic 167, 3) := dk_184 0 167 (dk_at dksX3_sells_6 19 rfl rfl)
theorem dX3_sells_165 : decode cX3_sells 165 = .ok (.iconst 1, 1) := dk_4 (dk_at dksX3_sells_6 22 rfl rfl)
theorem dX3_sells_166 : decode cX3_sells 166 = .ok (.iadd, 1) := dk_96 (dk_at dksX3_sells_6 23 rfl rfl)
theorem dX3_sells_167 : decode cX3_sells 167 = .ok (.iaload, 1) := dk_46 (dk_at dksX3_sells_7 0 rfl rfl)
theorem dX3_sells_168 : decode cX3_sells 168 = .ok (.iastore, 1) := dk_79 (dk_at dksX3_sells_7 1 rfl rfl)
theorem dX3_sells_169 : decode cX3_sells 169 = .ok (.aload_n 0, 1) := dk_42 (dk_at dksX3_sells_7 2 rfl rfl)
theorem dX3_sells_170 : decode cX3_sells 170 = .ok (.getfield 9, 3) := dk_180 0 9 (dk_at dksX3_sells_7 3 rfl rfl)
theorem dX3_sells_173 : decode cX3_sells 173 = .ok (.bipush 14, 2) := dk_16 14 (dk_at dksX3_sells_7 6 rfl rfl)
theorem dX3_sells_175 : decode cX3_sells 175 = .ok (.dup2, 1) := dk_92 (dk_at dksX3_sells_7 8 rfl rfl)
theorem dX3_sells_176 : decode cX3_sells 176 = .ok (.iaload, 1) := dk_46 (dk_at dksX3_sells_7 9 rfl rfl)
theorem dX3_sells_177 : decode cX3_sells 177 = .ok (.iconst 1, 1) := dk_4 (dk_at dksX3_sells_7 10 rfl rfl)
theorem dX3_sells_178 : decode cX3_sells 178 = .ok (.iadd, 1) := dk_96 (dk_at dksX3_sells_7 11 rfl rfl)
theorem dX3_sells_179 : decode cX3_sells 179 = .ok (.iastore, 1) := dk_79 (dk_at dksX3_sells_7 12 rfl rfl)
theorem dX3_sells_180 : decode cX3_sells 180 = .ok (.aload_n 0, 1) := dk_42 (dk_at dksX3_sells_7 13 rfl rfl)
theorem dX3_sells_181 : decode cX3_sells 181 = .ok (.getfield 9, 3) := dk_180 0 9 (dk_at dksX3_sells_7 14 rfl rfl)
theorem dX3_sells_184 : decode cX3_sells 184 = .ok (.iconst 4, 1) := dk_7 (dk_at dksX3_sells_7 17 rfl rfl)
theorem dX3_sells_185 : decode cX3_sells 185 = .ok (.dup2, 1) := dk_92 (dk_at dksX3_sells_7 18 rfl rfl)
theorem dX3_sells_186 : decode cX3_sells 186 = .ok (.iaload, 1) := dk_46 (dk_at dksX3_sells_7 19 rfl rfl)
theorem dX3_sells_187 : decode cX3_sells 187 = .ok (.iconst 1, 1) := dk_4 (dk_at dksX3_sells_7 20 rfl rfl)
theorem dX3_sells_188 : decode cX3_sells 188 = .ok (.iadd, 1) := dk_96 (dk_at dksX3_sells_7 21 rfl rfl)
theorem dX3_sells_189 : decode cX3_sells 189 = .ok (.iastore, 1) := dk_79 (dk_at dksX3_sells_7 22 rfl rfl)
theorem dX3_sells_190 : decode cX3_sells 190 = .ok (.aload_n 0, 1) := dk_42 (dk_at dksX3_sells_7 23 rfl rfl)
theorem dX3_sells_191 : decode cX3_sells 191 = .ok (.getfield 9, 3) := dk_180 0 9 (dk_at dksX3_sells_8 0 rfl rfl)
theorem dX3_sells_194 : decode cX3_sells 194 = .ok (.bipush 6, 2) := dk_16 6 (dk_at dksX3_sells_8 3 rfl rfl)
theorem dX3_sells_196 : decode cX3_sells 196 = .ok (.dup2, 1) := dk_92 (dk_at dksX3_sells_8 5 rfl rfl)
theorem dX3_sells_197 : decode cX3_sells 197 = .ok (.iaload, 1) := dk_46 (dk_at dksX3_sells_8 6 rfl rfl)
theorem dX3_sells_198 : decode cX3_sells 198 = .ok (.iload_n 2, 1) := dk_28 (dk_at dksX3_sells_8 7 rfl rfl)
theorem dX3_sells_199 : decode cX3_sells 199 = .ok (.iadd, 1) := dk_96 (dk_at dksX3_sells_8 8 rfl rfl)
theorem dX3_sells_200 : decode cX3_sells 200 = .ok (.iastore, 1) := dk_79 (dk_at dksX3_sells_8 9 rfl rfl)
theorem dX3_sells_201 : decode cX3_sells 201 = .ok (.aload_n 0, 1) := dk_42 (dk_at dksX3_sells_8 10 rfl rfl)
theorem dX3_sells_202 : decode cX3_sells 202 = .ok (.bipush 12, 2) := dk_16 12 (dk_at dksX3_sells_8 11 rfl rfl)
theorem dX3_sells_204 : decode cX3_sells 204 = .ok (.sipush 764, 3) := dk_17 2 252 (dk_at dksX3_sells_8 13 rfl rfl)
theorem dX3_sells_207 : decode cX3_sells 207 = .ok (.bipush 60, 2) := dk_16 60 (dk_at dksX3_sells_8 16 rfl rfl)
theorem dX3_sells_209 : decode cX3_sells 209 = .ok (.iload_n 1, 1) := dk_27 (dk_at dksX3_sells_8 18 rfl rfl)
theorem dX3_sells_210 : decode cX3_sells 210 = .ok (.invokevirtual 170, 3) := dk_182 0 170 (dk_at dksX3_sells_8 19 rfl rfl)
theorem dX3_sells_213 : decode cX3_sells 213 = .ok (.return_, 1) := dk_177 (dk_at dksX3_sells_8 22 rfl rfl)
abbrev cX3_carverOf : ByteArray := prog_33_method_64_code
def yX3_carverOf : MethodName := ⟨RX3, "carverOf", "(II)I"⟩
def dkwX3_carverOf_3 : List UInt8 := [100, 184, 0, 99, 46, 172, 16, 254, 172]
abbrev dktX3_carverOf_3 : List UInt8 := dkwX3_carverOf_3 ++ []
def dkwX3_carverOf_2 : List UInt8 := [42, 180, 0, 9, 27, 28, 184, 0, 99, 46, 172, 42, 27, 182, 0, 114, 172, 42, 180, 0, 9, 27, 28, 4]
abbrev dktX3_carverOf_2 : List UInt8 := dkwX3_carverOf_2 ++ dktX3_carverOf_3
def dkwX3_carverOf_1 : List UInt8 := [170, 0, 0, 0, 67, 0, 0, 0, 0, 0, 0, 0, 5, 0, 0, 0, 37, 0, 0, 0, 37, 0, 0, 0, 37, 0, 0, 0, 48, 0, 0, 0, 54, 0, 0, 0, 54]
abbrev dktX3_carverOf_1 : List UInt8 := dkwX3_carverOf_1 ++ dktX3_carverOf_2
def dkwX3_carverOf_0 : List UInt8 := [42, 27, 182, 0, 108, 154, 0, 5, 2, 172, 28]
abbrev dktX3_carverOf_0 : List UInt8 := dkwX3_carverOf_0 ++ dktX3_carverOf_1
theorem dksX3_carverOf_0 : cX3_carverOf.data.toList.drop 0 = dktX3_carverOf_0 := by decide +kernel
theorem dksX3_carverOf_1 : cX3_carverOf.data.toList.drop 11 = dktX3_carverOf_1 := dk_seg dksX3_carverOf_0 11 rfl rfl
theorem dksX3_carverOf_2 : cX3_carverOf.data.toList.drop 48 = dktX3_carverOf_2 := dk_seg dksX3_carverOf_1 37 rfl rfl
theorem dksX3_carverOf_3 : cX3_carverOf.data.toList.drop 72 = dktX3_carverOf_3 := dk_seg dksX3_carverOf_2 24 rfl rfl
theorem dX3_carverOf_0 : decode cX3_carverOf 0 = .ok (.aload_n 0, 1) := dk_42 (dk_at dksX3_carverOf_0 0 rfl rfl)
theorem dX3_carverOf_1 : decode cX3_carverOf 1 = .ok (.iload_n 1, 1) := dk_27 (dk_at dksX3_carverOf_0 1 rfl rfl)
theorem dX3_carverOf_2 : decode cX3_carverOf 2 = .ok (.invokevirtual 108, 3) := dk_182 0 108 (dk_at dksX3_carverOf_0 2 rfl rfl)
theorem dX3_carverOf_5 : decode cX3_carverOf 5 = .ok (.ifCond .ne 5, 3) := dk_154 0 5 (dk_at dksX3_carverOf_0 5 rfl rfl)
theorem dX3_carverOf_8 : decode cX3_carverOf 8 = .ok (.iconst (-1), 1) := dk_2 (dk_at dksX3_carverOf_0 8 rfl rfl)
theorem dX3_carverOf_9 : decode cX3_carverOf 9 = .ok (.ireturn, 1) := dk_172 (dk_at dksX3_carverOf_0 9 rfl rfl)
theorem dX3_carverOf_10 : decode cX3_carverOf 10 = .ok (.iload_n 2, 1) := dk_28 (dk_at dksX3_carverOf_0 10 rfl rfl)
theorem dX3_carverOf_11 : decode cX3_carverOf 11 = .ok (.tableswitch 67 0 5 #[37, 37, 37, 48, 54, 54], 37) := by decide +kernel
theorem dX3_carverOf_48 : decode cX3_carverOf 48 = .ok (.aload_n 0, 1) := dk_42 (dk_at dksX3_carverOf_2 0 rfl rfl)
theorem dX3_carverOf_49 : decode cX3_carverOf 49 = .ok (.getfield 9, 3) := dk_180 0 9 (dk_at dksX3_carverOf_2 1 rfl rfl)
theorem dX3_carverOf_52 : decode cX3_carverOf 52 = .ok (.iload_n 1, 1) := dk_27 (dk_at dksX3_carverOf_2 4 rfl rfl)
theorem dX3_carverOf_53 : decode cX3_carverOf 53 = .ok (.iload_n 2, 1) := dk_28 (dk_at dksX3_carverOf_2 5 rfl rfl)
theorem dX3_carverOf_54 : decode cX3_carverOf 54 = .ok (.invokestatic 99, 3) := dk_184 0 99 (dk_at dksX3_carverOf_2 6 rfl rfl)
theorem dX3_carverOf_57 : decode cX3_carverOf 57 = .ok (.iaload, 1) := dk_46 (dk_at dksX3_carverOf_2 9 rfl rfl)
theorem dX3_carverOf_58 : decode cX3_carverOf 58 = .ok (.ireturn, 1) := dk_172 (dk_at dksX3_carverOf_2 10 rfl rfl)
theorem dX3_carverOf_59 : decode cX3_carverOf 59 = .ok (.aload_n 0, 1) := dk_42 (dk_at dksX3_carverOf_2 11 rfl rfl)
theorem dX3_carverOf_60 : decode cX3_carverOf 60 = .ok (.iload_n 1, 1) := dk_27 (dk_at dksX3_carverOf_2 12 rfl rfl)
theorem dX3_carverOf_61 : decode cX3_carverOf 61 = .ok (.invokevirtual 114, 3) := dk_182 0 114 (dk_at dksX3_carverOf_2 13 rfl rfl)
theorem dX3_carverOf_64 : decode cX3_carverOf 64 = .ok (.ireturn, 1) := dk_172 (dk_at dksX3_carverOf_2 16 rfl rfl)
theorem dX3_carverOf_65 : decode cX3_carverOf 65 = .ok (.aload_n 0, 1) := dk_42 (dk_at dksX3_carverOf_2 17 rfl rfl)
theorem dX3_carverOf_66 : decode cX3_carverOf 66 = .ok (.getfield 9, 3) := dk_180 0 9 (dk_at dksX3_carverOf_2 18 rfl rfl)
theorem dX3_carverOf_69 : decode cX3_carverOf 69 = .ok (.iload_n 1, 1) := dk_27 (dk_at dksX3_carverOf_2 21 rfl rfl)
theorem dX3_carverOf_70 : decode cX3_carverOf 70 = .ok (.iload_n 2, 1) := dk_28 (dk_at dksX3_carverOf_2 22 rfl rfl)
theorem dX3_carverOf_71 : decode cX3_carverOf 71 = .ok (.iconst 1, 1) := dk_4 (dk_at dksX3_carverOf_2 23 rfl rfl)
theorem dX3_carverOf_72 : decode cX3_carverOf 72 = .ok (.isub, 1) := dk_100 (dk_at dksX3_carverOf_3 0 rfl rfl)
theorem dX3_carverOf_73 : decode cX3_carverOf 73 = .ok (.invokestatic 99, 3) := dk_184 0 99 (dk_at dksX3_carverOf_3 1 rfl rfl)
theorem dX3_carverOf_76 : decode cX3_carverOf 76 = .ok (.iaload, 1) := dk_46 (dk_at dksX3_carverOf_3 4 rfl rfl)
theorem dX3_carverOf_77 : decode cX3_carverOf 77 = .ok (.ireturn, 1) := dk_172 (dk_at dksX3_carverOf_3 5 rfl rfl)
theorem dX3_carverOf_78 : decode cX3_carverOf 78 = .ok (.bipush (-2), 2) := dk_16 254 (dk_at dksX3_carverOf_3 6 rfl rfl)
theorem dX3_carverOf_80 : decode cX3_carverOf 80 = .ok (.ireturn, 1) := dk_172 (dk_at dksX3_carverOf_3 8 rfl rfl)
abbrev cX3_lensOf : ByteArray := prog_33_method_65_code
def yX3_lensOf : MethodName := ⟨RX3, "lensOf", "(IZ)I"⟩
def dkwX3_lensOf_1 : List UInt8 := [184, 0, 102, 46, 167, 0, 4, 2, 172]
abbrev dktX3_lensOf_1 : List UInt8 := dkwX3_lensOf_1 ++ []
def dkwX3_lensOf_0 : List UInt8 := [42, 27, 182, 0, 105, 153, 0, 24, 42, 180, 0, 9, 27, 28, 153, 0, 7, 3, 167, 0, 4, 4]
abbrev dktX3_lensOf_0 : List UInt8 := dkwX3_lensOf_0 ++ dktX3_lensOf_1
theorem dksX3_lensOf_0 : cX3_lensOf.data.toList.drop 0 = dktX3_lensOf_0 := by decide +kernel
theorem dksX3_lensOf_1 : cX3_lensOf.data.toList.drop 22 = dktX3_lensOf_1 := dk_seg dksX3_lensOf_0 22 rfl rfl
theorem dX3_lensOf_0 : decode cX3_lensOf 0 = .ok (.aload_n 0, 1) := dk_42 (dk_at dksX3_lensOf_0 0 rfl rfl)
theorem dX3_lensOf_1 : decode cX3_lensOf 1 = .ok (.iload_n 1, 1) := dk_27 (dk_at dksX3_lensOf_0 1 rfl rfl)
theorem dX3_lensOf_2 : decode cX3_lensOf 2 = .ok (.invokevirtual 105, 3) := dk_182 0 105 (dk_at dksX3_lensOf_0 2 rfl rfl)
theorem dX3_lensOf_5 : decode cX3_lensOf 5 = .ok (.ifCond .eq 24, 3) := dk_153 0 24 (dk_at dksX3_lensOf_0 5 rfl rfl)
theorem dX3_lensOf_8 : decode cX3_lensOf 8 = .ok (.aload_n 0, 1) := dk_42 (dk_at dksX3_lensOf_0 8 rfl rfl)
theorem dX3_lensOf_9 : decode cX3_lensOf 9 = .ok (.getfield 9, 3) := dk_180 0 9 (dk_at dksX3_lensOf_0 9 rfl rfl)
theorem dX3_lensOf_12 : decode cX3_lensOf 12 = .ok (.iload_n 1, 1) := dk_27 (dk_at dksX3_lensOf_0 12 rfl rfl)
theorem dX3_lensOf_13 : decode cX3_lensOf 13 = .ok (.iload_n 2, 1) := dk_28 (dk_at dksX3_lensOf_0 13 rfl rfl)
theorem dX3_lensOf_14 : decode cX3_lensOf 14 = .ok (.ifCond .eq 7, 3) := dk_153 0 7 (dk_at dksX3_lensOf_0 14 rfl rfl)
theorem dX3_lensOf_17 : decode cX3_lensOf 17 = .ok (.iconst 0, 1) := dk_3 (dk_at dksX3_lensOf_0 17 rfl rfl)
theorem dX3_lensOf_18 : decode cX3_lensOf 18 = .ok (.goto 4, 3) := dk_167 0 4 (dk_at dksX3_lensOf_0 18 rfl rfl)
theorem dX3_lensOf_21 : decode cX3_lensOf 21 = .ok (.iconst 1, 1) := dk_4 (dk_at dksX3_lensOf_0 21 rfl rfl)
theorem dX3_lensOf_22 : decode cX3_lensOf 22 = .ok (.invokestatic 102, 3) := dk_184 0 102 (dk_at dksX3_lensOf_1 0 rfl rfl)
theorem dX3_lensOf_25 : decode cX3_lensOf 25 = .ok (.iaload, 1) := dk_46 (dk_at dksX3_lensOf_1 3 rfl rfl)
theorem dX3_lensOf_26 : decode cX3_lensOf 26 = .ok (.goto 4, 3) := dk_167 0 4 (dk_at dksX3_lensOf_1 4 rfl rfl)
theorem dX3_lensOf_29 : decode cX3_lensOf 29 = .ok (.iconst (-1), 1) := dk_2 (dk_at dksX3_lensOf_1 7 rfl rfl)
theorem dX3_lensOf_30 : decode cX3_lensOf 30 = .ok (.ireturn, 1) := dk_172 (dk_at dksX3_lensOf_1 8 rfl rfl)
abbrev cX3_stringOf : ByteArray := prog_33_method_66_code
def yX3_stringOf : MethodName := ⟨RX3, "stringOf", "(II)I"⟩
def dkwX3_stringOf_4 : List UInt8 := [42, 27, 182, 0, 161, 172, 16, 254, 172]
abbrev dktX3_stringOf_4 : List UInt8 := dkwX3_stringOf_4 ++ []
def dkwX3_stringOf_3 : List UInt8 := [182, 0, 136, 172, 42, 27, 182, 0, 192, 172, 42, 27, 182, 0, 142, 153, 0, 7, 4, 167, 0, 4, 3, 172]
abbrev dktX3_stringOf_3 : List UInt8 := dkwX3_stringOf_3 ++ dktX3_stringOf_4
def dkwX3_stringOf_2 : List UInt8 := [42, 27, 3, 182, 0, 136, 172, 42, 27, 4, 182, 0, 136, 172, 42, 27, 6, 182, 0, 136, 172, 42, 27, 5]
abbrev dktX3_stringOf_2 : List UInt8 := dkwX3_stringOf_2 ++ dktX3_stringOf_3
def dkwX3_stringOf_1 : List UInt8 := [170, 0, 0, 0, 95, 0, 0, 0, 0, 0, 0, 0, 6, 0, 0, 0, 41, 0, 0, 0, 48, 0, 0, 0, 55, 0, 0, 0, 62, 0, 0, 0, 69, 0, 0, 0, 75, 0, 0, 0, 89]
abbrev dktX3_stringOf_1 : List UInt8 := dkwX3_stringOf_1 ++ dktX3_stringOf_2
def dkwX3_stringOf_0 : List UInt8 := [42, 27, 182, 0, 158, 154, 0, 5, 2, 172, 28]
abbrev dktX3_stringOf_0 : List UInt8 := dkwX3_stringOf_0 ++ dktX3_stringOf_1
theorem dksX3_stringOf_0 : cX3_stringOf.data.toList.drop 0 = dktX3_stringOf_0 := by decide +kernel
theorem dksX3_stringOf_1 : cX3_stringOf.data.toList.drop 11 = dktX3_stringOf_1 := dk_seg dksX3_stringOf_0 11 rfl rfl
theorem dksX3_stringOf_2 : cX3_stringOf.data.toList.drop 52 = dktX3_stringOf_2 := dk_seg dksX3_stringOf_1 41 rfl rfl
theorem dksX3_stringOf_3 : cX3_stringOf.data.toList.drop 76 = dktX3_stringOf_3 := dk_seg dksX3_stringOf_2 24 rfl rfl
theorem dksX3_stringOf_4 : cX3_stringOf.data.toList.drop 100 = dktX3_stringOf_4 := dk_seg dksX3_stringOf_3 24 rfl rfl
theorem dX3_stringOf_0 : decode cX3_stringOf 0 = .ok (.aload_n 0, 1) := dk_42 (dk_at dksX3_stringOf_0 0 rfl rfl)
theorem dX3_stringOf_1 : decode cX3_stringOf 1 = .ok (.iload_n 1, 1) := dk_27 (dk_at dksX3_stringOf_0 1 rfl rfl)
theorem dX3_stringOf_2 : decode cX3_stringOf 2 = .ok (.invokevirtual 158, 3) := dk_182 0 158 (dk_at dksX3_stringOf_0 2 rfl rfl)
theorem dX3_stringOf_5 : decode cX3_stringOf 5 = .ok (.ifCond .ne 5, 3) := dk_154 0 5 (dk_at dksX3_stringOf_0 5 rfl rfl)
theorem dX3_stringOf_8 : decode cX3_stringOf 8 = .ok (.iconst (-1), 1) := dk_2 (dk_at dksX3_stringOf_0 8 rfl rfl)
theorem dX3_stringOf_9 : decode cX3_stringOf 9 = .ok (.ireturn, 1) := dk_172 (dk_at dksX3_stringOf_0 9 rfl rfl)
theorem dX3_stringOf_10 : decode cX3_stringOf 10 = .ok (.iload_n 2, 1) := dk_28 (dk_at dksX3_stringOf_0 10 rfl rfl)
theorem dX3_stringOf_11 : decode cX3_stringOf 11 = .ok (.tableswitch 95 0 6 #[41, 48, 55, 62, 69, 75, 89], 41) := by decide +kernel
theorem dX3_stringOf_52 : decode cX3_stringOf 52 = .ok (.aload_n 0, 1) := dk_42 (dk_at dksX3_stringOf_2 0 rfl rfl)
theorem dX3_stringOf_53 : decode cX3_stringOf 53 = .ok (.iload_n 1, 1) := dk_27 (dk_at dksX3_stringOf_2 1 rfl rfl)
theorem dX3_stringOf_54 : decode cX3_stringOf 54 = .ok (.iconst 0, 1) := dk_3 (dk_at dksX3_stringOf_2 2 rfl rfl)
theorem dX3_stringOf_55 : decode cX3_stringOf 55 = .ok (.invokevirtual 136, 3) := dk_182 0 136 (dk_at dksX3_stringOf_2 3 rfl rfl)
theorem dX3_stringOf_58 : decode cX3_stringOf 58 = .ok (.ireturn, 1) := dk_172 (dk_at dksX3_stringOf_2 6 rfl rfl)
theorem dX3_stringOf_59 : decode cX3_stringOf 59 = .ok (.aload_n 0, 1) := dk_42 (dk_at dksX3_stringOf_2 7 rfl rfl)
theorem dX3_stringOf_60 : decode cX3_stringOf 60 = .ok (.iload_n 1, 1) := dk_27 (dk_at dksX3_stringOf_2 8 rfl rfl)
theorem dX3_stringOf_61 : decode cX3_stringOf 61 = .ok (.iconst 1, 1) := dk_4 (dk_at dksX3_stringOf_2 9 rfl rfl)
theorem dX3_stringOf_62 : decode cX3_stringOf 62 = .ok (.invokevirtual 136, 3) := dk_182 0 136 (dk_at dksX3_stringOf_2 10 rfl rfl)
theorem dX3_stringOf_65 : decode cX3_stringOf 65 = .ok (.ireturn, 1) := dk_172 (dk_at dksX3_stringOf_2 13 rfl rfl)
theorem dX3_stringOf_66 : decode cX3_stringOf 66 = .ok (.aload_n 0, 1) := dk_42 (dk_at dksX3_stringOf_2 14 rfl rfl)
theorem dX3_stringOf_67 : decode cX3_stringOf 67 = .ok (.iload_n 1, 1) := dk_27 (dk_at dksX3_stringOf_2 15 rfl rfl)
theorem dX3_stringOf_68 : decode cX3_stringOf 68 = .ok (.iconst 3, 1) := dk_6 (dk_at dksX3_stringOf_2 16 rfl rfl)
theorem dX3_stringOf_69 : decode cX3_stringOf 69 = .ok (.invokevirtual 136, 3) := dk_182 0 136 (dk_at dksX3_stringOf_2 17 rfl rfl)
theorem dX3_stringOf_72 : decode cX3_stringOf 72 = .ok (.ireturn, 1) := dk_172 (dk_at dksX3_stringOf_2 20 rfl rfl)
theorem dX3_stringOf_73 : decode cX3_stringOf 73 = .ok (.aload_n 0, 1) := dk_42 (dk_at dksX3_stringOf_2 21 rfl rfl)
theorem dX3_stringOf_74 : decode cX3_stringOf 74 = .ok (.iload_n 1, 1) := dk_27 (dk_at dksX3_stringOf_2 22 rfl rfl)
theorem dX3_stringOf_75 : decode cX3_stringOf 75 = .ok (.iconst 2, 1) := dk_5 (dk_at dksX3_stringOf_2 23 rfl rfl)
theorem dX3_stringOf_76 : decode cX3_stringOf 76 = .ok (.invokevirtual 136, 3) := dk_182 0 136 (dk_at dksX3_stringOf_3 0 rfl rfl)
theorem dX3_stringOf_79 : decode cX3_stringOf 79 = .ok (.ireturn, 1) := dk_172 (dk_at dksX3_stringOf_3 3 rfl rfl)
theorem dX3_stringOf_80 : decode cX3_stringOf 80 = .ok (.aload_n 0, 1) := dk_42 (dk_at dksX3_stringOf_3 4 rfl rfl)
theorem dX3_stringOf_81 : decode cX3_stringOf 81 = .ok (.iload_n 1, 1) := dk_27 (dk_at dksX3_stringOf_3 5 rfl rfl)
theorem dX3_stringOf_82 : decode cX3_stringOf 82 = .ok (.invokevirtual 192, 3) := dk_182 0 192 (dk_at dksX3_stringOf_3 6 rfl rfl)
theorem dX3_stringOf_85 : decode cX3_stringOf 85 = .ok (.ireturn, 1) := dk_172 (dk_at dksX3_stringOf_3 9 rfl rfl)
theorem dX3_stringOf_86 : decode cX3_stringOf 86 = .ok (.aload_n 0, 1) := dk_42 (dk_at dksX3_stringOf_3 10 rfl rfl)
theorem dX3_stringOf_87 : decode cX3_stringOf 87 = .ok (.iload_n 1, 1) := dk_27 (dk_at dksX3_stringOf_3 11 rfl rfl)
theorem dX3_stringOf_88 : decode cX3_stringOf 88 = .ok (.invokevirtual 142, 3) := dk_182 0 142 (dk_at dksX3_stringOf_3 12 rfl rfl)
theorem dX3_stringOf_91 : decode cX3_stringOf 91 = .ok (.ifCond .eq 7, 3) := dk_153 0 7 (dk_at dksX3_stringOf_3 15 rfl rfl)
theorem dX3_stringOf_94 : decode cX3_stringOf 94 = .ok (.iconst 1, 1) := dk_4 (dk_at dksX3_stringOf_3 18 rfl rfl)
theorem dX3_stringOf_95 : decode cX3_stringOf 95 = .ok (.goto 4, 3) := dk_167 0 4 (dk_at dksX3_stringOf_3 19 rfl rfl)
theorem dX3_stringOf_98 : decode cX3_stringOf 98 = .ok (.iconst 0, 1) := dk_3 (dk_at dksX3_stringOf_3 22 rfl rfl)
theorem dX3_stringOf_99 : decode cX3_stringOf 99 = .ok (.ireturn, 1) := dk_172 (dk_at dksX3_stringOf_3 23 rfl rfl)
theorem dX3_stringOf_100 : decode cX3_stringOf 100 = .ok (.aload_n 0, 1) := dk_42 (dk_at dksX3_stringOf_4 0 rfl rfl)
theorem dX3_stringOf_101 : decode cX3_stringOf 101 = .ok (.iload_n 1, 1) := dk_27 (dk_at dksX3_stringOf_4 1 rfl rfl)
theorem dX3_stringOf_102 : decode cX3_stringOf 102 = .ok (.invokevirtual 161, 3) := dk_182 0 161 (dk_at dksX3_stringOf_4 2 rfl rfl)
theorem dX3_stringOf_105 : decode cX3_stringOf 105 = .ok (.ireturn, 1) := dk_172 (dk_at dksX3_stringOf_4 5 rfl rfl)
theorem dX3_stringOf_106 : decode cX3_stringOf 106 = .ok (.bipush (-2), 2) := dk_16 254 (dk_at dksX3_stringOf_4 6 rfl rfl)
theorem dX3_stringOf_108 : decode cX3_stringOf 108 = .ok (.ireturn, 1) := dk_172 (dk_at dksX3_stringOf_4 8 rfl rfl)
abbrev cX3_bead : ByteArray := prog_33_method_67_code
def yX3_bead : MethodName := ⟨RX3, "bead", "(IIZ)I"⟩
def dkwX3_bead_1 : List UInt8 := [2, 172, 42, 180, 0, 9, 27, 28, 184, 0, 167, 29, 153, 0, 7, 4, 167, 0, 4, 3, 96, 46, 172]
abbrev dktX3_bead_1 : List UInt8 := dkwX3_bead_1 ++ []
def dkwX3_bead_0 : List UInt8 := [42, 27, 182, 0, 158, 153, 0, 19, 28, 3, 42, 27, 6, 182, 0, 136, 4, 100, 184, 0, 81, 154, 0, 5]
abbrev dktX3_bead_0 : List UInt8 := dkwX3_bead_0 ++ dktX3_bead_1
theorem dksX3_bead_0 : cX3_bead.data.toList.drop 0 = dktX3_bead_0 := by decide +kernel
theorem dksX3_bead_1 : cX3_bead.data.toList.drop 24 = dktX3_bead_1 := dk_seg dksX3_bead_0 24 rfl rfl
theorem dX3_bead_0 : decode cX3_bead 0 = .ok (.aload_n 0, 1) := dk_42 (dk_at dksX3_bead_0 0 rfl rfl)
theorem dX3_bead_1 : decode cX3_bead 1 = .ok (.iload_n 1, 1) := dk_27 (dk_at dksX3_bead_0 1 rfl rfl)
theorem dX3_bead_2 : decode cX3_bead 2 = .ok (.invokevirtual 158, 3) := dk_182 0 158 (dk_at dksX3_bead_0 2 rfl rfl)
theorem dX3_bead_5 : decode cX3_bead 5 = .ok (.ifCond .eq 19, 3) := dk_153 0 19 (dk_at dksX3_bead_0 5 rfl rfl)
theorem dX3_bead_8 : decode cX3_bead 8 = .ok (.iload_n 2, 1) := dk_28 (dk_at dksX3_bead_0 8 rfl rfl)
theorem dX3_bead_9 : decode cX3_bead 9 = .ok (.iconst 0, 1) := dk_3 (dk_at dksX3_bead_0 9 rfl rfl)
theorem dX3_bead_10 : decode cX3_bead 10 = .ok (.aload_n 0, 1) := dk_42 (dk_at dksX3_bead_0 10 rfl rfl)
theorem dX3_bead_11 : decode cX3_bead 11 = .ok (.iload_n 1, 1) := dk_27 (dk_at dksX3_bead_0 11 rfl rfl)
theorem dX3_bead_12 : decode cX3_bead 12 = .ok (.iconst 3, 1) := dk_6 (dk_at dksX3_bead_0 12 rfl rfl)
theorem dX3_bead_13 : decode cX3_bead 13 = .ok (.invokevirtual 136, 3) := dk_182 0 136 (dk_at dksX3_bead_0 13 rfl rfl)
theorem dX3_bead_16 : decode cX3_bead 16 = .ok (.iconst 1, 1) := dk_4 (dk_at dksX3_bead_0 16 rfl rfl)
theorem dX3_bead_17 : decode cX3_bead 17 = .ok (.isub, 1) := dk_100 (dk_at dksX3_bead_0 17 rfl rfl)
theorem dX3_bead_18 : decode cX3_bead 18 = .ok (.invokestatic 81, 3) := dk_184 0 81 (dk_at dksX3_bead_0 18 rfl rfl)
theorem dX3_bead_21 : decode cX3_bead 21 = .ok (.ifCond .ne 5, 3) := dk_154 0 5 (dk_at dksX3_bead_0 21 rfl rfl)
theorem dX3_bead_24 : decode cX3_bead 24 = .ok (.iconst (-1), 1) := dk_2 (dk_at dksX3_bead_1 0 rfl rfl)
theorem dX3_bead_25 : decode cX3_bead 25 = .ok (.ireturn, 1) := dk_172 (dk_at dksX3_bead_1 1 rfl rfl)
theorem dX3_bead_26 : decode cX3_bead 26 = .ok (.aload_n 0, 1) := dk_42 (dk_at dksX3_bead_1 2 rfl rfl)
theorem dX3_bead_27 : decode cX3_bead 27 = .ok (.getfield 9, 3) := dk_180 0 9 (dk_at dksX3_bead_1 3 rfl rfl)
theorem dX3_bead_30 : decode cX3_bead 30 = .ok (.iload_n 1, 1) := dk_27 (dk_at dksX3_bead_1 6 rfl rfl)
theorem dX3_bead_31 : decode cX3_bead 31 = .ok (.iload_n 2, 1) := dk_28 (dk_at dksX3_bead_1 7 rfl rfl)
theorem dX3_bead_32 : decode cX3_bead 32 = .ok (.invokestatic 167, 3) := dk_184 0 167 (dk_at dksX3_bead_1 8 rfl rfl)
theorem dX3_bead_35 : decode cX3_bead 35 = .ok (.iload_n 3, 1) := dk_29 (dk_at dksX3_bead_1 11 rfl rfl)
theorem dX3_bead_36 : decode cX3_bead 36 = .ok (.ifCond .eq 7, 3) := dk_153 0 7 (dk_at dksX3_bead_1 12 rfl rfl)
theorem dX3_bead_39 : decode cX3_bead 39 = .ok (.iconst 1, 1) := dk_4 (dk_at dksX3_bead_1 15 rfl rfl)
theorem dX3_bead_40 : decode cX3_bead 40 = .ok (.goto 4, 3) := dk_167 0 4 (dk_at dksX3_bead_1 16 rfl rfl)
theorem dX3_bead_43 : decode cX3_bead 43 = .ok (.iconst 0, 1) := dk_3 (dk_at dksX3_bead_1 19 rfl rfl)
theorem dX3_bead_44 : decode cX3_bead 44 = .ok (.iadd, 1) := dk_96 (dk_at dksX3_bead_1 20 rfl rfl)
theorem dX3_bead_45 : decode cX3_bead 45 = .ok (.iaload, 1) := dk_46 (dk_at dksX3_bead_1 21 rfl rfl)
theorem dX3_bead_46 : decode cX3_bead 46 = .ok (.ireturn, 1) := dk_172 (dk_at dksX3_bead_1 22 rfl rfl)
abbrev cX3_pilgrimOf : ByteArray := prog_33_method_68_code
def yX3_pilgrimOf : MethodName := ⟨RX3, "pilgrimOf", "(II)I"⟩
def dkwX3_pilgrimOf_3 : List UInt8 := [184, 0, 186, 46, 172, 42, 27, 182, 0, 195, 172, 16, 254, 172]
abbrev dktX3_pilgrimOf_3 : List UInt8 := dkwX3_pilgrimOf_3 ++ []
def dkwX3_pilgrimOf_2 : List UInt8 := [42, 180, 0, 9, 27, 3, 184, 0, 186, 46, 42, 180, 0, 9, 3, 46, 100, 172, 42, 180, 0, 9, 27, 28]
abbrev dktX3_pilgrimOf_2 : List UInt8 := dkwX3_pilgrimOf_2 ++ dktX3_pilgrimOf_3
def dkwX3_pilgrimOf_1 : List UInt8 := [170, 0, 0, 0, 0, 0, 0, 71, 0, 0, 0, 0, 0, 0, 0, 4, 0, 0, 0, 36, 0, 0, 0, 54, 0, 0, 0, 54, 0, 0, 0, 54, 0, 0, 0, 65]
abbrev dktX3_pilgrimOf_1 : List UInt8 := dkwX3_pilgrimOf_1 ++ dktX3_pilgrimOf_2
def dkwX3_pilgrimOf_0 : List UInt8 := [27, 3, 42, 180, 0, 9, 16, 13, 46, 4, 100, 184, 0, 81, 154, 0, 5, 2, 172, 28]
abbrev dktX3_pilgrimOf_0 : List UInt8 := dkwX3_pilgrimOf_0 ++ dktX3_pilgrimOf_1
theorem dksX3_pilgrimOf_0 : cX3_pilgrimOf.data.toList.drop 0 = dktX3_pilgrimOf_0 := by decide +kernel
theorem dksX3_pilgrimOf_1 : cX3_pilgrimOf.data.toList.drop 20 = dktX3_pilgrimOf_1 := dk_seg dksX3_pilgrimOf_0 20 rfl rfl
theorem dksX3_pilgrimOf_2 : cX3_pilgrimOf.data.toList.drop 56 = dktX3_pilgrimOf_2 := dk_seg dksX3_pilgrimOf_1 36 rfl rfl
theorem dksX3_pilgrimOf_3 : cX3_pilgrimOf.data.toList.drop 80 = dktX3_pilgrimOf_3 := dk_seg dksX3_pilgrimOf_2 24 rfl rfl
theorem dX3_pilgrimOf_0 : decode cX3_pilgrimOf 0 = .ok (.iload_n 1, 1) := dk_27 (dk_at dksX3_pilgrimOf_0 0 rfl rfl)
theorem dX3_pilgrimOf_1 : decode cX3_pilgrimOf 1 = .ok (.iconst 0, 1) := dk_3 (dk_at dksX3_pilgrimOf_0 1 rfl rfl)
theorem dX3_pilgrimOf_2 : decode cX3_pilgrimOf 2 = .ok (.aload_n 0, 1) := dk_42 (dk_at dksX3_pilgrimOf_0 2 rfl rfl)
theorem dX3_pilgrimOf_3 : decode cX3_pilgrimOf 3 = .ok (.getfield 9, 3) := dk_180 0 9 (dk_at dksX3_pilgrimOf_0 3 rfl rfl)
theorem dX3_pilgrimOf_6 : decode cX3_pilgrimOf 6 = .ok (.bipush 13, 2) := dk_16 13 (dk_at dksX3_pilgrimOf_0 6 rfl rfl)
theorem dX3_pilgrimOf_8 : decode cX3_pilgrimOf 8 = .ok (.iaload, 1) := dk_46 (dk_at dksX3_pilgrimOf_0 8 rfl rfl)
theorem dX3_pilgrimOf_9 : decode cX3_pilgrimOf 9 = .ok (.iconst 1, 1) := dk_4 (dk_at dksX3_pilgrimOf_0 9 rfl rfl)
theorem dX3_pilgrimOf_10 : decode cX3_pilgrimOf 10 = .ok (.isub, 1) := dk_100 (dk_at dksX3_pilgrimOf_0 10 rfl rfl)
theorem dX3_pilgrimOf_11 : decode cX3_pilgrimOf 11 = .ok (.invokestatic 81, 3) := dk_184 0 81 (dk_at dksX3_pilgrimOf_0 11 rfl rfl)
theorem dX3_pilgrimOf_14 : decode cX3_pilgrimOf 14 = .ok (.ifCond .ne 5, 3) := dk_154 0 5 (dk_at dksX3_pilgrimOf_0 14 rfl rfl)
theorem dX3_pilgrimOf_17 : decode cX3_pilgrimOf 17 = .ok (.iconst (-1), 1) := dk_2 (dk_at dksX3_pilgrimOf_0 17 rfl rfl)
theorem dX3_pilgrimOf_18 : decode cX3_pilgrimOf 18 = .ok (.ireturn, 1) := dk_172 (dk_at dksX3_pilgrimOf_0 18 rfl rfl)
theorem dX3_pilgrimOf_19 : decode cX3_pilgrimOf 19 = .ok (.iload_n 2, 1) := dk_28 (dk_at dksX3_pilgrimOf_0 19 rfl rfl)
theorem dX3_pilgrimOf_20 : decode cX3_pilgrimOf 20 = .ok (.tableswitch 71 0 4 #[36, 54, 54, 54, 65], 36) := by decide +kernel
theorem dX3_pilgrimOf_56 : decode cX3_pilgrimOf 56 = .ok (.aload_n 0, 1) := dk_42 (dk_at dksX3_pilgrimOf_2 0 rfl rfl)
theorem dX3_pilgrimOf_57 : decode cX3_pilgrimOf 57 = .ok (.getfield 9, 3) := dk_180 0 9 (dk_at dksX3_pilgrimOf_2 1 rfl rfl)
theorem dX3_pilgrimOf_60 : decode cX3_pilgrimOf 60 = .ok (.iload_n 1, 1) := dk_27 (dk_at dksX3_pilgrimOf_2 4 rfl rfl)
theorem dX3_pilgrimOf_61 : decode cX3_pilgrimOf 61 = .ok (.iconst 0, 1) := dk_3 (dk_at dksX3_pilgrimOf_2 5 rfl rfl)
theorem dX3_pilgrimOf_62 : decode cX3_pilgrimOf 62 = .ok (.invokestatic 186, 3) := dk_184 0 186 (dk_at dksX3_pilgrimOf_2 6 rfl rfl)
theorem dX3_pilgrimOf_65 : decode cX3_pilgrimOf 65 = .ok (.iaload, 1) := dk_46 (dk_at dksX3_pilgrimOf_2 9 rfl rfl)
theorem dX3_pilgrimOf_66 : decode cX3_pilgrimOf 66 = .ok (.aload_n 0, 1) := dk_42 (dk_at dksX3_pilgrimOf_2 10 rfl rfl)
theorem dX3_pilgrimOf_67 : decode cX3_pilgrimOf 67 = .ok (.getfield 9, 3) := dk_180 0 9 (dk_at dksX3_pilgrimOf_2 11 rfl rfl)
theorem dX3_pilgrimOf_70 : decode cX3_pilgrimOf 70 = .ok (.iconst 0, 1) := dk_3 (dk_at dksX3_pilgrimOf_2 14 rfl rfl)
theorem dX3_pilgrimOf_71 : decode cX3_pilgrimOf 71 = .ok (.iaload, 1) := dk_46 (dk_at dksX3_pilgrimOf_2 15 rfl rfl)
theorem dX3_pilgrimOf_72 : decode cX3_pilgrimOf 72 = .ok (.isub, 1) := dk_100 (dk_at dksX3_pilgrimOf_2 16 rfl rfl)
theorem dX3_pilgrimOf_73 : decode cX3_pilgrimOf 73 = .ok (.ireturn, 1) := dk_172 (dk_at dksX3_pilgrimOf_2 17 rfl rfl)
theorem dX3_pilgrimOf_74 : decode cX3_pilgrimOf 74 = .ok (.aload_n 0, 1) := dk_42 (dk_at dksX3_pilgrimOf_2 18 rfl rfl)
theorem dX3_pilgrimOf_75 : decode cX3_pilgrimOf 75 = .ok (.getfield 9, 3) := dk_180 0 9 (dk_at dksX3_pilgrimOf_2 19 rfl rfl)
theorem dX3_pilgrimOf_78 : decode cX3_pilgrimOf 78 = .ok (.iload_n 1, 1) := dk_27 (dk_at dksX3_pilgrimOf_2 22 rfl rfl)
theorem dX3_pilgrimOf_79 : decode cX3_pilgrimOf 79 = .ok (.iload_n 2, 1) := dk_28 (dk_at dksX3_pilgrimOf_2 23 rfl rfl)
theorem dX3_pilgrimOf_80 : decode cX3_pilgrimOf 80 = .ok (.invokestatic 186, 3) := dk_184 0 186 (dk_at dksX3_pilgrimOf_3 0 rfl rfl)
theorem dX3_pilgrimOf_83 : decode cX3_pilgrimOf 83 = .ok (.iaload, 1) := dk_46 (dk_at dksX3_pilgrimOf_3 3 rfl rfl)
theorem dX3_pilgrimOf_84 : decode cX3_pilgrimOf 84 = .ok (.ireturn, 1) := dk_172 (dk_at dksX3_pilgrimOf_3 4 rfl rfl)
theorem dX3_pilgrimOf_85 : decode cX3_pilgrimOf 85 = .ok (.aload_n 0, 1) := dk_42 (dk_at dksX3_pilgrimOf_3 5 rfl rfl)
theorem dX3_pilgrimOf_86 : decode cX3_pilgrimOf 86 = .ok (.iload_n 1, 1) := dk_27 (dk_at dksX3_pilgrimOf_3 6 rfl rfl)
theorem dX3_pilgrimOf_87 : decode cX3_pilgrimOf 87 = .ok (.invokevirtual 195, 3) := dk_182 0 195 (dk_at dksX3_pilgrimOf_3 7 rfl rfl)
theorem dX3_pilgrimOf_90 : decode cX3_pilgrimOf 90 = .ok (.ireturn, 1) := dk_172 (dk_at dksX3_pilgrimOf_3 10 rfl rfl)
theorem dX3_pilgrimOf_91 : decode cX3_pilgrimOf 91 = .ok (.bipush (-2), 2) := dk_16 254 (dk_at dksX3_pilgrimOf_3 11 rfl rfl)
theorem dX3_pilgrimOf_93 : decode cX3_pilgrimOf 93 = .ok (.ireturn, 1) := dk_172 (dk_at dksX3_pilgrimOf_3 13 rfl rfl)
abbrev cX3_soldOf : ByteArray := prog_33_method_69_code
def yX3_soldOf : MethodName := ⟨RX3, "soldOf", "(ZII)I"⟩
def dkwX3_soldOf_7 : List UInt8 := [16, 250, 172, 16, 254, 172]
abbrev dktX3_soldOf_7 : List UInt8 := dkwX3_soldOf_7 ++ []
def dkwX3_soldOf_6 : List UInt8 := [42, 180, 0, 9, 3, 46, 100, 172, 27, 153, 0, 15, 42, 180, 0, 9, 21, 4, 6, 96, 46, 167, 0, 5]
abbrev dktX3_soldOf_6 : List UInt8 := dkwX3_soldOf_6 ++ dktX3_soldOf_7
def dkwX3_soldOf_5 : List UInt8 := [21, 4, 4, 96, 46, 108, 172, 27, 153, 0, 7, 3, 167, 0, 19, 42, 180, 0, 9, 21, 4, 3, 96, 46]
abbrev dktX3_soldOf_5 : List UInt8 := dkwX3_soldOf_5 ++ dktX3_soldOf_6
def dkwX3_soldOf_4 : List UInt8 := [42, 180, 0, 9, 21, 4, 4, 96, 46, 172, 42, 180, 0, 9, 21, 4, 5, 96, 46, 42, 180, 0, 9]
abbrev dktX3_soldOf_4 : List UInt8 := dkwX3_soldOf_4 ++ dktX3_soldOf_5
def dkwX3_soldOf_3 : List UInt8 := [170, 0, 0, 0, 0, 0, 0, 106, 0, 0, 0, 0, 0, 0, 0, 3, 0, 0, 0, 32, 0, 0, 0, 42, 0, 0, 0, 62, 0, 0, 0, 87]
abbrev dktX3_soldOf_3 : List UInt8 := dkwX3_soldOf_3 ++ dktX3_soldOf_4
def dkwX3_soldOf_2 : List UInt8 := [29]
abbrev dktX3_soldOf_2 : List UInt8 := dkwX3_soldOf_2 ++ dktX3_soldOf_3
def dkwX3_soldOf_1 : List UInt8 := [154, 0, 5, 2, 172, 27, 153, 0, 9, 17, 4, 164, 167, 0, 6, 17, 4, 124, 8, 28, 104, 96, 54, 4]
abbrev dktX3_soldOf_1 : List UInt8 := dkwX3_soldOf_1 ++ dktX3_soldOf_2
def dkwX3_soldOf_0 : List UInt8 := [28, 3, 42, 180, 0, 9, 27, 153, 0, 8, 16, 15, 167, 0, 5, 16, 14, 46, 4, 100, 184, 0, 81]
abbrev dktX3_soldOf_0 : List UInt8 := dkwX3_soldOf_0 ++ dktX3_soldOf_1
theorem dksX3_soldOf_0 : cX3_soldOf.data.toList.drop 0 = dktX3_soldOf_0 := by decide +kernel
theorem dksX3_soldOf_1 : cX3_soldOf.data.toList.drop 23 = dktX3_soldOf_1 := dk_seg dksX3_soldOf_0 23 rfl rfl
theorem dksX3_soldOf_2 : cX3_soldOf.data.toList.drop 47 = dktX3_soldOf_2 := dk_seg dksX3_soldOf_1 24 rfl rfl
theorem dksX3_soldOf_3 : cX3_soldOf.data.toList.drop 48 = dktX3_soldOf_3 := dk_seg dksX3_soldOf_2 1 rfl rfl
theorem dksX3_soldOf_4 : cX3_soldOf.data.toList.drop 80 = dktX3_soldOf_4 := dk_seg dksX3_soldOf_3 32 rfl rfl
theorem dksX3_soldOf_5 : cX3_soldOf.data.toList.drop 103 = dktX3_soldOf_5 := dk_seg dksX3_soldOf_4 23 rfl rfl
theorem dksX3_soldOf_6 : cX3_soldOf.data.toList.drop 127 = dktX3_soldOf_6 := dk_seg dksX3_soldOf_5 24 rfl rfl
theorem dksX3_soldOf_7 : cX3_soldOf.data.toList.drop 151 = dktX3_soldOf_7 := dk_seg dksX3_soldOf_6 24 rfl rfl
theorem dX3_soldOf_0 : decode cX3_soldOf 0 = .ok (.iload_n 2, 1) := dk_28 (dk_at dksX3_soldOf_0 0 rfl rfl)
theorem dX3_soldOf_1 : decode cX3_soldOf 1 = .ok (.iconst 0, 1) := dk_3 (dk_at dksX3_soldOf_0 1 rfl rfl)
theorem dX3_soldOf_2 : decode cX3_soldOf 2 = .ok (.aload_n 0, 1) := dk_42 (dk_at dksX3_soldOf_0 2 rfl rfl)
theorem dX3_soldOf_3 : decode cX3_soldOf 3 = .ok (.getfield 9, 3) := dk_180 0 9 (dk_at dksX3_soldOf_0 3 rfl rfl)
theorem dX3_soldOf_6 : decode cX3_soldOf 6 = .ok (.iload_n 1, 1) := dk_27 (dk_at dksX3_soldOf_0 6 rfl rfl)
theorem dX3_soldOf_7 : decode cX3_soldOf 7 = .ok (.ifCond .eq 8, 3) := dk_153 0 8 (dk_at dksX3_soldOf_0 7 rfl rfl)
theorem dX3_soldOf_10 : decode cX3_soldOf 10 = .ok (.bipush 15, 2) := dk_16 15 (dk_at dksX3_soldOf_0 10 rfl rfl)
theorem dX3_soldOf_12 : decode cX3_soldOf 12 = .ok (.goto 5, 3) := dk_167 0 5 (dk_at dksX3_soldOf_0 12 rfl rfl)
theorem dX3_soldOf_15 : decode cX3_soldOf 15 = .ok (.bipush 14, 2) := dk_16 14 (dk_at dksX3_soldOf_0 15 rfl rfl)
theorem dX3_soldOf_17 : decode cX3_soldOf 17 = .ok (.iaload, 1) := dk_46 (dk_at dksX3_soldOf_0 17 rfl rfl)
theorem dX3_soldOf_18 : decode cX3_soldOf 18 = .ok (.iconst 1, 1) := dk_4 (dk_at dksX3_soldOf_0 18 rfl rfl)
theorem dX3_soldOf_19 : decode cX3_soldOf 19 = .ok (.isub, 1) := dk_100 (dk_at dksX3_soldOf_0 19 rfl rfl)
theorem dX3_soldOf_20 : decode cX3_soldOf 20 = .ok (.invokestatic 81, 3) := dk_184 0 81 (dk_at dksX3_soldOf_0 20 rfl rfl)
theorem dX3_soldOf_23 : decode cX3_soldOf 23 = .ok (.ifCond .ne 5, 3) := dk_154 0 5 (dk_at dksX3_soldOf_1 0 rfl rfl)
theorem dX3_soldOf_26 : decode cX3_soldOf 26 = .ok (.iconst (-1), 1) := dk_2 (dk_at dksX3_soldOf_1 3 rfl rfl)
theorem dX3_soldOf_27 : decode cX3_soldOf 27 = .ok (.ireturn, 1) := dk_172 (dk_at dksX3_soldOf_1 4 rfl rfl)
theorem dX3_soldOf_28 : decode cX3_soldOf 28 = .ok (.iload_n 1, 1) := dk_27 (dk_at dksX3_soldOf_1 5 rfl rfl)
theorem dX3_soldOf_29 : decode cX3_soldOf 29 = .ok (.ifCond .eq 9, 3) := dk_153 0 9 (dk_at dksX3_soldOf_1 6 rfl rfl)
theorem dX3_soldOf_32 : decode cX3_soldOf 32 = .ok (.sipush 1188, 3) := dk_17 4 164 (dk_at dksX3_soldOf_1 9 rfl rfl)
theorem dX3_soldOf_35 : decode cX3_soldOf 35 = .ok (.goto 6, 3) := dk_167 0 6 (dk_at dksX3_soldOf_1 12 rfl rfl)
theorem dX3_soldOf_38 : decode cX3_soldOf 38 = .ok (.sipush 1148, 3) := dk_17 4 124 (dk_at dksX3_soldOf_1 15 rfl rfl)
theorem dX3_soldOf_41 : decode cX3_soldOf 41 = .ok (.iconst 5, 1) := dk_8 (dk_at dksX3_soldOf_1 18 rfl rfl)
theorem dX3_soldOf_42 : decode cX3_soldOf 42 = .ok (.iload_n 2, 1) := dk_28 (dk_at dksX3_soldOf_1 19 rfl rfl)
theorem dX3_soldOf_43 : decode cX3_soldOf 43 = .ok (.imul, 1) := dk_104 (dk_at dksX3_soldOf_1 20 rfl rfl)
theorem dX3_soldOf_44 : decode cX3_soldOf 44 = .ok (.iadd, 1) := dk_96 (dk_at dksX3_soldOf_1 21 rfl rfl)
theorem dX3_soldOf_45 : decode cX3_soldOf 45 = .ok (.istore 4, 2) := dk_54 4 (dk_at dksX3_soldOf_1 22 rfl rfl)
theorem dX3_soldOf_47 : decode cX3_soldOf 47 = .ok (.iload_n 3, 1) := dk_29 (dk_at dksX3_soldOf_2 0 rfl rfl)
theorem dX3_soldOf_48 : decode cX3_soldOf 48 = .ok (.tableswitch 106 0 3 #[32, 42, 62, 87], 32) := by decide +kernel
theorem dX3_soldOf_80 : decode cX3_soldOf 80 = .ok (.aload_n 0, 1) := dk_42 (dk_at dksX3_soldOf_4 0 rfl rfl)
theorem dX3_soldOf_81 : decode cX3_soldOf 81 = .ok (.getfield 9, 3) := dk_180 0 9 (dk_at dksX3_soldOf_4 1 rfl rfl)
theorem dX3_soldOf_84 : decode cX3_soldOf 84 = .ok (.iload 4, 2) := dk_21 4 (dk_at dksX3_soldOf_4 4 rfl rfl)
theorem dX3_soldOf_86 : decode cX3_soldOf 86 = .ok (.iconst 1, 1) := dk_4 (dk_at dksX3_soldOf_4 6 rfl rfl)
theorem dX3_soldOf_87 : decode cX3_soldOf 87 = .ok (.iadd, 1) := dk_96 (dk_at dksX3_soldOf_4 7 rfl rfl)
theorem dX3_soldOf_88 : decode cX3_soldOf 88 = .ok (.iaload, 1) := dk_46 (dk_at dksX3_soldOf_4 8 rfl rfl)
theorem dX3_soldOf_89 : decode cX3_soldOf 89 = .ok (.ireturn, 1) := dk_172 (dk_at dksX3_soldOf_4 9 rfl rfl)
theorem dX3_soldOf_90 : decode cX3_soldOf 90 = .ok (.aload_n 0, 1) := dk_42 (dk_at dksX3_soldOf_4 10 rfl rfl)
theorem dX3_soldOf_91 : decode cX3_soldOf 91 = .ok (.getfield 9, 3) := dk_180 0 9 (dk_at dksX3_soldOf_4 11 rfl rfl)
theorem dX3_soldOf_94 : decode cX3_soldOf 94 = .ok (.iload 4, 2) := dk_21 4 (dk_at dksX3_soldOf_4 14 rfl rfl)
theorem dX3_soldOf_96 : decode cX3_soldOf 96 = .ok (.iconst 2, 1) := dk_5 (dk_at dksX3_soldOf_4 16 rfl rfl)
theorem dX3_soldOf_97 : decode cX3_soldOf 97 = .ok (.iadd, 1) := dk_96 (dk_at dksX3_soldOf_4 17 rfl rfl)
theorem dX3_soldOf_98 : decode cX3_soldOf 98 = .ok (.iaload, 1) := dk_46 (dk_at dksX3_soldOf_4 18 rfl rfl)
theorem dX3_soldOf_99 : decode cX3_soldOf 99 = .ok (.aload_n 0, 1) := dk_42 (dk_at dksX3_soldOf_4 19 rfl rfl)
theorem dX3_soldOf_100 : decode cX3_soldOf 100 = .ok (.getfield 9, 3) := dk_180 0 9 (dk_at dksX3_soldOf_4 20 rfl rfl)
theorem dX3_soldOf_103 : decode cX3_soldOf 103 = .ok (.iload 4, 2) := dk_21 4 (dk_at dksX3_soldOf_5 0 rfl rfl)
theorem dX3_soldOf_105 : decode cX3_soldOf 105 = .ok (.iconst 1, 1) := dk_4 (dk_at dksX3_soldOf_5 2 rfl rfl)
theorem dX3_soldOf_106 : decode cX3_soldOf 106 = .ok (.iadd, 1) := dk_96 (dk_at dksX3_soldOf_5 3 rfl rfl)
theorem dX3_soldOf_107 : decode cX3_soldOf 107 = .ok (.iaload, 1) := dk_46 (dk_at dksX3_soldOf_5 4 rfl rfl)
theorem dX3_soldOf_108 : decode cX3_soldOf 108 = .ok (.idiv, 1) := dk_108 (dk_at dksX3_soldOf_5 5 rfl rfl)
theorem dX3_soldOf_109 : decode cX3_soldOf 109 = .ok (.ireturn, 1) := dk_172 (dk_at dksX3_soldOf_5 6 rfl rfl)
theorem dX3_soldOf_110 : decode cX3_soldOf 110 = .ok (.iload_n 1, 1) := dk_27 (dk_at dksX3_soldOf_5 7 rfl rfl)
theorem dX3_soldOf_111 : decode cX3_soldOf 111 = .ok (.ifCond .eq 7, 3) := dk_153 0 7 (dk_at dksX3_soldOf_5 8 rfl rfl)
theorem dX3_soldOf_114 : decode cX3_soldOf 114 = .ok (.iconst 0, 1) := dk_3 (dk_at dksX3_soldOf_5 11 rfl rfl)
theorem dX3_soldOf_115 : decode cX3_soldOf 115 = .ok (.goto 19, 3) := dk_167 0 19 (dk_at dksX3_soldOf_5 12 rfl rfl)
theorem dX3_soldOf_118 : decode cX3_soldOf 118 = .ok (.aload_n 0, 1) := dk_42 (dk_at dksX3_soldOf_5 15 rfl rfl)
theorem dX3_soldOf_119 : decode cX3_soldOf 119 = .ok (.getfield 9, 3) := dk_180 0 9 (dk_at dksX3_soldOf_5 16 rfl rfl)
theorem dX3_soldOf_122 : decode cX3_soldOf 122 = .ok (.iload 4, 2) := dk_21 4 (dk_at dksX3_soldOf_5 19 rfl rfl)
theorem dX3_soldOf_124 : decode cX3_soldOf 124 = .ok (.iconst 0, 1) := dk_3 (dk_at dksX3_soldOf_5 21 rfl rfl)
theorem dX3_soldOf_125 : decode cX3_soldOf 125 = .ok (.iadd, 1) := dk_96 (dk_at dksX3_soldOf_5 22 rfl rfl)
theorem dX3_soldOf_126 : decode cX3_soldOf 126 = .ok (.iaload, 1) := dk_46 (dk_at dksX3_soldOf_5 23 rfl rfl)
theorem dX3_soldOf_127 : decode cX3_soldOf 127 = .ok (.aload_n 0, 1) := dk_42 (dk_at dksX3_soldOf_6 0 rfl rfl)
theorem dX3_soldOf_128 : decode cX3_soldOf 128 = .ok (.getfield 9, 3) := dk_180 0 9 (dk_at dksX3_soldOf_6 1 rfl rfl)
theorem dX3_soldOf_131 : decode cX3_soldOf 131 = .ok (.iconst 0, 1) := dk_3 (dk_at dksX3_soldOf_6 4 rfl rfl)
theorem dX3_soldOf_132 : decode cX3_soldOf 132 = .ok (.iaload, 1) := dk_46 (dk_at dksX3_soldOf_6 5 rfl rfl)
theorem dX3_soldOf_133 : decode cX3_soldOf 133 = .ok (.isub, 1) := dk_100 (dk_at dksX3_soldOf_6 6 rfl rfl)
theorem dX3_soldOf_134 : decode cX3_soldOf 134 = .ok (.ireturn, 1) := dk_172 (dk_at dksX3_soldOf_6 7 rfl rfl)
theorem dX3_soldOf_135 : decode cX3_soldOf 135 = .ok (.iload_n 1, 1) := dk_27 (dk_at dksX3_soldOf_6 8 rfl rfl)
theorem dX3_soldOf_136 : decode cX3_soldOf 136 = .ok (.ifCond .eq 15, 3) := dk_153 0 15 (dk_at dksX3_soldOf_6 9 rfl rfl)
theorem dX3_soldOf_139 : decode cX3_soldOf 139 = .ok (.aload_n 0, 1) := dk_42 (dk_at dksX3_soldOf_6 12 rfl rfl)
theorem dX3_soldOf_140 : decode cX3_soldOf 140 = .ok (.getfield 9, 3) := dk_180 0 9 (dk_at dksX3_soldOf_6 13 rfl rfl)
theorem dX3_soldOf_143 : decode cX3_soldOf 143 = .ok (.iload 4, 2) := dk_21 4 (dk_at dksX3_soldOf_6 16 rfl rfl)
theorem dX3_soldOf_145 : decode cX3_soldOf 145 = .ok (.iconst 3, 1) := dk_6 (dk_at dksX3_soldOf_6 18 rfl rfl)
theorem dX3_soldOf_146 : decode cX3_soldOf 146 = .ok (.iadd, 1) := dk_96 (dk_at dksX3_soldOf_6 19 rfl rfl)
theorem dX3_soldOf_147 : decode cX3_soldOf 147 = .ok (.iaload, 1) := dk_46 (dk_at dksX3_soldOf_6 20 rfl rfl)
theorem dX3_soldOf_148 : decode cX3_soldOf 148 = .ok (.goto 5, 3) := dk_167 0 5 (dk_at dksX3_soldOf_6 21 rfl rfl)
theorem dX3_soldOf_151 : decode cX3_soldOf 151 = .ok (.bipush (-6), 2) := dk_16 250 (dk_at dksX3_soldOf_7 0 rfl rfl)
theorem dX3_soldOf_153 : decode cX3_soldOf 153 = .ok (.ireturn, 1) := dk_172 (dk_at dksX3_soldOf_7 2 rfl rfl)
theorem dX3_soldOf_154 : decode cX3_soldOf 154 = .ok (.bipush (-2), 2) := dk_16 254 (dk_at dksX3_soldOf_7 3 rfl rfl)
theorem dX3_soldOf_156 : decode cX3_soldOf 156 = .ok (.ireturn, 1) := dk_172 (dk_at dksX3_soldOf_7 5 rfl rfl)
abbrev cX3_could : ByteArray := prog_33_method_70_code
def yX3_could : MethodName := ⟨RX3, "could", "(II)I"⟩
def dkwX3_could_1 : List UInt8 := [3, 182, 0, 221, 27, 108, 42, 3, 3, 182, 0, 221, 27, 28, 104, 108, 184, 0, 88, 172]
abbrev dktX3_could_1 : List UInt8 := dkwX3_could_1 ++ []
def dkwX3_could_0 : List UInt8 := [27, 4, 7, 184, 0, 81, 153, 0, 13, 28, 4, 16, 6, 184, 0, 81, 154, 0, 6, 16, 254, 172, 42, 4]
abbrev dktX3_could_0 : List UInt8 := dkwX3_could_0 ++ dktX3_could_1
theorem dksX3_could_0 : cX3_could.data.toList.drop 0 = dktX3_could_0 := by decide +kernel
theorem dksX3_could_1 : cX3_could.data.toList.drop 24 = dktX3_could_1 := dk_seg dksX3_could_0 24 rfl rfl
theorem dX3_could_0 : decode cX3_could 0 = .ok (.iload_n 1, 1) := dk_27 (dk_at dksX3_could_0 0 rfl rfl)
theorem dX3_could_1 : decode cX3_could 1 = .ok (.iconst 1, 1) := dk_4 (dk_at dksX3_could_0 1 rfl rfl)
theorem dX3_could_2 : decode cX3_could 2 = .ok (.iconst 4, 1) := dk_7 (dk_at dksX3_could_0 2 rfl rfl)
theorem dX3_could_3 : decode cX3_could 3 = .ok (.invokestatic 81, 3) := dk_184 0 81 (dk_at dksX3_could_0 3 rfl rfl)
theorem dX3_could_6 : decode cX3_could 6 = .ok (.ifCond .eq 13, 3) := dk_153 0 13 (dk_at dksX3_could_0 6 rfl rfl)
theorem dX3_could_9 : decode cX3_could 9 = .ok (.iload_n 2, 1) := dk_28 (dk_at dksX3_could_0 9 rfl rfl)
theorem dX3_could_10 : decode cX3_could 10 = .ok (.iconst 1, 1) := dk_4 (dk_at dksX3_could_0 10 rfl rfl)
theorem dX3_could_11 : decode cX3_could 11 = .ok (.bipush 6, 2) := dk_16 6 (dk_at dksX3_could_0 11 rfl rfl)
theorem dX3_could_13 : decode cX3_could 13 = .ok (.invokestatic 81, 3) := dk_184 0 81 (dk_at dksX3_could_0 13 rfl rfl)
theorem dX3_could_16 : decode cX3_could 16 = .ok (.ifCond .ne 6, 3) := dk_154 0 6 (dk_at dksX3_could_0 16 rfl rfl)
theorem dX3_could_19 : decode cX3_could 19 = .ok (.bipush (-2), 2) := dk_16 254 (dk_at dksX3_could_0 19 rfl rfl)
theorem dX3_could_21 : decode cX3_could 21 = .ok (.ireturn, 1) := dk_172 (dk_at dksX3_could_0 21 rfl rfl)
theorem dX3_could_22 : decode cX3_could 22 = .ok (.aload_n 0, 1) := dk_42 (dk_at dksX3_could_0 22 rfl rfl)
theorem dX3_could_23 : decode cX3_could 23 = .ok (.iconst 1, 1) := dk_4 (dk_at dksX3_could_0 23 rfl rfl)
theorem dX3_could_24 : decode cX3_could 24 = .ok (.iconst 0, 1) := dk_3 (dk_at dksX3_could_1 0 rfl rfl)
theorem dX3_could_25 : decode cX3_could 25 = .ok (.invokevirtual 221, 3) := dk_182 0 221 (dk_at dksX3_could_1 1 rfl rfl)
theorem dX3_could_28 : decode cX3_could 28 = .ok (.iload_n 1, 1) := dk_27 (dk_at dksX3_could_1 4 rfl rfl)
theorem dX3_could_29 : decode cX3_could 29 = .ok (.idiv, 1) := dk_108 (dk_at dksX3_could_1 5 rfl rfl)
theorem dX3_could_30 : decode cX3_could 30 = .ok (.aload_n 0, 1) := dk_42 (dk_at dksX3_could_1 6 rfl rfl)
theorem dX3_could_31 : decode cX3_could 31 = .ok (.iconst 0, 1) := dk_3 (dk_at dksX3_could_1 7 rfl rfl)
theorem dX3_could_32 : decode cX3_could 32 = .ok (.iconst 0, 1) := dk_3 (dk_at dksX3_could_1 8 rfl rfl)
theorem dX3_could_33 : decode cX3_could 33 = .ok (.invokevirtual 221, 3) := dk_182 0 221 (dk_at dksX3_could_1 9 rfl rfl)
theorem dX3_could_36 : decode cX3_could 36 = .ok (.iload_n 1, 1) := dk_27 (dk_at dksX3_could_1 12 rfl rfl)
theorem dX3_could_37 : decode cX3_could 37 = .ok (.iload_n 2, 1) := dk_28 (dk_at dksX3_could_1 13 rfl rfl)
theorem dX3_could_38 : decode cX3_could 38 = .ok (.imul, 1) := dk_104 (dk_at dksX3_could_1 14 rfl rfl)
theorem dX3_could_39 : decode cX3_could 39 = .ok (.idiv, 1) := dk_108 (dk_at dksX3_could_1 15 rfl rfl)
theorem dX3_could_40 : decode cX3_could 40 = .ok (.invokestatic 88, 3) := dk_184 0 88 (dk_at dksX3_could_1 16 rfl rfl)
theorem dX3_could_43 : decode cX3_could 43 = .ok (.ireturn, 1) := dk_172 (dk_at dksX3_could_1 19 rfl rfl)
abbrev cX3_nextBack : ByteArray := prog_33_method_71_code
def yX3_nextBack : MethodName := ⟨RX3, "nextBack", "()I"⟩
def dkwX3_nextBack_2 : List UInt8 := [27, 29, 184, 0, 88, 60, 132, 2, 1, 167, 255, 204, 27, 172]
abbrev dktX3_nextBack_2 : List UInt8 := dkwX3_nextBack_2 ++ []
def dkwX3_nextBack_1 : List UInt8 := [28, 104, 96, 3, 96, 46, 42, 180, 0, 9, 3, 46, 100, 62, 27, 16, 250, 160, 0, 7, 29, 167, 0, 8]
abbrev dktX3_nextBack_1 : List UInt8 := dkwX3_nextBack_1 ++ dktX3_nextBack_2
def dkwX3_nextBack_0 : List UInt8 := [16, 250, 60, 3, 61, 28, 42, 180, 0, 9, 16, 14, 46, 162, 0, 47, 42, 180, 0, 9, 17, 4, 124, 8]
abbrev dktX3_nextBack_0 : List UInt8 := dkwX3_nextBack_0 ++ dktX3_nextBack_1
theorem dksX3_nextBack_0 : cX3_nextBack.data.toList.drop 0 = dktX3_nextBack_0 := by decide +kernel
theorem dksX3_nextBack_1 : cX3_nextBack.data.toList.drop 24 = dktX3_nextBack_1 := dk_seg dksX3_nextBack_0 24 rfl rfl
theorem dksX3_nextBack_2 : cX3_nextBack.data.toList.drop 48 = dktX3_nextBack_2 := dk_seg dksX3_nextBack_1 24 rfl rfl
theorem dX3_nextBack_0 : decode cX3_nextBack 0 = .ok (.bipush (-6), 2) := dk_16 250 (dk_at dksX3_nextBack_0 0 rfl rfl)
theorem dX3_nextBack_2 : decode cX3_nextBack 2 = .ok (.istore_n 1, 1) := dk_60 (dk_at dksX3_nextBack_0 2 rfl rfl)
theorem dX3_nextBack_3 : decode cX3_nextBack 3 = .ok (.iconst 0, 1) := dk_3 (dk_at dksX3_nextBack_0 3 rfl rfl)
theorem dX3_nextBack_4 : decode cX3_nextBack 4 = .ok (.istore_n 2, 1) := dk_61 (dk_at dksX3_nextBack_0 4 rfl rfl)
theorem dX3_nextBack_5 : decode cX3_nextBack 5 = .ok (.iload_n 2, 1) := dk_28 (dk_at dksX3_nextBack_0 5 rfl rfl)
theorem dX3_nextBack_6 : decode cX3_nextBack 6 = .ok (.aload_n 0, 1) := dk_42 (dk_at dksX3_nextBack_0 6 rfl rfl)
theorem dX3_nextBack_7 : decode cX3_nextBack 7 = .ok (.getfield 9, 3) := dk_180 0 9 (dk_at dksX3_nextBack_0 7 rfl rfl)
theorem dX3_nextBack_10 : decode cX3_nextBack 10 = .ok (.bipush 14, 2) := dk_16 14 (dk_at dksX3_nextBack_0 10 rfl rfl)
theorem dX3_nextBack_12 : decode cX3_nextBack 12 = .ok (.iaload, 1) := dk_46 (dk_at dksX3_nextBack_0 12 rfl rfl)
theorem dX3_nextBack_13 : decode cX3_nextBack 13 = .ok (.if_icmp .ge 47, 3) := dk_162 0 47 (dk_at dksX3_nextBack_0 13 rfl rfl)
theorem dX3_nextBack_16 : decode cX3_nextBack 16 = .ok (.aload_n 0, 1) := dk_42 (dk_at dksX3_nextBack_0 16 rfl rfl)
theorem dX3_nextBack_17 : decode cX3_nextBack 17 = .ok (.getfield 9, 3) := dk_180 0 9 (dk_at dksX3_nextBack_0 17 rfl rfl)
theorem dX3_nextBack_20 : decode cX3_nextBack 20 = .ok (.sipush 1148, 3) := dk_17 4 124 (dk_at dksX3_nextBack_0 20 rfl rfl)
theorem dX3_nextBack_23 : decode cX3_nextBack 23 = .ok (.iconst 5, 1) := dk_8 (dk_at dksX3_nextBack_0 23 rfl rfl)
theorem dX3_nextBack_24 : decode cX3_nextBack 24 = .ok (.iload_n 2, 1) := dk_28 (dk_at dksX3_nextBack_1 0 rfl rfl)
theorem dX3_nextBack_25 : decode cX3_nextBack 25 = .ok (.imul, 1) := dk_104 (dk_at dksX3_nextBack_1 1 rfl rfl)
theorem dX3_nextBack_26 : decode cX3_nextBack 26 = .ok (.iadd, 1) := dk_96 (dk_at dksX3_nextBack_1 2 rfl rfl)
theorem dX3_nextBack_27 : decode cX3_nextBack 27 = .ok (.iconst 0, 1) := dk_3 (dk_at dksX3_nextBack_1 3 rfl rfl)
theorem dX3_nextBack_28 : decode cX3_nextBack 28 = .ok (.iadd, 1) := dk_96 (dk_at dksX3_nextBack_1 4 rfl rfl)
theorem dX3_nextBack_29 : decode cX3_nextBack 29 = .ok (.iaload, 1) := dk_46 (dk_at dksX3_nextBack_1 5 rfl rfl)
theorem dX3_nextBack_30 : decode cX3_nextBack 30 = .ok (.aload_n 0, 1) := dk_42 (dk_at dksX3_nextBack_1 6 rfl rfl)
theorem dX3_nextBack_31 : decode cX3_nextBack 31 = .ok (.getfield 9, 3) := dk_180 0 9 (dk_at dksX3_nextBack_1 7 rfl rfl)
theorem dX3_nextBack_34 : decode cX3_nextBack 34 = .ok (.iconst 0, 1) := dk_3 (dk_at dksX3_nextBack_1 10 rfl rfl)
theorem dX3_nextBack_35 : decode cX3_nextBack 35 = .ok (.iaload, 1) := dk_46 (dk_at dksX3_nextBack_1 11 rfl rfl)
theorem dX3_nextBack_36 : decode cX3_nextBack 36 = .ok (.isub, 1) := dk_100 (dk_at dksX3_nextBack_1 12 rfl rfl)
theorem dX3_nextBack_37 : decode cX3_nextBack 37 = .ok (.istore_n 3, 1) := dk_62 (dk_at dksX3_nextBack_1 13 rfl rfl)
theorem dX3_nextBack_38 : decode cX3_nextBack 38 = .ok (.iload_n 1, 1) := dk_27 (dk_at dksX3_nextBack_1 14 rfl rfl)
theorem dX3_nextBack_39 : decode cX3_nextBack 39 = .ok (.bipush (-6), 2) := dk_16 250 (dk_at dksX3_nextBack_1 15 rfl rfl)
theorem dX3_nextBack_41 : decode cX3_nextBack 41 = .ok (.if_icmp .ne 7, 3) := dk_160 0 7 (dk_at dksX3_nextBack_1 17 rfl rfl)
theorem dX3_nextBack_44 : decode cX3_nextBack 44 = .ok (.iload_n 3, 1) := dk_29 (dk_at dksX3_nextBack_1 20 rfl rfl)
theorem dX3_nextBack_45 : decode cX3_nextBack 45 = .ok (.goto 8, 3) := dk_167 0 8 (dk_at dksX3_nextBack_1 21 rfl rfl)
theorem dX3_nextBack_48 : decode cX3_nextBack 48 = .ok (.iload_n 1, 1) := dk_27 (dk_at dksX3_nextBack_2 0 rfl rfl)
theorem dX3_nextBack_49 : decode cX3_nextBack 49 = .ok (.iload_n 3, 1) := dk_29 (dk_at dksX3_nextBack_2 1 rfl rfl)
theorem dX3_nextBack_50 : decode cX3_nextBack 50 = .ok (.invokestatic 88, 3) := dk_184 0 88 (dk_at dksX3_nextBack_2 2 rfl rfl)
theorem dX3_nextBack_53 : decode cX3_nextBack 53 = .ok (.istore_n 1, 1) := dk_60 (dk_at dksX3_nextBack_2 5 rfl rfl)
theorem dX3_nextBack_54 : decode cX3_nextBack 54 = .ok (.iinc 2 1, 3) := dk_132 2 1 (dk_at dksX3_nextBack_2 6 rfl rfl)
theorem dX3_nextBack_57 : decode cX3_nextBack 57 = .ok (.goto (-52), 3) := dk_167 255 204 (dk_at dksX3_nextBack_2 9 rfl rfl)
theorem dX3_nextBack_60 : decode cX3_nextBack 60 = .ok (.iload_n 1, 1) := dk_27 (dk_at dksX3_nextBack_2 12 rfl rfl)
theorem dX3_nextBack_61 : decode cX3_nextBack 61 = .ok (.ireturn, 1) := dk_172 (dk_at dksX3_nextBack_2 13 rfl rfl)
abbrev cX3_isCounted : ByteArray := prog_33_method_74_code
def yX3_isCounted : MethodName := ⟨RX3, "isCounted", "()Z"⟩
def dkwX3_isCounted_3 : List UInt8 := [3, 172]
abbrev dktX3_isCounted_3 : List UInt8 := dkwX3_isCounted_3 ++ []
def dkwX3_isCounted_2 : List UInt8 := [96, 42, 180, 0, 9, 16, 7, 46, 96, 42, 180, 0, 9, 16, 8, 46, 96, 160, 0, 7, 4, 167, 0, 4]
abbrev dktX3_isCounted_2 : List UInt8 := dkwX3_isCounted_2 ++ dktX3_isCounted_3
def dkwX3_isCounted_1 : List UInt8 := [180, 0, 9, 16, 14, 46, 182, 0, 228, 96, 42, 17, 4, 164, 42, 180, 0, 9, 16, 15, 46, 182, 0, 228]
abbrev dktX3_isCounted_1 : List UInt8 := dkwX3_isCounted_1 ++ dktX3_isCounted_2
def dkwX3_isCounted_0 : List UInt8 := [42, 180, 0, 9, 5, 46, 42, 180, 0, 9, 16, 11, 46, 42, 182, 0, 225, 96, 42, 17, 4, 124, 42]
abbrev dktX3_isCounted_0 : List UInt8 := dkwX3_isCounted_0 ++ dktX3_isCounted_1
theorem dksX3_isCounted_0 : cX3_isCounted.data.toList.drop 0 = dktX3_isCounted_0 := by decide +kernel
theorem dksX3_isCounted_1 : cX3_isCounted.data.toList.drop 23 = dktX3_isCounted_1 := dk_seg dksX3_isCounted_0 23 rfl rfl
theorem dksX3_isCounted_2 : cX3_isCounted.data.toList.drop 47 = dktX3_isCounted_2 := dk_seg dksX3_isCounted_1 24 rfl rfl
theorem dksX3_isCounted_3 : cX3_isCounted.data.toList.drop 71 = dktX3_isCounted_3 := dk_seg dksX3_isCounted_2 24 rfl rfl
theorem dX3_isCounted_0 : decode cX3_isCounted 0 = .ok (.aload_n 0, 1) := dk_42 (dk_at dksX3_isCounted_0 0 rfl rfl)
theorem dX3_isCounted_1 : decode cX3_isCounted 1 = .ok (.getfield 9, 3) := dk_180 0 9 (dk_at dksX3_isCounted_0 1 rfl rfl)
theorem dX3_isCounted_4 : decode cX3_isCounted 4 = .ok (.iconst 2, 1) := dk_5 (dk_at dksX3_isCounted_0 4 rfl rfl)
theorem dX3_isCounted_5 : decode cX3_isCounted 5 = .ok (.iaload, 1) := dk_46 (dk_at dksX3_isCounted_0 5 rfl rfl)
theorem dX3_isCounted_6 : decode cX3_isCounted 6 = .ok (.aload_n 0, 1) := dk_42 (dk_at dksX3_isCounted_0 6 rfl rfl)
theorem dX3_isCounted_7 : decode cX3_isCounted 7 = .ok (.getfield 9, 3) := dk_180 0 9 (dk_at dksX3_isCounted_0 7 rfl rfl)
theorem dX3_isCounted_10 : decode cX3_isCounted 10 = .ok (.bipush 11, 2) := dk_16 11 (dk_at dksX3_isCounted_0 10 rfl rfl)
theorem dX3_isCounted_12 : decode cX3_isCounted 12 = .ok (.iaload, 1) := dk_46 (dk_at dksX3_isCounted_0 12 rfl rfl)
theorem dX3_isCounted_13 : decode cX3_isCounted 13 = .ok (.aload_n 0, 1) := dk_42 (dk_at dksX3_isCounted_0 13 rfl rfl)
theorem dX3_isCounted_14 : decode cX3_isCounted 14 = .ok (.invokevirtual 225, 3) := dk_182 0 225 (dk_at dksX3_isCounted_0 14 rfl rfl)
theorem dX3_isCounted_17 : decode cX3_isCounted 17 = .ok (.iadd, 1) := dk_96 (dk_at dksX3_isCounted_0 17 rfl rfl)
theorem dX3_isCounted_18 : decode cX3_isCounted 18 = .ok (.aload_n 0, 1) := dk_42 (dk_at dksX3_isCounted_0 18 rfl rfl)
theorem dX3_isCounted_19 : decode cX3_isCounted 19 = .ok (.sipush 1148, 3) := dk_17 4 124 (dk_at dksX3_isCounted_0 19 rfl rfl)
theorem dX3_isCounted_22 : decode cX3_isCounted 22 = .ok (.aload_n 0, 1) := dk_42 (dk_at dksX3_isCounted_0 22 rfl rfl)
theorem dX3_isCounted_23 : decode cX3_isCounted 23 = .ok (.getfield 9, 3) := dk_180 0 9 (dk_at dksX3_isCounted_1 0 rfl rfl)
theorem dX3_isCounted_26 : decode cX3_isCounted 26 = .ok (.bipush 14, 2) := dk_16 14 (dk_at dksX3_isCounted_1 3 rfl rfl)
theorem dX3_isCounted_28 : decode cX3_isCounted 28 = .ok (.iaload, 1) := dk_46 (dk_at dksX3_isCounted_1 5 rfl rfl)
theorem dX3_isCounted_29 : decode cX3_isCounted 29 = .ok (.invokevirtual 228, 3) := dk_182 0 228 (dk_at dksX3_isCounted_1 6 rfl rfl)
theorem dX3_isCounted_32 : decode cX3_isCounted 32 = .ok (.iadd, 1) := dk_96 (dk_at dksX3_isCounted_1 9 rfl rfl)
theorem dX3_isCounted_33 : decode cX3_isCounted 33 = .ok (.aload_n 0, 1) := dk_42 (dk_at dksX3_isCounted_1 10 rfl rfl)
theorem dX3_isCounted_34 : decode cX3_isCounted 34 = .ok (.sipush 1188, 3) := dk_17 4 164 (dk_at dksX3_isCounted_1 11 rfl rfl)
theorem dX3_isCounted_37 : decode cX3_isCounted 37 = .ok (.aload_n 0, 1) := dk_42 (dk_at dksX3_isCounted_1 14 rfl rfl)
theorem dX3_isCounted_38 : decode cX3_isCounted 38 = .ok (.getfield 9, 3) := dk_180 0 9 (dk_at dksX3_isCounted_1 15 rfl rfl)
theorem dX3_isCounted_41 : decode cX3_isCounted 41 = .ok (.bipush 15, 2) := dk_16 15 (dk_at dksX3_isCounted_1 18 rfl rfl)
theorem dX3_isCounted_43 : decode cX3_isCounted 43 = .ok (.iaload, 1) := dk_46 (dk_at dksX3_isCounted_1 20 rfl rfl)
theorem dX3_isCounted_44 : decode cX3_isCounted 44 = .ok (.invokevirtual 228, 3) := dk_182 0 228 (dk_at dksX3_isCounted_1 21 rfl rfl)
theorem dX3_isCounted_47 : decode cX3_isCounted 47 = .ok (.iadd, 1) := dk_96 (dk_at dksX3_isCounted_2 0 rfl rfl)
theorem dX3_isCounted_48 : decode cX3_isCounted 48 = .ok (.aload_n 0, 1) := dk_42 (dk_at dksX3_isCounted_2 1 rfl rfl)
theorem dX3_isCounted_49 : decode cX3_isCounted 49 = .ok (.getfield 9, 3) := dk_180 0 9 (dk_at dksX3_isCounted_2 2 rfl rfl)
theorem dX3_isCounted_52 : decode cX3_isCounted 52 = .ok (.bipush 7, 2) := dk_16 7 (dk_at dksX3_isCounted_2 5 rfl rfl)
theorem dX3_isCounted_54 : decode cX3_isCounted 54 = .ok (.iaload, 1) := dk_46 (dk_at dksX3_isCounted_2 7 rfl rfl)
theorem dX3_isCounted_55 : decode cX3_isCounted 55 = .ok (.iadd, 1) := dk_96 (dk_at dksX3_isCounted_2 8 rfl rfl)
theorem dX3_isCounted_56 : decode cX3_isCounted 56 = .ok (.aload_n 0, 1) := dk_42 (dk_at dksX3_isCounted_2 9 rfl rfl)
theorem dX3_isCounted_57 : decode cX3_isCounted 57 = .ok (.getfield 9, 3) := dk_180 0 9 (dk_at dksX3_isCounted_2 10 rfl rfl)
theorem dX3_isCounted_60 : decode cX3_isCounted 60 = .ok (.bipush 8, 2) := dk_16 8 (dk_at dksX3_isCounted_2 13 rfl rfl)
theorem dX3_isCounted_62 : decode cX3_isCounted 62 = .ok (.iaload, 1) := dk_46 (dk_at dksX3_isCounted_2 15 rfl rfl)
theorem dX3_isCounted_63 : decode cX3_isCounted 63 = .ok (.iadd, 1) := dk_96 (dk_at dksX3_isCounted_2 16 rfl rfl)
theorem dX3_isCounted_64 : decode cX3_isCounted 64 = .ok (.if_icmp .ne 7, 3) := dk_160 0 7 (dk_at dksX3_isCounted_2 17 rfl rfl)
theorem dX3_isCounted_67 : decode cX3_isCounted 67 = .ok (.iconst 1, 1) := dk_4 (dk_at dksX3_isCounted_2 20 rfl rfl)
theorem dX3_isCounted_68 : decode cX3_isCounted 68 = .ok (.goto 4, 3) := dk_167 0 4 (dk_at dksX3_isCounted_2 21 rfl rfl)
theorem dX3_isCounted_71 : decode cX3_isCounted 71 = .ok (.iconst 0, 1) := dk_3 (dk_at dksX3_isCounted_3 0 rfl rfl)
theorem dX3_isCounted_72 : decode cX3_isCounted 72 = .ok (.ireturn, 1) := dk_172 (dk_at dksX3_isCounted_3 1 rfl rfl)
abbrev cX3_onStrings : ByteArray := prog_33_method_72_code
def yX3_onStrings : MethodName := ⟨RX3, "onStrings", "()I"⟩
def dkwX3_onStrings_1 : List UInt8 := [132, 2, 1, 167, 255, 233, 27, 172]
abbrev dktX3_onStrings_1 : List UInt8 := dkwX3_onStrings_1 ++ []
def dkwX3_onStrings_0 : List UInt8 := [3, 60, 3, 61, 28, 42, 180, 0, 9, 16, 12, 46, 162, 0, 18, 27, 42, 28, 6, 182, 0, 136, 96, 60]
abbrev dktX3_onStrings_0 : List UInt8 := dkwX3_onStrings_0 ++ dktX3_onStrings_1
theorem dksX3_onStrings_0 : cX3_onStrings.data.toList.drop 0 = dktX3_onStrings_0 := by decide +kernel
theorem dksX3_onStrings_1 : cX3_onStrings.data.toList.drop 24 = dktX3_onStrings_1 := dk_seg dksX3_onStrings_0 24 rfl rfl
theorem dX3_onStrings_0 : decode cX3_onStrings 0 = .ok (.iconst 0, 1) := dk_3 (dk_at dksX3_onStrings_0 0 rfl rfl)
theorem dX3_onStrings_1 : decode cX3_onStrings 1 = .ok (.istore_n 1, 1) := dk_60 (dk_at dksX3_onStrings_0 1 rfl rfl)
theorem dX3_onStrings_2 : decode cX3_onStrings 2 = .ok (.iconst 0, 1) := dk_3 (dk_at dksX3_onStrings_0 2 rfl rfl)
theorem dX3_onStrings_3 : decode cX3_onStrings 3 = .ok (.istore_n 2, 1) := dk_61 (dk_at dksX3_onStrings_0 3 rfl rfl)
theorem dX3_onStrings_4 : decode cX3_onStrings 4 = .ok (.iload_n 2, 1) := dk_28 (dk_at dksX3_onStrings_0 4 rfl rfl)
theorem dX3_onStrings_5 : decode cX3_onStrings 5 = .ok (.aload_n 0, 1) := dk_42 (dk_at dksX3_onStrings_0 5 rfl rfl)
theorem dX3_onStrings_6 : decode cX3_onStrings 6 = .ok (.getfield 9, 3) := dk_180 0 9 (dk_at dksX3_onStrings_0 6 rfl rfl)
theorem dX3_onStrings_9 : decode cX3_onStrings 9 = .ok (.bipush 12, 2) := dk_16 12 (dk_at dksX3_onStrings_0 9 rfl rfl)
theorem dX3_onStrings_11 : decode cX3_onStrings 11 = .ok (.iaload, 1) := dk_46 (dk_at dksX3_onStrings_0 11 rfl rfl)
theorem dX3_onStrings_12 : decode cX3_onStrings 12 = .ok (.if_icmp .ge 18, 3) := dk_162 0 18 (dk_at dksX3_onStrings_0 12 rfl rfl)
theorem dX3_onStrings_15 : decode cX3_onStrings 15 = .ok (.iload_n 1, 1) := dk_27 (dk_at dksX3_onStrings_0 15 rfl rfl)
theorem dX3_onStrings_16 : decode cX3_onStrings 16 = .ok (.aload_n 0, 1) := dk_42 (dk_at dksX3_onStrings_0 16 rfl rfl)
theorem dX3_onStrings_17 : decode cX3_onStrings 17 = .ok (.iload_n 2, 1) := dk_28 (dk_at dksX3_onStrings_0 17 rfl rfl)
theorem dX3_onStrings_18 : decode cX3_onStrings 18 = .ok (.iconst 3, 1) := dk_6 (dk_at dksX3_onStrings_0 18 rfl rfl)
theorem dX3_onStrings_19 : decode cX3_onStrings 19 = .ok (.invokevirtual 136, 3) := dk_182 0 136 (dk_at dksX3_onStrings_0 19 rfl rfl)
theorem dX3_onStrings_22 : decode cX3_onStrings 22 = .ok (.iadd, 1) := dk_96 (dk_at dksX3_onStrings_0 22 rfl rfl)
theorem dX3_onStrings_23 : decode cX3_onStrings 23 = .ok (.istore_n 1, 1) := dk_60 (dk_at dksX3_onStrings_0 23 rfl rfl)
theorem dX3_onStrings_24 : decode cX3_onStrings 24 = .ok (.iinc 2 1, 3) := dk_132 2 1 (dk_at dksX3_onStrings_1 0 rfl rfl)
theorem dX3_onStrings_27 : decode cX3_onStrings 27 = .ok (.goto (-23), 3) := dk_167 255 233 (dk_at dksX3_onStrings_1 3 rfl rfl)
theorem dX3_onStrings_30 : decode cX3_onStrings 30 = .ok (.iload_n 1, 1) := dk_27 (dk_at dksX3_onStrings_1 6 rfl rfl)
theorem dX3_onStrings_31 : decode cX3_onStrings 31 = .ok (.ireturn, 1) := dk_172 (dk_at dksX3_onStrings_1 7 rfl rfl)
abbrev cX3_sold : ByteArray := prog_33_method_73_code
def yX3_sold : MethodName := ⟨RX3, "sold", "(II)I"⟩
def dkwX3_sold_1 : List UInt8 := [46, 96, 62, 132, 4, 1, 167, 255, 231, 29, 172]
abbrev dktX3_sold_1 : List UInt8 := dkwX3_sold_1 ++ []
def dkwX3_sold_0 : List UInt8 := [3, 62, 3, 54, 4, 21, 4, 28, 162, 0, 25, 29, 42, 180, 0, 9, 27, 8, 21, 4, 104, 96, 4, 96]
abbrev dktX3_sold_0 : List UInt8 := dkwX3_sold_0 ++ dktX3_sold_1
theorem dksX3_sold_0 : cX3_sold.data.toList.drop 0 = dktX3_sold_0 := by decide +kernel
theorem dksX3_sold_1 : cX3_sold.data.toList.drop 24 = dktX3_sold_1 := dk_seg dksX3_sold_0 24 rfl rfl
theorem dX3_sold_0 : decode cX3_sold 0 = .ok (.iconst 0, 1) := dk_3 (dk_at dksX3_sold_0 0 rfl rfl)
theorem dX3_sold_1 : decode cX3_sold 1 = .ok (.istore_n 3, 1) := dk_62 (dk_at dksX3_sold_0 1 rfl rfl)
theorem dX3_sold_2 : decode cX3_sold 2 = .ok (.iconst 0, 1) := dk_3 (dk_at dksX3_sold_0 2 rfl rfl)
theorem dX3_sold_3 : decode cX3_sold 3 = .ok (.istore 4, 2) := dk_54 4 (dk_at dksX3_sold_0 3 rfl rfl)
theorem dX3_sold_5 : decode cX3_sold 5 = .ok (.iload 4, 2) := dk_21 4 (dk_at dksX3_sold_0 5 rfl rfl)
theorem dX3_sold_7 : decode cX3_sold 7 = .ok (.iload_n 2, 1) := dk_28 (dk_at dksX3_sold_0 7 rfl rfl)
theorem dX3_sold_8 : decode cX3_sold 8 = .ok (.if_icmp .ge 25, 3) := dk_162 0 25 (dk_at dksX3_sold_0 8 rfl rfl)
theorem dX3_sold_11 : decode cX3_sold 11 = .ok (.iload_n 3, 1) := dk_29 (dk_at dksX3_sold_0 11 rfl rfl)
theorem dX3_sold_12 : decode cX3_sold 12 = .ok (.aload_n 0, 1) := dk_42 (dk_at dksX3_sold_0 12 rfl rfl)
theorem dX3_sold_13 : decode cX3_sold 13 = .ok (.getfield 9, 3) := dk_180 0 9 (dk_at dksX3_sold_0 13 rfl rfl)
theorem dX3_sold_16 : decode cX3_sold 16 = .ok (.iload_n 1, 1) := dk_27 (dk_at dksX3_sold_0 16 rfl rfl)
theorem dX3_sold_17 : decode cX3_sold 17 = .ok (.iconst 5, 1) := dk_8 (dk_at dksX3_sold_0 17 rfl rfl)
theorem dX3_sold_18 : decode cX3_sold 18 = .ok (.iload 4, 2) := dk_21 4 (dk_at dksX3_sold_0 18 rfl rfl)
theorem dX3_sold_20 : decode cX3_sold 20 = .ok (.imul, 1) := dk_104 (dk_at dksX3_sold_0 20 rfl rfl)
theorem dX3_sold_21 : decode cX3_sold 21 = .ok (.iadd, 1) := dk_96 (dk_at dksX3_sold_0 21 rfl rfl)
theorem dX3_sold_22 : decode cX3_sold 22 = .ok (.iconst 1, 1) := dk_4 (dk_at dksX3_sold_0 22 rfl rfl)
theorem dX3_sold_23 : decode cX3_sold 23 = .ok (.iadd, 1) := dk_96 (dk_at dksX3_sold_0 23 rfl rfl)
theorem dX3_sold_24 : decode cX3_sold 24 = .ok (.iaload, 1) := dk_46 (dk_at dksX3_sold_1 0 rfl rfl)
theorem dX3_sold_25 : decode cX3_sold 25 = .ok (.iadd, 1) := dk_96 (dk_at dksX3_sold_1 1 rfl rfl)
theorem dX3_sold_26 : decode cX3_sold 26 = .ok (.istore_n 3, 1) := dk_62 (dk_at dksX3_sold_1 2 rfl rfl)
theorem dX3_sold_27 : decode cX3_sold 27 = .ok (.iinc 4 1, 3) := dk_132 4 1 (dk_at dksX3_sold_1 3 rfl rfl)
theorem dX3_sold_30 : decode cX3_sold 30 = .ok (.goto (-25), 3) := dk_167 255 231 (dk_at dksX3_sold_1 6 rfl rfl)
theorem dX3_sold_33 : decode cX3_sold 33 = .ok (.iload_n 3, 1) := dk_29 (dk_at dksX3_sold_1 9 rfl rfl)
theorem dX3_sold_34 : decode cX3_sold 34 = .ok (.ireturn, 1) := dk_172 (dk_at dksX3_sold_1 10 rfl rfl)
abbrev cX3_meanFineness : ByteArray := prog_33_method_75_code
def yX3_meanFineness : MethodName := ⟨RX3, "meanFineness", "()D"⟩
def dkwX3_meanFineness_1 : List UInt8 := [14, 167, 0, 14, 27, 135, 42, 180, 0, 9, 16, 11, 46, 135, 111, 175]
abbrev dktX3_meanFineness_1 : List UInt8 := dkwX3_meanFineness_1 ++ []
def dkwX3_meanFineness_0 : List UInt8 := [42, 4, 4, 182, 0, 221, 42, 3, 4, 182, 0, 221, 96, 60, 42, 180, 0, 9, 16, 11, 46, 154, 0, 7]
abbrev dktX3_meanFineness_0 : List UInt8 := dkwX3_meanFineness_0 ++ dktX3_meanFineness_1
theorem dksX3_meanFineness_0 : cX3_meanFineness.data.toList.drop 0 = dktX3_meanFineness_0 := by decide +kernel
theorem dksX3_meanFineness_1 : cX3_meanFineness.data.toList.drop 24 = dktX3_meanFineness_1 := dk_seg dksX3_meanFineness_0 24 rfl rfl
theorem dX3_meanFineness_0 : decode cX3_meanFineness 0 = .ok (.aload_n 0, 1) := dk_42 (dk_at dksX3_meanFineness_0 0 rfl rfl)
theorem dX3_meanFineness_1 : decode cX3_meanFineness 1 = .ok (.iconst 1, 1) := dk_4 (dk_at dksX3_meanFineness_0 1 rfl rfl)
theorem dX3_meanFineness_2 : decode cX3_meanFineness 2 = .ok (.iconst 1, 1) := dk_4 (dk_at dksX3_meanFineness_0 2 rfl rfl)
theorem dX3_meanFineness_3 : decode cX3_meanFineness 3 = .ok (.invokevirtual 221, 3) := dk_182 0 221 (dk_at dksX3_meanFineness_0 3 rfl rfl)
theorem dX3_meanFineness_6 : decode cX3_meanFineness 6 = .ok (.aload_n 0, 1) := dk_42 (dk_at dksX3_meanFineness_0 6 rfl rfl)
theorem dX3_meanFineness_7 : decode cX3_meanFineness 7 = .ok (.iconst 0, 1) := dk_3 (dk_at dksX3_meanFineness_0 7 rfl rfl)
theorem dX3_meanFineness_8 : decode cX3_meanFineness 8 = .ok (.iconst 1, 1) := dk_4 (dk_at dksX3_meanFineness_0 8 rfl rfl)
theorem dX3_meanFineness_9 : decode cX3_meanFineness 9 = .ok (.invokevirtual 221, 3) := dk_182 0 221 (dk_at dksX3_meanFineness_0 9 rfl rfl)
theorem dX3_meanFineness_12 : decode cX3_meanFineness 12 = .ok (.iadd, 1) := dk_96 (dk_at dksX3_meanFineness_0 12 rfl rfl)
theorem dX3_meanFineness_13 : decode cX3_meanFineness 13 = .ok (.istore_n 1, 1) := dk_60 (dk_at dksX3_meanFineness_0 13 rfl rfl)
theorem dX3_meanFineness_14 : decode cX3_meanFineness 14 = .ok (.aload_n 0, 1) := dk_42 (dk_at dksX3_meanFineness_0 14 rfl rfl)
theorem dX3_meanFineness_15 : decode cX3_meanFineness 15 = .ok (.getfield 9, 3) := dk_180 0 9 (dk_at dksX3_meanFineness_0 15 rfl rfl)
theorem dX3_meanFineness_18 : decode cX3_meanFineness 18 = .ok (.bipush 11, 2) := dk_16 11 (dk_at dksX3_meanFineness_0 18 rfl rfl)
theorem dX3_meanFineness_20 : decode cX3_meanFineness 20 = .ok (.iaload, 1) := dk_46 (dk_at dksX3_meanFineness_0 20 rfl rfl)
theorem dX3_meanFineness_21 : decode cX3_meanFineness 21 = .ok (.ifCond .ne 7, 3) := dk_154 0 7 (dk_at dksX3_meanFineness_0 21 rfl rfl)
theorem dX3_meanFineness_24 : decode cX3_meanFineness 24 = .ok (.dconst 0, 1) := dk_14 (dk_at dksX3_meanFineness_1 0 rfl rfl)
theorem dX3_meanFineness_25 : decode cX3_meanFineness 25 = .ok (.goto 14, 3) := dk_167 0 14 (dk_at dksX3_meanFineness_1 1 rfl rfl)
theorem dX3_meanFineness_28 : decode cX3_meanFineness 28 = .ok (.iload_n 1, 1) := dk_27 (dk_at dksX3_meanFineness_1 4 rfl rfl)
theorem dX3_meanFineness_29 : decode cX3_meanFineness 29 = .ok (.i2d, 1) := dk_135 (dk_at dksX3_meanFineness_1 5 rfl rfl)
theorem dX3_meanFineness_30 : decode cX3_meanFineness 30 = .ok (.aload_n 0, 1) := dk_42 (dk_at dksX3_meanFineness_1 6 rfl rfl)
theorem dX3_meanFineness_31 : decode cX3_meanFineness 31 = .ok (.getfield 9, 3) := dk_180 0 9 (dk_at dksX3_meanFineness_1 7 rfl rfl)
theorem dX3_meanFineness_34 : decode cX3_meanFineness 34 = .ok (.bipush 11, 2) := dk_16 11 (dk_at dksX3_meanFineness_1 10 rfl rfl)
theorem dX3_meanFineness_36 : decode cX3_meanFineness 36 = .ok (.iaload, 1) := dk_46 (dk_at dksX3_meanFineness_1 12 rfl rfl)
theorem dX3_meanFineness_37 : decode cX3_meanFineness 37 = .ok (.i2d, 1) := dk_135 (dk_at dksX3_meanFineness_1 13 rfl rfl)
theorem dX3_meanFineness_38 : decode cX3_meanFineness 38 = .ok (.ddiv, 1) := dk_111 (dk_at dksX3_meanFineness_1 14 rfl rfl)
theorem dX3_meanFineness_39 : decode cX3_meanFineness 39 = .ok (.dreturn, 1) := dk_175 (dk_at dksX3_meanFineness_1 15 rfl rfl)
abbrev cX3_spoilt : ByteArray := prog_33_method_76_code
def yX3_spoilt : MethodName := ⟨RX3, "spoilt", "()F"⟩
def dkwX3_spoilt_1 : List UInt8 := [180, 0, 9, 6, 46, 134, 27, 134, 110, 174]
abbrev dktX3_spoilt_1 : List UInt8 := dkwX3_spoilt_1 ++ []
def dkwX3_spoilt_0 : List UInt8 := [42, 180, 0, 9, 5, 46, 42, 180, 0, 9, 6, 46, 96, 60, 27, 154, 0, 7, 11, 167, 0, 13, 42]
abbrev dktX3_spoilt_0 : List UInt8 := dkwX3_spoilt_0 ++ dktX3_spoilt_1
theorem dksX3_spoilt_0 : cX3_spoilt.data.toList.drop 0 = dktX3_spoilt_0 := by decide +kernel
theorem dksX3_spoilt_1 : cX3_spoilt.data.toList.drop 23 = dktX3_spoilt_1 := dk_seg dksX3_spoilt_0 23 rfl rfl
theorem dX3_spoilt_0 : decode cX3_spoilt 0 = .ok (.aload_n 0, 1) := dk_42 (dk_at dksX3_spoilt_0 0 rfl rfl)
theorem dX3_spoilt_1 : decode cX3_spoilt 1 = .ok (.getfield 9, 3) := dk_180 0 9 (dk_at dksX3_spoilt_0 1 rfl rfl)
theorem dX3_spoilt_4 : decode cX3_spoilt 4 = .ok (.iconst 2, 1) := dk_5 (dk_at dksX3_spoilt_0 4 rfl rfl)
theorem dX3_spoilt_5 : decode cX3_spoilt 5 = .ok (.iaload, 1) := dk_46 (dk_at dksX3_spoilt_0 5 rfl rfl)
theorem dX3_spoilt_6 : decode cX3_spoilt 6 = .ok (.aload_n 0, 1) := dk_42 (dk_at dksX3_spoilt_0 6 rfl rfl)
theorem dX3_spoilt_7 : decode cX3_spoilt 7 = .ok (.getfield 9, 3) := dk_180 0 9 (dk_at dksX3_spoilt_0 7 rfl rfl)
theorem dX3_spoilt_10 : decode cX3_spoilt 10 = .ok (.iconst 3, 1) := dk_6 (dk_at dksX3_spoilt_0 10 rfl rfl)
theorem dX3_spoilt_11 : decode cX3_spoilt 11 = .ok (.iaload, 1) := dk_46 (dk_at dksX3_spoilt_0 11 rfl rfl)
theorem dX3_spoilt_12 : decode cX3_spoilt 12 = .ok (.iadd, 1) := dk_96 (dk_at dksX3_spoilt_0 12 rfl rfl)
theorem dX3_spoilt_13 : decode cX3_spoilt 13 = .ok (.istore_n 1, 1) := dk_60 (dk_at dksX3_spoilt_0 13 rfl rfl)
theorem dX3_spoilt_14 : decode cX3_spoilt 14 = .ok (.iload_n 1, 1) := dk_27 (dk_at dksX3_spoilt_0 14 rfl rfl)
theorem dX3_spoilt_15 : decode cX3_spoilt 15 = .ok (.ifCond .ne 7, 3) := dk_154 0 7 (dk_at dksX3_spoilt_0 15 rfl rfl)
theorem dX3_spoilt_18 : decode cX3_spoilt 18 = .ok (.fconst 0, 1) := dk_11 (dk_at dksX3_spoilt_0 18 rfl rfl)
theorem dX3_spoilt_19 : decode cX3_spoilt 19 = .ok (.goto 13, 3) := dk_167 0 13 (dk_at dksX3_spoilt_0 19 rfl rfl)
theorem dX3_spoilt_22 : decode cX3_spoilt 22 = .ok (.aload_n 0, 1) := dk_42 (dk_at dksX3_spoilt_0 22 rfl rfl)
theorem dX3_spoilt_23 : decode cX3_spoilt 23 = .ok (.getfield 9, 3) := dk_180 0 9 (dk_at dksX3_spoilt_1 0 rfl rfl)
theorem dX3_spoilt_26 : decode cX3_spoilt 26 = .ok (.iconst 3, 1) := dk_6 (dk_at dksX3_spoilt_1 3 rfl rfl)
theorem dX3_spoilt_27 : decode cX3_spoilt 27 = .ok (.iaload, 1) := dk_46 (dk_at dksX3_spoilt_1 4 rfl rfl)
theorem dX3_spoilt_28 : decode cX3_spoilt 28 = .ok (.i2f, 1) := dk_134 (dk_at dksX3_spoilt_1 5 rfl rfl)
theorem dX3_spoilt_29 : decode cX3_spoilt 29 = .ok (.iload_n 1, 1) := dk_27 (dk_at dksX3_spoilt_1 6 rfl rfl)
theorem dX3_spoilt_30 : decode cX3_spoilt 30 = .ok (.i2f, 1) := dk_134 (dk_at dksX3_spoilt_1 7 rfl rfl)
theorem dX3_spoilt_31 : decode cX3_spoilt 31 = .ok (.fdiv, 1) := dk_110 (dk_at dksX3_spoilt_1 8 rfl rfl)
theorem dX3_spoilt_32 : decode cX3_spoilt 32 = .ok (.freturn, 1) := dk_174 (dk_at dksX3_spoilt_1 9 rfl rfl)
abbrev cX3_account : ByteArray := prog_33_method_78_code
def yX3_account : MethodName := ⟨RX3, "account", "(I)I"⟩
def dkwX3_account_8 : List UInt8 := [180, 0, 234, 172, 42, 180, 0, 67, 172, 16, 254, 172]
abbrev dktX3_account_8 : List UInt8 := dkwX3_account_8 ++ []
def dkwX3_account_7 : List UInt8 := [180, 0, 9, 16, 6, 46, 172, 42, 180, 0, 9, 16, 7, 46, 172, 42, 180, 0, 9, 16, 8, 46, 172, 42]
abbrev dktX3_account_7 : List UInt8 := dkwX3_account_7 ++ dktX3_account_8
def dkwX3_account_6 : List UInt8 := [42, 180, 0, 9, 16, 14, 46, 172, 42, 180, 0, 9, 16, 15, 46, 172, 42, 180, 0, 9, 8, 46, 172, 42]
abbrev dktX3_account_6 : List UInt8 := dkwX3_account_6 ++ dktX3_account_7
def dkwX3_account_5 : List UInt8 := [182, 0, 231, 172, 42, 182, 0, 225, 172, 42, 180, 0, 9, 16, 13, 46, 172, 42, 180, 0, 9, 7, 46, 172]
abbrev dktX3_account_5 : List UInt8 := dkwX3_account_5 ++ dktX3_account_6
def dkwX3_account_4 : List UInt8 := [42, 180, 0, 9, 5, 46, 172, 42, 180, 0, 9, 6, 46, 172, 42, 180, 0, 9, 16, 12, 46, 172, 42]
abbrev dktX3_account_4 : List UInt8 := dkwX3_account_4 ++ dktX3_account_5
def dkwX3_account_3 : List UInt8 := [42, 180, 0, 9, 16, 9, 46, 172, 42, 180, 0, 9, 16, 10, 46, 172, 42, 180, 0, 9, 16, 11, 46, 172]
abbrev dktX3_account_3 : List UInt8 := dkwX3_account_3 ++ dktX3_account_4
def dkwX3_account_2 : List UInt8 := [42, 180, 0, 9, 3, 46, 172, 42, 180, 0, 9, 3, 46, 184, 0, 189, 172, 42, 180, 0, 9, 4, 46, 172]
abbrev dktX3_account_2 : List UInt8 := dkwX3_account_2 ++ dktX3_account_3
def dkwX3_account_1 : List UInt8 := [170, 0, 0, 0, 0, 0, 251, 0, 0, 0, 0, 0, 0, 0, 20, 0, 0, 0, 99, 0, 0, 0, 106, 0, 0, 0, 116, 0, 0, 0, 123, 0, 0, 0, 131, 0, 0, 0, 139, 0, 0, 0, 147, 0, 0, 0, 154, 0, 0, 0, 161, 0, 0, 0, 169, 0, 0, 0, 174, 0, 0, 0, 179, 0, 0, 0, 187, 0, 0, 0, 194, 0, 0, 0, 202, 0, 0, 0, 210, 0, 0, 0, 217, 0, 0, 0, 225, 0, 0, 0, 233, 0, 0, 0, 241, 0, 0, 0, 246]
abbrev dktX3_account_1 : List UInt8 := dkwX3_account_1 ++ dktX3_account_2
def dkwX3_account_0 : List UInt8 := [27]
abbrev dktX3_account_0 : List UInt8 := dkwX3_account_0 ++ dktX3_account_1
theorem dksX3_account_0 : cX3_account.data.toList.drop 0 = dktX3_account_0 := by decide +kernel
theorem dksX3_account_1 : cX3_account.data.toList.drop 1 = dktX3_account_1 := dk_seg dksX3_account_0 1 rfl rfl
theorem dksX3_account_2 : cX3_account.data.toList.drop 100 = dktX3_account_2 := dk_seg dksX3_account_1 99 rfl rfl
theorem dksX3_account_3 : cX3_account.data.toList.drop 124 = dktX3_account_3 := dk_seg dksX3_account_2 24 rfl rfl
theorem dksX3_account_4 : cX3_account.data.toList.drop 148 = dktX3_account_4 := dk_seg dksX3_account_3 24 rfl rfl
theorem dksX3_account_5 : cX3_account.data.toList.drop 171 = dktX3_account_5 := dk_seg dksX3_account_4 23 rfl rfl
theorem dksX3_account_6 : cX3_account.data.toList.drop 195 = dktX3_account_6 := dk_seg dksX3_account_5 24 rfl rfl
theorem dksX3_account_7 : cX3_account.data.toList.drop 219 = dktX3_account_7 := dk_seg dksX3_account_6 24 rfl rfl
theorem dksX3_account_8 : cX3_account.data.toList.drop 243 = dktX3_account_8 := dk_seg dksX3_account_7 24 rfl rfl
theorem dX3_account_0 : decode cX3_account 0 = .ok (.iload_n 1, 1) := dk_27 (dk_at dksX3_account_0 0 rfl rfl)
theorem dX3_account_1 : decode cX3_account 1 = .ok (.tableswitch 251 0 20 #[99, 106, 116, 123, 131, 139, 147, 154, 161, 169, 174, 179, 187, 194, 202, 210, 217, 225, 233, 241, 246], 99) := by decide +kernel
theorem dX3_account_100 : decode cX3_account 100 = .ok (.aload_n 0, 1) := dk_42 (dk_at dksX3_account_2 0 rfl rfl)
theorem dX3_account_101 : decode cX3_account 101 = .ok (.getfield 9, 3) := dk_180 0 9 (dk_at dksX3_account_2 1 rfl rfl)
theorem dX3_account_104 : decode cX3_account 104 = .ok (.iconst 0, 1) := dk_3 (dk_at dksX3_account_2 4 rfl rfl)
theorem dX3_account_105 : decode cX3_account 105 = .ok (.iaload, 1) := dk_46 (dk_at dksX3_account_2 5 rfl rfl)
theorem dX3_account_106 : decode cX3_account 106 = .ok (.ireturn, 1) := dk_172 (dk_at dksX3_account_2 6 rfl rfl)
theorem dX3_account_107 : decode cX3_account 107 = .ok (.aload_n 0, 1) := dk_42 (dk_at dksX3_account_2 7 rfl rfl)
theorem dX3_account_108 : decode cX3_account 108 = .ok (.getfield 9, 3) := dk_180 0 9 (dk_at dksX3_account_2 8 rfl rfl)
theorem dX3_account_111 : decode cX3_account 111 = .ok (.iconst 0, 1) := dk_3 (dk_at dksX3_account_2 11 rfl rfl)
theorem dX3_account_112 : decode cX3_account 112 = .ok (.iaload, 1) := dk_46 (dk_at dksX3_account_2 12 rfl rfl)
theorem dX3_account_113 : decode cX3_account 113 = .ok (.invokestatic 189, 3) := dk_184 0 189 (dk_at dksX3_account_2 13 rfl rfl)
theorem dX3_account_116 : decode cX3_account 116 = .ok (.ireturn, 1) := dk_172 (dk_at dksX3_account_2 16 rfl rfl)
theorem dX3_account_117 : decode cX3_account 117 = .ok (.aload_n 0, 1) := dk_42 (dk_at dksX3_account_2 17 rfl rfl)
theorem dX3_account_118 : decode cX3_account 118 = .ok (.getfield 9, 3) := dk_180 0 9 (dk_at dksX3_account_2 18 rfl rfl)
theorem dX3_account_121 : decode cX3_account 121 = .ok (.iconst 1, 1) := dk_4 (dk_at dksX3_account_2 21 rfl rfl)
theorem dX3_account_122 : decode cX3_account 122 = .ok (.iaload, 1) := dk_46 (dk_at dksX3_account_2 22 rfl rfl)
theorem dX3_account_123 : decode cX3_account 123 = .ok (.ireturn, 1) := dk_172 (dk_at dksX3_account_2 23 rfl rfl)
theorem dX3_account_124 : decode cX3_account 124 = .ok (.aload_n 0, 1) := dk_42 (dk_at dksX3_account_3 0 rfl rfl)
theorem dX3_account_125 : decode cX3_account 125 = .ok (.getfield 9, 3) := dk_180 0 9 (dk_at dksX3_account_3 1 rfl rfl)
theorem dX3_account_128 : decode cX3_account 128 = .ok (.bipush 9, 2) := dk_16 9 (dk_at dksX3_account_3 4 rfl rfl)
theorem dX3_account_130 : decode cX3_account 130 = .ok (.iaload, 1) := dk_46 (dk_at dksX3_account_3 6 rfl rfl)
theorem dX3_account_131 : decode cX3_account 131 = .ok (.ireturn, 1) := dk_172 (dk_at dksX3_account_3 7 rfl rfl)
theorem dX3_account_132 : decode cX3_account 132 = .ok (.aload_n 0, 1) := dk_42 (dk_at dksX3_account_3 8 rfl rfl)
theorem dX3_account_133 : decode cX3_account 133 = .ok (.getfield 9, 3) := dk_180 0 9 (dk_at dksX3_account_3 9 rfl rfl)
theorem dX3_account_136 : decode cX3_account 136 = .ok (.bipush 10, 2) := dk_16 10 (dk_at dksX3_account_3 12 rfl rfl)
theorem dX3_account_138 : decode cX3_account 138 = .ok (.iaload, 1) := dk_46 (dk_at dksX3_account_3 14 rfl rfl)
theorem dX3_account_139 : decode cX3_account 139 = .ok (.ireturn, 1) := dk_172 (dk_at dksX3_account_3 15 rfl rfl)
theorem dX3_account_140 : decode cX3_account 140 = .ok (.aload_n 0, 1) := dk_42 (dk_at dksX3_account_3 16 rfl rfl)
theorem dX3_account_141 : decode cX3_account 141 = .ok (.getfield 9, 3) := dk_180 0 9 (dk_at dksX3_account_3 17 rfl rfl)
theorem dX3_account_144 : decode cX3_account 144 = .ok (.bipush 11, 2) := dk_16 11 (dk_at dksX3_account_3 20 rfl rfl)
theorem dX3_account_146 : decode cX3_account 146 = .ok (.iaload, 1) := dk_46 (dk_at dksX3_account_3 22 rfl rfl)
theorem dX3_account_147 : decode cX3_account 147 = .ok (.ireturn, 1) := dk_172 (dk_at dksX3_account_3 23 rfl rfl)
theorem dX3_account_148 : decode cX3_account 148 = .ok (.aload_n 0, 1) := dk_42 (dk_at dksX3_account_4 0 rfl rfl)
theorem dX3_account_149 : decode cX3_account 149 = .ok (.getfield 9, 3) := dk_180 0 9 (dk_at dksX3_account_4 1 rfl rfl)
theorem dX3_account_152 : decode cX3_account 152 = .ok (.iconst 2, 1) := dk_5 (dk_at dksX3_account_4 4 rfl rfl)
theorem dX3_account_153 : decode cX3_account 153 = .ok (.iaload, 1) := dk_46 (dk_at dksX3_account_4 5 rfl rfl)
theorem dX3_account_154 : decode cX3_account 154 = .ok (.ireturn, 1) := dk_172 (dk_at dksX3_account_4 6 rfl rfl)
theorem dX3_account_155 : decode cX3_account 155 = .ok (.aload_n 0, 1) := dk_42 (dk_at dksX3_account_4 7 rfl rfl)
theorem dX3_account_156 : decode cX3_account 156 = .ok (.getfield 9, 3) := dk_180 0 9 (dk_at dksX3_account_4 8 rfl rfl)
theorem dX3_account_159 : decode cX3_account 159 = .ok (.iconst 3, 1) := dk_6 (dk_at dksX3_account_4 11 rfl rfl)
theorem dX3_account_160 : decode cX3_account 160 = .ok (.iaload, 1) := dk_46 (dk_at dksX3_account_4 12 rfl rfl)
theorem dX3_account_161 : decode cX3_account 161 = .ok (.ireturn, 1) := dk_172 (dk_at dksX3_account_4 13 rfl rfl)
theorem dX3_account_162 : decode cX3_account 162 = .ok (.aload_n 0, 1) := dk_42 (dk_at dksX3_account_4 14 rfl rfl)
theorem dX3_account_163 : decode cX3_account 163 = .ok (.getfield 9, 3) := dk_180 0 9 (dk_at dksX3_account_4 15 rfl rfl)
theorem dX3_account_166 : decode cX3_account 166 = .ok (.bipush 12, 2) := dk_16 12 (dk_at dksX3_account_4 18 rfl rfl)
theorem dX3_account_168 : decode cX3_account 168 = .ok (.iaload, 1) := dk_46 (dk_at dksX3_account_4 20 rfl rfl)
theorem dX3_account_169 : decode cX3_account 169 = .ok (.ireturn, 1) := dk_172 (dk_at dksX3_account_4 21 rfl rfl)
theorem dX3_account_170 : decode cX3_account 170 = .ok (.aload_n 0, 1) := dk_42 (dk_at dksX3_account_4 22 rfl rfl)
theorem dX3_account_171 : decode cX3_account 171 = .ok (.invokevirtual 231, 3) := dk_182 0 231 (dk_at dksX3_account_5 0 rfl rfl)
theorem dX3_account_174 : decode cX3_account 174 = .ok (.ireturn, 1) := dk_172 (dk_at dksX3_account_5 3 rfl rfl)
theorem dX3_account_175 : decode cX3_account 175 = .ok (.aload_n 0, 1) := dk_42 (dk_at dksX3_account_5 4 rfl rfl)
theorem dX3_account_176 : decode cX3_account 176 = .ok (.invokevirtual 225, 3) := dk_182 0 225 (dk_at dksX3_account_5 5 rfl rfl)
theorem dX3_account_179 : decode cX3_account 179 = .ok (.ireturn, 1) := dk_172 (dk_at dksX3_account_5 8 rfl rfl)
theorem dX3_account_180 : decode cX3_account 180 = .ok (.aload_n 0, 1) := dk_42 (dk_at dksX3_account_5 9 rfl rfl)
theorem dX3_account_181 : decode cX3_account 181 = .ok (.getfield 9, 3) := dk_180 0 9 (dk_at dksX3_account_5 10 rfl rfl)
theorem dX3_account_184 : decode cX3_account 184 = .ok (.bipush 13, 2) := dk_16 13 (dk_at dksX3_account_5 13 rfl rfl)
theorem dX3_account_186 : decode cX3_account 186 = .ok (.iaload, 1) := dk_46 (dk_at dksX3_account_5 15 rfl rfl)
theorem dX3_account_187 : decode cX3_account 187 = .ok (.ireturn, 1) := dk_172 (dk_at dksX3_account_5 16 rfl rfl)
theorem dX3_account_188 : decode cX3_account 188 = .ok (.aload_n 0, 1) := dk_42 (dk_at dksX3_account_5 17 rfl rfl)
theorem dX3_account_189 : decode cX3_account 189 = .ok (.getfield 9, 3) := dk_180 0 9 (dk_at dksX3_account_5 18 rfl rfl)
theorem dX3_account_192 : decode cX3_account 192 = .ok (.iconst 4, 1) := dk_7 (dk_at dksX3_account_5 21 rfl rfl)
theorem dX3_account_193 : decode cX3_account 193 = .ok (.iaload, 1) := dk_46 (dk_at dksX3_account_5 22 rfl rfl)
theorem dX3_account_194 : decode cX3_account 194 = .ok (.ireturn, 1) := dk_172 (dk_at dksX3_account_5 23 rfl rfl)
theorem dX3_account_195 : decode cX3_account 195 = .ok (.aload_n 0, 1) := dk_42 (dk_at dksX3_account_6 0 rfl rfl)
theorem dX3_account_196 : decode cX3_account 196 = .ok (.getfield 9, 3) := dk_180 0 9 (dk_at dksX3_account_6 1 rfl rfl)
theorem dX3_account_199 : decode cX3_account 199 = .ok (.bipush 14, 2) := dk_16 14 (dk_at dksX3_account_6 4 rfl rfl)
theorem dX3_account_201 : decode cX3_account 201 = .ok (.iaload, 1) := dk_46 (dk_at dksX3_account_6 6 rfl rfl)
theorem dX3_account_202 : decode cX3_account 202 = .ok (.ireturn, 1) := dk_172 (dk_at dksX3_account_6 7 rfl rfl)
theorem dX3_account_203 : decode cX3_account 203 = .ok (.aload_n 0, 1) := dk_42 (dk_at dksX3_account_6 8 rfl rfl)
theorem dX3_account_204 : decode cX3_account 204 = .ok (.getfield 9, 3) := dk_180 0 9 (dk_at dksX3_account_6 9 rfl rfl)
theorem dX3_account_207 : decode cX3_account 207 = .ok (.bipush 15, 2) := dk_16 15 (dk_at dksX3_account_6 12 rfl rfl)
theorem dX3_account_209 : decode cX3_account 209 = .ok (.iaload, 1) := dk_46 (dk_at dksX3_account_6 14 rfl rfl)
theorem dX3_account_210 : decode cX3_account 210 = .ok (.ireturn, 1) := dk_172 (dk_at dksX3_account_6 15 rfl rfl)
theorem dX3_account_211 : decode cX3_account 211 = .ok (.aload_n 0, 1) := dk_42 (dk_at dksX3_account_6 16 rfl rfl)
theorem dX3_account_212 : decode cX3_account 212 = .ok (.getfield 9, 3) := dk_180 0 9 (dk_at dksX3_account_6 17 rfl rfl)
theorem dX3_account_215 : decode cX3_account 215 = .ok (.iconst 5, 1) := dk_8 (dk_at dksX3_account_6 20 rfl rfl)
theorem dX3_account_216 : decode cX3_account 216 = .ok (.iaload, 1) := dk_46 (dk_at dksX3_account_6 21 rfl rfl)
theorem dX3_account_217 : decode cX3_account 217 = .ok (.ireturn, 1) := dk_172 (dk_at dksX3_account_6 22 rfl rfl)
theorem dX3_account_218 : decode cX3_account 218 = .ok (.aload_n 0, 1) := dk_42 (dk_at dksX3_account_6 23 rfl rfl)
theorem dX3_account_219 : decode cX3_account 219 = .ok (.getfield 9, 3) := dk_180 0 9 (dk_at dksX3_account_7 0 rfl rfl)
theorem dX3_account_222 : decode cX3_account 222 = .ok (.bipush 6, 2) := dk_16 6 (dk_at dksX3_account_7 3 rfl rfl)
theorem dX3_account_224 : decode cX3_account 224 = .ok (.iaload, 1) := dk_46 (dk_at dksX3_account_7 5 rfl rfl)
theorem dX3_account_225 : decode cX3_account 225 = .ok (.ireturn, 1) := dk_172 (dk_at dksX3_account_7 6 rfl rfl)
theorem dX3_account_226 : decode cX3_account 226 = .ok (.aload_n 0, 1) := dk_42 (dk_at dksX3_account_7 7 rfl rfl)
theorem dX3_account_227 : decode cX3_account 227 = .ok (.getfield 9, 3) := dk_180 0 9 (dk_at dksX3_account_7 8 rfl rfl)
theorem dX3_account_230 : decode cX3_account 230 = .ok (.bipush 7, 2) := dk_16 7 (dk_at dksX3_account_7 11 rfl rfl)
theorem dX3_account_232 : decode cX3_account 232 = .ok (.iaload, 1) := dk_46 (dk_at dksX3_account_7 13 rfl rfl)
theorem dX3_account_233 : decode cX3_account 233 = .ok (.ireturn, 1) := dk_172 (dk_at dksX3_account_7 14 rfl rfl)
theorem dX3_account_234 : decode cX3_account 234 = .ok (.aload_n 0, 1) := dk_42 (dk_at dksX3_account_7 15 rfl rfl)
theorem dX3_account_235 : decode cX3_account 235 = .ok (.getfield 9, 3) := dk_180 0 9 (dk_at dksX3_account_7 16 rfl rfl)
theorem dX3_account_238 : decode cX3_account 238 = .ok (.bipush 8, 2) := dk_16 8 (dk_at dksX3_account_7 19 rfl rfl)
theorem dX3_account_240 : decode cX3_account 240 = .ok (.iaload, 1) := dk_46 (dk_at dksX3_account_7 21 rfl rfl)
theorem dX3_account_241 : decode cX3_account 241 = .ok (.ireturn, 1) := dk_172 (dk_at dksX3_account_7 22 rfl rfl)
theorem dX3_account_242 : decode cX3_account 242 = .ok (.aload_n 0, 1) := dk_42 (dk_at dksX3_account_7 23 rfl rfl)
theorem dX3_account_243 : decode cX3_account 243 = .ok (.getfield 234, 3) := dk_180 0 234 (dk_at dksX3_account_8 0 rfl rfl)
theorem dX3_account_246 : decode cX3_account 246 = .ok (.ireturn, 1) := dk_172 (dk_at dksX3_account_8 3 rfl rfl)
theorem dX3_account_247 : decode cX3_account 247 = .ok (.aload_n 0, 1) := dk_42 (dk_at dksX3_account_8 4 rfl rfl)
theorem dX3_account_248 : decode cX3_account 248 = .ok (.getfield 67, 3) := dk_180 0 67 (dk_at dksX3_account_8 5 rfl rfl)
theorem dX3_account_251 : decode cX3_account 251 = .ok (.ireturn, 1) := dk_172 (dk_at dksX3_account_8 8 rfl rfl)
theorem dX3_account_252 : decode cX3_account 252 = .ok (.bipush (-2), 2) := dk_16 254 (dk_at dksX3_account_8 9 rfl rfl)
theorem dX3_account_254 : decode cX3_account 254 = .ok (.ireturn, 1) := dk_172 (dk_at dksX3_account_8 11 rfl rfl)
abbrev cX3_doneOnes : ByteArray := prog_33_method_77_code
def yX3_doneOnes : MethodName := ⟨RX3, "doneOnes", "()I"⟩
def dkwX3_doneOnes_1 : List UInt8 := [4, 167, 0, 4, 3, 96, 60, 132, 2, 1, 167, 255, 226, 27, 172]
abbrev dktX3_doneOnes_1 : List UInt8 := dkwX3_doneOnes_1 ++ []
def dkwX3_doneOnes_0 : List UInt8 := [3, 60, 3, 61, 28, 42, 180, 0, 9, 16, 12, 46, 162, 0, 25, 27, 42, 28, 182, 0, 142, 153, 0, 7]
abbrev dktX3_doneOnes_0 : List UInt8 := dkwX3_doneOnes_0 ++ dktX3_doneOnes_1
theorem dksX3_doneOnes_0 : cX3_doneOnes.data.toList.drop 0 = dktX3_doneOnes_0 := by decide +kernel
theorem dksX3_doneOnes_1 : cX3_doneOnes.data.toList.drop 24 = dktX3_doneOnes_1 := dk_seg dksX3_doneOnes_0 24 rfl rfl
theorem dX3_doneOnes_0 : decode cX3_doneOnes 0 = .ok (.iconst 0, 1) := dk_3 (dk_at dksX3_doneOnes_0 0 rfl rfl)
theorem dX3_doneOnes_1 : decode cX3_doneOnes 1 = .ok (.istore_n 1, 1) := dk_60 (dk_at dksX3_doneOnes_0 1 rfl rfl)
theorem dX3_doneOnes_2 : decode cX3_doneOnes 2 = .ok (.iconst 0, 1) := dk_3 (dk_at dksX3_doneOnes_0 2 rfl rfl)
theorem dX3_doneOnes_3 : decode cX3_doneOnes 3 = .ok (.istore_n 2, 1) := dk_61 (dk_at dksX3_doneOnes_0 3 rfl rfl)
theorem dX3_doneOnes_4 : decode cX3_doneOnes 4 = .ok (.iload_n 2, 1) := dk_28 (dk_at dksX3_doneOnes_0 4 rfl rfl)
theorem dX3_doneOnes_5 : decode cX3_doneOnes 5 = .ok (.aload_n 0, 1) := dk_42 (dk_at dksX3_doneOnes_0 5 rfl rfl)
theorem dX3_doneOnes_6 : decode cX3_doneOnes 6 = .ok (.getfield 9, 3) := dk_180 0 9 (dk_at dksX3_doneOnes_0 6 rfl rfl)
theorem dX3_doneOnes_9 : decode cX3_doneOnes 9 = .ok (.bipush 12, 2) := dk_16 12 (dk_at dksX3_doneOnes_0 9 rfl rfl)
theorem dX3_doneOnes_11 : decode cX3_doneOnes 11 = .ok (.iaload, 1) := dk_46 (dk_at dksX3_doneOnes_0 11 rfl rfl)
theorem dX3_doneOnes_12 : decode cX3_doneOnes 12 = .ok (.if_icmp .ge 25, 3) := dk_162 0 25 (dk_at dksX3_doneOnes_0 12 rfl rfl)
theorem dX3_doneOnes_15 : decode cX3_doneOnes 15 = .ok (.iload_n 1, 1) := dk_27 (dk_at dksX3_doneOnes_0 15 rfl rfl)
theorem dX3_doneOnes_16 : decode cX3_doneOnes 16 = .ok (.aload_n 0, 1) := dk_42 (dk_at dksX3_doneOnes_0 16 rfl rfl)
theorem dX3_doneOnes_17 : decode cX3_doneOnes 17 = .ok (.iload_n 2, 1) := dk_28 (dk_at dksX3_doneOnes_0 17 rfl rfl)
theorem dX3_doneOnes_18 : decode cX3_doneOnes 18 = .ok (.invokevirtual 142, 3) := dk_182 0 142 (dk_at dksX3_doneOnes_0 18 rfl rfl)
theorem dX3_doneOnes_21 : decode cX3_doneOnes 21 = .ok (.ifCond .eq 7, 3) := dk_153 0 7 (dk_at dksX3_doneOnes_0 21 rfl rfl)
theorem dX3_doneOnes_24 : decode cX3_doneOnes 24 = .ok (.iconst 1, 1) := dk_4 (dk_at dksX3_doneOnes_1 0 rfl rfl)
theorem dX3_doneOnes_25 : decode cX3_doneOnes 25 = .ok (.goto 4, 3) := dk_167 0 4 (dk_at dksX3_doneOnes_1 1 rfl rfl)
theorem dX3_doneOnes_28 : decode cX3_doneOnes 28 = .ok (.iconst 0, 1) := dk_3 (dk_at dksX3_doneOnes_1 4 rfl rfl)
theorem dX3_doneOnes_29 : decode cX3_doneOnes 29 = .ok (.iadd, 1) := dk_96 (dk_at dksX3_doneOnes_1 5 rfl rfl)
theorem dX3_doneOnes_30 : decode cX3_doneOnes 30 = .ok (.istore_n 1, 1) := dk_60 (dk_at dksX3_doneOnes_1 6 rfl rfl)
theorem dX3_doneOnes_31 : decode cX3_doneOnes 31 = .ok (.iinc 2 1, 3) := dk_132 2 1 (dk_at dksX3_doneOnes_1 7 rfl rfl)
theorem dX3_doneOnes_34 : decode cX3_doneOnes 34 = .ok (.goto (-30), 3) := dk_167 255 226 (dk_at dksX3_doneOnes_1 10 rfl rfl)
theorem dX3_doneOnes_37 : decode cX3_doneOnes 37 = .ok (.iload_n 1, 1) := dk_27 (dk_at dksX3_doneOnes_1 13 rfl rfl)
theorem dX3_doneOnes_38 : decode cX3_doneOnes 38 = .ok (.ireturn, 1) := dk_172 (dk_at dksX3_doneOnes_1 14 rfl rfl)
abbrev cX3_write : ByteArray := prog_33_method_80_code
def yX3_write : MethodName := ⟨RX3, "write", "(I)I"⟩
def dkwX3_write_5 : List UInt8 := [182, 0, 240, 132, 3, 1, 167, 255, 234, 42, 180, 0, 237, 172]
abbrev dktX3_write_5 : List UInt8 := dkwX3_write_5 ++ []
def dkwX3_write_4 : List UInt8 := [132, 3, 1, 167, 255, 183, 3, 62, 28, 154, 0, 24, 29, 8, 162, 0, 19, 42, 18, 244, 29, 182, 0, 246]
abbrev dktX3_write_4 : List UInt8 := dkwX3_write_4 ++ dktX3_write_5
def dkwX3_write_3 : List UInt8 := [29, 4, 96, 182, 0, 148, 153, 0, 18, 29, 42, 27, 182, 0, 139, 162, 0, 9, 42, 16, 43, 182, 0, 240]
abbrev dktX3_write_3 : List UInt8 := dkwX3_write_3 ++ dktX3_write_4
def dkwX3_write_2 : List UInt8 := [182, 0, 240, 42, 16, 48, 42, 180, 0, 9, 27, 29, 184, 0, 167, 4, 96, 46, 96, 182, 0, 240, 42, 27]
abbrev dktX3_write_2 : List UInt8 := dkwX3_write_2 ++ dktX3_write_3
def dkwX3_write_1 : List UInt8 := [29, 28, 162, 0, 74, 42, 42, 27, 29, 182, 0, 148, 153, 0, 8, 16, 79, 167, 0, 5, 16, 111]
abbrev dktX3_write_1 : List UInt8 := dkwX3_write_1 ++ dktX3_write_2
def dkwX3_write_0 : List UInt8 := [42, 27, 182, 0, 158, 154, 0, 5, 2, 172, 42, 3, 181, 0, 237, 42, 27, 6, 182, 0, 136, 61, 3, 62]
abbrev dktX3_write_0 : List UInt8 := dkwX3_write_0 ++ dktX3_write_1
theorem dksX3_write_0 : cX3_write.data.toList.drop 0 = dktX3_write_0 := by decide +kernel
theorem dksX3_write_1 : cX3_write.data.toList.drop 24 = dktX3_write_1 := dk_seg dksX3_write_0 24 rfl rfl
theorem dksX3_write_2 : cX3_write.data.toList.drop 46 = dktX3_write_2 := dk_seg dksX3_write_1 22 rfl rfl
theorem dksX3_write_3 : cX3_write.data.toList.drop 70 = dktX3_write_3 := dk_seg dksX3_write_2 24 rfl rfl
theorem dksX3_write_4 : cX3_write.data.toList.drop 94 = dktX3_write_4 := dk_seg dksX3_write_3 24 rfl rfl
theorem dksX3_write_5 : cX3_write.data.toList.drop 118 = dktX3_write_5 := dk_seg dksX3_write_4 24 rfl rfl
theorem dX3_write_0 : decode cX3_write 0 = .ok (.aload_n 0, 1) := dk_42 (dk_at dksX3_write_0 0 rfl rfl)
theorem dX3_write_1 : decode cX3_write 1 = .ok (.iload_n 1, 1) := dk_27 (dk_at dksX3_write_0 1 rfl rfl)
theorem dX3_write_2 : decode cX3_write 2 = .ok (.invokevirtual 158, 3) := dk_182 0 158 (dk_at dksX3_write_0 2 rfl rfl)
theorem dX3_write_5 : decode cX3_write 5 = .ok (.ifCond .ne 5, 3) := dk_154 0 5 (dk_at dksX3_write_0 5 rfl rfl)
theorem dX3_write_8 : decode cX3_write 8 = .ok (.iconst (-1), 1) := dk_2 (dk_at dksX3_write_0 8 rfl rfl)
theorem dX3_write_9 : decode cX3_write 9 = .ok (.ireturn, 1) := dk_172 (dk_at dksX3_write_0 9 rfl rfl)
theorem dX3_write_10 : decode cX3_write 10 = .ok (.aload_n 0, 1) := dk_42 (dk_at dksX3_write_0 10 rfl rfl)
theorem dX3_write_11 : decode cX3_write 11 = .ok (.iconst 0, 1) := dk_3 (dk_at dksX3_write_0 11 rfl rfl)
theorem dX3_write_12 : decode cX3_write 12 = .ok (.putfield 237, 3) := dk_181 0 237 (dk_at dksX3_write_0 12 rfl rfl)
theorem dX3_write_15 : decode cX3_write 15 = .ok (.aload_n 0, 1) := dk_42 (dk_at dksX3_write_0 15 rfl rfl)
theorem dX3_write_16 : decode cX3_write 16 = .ok (.iload_n 1, 1) := dk_27 (dk_at dksX3_write_0 16 rfl rfl)
theorem dX3_write_17 : decode cX3_write 17 = .ok (.iconst 3, 1) := dk_6 (dk_at dksX3_write_0 17 rfl rfl)
theorem dX3_write_18 : decode cX3_write 18 = .ok (.invokevirtual 136, 3) := dk_182 0 136 (dk_at dksX3_write_0 18 rfl rfl)
theorem dX3_write_21 : decode cX3_write 21 = .ok (.istore_n 2, 1) := dk_61 (dk_at dksX3_write_0 21 rfl rfl)
theorem dX3_write_22 : decode cX3_write 22 = .ok (.iconst 0, 1) := dk_3 (dk_at dksX3_write_0 22 rfl rfl)
theorem dX3_write_23 : decode cX3_write 23 = .ok (.istore_n 3, 1) := dk_62 (dk_at dksX3_write_0 23 rfl rfl)
theorem dX3_write_24 : decode cX3_write 24 = .ok (.iload_n 3, 1) := dk_29 (dk_at dksX3_write_1 0 rfl rfl)
theorem dX3_write_25 : decode cX3_write 25 = .ok (.iload_n 2, 1) := dk_28 (dk_at dksX3_write_1 1 rfl rfl)
theorem dX3_write_26 : decode cX3_write 26 = .ok (.if_icmp .ge 74, 3) := dk_162 0 74 (dk_at dksX3_write_1 2 rfl rfl)
theorem dX3_write_29 : decode cX3_write 29 = .ok (.aload_n 0, 1) := dk_42 (dk_at dksX3_write_1 5 rfl rfl)
theorem dX3_write_30 : decode cX3_write 30 = .ok (.aload_n 0, 1) := dk_42 (dk_at dksX3_write_1 6 rfl rfl)
theorem dX3_write_31 : decode cX3_write 31 = .ok (.iload_n 1, 1) := dk_27 (dk_at dksX3_write_1 7 rfl rfl)
theorem dX3_write_32 : decode cX3_write 32 = .ok (.iload_n 3, 1) := dk_29 (dk_at dksX3_write_1 8 rfl rfl)
theorem dX3_write_33 : decode cX3_write 33 = .ok (.invokevirtual 148, 3) := dk_182 0 148 (dk_at dksX3_write_1 9 rfl rfl)
theorem dX3_write_36 : decode cX3_write 36 = .ok (.ifCond .eq 8, 3) := dk_153 0 8 (dk_at dksX3_write_1 12 rfl rfl)
theorem dX3_write_39 : decode cX3_write 39 = .ok (.bipush 79, 2) := dk_16 79 (dk_at dksX3_write_1 15 rfl rfl)
theorem dX3_write_41 : decode cX3_write 41 = .ok (.goto 5, 3) := dk_167 0 5 (dk_at dksX3_write_1 17 rfl rfl)
theorem dX3_write_44 : decode cX3_write 44 = .ok (.bipush 111, 2) := dk_16 111 (dk_at dksX3_write_1 20 rfl rfl)
theorem dX3_write_46 : decode cX3_write 46 = .ok (.invokevirtual 240, 3) := dk_182 0 240 (dk_at dksX3_write_2 0 rfl rfl)
theorem dX3_write_49 : decode cX3_write 49 = .ok (.aload_n 0, 1) := dk_42 (dk_at dksX3_write_2 3 rfl rfl)
theorem dX3_write_50 : decode cX3_write 50 = .ok (.bipush 48, 2) := dk_16 48 (dk_at dksX3_write_2 4 rfl rfl)
theorem dX3_write_52 : decode cX3_write 52 = .ok (.aload_n 0, 1) := dk_42 (dk_at dksX3_write_2 6 rfl rfl)
theorem dX3_write_53 : decode cX3_write 53 = .ok (.getfield 9, 3) := dk_180 0 9 (dk_at dksX3_write_2 7 rfl rfl)
theorem dX3_write_56 : decode cX3_write 56 = .ok (.iload_n 1, 1) := dk_27 (dk_at dksX3_write_2 10 rfl rfl)
theorem dX3_write_57 : decode cX3_write 57 = .ok (.iload_n 3, 1) := dk_29 (dk_at dksX3_write_2 11 rfl rfl)
theorem dX3_write_58 : decode cX3_write 58 = .ok (.invokestatic 167, 3) := dk_184 0 167 (dk_at dksX3_write_2 12 rfl rfl)
theorem dX3_write_61 : decode cX3_write 61 = .ok (.iconst 1, 1) := dk_4 (dk_at dksX3_write_2 15 rfl rfl)
theorem dX3_write_62 : decode cX3_write 62 = .ok (.iadd, 1) := dk_96 (dk_at dksX3_write_2 16 rfl rfl)
theorem dX3_write_63 : decode cX3_write 63 = .ok (.iaload, 1) := dk_46 (dk_at dksX3_write_2 17 rfl rfl)
theorem dX3_write_64 : decode cX3_write 64 = .ok (.iadd, 1) := dk_96 (dk_at dksX3_write_2 18 rfl rfl)
theorem dX3_write_65 : decode cX3_write 65 = .ok (.invokevirtual 240, 3) := dk_182 0 240 (dk_at dksX3_write_2 19 rfl rfl)
theorem dX3_write_68 : decode cX3_write 68 = .ok (.aload_n 0, 1) := dk_42 (dk_at dksX3_write_2 22 rfl rfl)
theorem dX3_write_69 : decode cX3_write 69 = .ok (.iload_n 1, 1) := dk_27 (dk_at dksX3_write_2 23 rfl rfl)
theorem dX3_write_70 : decode cX3_write 70 = .ok (.iload_n 3, 1) := dk_29 (dk_at dksX3_write_3 0 rfl rfl)
theorem dX3_write_71 : decode cX3_write 71 = .ok (.iconst 1, 1) := dk_4 (dk_at dksX3_write_3 1 rfl rfl)
theorem dX3_write_72 : decode cX3_write 72 = .ok (.iadd, 1) := dk_96 (dk_at dksX3_write_3 2 rfl rfl)
theorem dX3_write_73 : decode cX3_write 73 = .ok (.invokevirtual 148, 3) := dk_182 0 148 (dk_at dksX3_write_3 3 rfl rfl)
theorem dX3_write_76 : decode cX3_write 76 = .ok (.ifCond .eq 18, 3) := dk_153 0 18 (dk_at dksX3_write_3 6 rfl rfl)
theorem dX3_write_79 : decode cX3_write 79 = .ok (.iload_n 3, 1) := dk_29 (dk_at dksX3_write_3 9 rfl rfl)
theorem dX3_write_80 : decode cX3_write 80 = .ok (.aload_n 0, 1) := dk_42 (dk_at dksX3_write_3 10 rfl rfl)
theorem dX3_write_81 : decode cX3_write 81 = .ok (.iload_n 1, 1) := dk_27 (dk_at dksX3_write_3 11 rfl rfl)
theorem dX3_write_82 : decode cX3_write 82 = .ok (.invokevirtual 139, 3) := dk_182 0 139 (dk_at dksX3_write_3 12 rfl rfl)
theorem dX3_write_85 : decode cX3_write 85 = .ok (.if_icmp .ge 9, 3) := dk_162 0 9 (dk_at dksX3_write_3 15 rfl rfl)
theorem dX3_write_88 : decode cX3_write 88 = .ok (.aload_n 0, 1) := dk_42 (dk_at dksX3_write_3 18 rfl rfl)
theorem dX3_write_89 : decode cX3_write 89 = .ok (.bipush 43, 2) := dk_16 43 (dk_at dksX3_write_3 19 rfl rfl)
theorem dX3_write_91 : decode cX3_write 91 = .ok (.invokevirtual 240, 3) := dk_182 0 240 (dk_at dksX3_write_3 21 rfl rfl)
theorem dX3_write_94 : decode cX3_write 94 = .ok (.iinc 3 1, 3) := dk_132 3 1 (dk_at dksX3_write_4 0 rfl rfl)
theorem dX3_write_97 : decode cX3_write 97 = .ok (.goto (-73), 3) := dk_167 255 183 (dk_at dksX3_write_4 3 rfl rfl)
theorem dX3_write_100 : decode cX3_write 100 = .ok (.iconst 0, 1) := dk_3 (dk_at dksX3_write_4 6 rfl rfl)
theorem dX3_write_101 : decode cX3_write 101 = .ok (.istore_n 3, 1) := dk_62 (dk_at dksX3_write_4 7 rfl rfl)
theorem dX3_write_102 : decode cX3_write 102 = .ok (.iload_n 2, 1) := dk_28 (dk_at dksX3_write_4 8 rfl rfl)
theorem dX3_write_103 : decode cX3_write 103 = .ok (.ifCond .ne 24, 3) := dk_154 0 24 (dk_at dksX3_write_4 9 rfl rfl)
theorem dX3_write_106 : decode cX3_write 106 = .ok (.iload_n 3, 1) := dk_29 (dk_at dksX3_write_4 12 rfl rfl)
theorem dX3_write_107 : decode cX3_write 107 = .ok (.iconst 5, 1) := dk_8 (dk_at dksX3_write_4 13 rfl rfl)
theorem dX3_write_108 : decode cX3_write 108 = .ok (.if_icmp .ge 19, 3) := dk_162 0 19 (dk_at dksX3_write_4 14 rfl rfl)
theorem dX3_write_111 : decode cX3_write 111 = .ok (.aload_n 0, 1) := dk_42 (dk_at dksX3_write_4 17 rfl rfl)
theorem dX3_write_112 : decode cX3_write 112 = .ok (.ldc 244, 2) := dk_18 244 (dk_at dksX3_write_4 18 rfl rfl)
theorem dX3_write_114 : decode cX3_write 114 = .ok (.iload_n 3, 1) := dk_29 (dk_at dksX3_write_4 20 rfl rfl)
theorem dX3_write_115 : decode cX3_write 115 = .ok (.invokevirtual 246, 3) := dk_182 0 246 (dk_at dksX3_write_4 21 rfl rfl)
theorem dX3_write_118 : decode cX3_write 118 = .ok (.invokevirtual 240, 3) := dk_182 0 240 (dk_at dksX3_write_5 0 rfl rfl)
theorem dX3_write_121 : decode cX3_write 121 = .ok (.iinc 3 1, 3) := dk_132 3 1 (dk_at dksX3_write_5 3 rfl rfl)
theorem dX3_write_124 : decode cX3_write 124 = .ok (.goto (-22), 3) := dk_167 255 234 (dk_at dksX3_write_5 6 rfl rfl)
theorem dX3_write_127 : decode cX3_write 127 = .ok (.aload_n 0, 1) := dk_42 (dk_at dksX3_write_5 9 rfl rfl)
theorem dX3_write_128 : decode cX3_write 128 = .ok (.getfield 237, 3) := dk_180 0 237 (dk_at dksX3_write_5 10 rfl rfl)
theorem dX3_write_131 : decode cX3_write 131 = .ok (.ireturn, 1) := dk_172 (dk_at dksX3_write_5 13 rfl rfl)
abbrev cX3_writes : ByteArray := prog_33_method_79_code
def yX3_writes : MethodName := ⟨RX3, "writes", "(I)V"⟩
def dkwX3_writes_0 : List UInt8 := [42, 180, 0, 28, 42, 180, 0, 237, 27, 79, 42, 89, 180, 0, 237, 4, 96, 181, 0, 237, 177]
abbrev dktX3_writes_0 : List UInt8 := dkwX3_writes_0 ++ []
theorem dksX3_writes_0 : cX3_writes.data.toList.drop 0 = dktX3_writes_0 := by decide +kernel
theorem dX3_writes_0 : decode cX3_writes 0 = .ok (.aload_n 0, 1) := dk_42 (dk_at dksX3_writes_0 0 rfl rfl)
theorem dX3_writes_1 : decode cX3_writes 1 = .ok (.getfield 28, 3) := dk_180 0 28 (dk_at dksX3_writes_0 1 rfl rfl)
theorem dX3_writes_4 : decode cX3_writes 4 = .ok (.aload_n 0, 1) := dk_42 (dk_at dksX3_writes_0 4 rfl rfl)
theorem dX3_writes_5 : decode cX3_writes 5 = .ok (.getfield 237, 3) := dk_180 0 237 (dk_at dksX3_writes_0 5 rfl rfl)
theorem dX3_writes_8 : decode cX3_writes 8 = .ok (.iload_n 1, 1) := dk_27 (dk_at dksX3_writes_0 8 rfl rfl)
theorem dX3_writes_9 : decode cX3_writes 9 = .ok (.iastore, 1) := dk_79 (dk_at dksX3_writes_0 9 rfl rfl)
theorem dX3_writes_10 : decode cX3_writes 10 = .ok (.aload_n 0, 1) := dk_42 (dk_at dksX3_writes_0 10 rfl rfl)
theorem dX3_writes_11 : decode cX3_writes 11 = .ok (.dup, 1) := dk_89 (dk_at dksX3_writes_0 11 rfl rfl)
theorem dX3_writes_12 : decode cX3_writes 12 = .ok (.getfield 237, 3) := dk_180 0 237 (dk_at dksX3_writes_0 12 rfl rfl)
theorem dX3_writes_15 : decode cX3_writes 15 = .ok (.iconst 1, 1) := dk_4 (dk_at dksX3_writes_0 15 rfl rfl)
theorem dX3_writes_16 : decode cX3_writes 16 = .ok (.iadd, 1) := dk_96 (dk_at dksX3_writes_0 16 rfl rfl)
theorem dX3_writes_17 : decode cX3_writes 17 = .ok (.putfield 237, 3) := dk_181 0 237 (dk_at dksX3_writes_0 17 rfl rfl)
theorem dX3_writes_20 : decode cX3_writes 20 = .ok (.return_, 1) := dk_177 (dk_at dksX3_writes_0 20 rfl rfl)
abbrev cX3_written : ByteArray := prog_33_method_81_code
def yX3_written : MethodName := ⟨RX3, "written", "(I)I"⟩
def dkwX3_written_1 : List UInt8 := [172]
abbrev dktX3_written_1 : List UInt8 := dkwX3_written_1 ++ []
def dkwX3_written_0 : List UInt8 := [27, 3, 42, 180, 0, 237, 4, 100, 184, 0, 81, 153, 0, 12, 42, 180, 0, 28, 27, 46, 167, 0, 4, 2]
abbrev dktX3_written_0 : List UInt8 := dkwX3_written_0 ++ dktX3_written_1
theorem dksX3_written_0 : cX3_written.data.toList.drop 0 = dktX3_written_0 := by decide +kernel
theorem dksX3_written_1 : cX3_written.data.toList.drop 24 = dktX3_written_1 := dk_seg dksX3_written_0 24 rfl rfl
theorem dX3_written_0 : decode cX3_written 0 = .ok (.iload_n 1, 1) := dk_27 (dk_at dksX3_written_0 0 rfl rfl)
theorem dX3_written_1 : decode cX3_written 1 = .ok (.iconst 0, 1) := dk_3 (dk_at dksX3_written_0 1 rfl rfl)
theorem dX3_written_2 : decode cX3_written 2 = .ok (.aload_n 0, 1) := dk_42 (dk_at dksX3_written_0 2 rfl rfl)
theorem dX3_written_3 : decode cX3_written 3 = .ok (.getfield 237, 3) := dk_180 0 237 (dk_at dksX3_written_0 3 rfl rfl)
theorem dX3_written_6 : decode cX3_written 6 = .ok (.iconst 1, 1) := dk_4 (dk_at dksX3_written_0 6 rfl rfl)
theorem dX3_written_7 : decode cX3_written 7 = .ok (.isub, 1) := dk_100 (dk_at dksX3_written_0 7 rfl rfl)
theorem dX3_written_8 : decode cX3_written 8 = .ok (.invokestatic 81, 3) := dk_184 0 81 (dk_at dksX3_written_0 8 rfl rfl)
theorem dX3_written_11 : decode cX3_written 11 = .ok (.ifCond .eq 12, 3) := dk_153 0 12 (dk_at dksX3_written_0 11 rfl rfl)
theorem dX3_written_14 : decode cX3_written 14 = .ok (.aload_n 0, 1) := dk_42 (dk_at dksX3_written_0 14 rfl rfl)
theorem dX3_written_15 : decode cX3_written 15 = .ok (.getfield 28, 3) := dk_180 0 28 (dk_at dksX3_written_0 15 rfl rfl)
theorem dX3_written_18 : decode cX3_written 18 = .ok (.iload_n 1, 1) := dk_27 (dk_at dksX3_written_0 18 rfl rfl)
theorem dX3_written_19 : decode cX3_written 19 = .ok (.iaload, 1) := dk_46 (dk_at dksX3_written_0 19 rfl rfl)
theorem dX3_written_20 : decode cX3_written 20 = .ok (.goto 4, 3) := dk_167 0 4 (dk_at dksX3_written_0 20 rfl rfl)
theorem dX3_written_23 : decode cX3_written 23 = .ok (.iconst (-1), 1) := dk_2 (dk_at dksX3_written_0 23 rfl rfl)
theorem dX3_written_24 : decode cX3_written 24 = .ok (.ireturn, 1) := dk_172 (dk_at dksX3_written_1 0 rfl rfl)
abbrev cX3_append : ByteArray := prog_33_method_82_code
def yX3_append : MethodName := ⟨RX3, "append", "(C)I"⟩
def dkwX3_append_2 : List UInt8 := [180, 0, 234, 172]
abbrev dktX3_append_2 : List UInt8 := dkwX3_append_2 ++ []
def dkwX3_append_1 : List UInt8 := [16, 252, 172, 42, 180, 0, 53, 42, 180, 0, 234, 27, 79, 42, 89, 180, 0, 234, 4, 96, 181, 0, 234, 42]
abbrev dktX3_append_1 : List UInt8 := dkwX3_append_1 ++ dktX3_append_2
def dkwX3_append_0 : List UInt8 := [27, 16, 32, 16, 126, 184, 0, 81, 154, 0, 6, 16, 254, 172, 42, 180, 0, 234, 16, 60, 160, 0, 6]
abbrev dktX3_append_0 : List UInt8 := dkwX3_append_0 ++ dktX3_append_1
theorem dksX3_append_0 : cX3_append.data.toList.drop 0 = dktX3_append_0 := by decide +kernel
theorem dksX3_append_1 : cX3_append.data.toList.drop 23 = dktX3_append_1 := dk_seg dksX3_append_0 23 rfl rfl
theorem dksX3_append_2 : cX3_append.data.toList.drop 47 = dktX3_append_2 := dk_seg dksX3_append_1 24 rfl rfl
theorem dX3_append_0 : decode cX3_append 0 = .ok (.iload_n 1, 1) := dk_27 (dk_at dksX3_append_0 0 rfl rfl)
theorem dX3_append_1 : decode cX3_append 1 = .ok (.bipush 32, 2) := dk_16 32 (dk_at dksX3_append_0 1 rfl rfl)
theorem dX3_append_3 : decode cX3_append 3 = .ok (.bipush 126, 2) := dk_16 126 (dk_at dksX3_append_0 3 rfl rfl)
theorem dX3_append_5 : decode cX3_append 5 = .ok (.invokestatic 81, 3) := dk_184 0 81 (dk_at dksX3_append_0 5 rfl rfl)
theorem dX3_append_8 : decode cX3_append 8 = .ok (.ifCond .ne 6, 3) := dk_154 0 6 (dk_at dksX3_append_0 8 rfl rfl)
theorem dX3_append_11 : decode cX3_append 11 = .ok (.bipush (-2), 2) := dk_16 254 (dk_at dksX3_append_0 11 rfl rfl)
theorem dX3_append_13 : decode cX3_append 13 = .ok (.ireturn, 1) := dk_172 (dk_at dksX3_append_0 13 rfl rfl)
theorem dX3_append_14 : decode cX3_append 14 = .ok (.aload_n 0, 1) := dk_42 (dk_at dksX3_append_0 14 rfl rfl)
theorem dX3_append_15 : decode cX3_append 15 = .ok (.getfield 234, 3) := dk_180 0 234 (dk_at dksX3_append_0 15 rfl rfl)
theorem dX3_append_18 : decode cX3_append 18 = .ok (.bipush 60, 2) := dk_16 60 (dk_at dksX3_append_0 18 rfl rfl)
theorem dX3_append_20 : decode cX3_append 20 = .ok (.if_icmp .ne 6, 3) := dk_160 0 6 (dk_at dksX3_append_0 20 rfl rfl)
theorem dX3_append_23 : decode cX3_append 23 = .ok (.bipush (-4), 2) := dk_16 252 (dk_at dksX3_append_1 0 rfl rfl)
theorem dX3_append_25 : decode cX3_append 25 = .ok (.ireturn, 1) := dk_172 (dk_at dksX3_append_1 2 rfl rfl)
theorem dX3_append_26 : decode cX3_append 26 = .ok (.aload_n 0, 1) := dk_42 (dk_at dksX3_append_1 3 rfl rfl)
theorem dX3_append_27 : decode cX3_append 27 = .ok (.getfield 53, 3) := dk_180 0 53 (dk_at dksX3_append_1 4 rfl rfl)
theorem dX3_append_30 : decode cX3_append 30 = .ok (.aload_n 0, 1) := dk_42 (dk_at dksX3_append_1 7 rfl rfl)
theorem dX3_append_31 : decode cX3_append 31 = .ok (.getfield 234, 3) := dk_180 0 234 (dk_at dksX3_append_1 8 rfl rfl)
theorem dX3_append_34 : decode cX3_append 34 = .ok (.iload_n 1, 1) := dk_27 (dk_at dksX3_append_1 11 rfl rfl)
theorem dX3_append_35 : decode cX3_append 35 = .ok (.iastore, 1) := dk_79 (dk_at dksX3_append_1 12 rfl rfl)
theorem dX3_append_36 : decode cX3_append 36 = .ok (.aload_n 0, 1) := dk_42 (dk_at dksX3_append_1 13 rfl rfl)
theorem dX3_append_37 : decode cX3_append 37 = .ok (.dup, 1) := dk_89 (dk_at dksX3_append_1 14 rfl rfl)
theorem dX3_append_38 : decode cX3_append 38 = .ok (.getfield 234, 3) := dk_180 0 234 (dk_at dksX3_append_1 15 rfl rfl)
theorem dX3_append_41 : decode cX3_append 41 = .ok (.iconst 1, 1) := dk_4 (dk_at dksX3_append_1 18 rfl rfl)
theorem dX3_append_42 : decode cX3_append 42 = .ok (.iadd, 1) := dk_96 (dk_at dksX3_append_1 19 rfl rfl)
theorem dX3_append_43 : decode cX3_append 43 = .ok (.putfield 234, 3) := dk_181 0 234 (dk_at dksX3_append_1 20 rfl rfl)
theorem dX3_append_46 : decode cX3_append 46 = .ok (.aload_n 0, 1) := dk_42 (dk_at dksX3_append_1 23 rfl rfl)
theorem dX3_append_47 : decode cX3_append 47 = .ok (.getfield 234, 3) := dk_180 0 234 (dk_at dksX3_append_2 0 rfl rfl)
theorem dX3_append_50 : decode cX3_append 50 = .ok (.ireturn, 1) := dk_172 (dk_at dksX3_append_2 3 rfl rfl)
abbrev cX3_read : ByteArray := prog_33_method_91_code
def yX3_read : MethodName := ⟨RX3, "read", "()I"⟩
def dkwX3_read_5 : List UInt8 := [180, 1, 13, 182, 0, 91, 172]
abbrev dktX3_read_5 : List UInt8 := dkwX3_read_5 ++ []
def dkwX3_read_4 : List UInt8 := [28, 29, 16, 251, 160, 0, 7, 4, 167, 0, 4, 3, 182, 1, 29, 172, 132, 2, 1, 167, 255, 172, 42, 42]
abbrev dktX3_read_4 : List UInt8 := dkwX3_read_4 ++ dktX3_read_5
def dkwX3_read_3 : List UInt8 := [29, 184, 0, 70, 153, 0, 36, 42, 180, 0, 13, 3, 42, 180, 0, 9, 3, 17, 8, 140, 184, 0, 63, 42]
abbrev dktX3_read_3 : List UInt8 := dkwX3_read_3 ++ dktX3_read_4
def dkwX3_read_2 : List UInt8 := [42, 180, 0, 56, 6, 28, 104, 4, 96, 46, 42, 180, 0, 56, 6, 28, 104, 5, 96, 46, 182, 1, 25, 62]
abbrev dktX3_read_2 : List UInt8 := dkwX3_read_2 ++ dktX3_read_3
def dkwX3_read_1 : List UInt8 := [172, 42, 182, 0, 85, 3, 61, 28, 42, 180, 1, 13, 162, 0, 82, 42, 42, 180, 0, 56, 6, 28, 104, 46]
abbrev dktX3_read_1 : List UInt8 := dkwX3_read_1 ++ dktX3_read_2
def dkwX3_read_0 : List UInt8 := [42, 182, 1, 22, 60, 42, 3, 181, 0, 234, 27, 154, 0, 14, 42, 42, 180, 0, 250, 181, 0, 59, 16, 254]
abbrev dktX3_read_0 : List UInt8 := dkwX3_read_0 ++ dktX3_read_1
theorem dksX3_read_0 : cX3_read.data.toList.drop 0 = dktX3_read_0 := by decide +kernel
theorem dksX3_read_1 : cX3_read.data.toList.drop 24 = dktX3_read_1 := dk_seg dksX3_read_0 24 rfl rfl
theorem dksX3_read_2 : cX3_read.data.toList.drop 48 = dktX3_read_2 := dk_seg dksX3_read_1 24 rfl rfl
theorem dksX3_read_3 : cX3_read.data.toList.drop 72 = dktX3_read_3 := dk_seg dksX3_read_2 24 rfl rfl
theorem dksX3_read_4 : cX3_read.data.toList.drop 96 = dktX3_read_4 := dk_seg dksX3_read_3 24 rfl rfl
theorem dksX3_read_5 : cX3_read.data.toList.drop 120 = dktX3_read_5 := dk_seg dksX3_read_4 24 rfl rfl
theorem dX3_read_0 : decode cX3_read 0 = .ok (.aload_n 0, 1) := dk_42 (dk_at dksX3_read_0 0 rfl rfl)
theorem dX3_read_1 : decode cX3_read 1 = .ok (.invokevirtual 278, 3) := dk_182 1 22 (dk_at dksX3_read_0 1 rfl rfl)
theorem dX3_read_4 : decode cX3_read 4 = .ok (.istore_n 1, 1) := dk_60 (dk_at dksX3_read_0 4 rfl rfl)
theorem dX3_read_5 : decode cX3_read 5 = .ok (.aload_n 0, 1) := dk_42 (dk_at dksX3_read_0 5 rfl rfl)
theorem dX3_read_6 : decode cX3_read 6 = .ok (.iconst 0, 1) := dk_3 (dk_at dksX3_read_0 6 rfl rfl)
theorem dX3_read_7 : decode cX3_read 7 = .ok (.putfield 234, 3) := dk_181 0 234 (dk_at dksX3_read_0 7 rfl rfl)
theorem dX3_read_10 : decode cX3_read 10 = .ok (.iload_n 1, 1) := dk_27 (dk_at dksX3_read_0 10 rfl rfl)
theorem dX3_read_11 : decode cX3_read 11 = .ok (.ifCond .ne 14, 3) := dk_154 0 14 (dk_at dksX3_read_0 11 rfl rfl)
theorem dX3_read_14 : decode cX3_read 14 = .ok (.aload_n 0, 1) := dk_42 (dk_at dksX3_read_0 14 rfl rfl)
theorem dX3_read_15 : decode cX3_read 15 = .ok (.aload_n 0, 1) := dk_42 (dk_at dksX3_read_0 15 rfl rfl)
theorem dX3_read_16 : decode cX3_read 16 = .ok (.getfield 250, 3) := dk_180 0 250 (dk_at dksX3_read_0 16 rfl rfl)
theorem dX3_read_19 : decode cX3_read 19 = .ok (.putfield 59, 3) := dk_181 0 59 (dk_at dksX3_read_0 19 rfl rfl)
theorem dX3_read_22 : decode cX3_read 22 = .ok (.bipush (-2), 2) := dk_16 254 (dk_at dksX3_read_0 22 rfl rfl)
theorem dX3_read_24 : decode cX3_read 24 = .ok (.ireturn, 1) := dk_172 (dk_at dksX3_read_1 0 rfl rfl)
theorem dX3_read_25 : decode cX3_read 25 = .ok (.aload_n 0, 1) := dk_42 (dk_at dksX3_read_1 1 rfl rfl)
theorem dX3_read_26 : decode cX3_read 26 = .ok (.invokevirtual 85, 3) := dk_182 0 85 (dk_at dksX3_read_1 2 rfl rfl)
theorem dX3_read_29 : decode cX3_read 29 = .ok (.iconst 0, 1) := dk_3 (dk_at dksX3_read_1 5 rfl rfl)
theorem dX3_read_30 : decode cX3_read 30 = .ok (.istore_n 2, 1) := dk_61 (dk_at dksX3_read_1 6 rfl rfl)
theorem dX3_read_31 : decode cX3_read 31 = .ok (.iload_n 2, 1) := dk_28 (dk_at dksX3_read_1 7 rfl rfl)
theorem dX3_read_32 : decode cX3_read 32 = .ok (.aload_n 0, 1) := dk_42 (dk_at dksX3_read_1 8 rfl rfl)
theorem dX3_read_33 : decode cX3_read 33 = .ok (.getfield 269, 3) := dk_180 1 13 (dk_at dksX3_read_1 9 rfl rfl)
theorem dX3_read_36 : decode cX3_read 36 = .ok (.if_icmp .ge 82, 3) := dk_162 0 82 (dk_at dksX3_read_1 12 rfl rfl)
theorem dX3_read_39 : decode cX3_read 39 = .ok (.aload_n 0, 1) := dk_42 (dk_at dksX3_read_1 15 rfl rfl)
theorem dX3_read_40 : decode cX3_read 40 = .ok (.aload_n 0, 1) := dk_42 (dk_at dksX3_read_1 16 rfl rfl)
theorem dX3_read_41 : decode cX3_read 41 = .ok (.getfield 56, 3) := dk_180 0 56 (dk_at dksX3_read_1 17 rfl rfl)
theorem dX3_read_44 : decode cX3_read 44 = .ok (.iconst 3, 1) := dk_6 (dk_at dksX3_read_1 20 rfl rfl)
theorem dX3_read_45 : decode cX3_read 45 = .ok (.iload_n 2, 1) := dk_28 (dk_at dksX3_read_1 21 rfl rfl)
theorem dX3_read_46 : decode cX3_read 46 = .ok (.imul, 1) := dk_104 (dk_at dksX3_read_1 22 rfl rfl)
theorem dX3_read_47 : decode cX3_read 47 = .ok (.iaload, 1) := dk_46 (dk_at dksX3_read_1 23 rfl rfl)
theorem dX3_read_48 : decode cX3_read 48 = .ok (.aload_n 0, 1) := dk_42 (dk_at dksX3_read_2 0 rfl rfl)
theorem dX3_read_49 : decode cX3_read 49 = .ok (.getfield 56, 3) := dk_180 0 56 (dk_at dksX3_read_2 1 rfl rfl)
theorem dX3_read_52 : decode cX3_read 52 = .ok (.iconst 3, 1) := dk_6 (dk_at dksX3_read_2 4 rfl rfl)
theorem dX3_read_53 : decode cX3_read 53 = .ok (.iload_n 2, 1) := dk_28 (dk_at dksX3_read_2 5 rfl rfl)
theorem dX3_read_54 : decode cX3_read 54 = .ok (.imul, 1) := dk_104 (dk_at dksX3_read_2 6 rfl rfl)
theorem dX3_read_55 : decode cX3_read 55 = .ok (.iconst 1, 1) := dk_4 (dk_at dksX3_read_2 7 rfl rfl)
theorem dX3_read_56 : decode cX3_read 56 = .ok (.iadd, 1) := dk_96 (dk_at dksX3_read_2 8 rfl rfl)
theorem dX3_read_57 : decode cX3_read 57 = .ok (.iaload, 1) := dk_46 (dk_at dksX3_read_2 9 rfl rfl)
theorem dX3_read_58 : decode cX3_read 58 = .ok (.aload_n 0, 1) := dk_42 (dk_at dksX3_read_2 10 rfl rfl)
theorem dX3_read_59 : decode cX3_read 59 = .ok (.getfield 56, 3) := dk_180 0 56 (dk_at dksX3_read_2 11 rfl rfl)
theorem dX3_read_62 : decode cX3_read 62 = .ok (.iconst 3, 1) := dk_6 (dk_at dksX3_read_2 14 rfl rfl)
theorem dX3_read_63 : decode cX3_read 63 = .ok (.iload_n 2, 1) := dk_28 (dk_at dksX3_read_2 15 rfl rfl)
theorem dX3_read_64 : decode cX3_read 64 = .ok (.imul, 1) := dk_104 (dk_at dksX3_read_2 16 rfl rfl)
theorem dX3_read_65 : decode cX3_read 65 = .ok (.iconst 2, 1) := dk_5 (dk_at dksX3_read_2 17 rfl rfl)
theorem dX3_read_66 : decode cX3_read 66 = .ok (.iadd, 1) := dk_96 (dk_at dksX3_read_2 18 rfl rfl)
theorem dX3_read_67 : decode cX3_read 67 = .ok (.iaload, 1) := dk_46 (dk_at dksX3_read_2 19 rfl rfl)
theorem dX3_read_68 : decode cX3_read 68 = .ok (.invokevirtual 281, 3) := dk_182 1 25 (dk_at dksX3_read_2 20 rfl rfl)
theorem dX3_read_71 : decode cX3_read 71 = .ok (.istore_n 3, 1) := dk_62 (dk_at dksX3_read_2 23 rfl rfl)
theorem dX3_read_72 : decode cX3_read 72 = .ok (.iload_n 3, 1) := dk_29 (dk_at dksX3_read_3 0 rfl rfl)
theorem dX3_read_73 : decode cX3_read 73 = .ok (.invokestatic 70, 3) := dk_184 0 70 (dk_at dksX3_read_3 1 rfl rfl)
theorem dX3_read_76 : decode cX3_read 76 = .ok (.ifCond .eq 36, 3) := dk_153 0 36 (dk_at dksX3_read_3 4 rfl rfl)
theorem dX3_read_79 : decode cX3_read 79 = .ok (.aload_n 0, 1) := dk_42 (dk_at dksX3_read_3 7 rfl rfl)
theorem dX3_read_80 : decode cX3_read 80 = .ok (.getfield 13, 3) := dk_180 0 13 (dk_at dksX3_read_3 8 rfl rfl)
theorem dX3_read_83 : decode cX3_read 83 = .ok (.iconst 0, 1) := dk_3 (dk_at dksX3_read_3 11 rfl rfl)
theorem dX3_read_84 : decode cX3_read 84 = .ok (.aload_n 0, 1) := dk_42 (dk_at dksX3_read_3 12 rfl rfl)
theorem dX3_read_85 : decode cX3_read 85 = .ok (.getfield 9, 3) := dk_180 0 9 (dk_at dksX3_read_3 13 rfl rfl)
theorem dX3_read_88 : decode cX3_read 88 = .ok (.iconst 0, 1) := dk_3 (dk_at dksX3_read_3 16 rfl rfl)
theorem dX3_read_89 : decode cX3_read 89 = .ok (.sipush 2188, 3) := dk_17 8 140 (dk_at dksX3_read_3 17 rfl rfl)
theorem dX3_read_92 : decode cX3_read 92 = .ok (.invokestatic 63, 3) := dk_184 0 63 (dk_at dksX3_read_3 20 rfl rfl)
theorem dX3_read_95 : decode cX3_read 95 = .ok (.aload_n 0, 1) := dk_42 (dk_at dksX3_read_3 23 rfl rfl)
theorem dX3_read_96 : decode cX3_read 96 = .ok (.iload_n 2, 1) := dk_28 (dk_at dksX3_read_4 0 rfl rfl)
theorem dX3_read_97 : decode cX3_read 97 = .ok (.iload_n 3, 1) := dk_29 (dk_at dksX3_read_4 1 rfl rfl)
theorem dX3_read_98 : decode cX3_read 98 = .ok (.bipush (-5), 2) := dk_16 251 (dk_at dksX3_read_4 2 rfl rfl)
theorem dX3_read_100 : decode cX3_read 100 = .ok (.if_icmp .ne 7, 3) := dk_160 0 7 (dk_at dksX3_read_4 4 rfl rfl)
theorem dX3_read_103 : decode cX3_read 103 = .ok (.iconst 1, 1) := dk_4 (dk_at dksX3_read_4 7 rfl rfl)
theorem dX3_read_104 : decode cX3_read 104 = .ok (.goto 4, 3) := dk_167 0 4 (dk_at dksX3_read_4 8 rfl rfl)
theorem dX3_read_107 : decode cX3_read 107 = .ok (.iconst 0, 1) := dk_3 (dk_at dksX3_read_4 11 rfl rfl)
theorem dX3_read_108 : decode cX3_read 108 = .ok (.invokevirtual 285, 3) := dk_182 1 29 (dk_at dksX3_read_4 12 rfl rfl)
theorem dX3_read_111 : decode cX3_read 111 = .ok (.ireturn, 1) := dk_172 (dk_at dksX3_read_4 15 rfl rfl)
theorem dX3_read_112 : decode cX3_read 112 = .ok (.iinc 2 1, 3) := dk_132 2 1 (dk_at dksX3_read_4 16 rfl rfl)
theorem dX3_read_115 : decode cX3_read 115 = .ok (.goto (-84), 3) := dk_167 255 172 (dk_at dksX3_read_4 19 rfl rfl)
theorem dX3_read_118 : decode cX3_read 118 = .ok (.aload_n 0, 1) := dk_42 (dk_at dksX3_read_4 22 rfl rfl)
theorem dX3_read_119 : decode cX3_read 119 = .ok (.aload_n 0, 1) := dk_42 (dk_at dksX3_read_4 23 rfl rfl)
theorem dX3_read_120 : decode cX3_read 120 = .ok (.getfield 269, 3) := dk_180 1 13 (dk_at dksX3_read_5 0 rfl rfl)
theorem dX3_read_123 : decode cX3_read 123 = .ok (.invokevirtual 91, 3) := dk_182 0 91 (dk_at dksX3_read_5 3 rfl rfl)
theorem dX3_read_126 : decode cX3_read 126 = .ok (.ireturn, 1) := dk_172 (dk_at dksX3_read_5 6 rfl rfl)
abbrev cX3_isText : ByteArray := prog_33_method_87_code
def yX3_isText : MethodName := ⟨RX3, "isText", "()Z"⟩
def dkwX3_isText_2 : List UInt8 := [153, 0, 18, 42, 180, 0, 250, 42, 180, 0, 234, 160, 0, 7, 4, 167, 0, 4, 3, 172]
abbrev dktX3_isText_2 : List UInt8 := dkwX3_isText_2 ++ []
def dkwX3_isText_1 : List UInt8 := [16, 59, 160, 0, 21, 42, 89, 180, 0, 250, 4, 96, 181, 0, 250, 42, 182, 1, 16, 60, 167, 255, 228, 27]
abbrev dktX3_isText_1 : List UInt8 := dkwX3_isText_1 ++ dktX3_isText_2
def dkwX3_isText_0 : List UInt8 := [42, 3, 181, 0, 250, 42, 3, 181, 1, 13, 42, 182, 1, 16, 60, 27, 153, 0, 30, 42, 182, 1, 0]
abbrev dktX3_isText_0 : List UInt8 := dkwX3_isText_0 ++ dktX3_isText_1
theorem dksX3_isText_0 : cX3_isText.data.toList.drop 0 = dktX3_isText_0 := by decide +kernel
theorem dksX3_isText_1 : cX3_isText.data.toList.drop 23 = dktX3_isText_1 := dk_seg dksX3_isText_0 23 rfl rfl
theorem dksX3_isText_2 : cX3_isText.data.toList.drop 47 = dktX3_isText_2 := dk_seg dksX3_isText_1 24 rfl rfl
theorem dX3_isText_0 : decode cX3_isText 0 = .ok (.aload_n 0, 1) := dk_42 (dk_at dksX3_isText_0 0 rfl rfl)
theorem dX3_isText_1 : decode cX3_isText 1 = .ok (.iconst 0, 1) := dk_3 (dk_at dksX3_isText_0 1 rfl rfl)
theorem dX3_isText_2 : decode cX3_isText 2 = .ok (.putfield 250, 3) := dk_181 0 250 (dk_at dksX3_isText_0 2 rfl rfl)
theorem dX3_isText_5 : decode cX3_isText 5 = .ok (.aload_n 0, 1) := dk_42 (dk_at dksX3_isText_0 5 rfl rfl)
theorem dX3_isText_6 : decode cX3_isText 6 = .ok (.iconst 0, 1) := dk_3 (dk_at dksX3_isText_0 6 rfl rfl)
theorem dX3_isText_7 : decode cX3_isText 7 = .ok (.putfield 269, 3) := dk_181 1 13 (dk_at dksX3_isText_0 7 rfl rfl)
theorem dX3_isText_10 : decode cX3_isText 10 = .ok (.aload_n 0, 1) := dk_42 (dk_at dksX3_isText_0 10 rfl rfl)
theorem dX3_isText_11 : decode cX3_isText 11 = .ok (.invokevirtual 272, 3) := dk_182 1 16 (dk_at dksX3_isText_0 11 rfl rfl)
theorem dX3_isText_14 : decode cX3_isText 14 = .ok (.istore_n 1, 1) := dk_60 (dk_at dksX3_isText_0 14 rfl rfl)
theorem dX3_isText_15 : decode cX3_isText 15 = .ok (.iload_n 1, 1) := dk_27 (dk_at dksX3_isText_0 15 rfl rfl)
theorem dX3_isText_16 : decode cX3_isText 16 = .ok (.ifCond .eq 30, 3) := dk_153 0 30 (dk_at dksX3_isText_0 16 rfl rfl)
theorem dX3_isText_19 : decode cX3_isText 19 = .ok (.aload_n 0, 1) := dk_42 (dk_at dksX3_isText_0 19 rfl rfl)
theorem dX3_isText_20 : decode cX3_isText 20 = .ok (.invokevirtual 256, 3) := dk_182 1 0 (dk_at dksX3_isText_0 20 rfl rfl)
theorem dX3_isText_23 : decode cX3_isText 23 = .ok (.bipush 59, 2) := dk_16 59 (dk_at dksX3_isText_1 0 rfl rfl)
theorem dX3_isText_25 : decode cX3_isText 25 = .ok (.if_icmp .ne 21, 3) := dk_160 0 21 (dk_at dksX3_isText_1 2 rfl rfl)
theorem dX3_isText_28 : decode cX3_isText 28 = .ok (.aload_n 0, 1) := dk_42 (dk_at dksX3_isText_1 5 rfl rfl)
theorem dX3_isText_29 : decode cX3_isText 29 = .ok (.dup, 1) := dk_89 (dk_at dksX3_isText_1 6 rfl rfl)
theorem dX3_isText_30 : decode cX3_isText 30 = .ok (.getfield 250, 3) := dk_180 0 250 (dk_at dksX3_isText_1 7 rfl rfl)
theorem dX3_isText_33 : decode cX3_isText 33 = .ok (.iconst 1, 1) := dk_4 (dk_at dksX3_isText_1 10 rfl rfl)
theorem dX3_isText_34 : decode cX3_isText 34 = .ok (.iadd, 1) := dk_96 (dk_at dksX3_isText_1 11 rfl rfl)
theorem dX3_isText_35 : decode cX3_isText 35 = .ok (.putfield 250, 3) := dk_181 0 250 (dk_at dksX3_isText_1 12 rfl rfl)
theorem dX3_isText_38 : decode cX3_isText 38 = .ok (.aload_n 0, 1) := dk_42 (dk_at dksX3_isText_1 15 rfl rfl)
theorem dX3_isText_39 : decode cX3_isText 39 = .ok (.invokevirtual 272, 3) := dk_182 1 16 (dk_at dksX3_isText_1 16 rfl rfl)
theorem dX3_isText_42 : decode cX3_isText 42 = .ok (.istore_n 1, 1) := dk_60 (dk_at dksX3_isText_1 19 rfl rfl)
theorem dX3_isText_43 : decode cX3_isText 43 = .ok (.goto (-28), 3) := dk_167 255 228 (dk_at dksX3_isText_1 20 rfl rfl)
theorem dX3_isText_46 : decode cX3_isText 46 = .ok (.iload_n 1, 1) := dk_27 (dk_at dksX3_isText_1 23 rfl rfl)
theorem dX3_isText_47 : decode cX3_isText 47 = .ok (.ifCond .eq 18, 3) := dk_153 0 18 (dk_at dksX3_isText_2 0 rfl rfl)
theorem dX3_isText_50 : decode cX3_isText 50 = .ok (.aload_n 0, 1) := dk_42 (dk_at dksX3_isText_2 3 rfl rfl)
theorem dX3_isText_51 : decode cX3_isText 51 = .ok (.getfield 250, 3) := dk_180 0 250 (dk_at dksX3_isText_2 4 rfl rfl)
theorem dX3_isText_54 : decode cX3_isText 54 = .ok (.aload_n 0, 1) := dk_42 (dk_at dksX3_isText_2 7 rfl rfl)
theorem dX3_isText_55 : decode cX3_isText 55 = .ok (.getfield 234, 3) := dk_180 0 234 (dk_at dksX3_isText_2 8 rfl rfl)
theorem dX3_isText_58 : decode cX3_isText 58 = .ok (.if_icmp .ne 7, 3) := dk_160 0 7 (dk_at dksX3_isText_2 11 rfl rfl)
theorem dX3_isText_61 : decode cX3_isText 61 = .ok (.iconst 1, 1) := dk_4 (dk_at dksX3_isText_2 14 rfl rfl)
theorem dX3_isText_62 : decode cX3_isText 62 = .ok (.goto 4, 3) := dk_167 0 4 (dk_at dksX3_isText_2 15 rfl rfl)
theorem dX3_isText_65 : decode cX3_isText 65 = .ok (.iconst 0, 1) := dk_3 (dk_at dksX3_isText_2 18 rfl rfl)
theorem dX3_isText_66 : decode cX3_isText 66 = .ok (.ireturn, 1) := dk_172 (dk_at dksX3_isText_2 19 rfl rfl)
abbrev cX3_readsCommand : ByteArray := prog_33_method_86_code
def yX3_readsCommand : MethodName := ⟨RX3, "readsCommand", "()Z"⟩
def dkwX3_readsCommand_5 : List UInt8 := [172]
abbrev dktX3_readsCommand_5 : List UInt8 := dkwX3_readsCommand_5 ++ []
def dkwX3_readsCommand_4 : List UInt8 := [6, 42, 180, 1, 13, 104, 5, 96, 42, 180, 0, 253, 79, 42, 89, 180, 1, 13, 4, 96, 181, 1, 13, 4]
abbrev dktX3_readsCommand_4 : List UInt8 := dkwX3_readsCommand_4 ++ dktX3_readsCommand_5
def dkwX3_readsCommand_3 : List UInt8 := [180, 1, 13, 104, 27, 79, 42, 180, 0, 56, 6, 42, 180, 1, 13, 104, 4, 96, 28, 79, 42, 180, 0, 56]
abbrev dktX3_readsCommand_3 : List UInt8 := dkwX3_readsCommand_3 ++ dktX3_readsCommand_4
def dkwX3_readsCommand_2 : List UInt8 := [180, 0, 250, 4, 96, 181, 0, 250, 42, 182, 1, 9, 154, 0, 5, 3, 172, 42, 180, 0, 56, 6, 42]
abbrev dktX3_readsCommand_2 : List UInt8 := dkwX3_readsCommand_2 ++ dktX3_readsCommand_3
def dkwX3_readsCommand_1 : List UInt8 := [42, 180, 0, 253, 61, 27, 6, 163, 0, 33, 42, 182, 1, 0, 16, 32, 159, 0, 5, 3, 172, 42, 89]
abbrev dktX3_readsCommand_1 : List UInt8 := dkwX3_readsCommand_1 ++ dktX3_readsCommand_2
def dkwX3_readsCommand_0 : List UInt8 := [42, 182, 1, 6, 60, 27, 155, 0, 16, 27, 16, 6, 159, 0, 12, 42, 182, 1, 9, 154, 0, 5, 3, 172]
abbrev dktX3_readsCommand_0 : List UInt8 := dkwX3_readsCommand_0 ++ dktX3_readsCommand_1
theorem dksX3_readsCommand_0 : cX3_readsCommand.data.toList.drop 0 = dktX3_readsCommand_0 := by decide +kernel
theorem dksX3_readsCommand_1 : cX3_readsCommand.data.toList.drop 24 = dktX3_readsCommand_1 := dk_seg dksX3_readsCommand_0 24 rfl rfl
theorem dksX3_readsCommand_2 : cX3_readsCommand.data.toList.drop 47 = dktX3_readsCommand_2 := dk_seg dksX3_readsCommand_1 23 rfl rfl
theorem dksX3_readsCommand_3 : cX3_readsCommand.data.toList.drop 70 = dktX3_readsCommand_3 := dk_seg dksX3_readsCommand_2 23 rfl rfl
theorem dksX3_readsCommand_4 : cX3_readsCommand.data.toList.drop 94 = dktX3_readsCommand_4 := dk_seg dksX3_readsCommand_3 24 rfl rfl
theorem dksX3_readsCommand_5 : cX3_readsCommand.data.toList.drop 118 = dktX3_readsCommand_5 := dk_seg dksX3_readsCommand_4 24 rfl rfl
theorem dX3_readsCommand_0 : decode cX3_readsCommand 0 = .ok (.aload_n 0, 1) := dk_42 (dk_at dksX3_readsCommand_0 0 rfl rfl)
theorem dX3_readsCommand_1 : decode cX3_readsCommand 1 = .ok (.invokevirtual 262, 3) := dk_182 1 6 (dk_at dksX3_readsCommand_0 1 rfl rfl)
theorem dX3_readsCommand_4 : decode cX3_readsCommand 4 = .ok (.istore_n 1, 1) := dk_60 (dk_at dksX3_readsCommand_0 4 rfl rfl)
theorem dX3_readsCommand_5 : decode cX3_readsCommand 5 = .ok (.iload_n 1, 1) := dk_27 (dk_at dksX3_readsCommand_0 5 rfl rfl)
theorem dX3_readsCommand_6 : decode cX3_readsCommand 6 = .ok (.ifCond .lt 16, 3) := dk_155 0 16 (dk_at dksX3_readsCommand_0 6 rfl rfl)
theorem dX3_readsCommand_9 : decode cX3_readsCommand 9 = .ok (.iload_n 1, 1) := dk_27 (dk_at dksX3_readsCommand_0 9 rfl rfl)
theorem dX3_readsCommand_10 : decode cX3_readsCommand 10 = .ok (.bipush 6, 2) := dk_16 6 (dk_at dksX3_readsCommand_0 10 rfl rfl)
theorem dX3_readsCommand_12 : decode cX3_readsCommand 12 = .ok (.if_icmp .eq 12, 3) := dk_159 0 12 (dk_at dksX3_readsCommand_0 12 rfl rfl)
theorem dX3_readsCommand_15 : decode cX3_readsCommand 15 = .ok (.aload_n 0, 1) := dk_42 (dk_at dksX3_readsCommand_0 15 rfl rfl)
theorem dX3_readsCommand_16 : decode cX3_readsCommand 16 = .ok (.invokevirtual 265, 3) := dk_182 1 9 (dk_at dksX3_readsCommand_0 16 rfl rfl)
theorem dX3_readsCommand_19 : decode cX3_readsCommand 19 = .ok (.ifCond .ne 5, 3) := dk_154 0 5 (dk_at dksX3_readsCommand_0 19 rfl rfl)
theorem dX3_readsCommand_22 : decode cX3_readsCommand 22 = .ok (.iconst 0, 1) := dk_3 (dk_at dksX3_readsCommand_0 22 rfl rfl)
theorem dX3_readsCommand_23 : decode cX3_readsCommand 23 = .ok (.ireturn, 1) := dk_172 (dk_at dksX3_readsCommand_0 23 rfl rfl)
theorem dX3_readsCommand_24 : decode cX3_readsCommand 24 = .ok (.aload_n 0, 1) := dk_42 (dk_at dksX3_readsCommand_1 0 rfl rfl)
theorem dX3_readsCommand_25 : decode cX3_readsCommand 25 = .ok (.getfield 253, 3) := dk_180 0 253 (dk_at dksX3_readsCommand_1 1 rfl rfl)
theorem dX3_readsCommand_28 : decode cX3_readsCommand 28 = .ok (.istore_n 2, 1) := dk_61 (dk_at dksX3_readsCommand_1 4 rfl rfl)
theorem dX3_readsCommand_29 : decode cX3_readsCommand 29 = .ok (.iload_n 1, 1) := dk_27 (dk_at dksX3_readsCommand_1 5 rfl rfl)
theorem dX3_readsCommand_30 : decode cX3_readsCommand 30 = .ok (.iconst 3, 1) := dk_6 (dk_at dksX3_readsCommand_1 6 rfl rfl)
theorem dX3_readsCommand_31 : decode cX3_readsCommand 31 = .ok (.if_icmp .gt 33, 3) := dk_163 0 33 (dk_at dksX3_readsCommand_1 7 rfl rfl)
theorem dX3_readsCommand_34 : decode cX3_readsCommand 34 = .ok (.aload_n 0, 1) := dk_42 (dk_at dksX3_readsCommand_1 10 rfl rfl)
theorem dX3_readsCommand_35 : decode cX3_readsCommand 35 = .ok (.invokevirtual 256, 3) := dk_182 1 0 (dk_at dksX3_readsCommand_1 11 rfl rfl)
theorem dX3_readsCommand_38 : decode cX3_readsCommand 38 = .ok (.bipush 32, 2) := dk_16 32 (dk_at dksX3_readsCommand_1 14 rfl rfl)
theorem dX3_readsCommand_40 : decode cX3_readsCommand 40 = .ok (.if_icmp .eq 5, 3) := dk_159 0 5 (dk_at dksX3_readsCommand_1 16 rfl rfl)
theorem dX3_readsCommand_43 : decode cX3_readsCommand 43 = .ok (.iconst 0, 1) := dk_3 (dk_at dksX3_readsCommand_1 19 rfl rfl)
theorem dX3_readsCommand_44 : decode cX3_readsCommand 44 = .ok (.ireturn, 1) := dk_172 (dk_at dksX3_readsCommand_1 20 rfl rfl)
theorem dX3_readsCommand_45 : decode cX3_readsCommand 45 = .ok (.aload_n 0, 1) := dk_42 (dk_at dksX3_readsCommand_1 21 rfl rfl)
theorem dX3_readsCommand_46 : decode cX3_readsCommand 46 = .ok (.dup, 1) := dk_89 (dk_at dksX3_readsCommand_1 22 rfl rfl)
theorem dX3_readsCommand_47 : decode cX3_readsCommand 47 = .ok (.getfield 250, 3) := dk_180 0 250 (dk_at dksX3_readsCommand_2 0 rfl rfl)
theorem dX3_readsCommand_50 : decode cX3_readsCommand 50 = .ok (.iconst 1, 1) := dk_4 (dk_at dksX3_readsCommand_2 3 rfl rfl)
theorem dX3_readsCommand_51 : decode cX3_readsCommand 51 = .ok (.iadd, 1) := dk_96 (dk_at dksX3_readsCommand_2 4 rfl rfl)
theorem dX3_readsCommand_52 : decode cX3_readsCommand 52 = .ok (.putfield 250, 3) := dk_181 0 250 (dk_at dksX3_readsCommand_2 5 rfl rfl)
theorem dX3_readsCommand_55 : decode cX3_readsCommand 55 = .ok (.aload_n 0, 1) := dk_42 (dk_at dksX3_readsCommand_2 8 rfl rfl)
theorem dX3_readsCommand_56 : decode cX3_readsCommand 56 = .ok (.invokevirtual 265, 3) := dk_182 1 9 (dk_at dksX3_readsCommand_2 9 rfl rfl)
theorem dX3_readsCommand_59 : decode cX3_readsCommand 59 = .ok (.ifCond .ne 5, 3) := dk_154 0 5 (dk_at dksX3_readsCommand_2 12 rfl rfl)
theorem dX3_readsCommand_62 : decode cX3_readsCommand 62 = .ok (.iconst 0, 1) := dk_3 (dk_at dksX3_readsCommand_2 15 rfl rfl)
theorem dX3_readsCommand_63 : decode cX3_readsCommand 63 = .ok (.ireturn, 1) := dk_172 (dk_at dksX3_readsCommand_2 16 rfl rfl)
theorem dX3_readsCommand_64 : decode cX3_readsCommand 64 = .ok (.aload_n 0, 1) := dk_42 (dk_at dksX3_readsCommand_2 17 rfl rfl)
theorem dX3_readsCommand_65 : decode cX3_readsCommand 65 = .ok (.getfield 56, 3) := dk_180 0 56 (dk_at dksX3_readsCommand_2 18 rfl rfl)
theorem dX3_readsCommand_68 : decode cX3_readsCommand 68 = .ok (.iconst 3, 1) := dk_6 (dk_at dksX3_readsCommand_2 21 rfl rfl)
theorem dX3_readsCommand_69 : decode cX3_readsCommand 69 = .ok (.aload_n 0, 1) := dk_42 (dk_at dksX3_readsCommand_2 22 rfl rfl)
theorem dX3_readsCommand_70 : decode cX3_readsCommand 70 = .ok (.getfield 269, 3) := dk_180 1 13 (dk_at dksX3_readsCommand_3 0 rfl rfl)
theorem dX3_readsCommand_73 : decode cX3_readsCommand 73 = .ok (.imul, 1) := dk_104 (dk_at dksX3_readsCommand_3 3 rfl rfl)
theorem dX3_readsCommand_74 : decode cX3_readsCommand 74 = .ok (.iload_n 1, 1) := dk_27 (dk_at dksX3_readsCommand_3 4 rfl rfl)
theorem dX3_readsCommand_75 : decode cX3_readsCommand 75 = .ok (.iastore, 1) := dk_79 (dk_at dksX3_readsCommand_3 5 rfl rfl)
theorem dX3_readsCommand_76 : decode cX3_readsCommand 76 = .ok (.aload_n 0, 1) := dk_42 (dk_at dksX3_readsCommand_3 6 rfl rfl)
theorem dX3_readsCommand_77 : decode cX3_readsCommand 77 = .ok (.getfield 56, 3) := dk_180 0 56 (dk_at dksX3_readsCommand_3 7 rfl rfl)
theorem dX3_readsCommand_80 : decode cX3_readsCommand 80 = .ok (.iconst 3, 1) := dk_6 (dk_at dksX3_readsCommand_3 10 rfl rfl)
theorem dX3_readsCommand_81 : decode cX3_readsCommand 81 = .ok (.aload_n 0, 1) := dk_42 (dk_at dksX3_readsCommand_3 11 rfl rfl)
theorem dX3_readsCommand_82 : decode cX3_readsCommand 82 = .ok (.getfield 269, 3) := dk_180 1 13 (dk_at dksX3_readsCommand_3 12 rfl rfl)
theorem dX3_readsCommand_85 : decode cX3_readsCommand 85 = .ok (.imul, 1) := dk_104 (dk_at dksX3_readsCommand_3 15 rfl rfl)
theorem dX3_readsCommand_86 : decode cX3_readsCommand 86 = .ok (.iconst 1, 1) := dk_4 (dk_at dksX3_readsCommand_3 16 rfl rfl)
theorem dX3_readsCommand_87 : decode cX3_readsCommand 87 = .ok (.iadd, 1) := dk_96 (dk_at dksX3_readsCommand_3 17 rfl rfl)
theorem dX3_readsCommand_88 : decode cX3_readsCommand 88 = .ok (.iload_n 2, 1) := dk_28 (dk_at dksX3_readsCommand_3 18 rfl rfl)
theorem dX3_readsCommand_89 : decode cX3_readsCommand 89 = .ok (.iastore, 1) := dk_79 (dk_at dksX3_readsCommand_3 19 rfl rfl)
theorem dX3_readsCommand_90 : decode cX3_readsCommand 90 = .ok (.aload_n 0, 1) := dk_42 (dk_at dksX3_readsCommand_3 20 rfl rfl)
theorem dX3_readsCommand_91 : decode cX3_readsCommand 91 = .ok (.getfield 56, 3) := dk_180 0 56 (dk_at dksX3_readsCommand_3 21 rfl rfl)
theorem dX3_readsCommand_94 : decode cX3_readsCommand 94 = .ok (.iconst 3, 1) := dk_6 (dk_at dksX3_readsCommand_4 0 rfl rfl)
theorem dX3_readsCommand_95 : decode cX3_readsCommand 95 = .ok (.aload_n 0, 1) := dk_42 (dk_at dksX3_readsCommand_4 1 rfl rfl)
theorem dX3_readsCommand_96 : decode cX3_readsCommand 96 = .ok (.getfield 269, 3) := dk_180 1 13 (dk_at dksX3_readsCommand_4 2 rfl rfl)
theorem dX3_readsCommand_99 : decode cX3_readsCommand 99 = .ok (.imul, 1) := dk_104 (dk_at dksX3_readsCommand_4 5 rfl rfl)
theorem dX3_readsCommand_100 : decode cX3_readsCommand 100 = .ok (.iconst 2, 1) := dk_5 (dk_at dksX3_readsCommand_4 6 rfl rfl)
theorem dX3_readsCommand_101 : decode cX3_readsCommand 101 = .ok (.iadd, 1) := dk_96 (dk_at dksX3_readsCommand_4 7 rfl rfl)
theorem dX3_readsCommand_102 : decode cX3_readsCommand 102 = .ok (.aload_n 0, 1) := dk_42 (dk_at dksX3_readsCommand_4 8 rfl rfl)
theorem dX3_readsCommand_103 : decode cX3_readsCommand 103 = .ok (.getfield 253, 3) := dk_180 0 253 (dk_at dksX3_readsCommand_4 9 rfl rfl)
theorem dX3_readsCommand_106 : decode cX3_readsCommand 106 = .ok (.iastore, 1) := dk_79 (dk_at dksX3_readsCommand_4 12 rfl rfl)
theorem dX3_readsCommand_107 : decode cX3_readsCommand 107 = .ok (.aload_n 0, 1) := dk_42 (dk_at dksX3_readsCommand_4 13 rfl rfl)
theorem dX3_readsCommand_108 : decode cX3_readsCommand 108 = .ok (.dup, 1) := dk_89 (dk_at dksX3_readsCommand_4 14 rfl rfl)
theorem dX3_readsCommand_109 : decode cX3_readsCommand 109 = .ok (.getfield 269, 3) := dk_180 1 13 (dk_at dksX3_readsCommand_4 15 rfl rfl)
theorem dX3_readsCommand_112 : decode cX3_readsCommand 112 = .ok (.iconst 1, 1) := dk_4 (dk_at dksX3_readsCommand_4 18 rfl rfl)
theorem dX3_readsCommand_113 : decode cX3_readsCommand 113 = .ok (.iadd, 1) := dk_96 (dk_at dksX3_readsCommand_4 19 rfl rfl)
theorem dX3_readsCommand_114 : decode cX3_readsCommand 114 = .ok (.putfield 269, 3) := dk_181 1 13 (dk_at dksX3_readsCommand_4 20 rfl rfl)
theorem dX3_readsCommand_117 : decode cX3_readsCommand 117 = .ok (.iconst 1, 1) := dk_4 (dk_at dksX3_readsCommand_4 23 rfl rfl)
theorem dX3_readsCommand_118 : decode cX3_readsCommand 118 = .ok (.ireturn, 1) := dk_172 (dk_at dksX3_readsCommand_5 0 rfl rfl)
abbrev cX3_readsWord : ByteArray := prog_33_method_85_code
def yX3_readsWord : MethodName := ⟨RX3, "readsWord", "()I"⟩
def dkwX3_readsWord_3 : List UInt8 := [4, 96, 181, 0, 250, 132, 2, 1, 167, 255, 211, 27, 172, 132, 1, 1, 167, 255, 172, 2, 172]
abbrev dktX3_readsWord_3 : List UInt8 := dkwX3_readsWord_3 ++ []
def dkwX3_readsWord_2 : List UInt8 := [42, 182, 1, 0, 42, 180, 0, 49, 27, 50, 28, 182, 0, 246, 159, 0, 5, 2, 172, 42, 89, 180, 0, 250]
abbrev dktX3_readsWord_2 : List UInt8 := dkwX3_readsWord_2 ++ dktX3_readsWord_3
def dkwX3_readsWord_1 : List UInt8 := [182, 0, 246, 159, 0, 6, 167, 0, 55, 3, 61, 28, 42, 180, 0, 49, 27, 50, 182, 1, 3, 162, 0, 38]
abbrev dktX3_readsWord_1 : List UInt8 := dkwX3_readsWord_1 ++ dktX3_readsWord_2
def dkwX3_readsWord_0 : List UInt8 := [3, 60, 27, 42, 180, 0, 49, 190, 162, 0, 81, 42, 182, 1, 0, 42, 180, 0, 49, 27, 50, 3]
abbrev dktX3_readsWord_0 : List UInt8 := dkwX3_readsWord_0 ++ dktX3_readsWord_1
theorem dksX3_readsWord_0 : cX3_readsWord.data.toList.drop 0 = dktX3_readsWord_0 := by decide +kernel
theorem dksX3_readsWord_1 : cX3_readsWord.data.toList.drop 22 = dktX3_readsWord_1 := dk_seg dksX3_readsWord_0 22 rfl rfl
theorem dksX3_readsWord_2 : cX3_readsWord.data.toList.drop 46 = dktX3_readsWord_2 := dk_seg dksX3_readsWord_1 24 rfl rfl
theorem dksX3_readsWord_3 : cX3_readsWord.data.toList.drop 70 = dktX3_readsWord_3 := dk_seg dksX3_readsWord_2 24 rfl rfl
theorem dX3_readsWord_0 : decode cX3_readsWord 0 = .ok (.iconst 0, 1) := dk_3 (dk_at dksX3_readsWord_0 0 rfl rfl)
theorem dX3_readsWord_1 : decode cX3_readsWord 1 = .ok (.istore_n 1, 1) := dk_60 (dk_at dksX3_readsWord_0 1 rfl rfl)
theorem dX3_readsWord_2 : decode cX3_readsWord 2 = .ok (.iload_n 1, 1) := dk_27 (dk_at dksX3_readsWord_0 2 rfl rfl)
theorem dX3_readsWord_3 : decode cX3_readsWord 3 = .ok (.aload_n 0, 1) := dk_42 (dk_at dksX3_readsWord_0 3 rfl rfl)
theorem dX3_readsWord_4 : decode cX3_readsWord 4 = .ok (.getfield 49, 3) := dk_180 0 49 (dk_at dksX3_readsWord_0 4 rfl rfl)
theorem dX3_readsWord_7 : decode cX3_readsWord 7 = .ok (.arraylength, 1) := dk_190 (dk_at dksX3_readsWord_0 7 rfl rfl)
theorem dX3_readsWord_8 : decode cX3_readsWord 8 = .ok (.if_icmp .ge 81, 3) := dk_162 0 81 (dk_at dksX3_readsWord_0 8 rfl rfl)
theorem dX3_readsWord_11 : decode cX3_readsWord 11 = .ok (.aload_n 0, 1) := dk_42 (dk_at dksX3_readsWord_0 11 rfl rfl)
theorem dX3_readsWord_12 : decode cX3_readsWord 12 = .ok (.invokevirtual 256, 3) := dk_182 1 0 (dk_at dksX3_readsWord_0 12 rfl rfl)
theorem dX3_readsWord_15 : decode cX3_readsWord 15 = .ok (.aload_n 0, 1) := dk_42 (dk_at dksX3_readsWord_0 15 rfl rfl)
theorem dX3_readsWord_16 : decode cX3_readsWord 16 = .ok (.getfield 49, 3) := dk_180 0 49 (dk_at dksX3_readsWord_0 16 rfl rfl)
theorem dX3_readsWord_19 : decode cX3_readsWord 19 = .ok (.iload_n 1, 1) := dk_27 (dk_at dksX3_readsWord_0 19 rfl rfl)
theorem dX3_readsWord_20 : decode cX3_readsWord 20 = .ok (.aaload, 1) := dk_50 (dk_at dksX3_readsWord_0 20 rfl rfl)
theorem dX3_readsWord_21 : decode cX3_readsWord 21 = .ok (.iconst 0, 1) := dk_3 (dk_at dksX3_readsWord_0 21 rfl rfl)
theorem dX3_readsWord_22 : decode cX3_readsWord 22 = .ok (.invokevirtual 246, 3) := dk_182 0 246 (dk_at dksX3_readsWord_1 0 rfl rfl)
theorem dX3_readsWord_25 : decode cX3_readsWord 25 = .ok (.if_icmp .eq 6, 3) := dk_159 0 6 (dk_at dksX3_readsWord_1 3 rfl rfl)
theorem dX3_readsWord_28 : decode cX3_readsWord 28 = .ok (.goto 55, 3) := dk_167 0 55 (dk_at dksX3_readsWord_1 6 rfl rfl)
theorem dX3_readsWord_31 : decode cX3_readsWord 31 = .ok (.iconst 0, 1) := dk_3 (dk_at dksX3_readsWord_1 9 rfl rfl)
theorem dX3_readsWord_32 : decode cX3_readsWord 32 = .ok (.istore_n 2, 1) := dk_61 (dk_at dksX3_readsWord_1 10 rfl rfl)
theorem dX3_readsWord_33 : decode cX3_readsWord 33 = .ok (.iload_n 2, 1) := dk_28 (dk_at dksX3_readsWord_1 11 rfl rfl)
theorem dX3_readsWord_34 : decode cX3_readsWord 34 = .ok (.aload_n 0, 1) := dk_42 (dk_at dksX3_readsWord_1 12 rfl rfl)
theorem dX3_readsWord_35 : decode cX3_readsWord 35 = .ok (.getfield 49, 3) := dk_180 0 49 (dk_at dksX3_readsWord_1 13 rfl rfl)
theorem dX3_readsWord_38 : decode cX3_readsWord 38 = .ok (.iload_n 1, 1) := dk_27 (dk_at dksX3_readsWord_1 16 rfl rfl)
theorem dX3_readsWord_39 : decode cX3_readsWord 39 = .ok (.aaload, 1) := dk_50 (dk_at dksX3_readsWord_1 17 rfl rfl)
theorem dX3_readsWord_40 : decode cX3_readsWord 40 = .ok (.invokevirtual 259, 3) := dk_182 1 3 (dk_at dksX3_readsWord_1 18 rfl rfl)
theorem dX3_readsWord_43 : decode cX3_readsWord 43 = .ok (.if_icmp .ge 38, 3) := dk_162 0 38 (dk_at dksX3_readsWord_1 21 rfl rfl)
theorem dX3_readsWord_46 : decode cX3_readsWord 46 = .ok (.aload_n 0, 1) := dk_42 (dk_at dksX3_readsWord_2 0 rfl rfl)
theorem dX3_readsWord_47 : decode cX3_readsWord 47 = .ok (.invokevirtual 256, 3) := dk_182 1 0 (dk_at dksX3_readsWord_2 1 rfl rfl)
theorem dX3_readsWord_50 : decode cX3_readsWord 50 = .ok (.aload_n 0, 1) := dk_42 (dk_at dksX3_readsWord_2 4 rfl rfl)
theorem dX3_readsWord_51 : decode cX3_readsWord 51 = .ok (.getfield 49, 3) := dk_180 0 49 (dk_at dksX3_readsWord_2 5 rfl rfl)
theorem dX3_readsWord_54 : decode cX3_readsWord 54 = .ok (.iload_n 1, 1) := dk_27 (dk_at dksX3_readsWord_2 8 rfl rfl)
theorem dX3_readsWord_55 : decode cX3_readsWord 55 = .ok (.aaload, 1) := dk_50 (dk_at dksX3_readsWord_2 9 rfl rfl)
theorem dX3_readsWord_56 : decode cX3_readsWord 56 = .ok (.iload_n 2, 1) := dk_28 (dk_at dksX3_readsWord_2 10 rfl rfl)
theorem dX3_readsWord_57 : decode cX3_readsWord 57 = .ok (.invokevirtual 246, 3) := dk_182 0 246 (dk_at dksX3_readsWord_2 11 rfl rfl)
theorem dX3_readsWord_60 : decode cX3_readsWord 60 = .ok (.if_icmp .eq 5, 3) := dk_159 0 5 (dk_at dksX3_readsWord_2 14 rfl rfl)
theorem dX3_readsWord_63 : decode cX3_readsWord 63 = .ok (.iconst (-1), 1) := dk_2 (dk_at dksX3_readsWord_2 17 rfl rfl)
theorem dX3_readsWord_64 : decode cX3_readsWord 64 = .ok (.ireturn, 1) := dk_172 (dk_at dksX3_readsWord_2 18 rfl rfl)
theorem dX3_readsWord_65 : decode cX3_readsWord 65 = .ok (.aload_n 0, 1) := dk_42 (dk_at dksX3_readsWord_2 19 rfl rfl)
theorem dX3_readsWord_66 : decode cX3_readsWord 66 = .ok (.dup, 1) := dk_89 (dk_at dksX3_readsWord_2 20 rfl rfl)
theorem dX3_readsWord_67 : decode cX3_readsWord 67 = .ok (.getfield 250, 3) := dk_180 0 250 (dk_at dksX3_readsWord_2 21 rfl rfl)
theorem dX3_readsWord_70 : decode cX3_readsWord 70 = .ok (.iconst 1, 1) := dk_4 (dk_at dksX3_readsWord_3 0 rfl rfl)
theorem dX3_readsWord_71 : decode cX3_readsWord 71 = .ok (.iadd, 1) := dk_96 (dk_at dksX3_readsWord_3 1 rfl rfl)
theorem dX3_readsWord_72 : decode cX3_readsWord 72 = .ok (.putfield 250, 3) := dk_181 0 250 (dk_at dksX3_readsWord_3 2 rfl rfl)
theorem dX3_readsWord_75 : decode cX3_readsWord 75 = .ok (.iinc 2 1, 3) := dk_132 2 1 (dk_at dksX3_readsWord_3 5 rfl rfl)
theorem dX3_readsWord_78 : decode cX3_readsWord 78 = .ok (.goto (-45), 3) := dk_167 255 211 (dk_at dksX3_readsWord_3 8 rfl rfl)
theorem dX3_readsWord_81 : decode cX3_readsWord 81 = .ok (.iload_n 1, 1) := dk_27 (dk_at dksX3_readsWord_3 11 rfl rfl)
theorem dX3_readsWord_82 : decode cX3_readsWord 82 = .ok (.ireturn, 1) := dk_172 (dk_at dksX3_readsWord_3 12 rfl rfl)
theorem dX3_readsWord_83 : decode cX3_readsWord 83 = .ok (.iinc 1 1, 3) := dk_132 1 1 (dk_at dksX3_readsWord_3 13 rfl rfl)
theorem dX3_readsWord_86 : decode cX3_readsWord 86 = .ok (.goto (-84), 3) := dk_167 255 172 (dk_at dksX3_readsWord_3 16 rfl rfl)
theorem dX3_readsWord_89 : decode cX3_readsWord 89 = .ok (.iconst (-1), 1) := dk_2 (dk_at dksX3_readsWord_3 19 rfl rfl)
theorem dX3_readsWord_90 : decode cX3_readsWord 90 = .ok (.ireturn, 1) := dk_172 (dk_at dksX3_readsWord_3 20 rfl rfl)
abbrev cX3_letter : ByteArray := prog_33_method_83_code
def yX3_letter : MethodName := ⟨RX3, "letter", "()I"⟩
def dkwX3_letter_1 : List UInt8 := [172]
abbrev dktX3_letter_1 : List UInt8 := dkwX3_letter_1 ++ []
def dkwX3_letter_0 : List UInt8 := [42, 180, 0, 250, 42, 180, 0, 234, 162, 0, 15, 42, 180, 0, 53, 42, 180, 0, 250, 46, 167, 0, 4, 2]
abbrev dktX3_letter_0 : List UInt8 := dkwX3_letter_0 ++ dktX3_letter_1
theorem dksX3_letter_0 : cX3_letter.data.toList.drop 0 = dktX3_letter_0 := by decide +kernel
theorem dksX3_letter_1 : cX3_letter.data.toList.drop 24 = dktX3_letter_1 := dk_seg dksX3_letter_0 24 rfl rfl
theorem dX3_letter_0 : decode cX3_letter 0 = .ok (.aload_n 0, 1) := dk_42 (dk_at dksX3_letter_0 0 rfl rfl)
theorem dX3_letter_1 : decode cX3_letter 1 = .ok (.getfield 250, 3) := dk_180 0 250 (dk_at dksX3_letter_0 1 rfl rfl)
theorem dX3_letter_4 : decode cX3_letter 4 = .ok (.aload_n 0, 1) := dk_42 (dk_at dksX3_letter_0 4 rfl rfl)
theorem dX3_letter_5 : decode cX3_letter 5 = .ok (.getfield 234, 3) := dk_180 0 234 (dk_at dksX3_letter_0 5 rfl rfl)
theorem dX3_letter_8 : decode cX3_letter 8 = .ok (.if_icmp .ge 15, 3) := dk_162 0 15 (dk_at dksX3_letter_0 8 rfl rfl)
theorem dX3_letter_11 : decode cX3_letter 11 = .ok (.aload_n 0, 1) := dk_42 (dk_at dksX3_letter_0 11 rfl rfl)
theorem dX3_letter_12 : decode cX3_letter 12 = .ok (.getfield 53, 3) := dk_180 0 53 (dk_at dksX3_letter_0 12 rfl rfl)
theorem dX3_letter_15 : decode cX3_letter 15 = .ok (.aload_n 0, 1) := dk_42 (dk_at dksX3_letter_0 15 rfl rfl)
theorem dX3_letter_16 : decode cX3_letter 16 = .ok (.getfield 250, 3) := dk_180 0 250 (dk_at dksX3_letter_0 16 rfl rfl)
theorem dX3_letter_19 : decode cX3_letter 19 = .ok (.iaload, 1) := dk_46 (dk_at dksX3_letter_0 19 rfl rfl)
theorem dX3_letter_20 : decode cX3_letter 20 = .ok (.goto 4, 3) := dk_167 0 4 (dk_at dksX3_letter_0 20 rfl rfl)
theorem dX3_letter_23 : decode cX3_letter 23 = .ok (.iconst (-1), 1) := dk_2 (dk_at dksX3_letter_0 23 rfl rfl)
theorem dX3_letter_24 : decode cX3_letter 24 = .ok (.ireturn, 1) := dk_172 (dk_at dksX3_letter_1 0 rfl rfl)
abbrev cX3_readsNumber : ByteArray := prog_33_method_84_code
def yX3_readsNumber : MethodName := ⟨RX3, "readsNumber", "()Z"⟩
def dkwX3_readsNumber_2 : List UInt8 := [180, 0, 250, 4, 96, 181, 0, 250, 132, 1, 1, 167, 255, 205, 27, 158, 0, 7, 4, 167, 0, 4, 3, 172]
abbrev dktX3_readsNumber_2 : List UInt8 := dkwX3_readsNumber_2 ++ []
def dkwX3_readsNumber_1 : List UInt8 := [153, 0, 38, 42, 16, 10, 42, 180, 0, 253, 104, 42, 182, 1, 0, 96, 16, 48, 100, 181, 0, 253, 42, 89]
abbrev dktX3_readsNumber_1 : List UInt8 := dkwX3_readsNumber_1 ++ dktX3_readsNumber_2
def dkwX3_readsNumber_0 : List UInt8 := [42, 3, 181, 0, 253, 3, 60, 27, 5, 162, 0, 52, 42, 182, 1, 0, 16, 48, 16, 57, 184, 0, 81]
abbrev dktX3_readsNumber_0 : List UInt8 := dkwX3_readsNumber_0 ++ dktX3_readsNumber_1
theorem dksX3_readsNumber_0 : cX3_readsNumber.data.toList.drop 0 = dktX3_readsNumber_0 := by decide +kernel
theorem dksX3_readsNumber_1 : cX3_readsNumber.data.toList.drop 23 = dktX3_readsNumber_1 := dk_seg dksX3_readsNumber_0 23 rfl rfl
theorem dksX3_readsNumber_2 : cX3_readsNumber.data.toList.drop 47 = dktX3_readsNumber_2 := dk_seg dksX3_readsNumber_1 24 rfl rfl
theorem dX3_readsNumber_0 : decode cX3_readsNumber 0 = .ok (.aload_n 0, 1) := dk_42 (dk_at dksX3_readsNumber_0 0 rfl rfl)
theorem dX3_readsNumber_1 : decode cX3_readsNumber 1 = .ok (.iconst 0, 1) := dk_3 (dk_at dksX3_readsNumber_0 1 rfl rfl)
theorem dX3_readsNumber_2 : decode cX3_readsNumber 2 = .ok (.putfield 253, 3) := dk_181 0 253 (dk_at dksX3_readsNumber_0 2 rfl rfl)
theorem dX3_readsNumber_5 : decode cX3_readsNumber 5 = .ok (.iconst 0, 1) := dk_3 (dk_at dksX3_readsNumber_0 5 rfl rfl)
theorem dX3_readsNumber_6 : decode cX3_readsNumber 6 = .ok (.istore_n 1, 1) := dk_60 (dk_at dksX3_readsNumber_0 6 rfl rfl)
theorem dX3_readsNumber_7 : decode cX3_readsNumber 7 = .ok (.iload_n 1, 1) := dk_27 (dk_at dksX3_readsNumber_0 7 rfl rfl)
theorem dX3_readsNumber_8 : decode cX3_readsNumber 8 = .ok (.iconst 2, 1) := dk_5 (dk_at dksX3_readsNumber_0 8 rfl rfl)
theorem dX3_readsNumber_9 : decode cX3_readsNumber 9 = .ok (.if_icmp .ge 52, 3) := dk_162 0 52 (dk_at dksX3_readsNumber_0 9 rfl rfl)
theorem dX3_readsNumber_12 : decode cX3_readsNumber 12 = .ok (.aload_n 0, 1) := dk_42 (dk_at dksX3_readsNumber_0 12 rfl rfl)
theorem dX3_readsNumber_13 : decode cX3_readsNumber 13 = .ok (.invokevirtual 256, 3) := dk_182 1 0 (dk_at dksX3_readsNumber_0 13 rfl rfl)
theorem dX3_readsNumber_16 : decode cX3_readsNumber 16 = .ok (.bipush 48, 2) := dk_16 48 (dk_at dksX3_readsNumber_0 16 rfl rfl)
theorem dX3_readsNumber_18 : decode cX3_readsNumber 18 = .ok (.bipush 57, 2) := dk_16 57 (dk_at dksX3_readsNumber_0 18 rfl rfl)
theorem dX3_readsNumber_20 : decode cX3_readsNumber 20 = .ok (.invokestatic 81, 3) := dk_184 0 81 (dk_at dksX3_readsNumber_0 20 rfl rfl)
theorem dX3_readsNumber_23 : decode cX3_readsNumber 23 = .ok (.ifCond .eq 38, 3) := dk_153 0 38 (dk_at dksX3_readsNumber_1 0 rfl rfl)
theorem dX3_readsNumber_26 : decode cX3_readsNumber 26 = .ok (.aload_n 0, 1) := dk_42 (dk_at dksX3_readsNumber_1 3 rfl rfl)
theorem dX3_readsNumber_27 : decode cX3_readsNumber 27 = .ok (.bipush 10, 2) := dk_16 10 (dk_at dksX3_readsNumber_1 4 rfl rfl)
theorem dX3_readsNumber_29 : decode cX3_readsNumber 29 = .ok (.aload_n 0, 1) := dk_42 (dk_at dksX3_readsNumber_1 6 rfl rfl)
theorem dX3_readsNumber_30 : decode cX3_readsNumber 30 = .ok (.getfield 253, 3) := dk_180 0 253 (dk_at dksX3_readsNumber_1 7 rfl rfl)
theorem dX3_readsNumber_33 : decode cX3_readsNumber 33 = .ok (.imul, 1) := dk_104 (dk_at dksX3_readsNumber_1 10 rfl rfl)
theorem dX3_readsNumber_34 : decode cX3_readsNumber 34 = .ok (.aload_n 0, 1) := dk_42 (dk_at dksX3_readsNumber_1 11 rfl rfl)
theorem dX3_readsNumber_35 : decode cX3_readsNumber 35 = .ok (.invokevirtual 256, 3) := dk_182 1 0 (dk_at dksX3_readsNumber_1 12 rfl rfl)
theorem dX3_readsNumber_38 : decode cX3_readsNumber 38 = .ok (.iadd, 1) := dk_96 (dk_at dksX3_readsNumber_1 15 rfl rfl)
theorem dX3_readsNumber_39 : decode cX3_readsNumber 39 = .ok (.bipush 48, 2) := dk_16 48 (dk_at dksX3_readsNumber_1 16 rfl rfl)
theorem dX3_readsNumber_41 : decode cX3_readsNumber 41 = .ok (.isub, 1) := dk_100 (dk_at dksX3_readsNumber_1 18 rfl rfl)
theorem dX3_readsNumber_42 : decode cX3_readsNumber 42 = .ok (.putfield 253, 3) := dk_181 0 253 (dk_at dksX3_readsNumber_1 19 rfl rfl)
theorem dX3_readsNumber_45 : decode cX3_readsNumber 45 = .ok (.aload_n 0, 1) := dk_42 (dk_at dksX3_readsNumber_1 22 rfl rfl)
theorem dX3_readsNumber_46 : decode cX3_readsNumber 46 = .ok (.dup, 1) := dk_89 (dk_at dksX3_readsNumber_1 23 rfl rfl)
theorem dX3_readsNumber_47 : decode cX3_readsNumber 47 = .ok (.getfield 250, 3) := dk_180 0 250 (dk_at dksX3_readsNumber_2 0 rfl rfl)
theorem dX3_readsNumber_50 : decode cX3_readsNumber 50 = .ok (.iconst 1, 1) := dk_4 (dk_at dksX3_readsNumber_2 3 rfl rfl)
theorem dX3_readsNumber_51 : decode cX3_readsNumber 51 = .ok (.iadd, 1) := dk_96 (dk_at dksX3_readsNumber_2 4 rfl rfl)
theorem dX3_readsNumber_52 : decode cX3_readsNumber 52 = .ok (.putfield 250, 3) := dk_181 0 250 (dk_at dksX3_readsNumber_2 5 rfl rfl)
theorem dX3_readsNumber_55 : decode cX3_readsNumber 55 = .ok (.iinc 1 1, 3) := dk_132 1 1 (dk_at dksX3_readsNumber_2 8 rfl rfl)
theorem dX3_readsNumber_58 : decode cX3_readsNumber 58 = .ok (.goto (-51), 3) := dk_167 255 205 (dk_at dksX3_readsNumber_2 11 rfl rfl)
theorem dX3_readsNumber_61 : decode cX3_readsNumber 61 = .ok (.iload_n 1, 1) := dk_27 (dk_at dksX3_readsNumber_2 14 rfl rfl)
theorem dX3_readsNumber_62 : decode cX3_readsNumber 62 = .ok (.ifCond .le 7, 3) := dk_158 0 7 (dk_at dksX3_readsNumber_2 15 rfl rfl)
theorem dX3_readsNumber_65 : decode cX3_readsNumber 65 = .ok (.iconst 1, 1) := dk_4 (dk_at dksX3_readsNumber_2 18 rfl rfl)
theorem dX3_readsNumber_66 : decode cX3_readsNumber 66 = .ok (.goto 4, 3) := dk_167 0 4 (dk_at dksX3_readsNumber_2 19 rfl rfl)
theorem dX3_readsNumber_69 : decode cX3_readsNumber 69 = .ok (.iconst 0, 1) := dk_3 (dk_at dksX3_readsNumber_2 22 rfl rfl)
theorem dX3_readsNumber_70 : decode cX3_readsNumber 70 = .ok (.ireturn, 1) := dk_172 (dk_at dksX3_readsNumber_2 23 rfl rfl)
abbrev cX3_does : ByteArray := prog_33_method_89_code
def yX3_does : MethodName := ⟨RX3, "does", "(III)I"⟩
def dkwX3_does_4 : List UInt8 := [28, 182, 0, 218, 172]
abbrev dktX3_does_4 : List UInt8 := dkwX3_does_4 ++ []
def dkwX3_does_3 : List UInt8 := [28, 29, 182, 1, 19, 172, 42, 28, 182, 0, 177, 172, 42, 28, 182, 0, 180, 172, 42, 182, 0, 202, 172, 42]
abbrev dktX3_does_3 : List UInt8 := dkwX3_does_3 ++ dktX3_does_4
def dkwX3_does_2 : List UInt8 := [42, 28, 27, 154, 0, 7, 4, 167, 0, 4, 3, 29, 182, 0, 125, 172, 42, 28, 29, 182, 0, 152, 172, 42]
abbrev dktX3_does_2 : List UInt8 := dkwX3_does_2 ++ dktX3_does_3
def dkwX3_does_1 : List UInt8 := [170, 0, 0, 0, 0, 0, 90, 0, 0, 0, 0, 0, 0, 0, 6, 0, 0, 0, 43, 0, 0, 0, 43, 0, 0, 0, 59, 0, 0, 0, 66, 0, 0, 0, 73, 0, 0, 0, 79, 0, 0, 0, 85]
abbrev dktX3_does_1 : List UInt8 := dkwX3_does_1 ++ dktX3_does_2
def dkwX3_does_0 : List UInt8 := [27]
abbrev dktX3_does_0 : List UInt8 := dkwX3_does_0 ++ dktX3_does_1
theorem dksX3_does_0 : cX3_does.data.toList.drop 0 = dktX3_does_0 := by decide +kernel
theorem dksX3_does_1 : cX3_does.data.toList.drop 1 = dktX3_does_1 := dk_seg dksX3_does_0 1 rfl rfl
theorem dksX3_does_2 : cX3_does.data.toList.drop 44 = dktX3_does_2 := dk_seg dksX3_does_1 43 rfl rfl
theorem dksX3_does_3 : cX3_does.data.toList.drop 68 = dktX3_does_3 := dk_seg dksX3_does_2 24 rfl rfl
theorem dksX3_does_4 : cX3_does.data.toList.drop 92 = dktX3_does_4 := dk_seg dksX3_does_3 24 rfl rfl
theorem dX3_does_0 : decode cX3_does 0 = .ok (.iload_n 1, 1) := dk_27 (dk_at dksX3_does_0 0 rfl rfl)
theorem dX3_does_1 : decode cX3_does 1 = .ok (.tableswitch 90 0 6 #[43, 43, 59, 66, 73, 79, 85], 43) := by decide +kernel
theorem dX3_does_44 : decode cX3_does 44 = .ok (.aload_n 0, 1) := dk_42 (dk_at dksX3_does_2 0 rfl rfl)
theorem dX3_does_45 : decode cX3_does 45 = .ok (.iload_n 2, 1) := dk_28 (dk_at dksX3_does_2 1 rfl rfl)
theorem dX3_does_46 : decode cX3_does 46 = .ok (.iload_n 1, 1) := dk_27 (dk_at dksX3_does_2 2 rfl rfl)
theorem dX3_does_47 : decode cX3_does 47 = .ok (.ifCond .ne 7, 3) := dk_154 0 7 (dk_at dksX3_does_2 3 rfl rfl)
theorem dX3_does_50 : decode cX3_does 50 = .ok (.iconst 1, 1) := dk_4 (dk_at dksX3_does_2 6 rfl rfl)
theorem dX3_does_51 : decode cX3_does 51 = .ok (.goto 4, 3) := dk_167 0 4 (dk_at dksX3_does_2 7 rfl rfl)
theorem dX3_does_54 : decode cX3_does 54 = .ok (.iconst 0, 1) := dk_3 (dk_at dksX3_does_2 10 rfl rfl)
theorem dX3_does_55 : decode cX3_does 55 = .ok (.iload_n 3, 1) := dk_29 (dk_at dksX3_does_2 11 rfl rfl)
theorem dX3_does_56 : decode cX3_does 56 = .ok (.invokevirtual 125, 3) := dk_182 0 125 (dk_at dksX3_does_2 12 rfl rfl)
theorem dX3_does_59 : decode cX3_does 59 = .ok (.ireturn, 1) := dk_172 (dk_at dksX3_does_2 15 rfl rfl)
theorem dX3_does_60 : decode cX3_does 60 = .ok (.aload_n 0, 1) := dk_42 (dk_at dksX3_does_2 16 rfl rfl)
theorem dX3_does_61 : decode cX3_does 61 = .ok (.iload_n 2, 1) := dk_28 (dk_at dksX3_does_2 17 rfl rfl)
theorem dX3_does_62 : decode cX3_does 62 = .ok (.iload_n 3, 1) := dk_29 (dk_at dksX3_does_2 18 rfl rfl)
theorem dX3_does_63 : decode cX3_does 63 = .ok (.invokevirtual 152, 3) := dk_182 0 152 (dk_at dksX3_does_2 19 rfl rfl)
theorem dX3_does_66 : decode cX3_does 66 = .ok (.ireturn, 1) := dk_172 (dk_at dksX3_does_2 22 rfl rfl)
theorem dX3_does_67 : decode cX3_does 67 = .ok (.aload_n 0, 1) := dk_42 (dk_at dksX3_does_2 23 rfl rfl)
theorem dX3_does_68 : decode cX3_does 68 = .ok (.iload_n 2, 1) := dk_28 (dk_at dksX3_does_3 0 rfl rfl)
theorem dX3_does_69 : decode cX3_does 69 = .ok (.iload_n 3, 1) := dk_29 (dk_at dksX3_does_3 1 rfl rfl)
theorem dX3_does_70 : decode cX3_does 70 = .ok (.invokevirtual 275, 3) := dk_182 1 19 (dk_at dksX3_does_3 2 rfl rfl)
theorem dX3_does_73 : decode cX3_does 73 = .ok (.ireturn, 1) := dk_172 (dk_at dksX3_does_3 5 rfl rfl)
theorem dX3_does_74 : decode cX3_does 74 = .ok (.aload_n 0, 1) := dk_42 (dk_at dksX3_does_3 6 rfl rfl)
theorem dX3_does_75 : decode cX3_does 75 = .ok (.iload_n 2, 1) := dk_28 (dk_at dksX3_does_3 7 rfl rfl)
theorem dX3_does_76 : decode cX3_does 76 = .ok (.invokevirtual 177, 3) := dk_182 0 177 (dk_at dksX3_does_3 8 rfl rfl)
theorem dX3_does_79 : decode cX3_does 79 = .ok (.ireturn, 1) := dk_172 (dk_at dksX3_does_3 11 rfl rfl)
theorem dX3_does_80 : decode cX3_does 80 = .ok (.aload_n 0, 1) := dk_42 (dk_at dksX3_does_3 12 rfl rfl)
theorem dX3_does_81 : decode cX3_does 81 = .ok (.iload_n 2, 1) := dk_28 (dk_at dksX3_does_3 13 rfl rfl)
theorem dX3_does_82 : decode cX3_does 82 = .ok (.invokevirtual 180, 3) := dk_182 0 180 (dk_at dksX3_does_3 14 rfl rfl)
theorem dX3_does_85 : decode cX3_does 85 = .ok (.ireturn, 1) := dk_172 (dk_at dksX3_does_3 17 rfl rfl)
theorem dX3_does_86 : decode cX3_does 86 = .ok (.aload_n 0, 1) := dk_42 (dk_at dksX3_does_3 18 rfl rfl)
theorem dX3_does_87 : decode cX3_does 87 = .ok (.invokevirtual 202, 3) := dk_182 0 202 (dk_at dksX3_does_3 19 rfl rfl)
theorem dX3_does_90 : decode cX3_does 90 = .ok (.ireturn, 1) := dk_172 (dk_at dksX3_does_3 22 rfl rfl)
theorem dX3_does_91 : decode cX3_does 91 = .ok (.aload_n 0, 1) := dk_42 (dk_at dksX3_does_3 23 rfl rfl)
theorem dX3_does_92 : decode cX3_does 92 = .ok (.iload_n 2, 1) := dk_28 (dk_at dksX3_does_4 0 rfl rfl)
theorem dX3_does_93 : decode cX3_does 93 = .ok (.invokevirtual 218, 3) := dk_182 0 218 (dk_at dksX3_does_4 1 rfl rfl)
theorem dX3_does_96 : decode cX3_does 96 = .ok (.ireturn, 1) := dk_172 (dk_at dksX3_does_4 4 rfl rfl)
abbrev cX3_threadsMany : ByteArray := prog_33_method_88_code
def yX3_threadsMany : MethodName := ⟨RX3, "threadsMany", "(II)I"⟩
def dkwX3_threadsMany_2 : List UInt8 := [167, 255, 234, 29, 172]
abbrev dktX3_threadsMany_2 : List UInt8 := dkwX3_threadsMany_2 ++ []
def dkwX3_threadsMany_1 : List UInt8 := [54, 4, 21, 4, 28, 162, 0, 22, 29, 184, 0, 70, 154, 0, 15, 42, 27, 182, 0, 174, 62, 132, 4, 1]
abbrev dktX3_threadsMany_1 : List UInt8 := dkwX3_threadsMany_1 ++ dktX3_threadsMany_2
def dkwX3_threadsMany_0 : List UInt8 := [42, 27, 182, 0, 158, 153, 0, 13, 28, 4, 16, 28, 184, 0, 81, 154, 0, 6, 16, 254, 172, 3, 62, 3]
abbrev dktX3_threadsMany_0 : List UInt8 := dkwX3_threadsMany_0 ++ dktX3_threadsMany_1
theorem dksX3_threadsMany_0 : cX3_threadsMany.data.toList.drop 0 = dktX3_threadsMany_0 := by decide +kernel
theorem dksX3_threadsMany_1 : cX3_threadsMany.data.toList.drop 24 = dktX3_threadsMany_1 := dk_seg dksX3_threadsMany_0 24 rfl rfl
theorem dksX3_threadsMany_2 : cX3_threadsMany.data.toList.drop 48 = dktX3_threadsMany_2 := dk_seg dksX3_threadsMany_1 24 rfl rfl
theorem dX3_threadsMany_0 : decode cX3_threadsMany 0 = .ok (.aload_n 0, 1) := dk_42 (dk_at dksX3_threadsMany_0 0 rfl rfl)
theorem dX3_threadsMany_1 : decode cX3_threadsMany 1 = .ok (.iload_n 1, 1) := dk_27 (dk_at dksX3_threadsMany_0 1 rfl rfl)
theorem dX3_threadsMany_2 : decode cX3_threadsMany 2 = .ok (.invokevirtual 158, 3) := dk_182 0 158 (dk_at dksX3_threadsMany_0 2 rfl rfl)
theorem dX3_threadsMany_5 : decode cX3_threadsMany 5 = .ok (.ifCond .eq 13, 3) := dk_153 0 13 (dk_at dksX3_threadsMany_0 5 rfl rfl)
theorem dX3_threadsMany_8 : decode cX3_threadsMany 8 = .ok (.iload_n 2, 1) := dk_28 (dk_at dksX3_threadsMany_0 8 rfl rfl)
theorem dX3_threadsMany_9 : decode cX3_threadsMany 9 = .ok (.iconst 1, 1) := dk_4 (dk_at dksX3_threadsMany_0 9 rfl rfl)
theorem dX3_threadsMany_10 : decode cX3_threadsMany 10 = .ok (.bipush 28, 2) := dk_16 28 (dk_at dksX3_threadsMany_0 10 rfl rfl)
theorem dX3_threadsMany_12 : decode cX3_threadsMany 12 = .ok (.invokestatic 81, 3) := dk_184 0 81 (dk_at dksX3_threadsMany_0 12 rfl rfl)
theorem dX3_threadsMany_15 : decode cX3_threadsMany 15 = .ok (.ifCond .ne 6, 3) := dk_154 0 6 (dk_at dksX3_threadsMany_0 15 rfl rfl)
theorem dX3_threadsMany_18 : decode cX3_threadsMany 18 = .ok (.bipush (-2), 2) := dk_16 254 (dk_at dksX3_threadsMany_0 18 rfl rfl)
theorem dX3_threadsMany_20 : decode cX3_threadsMany 20 = .ok (.ireturn, 1) := dk_172 (dk_at dksX3_threadsMany_0 20 rfl rfl)
theorem dX3_threadsMany_21 : decode cX3_threadsMany 21 = .ok (.iconst 0, 1) := dk_3 (dk_at dksX3_threadsMany_0 21 rfl rfl)
theorem dX3_threadsMany_22 : decode cX3_threadsMany 22 = .ok (.istore_n 3, 1) := dk_62 (dk_at dksX3_threadsMany_0 22 rfl rfl)
theorem dX3_threadsMany_23 : decode cX3_threadsMany 23 = .ok (.iconst 0, 1) := dk_3 (dk_at dksX3_threadsMany_0 23 rfl rfl)
theorem dX3_threadsMany_24 : decode cX3_threadsMany 24 = .ok (.istore 4, 2) := dk_54 4 (dk_at dksX3_threadsMany_1 0 rfl rfl)
theorem dX3_threadsMany_26 : decode cX3_threadsMany 26 = .ok (.iload 4, 2) := dk_21 4 (dk_at dksX3_threadsMany_1 2 rfl rfl)
theorem dX3_threadsMany_28 : decode cX3_threadsMany 28 = .ok (.iload_n 2, 1) := dk_28 (dk_at dksX3_threadsMany_1 4 rfl rfl)
theorem dX3_threadsMany_29 : decode cX3_threadsMany 29 = .ok (.if_icmp .ge 22, 3) := dk_162 0 22 (dk_at dksX3_threadsMany_1 5 rfl rfl)
theorem dX3_threadsMany_32 : decode cX3_threadsMany 32 = .ok (.iload_n 3, 1) := dk_29 (dk_at dksX3_threadsMany_1 8 rfl rfl)
theorem dX3_threadsMany_33 : decode cX3_threadsMany 33 = .ok (.invokestatic 70, 3) := dk_184 0 70 (dk_at dksX3_threadsMany_1 9 rfl rfl)
theorem dX3_threadsMany_36 : decode cX3_threadsMany 36 = .ok (.ifCond .ne 15, 3) := dk_154 0 15 (dk_at dksX3_threadsMany_1 12 rfl rfl)
theorem dX3_threadsMany_39 : decode cX3_threadsMany 39 = .ok (.aload_n 0, 1) := dk_42 (dk_at dksX3_threadsMany_1 15 rfl rfl)
theorem dX3_threadsMany_40 : decode cX3_threadsMany 40 = .ok (.iload_n 1, 1) := dk_27 (dk_at dksX3_threadsMany_1 16 rfl rfl)
theorem dX3_threadsMany_41 : decode cX3_threadsMany 41 = .ok (.invokevirtual 174, 3) := dk_182 0 174 (dk_at dksX3_threadsMany_1 17 rfl rfl)
theorem dX3_threadsMany_44 : decode cX3_threadsMany 44 = .ok (.istore_n 3, 1) := dk_62 (dk_at dksX3_threadsMany_1 20 rfl rfl)
theorem dX3_threadsMany_45 : decode cX3_threadsMany 45 = .ok (.iinc 4 1, 3) := dk_132 4 1 (dk_at dksX3_threadsMany_1 21 rfl rfl)
theorem dX3_threadsMany_48 : decode cX3_threadsMany 48 = .ok (.goto (-22), 3) := dk_167 255 234 (dk_at dksX3_threadsMany_2 0 rfl rfl)
theorem dX3_threadsMany_51 : decode cX3_threadsMany 51 = .ok (.iload_n 3, 1) := dk_29 (dk_at dksX3_threadsMany_2 3 rfl rfl)
theorem dX3_threadsMany_52 : decode cX3_threadsMany 52 = .ok (.ireturn, 1) := dk_172 (dk_at dksX3_threadsMany_2 4 rfl rfl)
abbrev cX3_refusesCommand : ByteArray := prog_33_method_90_code
def yX3_refusesCommand : MethodName := ⟨RX3, "refusesCommand", "(IZ)I"⟩
def dkwX3_refusesCommand_3 : List UInt8 := [79, 42, 180, 0, 25, 3, 27, 79, 16, 251, 172]
abbrev dktX3_refusesCommand_3 : List UInt8 := dkwX3_refusesCommand_3 ++ []
def dkwX3_refusesCommand_2 : List UInt8 := [167, 0, 4, 3, 79, 42, 180, 0, 25, 4, 42, 180, 0, 25, 3, 46, 79, 42, 180, 0, 22, 3, 16, 9]
abbrev dktX3_refusesCommand_2 : List UInt8 := dkwX3_refusesCommand_2 ++ dktX3_refusesCommand_3
def dkwX3_refusesCommand_1 : List UInt8 := [5, 42, 180, 0, 25, 4, 46, 79, 42, 180, 0, 22, 4, 28, 153, 0, 12, 42, 180, 0, 22, 3, 46]
abbrev dktX3_refusesCommand_1 : List UInt8 := dkwX3_refusesCommand_1 ++ dktX3_refusesCommand_2
def dkwX3_refusesCommand_0 : List UInt8 := [42, 180, 0, 22, 5, 28, 153, 0, 12, 42, 180, 0, 22, 4, 46, 167, 0, 4, 3, 79, 42, 180, 0, 25]
abbrev dktX3_refusesCommand_0 : List UInt8 := dkwX3_refusesCommand_0 ++ dktX3_refusesCommand_1
theorem dksX3_refusesCommand_0 : cX3_refusesCommand.data.toList.drop 0 = dktX3_refusesCommand_0 := by decide +kernel
theorem dksX3_refusesCommand_1 : cX3_refusesCommand.data.toList.drop 24 = dktX3_refusesCommand_1 := dk_seg dksX3_refusesCommand_0 24 rfl rfl
theorem dksX3_refusesCommand_2 : cX3_refusesCommand.data.toList.drop 47 = dktX3_refusesCommand_2 := dk_seg dksX3_refusesCommand_1 23 rfl rfl
theorem dksX3_refusesCommand_3 : cX3_refusesCommand.data.toList.drop 71 = dktX3_refusesCommand_3 := dk_seg dksX3_refusesCommand_2 24 rfl rfl
theorem dX3_refusesCommand_0 : decode cX3_refusesCommand 0 = .ok (.aload_n 0, 1) := dk_42 (dk_at dksX3_refusesCommand_0 0 rfl rfl)
theorem dX3_refusesCommand_1 : decode cX3_refusesCommand 1 = .ok (.getfield 22, 3) := dk_180 0 22 (dk_at dksX3_refusesCommand_0 1 rfl rfl)
theorem dX3_refusesCommand_4 : decode cX3_refusesCommand 4 = .ok (.iconst 2, 1) := dk_5 (dk_at dksX3_refusesCommand_0 4 rfl rfl)
theorem dX3_refusesCommand_5 : decode cX3_refusesCommand 5 = .ok (.iload_n 2, 1) := dk_28 (dk_at dksX3_refusesCommand_0 5 rfl rfl)
theorem dX3_refusesCommand_6 : decode cX3_refusesCommand 6 = .ok (.ifCond .eq 12, 3) := dk_153 0 12 (dk_at dksX3_refusesCommand_0 6 rfl rfl)
theorem dX3_refusesCommand_9 : decode cX3_refusesCommand 9 = .ok (.aload_n 0, 1) := dk_42 (dk_at dksX3_refusesCommand_0 9 rfl rfl)
theorem dX3_refusesCommand_10 : decode cX3_refusesCommand 10 = .ok (.getfield 22, 3) := dk_180 0 22 (dk_at dksX3_refusesCommand_0 10 rfl rfl)
theorem dX3_refusesCommand_13 : decode cX3_refusesCommand 13 = .ok (.iconst 1, 1) := dk_4 (dk_at dksX3_refusesCommand_0 13 rfl rfl)
theorem dX3_refusesCommand_14 : decode cX3_refusesCommand 14 = .ok (.iaload, 1) := dk_46 (dk_at dksX3_refusesCommand_0 14 rfl rfl)
theorem dX3_refusesCommand_15 : decode cX3_refusesCommand 15 = .ok (.goto 4, 3) := dk_167 0 4 (dk_at dksX3_refusesCommand_0 15 rfl rfl)
theorem dX3_refusesCommand_18 : decode cX3_refusesCommand 18 = .ok (.iconst 0, 1) := dk_3 (dk_at dksX3_refusesCommand_0 18 rfl rfl)
theorem dX3_refusesCommand_19 : decode cX3_refusesCommand 19 = .ok (.iastore, 1) := dk_79 (dk_at dksX3_refusesCommand_0 19 rfl rfl)
theorem dX3_refusesCommand_20 : decode cX3_refusesCommand 20 = .ok (.aload_n 0, 1) := dk_42 (dk_at dksX3_refusesCommand_0 20 rfl rfl)
theorem dX3_refusesCommand_21 : decode cX3_refusesCommand 21 = .ok (.getfield 25, 3) := dk_180 0 25 (dk_at dksX3_refusesCommand_0 21 rfl rfl)
theorem dX3_refusesCommand_24 : decode cX3_refusesCommand 24 = .ok (.iconst 2, 1) := dk_5 (dk_at dksX3_refusesCommand_1 0 rfl rfl)
theorem dX3_refusesCommand_25 : decode cX3_refusesCommand 25 = .ok (.aload_n 0, 1) := dk_42 (dk_at dksX3_refusesCommand_1 1 rfl rfl)
theorem dX3_refusesCommand_26 : decode cX3_refusesCommand 26 = .ok (.getfield 25, 3) := dk_180 0 25 (dk_at dksX3_refusesCommand_1 2 rfl rfl)
theorem dX3_refusesCommand_29 : decode cX3_refusesCommand 29 = .ok (.iconst 1, 1) := dk_4 (dk_at dksX3_refusesCommand_1 5 rfl rfl)
theorem dX3_refusesCommand_30 : decode cX3_refusesCommand 30 = .ok (.iaload, 1) := dk_46 (dk_at dksX3_refusesCommand_1 6 rfl rfl)
theorem dX3_refusesCommand_31 : decode cX3_refusesCommand 31 = .ok (.iastore, 1) := dk_79 (dk_at dksX3_refusesCommand_1 7 rfl rfl)
theorem dX3_refusesCommand_32 : decode cX3_refusesCommand 32 = .ok (.aload_n 0, 1) := dk_42 (dk_at dksX3_refusesCommand_1 8 rfl rfl)
theorem dX3_refusesCommand_33 : decode cX3_refusesCommand 33 = .ok (.getfield 22, 3) := dk_180 0 22 (dk_at dksX3_refusesCommand_1 9 rfl rfl)
theorem dX3_refusesCommand_36 : decode cX3_refusesCommand 36 = .ok (.iconst 1, 1) := dk_4 (dk_at dksX3_refusesCommand_1 12 rfl rfl)
theorem dX3_refusesCommand_37 : decode cX3_refusesCommand 37 = .ok (.iload_n 2, 1) := dk_28 (dk_at dksX3_refusesCommand_1 13 rfl rfl)
theorem dX3_refusesCommand_38 : decode cX3_refusesCommand 38 = .ok (.ifCond .eq 12, 3) := dk_153 0 12 (dk_at dksX3_refusesCommand_1 14 rfl rfl)
theorem dX3_refusesCommand_41 : decode cX3_refusesCommand 41 = .ok (.aload_n 0, 1) := dk_42 (dk_at dksX3_refusesCommand_1 17 rfl rfl)
theorem dX3_refusesCommand_42 : decode cX3_refusesCommand 42 = .ok (.getfield 22, 3) := dk_180 0 22 (dk_at dksX3_refusesCommand_1 18 rfl rfl)
theorem dX3_refusesCommand_45 : decode cX3_refusesCommand 45 = .ok (.iconst 0, 1) := dk_3 (dk_at dksX3_refusesCommand_1 21 rfl rfl)
theorem dX3_refusesCommand_46 : decode cX3_refusesCommand 46 = .ok (.iaload, 1) := dk_46 (dk_at dksX3_refusesCommand_1 22 rfl rfl)
theorem dX3_refusesCommand_47 : decode cX3_refusesCommand 47 = .ok (.goto 4, 3) := dk_167 0 4 (dk_at dksX3_refusesCommand_2 0 rfl rfl)
theorem dX3_refusesCommand_50 : decode cX3_refusesCommand 50 = .ok (.iconst 0, 1) := dk_3 (dk_at dksX3_refusesCommand_2 3 rfl rfl)
theorem dX3_refusesCommand_51 : decode cX3_refusesCommand 51 = .ok (.iastore, 1) := dk_79 (dk_at dksX3_refusesCommand_2 4 rfl rfl)
theorem dX3_refusesCommand_52 : decode cX3_refusesCommand 52 = .ok (.aload_n 0, 1) := dk_42 (dk_at dksX3_refusesCommand_2 5 rfl rfl)
theorem dX3_refusesCommand_53 : decode cX3_refusesCommand 53 = .ok (.getfield 25, 3) := dk_180 0 25 (dk_at dksX3_refusesCommand_2 6 rfl rfl)
theorem dX3_refusesCommand_56 : decode cX3_refusesCommand 56 = .ok (.iconst 1, 1) := dk_4 (dk_at dksX3_refusesCommand_2 9 rfl rfl)
theorem dX3_refusesCommand_57 : decode cX3_refusesCommand 57 = .ok (.aload_n 0, 1) := dk_42 (dk_at dksX3_refusesCommand_2 10 rfl rfl)
theorem dX3_refusesCommand_58 : decode cX3_refusesCommand 58 = .ok (.getfield 25, 3) := dk_180 0 25 (dk_at dksX3_refusesCommand_2 11 rfl rfl)
theorem dX3_refusesCommand_61 : decode cX3_refusesCommand 61 = .ok (.iconst 0, 1) := dk_3 (dk_at dksX3_refusesCommand_2 14 rfl rfl)
theorem dX3_refusesCommand_62 : decode cX3_refusesCommand 62 = .ok (.iaload, 1) := dk_46 (dk_at dksX3_refusesCommand_2 15 rfl rfl)
theorem dX3_refusesCommand_63 : decode cX3_refusesCommand 63 = .ok (.iastore, 1) := dk_79 (dk_at dksX3_refusesCommand_2 16 rfl rfl)
theorem dX3_refusesCommand_64 : decode cX3_refusesCommand 64 = .ok (.aload_n 0, 1) := dk_42 (dk_at dksX3_refusesCommand_2 17 rfl rfl)
theorem dX3_refusesCommand_65 : decode cX3_refusesCommand 65 = .ok (.getfield 22, 3) := dk_180 0 22 (dk_at dksX3_refusesCommand_2 18 rfl rfl)
theorem dX3_refusesCommand_68 : decode cX3_refusesCommand 68 = .ok (.iconst 0, 1) := dk_3 (dk_at dksX3_refusesCommand_2 21 rfl rfl)
theorem dX3_refusesCommand_69 : decode cX3_refusesCommand 69 = .ok (.bipush 9, 2) := dk_16 9 (dk_at dksX3_refusesCommand_2 22 rfl rfl)
theorem dX3_refusesCommand_71 : decode cX3_refusesCommand 71 = .ok (.iastore, 1) := dk_79 (dk_at dksX3_refusesCommand_3 0 rfl rfl)
theorem dX3_refusesCommand_72 : decode cX3_refusesCommand 72 = .ok (.aload_n 0, 1) := dk_42 (dk_at dksX3_refusesCommand_3 1 rfl rfl)
theorem dX3_refusesCommand_73 : decode cX3_refusesCommand 73 = .ok (.getfield 25, 3) := dk_180 0 25 (dk_at dksX3_refusesCommand_3 2 rfl rfl)
theorem dX3_refusesCommand_76 : decode cX3_refusesCommand 76 = .ok (.iconst 0, 1) := dk_3 (dk_at dksX3_refusesCommand_3 5 rfl rfl)
theorem dX3_refusesCommand_77 : decode cX3_refusesCommand 77 = .ok (.iload_n 1, 1) := dk_27 (dk_at dksX3_refusesCommand_3 6 rfl rfl)
theorem dX3_refusesCommand_78 : decode cX3_refusesCommand 78 = .ok (.iastore, 1) := dk_79 (dk_at dksX3_refusesCommand_3 7 rfl rfl)
theorem dX3_refusesCommand_79 : decode cX3_refusesCommand 79 = .ok (.bipush (-5), 2) := dk_16 251 (dk_at dksX3_refusesCommand_3 8 rfl rfl)
theorem dX3_refusesCommand_81 : decode cX3_refusesCommand 81 = .ok (.ireturn, 1) := dk_172 (dk_at dksX3_refusesCommand_3 10 rfl rfl)
abbrev cX3_fault : ByteArray := prog_33_method_92_code
def yX3_fault : MethodName := ⟨RX3, "fault", "()I"⟩
def dkwX3_fault_0 : List UInt8 := [42, 180, 0, 59, 156, 0, 8, 16, 253, 167, 0, 7, 42, 180, 0, 59, 172]
abbrev dktX3_fault_0 : List UInt8 := dkwX3_fault_0 ++ []
theorem dksX3_fault_0 : cX3_fault.data.toList.drop 0 = dktX3_fault_0 := by decide +kernel
theorem dX3_fault_0 : decode cX3_fault 0 = .ok (.aload_n 0, 1) := dk_42 (dk_at dksX3_fault_0 0 rfl rfl)
theorem dX3_fault_1 : decode cX3_fault 1 = .ok (.getfield 59, 3) := dk_180 0 59 (dk_at dksX3_fault_0 1 rfl rfl)
theorem dX3_fault_4 : decode cX3_fault 4 = .ok (.ifCond .ge 8, 3) := dk_156 0 8 (dk_at dksX3_fault_0 4 rfl rfl)
theorem dX3_fault_7 : decode cX3_fault 7 = .ok (.bipush (-3), 2) := dk_16 253 (dk_at dksX3_fault_0 7 rfl rfl)
theorem dX3_fault_9 : decode cX3_fault 9 = .ok (.goto 7, 3) := dk_167 0 7 (dk_at dksX3_fault_0 9 rfl rfl)
theorem dX3_fault_12 : decode cX3_fault 12 = .ok (.aload_n 0, 1) := dk_42 (dk_at dksX3_fault_0 12 rfl rfl)
theorem dX3_fault_13 : decode cX3_fault 13 = .ok (.getfield 59, 3) := dk_180 0 59 (dk_at dksX3_fault_0 13 rfl rfl)
theorem dX3_fault_16 : decode cX3_fault 16 = .ok (.ireturn, 1) := dk_172 (dk_at dksX3_fault_0 16 rfl rfl)
abbrev cX3_reason : ByteArray := prog_33_method_93_code
def yX3_reason : MethodName := ⟨RX3, "reason", "(IZ)I"⟩
def dkwX3_reason_2 : List UInt8 := [167, 0, 9, 42, 180, 0, 22, 27, 46, 172]
abbrev dktX3_reason_2 : List UInt8 := dkwX3_reason_2 ++ []
def dkwX3_reason_1 : List UInt8 := [42, 180, 0, 22, 27, 46, 154, 0, 8, 16, 250, 167, 0, 22, 28, 153, 0, 12, 42, 180, 0, 25, 27, 46]
abbrev dktX3_reason_1 : List UInt8 := dkwX3_reason_1 ++ dktX3_reason_2
def dkwX3_reason_0 : List UInt8 := [27, 3, 5, 184, 0, 81, 154, 0, 6, 16, 254, 172, 42, 180, 0, 22, 3, 46, 154, 0, 6, 16, 253, 172]
abbrev dktX3_reason_0 : List UInt8 := dkwX3_reason_0 ++ dktX3_reason_1
theorem dksX3_reason_0 : cX3_reason.data.toList.drop 0 = dktX3_reason_0 := by decide +kernel
theorem dksX3_reason_1 : cX3_reason.data.toList.drop 24 = dktX3_reason_1 := dk_seg dksX3_reason_0 24 rfl rfl
theorem dksX3_reason_2 : cX3_reason.data.toList.drop 48 = dktX3_reason_2 := dk_seg dksX3_reason_1 24 rfl rfl
theorem dX3_reason_0 : decode cX3_reason 0 = .ok (.iload_n 1, 1) := dk_27 (dk_at dksX3_reason_0 0 rfl rfl)
theorem dX3_reason_1 : decode cX3_reason 1 = .ok (.iconst 0, 1) := dk_3 (dk_at dksX3_reason_0 1 rfl rfl)
theorem dX3_reason_2 : decode cX3_reason 2 = .ok (.iconst 2, 1) := dk_5 (dk_at dksX3_reason_0 2 rfl rfl)
theorem dX3_reason_3 : decode cX3_reason 3 = .ok (.invokestatic 81, 3) := dk_184 0 81 (dk_at dksX3_reason_0 3 rfl rfl)
theorem dX3_reason_6 : decode cX3_reason 6 = .ok (.ifCond .ne 6, 3) := dk_154 0 6 (dk_at dksX3_reason_0 6 rfl rfl)
theorem dX3_reason_9 : decode cX3_reason 9 = .ok (.bipush (-2), 2) := dk_16 254 (dk_at dksX3_reason_0 9 rfl rfl)
theorem dX3_reason_11 : decode cX3_reason 11 = .ok (.ireturn, 1) := dk_172 (dk_at dksX3_reason_0 11 rfl rfl)
theorem dX3_reason_12 : decode cX3_reason 12 = .ok (.aload_n 0, 1) := dk_42 (dk_at dksX3_reason_0 12 rfl rfl)
theorem dX3_reason_13 : decode cX3_reason 13 = .ok (.getfield 22, 3) := dk_180 0 22 (dk_at dksX3_reason_0 13 rfl rfl)
theorem dX3_reason_16 : decode cX3_reason 16 = .ok (.iconst 0, 1) := dk_3 (dk_at dksX3_reason_0 16 rfl rfl)
theorem dX3_reason_17 : decode cX3_reason 17 = .ok (.iaload, 1) := dk_46 (dk_at dksX3_reason_0 17 rfl rfl)
theorem dX3_reason_18 : decode cX3_reason 18 = .ok (.ifCond .ne 6, 3) := dk_154 0 6 (dk_at dksX3_reason_0 18 rfl rfl)
theorem dX3_reason_21 : decode cX3_reason 21 = .ok (.bipush (-3), 2) := dk_16 253 (dk_at dksX3_reason_0 21 rfl rfl)
theorem dX3_reason_23 : decode cX3_reason 23 = .ok (.ireturn, 1) := dk_172 (dk_at dksX3_reason_0 23 rfl rfl)
theorem dX3_reason_24 : decode cX3_reason 24 = .ok (.aload_n 0, 1) := dk_42 (dk_at dksX3_reason_1 0 rfl rfl)
theorem dX3_reason_25 : decode cX3_reason 25 = .ok (.getfield 22, 3) := dk_180 0 22 (dk_at dksX3_reason_1 1 rfl rfl)
theorem dX3_reason_28 : decode cX3_reason 28 = .ok (.iload_n 1, 1) := dk_27 (dk_at dksX3_reason_1 4 rfl rfl)
theorem dX3_reason_29 : decode cX3_reason 29 = .ok (.iaload, 1) := dk_46 (dk_at dksX3_reason_1 5 rfl rfl)
theorem dX3_reason_30 : decode cX3_reason 30 = .ok (.ifCond .ne 8, 3) := dk_154 0 8 (dk_at dksX3_reason_1 6 rfl rfl)
theorem dX3_reason_33 : decode cX3_reason 33 = .ok (.bipush (-6), 2) := dk_16 250 (dk_at dksX3_reason_1 9 rfl rfl)
theorem dX3_reason_35 : decode cX3_reason 35 = .ok (.goto 22, 3) := dk_167 0 22 (dk_at dksX3_reason_1 11 rfl rfl)
theorem dX3_reason_38 : decode cX3_reason 38 = .ok (.iload_n 2, 1) := dk_28 (dk_at dksX3_reason_1 14 rfl rfl)
theorem dX3_reason_39 : decode cX3_reason 39 = .ok (.ifCond .eq 12, 3) := dk_153 0 12 (dk_at dksX3_reason_1 15 rfl rfl)
theorem dX3_reason_42 : decode cX3_reason 42 = .ok (.aload_n 0, 1) := dk_42 (dk_at dksX3_reason_1 18 rfl rfl)
theorem dX3_reason_43 : decode cX3_reason 43 = .ok (.getfield 25, 3) := dk_180 0 25 (dk_at dksX3_reason_1 19 rfl rfl)
theorem dX3_reason_46 : decode cX3_reason 46 = .ok (.iload_n 1, 1) := dk_27 (dk_at dksX3_reason_1 22 rfl rfl)
theorem dX3_reason_47 : decode cX3_reason 47 = .ok (.iaload, 1) := dk_46 (dk_at dksX3_reason_1 23 rfl rfl)
theorem dX3_reason_48 : decode cX3_reason 48 = .ok (.goto 9, 3) := dk_167 0 9 (dk_at dksX3_reason_2 0 rfl rfl)
theorem dX3_reason_51 : decode cX3_reason 51 = .ok (.aload_n 0, 1) := dk_42 (dk_at dksX3_reason_2 3 rfl rfl)
theorem dX3_reason_52 : decode cX3_reason 52 = .ok (.getfield 22, 3) := dk_180 0 22 (dk_at dksX3_reason_2 4 rfl rfl)
theorem dX3_reason_55 : decode cX3_reason 55 = .ok (.iload_n 1, 1) := dk_27 (dk_at dksX3_reason_2 7 rfl rfl)
theorem dX3_reason_56 : decode cX3_reason 56 = .ok (.iaload, 1) := dk_46 (dk_at dksX3_reason_2 8 rfl rfl)
theorem dX3_reason_57 : decode cX3_reason 57 = .ok (.ireturn, 1) := dk_172 (dk_at dksX3_reason_2 9 rfl rfl)
abbrev cX3_undo : ByteArray := prog_33_method_94_code
def yX3_undo : MethodName := ⟨RX3, "undo", "()I"⟩
def dkwX3_undo_1 : List UInt8 := [17, 8, 140, 42, 180, 0, 67, 104, 42, 180, 0, 9, 3, 17, 8, 140, 184, 0, 63, 42, 180, 0, 67, 172]
abbrev dktX3_undo_1 : List UInt8 := dkwX3_undo_1 ++ []
def dkwX3_undo_0 : List UInt8 := [42, 180, 0, 67, 154, 0, 6, 16, 253, 172, 42, 89, 180, 0, 67, 4, 100, 181, 0, 67, 42, 180, 0, 19]
abbrev dktX3_undo_0 : List UInt8 := dkwX3_undo_0 ++ dktX3_undo_1
theorem dksX3_undo_0 : cX3_undo.data.toList.drop 0 = dktX3_undo_0 := by decide +kernel
theorem dksX3_undo_1 : cX3_undo.data.toList.drop 24 = dktX3_undo_1 := dk_seg dksX3_undo_0 24 rfl rfl
theorem dX3_undo_0 : decode cX3_undo 0 = .ok (.aload_n 0, 1) := dk_42 (dk_at dksX3_undo_0 0 rfl rfl)
theorem dX3_undo_1 : decode cX3_undo 1 = .ok (.getfield 67, 3) := dk_180 0 67 (dk_at dksX3_undo_0 1 rfl rfl)
theorem dX3_undo_4 : decode cX3_undo 4 = .ok (.ifCond .ne 6, 3) := dk_154 0 6 (dk_at dksX3_undo_0 4 rfl rfl)
theorem dX3_undo_7 : decode cX3_undo 7 = .ok (.bipush (-3), 2) := dk_16 253 (dk_at dksX3_undo_0 7 rfl rfl)
theorem dX3_undo_9 : decode cX3_undo 9 = .ok (.ireturn, 1) := dk_172 (dk_at dksX3_undo_0 9 rfl rfl)
theorem dX3_undo_10 : decode cX3_undo 10 = .ok (.aload_n 0, 1) := dk_42 (dk_at dksX3_undo_0 10 rfl rfl)
theorem dX3_undo_11 : decode cX3_undo 11 = .ok (.dup, 1) := dk_89 (dk_at dksX3_undo_0 11 rfl rfl)
theorem dX3_undo_12 : decode cX3_undo 12 = .ok (.getfield 67, 3) := dk_180 0 67 (dk_at dksX3_undo_0 12 rfl rfl)
theorem dX3_undo_15 : decode cX3_undo 15 = .ok (.iconst 1, 1) := dk_4 (dk_at dksX3_undo_0 15 rfl rfl)
theorem dX3_undo_16 : decode cX3_undo 16 = .ok (.isub, 1) := dk_100 (dk_at dksX3_undo_0 16 rfl rfl)
theorem dX3_undo_17 : decode cX3_undo 17 = .ok (.putfield 67, 3) := dk_181 0 67 (dk_at dksX3_undo_0 17 rfl rfl)
theorem dX3_undo_20 : decode cX3_undo 20 = .ok (.aload_n 0, 1) := dk_42 (dk_at dksX3_undo_0 20 rfl rfl)
theorem dX3_undo_21 : decode cX3_undo 21 = .ok (.getfield 19, 3) := dk_180 0 19 (dk_at dksX3_undo_0 21 rfl rfl)
theorem dX3_undo_24 : decode cX3_undo 24 = .ok (.sipush 2188, 3) := dk_17 8 140 (dk_at dksX3_undo_1 0 rfl rfl)
theorem dX3_undo_27 : decode cX3_undo 27 = .ok (.aload_n 0, 1) := dk_42 (dk_at dksX3_undo_1 3 rfl rfl)
theorem dX3_undo_28 : decode cX3_undo 28 = .ok (.getfield 67, 3) := dk_180 0 67 (dk_at dksX3_undo_1 4 rfl rfl)
theorem dX3_undo_31 : decode cX3_undo 31 = .ok (.imul, 1) := dk_104 (dk_at dksX3_undo_1 7 rfl rfl)
theorem dX3_undo_32 : decode cX3_undo 32 = .ok (.aload_n 0, 1) := dk_42 (dk_at dksX3_undo_1 8 rfl rfl)
theorem dX3_undo_33 : decode cX3_undo 33 = .ok (.getfield 9, 3) := dk_180 0 9 (dk_at dksX3_undo_1 9 rfl rfl)
theorem dX3_undo_36 : decode cX3_undo 36 = .ok (.iconst 0, 1) := dk_3 (dk_at dksX3_undo_1 12 rfl rfl)
theorem dX3_undo_37 : decode cX3_undo 37 = .ok (.sipush 2188, 3) := dk_17 8 140 (dk_at dksX3_undo_1 13 rfl rfl)
theorem dX3_undo_40 : decode cX3_undo 40 = .ok (.invokestatic 63, 3) := dk_184 0 63 (dk_at dksX3_undo_1 16 rfl rfl)
theorem dX3_undo_43 : decode cX3_undo 43 = .ok (.aload_n 0, 1) := dk_42 (dk_at dksX3_undo_1 19 rfl rfl)
theorem dX3_undo_44 : decode cX3_undo 44 = .ok (.getfield 67, 3) := dk_180 0 67 (dk_at dksX3_undo_1 20 rfl rfl)
theorem dX3_undo_47 : decode cX3_undo 47 = .ok (.ireturn, 1) := dk_172 (dk_at dksX3_undo_1 23 rfl rfl)
abbrev cX3_save : ByteArray := prog_33_method_95_code
def yX3_save : MethodName := ⟨RX3, "save", "()I"⟩
def dkwX3_save_1 : List UInt8 := [180, 0, 9, 16, 9, 46, 172]
abbrev dktX3_save_1 : List UInt8 := dkwX3_save_1 ++ []
def dkwX3_save_0 : List UInt8 := [42, 180, 0, 9, 3, 42, 180, 0, 16, 3, 17, 8, 140, 184, 0, 63, 42, 4, 181, 1, 33, 42]
abbrev dktX3_save_0 : List UInt8 := dkwX3_save_0 ++ dktX3_save_1
theorem dksX3_save_0 : cX3_save.data.toList.drop 0 = dktX3_save_0 := by decide +kernel
theorem dksX3_save_1 : cX3_save.data.toList.drop 22 = dktX3_save_1 := dk_seg dksX3_save_0 22 rfl rfl
theorem dX3_save_0 : decode cX3_save 0 = .ok (.aload_n 0, 1) := dk_42 (dk_at dksX3_save_0 0 rfl rfl)
theorem dX3_save_1 : decode cX3_save 1 = .ok (.getfield 9, 3) := dk_180 0 9 (dk_at dksX3_save_0 1 rfl rfl)
theorem dX3_save_4 : decode cX3_save 4 = .ok (.iconst 0, 1) := dk_3 (dk_at dksX3_save_0 4 rfl rfl)
theorem dX3_save_5 : decode cX3_save 5 = .ok (.aload_n 0, 1) := dk_42 (dk_at dksX3_save_0 5 rfl rfl)
theorem dX3_save_6 : decode cX3_save 6 = .ok (.getfield 16, 3) := dk_180 0 16 (dk_at dksX3_save_0 6 rfl rfl)
theorem dX3_save_9 : decode cX3_save 9 = .ok (.iconst 0, 1) := dk_3 (dk_at dksX3_save_0 9 rfl rfl)
theorem dX3_save_10 : decode cX3_save 10 = .ok (.sipush 2188, 3) := dk_17 8 140 (dk_at dksX3_save_0 10 rfl rfl)
theorem dX3_save_13 : decode cX3_save 13 = .ok (.invokestatic 63, 3) := dk_184 0 63 (dk_at dksX3_save_0 13 rfl rfl)
theorem dX3_save_16 : decode cX3_save 16 = .ok (.aload_n 0, 1) := dk_42 (dk_at dksX3_save_0 16 rfl rfl)
theorem dX3_save_17 : decode cX3_save 17 = .ok (.iconst 1, 1) := dk_4 (dk_at dksX3_save_0 17 rfl rfl)
theorem dX3_save_18 : decode cX3_save 18 = .ok (.putfield 289, 3) := dk_181 1 33 (dk_at dksX3_save_0 18 rfl rfl)
theorem dX3_save_21 : decode cX3_save 21 = .ok (.aload_n 0, 1) := dk_42 (dk_at dksX3_save_0 21 rfl rfl)
theorem dX3_save_22 : decode cX3_save 22 = .ok (.getfield 9, 3) := dk_180 0 9 (dk_at dksX3_save_1 0 rfl rfl)
theorem dX3_save_25 : decode cX3_save 25 = .ok (.bipush 9, 2) := dk_16 9 (dk_at dksX3_save_1 3 rfl rfl)
theorem dX3_save_27 : decode cX3_save 27 = .ok (.iaload, 1) := dk_46 (dk_at dksX3_save_1 5 rfl rfl)
theorem dX3_save_28 : decode cX3_save 28 = .ok (.ireturn, 1) := dk_172 (dk_at dksX3_save_1 6 rfl rfl)
abbrev cX3_restore : ByteArray := prog_33_method_96_code
def yX3_restore : MethodName := ⟨RX3, "restore", "()I"⟩
def dkwX3_restore_1 : List UInt8 := [184, 0, 63, 42, 3, 181, 0, 67, 42, 180, 0, 9, 16, 9, 46, 172]
abbrev dktX3_restore_1 : List UInt8 := dkwX3_restore_1 ++ []
def dkwX3_restore_0 : List UInt8 := [42, 180, 1, 33, 154, 0, 6, 16, 253, 172, 42, 180, 0, 16, 3, 42, 180, 0, 9, 3, 17, 8, 140]
abbrev dktX3_restore_0 : List UInt8 := dkwX3_restore_0 ++ dktX3_restore_1
theorem dksX3_restore_0 : cX3_restore.data.toList.drop 0 = dktX3_restore_0 := by decide +kernel
theorem dksX3_restore_1 : cX3_restore.data.toList.drop 23 = dktX3_restore_1 := dk_seg dksX3_restore_0 23 rfl rfl
theorem dX3_restore_0 : decode cX3_restore 0 = .ok (.aload_n 0, 1) := dk_42 (dk_at dksX3_restore_0 0 rfl rfl)
theorem dX3_restore_1 : decode cX3_restore 1 = .ok (.getfield 289, 3) := dk_180 1 33 (dk_at dksX3_restore_0 1 rfl rfl)
theorem dX3_restore_4 : decode cX3_restore 4 = .ok (.ifCond .ne 6, 3) := dk_154 0 6 (dk_at dksX3_restore_0 4 rfl rfl)
theorem dX3_restore_7 : decode cX3_restore 7 = .ok (.bipush (-3), 2) := dk_16 253 (dk_at dksX3_restore_0 7 rfl rfl)
theorem dX3_restore_9 : decode cX3_restore 9 = .ok (.ireturn, 1) := dk_172 (dk_at dksX3_restore_0 9 rfl rfl)
theorem dX3_restore_10 : decode cX3_restore 10 = .ok (.aload_n 0, 1) := dk_42 (dk_at dksX3_restore_0 10 rfl rfl)
theorem dX3_restore_11 : decode cX3_restore 11 = .ok (.getfield 16, 3) := dk_180 0 16 (dk_at dksX3_restore_0 11 rfl rfl)
theorem dX3_restore_14 : decode cX3_restore 14 = .ok (.iconst 0, 1) := dk_3 (dk_at dksX3_restore_0 14 rfl rfl)
theorem dX3_restore_15 : decode cX3_restore 15 = .ok (.aload_n 0, 1) := dk_42 (dk_at dksX3_restore_0 15 rfl rfl)
theorem dX3_restore_16 : decode cX3_restore 16 = .ok (.getfield 9, 3) := dk_180 0 9 (dk_at dksX3_restore_0 16 rfl rfl)
theorem dX3_restore_19 : decode cX3_restore 19 = .ok (.iconst 0, 1) := dk_3 (dk_at dksX3_restore_0 19 rfl rfl)
theorem dX3_restore_20 : decode cX3_restore 20 = .ok (.sipush 2188, 3) := dk_17 8 140 (dk_at dksX3_restore_0 20 rfl rfl)
theorem dX3_restore_23 : decode cX3_restore 23 = .ok (.invokestatic 63, 3) := dk_184 0 63 (dk_at dksX3_restore_1 0 rfl rfl)
theorem dX3_restore_26 : decode cX3_restore 26 = .ok (.aload_n 0, 1) := dk_42 (dk_at dksX3_restore_1 3 rfl rfl)
theorem dX3_restore_27 : decode cX3_restore 27 = .ok (.iconst 0, 1) := dk_3 (dk_at dksX3_restore_1 4 rfl rfl)
theorem dX3_restore_28 : decode cX3_restore 28 = .ok (.putfield 67, 3) := dk_181 0 67 (dk_at dksX3_restore_1 5 rfl rfl)
theorem dX3_restore_31 : decode cX3_restore 31 = .ok (.aload_n 0, 1) := dk_42 (dk_at dksX3_restore_1 8 rfl rfl)
theorem dX3_restore_32 : decode cX3_restore 32 = .ok (.getfield 9, 3) := dk_180 0 9 (dk_at dksX3_restore_1 9 rfl rfl)
theorem dX3_restore_35 : decode cX3_restore 35 = .ok (.bipush 9, 2) := dk_16 9 (dk_at dksX3_restore_1 12 rfl rfl)
theorem dX3_restore_37 : decode cX3_restore 37 = .ok (.iaload, 1) := dk_46 (dk_at dksX3_restore_1 14 rfl rfl)
theorem dX3_restore_38 : decode cX3_restore 38 = .ok (.ireturn, 1) := dk_172 (dk_at dksX3_restore_1 15 rfl rfl)
theorem q81 : (Jvm.Cond.initialized "RosaryCarversModel") ∈ lw_all := lw_g (lw_at lw_m1 9 rfl) rfl
theorem q633 : (Jvm.Cond.selects "RosaryCarversModel" ({ cls := "java/lang/Object", name := "getClass", desc := "()Ljava/lang/Class;" } : Jvm.MethodName) ({ cls := "java/lang/Object", name := "getClass", desc := "()Ljava/lang/Class;" } : Jvm.MethodName)) ∈ lw_all := lw_g (lw_at lw_m3 81 rfl) rfl
theorem q1069 : (Jvm.Cond.selects "RosaryCarversModel" ({ cls := "java/lang/Object", name := "equals", desc := "(Ljava/lang/Object;)Z" } : Jvm.MethodName) ({ cls := "java/lang/Object", name := "equals", desc := "(Ljava/lang/Object;)Z" } : Jvm.MethodName)) ∈ lw_all := lw_g (lw_at lw_m5 37 rfl) rfl
theorem q2342 : (Jvm.Cond.instantiable "RosaryCarversModel" (18 : Nat)) ∈ lw_all := lw_g (lw_at lw_m10 110 rfl) rfl
theorem q2344 : (Jvm.Cond.instanceMethod ({ cls := "RosaryCarversModel", name := "<init>", desc := "()V" } : Jvm.MethodName)) ∈ lw_all := lw_g (lw_at lw_m10 112 rfl) rfl
theorem q2345 : (Jvm.Cond.code ({ cls := "RosaryCarversModel", name := "<init>", desc := "()V" } : Jvm.MethodName) prog_33_method_1_code (1 : Nat) (Option.none : Option Jvm.ClassFile.FieldType)) ∈ lw_all := lw_g (lw_at lw_m10 113 rfl) rfl
theorem q2346 : (Jvm.Cond.methodLink "RosaryCarversModel" (3 : Nat) ({ cls := "java/lang/Object", name := "<init>", desc := "()V" } : Jvm.MethodName)) ∈ lw_all := lw_g (lw_at lw_m10 114 rfl) rfl
theorem q2347 : (Jvm.Cond.classLink "RosaryCarversModel" (31 : Nat) "java/lang/String") ∈ lw_all := lw_g (lw_at lw_m10 115 rfl) rfl
theorem q2348 : (Jvm.Cond.stringRef "RosaryCarversModel" (33 : Nat) "large ") ∈ lw_tbl := lw_at lw_m10 116 rfl
theorem q2349 : (Jvm.Cond.stringRef "RosaryCarversModel" (35 : Nat) "small ") ∈ lw_tbl := lw_at lw_m10 117 rfl
theorem q2350 : (Jvm.Cond.stringRef "RosaryCarversModel" (37 : Nat) "begin ") ∈ lw_tbl := lw_at lw_m10 118 rfl
theorem q2351 : (Jvm.Cond.stringRef "RosaryCarversModel" (39 : Nat) "thread ") ∈ lw_tbl := lw_at lw_m10 119 rfl
theorem q2352 : (Jvm.Cond.stringRef "RosaryCarversModel" (41 : Nat) "knot ") ∈ lw_tbl := lw_at lw_m10 120 rfl
theorem q2353 : (Jvm.Cond.stringRef "RosaryCarversModel" (43 : Nat) "drop ") ∈ lw_tbl := lw_at lw_m10 121 rfl
theorem q2354 : (Jvm.Cond.stringRef "RosaryCarversModel" (45 : Nat) "mend") ∈ lw_tbl := lw_at lw_m10 122 rfl
theorem q2355 : (Jvm.Cond.stringRef "RosaryCarversModel" (47 : Nat) "wait ") ∈ lw_tbl := lw_at lw_m10 123 rfl
theorem q2356 : (Jvm.Cond.fieldLink "RosaryCarversModel" (9 : Nat) "RosaryCarversModel" "s" "[I") ∈ lw_all := lw_g (lw_at lw_m10 124 rfl) rfl
theorem q2357 : (Jvm.Cond.fieldLink "RosaryCarversModel" (13 : Nat) "RosaryCarversModel" "was" "[I") ∈ lw_all := lw_g (lw_at lw_m10 125 rfl) rfl
theorem q2358 : (Jvm.Cond.fieldLink "RosaryCarversModel" (16 : Nat) "RosaryCarversModel" "saved" "[I") ∈ lw_all := lw_g (lw_at lw_m10 126 rfl) rfl
theorem q2359 : (Jvm.Cond.fieldLink "RosaryCarversModel" (19 : Nat) "RosaryCarversModel" "past" "[I") ∈ lw_all := lw_g (lw_at lw_m10 127 rfl) rfl
theorem q2360 : (Jvm.Cond.fieldLink "RosaryCarversModel" (67 : Nat) "RosaryCarversModel" "changes" "I") ∈ lw_all := lw_g (lw_at lw_m10 128 rfl) rfl
theorem q2361 : (Jvm.Cond.fieldLink "RosaryCarversModel" (289 : Nat) "RosaryCarversModel" "isSaved" "Z") ∈ lw_all := lw_g (lw_at lw_m10 129 rfl) rfl
theorem q2362 : (Jvm.Cond.fieldLink "RosaryCarversModel" (22 : Nat) "RosaryCarversModel" "reasons" "[I") ∈ lw_all := lw_g (lw_at lw_m10 130 rfl) rfl
theorem q2363 : (Jvm.Cond.fieldLink "RosaryCarversModel" (25 : Nat) "RosaryCarversModel" "details" "[I") ∈ lw_all := lw_g (lw_at lw_m10 131 rfl) rfl
theorem q2364 : (Jvm.Cond.fieldLink "RosaryCarversModel" (28 : Nat) "RosaryCarversModel" "line" "[I") ∈ lw_all := lw_g (lw_at lw_m10 132 rfl) rfl
theorem q2365 : (Jvm.Cond.fieldLink "RosaryCarversModel" (237 : Nat) "RosaryCarversModel" "lined" "I") ∈ lw_all := lw_g (lw_at lw_m10 133 rfl) rfl
theorem q2366 : (Jvm.Cond.fieldLink "RosaryCarversModel" (49 : Nat) "RosaryCarversModel" "words" "[Ljava/lang/String;") ∈ lw_all := lw_g (lw_at lw_m10 134 rfl) rfl
theorem q2367 : (Jvm.Cond.fieldLink "RosaryCarversModel" (53 : Nat) "RosaryCarversModel" "tape" "[I") ∈ lw_all := lw_g (lw_at lw_m10 135 rfl) rfl
theorem q2368 : (Jvm.Cond.fieldLink "RosaryCarversModel" (56 : Nat) "RosaryCarversModel" "commands" "[I") ∈ lw_all := lw_g (lw_at lw_m10 136 rfl) rfl
theorem q2369 : (Jvm.Cond.fieldLink "RosaryCarversModel" (234 : Nat) "RosaryCarversModel" "taped" "I") ∈ lw_all := lw_g (lw_at lw_m10 137 rfl) rfl
theorem q2370 : (Jvm.Cond.fieldLink "RosaryCarversModel" (250 : Nat) "RosaryCarversModel" "here" "I") ∈ lw_all := lw_g (lw_at lw_m10 138 rfl) rfl
theorem q2371 : (Jvm.Cond.fieldLink "RosaryCarversModel" (269 : Nat) "RosaryCarversModel" "commandMany" "I") ∈ lw_all := lw_g (lw_at lw_m10 139 rfl) rfl
theorem q2372 : (Jvm.Cond.fieldLink "RosaryCarversModel" (253 : Nat) "RosaryCarversModel" "told" "I") ∈ lw_all := lw_g (lw_at lw_m10 140 rfl) rfl
theorem q2373 : (Jvm.Cond.fieldLink "RosaryCarversModel" (59 : Nat) "RosaryCarversModel" "faultAt" "I") ∈ lw_all := lw_g (lw_at lw_m10 141 rfl) rfl
theorem q2374 : (Jvm.Cond.laysFinal "RosaryCarversModel" "RosaryCarversModel" "s" "[I") ∈ lw_all := lw_g (lw_at lw_m10 142 rfl) rfl
theorem q2375 : (Jvm.Cond.soleField "RosaryCarversModel" "s") ∈ lw_all := lw_g (lw_at lw_m10 143 rfl) rfl
theorem q2376 : (Jvm.Cond.laysFinal "RosaryCarversModel" "RosaryCarversModel" "was" "[I") ∈ lw_all := lw_g (lw_at lw_m10 144 rfl) rfl
theorem q2377 : (Jvm.Cond.soleField "RosaryCarversModel" "was") ∈ lw_all := lw_g (lw_at lw_m10 145 rfl) rfl
theorem q2378 : (Jvm.Cond.laysFinal "RosaryCarversModel" "RosaryCarversModel" "saved" "[I") ∈ lw_all := lw_g (lw_at lw_m10 146 rfl) rfl
theorem q2379 : (Jvm.Cond.soleField "RosaryCarversModel" "saved") ∈ lw_all := lw_g (lw_at lw_m10 147 rfl) rfl
theorem q2380 : (Jvm.Cond.laysFinal "RosaryCarversModel" "RosaryCarversModel" "past" "[I") ∈ lw_all := lw_g (lw_at lw_m10 148 rfl) rfl
theorem q2381 : (Jvm.Cond.soleField "RosaryCarversModel" "past") ∈ lw_all := lw_g (lw_at lw_m10 149 rfl) rfl
theorem q2382 : (Jvm.Cond.lays "RosaryCarversModel" "RosaryCarversModel" "changes" "I") ∈ lw_all := lw_g (lw_at lw_m10 150 rfl) rfl
theorem q2383 : (Jvm.Cond.soleField "RosaryCarversModel" "changes") ∈ lw_all := lw_g (lw_at lw_m10 151 rfl) rfl
theorem q2384 : (Jvm.Cond.lays "RosaryCarversModel" "RosaryCarversModel" "isSaved" "Z") ∈ lw_all := lw_g (lw_at lw_m10 152 rfl) rfl
theorem q2385 : (Jvm.Cond.soleField "RosaryCarversModel" "isSaved") ∈ lw_all := lw_g (lw_at lw_m10 153 rfl) rfl
theorem q2386 : (Jvm.Cond.laysFinal "RosaryCarversModel" "RosaryCarversModel" "reasons" "[I") ∈ lw_all := lw_g (lw_at lw_m10 154 rfl) rfl
theorem q2387 : (Jvm.Cond.soleField "RosaryCarversModel" "reasons") ∈ lw_all := lw_g (lw_at lw_m10 155 rfl) rfl
theorem q2388 : (Jvm.Cond.laysFinal "RosaryCarversModel" "RosaryCarversModel" "details" "[I") ∈ lw_all := lw_g (lw_at lw_m10 156 rfl) rfl
theorem q2389 : (Jvm.Cond.soleField "RosaryCarversModel" "details") ∈ lw_all := lw_g (lw_at lw_m10 157 rfl) rfl
theorem q2390 : (Jvm.Cond.laysFinal "RosaryCarversModel" "RosaryCarversModel" "line" "[I") ∈ lw_all := lw_g (lw_at lw_m10 158 rfl) rfl
theorem q2391 : (Jvm.Cond.soleField "RosaryCarversModel" "line") ∈ lw_all := lw_g (lw_at lw_m10 159 rfl) rfl
theorem q2392 : (Jvm.Cond.lays "RosaryCarversModel" "RosaryCarversModel" "lined" "I") ∈ lw_all := lw_g (lw_at lw_m10 160 rfl) rfl
theorem q2393 : (Jvm.Cond.soleField "RosaryCarversModel" "lined") ∈ lw_all := lw_g (lw_at lw_m10 161 rfl) rfl
theorem q2394 : (Jvm.Cond.laysFinal "RosaryCarversModel" "RosaryCarversModel" "words" "[Ljava/lang/String;") ∈ lw_all := lw_g (lw_at lw_m10 162 rfl) rfl
theorem q2395 : (Jvm.Cond.soleField "RosaryCarversModel" "words") ∈ lw_all := lw_g (lw_at lw_m10 163 rfl) rfl
theorem q2396 : (Jvm.Cond.laysFinal "RosaryCarversModel" "RosaryCarversModel" "tape" "[I") ∈ lw_all := lw_g (lw_at lw_m10 164 rfl) rfl
theorem q2397 : (Jvm.Cond.soleField "RosaryCarversModel" "tape") ∈ lw_all := lw_g (lw_at lw_m10 165 rfl) rfl
theorem q2398 : (Jvm.Cond.laysFinal "RosaryCarversModel" "RosaryCarversModel" "commands" "[I") ∈ lw_all := lw_g (lw_at lw_m10 166 rfl) rfl
theorem q2399 : (Jvm.Cond.soleField "RosaryCarversModel" "commands") ∈ lw_all := lw_g (lw_at lw_m10 167 rfl) rfl
theorem q2400 : (Jvm.Cond.lays "RosaryCarversModel" "RosaryCarversModel" "taped" "I") ∈ lw_all := lw_g (lw_at lw_m10 168 rfl) rfl
theorem q2401 : (Jvm.Cond.soleField "RosaryCarversModel" "taped") ∈ lw_all := lw_g (lw_at lw_m10 169 rfl) rfl
theorem q2402 : (Jvm.Cond.lays "RosaryCarversModel" "RosaryCarversModel" "here" "I") ∈ lw_all := lw_g (lw_at lw_m10 170 rfl) rfl
theorem q2403 : (Jvm.Cond.soleField "RosaryCarversModel" "here") ∈ lw_all := lw_g (lw_at lw_m10 171 rfl) rfl
theorem q2404 : (Jvm.Cond.lays "RosaryCarversModel" "RosaryCarversModel" "commandMany" "I") ∈ lw_all := lw_g (lw_at lw_m10 172 rfl) rfl
theorem q2405 : (Jvm.Cond.soleField "RosaryCarversModel" "commandMany") ∈ lw_all := lw_g (lw_at lw_m10 173 rfl) rfl
theorem q2406 : (Jvm.Cond.lays "RosaryCarversModel" "RosaryCarversModel" "told" "I") ∈ lw_all := lw_g (lw_at lw_m10 174 rfl) rfl
theorem q2407 : (Jvm.Cond.soleField "RosaryCarversModel" "told") ∈ lw_all := lw_g (lw_at lw_m10 175 rfl) rfl
theorem q2408 : (Jvm.Cond.lays "RosaryCarversModel" "RosaryCarversModel" "faultAt" "I") ∈ lw_all := lw_g (lw_at lw_m10 176 rfl) rfl
theorem q2409 : (Jvm.Cond.soleField "RosaryCarversModel" "faultAt") ∈ lw_all := lw_g (lw_at lw_m10 177 rfl) rfl
theorem q2410 : (Jvm.Cond.superclass "RosaryCarversModel" "java/lang/Object") ∈ lw_all := lw_g (lw_at lw_m10 178 rfl) rfl
theorem q2412 : (Jvm.Cond.instanceMethod ({ cls := "RosaryCarversModel", name := "stones", desc := "(I)I" } : Jvm.MethodName)) ∈ lw_all := lw_g (lw_at lw_m10 180 rfl) rfl
theorem q2413 : (Jvm.Cond.selects "RosaryCarversModel" ({ cls := "RosaryCarversModel", name := "stones", desc := "(I)I" } : Jvm.MethodName) ({ cls := "RosaryCarversModel", name := "stones", desc := "(I)I" } : Jvm.MethodName)) ∈ lw_all := lw_g (lw_at lw_m10 181 rfl) rfl
theorem q2414 : (Jvm.Cond.code ({ cls := "RosaryCarversModel", name := "stones", desc := "(I)I" } : Jvm.MethodName) prog_33_method_13_code (2 : Nat) (Option.some Jvm.ClassFile.FieldType.int)) ∈ lw_all := lw_g (lw_at lw_m10 182 rfl) rfl
theorem q2415 : (Jvm.Cond.methodLink "RosaryCarversModel" (81 : Nat) ({ cls := "RosaryCarversModel", name := "isIn", desc := "(III)Z" } : Jvm.MethodName)) ∈ lw_all := lw_g (lw_at lw_m10 183 rfl) rfl
theorem q2416 : (Jvm.Cond.static ({ cls := "RosaryCarversModel", name := "isIn", desc := "(III)Z" } : Jvm.MethodName)) ∈ lw_all := lw_g (lw_at lw_m10 184 rfl) rfl
theorem q2417 : (Jvm.Cond.code ({ cls := "RosaryCarversModel", name := "isIn", desc := "(III)Z" } : Jvm.MethodName) prog_33_method_2_code (3 : Nat) (Option.some Jvm.ClassFile.FieldType.boolean)) ∈ lw_all := lw_g (lw_at lw_m10 185 rfl) rfl
theorem q2418 : (Jvm.Cond.methodLink "RosaryCarversModel" (85 : Nat) ({ cls := "RosaryCarversModel", name := "keeps", desc := "()V" } : Jvm.MethodName)) ∈ lw_all := lw_g (lw_at lw_m10 186 rfl) rfl
theorem q2419 : (Jvm.Cond.privateMethod ({ cls := "RosaryCarversModel", name := "keeps", desc := "()V" } : Jvm.MethodName)) ∈ lw_tbl := lw_at lw_m10 187 rfl
theorem q2420 : (Jvm.Cond.instanceMethod ({ cls := "RosaryCarversModel", name := "keeps", desc := "()V" } : Jvm.MethodName)) ∈ lw_all := lw_g (lw_at lw_m10 188 rfl) rfl
theorem q2421 : (Jvm.Cond.code ({ cls := "RosaryCarversModel", name := "keeps", desc := "()V" } : Jvm.MethodName) prog_33_method_6_code (1 : Nat) (Option.none : Option Jvm.ClassFile.FieldType)) ∈ lw_all := lw_g (lw_at lw_m10 189 rfl) rfl
theorem q2422 : (Jvm.Cond.methodLink "RosaryCarversModel" (63 : Nat) ({ cls := "RosaryCarversModel", name := "copies", desc := "([II[III)V" } : Jvm.MethodName)) ∈ lw_all := lw_g (lw_at lw_m10 190 rfl) rfl
theorem q2423 : (Jvm.Cond.static ({ cls := "RosaryCarversModel", name := "copies", desc := "([II[III)V" } : Jvm.MethodName)) ∈ lw_all := lw_g (lw_at lw_m10 191 rfl) rfl
theorem q2424 : (Jvm.Cond.code ({ cls := "RosaryCarversModel", name := "copies", desc := "([II[III)V" } : Jvm.MethodName) prog_33_method_5_code (6 : Nat) (Option.none : Option Jvm.ClassFile.FieldType)) ∈ lw_all := lw_g (lw_at lw_m10 192 rfl) rfl
theorem q2425 : (Jvm.Cond.methodLink "RosaryCarversModel" (88 : Nat) ({ cls := "RosaryCarversModel", name := "lesser", desc := "(II)I" } : Jvm.MethodName)) ∈ lw_all := lw_g (lw_at lw_m10 193 rfl) rfl
theorem q2426 : (Jvm.Cond.static ({ cls := "RosaryCarversModel", name := "lesser", desc := "(II)I" } : Jvm.MethodName)) ∈ lw_all := lw_g (lw_at lw_m10 194 rfl) rfl
theorem q2427 : (Jvm.Cond.code ({ cls := "RosaryCarversModel", name := "lesser", desc := "(II)I" } : Jvm.MethodName) prog_33_method_3_code (2 : Nat) (Option.some Jvm.ClassFile.FieldType.int)) ∈ lw_all := lw_g (lw_at lw_m10 195 rfl) rfl
theorem q2428 : (Jvm.Cond.methodLink "RosaryCarversModel" (91 : Nat) ({ cls := "RosaryCarversModel", name := "ends", desc := "(I)I" } : Jvm.MethodName)) ∈ lw_all := lw_g (lw_at lw_m10 196 rfl) rfl
theorem q2429 : (Jvm.Cond.privateMethod ({ cls := "RosaryCarversModel", name := "ends", desc := "(I)I" } : Jvm.MethodName)) ∈ lw_tbl := lw_at lw_m10 197 rfl
theorem q2430 : (Jvm.Cond.instanceMethod ({ cls := "RosaryCarversModel", name := "ends", desc := "(I)I" } : Jvm.MethodName)) ∈ lw_all := lw_g (lw_at lw_m10 198 rfl) rfl
theorem q2431 : (Jvm.Cond.code ({ cls := "RosaryCarversModel", name := "ends", desc := "(I)I" } : Jvm.MethodName) prog_33_method_9_code (2 : Nat) (Option.some Jvm.ClassFile.FieldType.int)) ∈ lw_all := lw_g (lw_at lw_m10 199 rfl) rfl
theorem q2432 : (Jvm.Cond.methodLink "RosaryCarversModel" (70 : Nat) ({ cls := "RosaryCarversModel", name := "isError", desc := "(I)Z" } : Jvm.MethodName)) ∈ lw_all := lw_g (lw_at lw_m10 200 rfl) rfl
theorem q2433 : (Jvm.Cond.static ({ cls := "RosaryCarversModel", name := "isError", desc := "(I)Z" } : Jvm.MethodName)) ∈ lw_all := lw_g (lw_at lw_m10 201 rfl) rfl
theorem q2434 : (Jvm.Cond.code ({ cls := "RosaryCarversModel", name := "isError", desc := "(I)Z" } : Jvm.MethodName) prog_33_method_8_code (1 : Nat) (Option.some Jvm.ClassFile.FieldType.boolean)) ∈ lw_all := lw_g (lw_at lw_m10 202 rfl) rfl
theorem q2435 : (Jvm.Cond.methodLink "RosaryCarversModel" (74 : Nat) ({ cls := "RosaryCarversModel", name := "changed", desc := "()V" } : Jvm.MethodName)) ∈ lw_all := lw_g (lw_at lw_m10 203 rfl) rfl
theorem q2436 : (Jvm.Cond.privateMethod ({ cls := "RosaryCarversModel", name := "changed", desc := "()V" } : Jvm.MethodName)) ∈ lw_tbl := lw_at lw_m10 204 rfl
theorem q2437 : (Jvm.Cond.instanceMethod ({ cls := "RosaryCarversModel", name := "changed", desc := "()V" } : Jvm.MethodName)) ∈ lw_all := lw_g (lw_at lw_m10 205 rfl) rfl
theorem q2438 : (Jvm.Cond.code ({ cls := "RosaryCarversModel", name := "changed", desc := "()V" } : Jvm.MethodName) prog_33_method_7_code (2 : Nat) (Option.none : Option Jvm.ClassFile.FieldType)) ∈ lw_all := lw_g (lw_at lw_m10 206 rfl) rfl
theorem q2440 : (Jvm.Cond.instanceMethod ({ cls := "RosaryCarversModel", name := "carver", desc := "(I)I" } : Jvm.MethodName)) ∈ lw_all := lw_g (lw_at lw_m10 208 rfl) rfl
theorem q2441 : (Jvm.Cond.selects "RosaryCarversModel" ({ cls := "RosaryCarversModel", name := "carver", desc := "(I)I" } : Jvm.MethodName) ({ cls := "RosaryCarversModel", name := "carver", desc := "(I)I" } : Jvm.MethodName)) ∈ lw_all := lw_g (lw_at lw_m10 209 rfl) rfl
theorem q2442 : (Jvm.Cond.code ({ cls := "RosaryCarversModel", name := "carver", desc := "(I)I" } : Jvm.MethodName) prog_33_method_18_code (3 : Nat) (Option.some Jvm.ClassFile.FieldType.int)) ∈ lw_all := lw_g (lw_at lw_m10 210 rfl) rfl
theorem q2443 : (Jvm.Cond.methodLink "RosaryCarversModel" (95 : Nat) ({ cls := "RosaryCarversModel", name := "adds", desc := "(IIII)I" } : Jvm.MethodName)) ∈ lw_all := lw_g (lw_at lw_m10 211 rfl) rfl
theorem q2444 : (Jvm.Cond.privateMethod ({ cls := "RosaryCarversModel", name := "adds", desc := "(IIII)I" } : Jvm.MethodName)) ∈ lw_tbl := lw_at lw_m10 212 rfl
theorem q2445 : (Jvm.Cond.instanceMethod ({ cls := "RosaryCarversModel", name := "adds", desc := "(IIII)I" } : Jvm.MethodName)) ∈ lw_all := lw_g (lw_at lw_m10 213 rfl) rfl
theorem q2446 : (Jvm.Cond.code ({ cls := "RosaryCarversModel", name := "adds", desc := "(IIII)I" } : Jvm.MethodName) prog_33_method_11_code (7 : Nat) (Option.some Jvm.ClassFile.FieldType.int)) ∈ lw_all := lw_g (lw_at lw_m10 214 rfl) rfl
theorem q2447 : (Jvm.Cond.methodLink "RosaryCarversModel" (77 : Nat) ({ cls := "RosaryCarversModel", name := "refuses", desc := "(II)I" } : Jvm.MethodName)) ∈ lw_all := lw_g (lw_at lw_m10 215 rfl) rfl
theorem q2448 : (Jvm.Cond.privateMethod ({ cls := "RosaryCarversModel", name := "refuses", desc := "(II)I" } : Jvm.MethodName)) ∈ lw_tbl := lw_at lw_m10 216 rfl
theorem q2449 : (Jvm.Cond.instanceMethod ({ cls := "RosaryCarversModel", name := "refuses", desc := "(II)I" } : Jvm.MethodName)) ∈ lw_all := lw_g (lw_at lw_m10 217 rfl) rfl
theorem q2450 : (Jvm.Cond.code ({ cls := "RosaryCarversModel", name := "refuses", desc := "(II)I" } : Jvm.MethodName) prog_33_method_10_code (3 : Nat) (Option.some Jvm.ClassFile.FieldType.int)) ∈ lw_all := lw_g (lw_at lw_m10 218 rfl) rfl
theorem q2451 : (Jvm.Cond.methodLink "RosaryCarversModel" (99 : Nat) ({ cls := "RosaryCarversModel", name := "carverAt", desc := "(II)I" } : Jvm.MethodName)) ∈ lw_all := lw_g (lw_at lw_m10 219 rfl) rfl
theorem q2452 : (Jvm.Cond.static ({ cls := "RosaryCarversModel", name := "carverAt", desc := "(II)I" } : Jvm.MethodName)) ∈ lw_all := lw_g (lw_at lw_m10 220 rfl) rfl
theorem q2453 : (Jvm.Cond.code ({ cls := "RosaryCarversModel", name := "carverAt", desc := "(II)I" } : Jvm.MethodName) prog_33_method_14_code (2 : Nat) (Option.some Jvm.ClassFile.FieldType.int)) ∈ lw_all := lw_g (lw_at lw_m10 221 rfl) rfl
theorem q2455 : (Jvm.Cond.instanceMethod ({ cls := "RosaryCarversModel", name := "lens", desc := "(I)I" } : Jvm.MethodName)) ∈ lw_all := lw_g (lw_at lw_m10 223 rfl) rfl
theorem q2456 : (Jvm.Cond.selects "RosaryCarversModel" ({ cls := "RosaryCarversModel", name := "lens", desc := "(I)I" } : Jvm.MethodName) ({ cls := "RosaryCarversModel", name := "lens", desc := "(I)I" } : Jvm.MethodName)) ∈ lw_all := lw_g (lw_at lw_m10 224 rfl) rfl
theorem q2457 : (Jvm.Cond.code ({ cls := "RosaryCarversModel", name := "lens", desc := "(I)I" } : Jvm.MethodName) prog_33_method_19_code (3 : Nat) (Option.some Jvm.ClassFile.FieldType.int)) ∈ lw_all := lw_g (lw_at lw_m10 225 rfl) rfl
theorem q2458 : (Jvm.Cond.methodLink "RosaryCarversModel" (102 : Nat) ({ cls := "RosaryCarversModel", name := "lensAt", desc := "(II)I" } : Jvm.MethodName)) ∈ lw_all := lw_g (lw_at lw_m10 226 rfl) rfl
theorem q2459 : (Jvm.Cond.static ({ cls := "RosaryCarversModel", name := "lensAt", desc := "(II)I" } : Jvm.MethodName)) ∈ lw_all := lw_g (lw_at lw_m10 227 rfl) rfl
theorem q2460 : (Jvm.Cond.code ({ cls := "RosaryCarversModel", name := "lensAt", desc := "(II)I" } : Jvm.MethodName) prog_33_method_15_code (2 : Nat) (Option.some Jvm.ClassFile.FieldType.int)) ∈ lw_all := lw_g (lw_at lw_m10 228 rfl) rfl
theorem q2462 : (Jvm.Cond.instanceMethod ({ cls := "RosaryCarversModel", name := "give", desc := "(II)I" } : Jvm.MethodName)) ∈ lw_all := lw_g (lw_at lw_m10 230 rfl) rfl
theorem q2463 : (Jvm.Cond.selects "RosaryCarversModel" ({ cls := "RosaryCarversModel", name := "give", desc := "(II)I" } : Jvm.MethodName) ({ cls := "RosaryCarversModel", name := "give", desc := "(II)I" } : Jvm.MethodName)) ∈ lw_all := lw_g (lw_at lw_m10 231 rfl) rfl
theorem q2464 : (Jvm.Cond.code ({ cls := "RosaryCarversModel", name := "give", desc := "(II)I" } : Jvm.MethodName) prog_33_method_20_code (5 : Nat) (Option.some Jvm.ClassFile.FieldType.int)) ∈ lw_all := lw_g (lw_at lw_m10 232 rfl) rfl
theorem q2465 : (Jvm.Cond.methodLink "RosaryCarversModel" (105 : Nat) ({ cls := "RosaryCarversModel", name := "isLens", desc := "(I)Z" } : Jvm.MethodName)) ∈ lw_all := lw_g (lw_at lw_m10 233 rfl) rfl
theorem q2466 : (Jvm.Cond.privateMethod ({ cls := "RosaryCarversModel", name := "isLens", desc := "(I)Z" } : Jvm.MethodName)) ∈ lw_tbl := lw_at lw_m10 234 rfl
theorem q2467 : (Jvm.Cond.instanceMethod ({ cls := "RosaryCarversModel", name := "isLens", desc := "(I)Z" } : Jvm.MethodName)) ∈ lw_all := lw_g (lw_at lw_m10 235 rfl) rfl
theorem q2468 : (Jvm.Cond.code ({ cls := "RosaryCarversModel", name := "isLens", desc := "(I)Z" } : Jvm.MethodName) prog_33_method_17_code (2 : Nat) (Option.some Jvm.ClassFile.FieldType.boolean)) ∈ lw_all := lw_g (lw_at lw_m10 236 rfl) rfl
theorem q2469 : (Jvm.Cond.methodLink "RosaryCarversModel" (108 : Nat) ({ cls := "RosaryCarversModel", name := "isCarver", desc := "(I)Z" } : Jvm.MethodName)) ∈ lw_all := lw_g (lw_at lw_m10 237 rfl) rfl
theorem q2470 : (Jvm.Cond.privateMethod ({ cls := "RosaryCarversModel", name := "isCarver", desc := "(I)Z" } : Jvm.MethodName)) ∈ lw_tbl := lw_at lw_m10 238 rfl
theorem q2471 : (Jvm.Cond.instanceMethod ({ cls := "RosaryCarversModel", name := "isCarver", desc := "(I)Z" } : Jvm.MethodName)) ∈ lw_all := lw_g (lw_at lw_m10 239 rfl) rfl
theorem q2472 : (Jvm.Cond.code ({ cls := "RosaryCarversModel", name := "isCarver", desc := "(I)Z" } : Jvm.MethodName) prog_33_method_16_code (2 : Nat) (Option.some Jvm.ClassFile.FieldType.boolean)) ∈ lw_all := lw_g (lw_at lw_m11 0 rfl) rfl
theorem q2474 : (Jvm.Cond.instanceMethod ({ cls := "RosaryCarversModel", name := "carve", desc := "(IZI)I" } : Jvm.MethodName)) ∈ lw_all := lw_g (lw_at lw_m11 2 rfl) rfl
theorem q2475 : (Jvm.Cond.selects "RosaryCarversModel" ({ cls := "RosaryCarversModel", name := "carve", desc := "(IZI)I" } : Jvm.MethodName) ({ cls := "RosaryCarversModel", name := "carve", desc := "(IZI)I" } : Jvm.MethodName)) ∈ lw_all := lw_g (lw_at lw_m11 3 rfl) rfl
theorem q2476 : (Jvm.Cond.code ({ cls := "RosaryCarversModel", name := "carve", desc := "(IZI)I" } : Jvm.MethodName) prog_33_method_26_code (4 : Nat) (Option.some Jvm.ClassFile.FieldType.int)) ∈ lw_all := lw_g (lw_at lw_m11 4 rfl) rfl
theorem q2477 : (Jvm.Cond.methodLink "RosaryCarversModel" (125 : Nat) ({ cls := "RosaryCarversModel", name := "carves", desc := "(IZI)I" } : Jvm.MethodName)) ∈ lw_all := lw_g (lw_at lw_m11 5 rfl) rfl
theorem q2478 : (Jvm.Cond.privateMethod ({ cls := "RosaryCarversModel", name := "carves", desc := "(IZI)I" } : Jvm.MethodName)) ∈ lw_tbl := lw_at lw_m11 6 rfl
theorem q2479 : (Jvm.Cond.instanceMethod ({ cls := "RosaryCarversModel", name := "carves", desc := "(IZI)I" } : Jvm.MethodName)) ∈ lw_all := lw_g (lw_at lw_m11 7 rfl) rfl
theorem q2480 : (Jvm.Cond.code ({ cls := "RosaryCarversModel", name := "carves", desc := "(IZI)I" } : Jvm.MethodName) prog_33_method_25_code (8 : Nat) (Option.some Jvm.ClassFile.FieldType.int)) ∈ lw_all := lw_g (lw_at lw_m11 8 rfl) rfl
theorem q2481 : (Jvm.Cond.methodLink "RosaryCarversModel" (121 : Nat) ({ cls := "RosaryCarversModel", name := "carvesOne", desc := "(IZ)V" } : Jvm.MethodName)) ∈ lw_all := lw_g (lw_at lw_m11 9 rfl) rfl
theorem q2482 : (Jvm.Cond.privateMethod ({ cls := "RosaryCarversModel", name := "carvesOne", desc := "(IZ)V" } : Jvm.MethodName)) ∈ lw_tbl := lw_at lw_m11 10 rfl
theorem q2483 : (Jvm.Cond.instanceMethod ({ cls := "RosaryCarversModel", name := "carvesOne", desc := "(IZ)V" } : Jvm.MethodName)) ∈ lw_all := lw_g (lw_at lw_m11 11 rfl) rfl
theorem q2484 : (Jvm.Cond.code ({ cls := "RosaryCarversModel", name := "carvesOne", desc := "(IZ)V" } : Jvm.MethodName) prog_33_method_24_code (4 : Nat) (Option.none : Option Jvm.ClassFile.FieldType)) ∈ lw_all := lw_g (lw_at lw_m11 12 rfl) rfl
theorem q2485 : (Jvm.Cond.methodLink "RosaryCarversModel" (114 : Nat) ({ cls := "RosaryCarversModel", name := "sight", desc := "(I)I" } : Jvm.MethodName)) ∈ lw_all := lw_g (lw_at lw_m11 13 rfl) rfl
theorem q2486 : (Jvm.Cond.privateMethod ({ cls := "RosaryCarversModel", name := "sight", desc := "(I)I" } : Jvm.MethodName)) ∈ lw_tbl := lw_at lw_m11 14 rfl
theorem q2487 : (Jvm.Cond.instanceMethod ({ cls := "RosaryCarversModel", name := "sight", desc := "(I)I" } : Jvm.MethodName)) ∈ lw_all := lw_g (lw_at lw_m11 15 rfl) rfl
theorem q2488 : (Jvm.Cond.code ({ cls := "RosaryCarversModel", name := "sight", desc := "(I)I" } : Jvm.MethodName) prog_33_method_21_code (3 : Nat) (Option.some Jvm.ClassFile.FieldType.int)) ∈ lw_all := lw_g (lw_at lw_m11 16 rfl) rfl
theorem q2489 : (Jvm.Cond.methodLink "RosaryCarversModel" (117 : Nat) ({ cls := "RosaryCarversModel", name := "comesToBox", desc := "(IZI)V" } : Jvm.MethodName)) ∈ lw_all := lw_g (lw_at lw_m11 17 rfl) rfl
theorem q2490 : (Jvm.Cond.privateMethod ({ cls := "RosaryCarversModel", name := "comesToBox", desc := "(IZI)V" } : Jvm.MethodName)) ∈ lw_tbl := lw_at lw_m11 18 rfl
theorem q2491 : (Jvm.Cond.instanceMethod ({ cls := "RosaryCarversModel", name := "comesToBox", desc := "(IZI)V" } : Jvm.MethodName)) ∈ lw_all := lw_g (lw_at lw_m11 19 rfl) rfl
theorem q2492 : (Jvm.Cond.code ({ cls := "RosaryCarversModel", name := "comesToBox", desc := "(IZI)V" } : Jvm.MethodName) prog_33_method_23_code (5 : Nat) (Option.none : Option Jvm.ClassFile.FieldType)) ∈ lw_all := lw_g (lw_at lw_m11 20 rfl) rfl
theorem q2493 : (Jvm.Cond.methodLink "RosaryCarversModel" (111 : Nat) ({ cls := "RosaryCarversModel", name := "boxAt", desc := "(II)I" } : Jvm.MethodName)) ∈ lw_all := lw_g (lw_at lw_m11 21 rfl) rfl
theorem q2494 : (Jvm.Cond.static ({ cls := "RosaryCarversModel", name := "boxAt", desc := "(II)I" } : Jvm.MethodName)) ∈ lw_all := lw_g (lw_at lw_m11 22 rfl) rfl
theorem q2495 : (Jvm.Cond.code ({ cls := "RosaryCarversModel", name := "boxAt", desc := "(II)I" } : Jvm.MethodName) prog_33_method_22_code (2 : Nat) (Option.some Jvm.ClassFile.FieldType.int)) ∈ lw_all := lw_g (lw_at lw_m11 23 rfl) rfl
theorem q2497 : (Jvm.Cond.instanceMethod ({ cls := "RosaryCarversModel", name := "finest", desc := "(Z)I" } : Jvm.MethodName)) ∈ lw_all := lw_g (lw_at lw_m11 25 rfl) rfl
theorem q2498 : (Jvm.Cond.selects "RosaryCarversModel" ({ cls := "RosaryCarversModel", name := "finest", desc := "(Z)I" } : Jvm.MethodName) ({ cls := "RosaryCarversModel", name := "finest", desc := "(Z)I" } : Jvm.MethodName)) ∈ lw_all := lw_g (lw_at lw_m11 26 rfl) rfl
theorem q2499 : (Jvm.Cond.code ({ cls := "RosaryCarversModel", name := "finest", desc := "(Z)I" } : Jvm.MethodName) prog_33_method_28_code (3 : Nat) (Option.some Jvm.ClassFile.FieldType.int)) ∈ lw_all := lw_g (lw_at lw_m11 27 rfl) rfl
theorem q2500 : (Jvm.Cond.methodLink "RosaryCarversModel" (129 : Nat) ({ cls := "RosaryCarversModel", name := "finestPlace", desc := "(Z)I" } : Jvm.MethodName)) ∈ lw_all := lw_g (lw_at lw_m11 28 rfl) rfl
theorem q2501 : (Jvm.Cond.privateMethod ({ cls := "RosaryCarversModel", name := "finestPlace", desc := "(Z)I" } : Jvm.MethodName)) ∈ lw_tbl := lw_at lw_m11 29 rfl
theorem q2502 : (Jvm.Cond.instanceMethod ({ cls := "RosaryCarversModel", name := "finestPlace", desc := "(Z)I" } : Jvm.MethodName)) ∈ lw_all := lw_g (lw_at lw_m11 30 rfl) rfl
theorem q2503 : (Jvm.Cond.code ({ cls := "RosaryCarversModel", name := "finestPlace", desc := "(Z)I" } : Jvm.MethodName) prog_33_method_27_code (5 : Nat) (Option.some Jvm.ClassFile.FieldType.int)) ∈ lw_all := lw_g (lw_at lw_m11 31 rfl) rfl
theorem q2505 : (Jvm.Cond.instanceMethod ({ cls := "RosaryCarversModel", name := "finestAgain", desc := "(Z)I" } : Jvm.MethodName)) ∈ lw_all := lw_g (lw_at lw_m11 33 rfl) rfl
theorem q2506 : (Jvm.Cond.selects "RosaryCarversModel" ({ cls := "RosaryCarversModel", name := "finestAgain", desc := "(Z)I" } : Jvm.MethodName) ({ cls := "RosaryCarversModel", name := "finestAgain", desc := "(Z)I" } : Jvm.MethodName)) ∈ lw_all := lw_g (lw_at lw_m11 34 rfl) rfl
theorem q2507 : (Jvm.Cond.code ({ cls := "RosaryCarversModel", name := "finestAgain", desc := "(Z)I" } : Jvm.MethodName) prog_33_method_29_code (6 : Nat) (Option.some Jvm.ClassFile.FieldType.int)) ∈ lw_all := lw_g (lw_at lw_m11 35 rfl) rfl
theorem q2509 : (Jvm.Cond.instanceMethod ({ cls := "RosaryCarversModel", name := "box", desc := "(ZZ)I" } : Jvm.MethodName)) ∈ lw_all := lw_g (lw_at lw_m11 37 rfl) rfl
theorem q2510 : (Jvm.Cond.selects "RosaryCarversModel" ({ cls := "RosaryCarversModel", name := "box", desc := "(ZZ)I" } : Jvm.MethodName) ({ cls := "RosaryCarversModel", name := "box", desc := "(ZZ)I" } : Jvm.MethodName)) ∈ lw_all := lw_g (lw_at lw_m11 38 rfl) rfl
theorem q2511 : (Jvm.Cond.code ({ cls := "RosaryCarversModel", name := "box", desc := "(ZZ)I" } : Jvm.MethodName) prog_33_method_30_code (6 : Nat) (Option.some Jvm.ClassFile.FieldType.int)) ∈ lw_all := lw_g (lw_at lw_m11 39 rfl) rfl
theorem q2513 : (Jvm.Cond.instanceMethod ({ cls := "RosaryCarversModel", name := "begin", desc := "(II)I" } : Jvm.MethodName)) ∈ lw_all := lw_g (lw_at lw_m11 41 rfl) rfl
theorem q2514 : (Jvm.Cond.selects "RosaryCarversModel" ({ cls := "RosaryCarversModel", name := "begin", desc := "(II)I" } : Jvm.MethodName) ({ cls := "RosaryCarversModel", name := "begin", desc := "(II)I" } : Jvm.MethodName)) ∈ lw_all := lw_g (lw_at lw_m11 42 rfl) rfl
theorem q2515 : (Jvm.Cond.code ({ cls := "RosaryCarversModel", name := "begin", desc := "(II)I" } : Jvm.MethodName) prog_33_method_41_code (3 : Nat) (Option.some Jvm.ClassFile.FieldType.int)) ∈ lw_all := lw_g (lw_at lw_m11 43 rfl) rfl
theorem q2516 : (Jvm.Cond.methodLink "RosaryCarversModel" (152 : Nat) ({ cls := "RosaryCarversModel", name := "begins", desc := "(II)I" } : Jvm.MethodName)) ∈ lw_all := lw_g (lw_at lw_m11 44 rfl) rfl
theorem q2517 : (Jvm.Cond.privateMethod ({ cls := "RosaryCarversModel", name := "begins", desc := "(II)I" } : Jvm.MethodName)) ∈ lw_tbl := lw_at lw_m11 45 rfl
theorem q2518 : (Jvm.Cond.instanceMethod ({ cls := "RosaryCarversModel", name := "begins", desc := "(II)I" } : Jvm.MethodName)) ∈ lw_all := lw_g (lw_at lw_m11 46 rfl) rfl
theorem q2519 : (Jvm.Cond.code ({ cls := "RosaryCarversModel", name := "begins", desc := "(II)I" } : Jvm.MethodName) prog_33_method_40_code (4 : Nat) (Option.some Jvm.ClassFile.FieldType.int)) ∈ lw_all := lw_g (lw_at lw_m11 47 rfl) rfl
theorem q2520 : (Jvm.Cond.methodLink "RosaryCarversModel" (133 : Nat) ({ cls := "RosaryCarversModel", name := "stringAt", desc := "(II)I" } : Jvm.MethodName)) ∈ lw_all := lw_g (lw_at lw_m11 48 rfl) rfl
theorem q2521 : (Jvm.Cond.static ({ cls := "RosaryCarversModel", name := "stringAt", desc := "(II)I" } : Jvm.MethodName)) ∈ lw_all := lw_g (lw_at lw_m11 49 rfl) rfl
theorem q2522 : (Jvm.Cond.code ({ cls := "RosaryCarversModel", name := "stringAt", desc := "(II)I" } : Jvm.MethodName) prog_33_method_31_code (2 : Nat) (Option.some Jvm.ClassFile.FieldType.int)) ∈ lw_all := lw_g (lw_at lw_m11 50 rfl) rfl
theorem q2524 : (Jvm.Cond.instanceMethod ({ cls := "RosaryCarversModel", name := "thread", desc := "(I)I" } : Jvm.MethodName)) ∈ lw_all := lw_g (lw_at lw_m11 52 rfl) rfl
theorem q2525 : (Jvm.Cond.selects "RosaryCarversModel" ({ cls := "RosaryCarversModel", name := "thread", desc := "(I)I" } : Jvm.MethodName) ({ cls := "RosaryCarversModel", name := "thread", desc := "(I)I" } : Jvm.MethodName)) ∈ lw_all := lw_g (lw_at lw_m11 53 rfl) rfl
theorem q2526 : (Jvm.Cond.code ({ cls := "RosaryCarversModel", name := "thread", desc := "(I)I" } : Jvm.MethodName) prog_33_method_45_code (2 : Nat) (Option.some Jvm.ClassFile.FieldType.int)) ∈ lw_all := lw_g (lw_at lw_m11 54 rfl) rfl
theorem q2527 : (Jvm.Cond.methodLink "RosaryCarversModel" (174 : Nat) ({ cls := "RosaryCarversModel", name := "threads", desc := "(I)I" } : Jvm.MethodName)) ∈ lw_all := lw_g (lw_at lw_m11 55 rfl) rfl
theorem q2528 : (Jvm.Cond.privateMethod ({ cls := "RosaryCarversModel", name := "threads", desc := "(I)I" } : Jvm.MethodName)) ∈ lw_tbl := lw_at lw_m11 56 rfl
theorem q2529 : (Jvm.Cond.instanceMethod ({ cls := "RosaryCarversModel", name := "threads", desc := "(I)I" } : Jvm.MethodName)) ∈ lw_all := lw_g (lw_at lw_m11 57 rfl) rfl
theorem q2530 : (Jvm.Cond.code ({ cls := "RosaryCarversModel", name := "threads", desc := "(I)I" } : Jvm.MethodName) prog_33_method_44_code (6 : Nat) (Option.some Jvm.ClassFile.FieldType.int)) ∈ lw_all := lw_g (lw_at lw_m11 58 rfl) rfl
theorem q2531 : (Jvm.Cond.methodLink "RosaryCarversModel" (158 : Nat) ({ cls := "RosaryCarversModel", name := "isString", desc := "(I)Z" } : Jvm.MethodName)) ∈ lw_all := lw_g (lw_at lw_m11 59 rfl) rfl
theorem q2532 : (Jvm.Cond.privateMethod ({ cls := "RosaryCarversModel", name := "isString", desc := "(I)Z" } : Jvm.MethodName)) ∈ lw_tbl := lw_at lw_m11 60 rfl
theorem q2533 : (Jvm.Cond.instanceMethod ({ cls := "RosaryCarversModel", name := "isString", desc := "(I)Z" } : Jvm.MethodName)) ∈ lw_all := lw_g (lw_at lw_m11 61 rfl) rfl
theorem q2534 : (Jvm.Cond.code ({ cls := "RosaryCarversModel", name := "isString", desc := "(I)Z" } : Jvm.MethodName) prog_33_method_33_code (2 : Nat) (Option.some Jvm.ClassFile.FieldType.boolean)) ∈ lw_all := lw_g (lw_at lw_m11 62 rfl) rfl
theorem q2535 : (Jvm.Cond.methodLink "RosaryCarversModel" (161 : Nat) ({ cls := "RosaryCarversModel", name := "wants", desc := "(I)I" } : Jvm.MethodName)) ∈ lw_all := lw_g (lw_at lw_m11 63 rfl) rfl
theorem q2536 : (Jvm.Cond.privateMethod ({ cls := "RosaryCarversModel", name := "wants", desc := "(I)I" } : Jvm.MethodName)) ∈ lw_tbl := lw_at lw_m11 64 rfl
theorem q2537 : (Jvm.Cond.instanceMethod ({ cls := "RosaryCarversModel", name := "wants", desc := "(I)I" } : Jvm.MethodName)) ∈ lw_all := lw_g (lw_at lw_m11 65 rfl) rfl
theorem q2538 : (Jvm.Cond.code ({ cls := "RosaryCarversModel", name := "wants", desc := "(I)I" } : Jvm.MethodName) prog_33_method_39_code (2 : Nat) (Option.some Jvm.ClassFile.FieldType.int)) ∈ lw_all := lw_g (lw_at lw_m11 66 rfl) rfl
theorem q2539 : (Jvm.Cond.methodLink "RosaryCarversModel" (142 : Nat) ({ cls := "RosaryCarversModel", name := "isDone", desc := "(I)Z" } : Jvm.MethodName)) ∈ lw_all := lw_g (lw_at lw_m11 67 rfl) rfl
theorem q2540 : (Jvm.Cond.privateMethod ({ cls := "RosaryCarversModel", name := "isDone", desc := "(I)Z" } : Jvm.MethodName)) ∈ lw_tbl := lw_at lw_m11 68 rfl
theorem q2541 : (Jvm.Cond.instanceMethod ({ cls := "RosaryCarversModel", name := "isDone", desc := "(I)Z" } : Jvm.MethodName)) ∈ lw_all := lw_g (lw_at lw_m11 69 rfl) rfl
theorem q2542 : (Jvm.Cond.code ({ cls := "RosaryCarversModel", name := "isDone", desc := "(I)Z" } : Jvm.MethodName) prog_33_method_36_code (2 : Nat) (Option.some Jvm.ClassFile.FieldType.boolean)) ∈ lw_all := lw_g (lw_at lw_m11 70 rfl) rfl
theorem q2543 : (Jvm.Cond.methodLink "RosaryCarversModel" (136 : Nat) ({ cls := "RosaryCarversModel", name := "ofString", desc := "(II)I" } : Jvm.MethodName)) ∈ lw_all := lw_g (lw_at lw_m11 71 rfl) rfl
theorem q2544 : (Jvm.Cond.privateMethod ({ cls := "RosaryCarversModel", name := "ofString", desc := "(II)I" } : Jvm.MethodName)) ∈ lw_tbl := lw_at lw_m11 72 rfl
theorem q2545 : (Jvm.Cond.instanceMethod ({ cls := "RosaryCarversModel", name := "ofString", desc := "(II)I" } : Jvm.MethodName)) ∈ lw_all := lw_g (lw_at lw_m11 73 rfl) rfl
theorem q2546 : (Jvm.Cond.code ({ cls := "RosaryCarversModel", name := "ofString", desc := "(II)I" } : Jvm.MethodName) prog_33_method_32_code (3 : Nat) (Option.some Jvm.ClassFile.FieldType.int)) ∈ lw_all := lw_g (lw_at lw_m11 74 rfl) rfl
theorem q2547 : (Jvm.Cond.methodLink "RosaryCarversModel" (145 : Nat) ({ cls := "RosaryCarversModel", name := "lacks", desc := "(I)I" } : Jvm.MethodName)) ∈ lw_all := lw_g (lw_at lw_m11 75 rfl) rfl
theorem q2548 : (Jvm.Cond.privateMethod ({ cls := "RosaryCarversModel", name := "lacks", desc := "(I)I" } : Jvm.MethodName)) ∈ lw_tbl := lw_at lw_m11 76 rfl
theorem q2549 : (Jvm.Cond.instanceMethod ({ cls := "RosaryCarversModel", name := "lacks", desc := "(I)I" } : Jvm.MethodName)) ∈ lw_all := lw_g (lw_at lw_m11 77 rfl) rfl
theorem q2550 : (Jvm.Cond.code ({ cls := "RosaryCarversModel", name := "lacks", desc := "(I)I" } : Jvm.MethodName) prog_33_method_38_code (2 : Nat) (Option.some Jvm.ClassFile.FieldType.int)) ∈ lw_all := lw_g (lw_at lw_m11 78 rfl) rfl
theorem q2551 : (Jvm.Cond.methodLink "RosaryCarversModel" (139 : Nat) ({ cls := "RosaryCarversModel", name := "knotted", desc := "(I)I" } : Jvm.MethodName)) ∈ lw_all := lw_g (lw_at lw_m11 79 rfl) rfl
theorem q2552 : (Jvm.Cond.privateMethod ({ cls := "RosaryCarversModel", name := "knotted", desc := "(I)I" } : Jvm.MethodName)) ∈ lw_tbl := lw_at lw_m11 80 rfl
theorem q2553 : (Jvm.Cond.instanceMethod ({ cls := "RosaryCarversModel", name := "knotted", desc := "(I)I" } : Jvm.MethodName)) ∈ lw_all := lw_g (lw_at lw_m11 81 rfl) rfl
theorem q2554 : (Jvm.Cond.code ({ cls := "RosaryCarversModel", name := "knotted", desc := "(I)I" } : Jvm.MethodName) prog_33_method_37_code (2 : Nat) (Option.some Jvm.ClassFile.FieldType.int)) ∈ lw_all := lw_g (lw_at lw_m11 82 rfl) rfl
theorem q2555 : (Jvm.Cond.methodLink "RosaryCarversModel" (148 : Nat) ({ cls := "RosaryCarversModel", name := "isLargeAt", desc := "(II)Z" } : Jvm.MethodName)) ∈ lw_all := lw_g (lw_at lw_m11 83 rfl) rfl
theorem q2556 : (Jvm.Cond.privateMethod ({ cls := "RosaryCarversModel", name := "isLargeAt", desc := "(II)Z" } : Jvm.MethodName)) ∈ lw_tbl := lw_at lw_m11 84 rfl
theorem q2557 : (Jvm.Cond.instanceMethod ({ cls := "RosaryCarversModel", name := "isLargeAt", desc := "(II)Z" } : Jvm.MethodName)) ∈ lw_all := lw_g (lw_at lw_m11 85 rfl) rfl
theorem q2558 : (Jvm.Cond.code ({ cls := "RosaryCarversModel", name := "isLargeAt", desc := "(II)Z" } : Jvm.MethodName) prog_33_method_35_code (3 : Nat) (Option.some Jvm.ClassFile.FieldType.boolean)) ∈ lw_all := lw_g (lw_at lw_m11 86 rfl) rfl
theorem q2559 : (Jvm.Cond.methodLink "RosaryCarversModel" (164 : Nat) ({ cls := "RosaryCarversModel", name := "refusesBead", desc := "(Z)I" } : Jvm.MethodName)) ∈ lw_all := lw_g (lw_at lw_m11 87 rfl) rfl
theorem q2560 : (Jvm.Cond.privateMethod ({ cls := "RosaryCarversModel", name := "refusesBead", desc := "(Z)I" } : Jvm.MethodName)) ∈ lw_tbl := lw_at lw_m11 88 rfl
theorem q2561 : (Jvm.Cond.instanceMethod ({ cls := "RosaryCarversModel", name := "refusesBead", desc := "(Z)I" } : Jvm.MethodName)) ∈ lw_all := lw_g (lw_at lw_m11 89 rfl) rfl
theorem q2562 : (Jvm.Cond.code ({ cls := "RosaryCarversModel", name := "refusesBead", desc := "(Z)I" } : Jvm.MethodName) prog_33_method_43_code (3 : Nat) (Option.some Jvm.ClassFile.FieldType.int)) ∈ lw_all := lw_g (lw_at lw_m11 90 rfl) rfl
theorem q2563 : (Jvm.Cond.methodLink "RosaryCarversModel" (155 : Nat) ({ cls := "RosaryCarversModel", name := "onOthers", desc := "(Z)I" } : Jvm.MethodName)) ∈ lw_all := lw_g (lw_at lw_m11 91 rfl) rfl
theorem q2564 : (Jvm.Cond.privateMethod ({ cls := "RosaryCarversModel", name := "onOthers", desc := "(Z)I" } : Jvm.MethodName)) ∈ lw_tbl := lw_at lw_m11 92 rfl
theorem q2565 : (Jvm.Cond.instanceMethod ({ cls := "RosaryCarversModel", name := "onOthers", desc := "(Z)I" } : Jvm.MethodName)) ∈ lw_all := lw_g (lw_at lw_m11 93 rfl) rfl
theorem q2566 : (Jvm.Cond.code ({ cls := "RosaryCarversModel", name := "onOthers", desc := "(Z)I" } : Jvm.MethodName) prog_33_method_42_code (5 : Nat) (Option.some Jvm.ClassFile.FieldType.int)) ∈ lw_all := lw_g (lw_at lw_m11 94 rfl) rfl
theorem q2567 : (Jvm.Cond.methodLink "RosaryCarversModel" (167 : Nat) ({ cls := "RosaryCarversModel", name := "beadAt", desc := "(II)I" } : Jvm.MethodName)) ∈ lw_all := lw_g (lw_at lw_m11 95 rfl) rfl
theorem q2568 : (Jvm.Cond.static ({ cls := "RosaryCarversModel", name := "beadAt", desc := "(II)I" } : Jvm.MethodName)) ∈ lw_all := lw_g (lw_at lw_m11 96 rfl) rfl
theorem q2569 : (Jvm.Cond.code ({ cls := "RosaryCarversModel", name := "beadAt", desc := "(II)I" } : Jvm.MethodName) prog_33_method_34_code (2 : Nat) (Option.some Jvm.ClassFile.FieldType.int)) ∈ lw_all := lw_g (lw_at lw_m11 97 rfl) rfl
theorem q2570 : (Jvm.Cond.methodLink "RosaryCarversModel" (170 : Nat) ({ cls := "RosaryCarversModel", name := "goes", desc := "(IIII)V" } : Jvm.MethodName)) ∈ lw_all := lw_g (lw_at lw_m11 98 rfl) rfl
theorem q2571 : (Jvm.Cond.privateMethod ({ cls := "RosaryCarversModel", name := "goes", desc := "(IIII)V" } : Jvm.MethodName)) ∈ lw_tbl := lw_at lw_m11 99 rfl
theorem q2572 : (Jvm.Cond.instanceMethod ({ cls := "RosaryCarversModel", name := "goes", desc := "(IIII)V" } : Jvm.MethodName)) ∈ lw_all := lw_g (lw_at lw_m11 100 rfl) rfl
theorem q2573 : (Jvm.Cond.code ({ cls := "RosaryCarversModel", name := "goes", desc := "(IIII)V" } : Jvm.MethodName) prog_33_method_12_code (6 : Nat) (Option.none : Option Jvm.ClassFile.FieldType)) ∈ lw_all := lw_g (lw_at lw_m11 101 rfl) rfl
theorem q2575 : (Jvm.Cond.instanceMethod ({ cls := "RosaryCarversModel", name := "knot", desc := "(I)I" } : Jvm.MethodName)) ∈ lw_all := lw_g (lw_at lw_m11 103 rfl) rfl
theorem q2576 : (Jvm.Cond.selects "RosaryCarversModel" ({ cls := "RosaryCarversModel", name := "knot", desc := "(I)I" } : Jvm.MethodName) ({ cls := "RosaryCarversModel", name := "knot", desc := "(I)I" } : Jvm.MethodName)) ∈ lw_all := lw_g (lw_at lw_m11 104 rfl) rfl
theorem q2577 : (Jvm.Cond.code ({ cls := "RosaryCarversModel", name := "knot", desc := "(I)I" } : Jvm.MethodName) prog_33_method_47_code (2 : Nat) (Option.some Jvm.ClassFile.FieldType.int)) ∈ lw_all := lw_g (lw_at lw_m11 105 rfl) rfl
theorem q2578 : (Jvm.Cond.methodLink "RosaryCarversModel" (177 : Nat) ({ cls := "RosaryCarversModel", name := "knots", desc := "(I)I" } : Jvm.MethodName)) ∈ lw_all := lw_g (lw_at lw_m11 106 rfl) rfl
theorem q2579 : (Jvm.Cond.privateMethod ({ cls := "RosaryCarversModel", name := "knots", desc := "(I)I" } : Jvm.MethodName)) ∈ lw_tbl := lw_at lw_m11 107 rfl
theorem q2580 : (Jvm.Cond.instanceMethod ({ cls := "RosaryCarversModel", name := "knots", desc := "(I)I" } : Jvm.MethodName)) ∈ lw_all := lw_g (lw_at lw_m11 108 rfl) rfl
theorem q2581 : (Jvm.Cond.code ({ cls := "RosaryCarversModel", name := "knots", desc := "(I)I" } : Jvm.MethodName) prog_33_method_46_code (2 : Nat) (Option.some Jvm.ClassFile.FieldType.int)) ∈ lw_all := lw_g (lw_at lw_m11 109 rfl) rfl
theorem q2583 : (Jvm.Cond.instanceMethod ({ cls := "RosaryCarversModel", name := "drop", desc := "(I)I" } : Jvm.MethodName)) ∈ lw_all := lw_g (lw_at lw_m11 111 rfl) rfl
theorem q2584 : (Jvm.Cond.selects "RosaryCarversModel" ({ cls := "RosaryCarversModel", name := "drop", desc := "(I)I" } : Jvm.MethodName) ({ cls := "RosaryCarversModel", name := "drop", desc := "(I)I" } : Jvm.MethodName)) ∈ lw_all := lw_g (lw_at lw_m11 112 rfl) rfl
theorem q2585 : (Jvm.Cond.code ({ cls := "RosaryCarversModel", name := "drop", desc := "(I)I" } : Jvm.MethodName) prog_33_method_49_code (2 : Nat) (Option.some Jvm.ClassFile.FieldType.int)) ∈ lw_all := lw_g (lw_at lw_m11 113 rfl) rfl
theorem q2586 : (Jvm.Cond.methodLink "RosaryCarversModel" (180 : Nat) ({ cls := "RosaryCarversModel", name := "drops", desc := "(I)I" } : Jvm.MethodName)) ∈ lw_all := lw_g (lw_at lw_m11 114 rfl) rfl
theorem q2587 : (Jvm.Cond.privateMethod ({ cls := "RosaryCarversModel", name := "drops", desc := "(I)I" } : Jvm.MethodName)) ∈ lw_tbl := lw_at lw_m11 115 rfl
theorem q2588 : (Jvm.Cond.instanceMethod ({ cls := "RosaryCarversModel", name := "drops", desc := "(I)I" } : Jvm.MethodName)) ∈ lw_all := lw_g (lw_at lw_m11 116 rfl) rfl
theorem q2589 : (Jvm.Cond.code ({ cls := "RosaryCarversModel", name := "drops", desc := "(I)I" } : Jvm.MethodName) prog_33_method_48_code (5 : Nat) (Option.some Jvm.ClassFile.FieldType.int)) ∈ lw_all := lw_g (lw_at lw_m11 117 rfl) rfl
theorem q2591 : (Jvm.Cond.instanceMethod ({ cls := "RosaryCarversModel", name := "pilgrim", desc := "(IIII)I" } : Jvm.MethodName)) ∈ lw_all := lw_g (lw_at lw_m11 119 rfl) rfl
theorem q2592 : (Jvm.Cond.selects "RosaryCarversModel" ({ cls := "RosaryCarversModel", name := "pilgrim", desc := "(IIII)I" } : Jvm.MethodName) ({ cls := "RosaryCarversModel", name := "pilgrim", desc := "(IIII)I" } : Jvm.MethodName)) ∈ lw_all := lw_g (lw_at lw_m11 120 rfl) rfl
theorem q2593 : (Jvm.Cond.code ({ cls := "RosaryCarversModel", name := "pilgrim", desc := "(IIII)I" } : Jvm.MethodName) prog_33_method_54_code (7 : Nat) (Option.some Jvm.ClassFile.FieldType.int)) ∈ lw_all := lw_g (lw_at lw_m11 121 rfl) rfl
theorem q2594 : (Jvm.Cond.methodLink "RosaryCarversModel" (186 : Nat) ({ cls := "RosaryCarversModel", name := "pilgrimAt", desc := "(II)I" } : Jvm.MethodName)) ∈ lw_all := lw_g (lw_at lw_m11 122 rfl) rfl
theorem q2595 : (Jvm.Cond.static ({ cls := "RosaryCarversModel", name := "pilgrimAt", desc := "(II)I" } : Jvm.MethodName)) ∈ lw_all := lw_g (lw_at lw_m11 123 rfl) rfl
theorem q2596 : (Jvm.Cond.code ({ cls := "RosaryCarversModel", name := "pilgrimAt", desc := "(II)I" } : Jvm.MethodName) prog_33_method_52_code (2 : Nat) (Option.some Jvm.ClassFile.FieldType.int)) ∈ lw_all := lw_g (lw_at lw_m11 124 rfl) rfl
theorem q2597 : (Jvm.Cond.methodLink "RosaryCarversModel" (189 : Nat) ({ cls := "RosaryCarversModel", name := "season", desc := "(I)I" } : Jvm.MethodName)) ∈ lw_all := lw_g (lw_at lw_m11 125 rfl) rfl
theorem q2598 : (Jvm.Cond.static ({ cls := "RosaryCarversModel", name := "season", desc := "(I)I" } : Jvm.MethodName)) ∈ lw_all := lw_g (lw_at lw_m11 126 rfl) rfl
theorem q2599 : (Jvm.Cond.code ({ cls := "RosaryCarversModel", name := "season", desc := "(I)I" } : Jvm.MethodName) prog_33_method_53_code (1 : Nat) (Option.some Jvm.ClassFile.FieldType.int)) ∈ lw_all := lw_g (lw_at lw_m11 127 rfl) rfl
theorem q2601 : (Jvm.Cond.instanceMethod ({ cls := "RosaryCarversModel", name := "mend", desc := "()I" } : Jvm.MethodName)) ∈ lw_all := lw_g (lw_at lw_m11 129 rfl) rfl
theorem q2602 : (Jvm.Cond.selects "RosaryCarversModel" ({ cls := "RosaryCarversModel", name := "mend", desc := "()I" } : Jvm.MethodName) ({ cls := "RosaryCarversModel", name := "mend", desc := "()I" } : Jvm.MethodName)) ∈ lw_all := lw_g (lw_at lw_m11 130 rfl) rfl
theorem q2603 : (Jvm.Cond.code ({ cls := "RosaryCarversModel", name := "mend", desc := "()I" } : Jvm.MethodName) prog_33_method_60_code (1 : Nat) (Option.some Jvm.ClassFile.FieldType.int)) ∈ lw_all := lw_g (lw_at lw_m11 131 rfl) rfl
theorem q2604 : (Jvm.Cond.methodLink "RosaryCarversModel" (202 : Nat) ({ cls := "RosaryCarversModel", name := "mends", desc := "()I" } : Jvm.MethodName)) ∈ lw_all := lw_g (lw_at lw_m11 132 rfl) rfl
theorem q2605 : (Jvm.Cond.privateMethod ({ cls := "RosaryCarversModel", name := "mends", desc := "()I" } : Jvm.MethodName)) ∈ lw_tbl := lw_at lw_m11 133 rfl
theorem q2606 : (Jvm.Cond.instanceMethod ({ cls := "RosaryCarversModel", name := "mends", desc := "()I" } : Jvm.MethodName)) ∈ lw_all := lw_g (lw_at lw_m11 134 rfl) rfl
theorem q2607 : (Jvm.Cond.code ({ cls := "RosaryCarversModel", name := "mends", desc := "()I" } : Jvm.MethodName) prog_33_method_59_code (4 : Nat) (Option.some Jvm.ClassFile.FieldType.int)) ∈ lw_all := lw_g (lw_at lw_m11 135 rfl) rfl
theorem q2609 : (Jvm.Cond.instanceMethod ({ cls := "RosaryCarversModel", name := "pass", desc := "(I)I" } : Jvm.MethodName)) ∈ lw_all := lw_g (lw_at lw_m11 137 rfl) rfl
theorem q2610 : (Jvm.Cond.selects "RosaryCarversModel" ({ cls := "RosaryCarversModel", name := "pass", desc := "(I)I" } : Jvm.MethodName) ({ cls := "RosaryCarversModel", name := "pass", desc := "(I)I" } : Jvm.MethodName)) ∈ lw_all := lw_g (lw_at lw_m11 138 rfl) rfl
theorem q2611 : (Jvm.Cond.code ({ cls := "RosaryCarversModel", name := "pass", desc := "(I)I" } : Jvm.MethodName) prog_33_method_63_code (2 : Nat) (Option.some Jvm.ClassFile.FieldType.int)) ∈ lw_all := lw_g (lw_at lw_m11 139 rfl) rfl
theorem q2612 : (Jvm.Cond.methodLink "RosaryCarversModel" (218 : Nat) ({ cls := "RosaryCarversModel", name := "passes", desc := "(I)I" } : Jvm.MethodName)) ∈ lw_all := lw_g (lw_at lw_m11 140 rfl) rfl
theorem q2613 : (Jvm.Cond.privateMethod ({ cls := "RosaryCarversModel", name := "passes", desc := "(I)I" } : Jvm.MethodName)) ∈ lw_tbl := lw_at lw_m11 141 rfl
theorem q2614 : (Jvm.Cond.instanceMethod ({ cls := "RosaryCarversModel", name := "passes", desc := "(I)I" } : Jvm.MethodName)) ∈ lw_all := lw_g (lw_at lw_m11 142 rfl) rfl
theorem q2615 : (Jvm.Cond.code ({ cls := "RosaryCarversModel", name := "passes", desc := "(I)I" } : Jvm.MethodName) prog_33_method_62_code (4 : Nat) (Option.some Jvm.ClassFile.FieldType.int)) ∈ lw_all := lw_g (lw_at lw_m11 143 rfl) rfl
theorem q2616 : (Jvm.Cond.methodLink "RosaryCarversModel" (215 : Nat) ({ cls := "RosaryCarversModel", name := "dayGoes", desc := "()I" } : Jvm.MethodName)) ∈ lw_all := lw_g (lw_at lw_m11 144 rfl) rfl
theorem q2617 : (Jvm.Cond.privateMethod ({ cls := "RosaryCarversModel", name := "dayGoes", desc := "()I" } : Jvm.MethodName)) ∈ lw_tbl := lw_at lw_m11 145 rfl
theorem q2618 : (Jvm.Cond.instanceMethod ({ cls := "RosaryCarversModel", name := "dayGoes", desc := "()I" } : Jvm.MethodName)) ∈ lw_all := lw_g (lw_at lw_m11 146 rfl) rfl
theorem q2619 : (Jvm.Cond.code ({ cls := "RosaryCarversModel", name := "dayGoes", desc := "()I" } : Jvm.MethodName) prog_33_method_61_code (2 : Nat) (Option.some Jvm.ClassFile.FieldType.int)) ∈ lw_all := lw_g (lw_at lw_m11 147 rfl) rfl
theorem q2620 : (Jvm.Cond.methodLink "RosaryCarversModel" (206 : Nat) ({ cls := "RosaryCarversModel", name := "greater", desc := "(II)I" } : Jvm.MethodName)) ∈ lw_all := lw_g (lw_at lw_m11 148 rfl) rfl
theorem q2621 : (Jvm.Cond.static ({ cls := "RosaryCarversModel", name := "greater", desc := "(II)I" } : Jvm.MethodName)) ∈ lw_all := lw_g (lw_at lw_m11 149 rfl) rfl
theorem q2622 : (Jvm.Cond.code ({ cls := "RosaryCarversModel", name := "greater", desc := "(II)I" } : Jvm.MethodName) prog_33_method_4_code (2 : Nat) (Option.some Jvm.ClassFile.FieldType.int)) ∈ lw_all := lw_g (lw_at lw_m11 150 rfl) rfl
theorem q2623 : (Jvm.Cond.methodLink "RosaryCarversModel" (209 : Nat) ({ cls := "RosaryCarversModel", name := "comeBack", desc := "()V" } : Jvm.MethodName)) ∈ lw_all := lw_g (lw_at lw_m11 151 rfl) rfl
theorem q2624 : (Jvm.Cond.privateMethod ({ cls := "RosaryCarversModel", name := "comeBack", desc := "()V" } : Jvm.MethodName)) ∈ lw_tbl := lw_at lw_m11 152 rfl
theorem q2625 : (Jvm.Cond.instanceMethod ({ cls := "RosaryCarversModel", name := "comeBack", desc := "()V" } : Jvm.MethodName)) ∈ lw_all := lw_g (lw_at lw_m11 153 rfl) rfl
theorem q2626 : (Jvm.Cond.code ({ cls := "RosaryCarversModel", name := "comeBack", desc := "()V" } : Jvm.MethodName) prog_33_method_58_code (4 : Nat) (Option.none : Option Jvm.ClassFile.FieldType)) ∈ lw_all := lw_g (lw_at lw_m11 154 rfl) rfl
theorem q2627 : (Jvm.Cond.methodLink "RosaryCarversModel" (212 : Nat) ({ cls := "RosaryCarversModel", name := "pilgrimsCome", desc := "()I" } : Jvm.MethodName)) ∈ lw_all := lw_g (lw_at lw_m11 155 rfl) rfl
theorem q2628 : (Jvm.Cond.privateMethod ({ cls := "RosaryCarversModel", name := "pilgrimsCome", desc := "()I" } : Jvm.MethodName)) ∈ lw_tbl := lw_at lw_m11 156 rfl
theorem q2629 : (Jvm.Cond.instanceMethod ({ cls := "RosaryCarversModel", name := "pilgrimsCome", desc := "()I" } : Jvm.MethodName)) ∈ lw_all := lw_g (lw_at lw_m11 157 rfl) rfl
theorem q2630 : (Jvm.Cond.code ({ cls := "RosaryCarversModel", name := "pilgrimsCome", desc := "()I" } : Jvm.MethodName) prog_33_method_57_code (4 : Nat) (Option.some Jvm.ClassFile.FieldType.int)) ∈ lw_all := lw_g (lw_at lw_m11 158 rfl) rfl
theorem q2631 : (Jvm.Cond.methodLink "RosaryCarversModel" (195 : Nat) ({ cls := "RosaryCarversModel", name := "wouldBuy", desc := "(I)I" } : Jvm.MethodName)) ∈ lw_all := lw_g (lw_at lw_m11 159 rfl) rfl
theorem q2632 : (Jvm.Cond.privateMethod ({ cls := "RosaryCarversModel", name := "wouldBuy", desc := "(I)I" } : Jvm.MethodName)) ∈ lw_tbl := lw_at lw_m11 160 rfl
theorem q2633 : (Jvm.Cond.instanceMethod ({ cls := "RosaryCarversModel", name := "wouldBuy", desc := "(I)I" } : Jvm.MethodName)) ∈ lw_all := lw_g (lw_at lw_m11 161 rfl) rfl
theorem q2634 : (Jvm.Cond.code ({ cls := "RosaryCarversModel", name := "wouldBuy", desc := "(I)I" } : Jvm.MethodName) prog_33_method_55_code (5 : Nat) (Option.some Jvm.ClassFile.FieldType.int)) ∈ lw_all := lw_g (lw_at lw_m11 162 rfl) rfl
theorem q2635 : (Jvm.Cond.methodLink "RosaryCarversModel" (192 : Nat) ({ cls := "RosaryCarversModel", name := "fineness", desc := "(I)I" } : Jvm.MethodName)) ∈ lw_all := lw_g (lw_at lw_m11 163 rfl) rfl
theorem q2636 : (Jvm.Cond.privateMethod ({ cls := "RosaryCarversModel", name := "fineness", desc := "(I)I" } : Jvm.MethodName)) ∈ lw_tbl := lw_at lw_m11 164 rfl
theorem q2637 : (Jvm.Cond.instanceMethod ({ cls := "RosaryCarversModel", name := "fineness", desc := "(I)I" } : Jvm.MethodName)) ∈ lw_all := lw_g (lw_at lw_m11 165 rfl) rfl
theorem q2638 : (Jvm.Cond.code ({ cls := "RosaryCarversModel", name := "fineness", desc := "(I)I" } : Jvm.MethodName) prog_33_method_51_code (3 : Nat) (Option.some Jvm.ClassFile.FieldType.int)) ∈ lw_all := lw_g (lw_at lw_m11 166 rfl) rfl
theorem q2639 : (Jvm.Cond.methodLink "RosaryCarversModel" (183 : Nat) ({ cls := "RosaryCarversModel", name := "sumOn", desc := "(I)I" } : Jvm.MethodName)) ∈ lw_all := lw_g (lw_at lw_m11 167 rfl) rfl
theorem q2640 : (Jvm.Cond.privateMethod ({ cls := "RosaryCarversModel", name := "sumOn", desc := "(I)I" } : Jvm.MethodName)) ∈ lw_tbl := lw_at lw_m11 168 rfl
theorem q2641 : (Jvm.Cond.instanceMethod ({ cls := "RosaryCarversModel", name := "sumOn", desc := "(I)I" } : Jvm.MethodName)) ∈ lw_all := lw_g (lw_at lw_m11 169 rfl) rfl
theorem q2642 : (Jvm.Cond.code ({ cls := "RosaryCarversModel", name := "sumOn", desc := "(I)I" } : Jvm.MethodName) prog_33_method_50_code (4 : Nat) (Option.some Jvm.ClassFile.FieldType.int)) ∈ lw_all := lw_g (lw_at lw_m11 170 rfl) rfl
theorem q2643 : (Jvm.Cond.methodLink "RosaryCarversModel" (198 : Nat) ({ cls := "RosaryCarversModel", name := "sells", desc := "(II)V" } : Jvm.MethodName)) ∈ lw_all := lw_g (lw_at lw_m11 171 rfl) rfl
theorem q2644 : (Jvm.Cond.privateMethod ({ cls := "RosaryCarversModel", name := "sells", desc := "(II)V" } : Jvm.MethodName)) ∈ lw_tbl := lw_at lw_m11 172 rfl
theorem q2645 : (Jvm.Cond.instanceMethod ({ cls := "RosaryCarversModel", name := "sells", desc := "(II)V" } : Jvm.MethodName)) ∈ lw_all := lw_g (lw_at lw_m11 173 rfl) rfl
theorem q2646 : (Jvm.Cond.code ({ cls := "RosaryCarversModel", name := "sells", desc := "(II)V" } : Jvm.MethodName) prog_33_method_56_code (6 : Nat) (Option.none : Option Jvm.ClassFile.FieldType)) ∈ lw_all := lw_g (lw_at lw_m11 174 rfl) rfl
theorem q2648 : (Jvm.Cond.instanceMethod ({ cls := "RosaryCarversModel", name := "carverOf", desc := "(II)I" } : Jvm.MethodName)) ∈ lw_all := lw_g (lw_at lw_m11 176 rfl) rfl
theorem q2649 : (Jvm.Cond.selects "RosaryCarversModel" ({ cls := "RosaryCarversModel", name := "carverOf", desc := "(II)I" } : Jvm.MethodName) ({ cls := "RosaryCarversModel", name := "carverOf", desc := "(II)I" } : Jvm.MethodName)) ∈ lw_all := lw_g (lw_at lw_m11 177 rfl) rfl
theorem q2650 : (Jvm.Cond.code ({ cls := "RosaryCarversModel", name := "carverOf", desc := "(II)I" } : Jvm.MethodName) prog_33_method_64_code (3 : Nat) (Option.some Jvm.ClassFile.FieldType.int)) ∈ lw_all := lw_g (lw_at lw_m11 178 rfl) rfl
theorem q2652 : (Jvm.Cond.instanceMethod ({ cls := "RosaryCarversModel", name := "lensOf", desc := "(IZ)I" } : Jvm.MethodName)) ∈ lw_all := lw_g (lw_at lw_m11 180 rfl) rfl
theorem q2653 : (Jvm.Cond.selects "RosaryCarversModel" ({ cls := "RosaryCarversModel", name := "lensOf", desc := "(IZ)I" } : Jvm.MethodName) ({ cls := "RosaryCarversModel", name := "lensOf", desc := "(IZ)I" } : Jvm.MethodName)) ∈ lw_all := lw_g (lw_at lw_m11 181 rfl) rfl
theorem q2654 : (Jvm.Cond.code ({ cls := "RosaryCarversModel", name := "lensOf", desc := "(IZ)I" } : Jvm.MethodName) prog_33_method_65_code (3 : Nat) (Option.some Jvm.ClassFile.FieldType.int)) ∈ lw_all := lw_g (lw_at lw_m11 182 rfl) rfl
theorem q2656 : (Jvm.Cond.instanceMethod ({ cls := "RosaryCarversModel", name := "stringOf", desc := "(II)I" } : Jvm.MethodName)) ∈ lw_all := lw_g (lw_at lw_m11 184 rfl) rfl
theorem q2657 : (Jvm.Cond.selects "RosaryCarversModel" ({ cls := "RosaryCarversModel", name := "stringOf", desc := "(II)I" } : Jvm.MethodName) ({ cls := "RosaryCarversModel", name := "stringOf", desc := "(II)I" } : Jvm.MethodName)) ∈ lw_all := lw_g (lw_at lw_m11 185 rfl) rfl
theorem q2658 : (Jvm.Cond.code ({ cls := "RosaryCarversModel", name := "stringOf", desc := "(II)I" } : Jvm.MethodName) prog_33_method_66_code (3 : Nat) (Option.some Jvm.ClassFile.FieldType.int)) ∈ lw_all := lw_g (lw_at lw_m11 186 rfl) rfl
theorem q2660 : (Jvm.Cond.instanceMethod ({ cls := "RosaryCarversModel", name := "bead", desc := "(IIZ)I" } : Jvm.MethodName)) ∈ lw_all := lw_g (lw_at lw_m11 188 rfl) rfl
theorem q2661 : (Jvm.Cond.selects "RosaryCarversModel" ({ cls := "RosaryCarversModel", name := "bead", desc := "(IIZ)I" } : Jvm.MethodName) ({ cls := "RosaryCarversModel", name := "bead", desc := "(IIZ)I" } : Jvm.MethodName)) ∈ lw_all := lw_g (lw_at lw_m11 189 rfl) rfl
theorem q2662 : (Jvm.Cond.code ({ cls := "RosaryCarversModel", name := "bead", desc := "(IIZ)I" } : Jvm.MethodName) prog_33_method_67_code (4 : Nat) (Option.some Jvm.ClassFile.FieldType.int)) ∈ lw_all := lw_g (lw_at lw_m11 190 rfl) rfl
theorem q2664 : (Jvm.Cond.instanceMethod ({ cls := "RosaryCarversModel", name := "pilgrimOf", desc := "(II)I" } : Jvm.MethodName)) ∈ lw_all := lw_g (lw_at lw_m11 192 rfl) rfl
theorem q2665 : (Jvm.Cond.selects "RosaryCarversModel" ({ cls := "RosaryCarversModel", name := "pilgrimOf", desc := "(II)I" } : Jvm.MethodName) ({ cls := "RosaryCarversModel", name := "pilgrimOf", desc := "(II)I" } : Jvm.MethodName)) ∈ lw_all := lw_g (lw_at lw_m11 193 rfl) rfl
theorem q2666 : (Jvm.Cond.code ({ cls := "RosaryCarversModel", name := "pilgrimOf", desc := "(II)I" } : Jvm.MethodName) prog_33_method_68_code (3 : Nat) (Option.some Jvm.ClassFile.FieldType.int)) ∈ lw_all := lw_g (lw_at lw_m11 194 rfl) rfl
theorem q2668 : (Jvm.Cond.instanceMethod ({ cls := "RosaryCarversModel", name := "soldOf", desc := "(ZII)I" } : Jvm.MethodName)) ∈ lw_all := lw_g (lw_at lw_m11 196 rfl) rfl
theorem q2669 : (Jvm.Cond.selects "RosaryCarversModel" ({ cls := "RosaryCarversModel", name := "soldOf", desc := "(ZII)I" } : Jvm.MethodName) ({ cls := "RosaryCarversModel", name := "soldOf", desc := "(ZII)I" } : Jvm.MethodName)) ∈ lw_all := lw_g (lw_at lw_m11 197 rfl) rfl
theorem q2670 : (Jvm.Cond.code ({ cls := "RosaryCarversModel", name := "soldOf", desc := "(ZII)I" } : Jvm.MethodName) prog_33_method_69_code (5 : Nat) (Option.some Jvm.ClassFile.FieldType.int)) ∈ lw_all := lw_g (lw_at lw_m11 198 rfl) rfl
theorem q2672 : (Jvm.Cond.instanceMethod ({ cls := "RosaryCarversModel", name := "could", desc := "(II)I" } : Jvm.MethodName)) ∈ lw_all := lw_g (lw_at lw_m11 200 rfl) rfl
theorem q2673 : (Jvm.Cond.selects "RosaryCarversModel" ({ cls := "RosaryCarversModel", name := "could", desc := "(II)I" } : Jvm.MethodName) ({ cls := "RosaryCarversModel", name := "could", desc := "(II)I" } : Jvm.MethodName)) ∈ lw_all := lw_g (lw_at lw_m11 201 rfl) rfl
theorem q2674 : (Jvm.Cond.code ({ cls := "RosaryCarversModel", name := "could", desc := "(II)I" } : Jvm.MethodName) prog_33_method_70_code (3 : Nat) (Option.some Jvm.ClassFile.FieldType.int)) ∈ lw_all := lw_g (lw_at lw_m11 202 rfl) rfl
theorem q2675 : (Jvm.Cond.methodLink "RosaryCarversModel" (221 : Nat) ({ cls := "RosaryCarversModel", name := "box", desc := "(ZZ)I" } : Jvm.MethodName)) ∈ lw_all := lw_g (lw_at lw_m11 203 rfl) rfl
theorem q2677 : (Jvm.Cond.instanceMethod ({ cls := "RosaryCarversModel", name := "nextBack", desc := "()I" } : Jvm.MethodName)) ∈ lw_all := lw_g (lw_at lw_m11 205 rfl) rfl
theorem q2678 : (Jvm.Cond.selects "RosaryCarversModel" ({ cls := "RosaryCarversModel", name := "nextBack", desc := "()I" } : Jvm.MethodName) ({ cls := "RosaryCarversModel", name := "nextBack", desc := "()I" } : Jvm.MethodName)) ∈ lw_all := lw_g (lw_at lw_m11 206 rfl) rfl
theorem q2679 : (Jvm.Cond.code ({ cls := "RosaryCarversModel", name := "nextBack", desc := "()I" } : Jvm.MethodName) prog_33_method_71_code (4 : Nat) (Option.some Jvm.ClassFile.FieldType.int)) ∈ lw_all := lw_g (lw_at lw_m11 207 rfl) rfl
theorem q2681 : (Jvm.Cond.instanceMethod ({ cls := "RosaryCarversModel", name := "isCounted", desc := "()Z" } : Jvm.MethodName)) ∈ lw_all := lw_g (lw_at lw_m11 209 rfl) rfl
theorem q2682 : (Jvm.Cond.selects "RosaryCarversModel" ({ cls := "RosaryCarversModel", name := "isCounted", desc := "()Z" } : Jvm.MethodName) ({ cls := "RosaryCarversModel", name := "isCounted", desc := "()Z" } : Jvm.MethodName)) ∈ lw_all := lw_g (lw_at lw_m11 210 rfl) rfl
theorem q2683 : (Jvm.Cond.code ({ cls := "RosaryCarversModel", name := "isCounted", desc := "()Z" } : Jvm.MethodName) prog_33_method_74_code (1 : Nat) (Option.some Jvm.ClassFile.FieldType.boolean)) ∈ lw_all := lw_g (lw_at lw_m11 211 rfl) rfl
theorem q2684 : (Jvm.Cond.methodLink "RosaryCarversModel" (225 : Nat) ({ cls := "RosaryCarversModel", name := "onStrings", desc := "()I" } : Jvm.MethodName)) ∈ lw_all := lw_g (lw_at lw_m11 212 rfl) rfl
theorem q2685 : (Jvm.Cond.privateMethod ({ cls := "RosaryCarversModel", name := "onStrings", desc := "()I" } : Jvm.MethodName)) ∈ lw_tbl := lw_at lw_m11 213 rfl
theorem q2686 : (Jvm.Cond.instanceMethod ({ cls := "RosaryCarversModel", name := "onStrings", desc := "()I" } : Jvm.MethodName)) ∈ lw_all := lw_g (lw_at lw_m11 214 rfl) rfl
theorem q2687 : (Jvm.Cond.code ({ cls := "RosaryCarversModel", name := "onStrings", desc := "()I" } : Jvm.MethodName) prog_33_method_72_code (3 : Nat) (Option.some Jvm.ClassFile.FieldType.int)) ∈ lw_all := lw_g (lw_at lw_m11 215 rfl) rfl
theorem q2688 : (Jvm.Cond.methodLink "RosaryCarversModel" (228 : Nat) ({ cls := "RosaryCarversModel", name := "sold", desc := "(II)I" } : Jvm.MethodName)) ∈ lw_all := lw_g (lw_at lw_m11 216 rfl) rfl
theorem q2689 : (Jvm.Cond.privateMethod ({ cls := "RosaryCarversModel", name := "sold", desc := "(II)I" } : Jvm.MethodName)) ∈ lw_tbl := lw_at lw_m11 217 rfl
theorem q2690 : (Jvm.Cond.instanceMethod ({ cls := "RosaryCarversModel", name := "sold", desc := "(II)I" } : Jvm.MethodName)) ∈ lw_all := lw_g (lw_at lw_m11 218 rfl) rfl
theorem q2691 : (Jvm.Cond.code ({ cls := "RosaryCarversModel", name := "sold", desc := "(II)I" } : Jvm.MethodName) prog_33_method_73_code (5 : Nat) (Option.some Jvm.ClassFile.FieldType.int)) ∈ lw_all := lw_g (lw_at lw_m11 219 rfl) rfl
theorem q2693 : (Jvm.Cond.instanceMethod ({ cls := "RosaryCarversModel", name := "meanFineness", desc := "()D" } : Jvm.MethodName)) ∈ lw_all := lw_g (lw_at lw_m11 221 rfl) rfl
theorem q2694 : (Jvm.Cond.selects "RosaryCarversModel" ({ cls := "RosaryCarversModel", name := "meanFineness", desc := "()D" } : Jvm.MethodName) ({ cls := "RosaryCarversModel", name := "meanFineness", desc := "()D" } : Jvm.MethodName)) ∈ lw_all := lw_g (lw_at lw_m11 222 rfl) rfl
theorem q2695 : (Jvm.Cond.code ({ cls := "RosaryCarversModel", name := "meanFineness", desc := "()D" } : Jvm.MethodName) prog_33_method_75_code (2 : Nat) (Option.some Jvm.ClassFile.FieldType.double)) ∈ lw_all := lw_g (lw_at lw_m11 223 rfl) rfl
theorem q2697 : (Jvm.Cond.instanceMethod ({ cls := "RosaryCarversModel", name := "spoilt", desc := "()F" } : Jvm.MethodName)) ∈ lw_all := lw_g (lw_at lw_m11 225 rfl) rfl
theorem q2698 : (Jvm.Cond.selects "RosaryCarversModel" ({ cls := "RosaryCarversModel", name := "spoilt", desc := "()F" } : Jvm.MethodName) ({ cls := "RosaryCarversModel", name := "spoilt", desc := "()F" } : Jvm.MethodName)) ∈ lw_all := lw_g (lw_at lw_m11 226 rfl) rfl
theorem q2699 : (Jvm.Cond.code ({ cls := "RosaryCarversModel", name := "spoilt", desc := "()F" } : Jvm.MethodName) prog_33_method_76_code (2 : Nat) (Option.some Jvm.ClassFile.FieldType.float)) ∈ lw_all := lw_g (lw_at lw_m11 227 rfl) rfl
theorem q2701 : (Jvm.Cond.instanceMethod ({ cls := "RosaryCarversModel", name := "account", desc := "(I)I" } : Jvm.MethodName)) ∈ lw_all := lw_g (lw_at lw_m11 229 rfl) rfl
theorem q2702 : (Jvm.Cond.selects "RosaryCarversModel" ({ cls := "RosaryCarversModel", name := "account", desc := "(I)I" } : Jvm.MethodName) ({ cls := "RosaryCarversModel", name := "account", desc := "(I)I" } : Jvm.MethodName)) ∈ lw_all := lw_g (lw_at lw_m11 230 rfl) rfl
theorem q2703 : (Jvm.Cond.code ({ cls := "RosaryCarversModel", name := "account", desc := "(I)I" } : Jvm.MethodName) prog_33_method_78_code (2 : Nat) (Option.some Jvm.ClassFile.FieldType.int)) ∈ lw_all := lw_g (lw_at lw_m11 231 rfl) rfl
theorem q2704 : (Jvm.Cond.methodLink "RosaryCarversModel" (231 : Nat) ({ cls := "RosaryCarversModel", name := "doneOnes", desc := "()I" } : Jvm.MethodName)) ∈ lw_all := lw_g (lw_at lw_m11 232 rfl) rfl
theorem q2705 : (Jvm.Cond.privateMethod ({ cls := "RosaryCarversModel", name := "doneOnes", desc := "()I" } : Jvm.MethodName)) ∈ lw_tbl := lw_at lw_m11 233 rfl
theorem q2706 : (Jvm.Cond.instanceMethod ({ cls := "RosaryCarversModel", name := "doneOnes", desc := "()I" } : Jvm.MethodName)) ∈ lw_all := lw_g (lw_at lw_m11 234 rfl) rfl
theorem q2707 : (Jvm.Cond.code ({ cls := "RosaryCarversModel", name := "doneOnes", desc := "()I" } : Jvm.MethodName) prog_33_method_77_code (3 : Nat) (Option.some Jvm.ClassFile.FieldType.int)) ∈ lw_all := lw_g (lw_at lw_m11 235 rfl) rfl
theorem q2709 : (Jvm.Cond.instanceMethod ({ cls := "RosaryCarversModel", name := "write", desc := "(I)I" } : Jvm.MethodName)) ∈ lw_all := lw_g (lw_at lw_m11 237 rfl) rfl
theorem q2710 : (Jvm.Cond.selects "RosaryCarversModel" ({ cls := "RosaryCarversModel", name := "write", desc := "(I)I" } : Jvm.MethodName) ({ cls := "RosaryCarversModel", name := "write", desc := "(I)I" } : Jvm.MethodName)) ∈ lw_all := lw_g (lw_at lw_m11 238 rfl) rfl
theorem q2711 : (Jvm.Cond.code ({ cls := "RosaryCarversModel", name := "write", desc := "(I)I" } : Jvm.MethodName) prog_33_method_80_code (4 : Nat) (Option.some Jvm.ClassFile.FieldType.int)) ∈ lw_all := lw_g (lw_at lw_m11 239 rfl) rfl
theorem q2712 : (Jvm.Cond.methodLink "RosaryCarversModel" (240 : Nat) ({ cls := "RosaryCarversModel", name := "writes", desc := "(I)V" } : Jvm.MethodName)) ∈ lw_all := lw_g (lw_at lw_m12 0 rfl) rfl
theorem q2713 : (Jvm.Cond.privateMethod ({ cls := "RosaryCarversModel", name := "writes", desc := "(I)V" } : Jvm.MethodName)) ∈ lw_tbl := lw_at lw_m12 1 rfl
theorem q2714 : (Jvm.Cond.instanceMethod ({ cls := "RosaryCarversModel", name := "writes", desc := "(I)V" } : Jvm.MethodName)) ∈ lw_all := lw_g (lw_at lw_m12 2 rfl) rfl
theorem q2715 : (Jvm.Cond.code ({ cls := "RosaryCarversModel", name := "writes", desc := "(I)V" } : Jvm.MethodName) prog_33_method_79_code (2 : Nat) (Option.none : Option Jvm.ClassFile.FieldType)) ∈ lw_all := lw_g (lw_at lw_m12 3 rfl) rfl
theorem q2716 : (Jvm.Cond.stringRef "RosaryCarversModel" (244 : Nat) "empty") ∈ lw_tbl := lw_at lw_m12 4 rfl
theorem q2717 : (Jvm.Cond.methodLink "RosaryCarversModel" (246 : Nat) ({ cls := "java/lang/String", name := "charAt", desc := "(I)C" } : Jvm.MethodName)) ∈ lw_all := lw_g (lw_at lw_m12 5 rfl) rfl
theorem q2719 : (Jvm.Cond.instanceMethod ({ cls := "RosaryCarversModel", name := "written", desc := "(I)I" } : Jvm.MethodName)) ∈ lw_all := lw_g (lw_at lw_m12 7 rfl) rfl
theorem q2720 : (Jvm.Cond.selects "RosaryCarversModel" ({ cls := "RosaryCarversModel", name := "written", desc := "(I)I" } : Jvm.MethodName) ({ cls := "RosaryCarversModel", name := "written", desc := "(I)I" } : Jvm.MethodName)) ∈ lw_all := lw_g (lw_at lw_m12 8 rfl) rfl
theorem q2721 : (Jvm.Cond.code ({ cls := "RosaryCarversModel", name := "written", desc := "(I)I" } : Jvm.MethodName) prog_33_method_81_code (2 : Nat) (Option.some Jvm.ClassFile.FieldType.int)) ∈ lw_all := lw_g (lw_at lw_m12 9 rfl) rfl
theorem q2723 : (Jvm.Cond.instanceMethod ({ cls := "RosaryCarversModel", name := "append", desc := "(C)I" } : Jvm.MethodName)) ∈ lw_all := lw_g (lw_at lw_m12 11 rfl) rfl
theorem q2724 : (Jvm.Cond.selects "RosaryCarversModel" ({ cls := "RosaryCarversModel", name := "append", desc := "(C)I" } : Jvm.MethodName) ({ cls := "RosaryCarversModel", name := "append", desc := "(C)I" } : Jvm.MethodName)) ∈ lw_all := lw_g (lw_at lw_m12 12 rfl) rfl
theorem q2725 : (Jvm.Cond.code ({ cls := "RosaryCarversModel", name := "append", desc := "(C)I" } : Jvm.MethodName) prog_33_method_82_code (2 : Nat) (Option.some Jvm.ClassFile.FieldType.int)) ∈ lw_all := lw_g (lw_at lw_m12 13 rfl) rfl
theorem q2727 : (Jvm.Cond.instanceMethod ({ cls := "RosaryCarversModel", name := "read", desc := "()I" } : Jvm.MethodName)) ∈ lw_all := lw_g (lw_at lw_m12 15 rfl) rfl
theorem q2728 : (Jvm.Cond.selects "RosaryCarversModel" ({ cls := "RosaryCarversModel", name := "read", desc := "()I" } : Jvm.MethodName) ({ cls := "RosaryCarversModel", name := "read", desc := "()I" } : Jvm.MethodName)) ∈ lw_all := lw_g (lw_at lw_m12 16 rfl) rfl
theorem q2729 : (Jvm.Cond.code ({ cls := "RosaryCarversModel", name := "read", desc := "()I" } : Jvm.MethodName) prog_33_method_91_code (4 : Nat) (Option.some Jvm.ClassFile.FieldType.int)) ∈ lw_all := lw_g (lw_at lw_m12 17 rfl) rfl
theorem q2730 : (Jvm.Cond.methodLink "RosaryCarversModel" (278 : Nat) ({ cls := "RosaryCarversModel", name := "isText", desc := "()Z" } : Jvm.MethodName)) ∈ lw_all := lw_g (lw_at lw_m12 18 rfl) rfl
theorem q2731 : (Jvm.Cond.privateMethod ({ cls := "RosaryCarversModel", name := "isText", desc := "()Z" } : Jvm.MethodName)) ∈ lw_tbl := lw_at lw_m12 19 rfl
theorem q2732 : (Jvm.Cond.instanceMethod ({ cls := "RosaryCarversModel", name := "isText", desc := "()Z" } : Jvm.MethodName)) ∈ lw_all := lw_g (lw_at lw_m12 20 rfl) rfl
theorem q2733 : (Jvm.Cond.code ({ cls := "RosaryCarversModel", name := "isText", desc := "()Z" } : Jvm.MethodName) prog_33_method_87_code (2 : Nat) (Option.some Jvm.ClassFile.FieldType.boolean)) ∈ lw_all := lw_g (lw_at lw_m12 21 rfl) rfl
theorem q2734 : (Jvm.Cond.methodLink "RosaryCarversModel" (272 : Nat) ({ cls := "RosaryCarversModel", name := "readsCommand", desc := "()Z" } : Jvm.MethodName)) ∈ lw_all := lw_g (lw_at lw_m12 22 rfl) rfl
theorem q2735 : (Jvm.Cond.privateMethod ({ cls := "RosaryCarversModel", name := "readsCommand", desc := "()Z" } : Jvm.MethodName)) ∈ lw_tbl := lw_at lw_m12 23 rfl
theorem q2736 : (Jvm.Cond.instanceMethod ({ cls := "RosaryCarversModel", name := "readsCommand", desc := "()Z" } : Jvm.MethodName)) ∈ lw_all := lw_g (lw_at lw_m12 24 rfl) rfl
theorem q2737 : (Jvm.Cond.code ({ cls := "RosaryCarversModel", name := "readsCommand", desc := "()Z" } : Jvm.MethodName) prog_33_method_86_code (3 : Nat) (Option.some Jvm.ClassFile.FieldType.boolean)) ∈ lw_all := lw_g (lw_at lw_m12 25 rfl) rfl
theorem q2738 : (Jvm.Cond.methodLink "RosaryCarversModel" (262 : Nat) ({ cls := "RosaryCarversModel", name := "readsWord", desc := "()I" } : Jvm.MethodName)) ∈ lw_all := lw_g (lw_at lw_m12 26 rfl) rfl
theorem q2739 : (Jvm.Cond.privateMethod ({ cls := "RosaryCarversModel", name := "readsWord", desc := "()I" } : Jvm.MethodName)) ∈ lw_tbl := lw_at lw_m12 27 rfl
theorem q2740 : (Jvm.Cond.instanceMethod ({ cls := "RosaryCarversModel", name := "readsWord", desc := "()I" } : Jvm.MethodName)) ∈ lw_all := lw_g (lw_at lw_m12 28 rfl) rfl
theorem q2741 : (Jvm.Cond.code ({ cls := "RosaryCarversModel", name := "readsWord", desc := "()I" } : Jvm.MethodName) prog_33_method_85_code (3 : Nat) (Option.some Jvm.ClassFile.FieldType.int)) ∈ lw_all := lw_g (lw_at lw_m12 29 rfl) rfl
theorem q2742 : (Jvm.Cond.methodLink "RosaryCarversModel" (256 : Nat) ({ cls := "RosaryCarversModel", name := "letter", desc := "()I" } : Jvm.MethodName)) ∈ lw_all := lw_g (lw_at lw_m12 30 rfl) rfl
theorem q2743 : (Jvm.Cond.privateMethod ({ cls := "RosaryCarversModel", name := "letter", desc := "()I" } : Jvm.MethodName)) ∈ lw_tbl := lw_at lw_m12 31 rfl
theorem q2744 : (Jvm.Cond.instanceMethod ({ cls := "RosaryCarversModel", name := "letter", desc := "()I" } : Jvm.MethodName)) ∈ lw_all := lw_g (lw_at lw_m12 32 rfl) rfl
theorem q2745 : (Jvm.Cond.code ({ cls := "RosaryCarversModel", name := "letter", desc := "()I" } : Jvm.MethodName) prog_33_method_83_code (1 : Nat) (Option.some Jvm.ClassFile.FieldType.int)) ∈ lw_all := lw_g (lw_at lw_m12 33 rfl) rfl
theorem q2746 : (Jvm.Cond.methodLink "RosaryCarversModel" (259 : Nat) ({ cls := "java/lang/String", name := "length", desc := "()I" } : Jvm.MethodName)) ∈ lw_all := lw_g (lw_at lw_m12 34 rfl) rfl
theorem q2747 : (Jvm.Cond.methodLink "RosaryCarversModel" (265 : Nat) ({ cls := "RosaryCarversModel", name := "readsNumber", desc := "()Z" } : Jvm.MethodName)) ∈ lw_all := lw_g (lw_at lw_m12 35 rfl) rfl
theorem q2748 : (Jvm.Cond.privateMethod ({ cls := "RosaryCarversModel", name := "readsNumber", desc := "()Z" } : Jvm.MethodName)) ∈ lw_tbl := lw_at lw_m12 36 rfl
theorem q2749 : (Jvm.Cond.instanceMethod ({ cls := "RosaryCarversModel", name := "readsNumber", desc := "()Z" } : Jvm.MethodName)) ∈ lw_all := lw_g (lw_at lw_m12 37 rfl) rfl
theorem q2750 : (Jvm.Cond.code ({ cls := "RosaryCarversModel", name := "readsNumber", desc := "()Z" } : Jvm.MethodName) prog_33_method_84_code (2 : Nat) (Option.some Jvm.ClassFile.FieldType.boolean)) ∈ lw_all := lw_g (lw_at lw_m12 38 rfl) rfl
theorem q2751 : (Jvm.Cond.methodLink "RosaryCarversModel" (281 : Nat) ({ cls := "RosaryCarversModel", name := "does", desc := "(III)I" } : Jvm.MethodName)) ∈ lw_all := lw_g (lw_at lw_m12 39 rfl) rfl
theorem q2752 : (Jvm.Cond.privateMethod ({ cls := "RosaryCarversModel", name := "does", desc := "(III)I" } : Jvm.MethodName)) ∈ lw_tbl := lw_at lw_m12 40 rfl
theorem q2753 : (Jvm.Cond.instanceMethod ({ cls := "RosaryCarversModel", name := "does", desc := "(III)I" } : Jvm.MethodName)) ∈ lw_all := lw_g (lw_at lw_m12 41 rfl) rfl
theorem q2754 : (Jvm.Cond.code ({ cls := "RosaryCarversModel", name := "does", desc := "(III)I" } : Jvm.MethodName) prog_33_method_89_code (4 : Nat) (Option.some Jvm.ClassFile.FieldType.int)) ∈ lw_all := lw_g (lw_at lw_m12 42 rfl) rfl
theorem q2755 : (Jvm.Cond.methodLink "RosaryCarversModel" (275 : Nat) ({ cls := "RosaryCarversModel", name := "threadsMany", desc := "(II)I" } : Jvm.MethodName)) ∈ lw_all := lw_g (lw_at lw_m12 43 rfl) rfl
theorem q2756 : (Jvm.Cond.privateMethod ({ cls := "RosaryCarversModel", name := "threadsMany", desc := "(II)I" } : Jvm.MethodName)) ∈ lw_tbl := lw_at lw_m12 44 rfl
theorem q2757 : (Jvm.Cond.instanceMethod ({ cls := "RosaryCarversModel", name := "threadsMany", desc := "(II)I" } : Jvm.MethodName)) ∈ lw_all := lw_g (lw_at lw_m12 45 rfl) rfl
theorem q2758 : (Jvm.Cond.code ({ cls := "RosaryCarversModel", name := "threadsMany", desc := "(II)I" } : Jvm.MethodName) prog_33_method_88_code (5 : Nat) (Option.some Jvm.ClassFile.FieldType.int)) ∈ lw_all := lw_g (lw_at lw_m12 46 rfl) rfl
theorem q2759 : (Jvm.Cond.methodLink "RosaryCarversModel" (285 : Nat) ({ cls := "RosaryCarversModel", name := "refusesCommand", desc := "(IZ)I" } : Jvm.MethodName)) ∈ lw_all := lw_g (lw_at lw_m12 47 rfl) rfl
theorem q2760 : (Jvm.Cond.privateMethod ({ cls := "RosaryCarversModel", name := "refusesCommand", desc := "(IZ)I" } : Jvm.MethodName)) ∈ lw_tbl := lw_at lw_m12 48 rfl
theorem q2761 : (Jvm.Cond.instanceMethod ({ cls := "RosaryCarversModel", name := "refusesCommand", desc := "(IZ)I" } : Jvm.MethodName)) ∈ lw_all := lw_g (lw_at lw_m12 49 rfl) rfl
theorem q2762 : (Jvm.Cond.code ({ cls := "RosaryCarversModel", name := "refusesCommand", desc := "(IZ)I" } : Jvm.MethodName) prog_33_method_90_code (3 : Nat) (Option.some Jvm.ClassFile.FieldType.int)) ∈ lw_all := lw_g (lw_at lw_m12 50 rfl) rfl
theorem q2764 : (Jvm.Cond.instanceMethod ({ cls := "RosaryCarversModel", name := "fault", desc := "()I" } : Jvm.MethodName)) ∈ lw_all := lw_g (lw_at lw_m12 52 rfl) rfl
theorem q2765 : (Jvm.Cond.selects "RosaryCarversModel" ({ cls := "RosaryCarversModel", name := "fault", desc := "()I" } : Jvm.MethodName) ({ cls := "RosaryCarversModel", name := "fault", desc := "()I" } : Jvm.MethodName)) ∈ lw_all := lw_g (lw_at lw_m12 53 rfl) rfl
theorem q2766 : (Jvm.Cond.code ({ cls := "RosaryCarversModel", name := "fault", desc := "()I" } : Jvm.MethodName) prog_33_method_92_code (1 : Nat) (Option.some Jvm.ClassFile.FieldType.int)) ∈ lw_all := lw_g (lw_at lw_m12 54 rfl) rfl
theorem q2768 : (Jvm.Cond.instanceMethod ({ cls := "RosaryCarversModel", name := "reason", desc := "(IZ)I" } : Jvm.MethodName)) ∈ lw_all := lw_g (lw_at lw_m12 56 rfl) rfl
theorem q2769 : (Jvm.Cond.selects "RosaryCarversModel" ({ cls := "RosaryCarversModel", name := "reason", desc := "(IZ)I" } : Jvm.MethodName) ({ cls := "RosaryCarversModel", name := "reason", desc := "(IZ)I" } : Jvm.MethodName)) ∈ lw_all := lw_g (lw_at lw_m12 57 rfl) rfl
theorem q2770 : (Jvm.Cond.code ({ cls := "RosaryCarversModel", name := "reason", desc := "(IZ)I" } : Jvm.MethodName) prog_33_method_93_code (3 : Nat) (Option.some Jvm.ClassFile.FieldType.int)) ∈ lw_all := lw_g (lw_at lw_m12 58 rfl) rfl
theorem q2772 : (Jvm.Cond.instanceMethod ({ cls := "RosaryCarversModel", name := "undo", desc := "()I" } : Jvm.MethodName)) ∈ lw_all := lw_g (lw_at lw_m12 60 rfl) rfl
theorem q2773 : (Jvm.Cond.selects "RosaryCarversModel" ({ cls := "RosaryCarversModel", name := "undo", desc := "()I" } : Jvm.MethodName) ({ cls := "RosaryCarversModel", name := "undo", desc := "()I" } : Jvm.MethodName)) ∈ lw_all := lw_g (lw_at lw_m12 61 rfl) rfl
theorem q2774 : (Jvm.Cond.code ({ cls := "RosaryCarversModel", name := "undo", desc := "()I" } : Jvm.MethodName) prog_33_method_94_code (1 : Nat) (Option.some Jvm.ClassFile.FieldType.int)) ∈ lw_all := lw_g (lw_at lw_m12 62 rfl) rfl
theorem q2776 : (Jvm.Cond.instanceMethod ({ cls := "RosaryCarversModel", name := "save", desc := "()I" } : Jvm.MethodName)) ∈ lw_all := lw_g (lw_at lw_m12 64 rfl) rfl
theorem q2777 : (Jvm.Cond.selects "RosaryCarversModel" ({ cls := "RosaryCarversModel", name := "save", desc := "()I" } : Jvm.MethodName) ({ cls := "RosaryCarversModel", name := "save", desc := "()I" } : Jvm.MethodName)) ∈ lw_all := lw_g (lw_at lw_m12 65 rfl) rfl
theorem q2778 : (Jvm.Cond.code ({ cls := "RosaryCarversModel", name := "save", desc := "()I" } : Jvm.MethodName) prog_33_method_95_code (1 : Nat) (Option.some Jvm.ClassFile.FieldType.int)) ∈ lw_all := lw_g (lw_at lw_m12 66 rfl) rfl
theorem q2780 : (Jvm.Cond.instanceMethod ({ cls := "RosaryCarversModel", name := "restore", desc := "()I" } : Jvm.MethodName)) ∈ lw_all := lw_g (lw_at lw_m12 68 rfl) rfl
theorem q2781 : (Jvm.Cond.selects "RosaryCarversModel" ({ cls := "RosaryCarversModel", name := "restore", desc := "()I" } : Jvm.MethodName) ({ cls := "RosaryCarversModel", name := "restore", desc := "()I" } : Jvm.MethodName)) ∈ lw_all := lw_g (lw_at lw_m12 69 rfl) rfl
theorem q2782 : (Jvm.Cond.code ({ cls := "RosaryCarversModel", name := "restore", desc := "()I" } : Jvm.MethodName) prog_33_method_96_code (1 : Nat) (Option.some Jvm.ClassFile.FieldType.int)) ∈ lw_all := lw_g (lw_at lw_m12 70 rfl) rfl
theorem q2814 : (Jvm.Cond.castable "RosaryCarversModel" "java/lang/Object") ∈ lw_tbl := lw_at lw_m12 102 rfl
theorem in_X3 : ∀ w ∈ wsX30, w ∈ lw_all := lw_in wsX30 [2374, 2376, 2378, 2380, 2382, 2384, 2386, 2388, 2390, 2392, 2394, 2396, 2398, 2400, 2402, 2404, 2406, 2408] (by decide +kernel) (by decide +kernel)
