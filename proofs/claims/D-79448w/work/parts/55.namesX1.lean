/-! RosaryCarvers$Shop -/
set_option maxRecDepth 100000
def RX1 : String := "RosaryCarvers$Shop"
def TX1 : u_T := fun k => match k with
  | 0 => ("RosaryCarvers$Shop", "carvers", "Ljava/util/ArrayList;", true)
  | 1 => ("RosaryCarvers$Shop", "lenses", "Ljava/util/ArrayList;", true)
  | 2 => ("RosaryCarvers$Shop", "box", "LRosaryCarvers$Beads;", true)
  | 3 => ("RosaryCarvers$Shop", "strings", "Ljava/util/ArrayList;", true)
  | 4 => ("RosaryCarvers$Shop", "pilgrims", "Ljava/util/ArrayList;", true)
  | 5 => ("RosaryCarvers$Shop", "sold", "Ljava/util/ArrayList;", true)
  | 6 => ("RosaryCarvers$Shop", "waiting", "Ljava/util/ArrayList;", true)
  | 7 => ("RosaryCarvers$Shop", "away", "Ljava/util/BitSet;", true)
  | 8 => ("RosaryCarvers$Shop", "day", "I", false)
  | 9 => ("RosaryCarvers$Shop", "stones", "I", false)
  | 10 => ("RosaryCarvers$Shop", "carved", "I", false)
  | 11 => ("RosaryCarvers$Shop", "spoilt", "I", false)
  | 12 => ("RosaryCarvers$Shop", "sales", "I", false)
  | 13 => ("RosaryCarvers$Shop", "mended", "I", false)
  | 14 => ("RosaryCarvers$Shop", "coins", "I", false)
  | 15 => ("RosaryCarvers$Shop", "broken", "I", false)
  | _ => ("RosaryCarvers$Shop", "gone", "I", false)
def tyX1 : Nat → FieldType := fun k => match k with
  | 0 => .object "java/util/ArrayList"
  | 1 => .object "java/util/ArrayList"
  | 2 => .object "RosaryCarvers$Beads"
  | 3 => .object "java/util/ArrayList"
  | 4 => .object "java/util/ArrayList"
  | 5 => .object "java/util/ArrayList"
  | 6 => .object "java/util/ArrayList"
  | 7 => .object "java/util/BitSet"
  | 8 => .int
  | 9 => .int
  | 10 => .int
  | 11 => .int
  | 12 => .int
  | 13 => .int
  | 14 => .int
  | 15 => .int
  | _ => .int
abbrev wsX10 : List Cond := u_ws RX1 TX1 17
set_option maxRecDepth 100000 in
theorem nmX1 : ∀ a, a < 17 → ∀ b, b < 17 → a ≠ b → (TX1 a).2.1 ≠ (TX1 b).2.1 := by decide +kernel
set_option maxRecDepth 100000 in
theorem tyX1_ok : ∀ k, k < 17 → parseFieldDescriptor (TX1 k).2.2.1 = some (tyX1 k) := by decide +kernel
abbrev cX1_init : ByteArray := prog_30_method_1_code
def yX1_init : MethodName := ⟨RX1, "<init>", "()V"⟩
def dkwX1_init_4 : List UInt8 := [181, 0, 43, 177]
abbrev dktX1_init_4 : List UInt8 := dkwX1_init_4 ++ []
def dkwX1_init_3 : List UInt8 := [181, 0, 34, 42, 187, 0, 9, 89, 183, 0, 11, 181, 0, 37, 42, 187, 0, 40, 89, 183, 0, 42]
abbrev dktX1_init_3 : List UInt8 := dkwX1_init_3 ++ dktX1_init_4
def dkwX1_init_2 : List UInt8 := [181, 0, 28, 42, 187, 0, 9, 89, 183, 0, 11, 181, 0, 31, 42, 187, 0, 9, 89, 183, 0, 11]
abbrev dktX1_init_2 : List UInt8 := dkwX1_init_2 ++ dktX1_init_3
def dkwX1_init_1 : List UInt8 := [181, 0, 18, 42, 187, 0, 21, 89, 183, 0, 23, 181, 0, 24, 42, 187, 0, 9, 89, 183, 0, 11]
abbrev dktX1_init_1 : List UInt8 := dkwX1_init_1 ++ dktX1_init_2
def dkwX1_init_0 : List UInt8 := [42, 183, 0, 3, 42, 187, 0, 9, 89, 183, 0, 11, 181, 0, 12, 42, 187, 0, 9, 89, 183, 0, 11]
abbrev dktX1_init_0 : List UInt8 := dkwX1_init_0 ++ dktX1_init_1
theorem dksX1_init_0 : cX1_init.data.toList.drop 0 = dktX1_init_0 := by decide +kernel
theorem dksX1_init_1 : cX1_init.data.toList.drop 23 = dktX1_init_1 := dk_seg dksX1_init_0 23 rfl rfl
theorem dksX1_init_2 : cX1_init.data.toList.drop 45 = dktX1_init_2 := dk_seg dksX1_init_1 22 rfl rfl
theorem dksX1_init_3 : cX1_init.data.toList.drop 67 = dktX1_init_3 := dk_seg dksX1_init_2 22 rfl rfl
theorem dksX1_init_4 : cX1_init.data.toList.drop 89 = dktX1_init_4 := dk_seg dksX1_init_3 22 rfl rfl
theorem dX1_init_0 : decode cX1_init 0 = .ok (.aload_n 0, 1) := dk_42 (dk_at dksX1_init_0 0 rfl rfl)
theorem dX1_init_1 : decode cX1_init 1 = .ok (.invokespecial 3, 3) := dk_183 0 3 (dk_at dksX1_init_0 1 rfl rfl)
theorem dX1_init_4 : decode cX1_init 4 = .ok (.aload_n 0, 1) := dk_42 (dk_at dksX1_init_0 4 rfl rfl)
theorem dX1_init_5 : decode cX1_init 5 = .ok (.new 9, 3) := dk_187 0 9 (dk_at dksX1_init_0 5 rfl rfl)
theorem dX1_init_8 : decode cX1_init 8 = .ok (.dup, 1) := dk_89 (dk_at dksX1_init_0 8 rfl rfl)
theorem dX1_init_9 : decode cX1_init 9 = .ok (.invokespecial 11, 3) := dk_183 0 11 (dk_at dksX1_init_0 9 rfl rfl)
theorem dX1_init_12 : decode cX1_init 12 = .ok (.putfield 12, 3) := dk_181 0 12 (dk_at dksX1_init_0 12 rfl rfl)
theorem dX1_init_15 : decode cX1_init 15 = .ok (.aload_n 0, 1) := dk_42 (dk_at dksX1_init_0 15 rfl rfl)
theorem dX1_init_16 : decode cX1_init 16 = .ok (.new 9, 3) := dk_187 0 9 (dk_at dksX1_init_0 16 rfl rfl)
theorem dX1_init_19 : decode cX1_init 19 = .ok (.dup, 1) := dk_89 (dk_at dksX1_init_0 19 rfl rfl)
theorem dX1_init_20 : decode cX1_init 20 = .ok (.invokespecial 11, 3) := dk_183 0 11 (dk_at dksX1_init_0 20 rfl rfl)
theorem dX1_init_23 : decode cX1_init 23 = .ok (.putfield 18, 3) := dk_181 0 18 (dk_at dksX1_init_1 0 rfl rfl)
theorem dX1_init_26 : decode cX1_init 26 = .ok (.aload_n 0, 1) := dk_42 (dk_at dksX1_init_1 3 rfl rfl)
theorem dX1_init_27 : decode cX1_init 27 = .ok (.new 21, 3) := dk_187 0 21 (dk_at dksX1_init_1 4 rfl rfl)
theorem dX1_init_30 : decode cX1_init 30 = .ok (.dup, 1) := dk_89 (dk_at dksX1_init_1 7 rfl rfl)
theorem dX1_init_31 : decode cX1_init 31 = .ok (.invokespecial 23, 3) := dk_183 0 23 (dk_at dksX1_init_1 8 rfl rfl)
theorem dX1_init_34 : decode cX1_init 34 = .ok (.putfield 24, 3) := dk_181 0 24 (dk_at dksX1_init_1 11 rfl rfl)
theorem dX1_init_37 : decode cX1_init 37 = .ok (.aload_n 0, 1) := dk_42 (dk_at dksX1_init_1 14 rfl rfl)
theorem dX1_init_38 : decode cX1_init 38 = .ok (.new 9, 3) := dk_187 0 9 (dk_at dksX1_init_1 15 rfl rfl)
theorem dX1_init_41 : decode cX1_init 41 = .ok (.dup, 1) := dk_89 (dk_at dksX1_init_1 18 rfl rfl)
theorem dX1_init_42 : decode cX1_init 42 = .ok (.invokespecial 11, 3) := dk_183 0 11 (dk_at dksX1_init_1 19 rfl rfl)
theorem dX1_init_45 : decode cX1_init 45 = .ok (.putfield 28, 3) := dk_181 0 28 (dk_at dksX1_init_2 0 rfl rfl)
theorem dX1_init_48 : decode cX1_init 48 = .ok (.aload_n 0, 1) := dk_42 (dk_at dksX1_init_2 3 rfl rfl)
theorem dX1_init_49 : decode cX1_init 49 = .ok (.new 9, 3) := dk_187 0 9 (dk_at dksX1_init_2 4 rfl rfl)
theorem dX1_init_52 : decode cX1_init 52 = .ok (.dup, 1) := dk_89 (dk_at dksX1_init_2 7 rfl rfl)
theorem dX1_init_53 : decode cX1_init 53 = .ok (.invokespecial 11, 3) := dk_183 0 11 (dk_at dksX1_init_2 8 rfl rfl)
theorem dX1_init_56 : decode cX1_init 56 = .ok (.putfield 31, 3) := dk_181 0 31 (dk_at dksX1_init_2 11 rfl rfl)
theorem dX1_init_59 : decode cX1_init 59 = .ok (.aload_n 0, 1) := dk_42 (dk_at dksX1_init_2 14 rfl rfl)
theorem dX1_init_60 : decode cX1_init 60 = .ok (.new 9, 3) := dk_187 0 9 (dk_at dksX1_init_2 15 rfl rfl)
theorem dX1_init_63 : decode cX1_init 63 = .ok (.dup, 1) := dk_89 (dk_at dksX1_init_2 18 rfl rfl)
theorem dX1_init_64 : decode cX1_init 64 = .ok (.invokespecial 11, 3) := dk_183 0 11 (dk_at dksX1_init_2 19 rfl rfl)
theorem dX1_init_67 : decode cX1_init 67 = .ok (.putfield 34, 3) := dk_181 0 34 (dk_at dksX1_init_3 0 rfl rfl)
theorem dX1_init_70 : decode cX1_init 70 = .ok (.aload_n 0, 1) := dk_42 (dk_at dksX1_init_3 3 rfl rfl)
theorem dX1_init_71 : decode cX1_init 71 = .ok (.new 9, 3) := dk_187 0 9 (dk_at dksX1_init_3 4 rfl rfl)
theorem dX1_init_74 : decode cX1_init 74 = .ok (.dup, 1) := dk_89 (dk_at dksX1_init_3 7 rfl rfl)
theorem dX1_init_75 : decode cX1_init 75 = .ok (.invokespecial 11, 3) := dk_183 0 11 (dk_at dksX1_init_3 8 rfl rfl)
theorem dX1_init_78 : decode cX1_init 78 = .ok (.putfield 37, 3) := dk_181 0 37 (dk_at dksX1_init_3 11 rfl rfl)
theorem dX1_init_81 : decode cX1_init 81 = .ok (.aload_n 0, 1) := dk_42 (dk_at dksX1_init_3 14 rfl rfl)
theorem dX1_init_82 : decode cX1_init 82 = .ok (.new 40, 3) := dk_187 0 40 (dk_at dksX1_init_3 15 rfl rfl)
theorem dX1_init_85 : decode cX1_init 85 = .ok (.dup, 1) := dk_89 (dk_at dksX1_init_3 18 rfl rfl)
theorem dX1_init_86 : decode cX1_init 86 = .ok (.invokespecial 42, 3) := dk_183 0 42 (dk_at dksX1_init_3 19 rfl rfl)
theorem dX1_init_89 : decode cX1_init 89 = .ok (.putfield 43, 3) := dk_181 0 43 (dk_at dksX1_init_4 0 rfl rfl)
theorem dX1_init_92 : decode cX1_init 92 = .ok (.return_, 1) := dk_177 (dk_at dksX1_init_4 3 rfl rfl)
abbrev cX1_init_2 : ByteArray := prog_30_method_2_code
def yX1_init_2 : MethodName := ⟨RX1, "<init>", "(LRosaryCarvers$Shop;)V"⟩
def dkwX1_init_2_15 : List UInt8 := [43, 180, 0, 114, 181, 0, 114, 42, 43, 180, 0, 117, 181, 0, 117, 177]
abbrev dktX1_init_2_15 : List UInt8 := dkwX1_init_2_15 ++ []
def dkwX1_init_2_14 : List UInt8 := [43, 180, 0, 105, 181, 0, 105, 42, 43, 180, 0, 108, 181, 0, 108, 42, 43, 180, 0, 111, 181, 0, 111, 42]
abbrev dktX1_init_2_14 : List UInt8 := dkwX1_init_2_14 ++ dktX1_init_2_15
def dkwX1_init_2_13 : List UInt8 := [43, 180, 0, 96, 181, 0, 96, 42, 43, 180, 0, 99, 181, 0, 99, 42, 43, 180, 0, 102, 181, 0, 102, 42]
abbrev dktX1_init_2_13 : List UInt8 := dkwX1_init_2_13 ++ dktX1_init_2_14
def dkwX1_init_2_12 : List UInt8 := [182, 0, 84, 87, 42, 180, 0, 43, 43, 180, 0, 43, 182, 0, 88, 42, 43, 180, 0, 92, 181, 0, 92, 42]
abbrev dktX1_init_2_12 : List UInt8 := dkwX1_init_2_12 ++ dktX1_init_2_13
def dkwX1_init_2_11 : List UInt8 := [182, 0, 84, 87, 42, 180, 0, 34, 43, 180, 0, 34, 182, 0, 84, 87, 42, 180, 0, 37, 43, 180, 0, 37]
abbrev dktX1_init_2_11 : List UInt8 := dkwX1_init_2_11 ++ dktX1_init_2_12
def dkwX1_init_2_10 : List UInt8 := [187, 0, 79, 89, 45, 183, 0, 81, 182, 0, 66, 87, 167, 255, 221, 42, 180, 0, 31, 43, 180, 0, 31]
abbrev dktX1_init_2_10 : List UInt8 := dkwX1_init_2_10 ++ dktX1_init_2_11
def dkwX1_init_2_9 : List UInt8 := [185, 0, 51, 1, 0, 153, 0, 32, 44, 185, 0, 57, 1, 0, 192, 0, 79, 78, 42, 180, 0, 28]
abbrev dktX1_init_2_9 : List UInt8 := dkwX1_init_2_9 ++ dktX1_init_2_10
def dkwX1_init_2_8 : List UInt8 := [87, 167, 255, 221, 42, 180, 0, 24, 43, 180, 0, 24, 182, 0, 75, 43, 180, 0, 28, 182, 0, 47, 77, 44]
abbrev dktX1_init_2_8 : List UInt8 := dkwX1_init_2_8 ++ dktX1_init_2_9
def dkwX1_init_2_7 : List UInt8 := [185, 0, 57, 1, 0, 192, 0, 70, 78, 42, 180, 0, 18, 187, 0, 70, 89, 45, 183, 0, 72, 182, 0, 66]
abbrev dktX1_init_2_7 : List UInt8 := dkwX1_init_2_7 ++ dktX1_init_2_8
def dkwX1_init_2_6 : List UInt8 := [87, 167, 255, 221, 43, 180, 0, 18, 182, 0, 47, 77, 44, 185, 0, 51, 1, 0, 153, 0, 32, 44]
abbrev dktX1_init_2_6 : List UInt8 := dkwX1_init_2_6 ++ dktX1_init_2_7
def dkwX1_init_2_5 : List UInt8 := [185, 0, 57, 1, 0, 192, 0, 61, 78, 42, 180, 0, 12, 187, 0, 61, 89, 45, 183, 0, 63, 182, 0, 66]
abbrev dktX1_init_2_5 : List UInt8 := dkwX1_init_2_5 ++ dktX1_init_2_6
def dkwX1_init_2_4 : List UInt8 := [181, 0, 43, 43, 180, 0, 12, 182, 0, 47, 77, 44, 185, 0, 51, 1, 0, 153, 0, 32, 44]
abbrev dktX1_init_2_4 : List UInt8 := dkwX1_init_2_4 ++ dktX1_init_2_5
def dkwX1_init_2_3 : List UInt8 := [181, 0, 34, 42, 187, 0, 9, 89, 183, 0, 11, 181, 0, 37, 42, 187, 0, 40, 89, 183, 0, 42]
abbrev dktX1_init_2_3 : List UInt8 := dkwX1_init_2_3 ++ dktX1_init_2_4
def dkwX1_init_2_2 : List UInt8 := [181, 0, 28, 42, 187, 0, 9, 89, 183, 0, 11, 181, 0, 31, 42, 187, 0, 9, 89, 183, 0, 11]
abbrev dktX1_init_2_2 : List UInt8 := dkwX1_init_2_2 ++ dktX1_init_2_3
def dkwX1_init_2_1 : List UInt8 := [181, 0, 18, 42, 187, 0, 21, 89, 183, 0, 23, 181, 0, 24, 42, 187, 0, 9, 89, 183, 0, 11]
abbrev dktX1_init_2_1 : List UInt8 := dkwX1_init_2_1 ++ dktX1_init_2_2
def dkwX1_init_2_0 : List UInt8 := [42, 183, 0, 3, 42, 187, 0, 9, 89, 183, 0, 11, 181, 0, 12, 42, 187, 0, 9, 89, 183, 0, 11]
abbrev dktX1_init_2_0 : List UInt8 := dkwX1_init_2_0 ++ dktX1_init_2_1
theorem dksX1_init_2_0 : cX1_init_2.data.toList.drop 0 = dktX1_init_2_0 := by decide +kernel
theorem dksX1_init_2_1 : cX1_init_2.data.toList.drop 23 = dktX1_init_2_1 := dk_seg dksX1_init_2_0 23 rfl rfl
theorem dksX1_init_2_2 : cX1_init_2.data.toList.drop 45 = dktX1_init_2_2 := dk_seg dksX1_init_2_1 22 rfl rfl
theorem dksX1_init_2_3 : cX1_init_2.data.toList.drop 67 = dktX1_init_2_3 := dk_seg dksX1_init_2_2 22 rfl rfl
theorem dksX1_init_2_4 : cX1_init_2.data.toList.drop 89 = dktX1_init_2_4 := dk_seg dksX1_init_2_3 22 rfl rfl
theorem dksX1_init_2_5 : cX1_init_2.data.toList.drop 110 = dktX1_init_2_5 := dk_seg dksX1_init_2_4 21 rfl rfl
theorem dksX1_init_2_6 : cX1_init_2.data.toList.drop 134 = dktX1_init_2_6 := dk_seg dksX1_init_2_5 24 rfl rfl
theorem dksX1_init_2_7 : cX1_init_2.data.toList.drop 156 = dktX1_init_2_7 := dk_seg dksX1_init_2_6 22 rfl rfl
theorem dksX1_init_2_8 : cX1_init_2.data.toList.drop 180 = dktX1_init_2_8 := dk_seg dksX1_init_2_7 24 rfl rfl
theorem dksX1_init_2_9 : cX1_init_2.data.toList.drop 204 = dktX1_init_2_9 := dk_seg dksX1_init_2_8 24 rfl rfl
theorem dksX1_init_2_10 : cX1_init_2.data.toList.drop 226 = dktX1_init_2_10 := dk_seg dksX1_init_2_9 22 rfl rfl
theorem dksX1_init_2_11 : cX1_init_2.data.toList.drop 249 = dktX1_init_2_11 := dk_seg dksX1_init_2_10 23 rfl rfl
theorem dksX1_init_2_12 : cX1_init_2.data.toList.drop 273 = dktX1_init_2_12 := dk_seg dksX1_init_2_11 24 rfl rfl
theorem dksX1_init_2_13 : cX1_init_2.data.toList.drop 297 = dktX1_init_2_13 := dk_seg dksX1_init_2_12 24 rfl rfl
theorem dksX1_init_2_14 : cX1_init_2.data.toList.drop 321 = dktX1_init_2_14 := dk_seg dksX1_init_2_13 24 rfl rfl
theorem dksX1_init_2_15 : cX1_init_2.data.toList.drop 345 = dktX1_init_2_15 := dk_seg dksX1_init_2_14 24 rfl rfl
theorem dX1_init_2_0 : decode cX1_init_2 0 = .ok (.aload_n 0, 1) := dk_42 (dk_at dksX1_init_2_0 0 rfl rfl)
theorem dX1_init_2_1 : decode cX1_init_2 1 = .ok (.invokespecial 3, 3) := dk_183 0 3 (dk_at dksX1_init_2_0 1 rfl rfl)
theorem dX1_init_2_4 : decode cX1_init_2 4 = .ok (.aload_n 0, 1) := dk_42 (dk_at dksX1_init_2_0 4 rfl rfl)
theorem dX1_init_2_5 : decode cX1_init_2 5 = .ok (.new 9, 3) := dk_187 0 9 (dk_at dksX1_init_2_0 5 rfl rfl)
theorem dX1_init_2_8 : decode cX1_init_2 8 = .ok (.dup, 1) := dk_89 (dk_at dksX1_init_2_0 8 rfl rfl)
theorem dX1_init_2_9 : decode cX1_init_2 9 = .ok (.invokespecial 11, 3) := dk_183 0 11 (dk_at dksX1_init_2_0 9 rfl rfl)
theorem dX1_init_2_12 : decode cX1_init_2 12 = .ok (.putfield 12, 3) := dk_181 0 12 (dk_at dksX1_init_2_0 12 rfl rfl)
theorem dX1_init_2_15 : decode cX1_init_2 15 = .ok (.aload_n 0, 1) := dk_42 (dk_at dksX1_init_2_0 15 rfl rfl)
theorem dX1_init_2_16 : decode cX1_init_2 16 = .ok (.new 9, 3) := dk_187 0 9 (dk_at dksX1_init_2_0 16 rfl rfl)
theorem dX1_init_2_19 : decode cX1_init_2 19 = .ok (.dup, 1) := dk_89 (dk_at dksX1_init_2_0 19 rfl rfl)
theorem dX1_init_2_20 : decode cX1_init_2 20 = .ok (.invokespecial 11, 3) := dk_183 0 11 (dk_at dksX1_init_2_0 20 rfl rfl)
theorem dX1_init_2_23 : decode cX1_init_2 23 = .ok (.putfield 18, 3) := dk_181 0 18 (dk_at dksX1_init_2_1 0 rfl rfl)
theorem dX1_init_2_26 : decode cX1_init_2 26 = .ok (.aload_n 0, 1) := dk_42 (dk_at dksX1_init_2_1 3 rfl rfl)
theorem dX1_init_2_27 : decode cX1_init_2 27 = .ok (.new 21, 3) := dk_187 0 21 (dk_at dksX1_init_2_1 4 rfl rfl)
theorem dX1_init_2_30 : decode cX1_init_2 30 = .ok (.dup, 1) := dk_89 (dk_at dksX1_init_2_1 7 rfl rfl)
theorem dX1_init_2_31 : decode cX1_init_2 31 = .ok (.invokespecial 23, 3) := dk_183 0 23 (dk_at dksX1_init_2_1 8 rfl rfl)
theorem dX1_init_2_34 : decode cX1_init_2 34 = .ok (.putfield 24, 3) := dk_181 0 24 (dk_at dksX1_init_2_1 11 rfl rfl)
theorem dX1_init_2_37 : decode cX1_init_2 37 = .ok (.aload_n 0, 1) := dk_42 (dk_at dksX1_init_2_1 14 rfl rfl)
theorem dX1_init_2_38 : decode cX1_init_2 38 = .ok (.new 9, 3) := dk_187 0 9 (dk_at dksX1_init_2_1 15 rfl rfl)
theorem dX1_init_2_41 : decode cX1_init_2 41 = .ok (.dup, 1) := dk_89 (dk_at dksX1_init_2_1 18 rfl rfl)
theorem dX1_init_2_42 : decode cX1_init_2 42 = .ok (.invokespecial 11, 3) := dk_183 0 11 (dk_at dksX1_init_2_1 19 rfl rfl)
theorem dX1_init_2_45 : decode cX1_init_2 45 = .ok (.putfield 28, 3) := dk_181 0 28 (dk_at dksX1_init_2_2 0 rfl rfl)
theorem dX1_init_2_48 : decode cX1_init_2 48 = .ok (.aload_n 0, 1) := dk_42 (dk_at dksX1_init_2_2 3 rfl rfl)
theorem dX1_init_2_49 : decode cX1_init_2 49 = .ok (.new 9, 3) := dk_187 0 9 (dk_at dksX1_init_2_2 4 rfl rfl)
theorem dX1_init_2_52 : decode cX1_init_2 52 = .ok (.dup, 1) := dk_89 (dk_at dksX1_init_2_2 7 rfl rfl)
theorem dX1_init_2_53 : decode cX1_init_2 53 = .ok (.invokespecial 11, 3) := dk_183 0 11 (dk_at dksX1_init_2_2 8 rfl rfl)
theorem dX1_init_2_56 : decode cX1_init_2 56 = .ok (.putfield 31, 3) := dk_181 0 31 (dk_at dksX1_init_2_2 11 rfl rfl)
theorem dX1_init_2_59 : decode cX1_init_2 59 = .ok (.aload_n 0, 1) := dk_42 (dk_at dksX1_init_2_2 14 rfl rfl)
theorem dX1_init_2_60 : decode cX1_init_2 60 = .ok (.new 9, 3) := dk_187 0 9 (dk_at dksX1_init_2_2 15 rfl rfl)
theorem dX1_init_2_63 : decode cX1_init_2 63 = .ok (.dup, 1) := dk_89 (dk_at dksX1_init_2_2 18 rfl rfl)
theorem dX1_init_2_64 : decode cX1_init_2 64 = .ok (.invokespecial 11, 3) := dk_183 0 11 (dk_at dksX1_init_2_2 19 rfl rfl)
theorem dX1_init_2_67 : decode cX1_init_2 67 = .ok (.putfield 34, 3) := dk_181 0 34 (dk_at dksX1_init_2_3 0 rfl rfl)
theorem dX1_init_2_70 : decode cX1_init_2 70 = .ok (.aload_n 0, 1) := dk_42 (dk_at dksX1_init_2_3 3 rfl rfl)
theorem dX1_init_2_71 : decode cX1_init_2 71 = .ok (.new 9, 3) := dk_187 0 9 (dk_at dksX1_init_2_3 4 rfl rfl)
theorem dX1_init_2_74 : decode cX1_init_2 74 = .ok (.dup, 1) := dk_89 (dk_at dksX1_init_2_3 7 rfl rfl)
theorem dX1_init_2_75 : decode cX1_init_2 75 = .ok (.invokespecial 11, 3) := dk_183 0 11 (dk_at dksX1_init_2_3 8 rfl rfl)
theorem dX1_init_2_78 : decode cX1_init_2 78 = .ok (.putfield 37, 3) := dk_181 0 37 (dk_at dksX1_init_2_3 11 rfl rfl)
theorem dX1_init_2_81 : decode cX1_init_2 81 = .ok (.aload_n 0, 1) := dk_42 (dk_at dksX1_init_2_3 14 rfl rfl)
theorem dX1_init_2_82 : decode cX1_init_2 82 = .ok (.new 40, 3) := dk_187 0 40 (dk_at dksX1_init_2_3 15 rfl rfl)
theorem dX1_init_2_85 : decode cX1_init_2 85 = .ok (.dup, 1) := dk_89 (dk_at dksX1_init_2_3 18 rfl rfl)
theorem dX1_init_2_86 : decode cX1_init_2 86 = .ok (.invokespecial 42, 3) := dk_183 0 42 (dk_at dksX1_init_2_3 19 rfl rfl)
theorem dX1_init_2_89 : decode cX1_init_2 89 = .ok (.putfield 43, 3) := dk_181 0 43 (dk_at dksX1_init_2_4 0 rfl rfl)
theorem dX1_init_2_92 : decode cX1_init_2 92 = .ok (.aload_n 1, 1) := dk_43 (dk_at dksX1_init_2_4 3 rfl rfl)
theorem dX1_init_2_93 : decode cX1_init_2 93 = .ok (.getfield 12, 3) := dk_180 0 12 (dk_at dksX1_init_2_4 4 rfl rfl)
theorem dX1_init_2_96 : decode cX1_init_2 96 = .ok (.invokevirtual 47, 3) := dk_182 0 47 (dk_at dksX1_init_2_4 7 rfl rfl)
theorem dX1_init_2_99 : decode cX1_init_2 99 = .ok (.astore_n 2, 1) := dk_77 (dk_at dksX1_init_2_4 10 rfl rfl)
theorem dX1_init_2_100 : decode cX1_init_2 100 = .ok (.aload_n 2, 1) := dk_44 (dk_at dksX1_init_2_4 11 rfl rfl)
theorem dX1_init_2_101 : decode cX1_init_2 101 = .ok (.invokeinterface 51 1, 5) := by decide +kernel
theorem dX1_init_2_106 : decode cX1_init_2 106 = .ok (.ifCond .eq 32, 3) := dk_153 0 32 (dk_at dksX1_init_2_4 17 rfl rfl)
theorem dX1_init_2_109 : decode cX1_init_2 109 = .ok (.aload_n 2, 1) := dk_44 (dk_at dksX1_init_2_4 20 rfl rfl)
theorem dX1_init_2_110 : decode cX1_init_2 110 = .ok (.invokeinterface 57 1, 5) := by decide +kernel
theorem dX1_init_2_115 : decode cX1_init_2 115 = .ok (.checkcast 61, 3) := dk_192 0 61 (dk_at dksX1_init_2_5 5 rfl rfl)
theorem dX1_init_2_118 : decode cX1_init_2 118 = .ok (.astore_n 3, 1) := dk_78 (dk_at dksX1_init_2_5 8 rfl rfl)
theorem dX1_init_2_119 : decode cX1_init_2 119 = .ok (.aload_n 0, 1) := dk_42 (dk_at dksX1_init_2_5 9 rfl rfl)
theorem dX1_init_2_120 : decode cX1_init_2 120 = .ok (.getfield 12, 3) := dk_180 0 12 (dk_at dksX1_init_2_5 10 rfl rfl)
theorem dX1_init_2_123 : decode cX1_init_2 123 = .ok (.new 61, 3) := dk_187 0 61 (dk_at dksX1_init_2_5 13 rfl rfl)
theorem dX1_init_2_126 : decode cX1_init_2 126 = .ok (.dup, 1) := dk_89 (dk_at dksX1_init_2_5 16 rfl rfl)
theorem dX1_init_2_127 : decode cX1_init_2 127 = .ok (.aload_n 3, 1) := dk_45 (dk_at dksX1_init_2_5 17 rfl rfl)
theorem dX1_init_2_128 : decode cX1_init_2 128 = .ok (.invokespecial 63, 3) := dk_183 0 63 (dk_at dksX1_init_2_5 18 rfl rfl)
theorem dX1_init_2_131 : decode cX1_init_2 131 = .ok (.invokevirtual 66, 3) := dk_182 0 66 (dk_at dksX1_init_2_5 21 rfl rfl)
theorem dX1_init_2_134 : decode cX1_init_2 134 = .ok (.pop, 1) := dk_87 (dk_at dksX1_init_2_6 0 rfl rfl)
theorem dX1_init_2_135 : decode cX1_init_2 135 = .ok (.goto (-35), 3) := dk_167 255 221 (dk_at dksX1_init_2_6 1 rfl rfl)
theorem dX1_init_2_138 : decode cX1_init_2 138 = .ok (.aload_n 1, 1) := dk_43 (dk_at dksX1_init_2_6 4 rfl rfl)
theorem dX1_init_2_139 : decode cX1_init_2 139 = .ok (.getfield 18, 3) := dk_180 0 18 (dk_at dksX1_init_2_6 5 rfl rfl)
theorem dX1_init_2_142 : decode cX1_init_2 142 = .ok (.invokevirtual 47, 3) := dk_182 0 47 (dk_at dksX1_init_2_6 8 rfl rfl)
theorem dX1_init_2_145 : decode cX1_init_2 145 = .ok (.astore_n 2, 1) := dk_77 (dk_at dksX1_init_2_6 11 rfl rfl)
theorem dX1_init_2_146 : decode cX1_init_2 146 = .ok (.aload_n 2, 1) := dk_44 (dk_at dksX1_init_2_6 12 rfl rfl)
theorem dX1_init_2_147 : decode cX1_init_2 147 = .ok (.invokeinterface 51 1, 5) := by decide +kernel
theorem dX1_init_2_152 : decode cX1_init_2 152 = .ok (.ifCond .eq 32, 3) := dk_153 0 32 (dk_at dksX1_init_2_6 18 rfl rfl)
theorem dX1_init_2_155 : decode cX1_init_2 155 = .ok (.aload_n 2, 1) := dk_44 (dk_at dksX1_init_2_6 21 rfl rfl)
theorem dX1_init_2_156 : decode cX1_init_2 156 = .ok (.invokeinterface 57 1, 5) := by decide +kernel
theorem dX1_init_2_161 : decode cX1_init_2 161 = .ok (.checkcast 70, 3) := dk_192 0 70 (dk_at dksX1_init_2_7 5 rfl rfl)
theorem dX1_init_2_164 : decode cX1_init_2 164 = .ok (.astore_n 3, 1) := dk_78 (dk_at dksX1_init_2_7 8 rfl rfl)
theorem dX1_init_2_165 : decode cX1_init_2 165 = .ok (.aload_n 0, 1) := dk_42 (dk_at dksX1_init_2_7 9 rfl rfl)
theorem dX1_init_2_166 : decode cX1_init_2 166 = .ok (.getfield 18, 3) := dk_180 0 18 (dk_at dksX1_init_2_7 10 rfl rfl)
theorem dX1_init_2_169 : decode cX1_init_2 169 = .ok (.new 70, 3) := dk_187 0 70 (dk_at dksX1_init_2_7 13 rfl rfl)
theorem dX1_init_2_172 : decode cX1_init_2 172 = .ok (.dup, 1) := dk_89 (dk_at dksX1_init_2_7 16 rfl rfl)
theorem dX1_init_2_173 : decode cX1_init_2 173 = .ok (.aload_n 3, 1) := dk_45 (dk_at dksX1_init_2_7 17 rfl rfl)
theorem dX1_init_2_174 : decode cX1_init_2 174 = .ok (.invokespecial 72, 3) := dk_183 0 72 (dk_at dksX1_init_2_7 18 rfl rfl)
theorem dX1_init_2_177 : decode cX1_init_2 177 = .ok (.invokevirtual 66, 3) := dk_182 0 66 (dk_at dksX1_init_2_7 21 rfl rfl)
theorem dX1_init_2_180 : decode cX1_init_2 180 = .ok (.pop, 1) := dk_87 (dk_at dksX1_init_2_8 0 rfl rfl)
theorem dX1_init_2_181 : decode cX1_init_2 181 = .ok (.goto (-35), 3) := dk_167 255 221 (dk_at dksX1_init_2_8 1 rfl rfl)
theorem dX1_init_2_184 : decode cX1_init_2 184 = .ok (.aload_n 0, 1) := dk_42 (dk_at dksX1_init_2_8 4 rfl rfl)
theorem dX1_init_2_185 : decode cX1_init_2 185 = .ok (.getfield 24, 3) := dk_180 0 24 (dk_at dksX1_init_2_8 5 rfl rfl)
theorem dX1_init_2_188 : decode cX1_init_2 188 = .ok (.aload_n 1, 1) := dk_43 (dk_at dksX1_init_2_8 8 rfl rfl)
theorem dX1_init_2_189 : decode cX1_init_2 189 = .ok (.getfield 24, 3) := dk_180 0 24 (dk_at dksX1_init_2_8 9 rfl rfl)
theorem dX1_init_2_192 : decode cX1_init_2 192 = .ok (.invokevirtual 75, 3) := dk_182 0 75 (dk_at dksX1_init_2_8 12 rfl rfl)
theorem dX1_init_2_195 : decode cX1_init_2 195 = .ok (.aload_n 1, 1) := dk_43 (dk_at dksX1_init_2_8 15 rfl rfl)
theorem dX1_init_2_196 : decode cX1_init_2 196 = .ok (.getfield 28, 3) := dk_180 0 28 (dk_at dksX1_init_2_8 16 rfl rfl)
theorem dX1_init_2_199 : decode cX1_init_2 199 = .ok (.invokevirtual 47, 3) := dk_182 0 47 (dk_at dksX1_init_2_8 19 rfl rfl)
theorem dX1_init_2_202 : decode cX1_init_2 202 = .ok (.astore_n 2, 1) := dk_77 (dk_at dksX1_init_2_8 22 rfl rfl)
theorem dX1_init_2_203 : decode cX1_init_2 203 = .ok (.aload_n 2, 1) := dk_44 (dk_at dksX1_init_2_8 23 rfl rfl)
theorem dX1_init_2_204 : decode cX1_init_2 204 = .ok (.invokeinterface 51 1, 5) := by decide +kernel
theorem dX1_init_2_209 : decode cX1_init_2 209 = .ok (.ifCond .eq 32, 3) := dk_153 0 32 (dk_at dksX1_init_2_9 5 rfl rfl)
theorem dX1_init_2_212 : decode cX1_init_2 212 = .ok (.aload_n 2, 1) := dk_44 (dk_at dksX1_init_2_9 8 rfl rfl)
theorem dX1_init_2_213 : decode cX1_init_2 213 = .ok (.invokeinterface 57 1, 5) := by decide +kernel
theorem dX1_init_2_218 : decode cX1_init_2 218 = .ok (.checkcast 79, 3) := dk_192 0 79 (dk_at dksX1_init_2_9 14 rfl rfl)
theorem dX1_init_2_221 : decode cX1_init_2 221 = .ok (.astore_n 3, 1) := dk_78 (dk_at dksX1_init_2_9 17 rfl rfl)
theorem dX1_init_2_222 : decode cX1_init_2 222 = .ok (.aload_n 0, 1) := dk_42 (dk_at dksX1_init_2_9 18 rfl rfl)
theorem dX1_init_2_223 : decode cX1_init_2 223 = .ok (.getfield 28, 3) := dk_180 0 28 (dk_at dksX1_init_2_9 19 rfl rfl)
theorem dX1_init_2_226 : decode cX1_init_2 226 = .ok (.new 79, 3) := dk_187 0 79 (dk_at dksX1_init_2_10 0 rfl rfl)
theorem dX1_init_2_229 : decode cX1_init_2 229 = .ok (.dup, 1) := dk_89 (dk_at dksX1_init_2_10 3 rfl rfl)
theorem dX1_init_2_230 : decode cX1_init_2 230 = .ok (.aload_n 3, 1) := dk_45 (dk_at dksX1_init_2_10 4 rfl rfl)
theorem dX1_init_2_231 : decode cX1_init_2 231 = .ok (.invokespecial 81, 3) := dk_183 0 81 (dk_at dksX1_init_2_10 5 rfl rfl)
theorem dX1_init_2_234 : decode cX1_init_2 234 = .ok (.invokevirtual 66, 3) := dk_182 0 66 (dk_at dksX1_init_2_10 8 rfl rfl)
theorem dX1_init_2_237 : decode cX1_init_2 237 = .ok (.pop, 1) := dk_87 (dk_at dksX1_init_2_10 11 rfl rfl)
theorem dX1_init_2_238 : decode cX1_init_2 238 = .ok (.goto (-35), 3) := dk_167 255 221 (dk_at dksX1_init_2_10 12 rfl rfl)
theorem dX1_init_2_241 : decode cX1_init_2 241 = .ok (.aload_n 0, 1) := dk_42 (dk_at dksX1_init_2_10 15 rfl rfl)
theorem dX1_init_2_242 : decode cX1_init_2 242 = .ok (.getfield 31, 3) := dk_180 0 31 (dk_at dksX1_init_2_10 16 rfl rfl)
theorem dX1_init_2_245 : decode cX1_init_2 245 = .ok (.aload_n 1, 1) := dk_43 (dk_at dksX1_init_2_10 19 rfl rfl)
theorem dX1_init_2_246 : decode cX1_init_2 246 = .ok (.getfield 31, 3) := dk_180 0 31 (dk_at dksX1_init_2_10 20 rfl rfl)
theorem dX1_init_2_249 : decode cX1_init_2 249 = .ok (.invokevirtual 84, 3) := dk_182 0 84 (dk_at dksX1_init_2_11 0 rfl rfl)
theorem dX1_init_2_252 : decode cX1_init_2 252 = .ok (.pop, 1) := dk_87 (dk_at dksX1_init_2_11 3 rfl rfl)
theorem dX1_init_2_253 : decode cX1_init_2 253 = .ok (.aload_n 0, 1) := dk_42 (dk_at dksX1_init_2_11 4 rfl rfl)
theorem dX1_init_2_254 : decode cX1_init_2 254 = .ok (.getfield 34, 3) := dk_180 0 34 (dk_at dksX1_init_2_11 5 rfl rfl)
theorem dX1_init_2_257 : decode cX1_init_2 257 = .ok (.aload_n 1, 1) := dk_43 (dk_at dksX1_init_2_11 8 rfl rfl)
theorem dX1_init_2_258 : decode cX1_init_2 258 = .ok (.getfield 34, 3) := dk_180 0 34 (dk_at dksX1_init_2_11 9 rfl rfl)
theorem dX1_init_2_261 : decode cX1_init_2 261 = .ok (.invokevirtual 84, 3) := dk_182 0 84 (dk_at dksX1_init_2_11 12 rfl rfl)
theorem dX1_init_2_264 : decode cX1_init_2 264 = .ok (.pop, 1) := dk_87 (dk_at dksX1_init_2_11 15 rfl rfl)
theorem dX1_init_2_265 : decode cX1_init_2 265 = .ok (.aload_n 0, 1) := dk_42 (dk_at dksX1_init_2_11 16 rfl rfl)
theorem dX1_init_2_266 : decode cX1_init_2 266 = .ok (.getfield 37, 3) := dk_180 0 37 (dk_at dksX1_init_2_11 17 rfl rfl)
theorem dX1_init_2_269 : decode cX1_init_2 269 = .ok (.aload_n 1, 1) := dk_43 (dk_at dksX1_init_2_11 20 rfl rfl)
theorem dX1_init_2_270 : decode cX1_init_2 270 = .ok (.getfield 37, 3) := dk_180 0 37 (dk_at dksX1_init_2_11 21 rfl rfl)
theorem dX1_init_2_273 : decode cX1_init_2 273 = .ok (.invokevirtual 84, 3) := dk_182 0 84 (dk_at dksX1_init_2_12 0 rfl rfl)
theorem dX1_init_2_276 : decode cX1_init_2 276 = .ok (.pop, 1) := dk_87 (dk_at dksX1_init_2_12 3 rfl rfl)
theorem dX1_init_2_277 : decode cX1_init_2 277 = .ok (.aload_n 0, 1) := dk_42 (dk_at dksX1_init_2_12 4 rfl rfl)
theorem dX1_init_2_278 : decode cX1_init_2 278 = .ok (.getfield 43, 3) := dk_180 0 43 (dk_at dksX1_init_2_12 5 rfl rfl)
theorem dX1_init_2_281 : decode cX1_init_2 281 = .ok (.aload_n 1, 1) := dk_43 (dk_at dksX1_init_2_12 8 rfl rfl)
theorem dX1_init_2_282 : decode cX1_init_2 282 = .ok (.getfield 43, 3) := dk_180 0 43 (dk_at dksX1_init_2_12 9 rfl rfl)
theorem dX1_init_2_285 : decode cX1_init_2 285 = .ok (.invokevirtual 88, 3) := dk_182 0 88 (dk_at dksX1_init_2_12 12 rfl rfl)
theorem dX1_init_2_288 : decode cX1_init_2 288 = .ok (.aload_n 0, 1) := dk_42 (dk_at dksX1_init_2_12 15 rfl rfl)
theorem dX1_init_2_289 : decode cX1_init_2 289 = .ok (.aload_n 1, 1) := dk_43 (dk_at dksX1_init_2_12 16 rfl rfl)
theorem dX1_init_2_290 : decode cX1_init_2 290 = .ok (.getfield 92, 3) := dk_180 0 92 (dk_at dksX1_init_2_12 17 rfl rfl)
theorem dX1_init_2_293 : decode cX1_init_2 293 = .ok (.putfield 92, 3) := dk_181 0 92 (dk_at dksX1_init_2_12 20 rfl rfl)
theorem dX1_init_2_296 : decode cX1_init_2 296 = .ok (.aload_n 0, 1) := dk_42 (dk_at dksX1_init_2_12 23 rfl rfl)
theorem dX1_init_2_297 : decode cX1_init_2 297 = .ok (.aload_n 1, 1) := dk_43 (dk_at dksX1_init_2_13 0 rfl rfl)
theorem dX1_init_2_298 : decode cX1_init_2 298 = .ok (.getfield 96, 3) := dk_180 0 96 (dk_at dksX1_init_2_13 1 rfl rfl)
theorem dX1_init_2_301 : decode cX1_init_2 301 = .ok (.putfield 96, 3) := dk_181 0 96 (dk_at dksX1_init_2_13 4 rfl rfl)
theorem dX1_init_2_304 : decode cX1_init_2 304 = .ok (.aload_n 0, 1) := dk_42 (dk_at dksX1_init_2_13 7 rfl rfl)
theorem dX1_init_2_305 : decode cX1_init_2 305 = .ok (.aload_n 1, 1) := dk_43 (dk_at dksX1_init_2_13 8 rfl rfl)
theorem dX1_init_2_306 : decode cX1_init_2 306 = .ok (.getfield 99, 3) := dk_180 0 99 (dk_at dksX1_init_2_13 9 rfl rfl)
theorem dX1_init_2_309 : decode cX1_init_2 309 = .ok (.putfield 99, 3) := dk_181 0 99 (dk_at dksX1_init_2_13 12 rfl rfl)
theorem dX1_init_2_312 : decode cX1_init_2 312 = .ok (.aload_n 0, 1) := dk_42 (dk_at dksX1_init_2_13 15 rfl rfl)
theorem dX1_init_2_313 : decode cX1_init_2 313 = .ok (.aload_n 1, 1) := dk_43 (dk_at dksX1_init_2_13 16 rfl rfl)
theorem dX1_init_2_314 : decode cX1_init_2 314 = .ok (.getfield 102, 3) := dk_180 0 102 (dk_at dksX1_init_2_13 17 rfl rfl)
theorem dX1_init_2_317 : decode cX1_init_2 317 = .ok (.putfield 102, 3) := dk_181 0 102 (dk_at dksX1_init_2_13 20 rfl rfl)
theorem dX1_init_2_320 : decode cX1_init_2 320 = .ok (.aload_n 0, 1) := dk_42 (dk_at dksX1_init_2_13 23 rfl rfl)
theorem dX1_init_2_321 : decode cX1_init_2 321 = .ok (.aload_n 1, 1) := dk_43 (dk_at dksX1_init_2_14 0 rfl rfl)
theorem dX1_init_2_322 : decode cX1_init_2 322 = .ok (.getfield 105, 3) := dk_180 0 105 (dk_at dksX1_init_2_14 1 rfl rfl)
theorem dX1_init_2_325 : decode cX1_init_2 325 = .ok (.putfield 105, 3) := dk_181 0 105 (dk_at dksX1_init_2_14 4 rfl rfl)
theorem dX1_init_2_328 : decode cX1_init_2 328 = .ok (.aload_n 0, 1) := dk_42 (dk_at dksX1_init_2_14 7 rfl rfl)
theorem dX1_init_2_329 : decode cX1_init_2 329 = .ok (.aload_n 1, 1) := dk_43 (dk_at dksX1_init_2_14 8 rfl rfl)
theorem dX1_init_2_330 : decode cX1_init_2 330 = .ok (.getfield 108, 3) := dk_180 0 108 (dk_at dksX1_init_2_14 9 rfl rfl)
theorem dX1_init_2_333 : decode cX1_init_2 333 = .ok (.putfield 108, 3) := dk_181 0 108 (dk_at dksX1_init_2_14 12 rfl rfl)
theorem dX1_init_2_336 : decode cX1_init_2 336 = .ok (.aload_n 0, 1) := dk_42 (dk_at dksX1_init_2_14 15 rfl rfl)
theorem dX1_init_2_337 : decode cX1_init_2 337 = .ok (.aload_n 1, 1) := dk_43 (dk_at dksX1_init_2_14 16 rfl rfl)
theorem dX1_init_2_338 : decode cX1_init_2 338 = .ok (.getfield 111, 3) := dk_180 0 111 (dk_at dksX1_init_2_14 17 rfl rfl)
theorem dX1_init_2_341 : decode cX1_init_2 341 = .ok (.putfield 111, 3) := dk_181 0 111 (dk_at dksX1_init_2_14 20 rfl rfl)
theorem dX1_init_2_344 : decode cX1_init_2 344 = .ok (.aload_n 0, 1) := dk_42 (dk_at dksX1_init_2_14 23 rfl rfl)
theorem dX1_init_2_345 : decode cX1_init_2 345 = .ok (.aload_n 1, 1) := dk_43 (dk_at dksX1_init_2_15 0 rfl rfl)
theorem dX1_init_2_346 : decode cX1_init_2 346 = .ok (.getfield 114, 3) := dk_180 0 114 (dk_at dksX1_init_2_15 1 rfl rfl)
theorem dX1_init_2_349 : decode cX1_init_2 349 = .ok (.putfield 114, 3) := dk_181 0 114 (dk_at dksX1_init_2_15 4 rfl rfl)
theorem dX1_init_2_352 : decode cX1_init_2 352 = .ok (.aload_n 0, 1) := dk_42 (dk_at dksX1_init_2_15 7 rfl rfl)
theorem dX1_init_2_353 : decode cX1_init_2 353 = .ok (.aload_n 1, 1) := dk_43 (dk_at dksX1_init_2_15 8 rfl rfl)
theorem dX1_init_2_354 : decode cX1_init_2 354 = .ok (.getfield 117, 3) := dk_180 0 117 (dk_at dksX1_init_2_15 9 rfl rfl)
theorem dX1_init_2_357 : decode cX1_init_2 357 = .ok (.putfield 117, 3) := dk_181 0 117 (dk_at dksX1_init_2_15 12 rfl rfl)
theorem dX1_init_2_360 : decode cX1_init_2 360 = .ok (.return_, 1) := dk_177 (dk_at dksX1_init_2_15 15 rfl rfl)
abbrev cX1_brings : ByteArray := prog_30_method_6_code
def yX1_brings : MethodName := ⟨RX1, "brings", "(I)I"⟩
def dkwX1_brings_0 : List UInt8 := [42, 17, 3, 231, 42, 180, 0, 96, 27, 96, 184, 0, 128, 181, 0, 96, 42, 180, 0, 96, 172]
abbrev dktX1_brings_0 : List UInt8 := dkwX1_brings_0 ++ []
theorem dksX1_brings_0 : cX1_brings.data.toList.drop 0 = dktX1_brings_0 := by decide +kernel
theorem dX1_brings_0 : decode cX1_brings 0 = .ok (.aload_n 0, 1) := dk_42 (dk_at dksX1_brings_0 0 rfl rfl)
theorem dX1_brings_1 : decode cX1_brings 1 = .ok (.sipush 999, 3) := dk_17 3 231 (dk_at dksX1_brings_0 1 rfl rfl)
theorem dX1_brings_4 : decode cX1_brings 4 = .ok (.aload_n 0, 1) := dk_42 (dk_at dksX1_brings_0 4 rfl rfl)
theorem dX1_brings_5 : decode cX1_brings 5 = .ok (.getfield 96, 3) := dk_180 0 96 (dk_at dksX1_brings_0 5 rfl rfl)
theorem dX1_brings_8 : decode cX1_brings 8 = .ok (.iload_n 1, 1) := dk_27 (dk_at dksX1_brings_0 8 rfl rfl)
theorem dX1_brings_9 : decode cX1_brings 9 = .ok (.iadd, 1) := dk_96 (dk_at dksX1_brings_0 9 rfl rfl)
theorem dX1_brings_10 : decode cX1_brings 10 = .ok (.invokestatic 128, 3) := dk_184 0 128 (dk_at dksX1_brings_0 10 rfl rfl)
theorem dX1_brings_13 : decode cX1_brings 13 = .ok (.putfield 96, 3) := dk_181 0 96 (dk_at dksX1_brings_0 13 rfl rfl)
theorem dX1_brings_16 : decode cX1_brings 16 = .ok (.aload_n 0, 1) := dk_42 (dk_at dksX1_brings_0 16 rfl rfl)
theorem dX1_brings_17 : decode cX1_brings 17 = .ok (.getfield 96, 3) := dk_180 0 96 (dk_at dksX1_brings_0 17 rfl rfl)
theorem dX1_brings_20 : decode cX1_brings 20 = .ok (.ireturn, 1) := dk_172 (dk_at dksX1_brings_0 20 rfl rfl)
abbrev cX1_tells : ByteArray := prog_30_method_21_code
def yX1_tells : MethodName := ⟨RX1, "tells", "(IIII)I"⟩
def dkwX1_tells_3 : List UInt8 := [183, 0, 240, 182, 0, 66, 87, 42, 180, 0, 31, 182, 0, 120, 172]
abbrev dktX1_tells_3 : List UInt8 := dkwX1_tells_3 ++ []
def dkwX1_tells_2 : List UInt8 := [16, 30, 104, 167, 0, 5, 21, 5, 54, 6, 42, 180, 0, 31, 187, 0, 238, 89, 21, 6, 28, 29, 21, 4]
abbrev dktX1_tells_2 : List UInt8 := dkwX1_tells_2 ++ dktX1_tells_3
def dkwX1_tells_1 : List UInt8 := [180, 0, 92, 27, 96, 54, 5, 21, 5, 184, 0, 235, 6, 160, 0, 16, 21, 5, 16, 30, 108, 4, 96]
abbrev dktX1_tells_1 : List UInt8 := dkwX1_tells_1 ++ dktX1_tells_2
def dkwX1_tells_0 : List UInt8 := [42, 180, 0, 31, 182, 0, 120, 16, 6, 162, 0, 7, 4, 167, 0, 4, 3, 4, 16, 6, 184, 0, 134, 42]
abbrev dktX1_tells_0 : List UInt8 := dkwX1_tells_0 ++ dktX1_tells_1
theorem dksX1_tells_0 : cX1_tells.data.toList.drop 0 = dktX1_tells_0 := by decide +kernel
theorem dksX1_tells_1 : cX1_tells.data.toList.drop 24 = dktX1_tells_1 := dk_seg dksX1_tells_0 24 rfl rfl
theorem dksX1_tells_2 : cX1_tells.data.toList.drop 47 = dktX1_tells_2 := dk_seg dksX1_tells_1 23 rfl rfl
theorem dksX1_tells_3 : cX1_tells.data.toList.drop 71 = dktX1_tells_3 := dk_seg dksX1_tells_2 24 rfl rfl
theorem dX1_tells_0 : decode cX1_tells 0 = .ok (.aload_n 0, 1) := dk_42 (dk_at dksX1_tells_0 0 rfl rfl)
theorem dX1_tells_1 : decode cX1_tells 1 = .ok (.getfield 31, 3) := dk_180 0 31 (dk_at dksX1_tells_0 1 rfl rfl)
theorem dX1_tells_4 : decode cX1_tells 4 = .ok (.invokevirtual 120, 3) := dk_182 0 120 (dk_at dksX1_tells_0 4 rfl rfl)
theorem dX1_tells_7 : decode cX1_tells 7 = .ok (.bipush 6, 2) := dk_16 6 (dk_at dksX1_tells_0 7 rfl rfl)
theorem dX1_tells_9 : decode cX1_tells 9 = .ok (.if_icmp .ge 7, 3) := dk_162 0 7 (dk_at dksX1_tells_0 9 rfl rfl)
theorem dX1_tells_12 : decode cX1_tells 12 = .ok (.iconst 1, 1) := dk_4 (dk_at dksX1_tells_0 12 rfl rfl)
theorem dX1_tells_13 : decode cX1_tells 13 = .ok (.goto 4, 3) := dk_167 0 4 (dk_at dksX1_tells_0 13 rfl rfl)
theorem dX1_tells_16 : decode cX1_tells 16 = .ok (.iconst 0, 1) := dk_3 (dk_at dksX1_tells_0 16 rfl rfl)
theorem dX1_tells_17 : decode cX1_tells 17 = .ok (.iconst 1, 1) := dk_4 (dk_at dksX1_tells_0 17 rfl rfl)
theorem dX1_tells_18 : decode cX1_tells 18 = .ok (.bipush 6, 2) := dk_16 6 (dk_at dksX1_tells_0 18 rfl rfl)
theorem dX1_tells_20 : decode cX1_tells 20 = .ok (.invokestatic 134, 3) := dk_184 0 134 (dk_at dksX1_tells_0 20 rfl rfl)
theorem dX1_tells_23 : decode cX1_tells 23 = .ok (.aload_n 0, 1) := dk_42 (dk_at dksX1_tells_0 23 rfl rfl)
theorem dX1_tells_24 : decode cX1_tells 24 = .ok (.getfield 92, 3) := dk_180 0 92 (dk_at dksX1_tells_1 0 rfl rfl)
theorem dX1_tells_27 : decode cX1_tells 27 = .ok (.iload_n 1, 1) := dk_27 (dk_at dksX1_tells_1 3 rfl rfl)
theorem dX1_tells_28 : decode cX1_tells 28 = .ok (.iadd, 1) := dk_96 (dk_at dksX1_tells_1 4 rfl rfl)
theorem dX1_tells_29 : decode cX1_tells 29 = .ok (.istore 5, 2) := dk_54 5 (dk_at dksX1_tells_1 5 rfl rfl)
theorem dX1_tells_31 : decode cX1_tells 31 = .ok (.iload 5, 2) := dk_21 5 (dk_at dksX1_tells_1 7 rfl rfl)
theorem dX1_tells_33 : decode cX1_tells 33 = .ok (.invokestatic 235, 3) := dk_184 0 235 (dk_at dksX1_tells_1 9 rfl rfl)
theorem dX1_tells_36 : decode cX1_tells 36 = .ok (.iconst 3, 1) := dk_6 (dk_at dksX1_tells_1 12 rfl rfl)
theorem dX1_tells_37 : decode cX1_tells 37 = .ok (.if_icmp .ne 16, 3) := dk_160 0 16 (dk_at dksX1_tells_1 13 rfl rfl)
theorem dX1_tells_40 : decode cX1_tells 40 = .ok (.iload 5, 2) := dk_21 5 (dk_at dksX1_tells_1 16 rfl rfl)
theorem dX1_tells_42 : decode cX1_tells 42 = .ok (.bipush 30, 2) := dk_16 30 (dk_at dksX1_tells_1 18 rfl rfl)
theorem dX1_tells_44 : decode cX1_tells 44 = .ok (.idiv, 1) := dk_108 (dk_at dksX1_tells_1 20 rfl rfl)
theorem dX1_tells_45 : decode cX1_tells 45 = .ok (.iconst 1, 1) := dk_4 (dk_at dksX1_tells_1 21 rfl rfl)
theorem dX1_tells_46 : decode cX1_tells 46 = .ok (.iadd, 1) := dk_96 (dk_at dksX1_tells_1 22 rfl rfl)
theorem dX1_tells_47 : decode cX1_tells 47 = .ok (.bipush 30, 2) := dk_16 30 (dk_at dksX1_tells_2 0 rfl rfl)
theorem dX1_tells_49 : decode cX1_tells 49 = .ok (.imul, 1) := dk_104 (dk_at dksX1_tells_2 2 rfl rfl)
theorem dX1_tells_50 : decode cX1_tells 50 = .ok (.goto 5, 3) := dk_167 0 5 (dk_at dksX1_tells_2 3 rfl rfl)
theorem dX1_tells_53 : decode cX1_tells 53 = .ok (.iload 5, 2) := dk_21 5 (dk_at dksX1_tells_2 6 rfl rfl)
theorem dX1_tells_55 : decode cX1_tells 55 = .ok (.istore 6, 2) := dk_54 6 (dk_at dksX1_tells_2 8 rfl rfl)
theorem dX1_tells_57 : decode cX1_tells 57 = .ok (.aload_n 0, 1) := dk_42 (dk_at dksX1_tells_2 10 rfl rfl)
theorem dX1_tells_58 : decode cX1_tells 58 = .ok (.getfield 31, 3) := dk_180 0 31 (dk_at dksX1_tells_2 11 rfl rfl)
theorem dX1_tells_61 : decode cX1_tells 61 = .ok (.new 238, 3) := dk_187 0 238 (dk_at dksX1_tells_2 14 rfl rfl)
theorem dX1_tells_64 : decode cX1_tells 64 = .ok (.dup, 1) := dk_89 (dk_at dksX1_tells_2 17 rfl rfl)
theorem dX1_tells_65 : decode cX1_tells 65 = .ok (.iload 6, 2) := dk_21 6 (dk_at dksX1_tells_2 18 rfl rfl)
theorem dX1_tells_67 : decode cX1_tells 67 = .ok (.iload_n 2, 1) := dk_28 (dk_at dksX1_tells_2 20 rfl rfl)
theorem dX1_tells_68 : decode cX1_tells 68 = .ok (.iload_n 3, 1) := dk_29 (dk_at dksX1_tells_2 21 rfl rfl)
theorem dX1_tells_69 : decode cX1_tells 69 = .ok (.iload 4, 2) := dk_21 4 (dk_at dksX1_tells_2 22 rfl rfl)
theorem dX1_tells_71 : decode cX1_tells 71 = .ok (.invokespecial 240, 3) := dk_183 0 240 (dk_at dksX1_tells_3 0 rfl rfl)
theorem dX1_tells_74 : decode cX1_tells 74 = .ok (.invokevirtual 66, 3) := dk_182 0 66 (dk_at dksX1_tells_3 3 rfl rfl)
theorem dX1_tells_77 : decode cX1_tells 77 = .ok (.pop, 1) := dk_87 (dk_at dksX1_tells_3 6 rfl rfl)
theorem dX1_tells_78 : decode cX1_tells 78 = .ok (.aload_n 0, 1) := dk_42 (dk_at dksX1_tells_3 7 rfl rfl)
theorem dX1_tells_79 : decode cX1_tells 79 = .ok (.getfield 31, 3) := dk_180 0 31 (dk_at dksX1_tells_3 8 rfl rfl)
theorem dX1_tells_82 : decode cX1_tells 82 = .ok (.invokevirtual 120, 3) := dk_182 0 120 (dk_at dksX1_tells_3 11 rfl rfl)
theorem dX1_tells_85 : decode cX1_tells 85 = .ok (.ireturn, 1) := dk_172 (dk_at dksX1_tells_3 14 rfl rfl)
abbrev cX1_mends : ByteArray := prog_30_method_25_code
def yX1_mends : MethodName := ⟨RX1, "mends", "()I"⟩
def dkwX1_mends_6 : List UInt8 := [180, 0, 219, 172]
abbrev dktX1_mends_6 : List UInt8 := dkwX1_mends_6 ++ []
def dkwX1_mends_5 : List UInt8 := [181, 0, 117, 42, 89, 180, 0, 108, 4, 96, 181, 0, 108, 42, 89, 180, 0, 111, 6, 96, 181, 0, 111, 43]
abbrev dktX1_mends_5 : List UInt8 := dkwX1_mends_5 ++ dktX1_mends_6
def dkwX1_mends_4 : List UInt8 := [25, 4, 180, 0, 219, 182, 1, 20, 167, 255, 224, 42, 89, 180, 0, 117, 44, 182, 1, 35, 4, 96, 96]
abbrev dktX1_mends_4 : List UInt8 := dkwX1_mends_4 ++ dktX1_mends_5
def dkwX1_mends_3 : List UInt8 := [45, 185, 0, 51, 1, 0, 153, 0, 29, 45, 185, 0, 57, 1, 0, 192, 0, 161, 58, 4, 42, 180, 0, 43]
abbrev dktX1_mends_3 : List UInt8 := dkwX1_mends_3 ++ dktX1_mends_4
def dkwX1_mends_2 : List UInt8 := [3, 182, 1, 2, 192, 1, 0, 77, 42, 180, 0, 43, 43, 180, 0, 219, 182, 1, 20, 44, 182, 1, 34, 78]
abbrev dktX1_mends_2 : List UInt8 := dkwX1_mends_2 ++ dktX1_mends_3
def dkwX1_mends_1 : List UInt8 := [180, 0, 37, 3, 182, 0, 138, 192, 1, 0, 180, 1, 27, 180, 1, 30, 182, 0, 215, 76, 42, 180, 0, 37]
abbrev dktX1_mends_1 : List UInt8 := dkwX1_mends_1 ++ dktX1_mends_2
def dkwX1_mends_0 : List UInt8 := [42, 180, 0, 37, 182, 1, 24, 154, 0, 7, 4, 167, 0, 4, 3, 16, 8, 3, 184, 0, 134, 42, 42]
abbrev dktX1_mends_0 : List UInt8 := dkwX1_mends_0 ++ dktX1_mends_1
theorem dksX1_mends_0 : cX1_mends.data.toList.drop 0 = dktX1_mends_0 := by decide +kernel
theorem dksX1_mends_1 : cX1_mends.data.toList.drop 23 = dktX1_mends_1 := dk_seg dksX1_mends_0 23 rfl rfl
theorem dksX1_mends_2 : cX1_mends.data.toList.drop 47 = dktX1_mends_2 := dk_seg dksX1_mends_1 24 rfl rfl
theorem dksX1_mends_3 : cX1_mends.data.toList.drop 71 = dktX1_mends_3 := dk_seg dksX1_mends_2 24 rfl rfl
theorem dksX1_mends_4 : cX1_mends.data.toList.drop 95 = dktX1_mends_4 := dk_seg dksX1_mends_3 24 rfl rfl
theorem dksX1_mends_5 : cX1_mends.data.toList.drop 118 = dktX1_mends_5 := dk_seg dksX1_mends_4 23 rfl rfl
theorem dksX1_mends_6 : cX1_mends.data.toList.drop 142 = dktX1_mends_6 := dk_seg dksX1_mends_5 24 rfl rfl
theorem dX1_mends_0 : decode cX1_mends 0 = .ok (.aload_n 0, 1) := dk_42 (dk_at dksX1_mends_0 0 rfl rfl)
theorem dX1_mends_1 : decode cX1_mends 1 = .ok (.getfield 37, 3) := dk_180 0 37 (dk_at dksX1_mends_0 1 rfl rfl)
theorem dX1_mends_4 : decode cX1_mends 4 = .ok (.invokevirtual 280, 3) := dk_182 1 24 (dk_at dksX1_mends_0 4 rfl rfl)
theorem dX1_mends_7 : decode cX1_mends 7 = .ok (.ifCond .ne 7, 3) := dk_154 0 7 (dk_at dksX1_mends_0 7 rfl rfl)
theorem dX1_mends_10 : decode cX1_mends 10 = .ok (.iconst 1, 1) := dk_4 (dk_at dksX1_mends_0 10 rfl rfl)
theorem dX1_mends_11 : decode cX1_mends 11 = .ok (.goto 4, 3) := dk_167 0 4 (dk_at dksX1_mends_0 11 rfl rfl)
theorem dX1_mends_14 : decode cX1_mends 14 = .ok (.iconst 0, 1) := dk_3 (dk_at dksX1_mends_0 14 rfl rfl)
theorem dX1_mends_15 : decode cX1_mends 15 = .ok (.bipush 8, 2) := dk_16 8 (dk_at dksX1_mends_0 15 rfl rfl)
theorem dX1_mends_17 : decode cX1_mends 17 = .ok (.iconst 0, 1) := dk_3 (dk_at dksX1_mends_0 17 rfl rfl)
theorem dX1_mends_18 : decode cX1_mends 18 = .ok (.invokestatic 134, 3) := dk_184 0 134 (dk_at dksX1_mends_0 18 rfl rfl)
theorem dX1_mends_21 : decode cX1_mends 21 = .ok (.aload_n 0, 1) := dk_42 (dk_at dksX1_mends_0 21 rfl rfl)
theorem dX1_mends_22 : decode cX1_mends 22 = .ok (.aload_n 0, 1) := dk_42 (dk_at dksX1_mends_0 22 rfl rfl)
theorem dX1_mends_23 : decode cX1_mends 23 = .ok (.getfield 37, 3) := dk_180 0 37 (dk_at dksX1_mends_1 0 rfl rfl)
theorem dX1_mends_26 : decode cX1_mends 26 = .ok (.iconst 0, 1) := dk_3 (dk_at dksX1_mends_1 3 rfl rfl)
theorem dX1_mends_27 : decode cX1_mends 27 = .ok (.invokevirtual 138, 3) := dk_182 0 138 (dk_at dksX1_mends_1 4 rfl rfl)
theorem dX1_mends_30 : decode cX1_mends 30 = .ok (.checkcast 256, 3) := dk_192 1 0 (dk_at dksX1_mends_1 7 rfl rfl)
theorem dX1_mends_33 : decode cX1_mends 33 = .ok (.getfield 283, 3) := dk_180 1 27 (dk_at dksX1_mends_1 10 rfl rfl)
theorem dX1_mends_36 : decode cX1_mends 36 = .ok (.getfield 286, 3) := dk_180 1 30 (dk_at dksX1_mends_1 13 rfl rfl)
theorem dX1_mends_39 : decode cX1_mends 39 = .ok (.invokevirtual 215, 3) := dk_182 0 215 (dk_at dksX1_mends_1 16 rfl rfl)
theorem dX1_mends_42 : decode cX1_mends 42 = .ok (.astore_n 1, 1) := dk_76 (dk_at dksX1_mends_1 19 rfl rfl)
theorem dX1_mends_43 : decode cX1_mends 43 = .ok (.aload_n 0, 1) := dk_42 (dk_at dksX1_mends_1 20 rfl rfl)
theorem dX1_mends_44 : decode cX1_mends 44 = .ok (.getfield 37, 3) := dk_180 0 37 (dk_at dksX1_mends_1 21 rfl rfl)
theorem dX1_mends_47 : decode cX1_mends 47 = .ok (.iconst 0, 1) := dk_3 (dk_at dksX1_mends_2 0 rfl rfl)
theorem dX1_mends_48 : decode cX1_mends 48 = .ok (.invokevirtual 258, 3) := dk_182 1 2 (dk_at dksX1_mends_2 1 rfl rfl)
theorem dX1_mends_51 : decode cX1_mends 51 = .ok (.checkcast 256, 3) := dk_192 1 0 (dk_at dksX1_mends_2 4 rfl rfl)
theorem dX1_mends_54 : decode cX1_mends 54 = .ok (.astore_n 2, 1) := dk_77 (dk_at dksX1_mends_2 7 rfl rfl)
theorem dX1_mends_55 : decode cX1_mends 55 = .ok (.aload_n 0, 1) := dk_42 (dk_at dksX1_mends_2 8 rfl rfl)
theorem dX1_mends_56 : decode cX1_mends 56 = .ok (.getfield 43, 3) := dk_180 0 43 (dk_at dksX1_mends_2 9 rfl rfl)
theorem dX1_mends_59 : decode cX1_mends 59 = .ok (.aload_n 1, 1) := dk_43 (dk_at dksX1_mends_2 12 rfl rfl)
theorem dX1_mends_60 : decode cX1_mends 60 = .ok (.getfield 219, 3) := dk_180 0 219 (dk_at dksX1_mends_2 13 rfl rfl)
theorem dX1_mends_63 : decode cX1_mends 63 = .ok (.invokevirtual 276, 3) := dk_182 1 20 (dk_at dksX1_mends_2 16 rfl rfl)
theorem dX1_mends_66 : decode cX1_mends 66 = .ok (.aload_n 2, 1) := dk_44 (dk_at dksX1_mends_2 19 rfl rfl)
theorem dX1_mends_67 : decode cX1_mends 67 = .ok (.invokevirtual 290, 3) := dk_182 1 34 (dk_at dksX1_mends_2 20 rfl rfl)
theorem dX1_mends_70 : decode cX1_mends 70 = .ok (.astore_n 3, 1) := dk_78 (dk_at dksX1_mends_2 23 rfl rfl)
theorem dX1_mends_71 : decode cX1_mends 71 = .ok (.aload_n 3, 1) := dk_45 (dk_at dksX1_mends_3 0 rfl rfl)
theorem dX1_mends_72 : decode cX1_mends 72 = .ok (.invokeinterface 51 1, 5) := by decide +kernel
theorem dX1_mends_77 : decode cX1_mends 77 = .ok (.ifCond .eq 29, 3) := dk_153 0 29 (dk_at dksX1_mends_3 6 rfl rfl)
theorem dX1_mends_80 : decode cX1_mends 80 = .ok (.aload_n 3, 1) := dk_45 (dk_at dksX1_mends_3 9 rfl rfl)
theorem dX1_mends_81 : decode cX1_mends 81 = .ok (.invokeinterface 57 1, 5) := by decide +kernel
theorem dX1_mends_86 : decode cX1_mends 86 = .ok (.checkcast 161, 3) := dk_192 0 161 (dk_at dksX1_mends_3 15 rfl rfl)
theorem dX1_mends_89 : decode cX1_mends 89 = .ok (.astore 4, 2) := dk_58 4 (dk_at dksX1_mends_3 18 rfl rfl)
theorem dX1_mends_91 : decode cX1_mends 91 = .ok (.aload_n 0, 1) := dk_42 (dk_at dksX1_mends_3 20 rfl rfl)
theorem dX1_mends_92 : decode cX1_mends 92 = .ok (.getfield 43, 3) := dk_180 0 43 (dk_at dksX1_mends_3 21 rfl rfl)
theorem dX1_mends_95 : decode cX1_mends 95 = .ok (.aload 4, 2) := dk_25 4 (dk_at dksX1_mends_4 0 rfl rfl)
theorem dX1_mends_97 : decode cX1_mends 97 = .ok (.getfield 219, 3) := dk_180 0 219 (dk_at dksX1_mends_4 2 rfl rfl)
theorem dX1_mends_100 : decode cX1_mends 100 = .ok (.invokevirtual 276, 3) := dk_182 1 20 (dk_at dksX1_mends_4 5 rfl rfl)
theorem dX1_mends_103 : decode cX1_mends 103 = .ok (.goto (-32), 3) := dk_167 255 224 (dk_at dksX1_mends_4 8 rfl rfl)
theorem dX1_mends_106 : decode cX1_mends 106 = .ok (.aload_n 0, 1) := dk_42 (dk_at dksX1_mends_4 11 rfl rfl)
theorem dX1_mends_107 : decode cX1_mends 107 = .ok (.dup, 1) := dk_89 (dk_at dksX1_mends_4 12 rfl rfl)
theorem dX1_mends_108 : decode cX1_mends 108 = .ok (.getfield 117, 3) := dk_180 0 117 (dk_at dksX1_mends_4 13 rfl rfl)
theorem dX1_mends_111 : decode cX1_mends 111 = .ok (.aload_n 2, 1) := dk_44 (dk_at dksX1_mends_4 16 rfl rfl)
theorem dX1_mends_112 : decode cX1_mends 112 = .ok (.invokevirtual 291, 3) := dk_182 1 35 (dk_at dksX1_mends_4 17 rfl rfl)
theorem dX1_mends_115 : decode cX1_mends 115 = .ok (.iconst 1, 1) := dk_4 (dk_at dksX1_mends_4 20 rfl rfl)
theorem dX1_mends_116 : decode cX1_mends 116 = .ok (.iadd, 1) := dk_96 (dk_at dksX1_mends_4 21 rfl rfl)
theorem dX1_mends_117 : decode cX1_mends 117 = .ok (.iadd, 1) := dk_96 (dk_at dksX1_mends_4 22 rfl rfl)
theorem dX1_mends_118 : decode cX1_mends 118 = .ok (.putfield 117, 3) := dk_181 0 117 (dk_at dksX1_mends_5 0 rfl rfl)
theorem dX1_mends_121 : decode cX1_mends 121 = .ok (.aload_n 0, 1) := dk_42 (dk_at dksX1_mends_5 3 rfl rfl)
theorem dX1_mends_122 : decode cX1_mends 122 = .ok (.dup, 1) := dk_89 (dk_at dksX1_mends_5 4 rfl rfl)
theorem dX1_mends_123 : decode cX1_mends 123 = .ok (.getfield 108, 3) := dk_180 0 108 (dk_at dksX1_mends_5 5 rfl rfl)
theorem dX1_mends_126 : decode cX1_mends 126 = .ok (.iconst 1, 1) := dk_4 (dk_at dksX1_mends_5 8 rfl rfl)
theorem dX1_mends_127 : decode cX1_mends 127 = .ok (.iadd, 1) := dk_96 (dk_at dksX1_mends_5 9 rfl rfl)
theorem dX1_mends_128 : decode cX1_mends 128 = .ok (.putfield 108, 3) := dk_181 0 108 (dk_at dksX1_mends_5 10 rfl rfl)
theorem dX1_mends_131 : decode cX1_mends 131 = .ok (.aload_n 0, 1) := dk_42 (dk_at dksX1_mends_5 13 rfl rfl)
theorem dX1_mends_132 : decode cX1_mends 132 = .ok (.dup, 1) := dk_89 (dk_at dksX1_mends_5 14 rfl rfl)
theorem dX1_mends_133 : decode cX1_mends 133 = .ok (.getfield 111, 3) := dk_180 0 111 (dk_at dksX1_mends_5 15 rfl rfl)
theorem dX1_mends_136 : decode cX1_mends 136 = .ok (.iconst 3, 1) := dk_6 (dk_at dksX1_mends_5 18 rfl rfl)
theorem dX1_mends_137 : decode cX1_mends 137 = .ok (.iadd, 1) := dk_96 (dk_at dksX1_mends_5 19 rfl rfl)
theorem dX1_mends_138 : decode cX1_mends 138 = .ok (.putfield 111, 3) := dk_181 0 111 (dk_at dksX1_mends_5 20 rfl rfl)
theorem dX1_mends_141 : decode cX1_mends 141 = .ok (.aload_n 1, 1) := dk_43 (dk_at dksX1_mends_5 23 rfl rfl)
theorem dX1_mends_142 : decode cX1_mends 142 = .ok (.getfield 219, 3) := dk_180 0 219 (dk_at dksX1_mends_6 0 rfl rfl)
theorem dX1_mends_145 : decode cX1_mends 145 = .ok (.ireturn, 1) := dk_172 (dk_at dksX1_mends_6 3 rfl rfl)
abbrev cX1_takes : ByteArray := prog_30_method_16_code
def yX1_takes : MethodName := ⟨RX1, "takes", "(Z)LRosaryCarvers$Bead;"⟩
def dkwX1_takes_2 : List UInt8 := [182, 0, 203, 44, 176]
abbrev dktX1_takes_2 : List UInt8 := dkwX1_takes_2 ++ []
def dkwX1_takes_1 : List UInt8 := [187, 0, 194, 89, 16, 10, 42, 27, 182, 0, 196, 183, 0, 199, 183, 0, 200, 191, 42, 180, 0, 24, 44]
abbrev dktX1_takes_1 : List UInt8 := dkwX1_takes_1 ++ dktX1_takes_2
def dkwX1_takes_0 : List UInt8 := [42, 180, 0, 24, 27, 182, 0, 190, 77, 44, 199, 0, 31, 187, 0, 194, 89, 16, 6, 27, 184, 0, 177]
abbrev dktX1_takes_0 : List UInt8 := dkwX1_takes_0 ++ dktX1_takes_1
theorem dksX1_takes_0 : cX1_takes.data.toList.drop 0 = dktX1_takes_0 := by decide +kernel
theorem dksX1_takes_1 : cX1_takes.data.toList.drop 23 = dktX1_takes_1 := dk_seg dksX1_takes_0 23 rfl rfl
theorem dksX1_takes_2 : cX1_takes.data.toList.drop 46 = dktX1_takes_2 := dk_seg dksX1_takes_1 23 rfl rfl
theorem dX1_takes_0 : decode cX1_takes 0 = .ok (.aload_n 0, 1) := dk_42 (dk_at dksX1_takes_0 0 rfl rfl)
theorem dX1_takes_1 : decode cX1_takes 1 = .ok (.getfield 24, 3) := dk_180 0 24 (dk_at dksX1_takes_0 1 rfl rfl)
theorem dX1_takes_4 : decode cX1_takes 4 = .ok (.iload_n 1, 1) := dk_27 (dk_at dksX1_takes_0 4 rfl rfl)
theorem dX1_takes_5 : decode cX1_takes 5 = .ok (.invokevirtual 190, 3) := dk_182 0 190 (dk_at dksX1_takes_0 5 rfl rfl)
theorem dX1_takes_8 : decode cX1_takes 8 = .ok (.astore_n 2, 1) := dk_77 (dk_at dksX1_takes_0 8 rfl rfl)
theorem dX1_takes_9 : decode cX1_takes 9 = .ok (.aload_n 2, 1) := dk_44 (dk_at dksX1_takes_0 9 rfl rfl)
theorem dX1_takes_10 : decode cX1_takes 10 = .ok (.ifnonnull 31, 3) := dk_199 0 31 (dk_at dksX1_takes_0 10 rfl rfl)
theorem dX1_takes_13 : decode cX1_takes 13 = .ok (.new 194, 3) := dk_187 0 194 (dk_at dksX1_takes_0 13 rfl rfl)
theorem dX1_takes_16 : decode cX1_takes 16 = .ok (.dup, 1) := dk_89 (dk_at dksX1_takes_0 16 rfl rfl)
theorem dX1_takes_17 : decode cX1_takes 17 = .ok (.bipush 6, 2) := dk_16 6 (dk_at dksX1_takes_0 17 rfl rfl)
theorem dX1_takes_19 : decode cX1_takes 19 = .ok (.iload_n 1, 1) := dk_27 (dk_at dksX1_takes_0 19 rfl rfl)
theorem dX1_takes_20 : decode cX1_takes 20 = .ok (.invokestatic 177, 3) := dk_184 0 177 (dk_at dksX1_takes_0 20 rfl rfl)
theorem dX1_takes_23 : decode cX1_takes 23 = .ok (.new 194, 3) := dk_187 0 194 (dk_at dksX1_takes_1 0 rfl rfl)
theorem dX1_takes_26 : decode cX1_takes 26 = .ok (.dup, 1) := dk_89 (dk_at dksX1_takes_1 3 rfl rfl)
theorem dX1_takes_27 : decode cX1_takes 27 = .ok (.bipush 10, 2) := dk_16 10 (dk_at dksX1_takes_1 4 rfl rfl)
theorem dX1_takes_29 : decode cX1_takes 29 = .ok (.aload_n 0, 1) := dk_42 (dk_at dksX1_takes_1 6 rfl rfl)
theorem dX1_takes_30 : decode cX1_takes 30 = .ok (.iload_n 1, 1) := dk_27 (dk_at dksX1_takes_1 7 rfl rfl)
theorem dX1_takes_31 : decode cX1_takes 31 = .ok (.invokevirtual 196, 3) := dk_182 0 196 (dk_at dksX1_takes_1 8 rfl rfl)
theorem dX1_takes_34 : decode cX1_takes 34 = .ok (.invokespecial 199, 3) := dk_183 0 199 (dk_at dksX1_takes_1 11 rfl rfl)
theorem dX1_takes_37 : decode cX1_takes 37 = .ok (.invokespecial 200, 3) := dk_183 0 200 (dk_at dksX1_takes_1 14 rfl rfl)
theorem dX1_takes_40 : decode cX1_takes 40 = .ok (.athrow, 1) := dk_191 (dk_at dksX1_takes_1 17 rfl rfl)
theorem dX1_takes_41 : decode cX1_takes 41 = .ok (.aload_n 0, 1) := dk_42 (dk_at dksX1_takes_1 18 rfl rfl)
theorem dX1_takes_42 : decode cX1_takes 42 = .ok (.getfield 24, 3) := dk_180 0 24 (dk_at dksX1_takes_1 19 rfl rfl)
theorem dX1_takes_45 : decode cX1_takes 45 = .ok (.aload_n 2, 1) := dk_44 (dk_at dksX1_takes_1 22 rfl rfl)
theorem dX1_takes_46 : decode cX1_takes 46 = .ok (.invokevirtual 203, 3) := dk_182 0 203 (dk_at dksX1_takes_2 0 rfl rfl)
theorem dX1_takes_49 : decode cX1_takes 49 = .ok (.aload_n 2, 1) := dk_44 (dk_at dksX1_takes_2 3 rfl rfl)
theorem dX1_takes_50 : decode cX1_takes 50 = .ok (.areturn, 1) := dk_176 (dk_at dksX1_takes_2 4 rfl rfl)
abbrev cX1_onOthers : ByteArray := prog_30_method_15_code
def yX1_onOthers : MethodName := ⟨RX1, "onOthers", "(Z)I"⟩
def dkwX1_onOthers_2 : List UInt8 := [25, 4, 27, 182, 0, 187, 96, 61, 167, 255, 215, 28, 172]
abbrev dktX1_onOthers_2 : List UInt8 := dkwX1_onOthers_2 ++ []
def dkwX1_onOthers_1 : List UInt8 := [185, 0, 57, 1, 0, 192, 0, 79, 58, 4, 28, 25, 4, 182, 0, 184, 153, 0, 7, 3, 167, 0, 9]
abbrev dktX1_onOthers_1 : List UInt8 := dkwX1_onOthers_1 ++ dktX1_onOthers_2
def dkwX1_onOthers_0 : List UInt8 := [3, 61, 42, 180, 0, 28, 182, 0, 47, 78, 45, 185, 0, 51, 1, 0, 153, 0, 38, 45]
abbrev dktX1_onOthers_0 : List UInt8 := dkwX1_onOthers_0 ++ dktX1_onOthers_1
theorem dksX1_onOthers_0 : cX1_onOthers.data.toList.drop 0 = dktX1_onOthers_0 := by decide +kernel
theorem dksX1_onOthers_1 : cX1_onOthers.data.toList.drop 20 = dktX1_onOthers_1 := dk_seg dksX1_onOthers_0 20 rfl rfl
theorem dksX1_onOthers_2 : cX1_onOthers.data.toList.drop 43 = dktX1_onOthers_2 := dk_seg dksX1_onOthers_1 23 rfl rfl
theorem dX1_onOthers_0 : decode cX1_onOthers 0 = .ok (.iconst 0, 1) := dk_3 (dk_at dksX1_onOthers_0 0 rfl rfl)
theorem dX1_onOthers_1 : decode cX1_onOthers 1 = .ok (.istore_n 2, 1) := dk_61 (dk_at dksX1_onOthers_0 1 rfl rfl)
theorem dX1_onOthers_2 : decode cX1_onOthers 2 = .ok (.aload_n 0, 1) := dk_42 (dk_at dksX1_onOthers_0 2 rfl rfl)
theorem dX1_onOthers_3 : decode cX1_onOthers 3 = .ok (.getfield 28, 3) := dk_180 0 28 (dk_at dksX1_onOthers_0 3 rfl rfl)
theorem dX1_onOthers_6 : decode cX1_onOthers 6 = .ok (.invokevirtual 47, 3) := dk_182 0 47 (dk_at dksX1_onOthers_0 6 rfl rfl)
theorem dX1_onOthers_9 : decode cX1_onOthers 9 = .ok (.astore_n 3, 1) := dk_78 (dk_at dksX1_onOthers_0 9 rfl rfl)
theorem dX1_onOthers_10 : decode cX1_onOthers 10 = .ok (.aload_n 3, 1) := dk_45 (dk_at dksX1_onOthers_0 10 rfl rfl)
theorem dX1_onOthers_11 : decode cX1_onOthers 11 = .ok (.invokeinterface 51 1, 5) := by decide +kernel
theorem dX1_onOthers_16 : decode cX1_onOthers 16 = .ok (.ifCond .eq 38, 3) := dk_153 0 38 (dk_at dksX1_onOthers_0 16 rfl rfl)
theorem dX1_onOthers_19 : decode cX1_onOthers 19 = .ok (.aload_n 3, 1) := dk_45 (dk_at dksX1_onOthers_0 19 rfl rfl)
theorem dX1_onOthers_20 : decode cX1_onOthers 20 = .ok (.invokeinterface 57 1, 5) := by decide +kernel
theorem dX1_onOthers_25 : decode cX1_onOthers 25 = .ok (.checkcast 79, 3) := dk_192 0 79 (dk_at dksX1_onOthers_1 5 rfl rfl)
theorem dX1_onOthers_28 : decode cX1_onOthers 28 = .ok (.astore 4, 2) := dk_58 4 (dk_at dksX1_onOthers_1 8 rfl rfl)
theorem dX1_onOthers_30 : decode cX1_onOthers 30 = .ok (.iload_n 2, 1) := dk_28 (dk_at dksX1_onOthers_1 10 rfl rfl)
theorem dX1_onOthers_31 : decode cX1_onOthers 31 = .ok (.aload 4, 2) := dk_25 4 (dk_at dksX1_onOthers_1 11 rfl rfl)
theorem dX1_onOthers_33 : decode cX1_onOthers 33 = .ok (.invokevirtual 184, 3) := dk_182 0 184 (dk_at dksX1_onOthers_1 13 rfl rfl)
theorem dX1_onOthers_36 : decode cX1_onOthers 36 = .ok (.ifCond .eq 7, 3) := dk_153 0 7 (dk_at dksX1_onOthers_1 16 rfl rfl)
theorem dX1_onOthers_39 : decode cX1_onOthers 39 = .ok (.iconst 0, 1) := dk_3 (dk_at dksX1_onOthers_1 19 rfl rfl)
theorem dX1_onOthers_40 : decode cX1_onOthers 40 = .ok (.goto 9, 3) := dk_167 0 9 (dk_at dksX1_onOthers_1 20 rfl rfl)
theorem dX1_onOthers_43 : decode cX1_onOthers 43 = .ok (.aload 4, 2) := dk_25 4 (dk_at dksX1_onOthers_2 0 rfl rfl)
theorem dX1_onOthers_45 : decode cX1_onOthers 45 = .ok (.iload_n 1, 1) := dk_27 (dk_at dksX1_onOthers_2 2 rfl rfl)
theorem dX1_onOthers_46 : decode cX1_onOthers 46 = .ok (.invokevirtual 187, 3) := dk_182 0 187 (dk_at dksX1_onOthers_2 3 rfl rfl)
theorem dX1_onOthers_49 : decode cX1_onOthers 49 = .ok (.iadd, 1) := dk_96 (dk_at dksX1_onOthers_2 6 rfl rfl)
theorem dX1_onOthers_50 : decode cX1_onOthers 50 = .ok (.istore_n 2, 1) := dk_61 (dk_at dksX1_onOthers_2 7 rfl rfl)
theorem dX1_onOthers_51 : decode cX1_onOthers 51 = .ok (.goto (-41), 3) := dk_167 255 215 (dk_at dksX1_onOthers_2 8 rfl rfl)
theorem dX1_onOthers_54 : decode cX1_onOthers 54 = .ok (.iload_n 2, 1) := dk_28 (dk_at dksX1_onOthers_2 11 rfl rfl)
theorem dX1_onOthers_55 : decode cX1_onOthers 55 = .ok (.ireturn, 1) := dk_172 (dk_at dksX1_onOthers_2 12 rfl rfl)
abbrev cX1_passes : ByteArray := prog_30_method_27_code
def yX1_passes : MethodName := ⟨RX1, "passes", "(I)I"⟩
def dkwX1_passes_0 : List UInt8 := [3, 61, 3, 62, 29, 27, 162, 0, 16, 28, 42, 182, 1, 47, 96, 61, 132, 3, 1, 167, 255, 241, 28, 172]
abbrev dktX1_passes_0 : List UInt8 := dkwX1_passes_0 ++ []
theorem dksX1_passes_0 : cX1_passes.data.toList.drop 0 = dktX1_passes_0 := by decide +kernel
theorem dX1_passes_0 : decode cX1_passes 0 = .ok (.iconst 0, 1) := dk_3 (dk_at dksX1_passes_0 0 rfl rfl)
theorem dX1_passes_1 : decode cX1_passes 1 = .ok (.istore_n 2, 1) := dk_61 (dk_at dksX1_passes_0 1 rfl rfl)
theorem dX1_passes_2 : decode cX1_passes 2 = .ok (.iconst 0, 1) := dk_3 (dk_at dksX1_passes_0 2 rfl rfl)
theorem dX1_passes_3 : decode cX1_passes 3 = .ok (.istore_n 3, 1) := dk_62 (dk_at dksX1_passes_0 3 rfl rfl)
theorem dX1_passes_4 : decode cX1_passes 4 = .ok (.iload_n 3, 1) := dk_29 (dk_at dksX1_passes_0 4 rfl rfl)
theorem dX1_passes_5 : decode cX1_passes 5 = .ok (.iload_n 1, 1) := dk_27 (dk_at dksX1_passes_0 5 rfl rfl)
theorem dX1_passes_6 : decode cX1_passes 6 = .ok (.if_icmp .ge 16, 3) := dk_162 0 16 (dk_at dksX1_passes_0 6 rfl rfl)
theorem dX1_passes_9 : decode cX1_passes 9 = .ok (.iload_n 2, 1) := dk_28 (dk_at dksX1_passes_0 9 rfl rfl)
theorem dX1_passes_10 : decode cX1_passes 10 = .ok (.aload_n 0, 1) := dk_42 (dk_at dksX1_passes_0 10 rfl rfl)
theorem dX1_passes_11 : decode cX1_passes 11 = .ok (.invokevirtual 303, 3) := dk_182 1 47 (dk_at dksX1_passes_0 11 rfl rfl)
theorem dX1_passes_14 : decode cX1_passes 14 = .ok (.iadd, 1) := dk_96 (dk_at dksX1_passes_0 14 rfl rfl)
theorem dX1_passes_15 : decode cX1_passes 15 = .ok (.istore_n 2, 1) := dk_61 (dk_at dksX1_passes_0 15 rfl rfl)
theorem dX1_passes_16 : decode cX1_passes 16 = .ok (.iinc 3 1, 3) := dk_132 3 1 (dk_at dksX1_passes_0 16 rfl rfl)
theorem dX1_passes_19 : decode cX1_passes 19 = .ok (.goto (-15), 3) := dk_167 255 241 (dk_at dksX1_passes_0 19 rfl rfl)
theorem dX1_passes_22 : decode cX1_passes 22 = .ok (.iload_n 2, 1) := dk_28 (dk_at dksX1_passes_0 22 rfl rfl)
theorem dX1_passes_23 : decode cX1_passes 23 = .ok (.ireturn, 1) := dk_172 (dk_at dksX1_passes_0 23 rfl rfl)
abbrev cX1_goesDay : ByteArray := prog_30_method_26_code
def yX1_goesDay : MethodName := ⟨RX1, "goesDay", "()I"⟩
def dkwX1_goesDay_5 : List UInt8 := [167, 255, 209, 27, 172]
abbrev dktX1_goesDay_5 : List UInt8 := dkwX1_goesDay_5 ++ []
def dkwX1_goesDay_4 : List UInt8 := [180, 0, 92, 160, 0, 20, 44, 185, 1, 12, 1, 0, 27, 42, 45, 182, 1, 43, 184, 0, 177, 96, 60]
abbrev dktX1_goesDay_4 : List UInt8 := dkwX1_goesDay_4 ++ dktX1_goesDay_5
def dkwX1_goesDay_3 : List UInt8 := [185, 0, 51, 1, 0, 153, 0, 44, 44, 185, 0, 57, 1, 0, 192, 0, 238, 78, 45, 180, 1, 42, 42]
abbrev dktX1_goesDay_3 : List UInt8 := dkwX1_goesDay_3 ++ dktX1_goesDay_4
def dkwX1_goesDay_2 : List UInt8 := [184, 1, 36, 181, 0, 155, 167, 255, 222, 42, 182, 1, 39, 3, 60, 42, 180, 0, 31, 182, 0, 47, 77, 44]
abbrev dktX1_goesDay_2 : List UInt8 := dkwX1_goesDay_2 ++ dktX1_goesDay_3
def dkwX1_goesDay_1 : List UInt8 := [153, 0, 31, 43, 185, 0, 57, 1, 0, 192, 0, 61, 77, 44, 3, 44, 180, 0, 155, 16, 30, 100]
abbrev dktX1_goesDay_1 : List UInt8 := dkwX1_goesDay_1 ++ dktX1_goesDay_2
def dkwX1_goesDay_0 : List UInt8 := [42, 89, 180, 0, 92, 4, 96, 181, 0, 92, 42, 180, 0, 12, 182, 0, 47, 76, 43, 185, 0, 51, 1, 0]
abbrev dktX1_goesDay_0 : List UInt8 := dkwX1_goesDay_0 ++ dktX1_goesDay_1
theorem dksX1_goesDay_0 : cX1_goesDay.data.toList.drop 0 = dktX1_goesDay_0 := by decide +kernel
theorem dksX1_goesDay_1 : cX1_goesDay.data.toList.drop 24 = dktX1_goesDay_1 := dk_seg dksX1_goesDay_0 24 rfl rfl
theorem dksX1_goesDay_2 : cX1_goesDay.data.toList.drop 46 = dktX1_goesDay_2 := dk_seg dksX1_goesDay_1 22 rfl rfl
theorem dksX1_goesDay_3 : cX1_goesDay.data.toList.drop 70 = dktX1_goesDay_3 := dk_seg dksX1_goesDay_2 24 rfl rfl
theorem dksX1_goesDay_4 : cX1_goesDay.data.toList.drop 93 = dktX1_goesDay_4 := dk_seg dksX1_goesDay_3 23 rfl rfl
theorem dksX1_goesDay_5 : cX1_goesDay.data.toList.drop 116 = dktX1_goesDay_5 := dk_seg dksX1_goesDay_4 23 rfl rfl
theorem dX1_goesDay_0 : decode cX1_goesDay 0 = .ok (.aload_n 0, 1) := dk_42 (dk_at dksX1_goesDay_0 0 rfl rfl)
theorem dX1_goesDay_1 : decode cX1_goesDay 1 = .ok (.dup, 1) := dk_89 (dk_at dksX1_goesDay_0 1 rfl rfl)
theorem dX1_goesDay_2 : decode cX1_goesDay 2 = .ok (.getfield 92, 3) := dk_180 0 92 (dk_at dksX1_goesDay_0 2 rfl rfl)
theorem dX1_goesDay_5 : decode cX1_goesDay 5 = .ok (.iconst 1, 1) := dk_4 (dk_at dksX1_goesDay_0 5 rfl rfl)
theorem dX1_goesDay_6 : decode cX1_goesDay 6 = .ok (.iadd, 1) := dk_96 (dk_at dksX1_goesDay_0 6 rfl rfl)
theorem dX1_goesDay_7 : decode cX1_goesDay 7 = .ok (.putfield 92, 3) := dk_181 0 92 (dk_at dksX1_goesDay_0 7 rfl rfl)
theorem dX1_goesDay_10 : decode cX1_goesDay 10 = .ok (.aload_n 0, 1) := dk_42 (dk_at dksX1_goesDay_0 10 rfl rfl)
theorem dX1_goesDay_11 : decode cX1_goesDay 11 = .ok (.getfield 12, 3) := dk_180 0 12 (dk_at dksX1_goesDay_0 11 rfl rfl)
theorem dX1_goesDay_14 : decode cX1_goesDay 14 = .ok (.invokevirtual 47, 3) := dk_182 0 47 (dk_at dksX1_goesDay_0 14 rfl rfl)
theorem dX1_goesDay_17 : decode cX1_goesDay 17 = .ok (.astore_n 1, 1) := dk_76 (dk_at dksX1_goesDay_0 17 rfl rfl)
theorem dX1_goesDay_18 : decode cX1_goesDay 18 = .ok (.aload_n 1, 1) := dk_43 (dk_at dksX1_goesDay_0 18 rfl rfl)
theorem dX1_goesDay_19 : decode cX1_goesDay 19 = .ok (.invokeinterface 51 1, 5) := by decide +kernel
theorem dX1_goesDay_24 : decode cX1_goesDay 24 = .ok (.ifCond .eq 31, 3) := dk_153 0 31 (dk_at dksX1_goesDay_1 0 rfl rfl)
theorem dX1_goesDay_27 : decode cX1_goesDay 27 = .ok (.aload_n 1, 1) := dk_43 (dk_at dksX1_goesDay_1 3 rfl rfl)
theorem dX1_goesDay_28 : decode cX1_goesDay 28 = .ok (.invokeinterface 57 1, 5) := by decide +kernel
theorem dX1_goesDay_33 : decode cX1_goesDay 33 = .ok (.checkcast 61, 3) := dk_192 0 61 (dk_at dksX1_goesDay_1 9 rfl rfl)
theorem dX1_goesDay_36 : decode cX1_goesDay 36 = .ok (.astore_n 2, 1) := dk_77 (dk_at dksX1_goesDay_1 12 rfl rfl)
theorem dX1_goesDay_37 : decode cX1_goesDay 37 = .ok (.aload_n 2, 1) := dk_44 (dk_at dksX1_goesDay_1 13 rfl rfl)
theorem dX1_goesDay_38 : decode cX1_goesDay 38 = .ok (.iconst 0, 1) := dk_3 (dk_at dksX1_goesDay_1 14 rfl rfl)
theorem dX1_goesDay_39 : decode cX1_goesDay 39 = .ok (.aload_n 2, 1) := dk_44 (dk_at dksX1_goesDay_1 15 rfl rfl)
theorem dX1_goesDay_40 : decode cX1_goesDay 40 = .ok (.getfield 155, 3) := dk_180 0 155 (dk_at dksX1_goesDay_1 16 rfl rfl)
theorem dX1_goesDay_43 : decode cX1_goesDay 43 = .ok (.bipush 30, 2) := dk_16 30 (dk_at dksX1_goesDay_1 19 rfl rfl)
theorem dX1_goesDay_45 : decode cX1_goesDay 45 = .ok (.isub, 1) := dk_100 (dk_at dksX1_goesDay_1 21 rfl rfl)
theorem dX1_goesDay_46 : decode cX1_goesDay 46 = .ok (.invokestatic 292, 3) := dk_184 1 36 (dk_at dksX1_goesDay_2 0 rfl rfl)
theorem dX1_goesDay_49 : decode cX1_goesDay 49 = .ok (.putfield 155, 3) := dk_181 0 155 (dk_at dksX1_goesDay_2 3 rfl rfl)
theorem dX1_goesDay_52 : decode cX1_goesDay 52 = .ok (.goto (-34), 3) := dk_167 255 222 (dk_at dksX1_goesDay_2 6 rfl rfl)
theorem dX1_goesDay_55 : decode cX1_goesDay 55 = .ok (.aload_n 0, 1) := dk_42 (dk_at dksX1_goesDay_2 9 rfl rfl)
theorem dX1_goesDay_56 : decode cX1_goesDay 56 = .ok (.invokevirtual 295, 3) := dk_182 1 39 (dk_at dksX1_goesDay_2 10 rfl rfl)
theorem dX1_goesDay_59 : decode cX1_goesDay 59 = .ok (.iconst 0, 1) := dk_3 (dk_at dksX1_goesDay_2 13 rfl rfl)
theorem dX1_goesDay_60 : decode cX1_goesDay 60 = .ok (.istore_n 1, 1) := dk_60 (dk_at dksX1_goesDay_2 14 rfl rfl)
theorem dX1_goesDay_61 : decode cX1_goesDay 61 = .ok (.aload_n 0, 1) := dk_42 (dk_at dksX1_goesDay_2 15 rfl rfl)
theorem dX1_goesDay_62 : decode cX1_goesDay 62 = .ok (.getfield 31, 3) := dk_180 0 31 (dk_at dksX1_goesDay_2 16 rfl rfl)
theorem dX1_goesDay_65 : decode cX1_goesDay 65 = .ok (.invokevirtual 47, 3) := dk_182 0 47 (dk_at dksX1_goesDay_2 19 rfl rfl)
theorem dX1_goesDay_68 : decode cX1_goesDay 68 = .ok (.astore_n 2, 1) := dk_77 (dk_at dksX1_goesDay_2 22 rfl rfl)
theorem dX1_goesDay_69 : decode cX1_goesDay 69 = .ok (.aload_n 2, 1) := dk_44 (dk_at dksX1_goesDay_2 23 rfl rfl)
theorem dX1_goesDay_70 : decode cX1_goesDay 70 = .ok (.invokeinterface 51 1, 5) := by decide +kernel
theorem dX1_goesDay_75 : decode cX1_goesDay 75 = .ok (.ifCond .eq 44, 3) := dk_153 0 44 (dk_at dksX1_goesDay_3 5 rfl rfl)
theorem dX1_goesDay_78 : decode cX1_goesDay 78 = .ok (.aload_n 2, 1) := dk_44 (dk_at dksX1_goesDay_3 8 rfl rfl)
theorem dX1_goesDay_79 : decode cX1_goesDay 79 = .ok (.invokeinterface 57 1, 5) := by decide +kernel
theorem dX1_goesDay_84 : decode cX1_goesDay 84 = .ok (.checkcast 238, 3) := dk_192 0 238 (dk_at dksX1_goesDay_3 14 rfl rfl)
theorem dX1_goesDay_87 : decode cX1_goesDay 87 = .ok (.astore_n 3, 1) := dk_78 (dk_at dksX1_goesDay_3 17 rfl rfl)
theorem dX1_goesDay_88 : decode cX1_goesDay 88 = .ok (.aload_n 3, 1) := dk_45 (dk_at dksX1_goesDay_3 18 rfl rfl)
theorem dX1_goesDay_89 : decode cX1_goesDay 89 = .ok (.getfield 298, 3) := dk_180 1 42 (dk_at dksX1_goesDay_3 19 rfl rfl)
theorem dX1_goesDay_92 : decode cX1_goesDay 92 = .ok (.aload_n 0, 1) := dk_42 (dk_at dksX1_goesDay_3 22 rfl rfl)
theorem dX1_goesDay_93 : decode cX1_goesDay 93 = .ok (.getfield 92, 3) := dk_180 0 92 (dk_at dksX1_goesDay_4 0 rfl rfl)
theorem dX1_goesDay_96 : decode cX1_goesDay 96 = .ok (.if_icmp .ne 20, 3) := dk_160 0 20 (dk_at dksX1_goesDay_4 3 rfl rfl)
theorem dX1_goesDay_99 : decode cX1_goesDay 99 = .ok (.aload_n 2, 1) := dk_44 (dk_at dksX1_goesDay_4 6 rfl rfl)
theorem dX1_goesDay_100 : decode cX1_goesDay 100 = .ok (.invokeinterface 268 1, 5) := by decide +kernel
theorem dX1_goesDay_105 : decode cX1_goesDay 105 = .ok (.iload_n 1, 1) := dk_27 (dk_at dksX1_goesDay_4 12 rfl rfl)
theorem dX1_goesDay_106 : decode cX1_goesDay 106 = .ok (.aload_n 0, 1) := dk_42 (dk_at dksX1_goesDay_4 13 rfl rfl)
theorem dX1_goesDay_107 : decode cX1_goesDay 107 = .ok (.aload_n 3, 1) := dk_45 (dk_at dksX1_goesDay_4 14 rfl rfl)
theorem dX1_goesDay_108 : decode cX1_goesDay 108 = .ok (.invokevirtual 299, 3) := dk_182 1 43 (dk_at dksX1_goesDay_4 15 rfl rfl)
theorem dX1_goesDay_111 : decode cX1_goesDay 111 = .ok (.invokestatic 177, 3) := dk_184 0 177 (dk_at dksX1_goesDay_4 18 rfl rfl)
theorem dX1_goesDay_114 : decode cX1_goesDay 114 = .ok (.iadd, 1) := dk_96 (dk_at dksX1_goesDay_4 21 rfl rfl)
theorem dX1_goesDay_115 : decode cX1_goesDay 115 = .ok (.istore_n 1, 1) := dk_60 (dk_at dksX1_goesDay_4 22 rfl rfl)
theorem dX1_goesDay_116 : decode cX1_goesDay 116 = .ok (.goto (-47), 3) := dk_167 255 209 (dk_at dksX1_goesDay_5 0 rfl rfl)
theorem dX1_goesDay_119 : decode cX1_goesDay 119 = .ok (.iload_n 1, 1) := dk_27 (dk_at dksX1_goesDay_5 3 rfl rfl)
theorem dX1_goesDay_120 : decode cX1_goesDay 120 = .ok (.ireturn, 1) := dk_172 (dk_at dksX1_goesDay_5 4 rfl rfl)
abbrev cX1_comeBack : ByteArray := prog_30_method_24_code
def yX1_comeBack : MethodName := ⟨RX1, "comeBack", "()V"⟩
def dkwX1_comeBack_3 : List UInt8 := [180, 0, 43, 45, 180, 0, 219, 182, 1, 20, 42, 89, 180, 0, 114, 4, 96, 181, 0, 114, 167, 255, 177, 177]
abbrev dktX1_comeBack_3 : List UInt8 := dkwX1_comeBack_3 ++ []
def dkwX1_comeBack_2 : List UInt8 := [182, 1, 14, 78, 42, 180, 0, 37, 187, 1, 0, 89, 44, 45, 183, 1, 17, 182, 0, 66, 87, 42]
abbrev dktX1_comeBack_2 : List UInt8 := dkwX1_comeBack_2 ++ dktX1_comeBack_3
def dkwX1_comeBack_1 : List UInt8 := [192, 1, 0, 77, 44, 182, 1, 9, 42, 180, 0, 92, 163, 0, 52, 43, 185, 1, 12, 1, 0, 44]
abbrev dktX1_comeBack_1 : List UInt8 := dkwX1_comeBack_1 ++ dktX1_comeBack_2
def dkwX1_comeBack_0 : List UInt8 := [42, 180, 0, 34, 182, 0, 47, 76, 43, 185, 0, 51, 1, 0, 153, 0, 76, 43, 185, 0, 57, 1, 0]
abbrev dktX1_comeBack_0 : List UInt8 := dkwX1_comeBack_0 ++ dktX1_comeBack_1
theorem dksX1_comeBack_0 : cX1_comeBack.data.toList.drop 0 = dktX1_comeBack_0 := by decide +kernel
theorem dksX1_comeBack_1 : cX1_comeBack.data.toList.drop 23 = dktX1_comeBack_1 := dk_seg dksX1_comeBack_0 23 rfl rfl
theorem dksX1_comeBack_2 : cX1_comeBack.data.toList.drop 45 = dktX1_comeBack_2 := dk_seg dksX1_comeBack_1 22 rfl rfl
theorem dksX1_comeBack_3 : cX1_comeBack.data.toList.drop 67 = dktX1_comeBack_3 := dk_seg dksX1_comeBack_2 22 rfl rfl
theorem dX1_comeBack_0 : decode cX1_comeBack 0 = .ok (.aload_n 0, 1) := dk_42 (dk_at dksX1_comeBack_0 0 rfl rfl)
theorem dX1_comeBack_1 : decode cX1_comeBack 1 = .ok (.getfield 34, 3) := dk_180 0 34 (dk_at dksX1_comeBack_0 1 rfl rfl)
theorem dX1_comeBack_4 : decode cX1_comeBack 4 = .ok (.invokevirtual 47, 3) := dk_182 0 47 (dk_at dksX1_comeBack_0 4 rfl rfl)
theorem dX1_comeBack_7 : decode cX1_comeBack 7 = .ok (.astore_n 1, 1) := dk_76 (dk_at dksX1_comeBack_0 7 rfl rfl)
theorem dX1_comeBack_8 : decode cX1_comeBack 8 = .ok (.aload_n 1, 1) := dk_43 (dk_at dksX1_comeBack_0 8 rfl rfl)
theorem dX1_comeBack_9 : decode cX1_comeBack 9 = .ok (.invokeinterface 51 1, 5) := by decide +kernel
theorem dX1_comeBack_14 : decode cX1_comeBack 14 = .ok (.ifCond .eq 76, 3) := dk_153 0 76 (dk_at dksX1_comeBack_0 14 rfl rfl)
theorem dX1_comeBack_17 : decode cX1_comeBack 17 = .ok (.aload_n 1, 1) := dk_43 (dk_at dksX1_comeBack_0 17 rfl rfl)
theorem dX1_comeBack_18 : decode cX1_comeBack 18 = .ok (.invokeinterface 57 1, 5) := by decide +kernel
theorem dX1_comeBack_23 : decode cX1_comeBack 23 = .ok (.checkcast 256, 3) := dk_192 1 0 (dk_at dksX1_comeBack_1 0 rfl rfl)
theorem dX1_comeBack_26 : decode cX1_comeBack 26 = .ok (.astore_n 2, 1) := dk_77 (dk_at dksX1_comeBack_1 3 rfl rfl)
theorem dX1_comeBack_27 : decode cX1_comeBack 27 = .ok (.aload_n 2, 1) := dk_44 (dk_at dksX1_comeBack_1 4 rfl rfl)
theorem dX1_comeBack_28 : decode cX1_comeBack 28 = .ok (.invokevirtual 265, 3) := dk_182 1 9 (dk_at dksX1_comeBack_1 5 rfl rfl)
theorem dX1_comeBack_31 : decode cX1_comeBack 31 = .ok (.aload_n 0, 1) := dk_42 (dk_at dksX1_comeBack_1 8 rfl rfl)
theorem dX1_comeBack_32 : decode cX1_comeBack 32 = .ok (.getfield 92, 3) := dk_180 0 92 (dk_at dksX1_comeBack_1 9 rfl rfl)
theorem dX1_comeBack_35 : decode cX1_comeBack 35 = .ok (.if_icmp .gt 52, 3) := dk_163 0 52 (dk_at dksX1_comeBack_1 12 rfl rfl)
theorem dX1_comeBack_38 : decode cX1_comeBack 38 = .ok (.aload_n 1, 1) := dk_43 (dk_at dksX1_comeBack_1 15 rfl rfl)
theorem dX1_comeBack_39 : decode cX1_comeBack 39 = .ok (.invokeinterface 268 1, 5) := by decide +kernel
theorem dX1_comeBack_44 : decode cX1_comeBack 44 = .ok (.aload_n 2, 1) := dk_44 (dk_at dksX1_comeBack_1 21 rfl rfl)
theorem dX1_comeBack_45 : decode cX1_comeBack 45 = .ok (.invokevirtual 270, 3) := dk_182 1 14 (dk_at dksX1_comeBack_2 0 rfl rfl)
theorem dX1_comeBack_48 : decode cX1_comeBack 48 = .ok (.astore_n 3, 1) := dk_78 (dk_at dksX1_comeBack_2 3 rfl rfl)
theorem dX1_comeBack_49 : decode cX1_comeBack 49 = .ok (.aload_n 0, 1) := dk_42 (dk_at dksX1_comeBack_2 4 rfl rfl)
theorem dX1_comeBack_50 : decode cX1_comeBack 50 = .ok (.getfield 37, 3) := dk_180 0 37 (dk_at dksX1_comeBack_2 5 rfl rfl)
theorem dX1_comeBack_53 : decode cX1_comeBack 53 = .ok (.new 256, 3) := dk_187 1 0 (dk_at dksX1_comeBack_2 8 rfl rfl)
theorem dX1_comeBack_56 : decode cX1_comeBack 56 = .ok (.dup, 1) := dk_89 (dk_at dksX1_comeBack_2 11 rfl rfl)
theorem dX1_comeBack_57 : decode cX1_comeBack 57 = .ok (.aload_n 2, 1) := dk_44 (dk_at dksX1_comeBack_2 12 rfl rfl)
theorem dX1_comeBack_58 : decode cX1_comeBack 58 = .ok (.aload_n 3, 1) := dk_45 (dk_at dksX1_comeBack_2 13 rfl rfl)
theorem dX1_comeBack_59 : decode cX1_comeBack 59 = .ok (.invokespecial 273, 3) := dk_183 1 17 (dk_at dksX1_comeBack_2 14 rfl rfl)
theorem dX1_comeBack_62 : decode cX1_comeBack 62 = .ok (.invokevirtual 66, 3) := dk_182 0 66 (dk_at dksX1_comeBack_2 17 rfl rfl)
theorem dX1_comeBack_65 : decode cX1_comeBack 65 = .ok (.pop, 1) := dk_87 (dk_at dksX1_comeBack_2 20 rfl rfl)
theorem dX1_comeBack_66 : decode cX1_comeBack 66 = .ok (.aload_n 0, 1) := dk_42 (dk_at dksX1_comeBack_2 21 rfl rfl)
theorem dX1_comeBack_67 : decode cX1_comeBack 67 = .ok (.getfield 43, 3) := dk_180 0 43 (dk_at dksX1_comeBack_3 0 rfl rfl)
theorem dX1_comeBack_70 : decode cX1_comeBack 70 = .ok (.aload_n 3, 1) := dk_45 (dk_at dksX1_comeBack_3 3 rfl rfl)
theorem dX1_comeBack_71 : decode cX1_comeBack 71 = .ok (.getfield 219, 3) := dk_180 0 219 (dk_at dksX1_comeBack_3 4 rfl rfl)
theorem dX1_comeBack_74 : decode cX1_comeBack 74 = .ok (.invokevirtual 276, 3) := dk_182 1 20 (dk_at dksX1_comeBack_3 7 rfl rfl)
theorem dX1_comeBack_77 : decode cX1_comeBack 77 = .ok (.aload_n 0, 1) := dk_42 (dk_at dksX1_comeBack_3 10 rfl rfl)
theorem dX1_comeBack_78 : decode cX1_comeBack 78 = .ok (.dup, 1) := dk_89 (dk_at dksX1_comeBack_3 11 rfl rfl)
theorem dX1_comeBack_79 : decode cX1_comeBack 79 = .ok (.getfield 114, 3) := dk_180 0 114 (dk_at dksX1_comeBack_3 12 rfl rfl)
theorem dX1_comeBack_82 : decode cX1_comeBack 82 = .ok (.iconst 1, 1) := dk_4 (dk_at dksX1_comeBack_3 15 rfl rfl)
theorem dX1_comeBack_83 : decode cX1_comeBack 83 = .ok (.iadd, 1) := dk_96 (dk_at dksX1_comeBack_3 16 rfl rfl)
theorem dX1_comeBack_84 : decode cX1_comeBack 84 = .ok (.putfield 114, 3) := dk_181 0 114 (dk_at dksX1_comeBack_3 17 rfl rfl)
theorem dX1_comeBack_87 : decode cX1_comeBack 87 = .ok (.goto (-79), 3) := dk_167 255 177 (dk_at dksX1_comeBack_3 20 rfl rfl)
theorem dX1_comeBack_90 : decode cX1_comeBack 90 = .ok (.return_, 1) := dk_177 (dk_at dksX1_comeBack_3 23 rfl rfl)
abbrev cX1_buys : ByteArray := prog_30_method_23_code
def yX1_buys : MethodName := ⟨RX1, "buys", "(LRosaryCarvers$Pilgrim;)Z"⟩
def dkwX1_buys_2 : List UInt8 := [180, 0, 111, 43, 180, 1, 8, 96, 181, 0, 111, 42, 89, 180, 0, 105, 4, 96, 181, 0, 105, 4, 172]
abbrev dktX1_buys_2 : List UInt8 := dkwX1_buys_2 ++ []
def dkwX1_buys_1 : List UInt8 := [180, 0, 28, 28, 182, 1, 2, 192, 0, 21, 42, 180, 0, 92, 183, 1, 5, 182, 0, 66, 87, 42, 89]
abbrev dktX1_buys_1 : List UInt8 := dkwX1_buys_1 ++ dktX1_buys_2
def dkwX1_buys_0 : List UInt8 := [42, 43, 182, 0, 252, 61, 28, 16, 250, 160, 0, 5, 3, 172, 42, 180, 0, 34, 187, 1, 0, 89, 42]
abbrev dktX1_buys_0 : List UInt8 := dkwX1_buys_0 ++ dktX1_buys_1
theorem dksX1_buys_0 : cX1_buys.data.toList.drop 0 = dktX1_buys_0 := by decide +kernel
theorem dksX1_buys_1 : cX1_buys.data.toList.drop 23 = dktX1_buys_1 := dk_seg dksX1_buys_0 23 rfl rfl
theorem dksX1_buys_2 : cX1_buys.data.toList.drop 46 = dktX1_buys_2 := dk_seg dksX1_buys_1 23 rfl rfl
theorem dX1_buys_0 : decode cX1_buys 0 = .ok (.aload_n 0, 1) := dk_42 (dk_at dksX1_buys_0 0 rfl rfl)
theorem dX1_buys_1 : decode cX1_buys 1 = .ok (.aload_n 1, 1) := dk_43 (dk_at dksX1_buys_0 1 rfl rfl)
theorem dX1_buys_2 : decode cX1_buys 2 = .ok (.invokevirtual 252, 3) := dk_182 0 252 (dk_at dksX1_buys_0 2 rfl rfl)
theorem dX1_buys_5 : decode cX1_buys 5 = .ok (.istore_n 2, 1) := dk_61 (dk_at dksX1_buys_0 5 rfl rfl)
theorem dX1_buys_6 : decode cX1_buys 6 = .ok (.iload_n 2, 1) := dk_28 (dk_at dksX1_buys_0 6 rfl rfl)
theorem dX1_buys_7 : decode cX1_buys 7 = .ok (.bipush (-6), 2) := dk_16 250 (dk_at dksX1_buys_0 7 rfl rfl)
theorem dX1_buys_9 : decode cX1_buys 9 = .ok (.if_icmp .ne 5, 3) := dk_160 0 5 (dk_at dksX1_buys_0 9 rfl rfl)
theorem dX1_buys_12 : decode cX1_buys 12 = .ok (.iconst 0, 1) := dk_3 (dk_at dksX1_buys_0 12 rfl rfl)
theorem dX1_buys_13 : decode cX1_buys 13 = .ok (.ireturn, 1) := dk_172 (dk_at dksX1_buys_0 13 rfl rfl)
theorem dX1_buys_14 : decode cX1_buys 14 = .ok (.aload_n 0, 1) := dk_42 (dk_at dksX1_buys_0 14 rfl rfl)
theorem dX1_buys_15 : decode cX1_buys 15 = .ok (.getfield 34, 3) := dk_180 0 34 (dk_at dksX1_buys_0 15 rfl rfl)
theorem dX1_buys_18 : decode cX1_buys 18 = .ok (.new 256, 3) := dk_187 1 0 (dk_at dksX1_buys_0 18 rfl rfl)
theorem dX1_buys_21 : decode cX1_buys 21 = .ok (.dup, 1) := dk_89 (dk_at dksX1_buys_0 21 rfl rfl)
theorem dX1_buys_22 : decode cX1_buys 22 = .ok (.aload_n 0, 1) := dk_42 (dk_at dksX1_buys_0 22 rfl rfl)
theorem dX1_buys_23 : decode cX1_buys 23 = .ok (.getfield 28, 3) := dk_180 0 28 (dk_at dksX1_buys_1 0 rfl rfl)
theorem dX1_buys_26 : decode cX1_buys 26 = .ok (.iload_n 2, 1) := dk_28 (dk_at dksX1_buys_1 3 rfl rfl)
theorem dX1_buys_27 : decode cX1_buys 27 = .ok (.invokevirtual 258, 3) := dk_182 1 2 (dk_at dksX1_buys_1 4 rfl rfl)
theorem dX1_buys_30 : decode cX1_buys 30 = .ok (.checkcast 21, 3) := dk_192 0 21 (dk_at dksX1_buys_1 7 rfl rfl)
theorem dX1_buys_33 : decode cX1_buys 33 = .ok (.aload_n 0, 1) := dk_42 (dk_at dksX1_buys_1 10 rfl rfl)
theorem dX1_buys_34 : decode cX1_buys 34 = .ok (.getfield 92, 3) := dk_180 0 92 (dk_at dksX1_buys_1 11 rfl rfl)
theorem dX1_buys_37 : decode cX1_buys 37 = .ok (.invokespecial 261, 3) := dk_183 1 5 (dk_at dksX1_buys_1 14 rfl rfl)
theorem dX1_buys_40 : decode cX1_buys 40 = .ok (.invokevirtual 66, 3) := dk_182 0 66 (dk_at dksX1_buys_1 17 rfl rfl)
theorem dX1_buys_43 : decode cX1_buys 43 = .ok (.pop, 1) := dk_87 (dk_at dksX1_buys_1 20 rfl rfl)
theorem dX1_buys_44 : decode cX1_buys 44 = .ok (.aload_n 0, 1) := dk_42 (dk_at dksX1_buys_1 21 rfl rfl)
theorem dX1_buys_45 : decode cX1_buys 45 = .ok (.dup, 1) := dk_89 (dk_at dksX1_buys_1 22 rfl rfl)
theorem dX1_buys_46 : decode cX1_buys 46 = .ok (.getfield 111, 3) := dk_180 0 111 (dk_at dksX1_buys_2 0 rfl rfl)
theorem dX1_buys_49 : decode cX1_buys 49 = .ok (.aload_n 1, 1) := dk_43 (dk_at dksX1_buys_2 3 rfl rfl)
theorem dX1_buys_50 : decode cX1_buys 50 = .ok (.getfield 264, 3) := dk_180 1 8 (dk_at dksX1_buys_2 4 rfl rfl)
theorem dX1_buys_53 : decode cX1_buys 53 = .ok (.iadd, 1) := dk_96 (dk_at dksX1_buys_2 7 rfl rfl)
theorem dX1_buys_54 : decode cX1_buys 54 = .ok (.putfield 111, 3) := dk_181 0 111 (dk_at dksX1_buys_2 8 rfl rfl)
theorem dX1_buys_57 : decode cX1_buys 57 = .ok (.aload_n 0, 1) := dk_42 (dk_at dksX1_buys_2 11 rfl rfl)
theorem dX1_buys_58 : decode cX1_buys 58 = .ok (.dup, 1) := dk_89 (dk_at dksX1_buys_2 12 rfl rfl)
theorem dX1_buys_59 : decode cX1_buys 59 = .ok (.getfield 105, 3) := dk_180 0 105 (dk_at dksX1_buys_2 13 rfl rfl)
theorem dX1_buys_62 : decode cX1_buys 62 = .ok (.iconst 1, 1) := dk_4 (dk_at dksX1_buys_2 16 rfl rfl)
theorem dX1_buys_63 : decode cX1_buys 63 = .ok (.iadd, 1) := dk_96 (dk_at dksX1_buys_2 17 rfl rfl)
theorem dX1_buys_64 : decode cX1_buys 64 = .ok (.putfield 105, 3) := dk_181 0 105 (dk_at dksX1_buys_2 18 rfl rfl)
theorem dX1_buys_67 : decode cX1_buys 67 = .ok (.iconst 1, 1) := dk_4 (dk_at dksX1_buys_2 21 rfl rfl)
theorem dX1_buys_68 : decode cX1_buys 68 = .ok (.ireturn, 1) := dk_172 (dk_at dksX1_buys_2 22 rfl rfl)
abbrev cX1_wanted : ByteArray := prog_30_method_22_code
def yX1_wanted : MethodName := ⟨RX1, "wanted", "(LRosaryCarvers$Pilgrim;)I"⟩
def dkwX1_wanted_4 : List UInt8 := [192, 0, 79, 182, 0, 247, 162, 0, 5, 29, 61, 132, 3, 1, 167, 255, 155, 28, 172]
abbrev dktX1_wanted_4 : List UInt8 := dkwX1_wanted_4 ++ []
def dkwX1_wanted_3 : List UInt8 := [161, 0, 33, 28, 16, 250, 159, 0, 25, 25, 4, 182, 0, 247, 42, 180, 0, 28, 28, 182, 0, 138]
abbrev dktX1_wanted_3 : List UInt8 := dkwX1_wanted_3 ++ dktX1_wanted_4
def dkwX1_wanted_2 : List UInt8 := [153, 0, 57, 25, 4, 180, 0, 243, 43, 180, 0, 246, 160, 0, 45, 25, 4, 182, 0, 247, 43, 180, 0, 250]
abbrev dktX1_wanted_2 : List UInt8 := dkwX1_wanted_2 ++ dktX1_wanted_3
def dkwX1_wanted_1 : List UInt8 := [16, 8, 162, 0, 84, 42, 180, 0, 28, 29, 182, 0, 138, 192, 0, 79, 58, 4, 25, 4, 182, 0, 184]
abbrev dktX1_wanted_1 : List UInt8 := dkwX1_wanted_1 ++ dktX1_wanted_2
def dkwX1_wanted_0 : List UInt8 := [16, 250, 61, 3, 62, 29, 42, 180, 0, 28, 182, 0, 120, 162, 0, 96, 42, 180, 0, 34, 182, 0, 120]
abbrev dktX1_wanted_0 : List UInt8 := dkwX1_wanted_0 ++ dktX1_wanted_1
theorem dksX1_wanted_0 : cX1_wanted.data.toList.drop 0 = dktX1_wanted_0 := by decide +kernel
theorem dksX1_wanted_1 : cX1_wanted.data.toList.drop 23 = dktX1_wanted_1 := dk_seg dksX1_wanted_0 23 rfl rfl
theorem dksX1_wanted_2 : cX1_wanted.data.toList.drop 46 = dktX1_wanted_2 := dk_seg dksX1_wanted_1 23 rfl rfl
theorem dksX1_wanted_3 : cX1_wanted.data.toList.drop 70 = dktX1_wanted_3 := dk_seg dksX1_wanted_2 24 rfl rfl
theorem dksX1_wanted_4 : cX1_wanted.data.toList.drop 92 = dktX1_wanted_4 := dk_seg dksX1_wanted_3 22 rfl rfl
theorem dX1_wanted_0 : decode cX1_wanted 0 = .ok (.bipush (-6), 2) := dk_16 250 (dk_at dksX1_wanted_0 0 rfl rfl)
theorem dX1_wanted_2 : decode cX1_wanted 2 = .ok (.istore_n 2, 1) := dk_61 (dk_at dksX1_wanted_0 2 rfl rfl)
theorem dX1_wanted_3 : decode cX1_wanted 3 = .ok (.iconst 0, 1) := dk_3 (dk_at dksX1_wanted_0 3 rfl rfl)
theorem dX1_wanted_4 : decode cX1_wanted 4 = .ok (.istore_n 3, 1) := dk_62 (dk_at dksX1_wanted_0 4 rfl rfl)
theorem dX1_wanted_5 : decode cX1_wanted 5 = .ok (.iload_n 3, 1) := dk_29 (dk_at dksX1_wanted_0 5 rfl rfl)
theorem dX1_wanted_6 : decode cX1_wanted 6 = .ok (.aload_n 0, 1) := dk_42 (dk_at dksX1_wanted_0 6 rfl rfl)
theorem dX1_wanted_7 : decode cX1_wanted 7 = .ok (.getfield 28, 3) := dk_180 0 28 (dk_at dksX1_wanted_0 7 rfl rfl)
theorem dX1_wanted_10 : decode cX1_wanted 10 = .ok (.invokevirtual 120, 3) := dk_182 0 120 (dk_at dksX1_wanted_0 10 rfl rfl)
theorem dX1_wanted_13 : decode cX1_wanted 13 = .ok (.if_icmp .ge 96, 3) := dk_162 0 96 (dk_at dksX1_wanted_0 13 rfl rfl)
theorem dX1_wanted_16 : decode cX1_wanted 16 = .ok (.aload_n 0, 1) := dk_42 (dk_at dksX1_wanted_0 16 rfl rfl)
theorem dX1_wanted_17 : decode cX1_wanted 17 = .ok (.getfield 34, 3) := dk_180 0 34 (dk_at dksX1_wanted_0 17 rfl rfl)
theorem dX1_wanted_20 : decode cX1_wanted 20 = .ok (.invokevirtual 120, 3) := dk_182 0 120 (dk_at dksX1_wanted_0 20 rfl rfl)
theorem dX1_wanted_23 : decode cX1_wanted 23 = .ok (.bipush 8, 2) := dk_16 8 (dk_at dksX1_wanted_1 0 rfl rfl)
theorem dX1_wanted_25 : decode cX1_wanted 25 = .ok (.if_icmp .ge 84, 3) := dk_162 0 84 (dk_at dksX1_wanted_1 2 rfl rfl)
theorem dX1_wanted_28 : decode cX1_wanted 28 = .ok (.aload_n 0, 1) := dk_42 (dk_at dksX1_wanted_1 5 rfl rfl)
theorem dX1_wanted_29 : decode cX1_wanted 29 = .ok (.getfield 28, 3) := dk_180 0 28 (dk_at dksX1_wanted_1 6 rfl rfl)
theorem dX1_wanted_32 : decode cX1_wanted 32 = .ok (.iload_n 3, 1) := dk_29 (dk_at dksX1_wanted_1 9 rfl rfl)
theorem dX1_wanted_33 : decode cX1_wanted 33 = .ok (.invokevirtual 138, 3) := dk_182 0 138 (dk_at dksX1_wanted_1 10 rfl rfl)
theorem dX1_wanted_36 : decode cX1_wanted 36 = .ok (.checkcast 79, 3) := dk_192 0 79 (dk_at dksX1_wanted_1 13 rfl rfl)
theorem dX1_wanted_39 : decode cX1_wanted 39 = .ok (.astore 4, 2) := dk_58 4 (dk_at dksX1_wanted_1 16 rfl rfl)
theorem dX1_wanted_41 : decode cX1_wanted 41 = .ok (.aload 4, 2) := dk_25 4 (dk_at dksX1_wanted_1 18 rfl rfl)
theorem dX1_wanted_43 : decode cX1_wanted 43 = .ok (.invokevirtual 184, 3) := dk_182 0 184 (dk_at dksX1_wanted_1 20 rfl rfl)
theorem dX1_wanted_46 : decode cX1_wanted 46 = .ok (.ifCond .eq 57, 3) := dk_153 0 57 (dk_at dksX1_wanted_2 0 rfl rfl)
theorem dX1_wanted_49 : decode cX1_wanted 49 = .ok (.aload 4, 2) := dk_25 4 (dk_at dksX1_wanted_2 3 rfl rfl)
theorem dX1_wanted_51 : decode cX1_wanted 51 = .ok (.getfield 243, 3) := dk_180 0 243 (dk_at dksX1_wanted_2 5 rfl rfl)
theorem dX1_wanted_54 : decode cX1_wanted 54 = .ok (.aload_n 1, 1) := dk_43 (dk_at dksX1_wanted_2 8 rfl rfl)
theorem dX1_wanted_55 : decode cX1_wanted 55 = .ok (.getfield 246, 3) := dk_180 0 246 (dk_at dksX1_wanted_2 9 rfl rfl)
theorem dX1_wanted_58 : decode cX1_wanted 58 = .ok (.if_icmp .ne 45, 3) := dk_160 0 45 (dk_at dksX1_wanted_2 12 rfl rfl)
theorem dX1_wanted_61 : decode cX1_wanted 61 = .ok (.aload 4, 2) := dk_25 4 (dk_at dksX1_wanted_2 15 rfl rfl)
theorem dX1_wanted_63 : decode cX1_wanted 63 = .ok (.invokevirtual 247, 3) := dk_182 0 247 (dk_at dksX1_wanted_2 17 rfl rfl)
theorem dX1_wanted_66 : decode cX1_wanted 66 = .ok (.aload_n 1, 1) := dk_43 (dk_at dksX1_wanted_2 20 rfl rfl)
theorem dX1_wanted_67 : decode cX1_wanted 67 = .ok (.getfield 250, 3) := dk_180 0 250 (dk_at dksX1_wanted_2 21 rfl rfl)
theorem dX1_wanted_70 : decode cX1_wanted 70 = .ok (.if_icmp .lt 33, 3) := dk_161 0 33 (dk_at dksX1_wanted_3 0 rfl rfl)
theorem dX1_wanted_73 : decode cX1_wanted 73 = .ok (.iload_n 2, 1) := dk_28 (dk_at dksX1_wanted_3 3 rfl rfl)
theorem dX1_wanted_74 : decode cX1_wanted 74 = .ok (.bipush (-6), 2) := dk_16 250 (dk_at dksX1_wanted_3 4 rfl rfl)
theorem dX1_wanted_76 : decode cX1_wanted 76 = .ok (.if_icmp .eq 25, 3) := dk_159 0 25 (dk_at dksX1_wanted_3 6 rfl rfl)
theorem dX1_wanted_79 : decode cX1_wanted 79 = .ok (.aload 4, 2) := dk_25 4 (dk_at dksX1_wanted_3 9 rfl rfl)
theorem dX1_wanted_81 : decode cX1_wanted 81 = .ok (.invokevirtual 247, 3) := dk_182 0 247 (dk_at dksX1_wanted_3 11 rfl rfl)
theorem dX1_wanted_84 : decode cX1_wanted 84 = .ok (.aload_n 0, 1) := dk_42 (dk_at dksX1_wanted_3 14 rfl rfl)
theorem dX1_wanted_85 : decode cX1_wanted 85 = .ok (.getfield 28, 3) := dk_180 0 28 (dk_at dksX1_wanted_3 15 rfl rfl)
theorem dX1_wanted_88 : decode cX1_wanted 88 = .ok (.iload_n 2, 1) := dk_28 (dk_at dksX1_wanted_3 18 rfl rfl)
theorem dX1_wanted_89 : decode cX1_wanted 89 = .ok (.invokevirtual 138, 3) := dk_182 0 138 (dk_at dksX1_wanted_3 19 rfl rfl)
theorem dX1_wanted_92 : decode cX1_wanted 92 = .ok (.checkcast 79, 3) := dk_192 0 79 (dk_at dksX1_wanted_4 0 rfl rfl)
theorem dX1_wanted_95 : decode cX1_wanted 95 = .ok (.invokevirtual 247, 3) := dk_182 0 247 (dk_at dksX1_wanted_4 3 rfl rfl)
theorem dX1_wanted_98 : decode cX1_wanted 98 = .ok (.if_icmp .ge 5, 3) := dk_162 0 5 (dk_at dksX1_wanted_4 6 rfl rfl)
theorem dX1_wanted_101 : decode cX1_wanted 101 = .ok (.iload_n 3, 1) := dk_29 (dk_at dksX1_wanted_4 9 rfl rfl)
theorem dX1_wanted_102 : decode cX1_wanted 102 = .ok (.istore_n 2, 1) := dk_61 (dk_at dksX1_wanted_4 10 rfl rfl)
theorem dX1_wanted_103 : decode cX1_wanted 103 = .ok (.iinc 3 1, 3) := dk_132 3 1 (dk_at dksX1_wanted_4 11 rfl rfl)
theorem dX1_wanted_106 : decode cX1_wanted 106 = .ok (.goto (-101), 3) := dk_167 255 155 (dk_at dksX1_wanted_4 14 rfl rfl)
theorem dX1_wanted_109 : decode cX1_wanted 109 = .ok (.iload_n 2, 1) := dk_28 (dk_at dksX1_wanted_4 17 rfl rfl)
theorem dX1_wanted_110 : decode cX1_wanted 110 = .ok (.ireturn, 1) := dk_172 (dk_at dksX1_wanted_4 18 rfl rfl)
abbrev cX1_isCarver : ByteArray := prog_30_method_3_code
def yX1_isCarver : MethodName := ⟨RX1, "isCarver", "(I)Z"⟩
def dkwX1_isCarver_0 : List UInt8 := [27, 3, 42, 180, 0, 12, 182, 0, 120, 4, 100, 184, 0, 124, 172]
abbrev dktX1_isCarver_0 : List UInt8 := dkwX1_isCarver_0 ++ []
theorem dksX1_isCarver_0 : cX1_isCarver.data.toList.drop 0 = dktX1_isCarver_0 := by decide +kernel
theorem dX1_isCarver_0 : decode cX1_isCarver 0 = .ok (.iload_n 1, 1) := dk_27 (dk_at dksX1_isCarver_0 0 rfl rfl)
theorem dX1_isCarver_1 : decode cX1_isCarver 1 = .ok (.iconst 0, 1) := dk_3 (dk_at dksX1_isCarver_0 1 rfl rfl)
theorem dX1_isCarver_2 : decode cX1_isCarver 2 = .ok (.aload_n 0, 1) := dk_42 (dk_at dksX1_isCarver_0 2 rfl rfl)
theorem dX1_isCarver_3 : decode cX1_isCarver 3 = .ok (.getfield 12, 3) := dk_180 0 12 (dk_at dksX1_isCarver_0 3 rfl rfl)
theorem dX1_isCarver_6 : decode cX1_isCarver 6 = .ok (.invokevirtual 120, 3) := dk_182 0 120 (dk_at dksX1_isCarver_0 6 rfl rfl)
theorem dX1_isCarver_9 : decode cX1_isCarver 9 = .ok (.iconst 1, 1) := dk_4 (dk_at dksX1_isCarver_0 9 rfl rfl)
theorem dX1_isCarver_10 : decode cX1_isCarver 10 = .ok (.isub, 1) := dk_100 (dk_at dksX1_isCarver_0 10 rfl rfl)
theorem dX1_isCarver_11 : decode cX1_isCarver 11 = .ok (.invokestatic 124, 3) := dk_184 0 124 (dk_at dksX1_isCarver_0 11 rfl rfl)
theorem dX1_isCarver_14 : decode cX1_isCarver 14 = .ok (.ireturn, 1) := dk_172 (dk_at dksX1_isCarver_0 14 rfl rfl)
abbrev cX1_carves : ByteArray := prog_30_method_13_code
def yX1_carves : MethodName := ⟨RX1, "carves", "(IZI)I"⟩
def dkwX1_carves_5 : List UInt8 := [54, 6, 132, 7, 1, 167, 255, 233, 21, 6, 172]
abbrev dktX1_carves_5 : List UInt8 := dkwX1_carves_5 ++ []
def dkwX1_carves_4 : List UInt8 := [3, 54, 6, 3, 54, 7, 21, 7, 29, 162, 0, 23, 21, 6, 42, 27, 28, 182, 0, 173, 184, 0, 177, 96]
abbrev dktX1_carves_4 : List UInt8 := dkwX1_carves_4 ++ dktX1_carves_5
def dkwX1_carves_3 : List UInt8 := [180, 0, 24, 182, 0, 172, 29, 96, 16, 60, 163, 0, 7, 4, 167, 0, 4, 3, 4, 16, 60, 184, 0, 134]
abbrev dktX1_carves_3 : List UInt8 := dkwX1_carves_3 ++ dktX1_carves_4
def dkwX1_carves_2 : List UInt8 := [42, 180, 0, 96, 100, 54, 5, 21, 5, 157, 0, 7, 4, 167, 0, 4, 3, 6, 21, 5, 184, 0, 134, 42]
abbrev dktX1_carves_2 : List UInt8 := dkwX1_carves_2 ++ dktX1_carves_3
def dkwX1_carves_1 : List UInt8 := [167, 0, 4, 3, 5, 25, 4, 180, 0, 155, 184, 0, 134, 29, 28, 153, 0, 7, 5, 167, 0, 4, 4, 104]
abbrev dktX1_carves_1 : List UInt8 := dkwX1_carves_1 ++ dktX1_carves_2
def dkwX1_carves_0 : List UInt8 := [42, 180, 0, 12, 27, 182, 0, 138, 192, 0, 61, 58, 4, 25, 4, 180, 0, 155, 16, 60, 162, 0, 7, 4]
abbrev dktX1_carves_0 : List UInt8 := dkwX1_carves_0 ++ dktX1_carves_1
theorem dksX1_carves_0 : cX1_carves.data.toList.drop 0 = dktX1_carves_0 := by decide +kernel
theorem dksX1_carves_1 : cX1_carves.data.toList.drop 24 = dktX1_carves_1 := dk_seg dksX1_carves_0 24 rfl rfl
theorem dksX1_carves_2 : cX1_carves.data.toList.drop 48 = dktX1_carves_2 := dk_seg dksX1_carves_1 24 rfl rfl
theorem dksX1_carves_3 : cX1_carves.data.toList.drop 72 = dktX1_carves_3 := dk_seg dksX1_carves_2 24 rfl rfl
theorem dksX1_carves_4 : cX1_carves.data.toList.drop 96 = dktX1_carves_4 := dk_seg dksX1_carves_3 24 rfl rfl
theorem dksX1_carves_5 : cX1_carves.data.toList.drop 120 = dktX1_carves_5 := dk_seg dksX1_carves_4 24 rfl rfl
theorem dX1_carves_0 : decode cX1_carves 0 = .ok (.aload_n 0, 1) := dk_42 (dk_at dksX1_carves_0 0 rfl rfl)
theorem dX1_carves_1 : decode cX1_carves 1 = .ok (.getfield 12, 3) := dk_180 0 12 (dk_at dksX1_carves_0 1 rfl rfl)
theorem dX1_carves_4 : decode cX1_carves 4 = .ok (.iload_n 1, 1) := dk_27 (dk_at dksX1_carves_0 4 rfl rfl)
theorem dX1_carves_5 : decode cX1_carves 5 = .ok (.invokevirtual 138, 3) := dk_182 0 138 (dk_at dksX1_carves_0 5 rfl rfl)
theorem dX1_carves_8 : decode cX1_carves 8 = .ok (.checkcast 61, 3) := dk_192 0 61 (dk_at dksX1_carves_0 8 rfl rfl)
theorem dX1_carves_11 : decode cX1_carves 11 = .ok (.astore 4, 2) := dk_58 4 (dk_at dksX1_carves_0 11 rfl rfl)
theorem dX1_carves_13 : decode cX1_carves 13 = .ok (.aload 4, 2) := dk_25 4 (dk_at dksX1_carves_0 13 rfl rfl)
theorem dX1_carves_15 : decode cX1_carves 15 = .ok (.getfield 155, 3) := dk_180 0 155 (dk_at dksX1_carves_0 15 rfl rfl)
theorem dX1_carves_18 : decode cX1_carves 18 = .ok (.bipush 60, 2) := dk_16 60 (dk_at dksX1_carves_0 18 rfl rfl)
theorem dX1_carves_20 : decode cX1_carves 20 = .ok (.if_icmp .ge 7, 3) := dk_162 0 7 (dk_at dksX1_carves_0 20 rfl rfl)
theorem dX1_carves_23 : decode cX1_carves 23 = .ok (.iconst 1, 1) := dk_4 (dk_at dksX1_carves_0 23 rfl rfl)
theorem dX1_carves_24 : decode cX1_carves 24 = .ok (.goto 4, 3) := dk_167 0 4 (dk_at dksX1_carves_1 0 rfl rfl)
theorem dX1_carves_27 : decode cX1_carves 27 = .ok (.iconst 0, 1) := dk_3 (dk_at dksX1_carves_1 3 rfl rfl)
theorem dX1_carves_28 : decode cX1_carves 28 = .ok (.iconst 2, 1) := dk_5 (dk_at dksX1_carves_1 4 rfl rfl)
theorem dX1_carves_29 : decode cX1_carves 29 = .ok (.aload 4, 2) := dk_25 4 (dk_at dksX1_carves_1 5 rfl rfl)
theorem dX1_carves_31 : decode cX1_carves 31 = .ok (.getfield 155, 3) := dk_180 0 155 (dk_at dksX1_carves_1 7 rfl rfl)
theorem dX1_carves_34 : decode cX1_carves 34 = .ok (.invokestatic 134, 3) := dk_184 0 134 (dk_at dksX1_carves_1 10 rfl rfl)
theorem dX1_carves_37 : decode cX1_carves 37 = .ok (.iload_n 3, 1) := dk_29 (dk_at dksX1_carves_1 13 rfl rfl)
theorem dX1_carves_38 : decode cX1_carves 38 = .ok (.iload_n 2, 1) := dk_28 (dk_at dksX1_carves_1 14 rfl rfl)
theorem dX1_carves_39 : decode cX1_carves 39 = .ok (.ifCond .eq 7, 3) := dk_153 0 7 (dk_at dksX1_carves_1 15 rfl rfl)
theorem dX1_carves_42 : decode cX1_carves 42 = .ok (.iconst 2, 1) := dk_5 (dk_at dksX1_carves_1 18 rfl rfl)
theorem dX1_carves_43 : decode cX1_carves 43 = .ok (.goto 4, 3) := dk_167 0 4 (dk_at dksX1_carves_1 19 rfl rfl)
theorem dX1_carves_46 : decode cX1_carves 46 = .ok (.iconst 1, 1) := dk_4 (dk_at dksX1_carves_1 22 rfl rfl)
theorem dX1_carves_47 : decode cX1_carves 47 = .ok (.imul, 1) := dk_104 (dk_at dksX1_carves_1 23 rfl rfl)
theorem dX1_carves_48 : decode cX1_carves 48 = .ok (.aload_n 0, 1) := dk_42 (dk_at dksX1_carves_2 0 rfl rfl)
theorem dX1_carves_49 : decode cX1_carves 49 = .ok (.getfield 96, 3) := dk_180 0 96 (dk_at dksX1_carves_2 1 rfl rfl)
theorem dX1_carves_52 : decode cX1_carves 52 = .ok (.isub, 1) := dk_100 (dk_at dksX1_carves_2 4 rfl rfl)
theorem dX1_carves_53 : decode cX1_carves 53 = .ok (.istore 5, 2) := dk_54 5 (dk_at dksX1_carves_2 5 rfl rfl)
theorem dX1_carves_55 : decode cX1_carves 55 = .ok (.iload 5, 2) := dk_21 5 (dk_at dksX1_carves_2 7 rfl rfl)
theorem dX1_carves_57 : decode cX1_carves 57 = .ok (.ifCond .gt 7, 3) := dk_157 0 7 (dk_at dksX1_carves_2 9 rfl rfl)
theorem dX1_carves_60 : decode cX1_carves 60 = .ok (.iconst 1, 1) := dk_4 (dk_at dksX1_carves_2 12 rfl rfl)
theorem dX1_carves_61 : decode cX1_carves 61 = .ok (.goto 4, 3) := dk_167 0 4 (dk_at dksX1_carves_2 13 rfl rfl)
theorem dX1_carves_64 : decode cX1_carves 64 = .ok (.iconst 0, 1) := dk_3 (dk_at dksX1_carves_2 16 rfl rfl)
theorem dX1_carves_65 : decode cX1_carves 65 = .ok (.iconst 3, 1) := dk_6 (dk_at dksX1_carves_2 17 rfl rfl)
theorem dX1_carves_66 : decode cX1_carves 66 = .ok (.iload 5, 2) := dk_21 5 (dk_at dksX1_carves_2 18 rfl rfl)
theorem dX1_carves_68 : decode cX1_carves 68 = .ok (.invokestatic 134, 3) := dk_184 0 134 (dk_at dksX1_carves_2 20 rfl rfl)
theorem dX1_carves_71 : decode cX1_carves 71 = .ok (.aload_n 0, 1) := dk_42 (dk_at dksX1_carves_2 23 rfl rfl)
theorem dX1_carves_72 : decode cX1_carves 72 = .ok (.getfield 24, 3) := dk_180 0 24 (dk_at dksX1_carves_3 0 rfl rfl)
theorem dX1_carves_75 : decode cX1_carves 75 = .ok (.invokevirtual 172, 3) := dk_182 0 172 (dk_at dksX1_carves_3 3 rfl rfl)
theorem dX1_carves_78 : decode cX1_carves 78 = .ok (.iload_n 3, 1) := dk_29 (dk_at dksX1_carves_3 6 rfl rfl)
theorem dX1_carves_79 : decode cX1_carves 79 = .ok (.iadd, 1) := dk_96 (dk_at dksX1_carves_3 7 rfl rfl)
theorem dX1_carves_80 : decode cX1_carves 80 = .ok (.bipush 60, 2) := dk_16 60 (dk_at dksX1_carves_3 8 rfl rfl)
theorem dX1_carves_82 : decode cX1_carves 82 = .ok (.if_icmp .gt 7, 3) := dk_163 0 7 (dk_at dksX1_carves_3 10 rfl rfl)
theorem dX1_carves_85 : decode cX1_carves 85 = .ok (.iconst 1, 1) := dk_4 (dk_at dksX1_carves_3 13 rfl rfl)
theorem dX1_carves_86 : decode cX1_carves 86 = .ok (.goto 4, 3) := dk_167 0 4 (dk_at dksX1_carves_3 14 rfl rfl)
theorem dX1_carves_89 : decode cX1_carves 89 = .ok (.iconst 0, 1) := dk_3 (dk_at dksX1_carves_3 17 rfl rfl)
theorem dX1_carves_90 : decode cX1_carves 90 = .ok (.iconst 1, 1) := dk_4 (dk_at dksX1_carves_3 18 rfl rfl)
theorem dX1_carves_91 : decode cX1_carves 91 = .ok (.bipush 60, 2) := dk_16 60 (dk_at dksX1_carves_3 19 rfl rfl)
theorem dX1_carves_93 : decode cX1_carves 93 = .ok (.invokestatic 134, 3) := dk_184 0 134 (dk_at dksX1_carves_3 21 rfl rfl)
theorem dX1_carves_96 : decode cX1_carves 96 = .ok (.iconst 0, 1) := dk_3 (dk_at dksX1_carves_4 0 rfl rfl)
theorem dX1_carves_97 : decode cX1_carves 97 = .ok (.istore 6, 2) := dk_54 6 (dk_at dksX1_carves_4 1 rfl rfl)
theorem dX1_carves_99 : decode cX1_carves 99 = .ok (.iconst 0, 1) := dk_3 (dk_at dksX1_carves_4 3 rfl rfl)
theorem dX1_carves_100 : decode cX1_carves 100 = .ok (.istore 7, 2) := dk_54 7 (dk_at dksX1_carves_4 4 rfl rfl)
theorem dX1_carves_102 : decode cX1_carves 102 = .ok (.iload 7, 2) := dk_21 7 (dk_at dksX1_carves_4 6 rfl rfl)
theorem dX1_carves_104 : decode cX1_carves 104 = .ok (.iload_n 3, 1) := dk_29 (dk_at dksX1_carves_4 8 rfl rfl)
theorem dX1_carves_105 : decode cX1_carves 105 = .ok (.if_icmp .ge 23, 3) := dk_162 0 23 (dk_at dksX1_carves_4 9 rfl rfl)
theorem dX1_carves_108 : decode cX1_carves 108 = .ok (.iload 6, 2) := dk_21 6 (dk_at dksX1_carves_4 12 rfl rfl)
theorem dX1_carves_110 : decode cX1_carves 110 = .ok (.aload_n 0, 1) := dk_42 (dk_at dksX1_carves_4 14 rfl rfl)
theorem dX1_carves_111 : decode cX1_carves 111 = .ok (.iload_n 1, 1) := dk_27 (dk_at dksX1_carves_4 15 rfl rfl)
theorem dX1_carves_112 : decode cX1_carves 112 = .ok (.iload_n 2, 1) := dk_28 (dk_at dksX1_carves_4 16 rfl rfl)
theorem dX1_carves_113 : decode cX1_carves 113 = .ok (.invokevirtual 173, 3) := dk_182 0 173 (dk_at dksX1_carves_4 17 rfl rfl)
theorem dX1_carves_116 : decode cX1_carves 116 = .ok (.invokestatic 177, 3) := dk_184 0 177 (dk_at dksX1_carves_4 20 rfl rfl)
theorem dX1_carves_119 : decode cX1_carves 119 = .ok (.iadd, 1) := dk_96 (dk_at dksX1_carves_4 23 rfl rfl)
theorem dX1_carves_120 : decode cX1_carves 120 = .ok (.istore 6, 2) := dk_54 6 (dk_at dksX1_carves_5 0 rfl rfl)
theorem dX1_carves_122 : decode cX1_carves 122 = .ok (.iinc 7 1, 3) := dk_132 7 1 (dk_at dksX1_carves_5 2 rfl rfl)
theorem dX1_carves_125 : decode cX1_carves 125 = .ok (.goto (-23), 3) := dk_167 255 233 (dk_at dksX1_carves_5 5 rfl rfl)
theorem dX1_carves_128 : decode cX1_carves 128 = .ok (.iload 6, 2) := dk_21 6 (dk_at dksX1_carves_5 8 rfl rfl)
theorem dX1_carves_130 : decode cX1_carves 130 = .ok (.ireturn, 1) := dk_172 (dk_at dksX1_carves_5 10 rfl rfl)
abbrev cX1_carvesOne : ByteArray := prog_30_method_12_code
def yX1_carvesOne : MethodName := ⟨RX1, "carvesOne", "(IZ)Z"⟩
def dkwX1_carvesOne_6 : List UInt8 := [181, 0, 102, 45, 89, 180, 0, 171, 4, 96, 181, 0, 171, 21, 5, 172]
abbrev dktX1_carvesOne_6 : List UInt8 := dkwX1_carvesOne_6 ++ []
def dkwX1_carvesOne_5 : List UInt8 := [96, 181, 0, 99, 45, 89, 180, 0, 170, 4, 96, 181, 0, 170, 167, 0, 23, 42, 89, 180, 0, 102, 4, 96]
abbrev dktX1_carvesOne_5 : List UInt8 := dkwX1_carvesOne_5 ++ dktX1_carvesOne_6
def dkwX1_carvesOne_4 : List UInt8 := [42, 180, 0, 99, 28, 16, 9, 21, 4, 184, 0, 128, 183, 0, 163, 182, 0, 166, 42, 89, 180, 0, 99, 4]
abbrev dktX1_carvesOne_4 : List UInt8 := dkwX1_carvesOne_4 ++ dktX1_carvesOne_5
def dkwX1_carvesOne_3 : List UInt8 := [167, 0, 4, 6, 96, 184, 0, 128, 181, 0, 155, 21, 5, 153, 0, 52, 42, 180, 0, 24, 187, 0, 161, 89]
abbrev dktX1_carvesOne_3 : List UInt8 := dkwX1_carvesOne_3 ++ dktX1_carvesOne_4
def dkwX1_carvesOne_2 : List UInt8 := [153, 0, 7, 5, 167, 0, 4, 4, 100, 181, 0, 96, 45, 16, 99, 45, 180, 0, 155, 28, 153, 0, 7, 5]
abbrev dktX1_carvesOne_2 : List UInt8 := dkwX1_carvesOne_2 ++ dktX1_carvesOne_3
def dkwX1_carvesOne_1 : List UInt8 := [153, 0, 7, 5, 167, 0, 4, 7, 161, 0, 7, 4, 167, 0, 4, 3, 54, 5, 42, 89, 180, 0, 96, 28]
abbrev dktX1_carvesOne_1 : List UInt8 := dkwX1_carvesOne_1 ++ dktX1_carvesOne_2
def dkwX1_carvesOne_0 : List UInt8 := [42, 180, 0, 12, 27, 182, 0, 138, 192, 0, 61, 78, 42, 27, 182, 0, 158, 54, 4, 21, 4, 28]
abbrev dktX1_carvesOne_0 : List UInt8 := dkwX1_carvesOne_0 ++ dktX1_carvesOne_1
theorem dksX1_carvesOne_0 : cX1_carvesOne.data.toList.drop 0 = dktX1_carvesOne_0 := by decide +kernel
theorem dksX1_carvesOne_1 : cX1_carvesOne.data.toList.drop 22 = dktX1_carvesOne_1 := dk_seg dksX1_carvesOne_0 22 rfl rfl
theorem dksX1_carvesOne_2 : cX1_carvesOne.data.toList.drop 46 = dktX1_carvesOne_2 := dk_seg dksX1_carvesOne_1 24 rfl rfl
theorem dksX1_carvesOne_3 : cX1_carvesOne.data.toList.drop 70 = dktX1_carvesOne_3 := dk_seg dksX1_carvesOne_2 24 rfl rfl
theorem dksX1_carvesOne_4 : cX1_carvesOne.data.toList.drop 94 = dktX1_carvesOne_4 := dk_seg dksX1_carvesOne_3 24 rfl rfl
theorem dksX1_carvesOne_5 : cX1_carvesOne.data.toList.drop 118 = dktX1_carvesOne_5 := dk_seg dksX1_carvesOne_4 24 rfl rfl
theorem dksX1_carvesOne_6 : cX1_carvesOne.data.toList.drop 142 = dktX1_carvesOne_6 := dk_seg dksX1_carvesOne_5 24 rfl rfl
theorem dX1_carvesOne_0 : decode cX1_carvesOne 0 = .ok (.aload_n 0, 1) := dk_42 (dk_at dksX1_carvesOne_0 0 rfl rfl)
theorem dX1_carvesOne_1 : decode cX1_carvesOne 1 = .ok (.getfield 12, 3) := dk_180 0 12 (dk_at dksX1_carvesOne_0 1 rfl rfl)
theorem dX1_carvesOne_4 : decode cX1_carvesOne 4 = .ok (.iload_n 1, 1) := dk_27 (dk_at dksX1_carvesOne_0 4 rfl rfl)
theorem dX1_carvesOne_5 : decode cX1_carvesOne 5 = .ok (.invokevirtual 138, 3) := dk_182 0 138 (dk_at dksX1_carvesOne_0 5 rfl rfl)
theorem dX1_carvesOne_8 : decode cX1_carvesOne 8 = .ok (.checkcast 61, 3) := dk_192 0 61 (dk_at dksX1_carvesOne_0 8 rfl rfl)
theorem dX1_carvesOne_11 : decode cX1_carvesOne 11 = .ok (.astore_n 3, 1) := dk_78 (dk_at dksX1_carvesOne_0 11 rfl rfl)
theorem dX1_carvesOne_12 : decode cX1_carvesOne 12 = .ok (.aload_n 0, 1) := dk_42 (dk_at dksX1_carvesOne_0 12 rfl rfl)
theorem dX1_carvesOne_13 : decode cX1_carvesOne 13 = .ok (.iload_n 1, 1) := dk_27 (dk_at dksX1_carvesOne_0 13 rfl rfl)
theorem dX1_carvesOne_14 : decode cX1_carvesOne 14 = .ok (.invokevirtual 158, 3) := dk_182 0 158 (dk_at dksX1_carvesOne_0 14 rfl rfl)
theorem dX1_carvesOne_17 : decode cX1_carvesOne 17 = .ok (.istore 4, 2) := dk_54 4 (dk_at dksX1_carvesOne_0 17 rfl rfl)
theorem dX1_carvesOne_19 : decode cX1_carvesOne 19 = .ok (.iload 4, 2) := dk_21 4 (dk_at dksX1_carvesOne_0 19 rfl rfl)
theorem dX1_carvesOne_21 : decode cX1_carvesOne 21 = .ok (.iload_n 2, 1) := dk_28 (dk_at dksX1_carvesOne_0 21 rfl rfl)
theorem dX1_carvesOne_22 : decode cX1_carvesOne 22 = .ok (.ifCond .eq 7, 3) := dk_153 0 7 (dk_at dksX1_carvesOne_1 0 rfl rfl)
theorem dX1_carvesOne_25 : decode cX1_carvesOne 25 = .ok (.iconst 2, 1) := dk_5 (dk_at dksX1_carvesOne_1 3 rfl rfl)
theorem dX1_carvesOne_26 : decode cX1_carvesOne 26 = .ok (.goto 4, 3) := dk_167 0 4 (dk_at dksX1_carvesOne_1 4 rfl rfl)
theorem dX1_carvesOne_29 : decode cX1_carvesOne 29 = .ok (.iconst 4, 1) := dk_7 (dk_at dksX1_carvesOne_1 7 rfl rfl)
theorem dX1_carvesOne_30 : decode cX1_carvesOne 30 = .ok (.if_icmp .lt 7, 3) := dk_161 0 7 (dk_at dksX1_carvesOne_1 8 rfl rfl)
theorem dX1_carvesOne_33 : decode cX1_carvesOne 33 = .ok (.iconst 1, 1) := dk_4 (dk_at dksX1_carvesOne_1 11 rfl rfl)
theorem dX1_carvesOne_34 : decode cX1_carvesOne 34 = .ok (.goto 4, 3) := dk_167 0 4 (dk_at dksX1_carvesOne_1 12 rfl rfl)
theorem dX1_carvesOne_37 : decode cX1_carvesOne 37 = .ok (.iconst 0, 1) := dk_3 (dk_at dksX1_carvesOne_1 15 rfl rfl)
theorem dX1_carvesOne_38 : decode cX1_carvesOne 38 = .ok (.istore 5, 2) := dk_54 5 (dk_at dksX1_carvesOne_1 16 rfl rfl)
theorem dX1_carvesOne_40 : decode cX1_carvesOne 40 = .ok (.aload_n 0, 1) := dk_42 (dk_at dksX1_carvesOne_1 18 rfl rfl)
theorem dX1_carvesOne_41 : decode cX1_carvesOne 41 = .ok (.dup, 1) := dk_89 (dk_at dksX1_carvesOne_1 19 rfl rfl)
theorem dX1_carvesOne_42 : decode cX1_carvesOne 42 = .ok (.getfield 96, 3) := dk_180 0 96 (dk_at dksX1_carvesOne_1 20 rfl rfl)
theorem dX1_carvesOne_45 : decode cX1_carvesOne 45 = .ok (.iload_n 2, 1) := dk_28 (dk_at dksX1_carvesOne_1 23 rfl rfl)
theorem dX1_carvesOne_46 : decode cX1_carvesOne 46 = .ok (.ifCond .eq 7, 3) := dk_153 0 7 (dk_at dksX1_carvesOne_2 0 rfl rfl)
theorem dX1_carvesOne_49 : decode cX1_carvesOne 49 = .ok (.iconst 2, 1) := dk_5 (dk_at dksX1_carvesOne_2 3 rfl rfl)
theorem dX1_carvesOne_50 : decode cX1_carvesOne 50 = .ok (.goto 4, 3) := dk_167 0 4 (dk_at dksX1_carvesOne_2 4 rfl rfl)
theorem dX1_carvesOne_53 : decode cX1_carvesOne 53 = .ok (.iconst 1, 1) := dk_4 (dk_at dksX1_carvesOne_2 7 rfl rfl)
theorem dX1_carvesOne_54 : decode cX1_carvesOne 54 = .ok (.isub, 1) := dk_100 (dk_at dksX1_carvesOne_2 8 rfl rfl)
theorem dX1_carvesOne_55 : decode cX1_carvesOne 55 = .ok (.putfield 96, 3) := dk_181 0 96 (dk_at dksX1_carvesOne_2 9 rfl rfl)
theorem dX1_carvesOne_58 : decode cX1_carvesOne 58 = .ok (.aload_n 3, 1) := dk_45 (dk_at dksX1_carvesOne_2 12 rfl rfl)
theorem dX1_carvesOne_59 : decode cX1_carvesOne 59 = .ok (.bipush 99, 2) := dk_16 99 (dk_at dksX1_carvesOne_2 13 rfl rfl)
theorem dX1_carvesOne_61 : decode cX1_carvesOne 61 = .ok (.aload_n 3, 1) := dk_45 (dk_at dksX1_carvesOne_2 15 rfl rfl)
theorem dX1_carvesOne_62 : decode cX1_carvesOne 62 = .ok (.getfield 155, 3) := dk_180 0 155 (dk_at dksX1_carvesOne_2 16 rfl rfl)
theorem dX1_carvesOne_65 : decode cX1_carvesOne 65 = .ok (.iload_n 2, 1) := dk_28 (dk_at dksX1_carvesOne_2 19 rfl rfl)
theorem dX1_carvesOne_66 : decode cX1_carvesOne 66 = .ok (.ifCond .eq 7, 3) := dk_153 0 7 (dk_at dksX1_carvesOne_2 20 rfl rfl)
theorem dX1_carvesOne_69 : decode cX1_carvesOne 69 = .ok (.iconst 2, 1) := dk_5 (dk_at dksX1_carvesOne_2 23 rfl rfl)
theorem dX1_carvesOne_70 : decode cX1_carvesOne 70 = .ok (.goto 4, 3) := dk_167 0 4 (dk_at dksX1_carvesOne_3 0 rfl rfl)
theorem dX1_carvesOne_73 : decode cX1_carvesOne 73 = .ok (.iconst 3, 1) := dk_6 (dk_at dksX1_carvesOne_3 3 rfl rfl)
theorem dX1_carvesOne_74 : decode cX1_carvesOne 74 = .ok (.iadd, 1) := dk_96 (dk_at dksX1_carvesOne_3 4 rfl rfl)
theorem dX1_carvesOne_75 : decode cX1_carvesOne 75 = .ok (.invokestatic 128, 3) := dk_184 0 128 (dk_at dksX1_carvesOne_3 5 rfl rfl)
theorem dX1_carvesOne_78 : decode cX1_carvesOne 78 = .ok (.putfield 155, 3) := dk_181 0 155 (dk_at dksX1_carvesOne_3 8 rfl rfl)
theorem dX1_carvesOne_81 : decode cX1_carvesOne 81 = .ok (.iload 5, 2) := dk_21 5 (dk_at dksX1_carvesOne_3 11 rfl rfl)
theorem dX1_carvesOne_83 : decode cX1_carvesOne 83 = .ok (.ifCond .eq 52, 3) := dk_153 0 52 (dk_at dksX1_carvesOne_3 13 rfl rfl)
theorem dX1_carvesOne_86 : decode cX1_carvesOne 86 = .ok (.aload_n 0, 1) := dk_42 (dk_at dksX1_carvesOne_3 16 rfl rfl)
theorem dX1_carvesOne_87 : decode cX1_carvesOne 87 = .ok (.getfield 24, 3) := dk_180 0 24 (dk_at dksX1_carvesOne_3 17 rfl rfl)
theorem dX1_carvesOne_90 : decode cX1_carvesOne 90 = .ok (.new 161, 3) := dk_187 0 161 (dk_at dksX1_carvesOne_3 20 rfl rfl)
theorem dX1_carvesOne_93 : decode cX1_carvesOne 93 = .ok (.dup, 1) := dk_89 (dk_at dksX1_carvesOne_3 23 rfl rfl)
theorem dX1_carvesOne_94 : decode cX1_carvesOne 94 = .ok (.aload_n 0, 1) := dk_42 (dk_at dksX1_carvesOne_4 0 rfl rfl)
theorem dX1_carvesOne_95 : decode cX1_carvesOne 95 = .ok (.getfield 99, 3) := dk_180 0 99 (dk_at dksX1_carvesOne_4 1 rfl rfl)
theorem dX1_carvesOne_98 : decode cX1_carvesOne 98 = .ok (.iload_n 2, 1) := dk_28 (dk_at dksX1_carvesOne_4 4 rfl rfl)
theorem dX1_carvesOne_99 : decode cX1_carvesOne 99 = .ok (.bipush 9, 2) := dk_16 9 (dk_at dksX1_carvesOne_4 5 rfl rfl)
theorem dX1_carvesOne_101 : decode cX1_carvesOne 101 = .ok (.iload 4, 2) := dk_21 4 (dk_at dksX1_carvesOne_4 7 rfl rfl)
theorem dX1_carvesOne_103 : decode cX1_carvesOne 103 = .ok (.invokestatic 128, 3) := dk_184 0 128 (dk_at dksX1_carvesOne_4 9 rfl rfl)
theorem dX1_carvesOne_106 : decode cX1_carvesOne 106 = .ok (.invokespecial 163, 3) := dk_183 0 163 (dk_at dksX1_carvesOne_4 12 rfl rfl)
theorem dX1_carvesOne_109 : decode cX1_carvesOne 109 = .ok (.invokevirtual 166, 3) := dk_182 0 166 (dk_at dksX1_carvesOne_4 15 rfl rfl)
theorem dX1_carvesOne_112 : decode cX1_carvesOne 112 = .ok (.aload_n 0, 1) := dk_42 (dk_at dksX1_carvesOne_4 18 rfl rfl)
theorem dX1_carvesOne_113 : decode cX1_carvesOne 113 = .ok (.dup, 1) := dk_89 (dk_at dksX1_carvesOne_4 19 rfl rfl)
theorem dX1_carvesOne_114 : decode cX1_carvesOne 114 = .ok (.getfield 99, 3) := dk_180 0 99 (dk_at dksX1_carvesOne_4 20 rfl rfl)
theorem dX1_carvesOne_117 : decode cX1_carvesOne 117 = .ok (.iconst 1, 1) := dk_4 (dk_at dksX1_carvesOne_4 23 rfl rfl)
theorem dX1_carvesOne_118 : decode cX1_carvesOne 118 = .ok (.iadd, 1) := dk_96 (dk_at dksX1_carvesOne_5 0 rfl rfl)
theorem dX1_carvesOne_119 : decode cX1_carvesOne 119 = .ok (.putfield 99, 3) := dk_181 0 99 (dk_at dksX1_carvesOne_5 1 rfl rfl)
theorem dX1_carvesOne_122 : decode cX1_carvesOne 122 = .ok (.aload_n 3, 1) := dk_45 (dk_at dksX1_carvesOne_5 4 rfl rfl)
theorem dX1_carvesOne_123 : decode cX1_carvesOne 123 = .ok (.dup, 1) := dk_89 (dk_at dksX1_carvesOne_5 5 rfl rfl)
theorem dX1_carvesOne_124 : decode cX1_carvesOne 124 = .ok (.getfield 170, 3) := dk_180 0 170 (dk_at dksX1_carvesOne_5 6 rfl rfl)
theorem dX1_carvesOne_127 : decode cX1_carvesOne 127 = .ok (.iconst 1, 1) := dk_4 (dk_at dksX1_carvesOne_5 9 rfl rfl)
theorem dX1_carvesOne_128 : decode cX1_carvesOne 128 = .ok (.iadd, 1) := dk_96 (dk_at dksX1_carvesOne_5 10 rfl rfl)
theorem dX1_carvesOne_129 : decode cX1_carvesOne 129 = .ok (.putfield 170, 3) := dk_181 0 170 (dk_at dksX1_carvesOne_5 11 rfl rfl)
theorem dX1_carvesOne_132 : decode cX1_carvesOne 132 = .ok (.goto 23, 3) := dk_167 0 23 (dk_at dksX1_carvesOne_5 14 rfl rfl)
theorem dX1_carvesOne_135 : decode cX1_carvesOne 135 = .ok (.aload_n 0, 1) := dk_42 (dk_at dksX1_carvesOne_5 17 rfl rfl)
theorem dX1_carvesOne_136 : decode cX1_carvesOne 136 = .ok (.dup, 1) := dk_89 (dk_at dksX1_carvesOne_5 18 rfl rfl)
theorem dX1_carvesOne_137 : decode cX1_carvesOne 137 = .ok (.getfield 102, 3) := dk_180 0 102 (dk_at dksX1_carvesOne_5 19 rfl rfl)
theorem dX1_carvesOne_140 : decode cX1_carvesOne 140 = .ok (.iconst 1, 1) := dk_4 (dk_at dksX1_carvesOne_5 22 rfl rfl)
theorem dX1_carvesOne_141 : decode cX1_carvesOne 141 = .ok (.iadd, 1) := dk_96 (dk_at dksX1_carvesOne_5 23 rfl rfl)
theorem dX1_carvesOne_142 : decode cX1_carvesOne 142 = .ok (.putfield 102, 3) := dk_181 0 102 (dk_at dksX1_carvesOne_6 0 rfl rfl)
theorem dX1_carvesOne_145 : decode cX1_carvesOne 145 = .ok (.aload_n 3, 1) := dk_45 (dk_at dksX1_carvesOne_6 3 rfl rfl)
theorem dX1_carvesOne_146 : decode cX1_carvesOne 146 = .ok (.dup, 1) := dk_89 (dk_at dksX1_carvesOne_6 4 rfl rfl)
theorem dX1_carvesOne_147 : decode cX1_carvesOne 147 = .ok (.getfield 171, 3) := dk_180 0 171 (dk_at dksX1_carvesOne_6 5 rfl rfl)
theorem dX1_carvesOne_150 : decode cX1_carvesOne 150 = .ok (.iconst 1, 1) := dk_4 (dk_at dksX1_carvesOne_6 8 rfl rfl)
theorem dX1_carvesOne_151 : decode cX1_carvesOne 151 = .ok (.iadd, 1) := dk_96 (dk_at dksX1_carvesOne_6 9 rfl rfl)
theorem dX1_carvesOne_152 : decode cX1_carvesOne 152 = .ok (.putfield 171, 3) := dk_181 0 171 (dk_at dksX1_carvesOne_6 10 rfl rfl)
theorem dX1_carvesOne_155 : decode cX1_carvesOne 155 = .ok (.iload 5, 2) := dk_21 5 (dk_at dksX1_carvesOne_6 13 rfl rfl)
theorem dX1_carvesOne_157 : decode cX1_carvesOne 157 = .ok (.ireturn, 1) := dk_172 (dk_at dksX1_carvesOne_6 15 rfl rfl)
abbrev cX1_sight : ByteArray := prog_30_method_11_code
def yX1_sight : MethodName := ⟨RX1, "sight", "(I)I"⟩
def dkwX1_sight_2 : List UInt8 := [44, 180, 0, 155, 16, 10, 108, 100, 172]
abbrev dktX1_sight_2 : List UInt8 := dkwX1_sight_2 ++ []
def dkwX1_sight_1 : List UInt8 := [16, 250, 160, 0, 7, 3, 167, 0, 17, 42, 180, 0, 18, 29, 182, 0, 138, 192, 0, 70, 180, 0, 152, 96]
abbrev dktX1_sight_1 : List UInt8 := dkwX1_sight_1 ++ dktX1_sight_2
def dkwX1_sight_0 : List UInt8 := [42, 180, 0, 12, 27, 182, 0, 138, 192, 0, 61, 77, 42, 27, 182, 0, 145, 62, 44, 180, 0, 149, 29]
abbrev dktX1_sight_0 : List UInt8 := dkwX1_sight_0 ++ dktX1_sight_1
theorem dksX1_sight_0 : cX1_sight.data.toList.drop 0 = dktX1_sight_0 := by decide +kernel
theorem dksX1_sight_1 : cX1_sight.data.toList.drop 23 = dktX1_sight_1 := dk_seg dksX1_sight_0 23 rfl rfl
theorem dksX1_sight_2 : cX1_sight.data.toList.drop 47 = dktX1_sight_2 := dk_seg dksX1_sight_1 24 rfl rfl
theorem dX1_sight_0 : decode cX1_sight 0 = .ok (.aload_n 0, 1) := dk_42 (dk_at dksX1_sight_0 0 rfl rfl)
theorem dX1_sight_1 : decode cX1_sight 1 = .ok (.getfield 12, 3) := dk_180 0 12 (dk_at dksX1_sight_0 1 rfl rfl)
theorem dX1_sight_4 : decode cX1_sight 4 = .ok (.iload_n 1, 1) := dk_27 (dk_at dksX1_sight_0 4 rfl rfl)
theorem dX1_sight_5 : decode cX1_sight 5 = .ok (.invokevirtual 138, 3) := dk_182 0 138 (dk_at dksX1_sight_0 5 rfl rfl)
theorem dX1_sight_8 : decode cX1_sight 8 = .ok (.checkcast 61, 3) := dk_192 0 61 (dk_at dksX1_sight_0 8 rfl rfl)
theorem dX1_sight_11 : decode cX1_sight 11 = .ok (.astore_n 2, 1) := dk_77 (dk_at dksX1_sight_0 11 rfl rfl)
theorem dX1_sight_12 : decode cX1_sight 12 = .ok (.aload_n 0, 1) := dk_42 (dk_at dksX1_sight_0 12 rfl rfl)
theorem dX1_sight_13 : decode cX1_sight 13 = .ok (.iload_n 1, 1) := dk_27 (dk_at dksX1_sight_0 13 rfl rfl)
theorem dX1_sight_14 : decode cX1_sight 14 = .ok (.invokevirtual 145, 3) := dk_182 0 145 (dk_at dksX1_sight_0 14 rfl rfl)
theorem dX1_sight_17 : decode cX1_sight 17 = .ok (.istore_n 3, 1) := dk_62 (dk_at dksX1_sight_0 17 rfl rfl)
theorem dX1_sight_18 : decode cX1_sight 18 = .ok (.aload_n 2, 1) := dk_44 (dk_at dksX1_sight_0 18 rfl rfl)
theorem dX1_sight_19 : decode cX1_sight 19 = .ok (.getfield 149, 3) := dk_180 0 149 (dk_at dksX1_sight_0 19 rfl rfl)
theorem dX1_sight_22 : decode cX1_sight 22 = .ok (.iload_n 3, 1) := dk_29 (dk_at dksX1_sight_0 22 rfl rfl)
theorem dX1_sight_23 : decode cX1_sight 23 = .ok (.bipush (-6), 2) := dk_16 250 (dk_at dksX1_sight_1 0 rfl rfl)
theorem dX1_sight_25 : decode cX1_sight 25 = .ok (.if_icmp .ne 7, 3) := dk_160 0 7 (dk_at dksX1_sight_1 2 rfl rfl)
theorem dX1_sight_28 : decode cX1_sight 28 = .ok (.iconst 0, 1) := dk_3 (dk_at dksX1_sight_1 5 rfl rfl)
theorem dX1_sight_29 : decode cX1_sight 29 = .ok (.goto 17, 3) := dk_167 0 17 (dk_at dksX1_sight_1 6 rfl rfl)
theorem dX1_sight_32 : decode cX1_sight 32 = .ok (.aload_n 0, 1) := dk_42 (dk_at dksX1_sight_1 9 rfl rfl)
theorem dX1_sight_33 : decode cX1_sight 33 = .ok (.getfield 18, 3) := dk_180 0 18 (dk_at dksX1_sight_1 10 rfl rfl)
theorem dX1_sight_36 : decode cX1_sight 36 = .ok (.iload_n 3, 1) := dk_29 (dk_at dksX1_sight_1 13 rfl rfl)
theorem dX1_sight_37 : decode cX1_sight 37 = .ok (.invokevirtual 138, 3) := dk_182 0 138 (dk_at dksX1_sight_1 14 rfl rfl)
theorem dX1_sight_40 : decode cX1_sight 40 = .ok (.checkcast 70, 3) := dk_192 0 70 (dk_at dksX1_sight_1 17 rfl rfl)
theorem dX1_sight_43 : decode cX1_sight 43 = .ok (.getfield 152, 3) := dk_180 0 152 (dk_at dksX1_sight_1 20 rfl rfl)
theorem dX1_sight_46 : decode cX1_sight 46 = .ok (.iadd, 1) := dk_96 (dk_at dksX1_sight_1 23 rfl rfl)
theorem dX1_sight_47 : decode cX1_sight 47 = .ok (.aload_n 2, 1) := dk_44 (dk_at dksX1_sight_2 0 rfl rfl)
theorem dX1_sight_48 : decode cX1_sight 48 = .ok (.getfield 155, 3) := dk_180 0 155 (dk_at dksX1_sight_2 1 rfl rfl)
theorem dX1_sight_51 : decode cX1_sight 51 = .ok (.bipush 10, 2) := dk_16 10 (dk_at dksX1_sight_2 4 rfl rfl)
theorem dX1_sight_53 : decode cX1_sight 53 = .ok (.idiv, 1) := dk_108 (dk_at dksX1_sight_2 6 rfl rfl)
theorem dX1_sight_54 : decode cX1_sight 54 = .ok (.isub, 1) := dk_100 (dk_at dksX1_sight_2 7 rfl rfl)
theorem dX1_sight_55 : decode cX1_sight 55 = .ok (.ireturn, 1) := dk_172 (dk_at dksX1_sight_2 8 rfl rfl)
abbrev cX1_lensOf : ByteArray := prog_30_method_9_code
def yX1_lensOf : MethodName := ⟨RX1, "lensOf", "(I)I"⟩
def dkwX1_lensOf_1 : List UInt8 := [180, 0, 142, 27, 160, 0, 5, 28, 172, 132, 2, 1, 167, 255, 222, 16, 250, 172]
abbrev dktX1_lensOf_1 : List UInt8 := dkwX1_lensOf_1 ++ []
def dkwX1_lensOf_0 : List UInt8 := [3, 61, 28, 42, 180, 0, 18, 182, 0, 120, 162, 0, 29, 42, 180, 0, 18, 28, 182, 0, 138, 192, 0, 70]
abbrev dktX1_lensOf_0 : List UInt8 := dkwX1_lensOf_0 ++ dktX1_lensOf_1
theorem dksX1_lensOf_0 : cX1_lensOf.data.toList.drop 0 = dktX1_lensOf_0 := by decide +kernel
theorem dksX1_lensOf_1 : cX1_lensOf.data.toList.drop 24 = dktX1_lensOf_1 := dk_seg dksX1_lensOf_0 24 rfl rfl
theorem dX1_lensOf_0 : decode cX1_lensOf 0 = .ok (.iconst 0, 1) := dk_3 (dk_at dksX1_lensOf_0 0 rfl rfl)
theorem dX1_lensOf_1 : decode cX1_lensOf 1 = .ok (.istore_n 2, 1) := dk_61 (dk_at dksX1_lensOf_0 1 rfl rfl)
theorem dX1_lensOf_2 : decode cX1_lensOf 2 = .ok (.iload_n 2, 1) := dk_28 (dk_at dksX1_lensOf_0 2 rfl rfl)
theorem dX1_lensOf_3 : decode cX1_lensOf 3 = .ok (.aload_n 0, 1) := dk_42 (dk_at dksX1_lensOf_0 3 rfl rfl)
theorem dX1_lensOf_4 : decode cX1_lensOf 4 = .ok (.getfield 18, 3) := dk_180 0 18 (dk_at dksX1_lensOf_0 4 rfl rfl)
theorem dX1_lensOf_7 : decode cX1_lensOf 7 = .ok (.invokevirtual 120, 3) := dk_182 0 120 (dk_at dksX1_lensOf_0 7 rfl rfl)
theorem dX1_lensOf_10 : decode cX1_lensOf 10 = .ok (.if_icmp .ge 29, 3) := dk_162 0 29 (dk_at dksX1_lensOf_0 10 rfl rfl)
theorem dX1_lensOf_13 : decode cX1_lensOf 13 = .ok (.aload_n 0, 1) := dk_42 (dk_at dksX1_lensOf_0 13 rfl rfl)
theorem dX1_lensOf_14 : decode cX1_lensOf 14 = .ok (.getfield 18, 3) := dk_180 0 18 (dk_at dksX1_lensOf_0 14 rfl rfl)
theorem dX1_lensOf_17 : decode cX1_lensOf 17 = .ok (.iload_n 2, 1) := dk_28 (dk_at dksX1_lensOf_0 17 rfl rfl)
theorem dX1_lensOf_18 : decode cX1_lensOf 18 = .ok (.invokevirtual 138, 3) := dk_182 0 138 (dk_at dksX1_lensOf_0 18 rfl rfl)
theorem dX1_lensOf_21 : decode cX1_lensOf 21 = .ok (.checkcast 70, 3) := dk_192 0 70 (dk_at dksX1_lensOf_0 21 rfl rfl)
theorem dX1_lensOf_24 : decode cX1_lensOf 24 = .ok (.getfield 142, 3) := dk_180 0 142 (dk_at dksX1_lensOf_1 0 rfl rfl)
theorem dX1_lensOf_27 : decode cX1_lensOf 27 = .ok (.iload_n 1, 1) := dk_27 (dk_at dksX1_lensOf_1 3 rfl rfl)
theorem dX1_lensOf_28 : decode cX1_lensOf 28 = .ok (.if_icmp .ne 5, 3) := dk_160 0 5 (dk_at dksX1_lensOf_1 4 rfl rfl)
theorem dX1_lensOf_31 : decode cX1_lensOf 31 = .ok (.iload_n 2, 1) := dk_28 (dk_at dksX1_lensOf_1 7 rfl rfl)
theorem dX1_lensOf_32 : decode cX1_lensOf 32 = .ok (.ireturn, 1) := dk_172 (dk_at dksX1_lensOf_1 8 rfl rfl)
theorem dX1_lensOf_33 : decode cX1_lensOf 33 = .ok (.iinc 2 1, 3) := dk_132 2 1 (dk_at dksX1_lensOf_1 9 rfl rfl)
theorem dX1_lensOf_36 : decode cX1_lensOf 36 = .ok (.goto (-34), 3) := dk_167 255 222 (dk_at dksX1_lensOf_1 12 rfl rfl)
theorem dX1_lensOf_39 : decode cX1_lensOf 39 = .ok (.bipush (-6), 2) := dk_16 250 (dk_at dksX1_lensOf_1 15 rfl rfl)
theorem dX1_lensOf_41 : decode cX1_lensOf 41 = .ok (.ireturn, 1) := dk_172 (dk_at dksX1_lensOf_1 17 rfl rfl)
abbrev cX1_begins : ByteArray := prog_30_method_14_code
def yX1_begins : MethodName := ⟨RX1, "begins", "(II)I"⟩
def dkwX1_begins_2 : List UInt8 := [100, 172]
abbrev dktX1_begins_2 : List UInt8 := dkwX1_begins_2 ++ []
def dkwX1_begins_1 : List UInt8 := [180, 0, 28, 187, 0, 79, 89, 27, 28, 183, 0, 181, 182, 0, 66, 87, 42, 180, 0, 28, 182, 0, 120, 4]
abbrev dktX1_begins_1 : List UInt8 := dkwX1_begins_1 ++ dktX1_begins_2
def dkwX1_begins_0 : List UInt8 := [42, 180, 0, 28, 182, 0, 120, 16, 6, 162, 0, 7, 4, 167, 0, 4, 3, 4, 16, 6, 184, 0, 134, 42]
abbrev dktX1_begins_0 : List UInt8 := dkwX1_begins_0 ++ dktX1_begins_1
theorem dksX1_begins_0 : cX1_begins.data.toList.drop 0 = dktX1_begins_0 := by decide +kernel
theorem dksX1_begins_1 : cX1_begins.data.toList.drop 24 = dktX1_begins_1 := dk_seg dksX1_begins_0 24 rfl rfl
theorem dksX1_begins_2 : cX1_begins.data.toList.drop 48 = dktX1_begins_2 := dk_seg dksX1_begins_1 24 rfl rfl
theorem dX1_begins_0 : decode cX1_begins 0 = .ok (.aload_n 0, 1) := dk_42 (dk_at dksX1_begins_0 0 rfl rfl)
theorem dX1_begins_1 : decode cX1_begins 1 = .ok (.getfield 28, 3) := dk_180 0 28 (dk_at dksX1_begins_0 1 rfl rfl)
theorem dX1_begins_4 : decode cX1_begins 4 = .ok (.invokevirtual 120, 3) := dk_182 0 120 (dk_at dksX1_begins_0 4 rfl rfl)
theorem dX1_begins_7 : decode cX1_begins 7 = .ok (.bipush 6, 2) := dk_16 6 (dk_at dksX1_begins_0 7 rfl rfl)
theorem dX1_begins_9 : decode cX1_begins 9 = .ok (.if_icmp .ge 7, 3) := dk_162 0 7 (dk_at dksX1_begins_0 9 rfl rfl)
theorem dX1_begins_12 : decode cX1_begins 12 = .ok (.iconst 1, 1) := dk_4 (dk_at dksX1_begins_0 12 rfl rfl)
theorem dX1_begins_13 : decode cX1_begins 13 = .ok (.goto 4, 3) := dk_167 0 4 (dk_at dksX1_begins_0 13 rfl rfl)
theorem dX1_begins_16 : decode cX1_begins 16 = .ok (.iconst 0, 1) := dk_3 (dk_at dksX1_begins_0 16 rfl rfl)
theorem dX1_begins_17 : decode cX1_begins 17 = .ok (.iconst 1, 1) := dk_4 (dk_at dksX1_begins_0 17 rfl rfl)
theorem dX1_begins_18 : decode cX1_begins 18 = .ok (.bipush 6, 2) := dk_16 6 (dk_at dksX1_begins_0 18 rfl rfl)
theorem dX1_begins_20 : decode cX1_begins 20 = .ok (.invokestatic 134, 3) := dk_184 0 134 (dk_at dksX1_begins_0 20 rfl rfl)
theorem dX1_begins_23 : decode cX1_begins 23 = .ok (.aload_n 0, 1) := dk_42 (dk_at dksX1_begins_0 23 rfl rfl)
theorem dX1_begins_24 : decode cX1_begins 24 = .ok (.getfield 28, 3) := dk_180 0 28 (dk_at dksX1_begins_1 0 rfl rfl)
theorem dX1_begins_27 : decode cX1_begins 27 = .ok (.new 79, 3) := dk_187 0 79 (dk_at dksX1_begins_1 3 rfl rfl)
theorem dX1_begins_30 : decode cX1_begins 30 = .ok (.dup, 1) := dk_89 (dk_at dksX1_begins_1 6 rfl rfl)
theorem dX1_begins_31 : decode cX1_begins 31 = .ok (.iload_n 1, 1) := dk_27 (dk_at dksX1_begins_1 7 rfl rfl)
theorem dX1_begins_32 : decode cX1_begins 32 = .ok (.iload_n 2, 1) := dk_28 (dk_at dksX1_begins_1 8 rfl rfl)
theorem dX1_begins_33 : decode cX1_begins 33 = .ok (.invokespecial 181, 3) := dk_183 0 181 (dk_at dksX1_begins_1 9 rfl rfl)
theorem dX1_begins_36 : decode cX1_begins 36 = .ok (.invokevirtual 66, 3) := dk_182 0 66 (dk_at dksX1_begins_1 12 rfl rfl)
theorem dX1_begins_39 : decode cX1_begins 39 = .ok (.pop, 1) := dk_87 (dk_at dksX1_begins_1 15 rfl rfl)
theorem dX1_begins_40 : decode cX1_begins 40 = .ok (.aload_n 0, 1) := dk_42 (dk_at dksX1_begins_1 16 rfl rfl)
theorem dX1_begins_41 : decode cX1_begins 41 = .ok (.getfield 28, 3) := dk_180 0 28 (dk_at dksX1_begins_1 17 rfl rfl)
theorem dX1_begins_44 : decode cX1_begins 44 = .ok (.invokevirtual 120, 3) := dk_182 0 120 (dk_at dksX1_begins_1 20 rfl rfl)
theorem dX1_begins_47 : decode cX1_begins 47 = .ok (.iconst 1, 1) := dk_4 (dk_at dksX1_begins_1 23 rfl rfl)
theorem dX1_begins_48 : decode cX1_begins 48 = .ok (.isub, 1) := dk_100 (dk_at dksX1_begins_2 0 rfl rfl)
theorem dX1_begins_49 : decode cX1_begins 49 = .ok (.ireturn, 1) := dk_172 (dk_at dksX1_begins_2 1 rfl rfl)
abbrev cX1_isString : ByteArray := prog_30_method_5_code
def yX1_isString : MethodName := ⟨RX1, "isString", "(I)Z"⟩
def dkwX1_isString_0 : List UInt8 := [27, 3, 42, 180, 0, 28, 182, 0, 120, 4, 100, 184, 0, 124, 172]
abbrev dktX1_isString_0 : List UInt8 := dkwX1_isString_0 ++ []
theorem dksX1_isString_0 : cX1_isString.data.toList.drop 0 = dktX1_isString_0 := by decide +kernel
theorem dX1_isString_0 : decode cX1_isString 0 = .ok (.iload_n 1, 1) := dk_27 (dk_at dksX1_isString_0 0 rfl rfl)
theorem dX1_isString_1 : decode cX1_isString 1 = .ok (.iconst 0, 1) := dk_3 (dk_at dksX1_isString_0 1 rfl rfl)
theorem dX1_isString_2 : decode cX1_isString 2 = .ok (.aload_n 0, 1) := dk_42 (dk_at dksX1_isString_0 2 rfl rfl)
theorem dX1_isString_3 : decode cX1_isString 3 = .ok (.getfield 28, 3) := dk_180 0 28 (dk_at dksX1_isString_0 3 rfl rfl)
theorem dX1_isString_6 : decode cX1_isString 6 = .ok (.invokevirtual 120, 3) := dk_182 0 120 (dk_at dksX1_isString_0 6 rfl rfl)
theorem dX1_isString_9 : decode cX1_isString 9 = .ok (.iconst 1, 1) := dk_4 (dk_at dksX1_isString_0 9 rfl rfl)
theorem dX1_isString_10 : decode cX1_isString 10 = .ok (.isub, 1) := dk_100 (dk_at dksX1_isString_0 10 rfl rfl)
theorem dX1_isString_11 : decode cX1_isString 11 = .ok (.invokestatic 124, 3) := dk_184 0 124 (dk_at dksX1_isString_0 11 rfl rfl)
theorem dX1_isString_14 : decode cX1_isString 14 = .ok (.ireturn, 1) := dk_172 (dk_at dksX1_isString_0 14 rfl rfl)
abbrev cX1_threads : ByteArray := prog_30_method_18_code
def yX1_threads : MethodName := ⟨RX1, "threads", "(II)I"⟩
def dkwX1_threads_1 : List UInt8 := [172]
abbrev dktX1_threads_1 : List UInt8 := dkwX1_threads_1 ++ []
def dkwX1_threads_0 : List UInt8 := [3, 62, 3, 54, 4, 21, 4, 28, 162, 0, 15, 42, 27, 182, 0, 222, 62, 132, 4, 1, 167, 255, 241, 29]
abbrev dktX1_threads_0 : List UInt8 := dkwX1_threads_0 ++ dktX1_threads_1
theorem dksX1_threads_0 : cX1_threads.data.toList.drop 0 = dktX1_threads_0 := by decide +kernel
theorem dksX1_threads_1 : cX1_threads.data.toList.drop 24 = dktX1_threads_1 := dk_seg dksX1_threads_0 24 rfl rfl
theorem dX1_threads_0 : decode cX1_threads 0 = .ok (.iconst 0, 1) := dk_3 (dk_at dksX1_threads_0 0 rfl rfl)
theorem dX1_threads_1 : decode cX1_threads 1 = .ok (.istore_n 3, 1) := dk_62 (dk_at dksX1_threads_0 1 rfl rfl)
theorem dX1_threads_2 : decode cX1_threads 2 = .ok (.iconst 0, 1) := dk_3 (dk_at dksX1_threads_0 2 rfl rfl)
theorem dX1_threads_3 : decode cX1_threads 3 = .ok (.istore 4, 2) := dk_54 4 (dk_at dksX1_threads_0 3 rfl rfl)
theorem dX1_threads_5 : decode cX1_threads 5 = .ok (.iload 4, 2) := dk_21 4 (dk_at dksX1_threads_0 5 rfl rfl)
theorem dX1_threads_7 : decode cX1_threads 7 = .ok (.iload_n 2, 1) := dk_28 (dk_at dksX1_threads_0 7 rfl rfl)
theorem dX1_threads_8 : decode cX1_threads 8 = .ok (.if_icmp .ge 15, 3) := dk_162 0 15 (dk_at dksX1_threads_0 8 rfl rfl)
theorem dX1_threads_11 : decode cX1_threads 11 = .ok (.aload_n 0, 1) := dk_42 (dk_at dksX1_threads_0 11 rfl rfl)
theorem dX1_threads_12 : decode cX1_threads 12 = .ok (.iload_n 1, 1) := dk_27 (dk_at dksX1_threads_0 12 rfl rfl)
theorem dX1_threads_13 : decode cX1_threads 13 = .ok (.invokevirtual 222, 3) := dk_182 0 222 (dk_at dksX1_threads_0 13 rfl rfl)
theorem dX1_threads_16 : decode cX1_threads 16 = .ok (.istore_n 3, 1) := dk_62 (dk_at dksX1_threads_0 16 rfl rfl)
theorem dX1_threads_17 : decode cX1_threads 17 = .ok (.iinc 4 1, 3) := dk_132 4 1 (dk_at dksX1_threads_0 17 rfl rfl)
theorem dX1_threads_20 : decode cX1_threads 20 = .ok (.goto (-15), 3) := dk_167 255 241 (dk_at dksX1_threads_0 20 rfl rfl)
theorem dX1_threads_23 : decode cX1_threads 23 = .ok (.iload_n 3, 1) := dk_29 (dk_at dksX1_threads_0 23 rfl rfl)
theorem dX1_threads_24 : decode cX1_threads 24 = .ok (.ireturn, 1) := dk_172 (dk_at dksX1_threads_1 0 rfl rfl)
abbrev cX1_threads_2 : ByteArray := prog_30_method_17_code
def yX1_threads_2 : MethodName := ⟨RX1, "threads", "(I)I"⟩
def dkwX1_threads_2_2 : List UInt8 := [184, 0, 134, 42, 44, 182, 0, 212, 182, 0, 215, 78, 44, 45, 182, 0, 218, 45, 180, 0, 219, 172]
abbrev dktX1_threads_2_2 : List UInt8 := dkwX1_threads_2_2 ++ []
def dkwX1_threads_2_1 : List UInt8 := [7, 27, 184, 0, 134, 44, 182, 0, 206, 154, 0, 7, 4, 167, 0, 4, 3, 8, 44, 180, 0, 209]
abbrev dktX1_threads_2_1 : List UInt8 := dkwX1_threads_2_1 ++ dktX1_threads_2_2
def dkwX1_threads_2_0 : List UInt8 := [42, 180, 0, 28, 27, 182, 0, 138, 192, 0, 79, 77, 44, 182, 0, 184, 154, 0, 7, 4, 167, 0, 4, 3]
abbrev dktX1_threads_2_0 : List UInt8 := dkwX1_threads_2_0 ++ dktX1_threads_2_1
theorem dksX1_threads_2_0 : cX1_threads_2.data.toList.drop 0 = dktX1_threads_2_0 := by decide +kernel
theorem dksX1_threads_2_1 : cX1_threads_2.data.toList.drop 24 = dktX1_threads_2_1 := dk_seg dksX1_threads_2_0 24 rfl rfl
theorem dksX1_threads_2_2 : cX1_threads_2.data.toList.drop 46 = dktX1_threads_2_2 := dk_seg dksX1_threads_2_1 22 rfl rfl
theorem dX1_threads_2_0 : decode cX1_threads_2 0 = .ok (.aload_n 0, 1) := dk_42 (dk_at dksX1_threads_2_0 0 rfl rfl)
theorem dX1_threads_2_1 : decode cX1_threads_2 1 = .ok (.getfield 28, 3) := dk_180 0 28 (dk_at dksX1_threads_2_0 1 rfl rfl)
theorem dX1_threads_2_4 : decode cX1_threads_2 4 = .ok (.iload_n 1, 1) := dk_27 (dk_at dksX1_threads_2_0 4 rfl rfl)
theorem dX1_threads_2_5 : decode cX1_threads_2 5 = .ok (.invokevirtual 138, 3) := dk_182 0 138 (dk_at dksX1_threads_2_0 5 rfl rfl)
theorem dX1_threads_2_8 : decode cX1_threads_2 8 = .ok (.checkcast 79, 3) := dk_192 0 79 (dk_at dksX1_threads_2_0 8 rfl rfl)
theorem dX1_threads_2_11 : decode cX1_threads_2 11 = .ok (.astore_n 2, 1) := dk_77 (dk_at dksX1_threads_2_0 11 rfl rfl)
theorem dX1_threads_2_12 : decode cX1_threads_2 12 = .ok (.aload_n 2, 1) := dk_44 (dk_at dksX1_threads_2_0 12 rfl rfl)
theorem dX1_threads_2_13 : decode cX1_threads_2 13 = .ok (.invokevirtual 184, 3) := dk_182 0 184 (dk_at dksX1_threads_2_0 13 rfl rfl)
theorem dX1_threads_2_16 : decode cX1_threads_2 16 = .ok (.ifCond .ne 7, 3) := dk_154 0 7 (dk_at dksX1_threads_2_0 16 rfl rfl)
theorem dX1_threads_2_19 : decode cX1_threads_2 19 = .ok (.iconst 1, 1) := dk_4 (dk_at dksX1_threads_2_0 19 rfl rfl)
theorem dX1_threads_2_20 : decode cX1_threads_2 20 = .ok (.goto 4, 3) := dk_167 0 4 (dk_at dksX1_threads_2_0 20 rfl rfl)
theorem dX1_threads_2_23 : decode cX1_threads_2 23 = .ok (.iconst 0, 1) := dk_3 (dk_at dksX1_threads_2_0 23 rfl rfl)
theorem dX1_threads_2_24 : decode cX1_threads_2 24 = .ok (.iconst 4, 1) := dk_7 (dk_at dksX1_threads_2_1 0 rfl rfl)
theorem dX1_threads_2_25 : decode cX1_threads_2 25 = .ok (.iload_n 1, 1) := dk_27 (dk_at dksX1_threads_2_1 1 rfl rfl)
theorem dX1_threads_2_26 : decode cX1_threads_2 26 = .ok (.invokestatic 134, 3) := dk_184 0 134 (dk_at dksX1_threads_2_1 2 rfl rfl)
theorem dX1_threads_2_29 : decode cX1_threads_2 29 = .ok (.aload_n 2, 1) := dk_44 (dk_at dksX1_threads_2_1 5 rfl rfl)
theorem dX1_threads_2_30 : decode cX1_threads_2 30 = .ok (.invokevirtual 206, 3) := dk_182 0 206 (dk_at dksX1_threads_2_1 6 rfl rfl)
theorem dX1_threads_2_33 : decode cX1_threads_2 33 = .ok (.ifCond .ne 7, 3) := dk_154 0 7 (dk_at dksX1_threads_2_1 9 rfl rfl)
theorem dX1_threads_2_36 : decode cX1_threads_2 36 = .ok (.iconst 1, 1) := dk_4 (dk_at dksX1_threads_2_1 12 rfl rfl)
theorem dX1_threads_2_37 : decode cX1_threads_2 37 = .ok (.goto 4, 3) := dk_167 0 4 (dk_at dksX1_threads_2_1 13 rfl rfl)
theorem dX1_threads_2_40 : decode cX1_threads_2 40 = .ok (.iconst 0, 1) := dk_3 (dk_at dksX1_threads_2_1 16 rfl rfl)
theorem dX1_threads_2_41 : decode cX1_threads_2 41 = .ok (.iconst 5, 1) := dk_8 (dk_at dksX1_threads_2_1 17 rfl rfl)
theorem dX1_threads_2_42 : decode cX1_threads_2 42 = .ok (.aload_n 2, 1) := dk_44 (dk_at dksX1_threads_2_1 18 rfl rfl)
theorem dX1_threads_2_43 : decode cX1_threads_2 43 = .ok (.getfield 209, 3) := dk_180 0 209 (dk_at dksX1_threads_2_1 19 rfl rfl)
theorem dX1_threads_2_46 : decode cX1_threads_2 46 = .ok (.invokestatic 134, 3) := dk_184 0 134 (dk_at dksX1_threads_2_2 0 rfl rfl)
theorem dX1_threads_2_49 : decode cX1_threads_2 49 = .ok (.aload_n 0, 1) := dk_42 (dk_at dksX1_threads_2_2 3 rfl rfl)
theorem dX1_threads_2_50 : decode cX1_threads_2 50 = .ok (.aload_n 2, 1) := dk_44 (dk_at dksX1_threads_2_2 4 rfl rfl)
theorem dX1_threads_2_51 : decode cX1_threads_2 51 = .ok (.invokevirtual 212, 3) := dk_182 0 212 (dk_at dksX1_threads_2_2 5 rfl rfl)
theorem dX1_threads_2_54 : decode cX1_threads_2 54 = .ok (.invokevirtual 215, 3) := dk_182 0 215 (dk_at dksX1_threads_2_2 8 rfl rfl)
theorem dX1_threads_2_57 : decode cX1_threads_2 57 = .ok (.astore_n 3, 1) := dk_78 (dk_at dksX1_threads_2_2 11 rfl rfl)
theorem dX1_threads_2_58 : decode cX1_threads_2 58 = .ok (.aload_n 2, 1) := dk_44 (dk_at dksX1_threads_2_2 12 rfl rfl)
theorem dX1_threads_2_59 : decode cX1_threads_2 59 = .ok (.aload_n 3, 1) := dk_45 (dk_at dksX1_threads_2_2 13 rfl rfl)
theorem dX1_threads_2_60 : decode cX1_threads_2 60 = .ok (.invokevirtual 218, 3) := dk_182 0 218 (dk_at dksX1_threads_2_2 14 rfl rfl)
theorem dX1_threads_2_63 : decode cX1_threads_2 63 = .ok (.aload_n 3, 1) := dk_45 (dk_at dksX1_threads_2_2 17 rfl rfl)
theorem dX1_threads_2_64 : decode cX1_threads_2 64 = .ok (.getfield 219, 3) := dk_180 0 219 (dk_at dksX1_threads_2_2 18 rfl rfl)
theorem dX1_threads_2_67 : decode cX1_threads_2 67 = .ok (.ireturn, 1) := dk_172 (dk_at dksX1_threads_2_2 21 rfl rfl)
abbrev cX1_ties : ByteArray := prog_30_method_19_code
def yX1_ties : MethodName := ⟨RX1, "ties", "(I)I"⟩
def dkwX1_ties_2 : List UInt8 := [184, 0, 134, 44, 89, 180, 0, 209, 4, 96, 181, 0, 209, 44, 180, 0, 209, 172]
abbrev dktX1_ties_2 : List UInt8 := dkwX1_ties_2 ++ []
def dkwX1_ties_1 : List UInt8 := [7, 27, 184, 0, 134, 44, 182, 0, 206, 16, 7, 44, 180, 0, 225, 4, 96, 44, 182, 0, 228, 100]
abbrev dktX1_ties_1 : List UInt8 := dkwX1_ties_1 ++ dktX1_ties_2
def dkwX1_ties_0 : List UInt8 := [42, 180, 0, 28, 27, 182, 0, 138, 192, 0, 79, 77, 44, 182, 0, 184, 154, 0, 7, 4, 167, 0, 4, 3]
abbrev dktX1_ties_0 : List UInt8 := dkwX1_ties_0 ++ dktX1_ties_1
theorem dksX1_ties_0 : cX1_ties.data.toList.drop 0 = dktX1_ties_0 := by decide +kernel
theorem dksX1_ties_1 : cX1_ties.data.toList.drop 24 = dktX1_ties_1 := dk_seg dksX1_ties_0 24 rfl rfl
theorem dksX1_ties_2 : cX1_ties.data.toList.drop 46 = dktX1_ties_2 := dk_seg dksX1_ties_1 22 rfl rfl
theorem dX1_ties_0 : decode cX1_ties 0 = .ok (.aload_n 0, 1) := dk_42 (dk_at dksX1_ties_0 0 rfl rfl)
theorem dX1_ties_1 : decode cX1_ties 1 = .ok (.getfield 28, 3) := dk_180 0 28 (dk_at dksX1_ties_0 1 rfl rfl)
theorem dX1_ties_4 : decode cX1_ties 4 = .ok (.iload_n 1, 1) := dk_27 (dk_at dksX1_ties_0 4 rfl rfl)
theorem dX1_ties_5 : decode cX1_ties 5 = .ok (.invokevirtual 138, 3) := dk_182 0 138 (dk_at dksX1_ties_0 5 rfl rfl)
theorem dX1_ties_8 : decode cX1_ties 8 = .ok (.checkcast 79, 3) := dk_192 0 79 (dk_at dksX1_ties_0 8 rfl rfl)
theorem dX1_ties_11 : decode cX1_ties 11 = .ok (.astore_n 2, 1) := dk_77 (dk_at dksX1_ties_0 11 rfl rfl)
theorem dX1_ties_12 : decode cX1_ties 12 = .ok (.aload_n 2, 1) := dk_44 (dk_at dksX1_ties_0 12 rfl rfl)
theorem dX1_ties_13 : decode cX1_ties 13 = .ok (.invokevirtual 184, 3) := dk_182 0 184 (dk_at dksX1_ties_0 13 rfl rfl)
theorem dX1_ties_16 : decode cX1_ties 16 = .ok (.ifCond .ne 7, 3) := dk_154 0 7 (dk_at dksX1_ties_0 16 rfl rfl)
theorem dX1_ties_19 : decode cX1_ties 19 = .ok (.iconst 1, 1) := dk_4 (dk_at dksX1_ties_0 19 rfl rfl)
theorem dX1_ties_20 : decode cX1_ties 20 = .ok (.goto 4, 3) := dk_167 0 4 (dk_at dksX1_ties_0 20 rfl rfl)
theorem dX1_ties_23 : decode cX1_ties 23 = .ok (.iconst 0, 1) := dk_3 (dk_at dksX1_ties_0 23 rfl rfl)
theorem dX1_ties_24 : decode cX1_ties 24 = .ok (.iconst 4, 1) := dk_7 (dk_at dksX1_ties_1 0 rfl rfl)
theorem dX1_ties_25 : decode cX1_ties 25 = .ok (.iload_n 1, 1) := dk_27 (dk_at dksX1_ties_1 1 rfl rfl)
theorem dX1_ties_26 : decode cX1_ties 26 = .ok (.invokestatic 134, 3) := dk_184 0 134 (dk_at dksX1_ties_1 2 rfl rfl)
theorem dX1_ties_29 : decode cX1_ties 29 = .ok (.aload_n 2, 1) := dk_44 (dk_at dksX1_ties_1 5 rfl rfl)
theorem dX1_ties_30 : decode cX1_ties 30 = .ok (.invokevirtual 206, 3) := dk_182 0 206 (dk_at dksX1_ties_1 6 rfl rfl)
theorem dX1_ties_33 : decode cX1_ties 33 = .ok (.bipush 7, 2) := dk_16 7 (dk_at dksX1_ties_1 9 rfl rfl)
theorem dX1_ties_35 : decode cX1_ties 35 = .ok (.aload_n 2, 1) := dk_44 (dk_at dksX1_ties_1 11 rfl rfl)
theorem dX1_ties_36 : decode cX1_ties 36 = .ok (.getfield 225, 3) := dk_180 0 225 (dk_at dksX1_ties_1 12 rfl rfl)
theorem dX1_ties_39 : decode cX1_ties 39 = .ok (.iconst 1, 1) := dk_4 (dk_at dksX1_ties_1 15 rfl rfl)
theorem dX1_ties_40 : decode cX1_ties 40 = .ok (.iadd, 1) := dk_96 (dk_at dksX1_ties_1 16 rfl rfl)
theorem dX1_ties_41 : decode cX1_ties 41 = .ok (.aload_n 2, 1) := dk_44 (dk_at dksX1_ties_1 17 rfl rfl)
theorem dX1_ties_42 : decode cX1_ties 42 = .ok (.invokevirtual 228, 3) := dk_182 0 228 (dk_at dksX1_ties_1 18 rfl rfl)
theorem dX1_ties_45 : decode cX1_ties 45 = .ok (.isub, 1) := dk_100 (dk_at dksX1_ties_1 21 rfl rfl)
theorem dX1_ties_46 : decode cX1_ties 46 = .ok (.invokestatic 134, 3) := dk_184 0 134 (dk_at dksX1_ties_2 0 rfl rfl)
theorem dX1_ties_49 : decode cX1_ties 49 = .ok (.aload_n 2, 1) := dk_44 (dk_at dksX1_ties_2 3 rfl rfl)
theorem dX1_ties_50 : decode cX1_ties 50 = .ok (.dup, 1) := dk_89 (dk_at dksX1_ties_2 4 rfl rfl)
theorem dX1_ties_51 : decode cX1_ties 51 = .ok (.getfield 209, 3) := dk_180 0 209 (dk_at dksX1_ties_2 5 rfl rfl)
theorem dX1_ties_54 : decode cX1_ties 54 = .ok (.iconst 1, 1) := dk_4 (dk_at dksX1_ties_2 8 rfl rfl)
theorem dX1_ties_55 : decode cX1_ties 55 = .ok (.iadd, 1) := dk_96 (dk_at dksX1_ties_2 9 rfl rfl)
theorem dX1_ties_56 : decode cX1_ties 56 = .ok (.putfield 209, 3) := dk_181 0 209 (dk_at dksX1_ties_2 10 rfl rfl)
theorem dX1_ties_59 : decode cX1_ties 59 = .ok (.aload_n 2, 1) := dk_44 (dk_at dksX1_ties_2 13 rfl rfl)
theorem dX1_ties_60 : decode cX1_ties 60 = .ok (.getfield 209, 3) := dk_180 0 209 (dk_at dksX1_ties_2 14 rfl rfl)
theorem dX1_ties_63 : decode cX1_ties 63 = .ok (.ireturn, 1) := dk_172 (dk_at dksX1_ties_2 17 rfl rfl)
abbrev cX1_drops : ByteArray := prog_30_method_20_code
def yX1_drops : MethodName := ⟨RX1, "drops", "(I)I"⟩
def dkwX1_drops_1 : List UInt8 := [162, 0, 20, 42, 180, 0, 24, 44, 182, 0, 231, 182, 0, 166, 132, 4, 1, 167, 255, 236, 29, 172]
abbrev dktX1_drops_1 : List UInt8 := dkwX1_drops_1 ++ []
def dkwX1_drops_0 : List UInt8 := [42, 180, 0, 28, 27, 182, 0, 138, 192, 0, 79, 77, 44, 182, 0, 228, 62, 3, 54, 4, 21, 4, 29]
abbrev dktX1_drops_0 : List UInt8 := dkwX1_drops_0 ++ dktX1_drops_1
theorem dksX1_drops_0 : cX1_drops.data.toList.drop 0 = dktX1_drops_0 := by decide +kernel
theorem dksX1_drops_1 : cX1_drops.data.toList.drop 23 = dktX1_drops_1 := dk_seg dksX1_drops_0 23 rfl rfl
theorem dX1_drops_0 : decode cX1_drops 0 = .ok (.aload_n 0, 1) := dk_42 (dk_at dksX1_drops_0 0 rfl rfl)
theorem dX1_drops_1 : decode cX1_drops 1 = .ok (.getfield 28, 3) := dk_180 0 28 (dk_at dksX1_drops_0 1 rfl rfl)
theorem dX1_drops_4 : decode cX1_drops 4 = .ok (.iload_n 1, 1) := dk_27 (dk_at dksX1_drops_0 4 rfl rfl)
theorem dX1_drops_5 : decode cX1_drops 5 = .ok (.invokevirtual 138, 3) := dk_182 0 138 (dk_at dksX1_drops_0 5 rfl rfl)
theorem dX1_drops_8 : decode cX1_drops 8 = .ok (.checkcast 79, 3) := dk_192 0 79 (dk_at dksX1_drops_0 8 rfl rfl)
theorem dX1_drops_11 : decode cX1_drops 11 = .ok (.astore_n 2, 1) := dk_77 (dk_at dksX1_drops_0 11 rfl rfl)
theorem dX1_drops_12 : decode cX1_drops 12 = .ok (.aload_n 2, 1) := dk_44 (dk_at dksX1_drops_0 12 rfl rfl)
theorem dX1_drops_13 : decode cX1_drops 13 = .ok (.invokevirtual 228, 3) := dk_182 0 228 (dk_at dksX1_drops_0 13 rfl rfl)
theorem dX1_drops_16 : decode cX1_drops 16 = .ok (.istore_n 3, 1) := dk_62 (dk_at dksX1_drops_0 16 rfl rfl)
theorem dX1_drops_17 : decode cX1_drops 17 = .ok (.iconst 0, 1) := dk_3 (dk_at dksX1_drops_0 17 rfl rfl)
theorem dX1_drops_18 : decode cX1_drops 18 = .ok (.istore 4, 2) := dk_54 4 (dk_at dksX1_drops_0 18 rfl rfl)
theorem dX1_drops_20 : decode cX1_drops 20 = .ok (.iload 4, 2) := dk_21 4 (dk_at dksX1_drops_0 20 rfl rfl)
theorem dX1_drops_22 : decode cX1_drops 22 = .ok (.iload_n 3, 1) := dk_29 (dk_at dksX1_drops_0 22 rfl rfl)
theorem dX1_drops_23 : decode cX1_drops 23 = .ok (.if_icmp .ge 20, 3) := dk_162 0 20 (dk_at dksX1_drops_1 0 rfl rfl)
theorem dX1_drops_26 : decode cX1_drops 26 = .ok (.aload_n 0, 1) := dk_42 (dk_at dksX1_drops_1 3 rfl rfl)
theorem dX1_drops_27 : decode cX1_drops 27 = .ok (.getfield 24, 3) := dk_180 0 24 (dk_at dksX1_drops_1 4 rfl rfl)
theorem dX1_drops_30 : decode cX1_drops 30 = .ok (.aload_n 2, 1) := dk_44 (dk_at dksX1_drops_1 7 rfl rfl)
theorem dX1_drops_31 : decode cX1_drops 31 = .ok (.invokevirtual 231, 3) := dk_182 0 231 (dk_at dksX1_drops_1 8 rfl rfl)
theorem dX1_drops_34 : decode cX1_drops 34 = .ok (.invokevirtual 166, 3) := dk_182 0 166 (dk_at dksX1_drops_1 11 rfl rfl)
theorem dX1_drops_37 : decode cX1_drops 37 = .ok (.iinc 4 1, 3) := dk_132 4 1 (dk_at dksX1_drops_1 14 rfl rfl)
theorem dX1_drops_40 : decode cX1_drops 40 = .ok (.goto (-20), 3) := dk_167 255 236 (dk_at dksX1_drops_1 17 rfl rfl)
theorem dX1_drops_43 : decode cX1_drops 43 = .ok (.iload_n 3, 1) := dk_29 (dk_at dksX1_drops_1 20 rfl rfl)
theorem dX1_drops_44 : decode cX1_drops 44 = .ok (.ireturn, 1) := dk_172 (dk_at dksX1_drops_1 21 rfl rfl)
abbrev cX1_adds : ByteArray := prog_30_method_7_code
def yX1_adds : MethodName := ⟨RX1, "adds", "(LRosaryCarvers$Carver;)I"⟩
def dkwX1_adds_1 : List UInt8 := [180, 0, 12, 43, 182, 0, 66, 87, 42, 180, 0, 12, 182, 0, 120, 4, 100, 172]
abbrev dktX1_adds_1 : List UInt8 := dkwX1_adds_1 ++ []
def dkwX1_adds_0 : List UInt8 := [42, 180, 0, 12, 182, 0, 120, 7, 162, 0, 7, 4, 167, 0, 4, 3, 4, 7, 184, 0, 134, 42]
abbrev dktX1_adds_0 : List UInt8 := dkwX1_adds_0 ++ dktX1_adds_1
theorem dksX1_adds_0 : cX1_adds.data.toList.drop 0 = dktX1_adds_0 := by decide +kernel
theorem dksX1_adds_1 : cX1_adds.data.toList.drop 22 = dktX1_adds_1 := dk_seg dksX1_adds_0 22 rfl rfl
theorem dX1_adds_0 : decode cX1_adds 0 = .ok (.aload_n 0, 1) := dk_42 (dk_at dksX1_adds_0 0 rfl rfl)
theorem dX1_adds_1 : decode cX1_adds 1 = .ok (.getfield 12, 3) := dk_180 0 12 (dk_at dksX1_adds_0 1 rfl rfl)
theorem dX1_adds_4 : decode cX1_adds 4 = .ok (.invokevirtual 120, 3) := dk_182 0 120 (dk_at dksX1_adds_0 4 rfl rfl)
theorem dX1_adds_7 : decode cX1_adds 7 = .ok (.iconst 4, 1) := dk_7 (dk_at dksX1_adds_0 7 rfl rfl)
theorem dX1_adds_8 : decode cX1_adds 8 = .ok (.if_icmp .ge 7, 3) := dk_162 0 7 (dk_at dksX1_adds_0 8 rfl rfl)
theorem dX1_adds_11 : decode cX1_adds 11 = .ok (.iconst 1, 1) := dk_4 (dk_at dksX1_adds_0 11 rfl rfl)
theorem dX1_adds_12 : decode cX1_adds 12 = .ok (.goto 4, 3) := dk_167 0 4 (dk_at dksX1_adds_0 12 rfl rfl)
theorem dX1_adds_15 : decode cX1_adds 15 = .ok (.iconst 0, 1) := dk_3 (dk_at dksX1_adds_0 15 rfl rfl)
theorem dX1_adds_16 : decode cX1_adds 16 = .ok (.iconst 1, 1) := dk_4 (dk_at dksX1_adds_0 16 rfl rfl)
theorem dX1_adds_17 : decode cX1_adds 17 = .ok (.iconst 4, 1) := dk_7 (dk_at dksX1_adds_0 17 rfl rfl)
theorem dX1_adds_18 : decode cX1_adds 18 = .ok (.invokestatic 134, 3) := dk_184 0 134 (dk_at dksX1_adds_0 18 rfl rfl)
theorem dX1_adds_21 : decode cX1_adds 21 = .ok (.aload_n 0, 1) := dk_42 (dk_at dksX1_adds_0 21 rfl rfl)
theorem dX1_adds_22 : decode cX1_adds 22 = .ok (.getfield 12, 3) := dk_180 0 12 (dk_at dksX1_adds_1 0 rfl rfl)
theorem dX1_adds_25 : decode cX1_adds 25 = .ok (.aload_n 1, 1) := dk_43 (dk_at dksX1_adds_1 3 rfl rfl)
theorem dX1_adds_26 : decode cX1_adds 26 = .ok (.invokevirtual 66, 3) := dk_182 0 66 (dk_at dksX1_adds_1 4 rfl rfl)
theorem dX1_adds_29 : decode cX1_adds 29 = .ok (.pop, 1) := dk_87 (dk_at dksX1_adds_1 7 rfl rfl)
theorem dX1_adds_30 : decode cX1_adds 30 = .ok (.aload_n 0, 1) := dk_42 (dk_at dksX1_adds_1 8 rfl rfl)
theorem dX1_adds_31 : decode cX1_adds 31 = .ok (.getfield 12, 3) := dk_180 0 12 (dk_at dksX1_adds_1 9 rfl rfl)
theorem dX1_adds_34 : decode cX1_adds 34 = .ok (.invokevirtual 120, 3) := dk_182 0 120 (dk_at dksX1_adds_1 12 rfl rfl)
theorem dX1_adds_37 : decode cX1_adds 37 = .ok (.iconst 1, 1) := dk_4 (dk_at dksX1_adds_1 15 rfl rfl)
theorem dX1_adds_38 : decode cX1_adds 38 = .ok (.isub, 1) := dk_100 (dk_at dksX1_adds_1 16 rfl rfl)
theorem dX1_adds_39 : decode cX1_adds 39 = .ok (.ireturn, 1) := dk_172 (dk_at dksX1_adds_1 17 rfl rfl)
abbrev cX1_adds_2 : ByteArray := prog_30_method_8_code
def yX1_adds_2 : MethodName := ⟨RX1, "adds", "(LRosaryCarvers$Lens;)I"⟩
def dkwX1_adds_2_1 : List UInt8 := [180, 0, 18, 43, 182, 0, 66, 87, 42, 180, 0, 18, 182, 0, 120, 4, 100, 172]
abbrev dktX1_adds_2_1 : List UInt8 := dkwX1_adds_2_1 ++ []
def dkwX1_adds_2_0 : List UInt8 := [42, 180, 0, 18, 182, 0, 120, 7, 162, 0, 7, 4, 167, 0, 4, 3, 4, 7, 184, 0, 134, 42]
abbrev dktX1_adds_2_0 : List UInt8 := dkwX1_adds_2_0 ++ dktX1_adds_2_1
theorem dksX1_adds_2_0 : cX1_adds_2.data.toList.drop 0 = dktX1_adds_2_0 := by decide +kernel
theorem dksX1_adds_2_1 : cX1_adds_2.data.toList.drop 22 = dktX1_adds_2_1 := dk_seg dksX1_adds_2_0 22 rfl rfl
theorem dX1_adds_2_0 : decode cX1_adds_2 0 = .ok (.aload_n 0, 1) := dk_42 (dk_at dksX1_adds_2_0 0 rfl rfl)
theorem dX1_adds_2_1 : decode cX1_adds_2 1 = .ok (.getfield 18, 3) := dk_180 0 18 (dk_at dksX1_adds_2_0 1 rfl rfl)
theorem dX1_adds_2_4 : decode cX1_adds_2 4 = .ok (.invokevirtual 120, 3) := dk_182 0 120 (dk_at dksX1_adds_2_0 4 rfl rfl)
theorem dX1_adds_2_7 : decode cX1_adds_2 7 = .ok (.iconst 4, 1) := dk_7 (dk_at dksX1_adds_2_0 7 rfl rfl)
theorem dX1_adds_2_8 : decode cX1_adds_2 8 = .ok (.if_icmp .ge 7, 3) := dk_162 0 7 (dk_at dksX1_adds_2_0 8 rfl rfl)
theorem dX1_adds_2_11 : decode cX1_adds_2 11 = .ok (.iconst 1, 1) := dk_4 (dk_at dksX1_adds_2_0 11 rfl rfl)
theorem dX1_adds_2_12 : decode cX1_adds_2 12 = .ok (.goto 4, 3) := dk_167 0 4 (dk_at dksX1_adds_2_0 12 rfl rfl)
theorem dX1_adds_2_15 : decode cX1_adds_2 15 = .ok (.iconst 0, 1) := dk_3 (dk_at dksX1_adds_2_0 15 rfl rfl)
theorem dX1_adds_2_16 : decode cX1_adds_2 16 = .ok (.iconst 1, 1) := dk_4 (dk_at dksX1_adds_2_0 16 rfl rfl)
theorem dX1_adds_2_17 : decode cX1_adds_2 17 = .ok (.iconst 4, 1) := dk_7 (dk_at dksX1_adds_2_0 17 rfl rfl)
theorem dX1_adds_2_18 : decode cX1_adds_2 18 = .ok (.invokestatic 134, 3) := dk_184 0 134 (dk_at dksX1_adds_2_0 18 rfl rfl)
theorem dX1_adds_2_21 : decode cX1_adds_2 21 = .ok (.aload_n 0, 1) := dk_42 (dk_at dksX1_adds_2_0 21 rfl rfl)
theorem dX1_adds_2_22 : decode cX1_adds_2 22 = .ok (.getfield 18, 3) := dk_180 0 18 (dk_at dksX1_adds_2_1 0 rfl rfl)
theorem dX1_adds_2_25 : decode cX1_adds_2 25 = .ok (.aload_n 1, 1) := dk_43 (dk_at dksX1_adds_2_1 3 rfl rfl)
theorem dX1_adds_2_26 : decode cX1_adds_2 26 = .ok (.invokevirtual 66, 3) := dk_182 0 66 (dk_at dksX1_adds_2_1 4 rfl rfl)
theorem dX1_adds_2_29 : decode cX1_adds_2 29 = .ok (.pop, 1) := dk_87 (dk_at dksX1_adds_2_1 7 rfl rfl)
theorem dX1_adds_2_30 : decode cX1_adds_2 30 = .ok (.aload_n 0, 1) := dk_42 (dk_at dksX1_adds_2_1 8 rfl rfl)
theorem dX1_adds_2_31 : decode cX1_adds_2 31 = .ok (.getfield 18, 3) := dk_180 0 18 (dk_at dksX1_adds_2_1 9 rfl rfl)
theorem dX1_adds_2_34 : decode cX1_adds_2 34 = .ok (.invokevirtual 120, 3) := dk_182 0 120 (dk_at dksX1_adds_2_1 12 rfl rfl)
theorem dX1_adds_2_37 : decode cX1_adds_2 37 = .ok (.iconst 1, 1) := dk_4 (dk_at dksX1_adds_2_1 15 rfl rfl)
theorem dX1_adds_2_38 : decode cX1_adds_2 38 = .ok (.isub, 1) := dk_100 (dk_at dksX1_adds_2_1 16 rfl rfl)
theorem dX1_adds_2_39 : decode cX1_adds_2 39 = .ok (.ireturn, 1) := dk_172 (dk_at dksX1_adds_2_1 17 rfl rfl)
abbrev cX1_gives : ByteArray := prog_30_method_10_code
def yX1_gives : MethodName := ⟨RX1, "gives", "(II)I"⟩
def dkwX1_gives_2 : List UInt8 := [2, 181, 0, 142, 45, 28, 181, 0, 142, 21, 4, 2, 160, 0, 8, 16, 250, 167, 0, 5, 21, 4, 172]
abbrev dktX1_gives_2 : List UInt8 := dkwX1_gives_2 ++ []
def dkwX1_gives_1 : List UInt8 := [28, 182, 0, 145, 16, 250, 159, 0, 22, 42, 180, 0, 18, 42, 28, 182, 0, 145, 182, 0, 138, 192, 0, 70]
abbrev dktX1_gives_1 : List UInt8 := dkwX1_gives_1 ++ dktX1_gives_2
def dkwX1_gives_0 : List UInt8 := [42, 180, 0, 18, 27, 182, 0, 138, 192, 0, 70, 78, 45, 180, 0, 142, 54, 4, 28, 2, 159, 0, 32, 42]
abbrev dktX1_gives_0 : List UInt8 := dkwX1_gives_0 ++ dktX1_gives_1
theorem dksX1_gives_0 : cX1_gives.data.toList.drop 0 = dktX1_gives_0 := by decide +kernel
theorem dksX1_gives_1 : cX1_gives.data.toList.drop 24 = dktX1_gives_1 := dk_seg dksX1_gives_0 24 rfl rfl
theorem dksX1_gives_2 : cX1_gives.data.toList.drop 48 = dktX1_gives_2 := dk_seg dksX1_gives_1 24 rfl rfl
theorem dX1_gives_0 : decode cX1_gives 0 = .ok (.aload_n 0, 1) := dk_42 (dk_at dksX1_gives_0 0 rfl rfl)
theorem dX1_gives_1 : decode cX1_gives 1 = .ok (.getfield 18, 3) := dk_180 0 18 (dk_at dksX1_gives_0 1 rfl rfl)
theorem dX1_gives_4 : decode cX1_gives 4 = .ok (.iload_n 1, 1) := dk_27 (dk_at dksX1_gives_0 4 rfl rfl)
theorem dX1_gives_5 : decode cX1_gives 5 = .ok (.invokevirtual 138, 3) := dk_182 0 138 (dk_at dksX1_gives_0 5 rfl rfl)
theorem dX1_gives_8 : decode cX1_gives 8 = .ok (.checkcast 70, 3) := dk_192 0 70 (dk_at dksX1_gives_0 8 rfl rfl)
theorem dX1_gives_11 : decode cX1_gives 11 = .ok (.astore_n 3, 1) := dk_78 (dk_at dksX1_gives_0 11 rfl rfl)
theorem dX1_gives_12 : decode cX1_gives 12 = .ok (.aload_n 3, 1) := dk_45 (dk_at dksX1_gives_0 12 rfl rfl)
theorem dX1_gives_13 : decode cX1_gives 13 = .ok (.getfield 142, 3) := dk_180 0 142 (dk_at dksX1_gives_0 13 rfl rfl)
theorem dX1_gives_16 : decode cX1_gives 16 = .ok (.istore 4, 2) := dk_54 4 (dk_at dksX1_gives_0 16 rfl rfl)
theorem dX1_gives_18 : decode cX1_gives 18 = .ok (.iload_n 2, 1) := dk_28 (dk_at dksX1_gives_0 18 rfl rfl)
theorem dX1_gives_19 : decode cX1_gives 19 = .ok (.iconst (-1), 1) := dk_2 (dk_at dksX1_gives_0 19 rfl rfl)
theorem dX1_gives_20 : decode cX1_gives 20 = .ok (.if_icmp .eq 32, 3) := dk_159 0 32 (dk_at dksX1_gives_0 20 rfl rfl)
theorem dX1_gives_23 : decode cX1_gives 23 = .ok (.aload_n 0, 1) := dk_42 (dk_at dksX1_gives_0 23 rfl rfl)
theorem dX1_gives_24 : decode cX1_gives 24 = .ok (.iload_n 2, 1) := dk_28 (dk_at dksX1_gives_1 0 rfl rfl)
theorem dX1_gives_25 : decode cX1_gives 25 = .ok (.invokevirtual 145, 3) := dk_182 0 145 (dk_at dksX1_gives_1 1 rfl rfl)
theorem dX1_gives_28 : decode cX1_gives 28 = .ok (.bipush (-6), 2) := dk_16 250 (dk_at dksX1_gives_1 4 rfl rfl)
theorem dX1_gives_30 : decode cX1_gives 30 = .ok (.if_icmp .eq 22, 3) := dk_159 0 22 (dk_at dksX1_gives_1 6 rfl rfl)
theorem dX1_gives_33 : decode cX1_gives 33 = .ok (.aload_n 0, 1) := dk_42 (dk_at dksX1_gives_1 9 rfl rfl)
theorem dX1_gives_34 : decode cX1_gives 34 = .ok (.getfield 18, 3) := dk_180 0 18 (dk_at dksX1_gives_1 10 rfl rfl)
theorem dX1_gives_37 : decode cX1_gives 37 = .ok (.aload_n 0, 1) := dk_42 (dk_at dksX1_gives_1 13 rfl rfl)
theorem dX1_gives_38 : decode cX1_gives 38 = .ok (.iload_n 2, 1) := dk_28 (dk_at dksX1_gives_1 14 rfl rfl)
theorem dX1_gives_39 : decode cX1_gives 39 = .ok (.invokevirtual 145, 3) := dk_182 0 145 (dk_at dksX1_gives_1 15 rfl rfl)
theorem dX1_gives_42 : decode cX1_gives 42 = .ok (.invokevirtual 138, 3) := dk_182 0 138 (dk_at dksX1_gives_1 18 rfl rfl)
theorem dX1_gives_45 : decode cX1_gives 45 = .ok (.checkcast 70, 3) := dk_192 0 70 (dk_at dksX1_gives_1 21 rfl rfl)
theorem dX1_gives_48 : decode cX1_gives 48 = .ok (.iconst (-1), 1) := dk_2 (dk_at dksX1_gives_2 0 rfl rfl)
theorem dX1_gives_49 : decode cX1_gives 49 = .ok (.putfield 142, 3) := dk_181 0 142 (dk_at dksX1_gives_2 1 rfl rfl)
theorem dX1_gives_52 : decode cX1_gives 52 = .ok (.aload_n 3, 1) := dk_45 (dk_at dksX1_gives_2 4 rfl rfl)
theorem dX1_gives_53 : decode cX1_gives 53 = .ok (.iload_n 2, 1) := dk_28 (dk_at dksX1_gives_2 5 rfl rfl)
theorem dX1_gives_54 : decode cX1_gives 54 = .ok (.putfield 142, 3) := dk_181 0 142 (dk_at dksX1_gives_2 6 rfl rfl)
theorem dX1_gives_57 : decode cX1_gives 57 = .ok (.iload 4, 2) := dk_21 4 (dk_at dksX1_gives_2 9 rfl rfl)
theorem dX1_gives_59 : decode cX1_gives 59 = .ok (.iconst (-1), 1) := dk_2 (dk_at dksX1_gives_2 11 rfl rfl)
theorem dX1_gives_60 : decode cX1_gives 60 = .ok (.if_icmp .ne 8, 3) := dk_160 0 8 (dk_at dksX1_gives_2 12 rfl rfl)
theorem dX1_gives_63 : decode cX1_gives 63 = .ok (.bipush (-6), 2) := dk_16 250 (dk_at dksX1_gives_2 15 rfl rfl)
theorem dX1_gives_65 : decode cX1_gives 65 = .ok (.goto 5, 3) := dk_167 0 5 (dk_at dksX1_gives_2 17 rfl rfl)
theorem dX1_gives_68 : decode cX1_gives 68 = .ok (.iload 4, 2) := dk_21 4 (dk_at dksX1_gives_2 20 rfl rfl)
theorem dX1_gives_70 : decode cX1_gives 70 = .ok (.ireturn, 1) := dk_172 (dk_at dksX1_gives_2 22 rfl rfl)
abbrev cX1_isLens : ByteArray := prog_30_method_4_code
def yX1_isLens : MethodName := ⟨RX1, "isLens", "(I)Z"⟩
def dkwX1_isLens_0 : List UInt8 := [27, 3, 42, 180, 0, 18, 182, 0, 120, 4, 100, 184, 0, 124, 172]
abbrev dktX1_isLens_0 : List UInt8 := dkwX1_isLens_0 ++ []
theorem dksX1_isLens_0 : cX1_isLens.data.toList.drop 0 = dktX1_isLens_0 := by decide +kernel
theorem dX1_isLens_0 : decode cX1_isLens 0 = .ok (.iload_n 1, 1) := dk_27 (dk_at dksX1_isLens_0 0 rfl rfl)
theorem dX1_isLens_1 : decode cX1_isLens 1 = .ok (.iconst 0, 1) := dk_3 (dk_at dksX1_isLens_0 1 rfl rfl)
theorem dX1_isLens_2 : decode cX1_isLens 2 = .ok (.aload_n 0, 1) := dk_42 (dk_at dksX1_isLens_0 2 rfl rfl)
theorem dX1_isLens_3 : decode cX1_isLens 3 = .ok (.getfield 18, 3) := dk_180 0 18 (dk_at dksX1_isLens_0 3 rfl rfl)
theorem dX1_isLens_6 : decode cX1_isLens 6 = .ok (.invokevirtual 120, 3) := dk_182 0 120 (dk_at dksX1_isLens_0 6 rfl rfl)
theorem dX1_isLens_9 : decode cX1_isLens 9 = .ok (.iconst 1, 1) := dk_4 (dk_at dksX1_isLens_0 9 rfl rfl)
theorem dX1_isLens_10 : decode cX1_isLens 10 = .ok (.isub, 1) := dk_100 (dk_at dksX1_isLens_0 10 rfl rfl)
theorem dX1_isLens_11 : decode cX1_isLens 11 = .ok (.invokestatic 124, 3) := dk_184 0 124 (dk_at dksX1_isLens_0 11 rfl rfl)
theorem dX1_isLens_14 : decode cX1_isLens 14 = .ok (.ireturn, 1) := dk_172 (dk_at dksX1_isLens_0 14 rfl rfl)
theorem q74 : (Jvm.Cond.initialized "RosaryCarvers$Shop") ∈ lw_all := lw_g (lw_at lw_m1 2 rfl) rfl
theorem q141 : (Jvm.Cond.instantiable "RosaryCarvers$Shop" (17 : Nat)) ∈ lw_all := lw_g (lw_at lw_m1 69 rfl) rfl
theorem q143 : (Jvm.Cond.instanceMethod ({ cls := "RosaryCarvers$Shop", name := "<init>", desc := "()V" } : Jvm.MethodName)) ∈ lw_all := lw_g (lw_at lw_m1 71 rfl) rfl
theorem q144 : (Jvm.Cond.code ({ cls := "RosaryCarvers$Shop", name := "<init>", desc := "()V" } : Jvm.MethodName) prog_30_method_1_code (1 : Nat) (Option.none : Option Jvm.ClassFile.FieldType)) ∈ lw_all := lw_g (lw_at lw_m1 72 rfl) rfl
theorem q145 : (Jvm.Cond.methodLink "RosaryCarvers$Shop" (3 : Nat) ({ cls := "java/lang/Object", name := "<init>", desc := "()V" } : Jvm.MethodName)) ∈ lw_all := lw_g (lw_at lw_m1 73 rfl) rfl
theorem q146 : (Jvm.Cond.classLink "RosaryCarvers$Shop" (9 : Nat) "java/util/ArrayList") ∈ lw_all := lw_g (lw_at lw_m1 74 rfl) rfl
theorem q148 : (Jvm.Cond.methodLink "RosaryCarvers$Shop" (11 : Nat) ({ cls := "java/util/ArrayList", name := "<init>", desc := "()V" } : Jvm.MethodName)) ∈ lw_all := lw_g (lw_at lw_m1 76 rfl) rfl
theorem q175 : (Jvm.Cond.classLink "RosaryCarvers$Shop" (21 : Nat) "RosaryCarvers$Beads") ∈ lw_all := lw_g (lw_at lw_m1 103 rfl) rfl
theorem q177 : (Jvm.Cond.methodLinkNest "RosaryCarvers$Shop" (23 : Nat) ({ cls := "RosaryCarvers$Beads", name := "<init>", desc := "()V" } : Jvm.MethodName) "RosaryCarvers") ∈ lw_tbl := lw_at lw_m1 105 rfl
theorem q189 : (Jvm.Cond.classLink "RosaryCarvers$Shop" (40 : Nat) "java/util/BitSet") ∈ lw_all := lw_g (lw_at lw_m1 117 rfl) rfl
theorem q191 : (Jvm.Cond.methodLink "RosaryCarvers$Shop" (42 : Nat) ({ cls := "java/util/BitSet", name := "<init>", desc := "()V" } : Jvm.MethodName)) ∈ lw_all := lw_g (lw_at lw_m1 119 rfl) rfl
theorem q213 : (Jvm.Cond.fieldLink "RosaryCarvers$Shop" (12 : Nat) "RosaryCarvers$Shop" "carvers" "Ljava/util/ArrayList;") ∈ lw_all := lw_g (lw_at lw_m1 141 rfl) rfl
theorem q215 : (Jvm.Cond.fieldLink "RosaryCarvers$Shop" (18 : Nat) "RosaryCarvers$Shop" "lenses" "Ljava/util/ArrayList;") ∈ lw_all := lw_g (lw_at lw_m1 143 rfl) rfl
theorem q217 : (Jvm.Cond.fieldLink "RosaryCarvers$Shop" (24 : Nat) "RosaryCarvers$Shop" "box" "LRosaryCarvers$Beads;") ∈ lw_all := lw_g (lw_at lw_m1 145 rfl) rfl
theorem q219 : (Jvm.Cond.fieldLink "RosaryCarvers$Shop" (28 : Nat) "RosaryCarvers$Shop" "strings" "Ljava/util/ArrayList;") ∈ lw_all := lw_g (lw_at lw_m1 147 rfl) rfl
theorem q221 : (Jvm.Cond.fieldLink "RosaryCarvers$Shop" (31 : Nat) "RosaryCarvers$Shop" "pilgrims" "Ljava/util/ArrayList;") ∈ lw_all := lw_g (lw_at lw_m1 149 rfl) rfl
theorem q223 : (Jvm.Cond.fieldLink "RosaryCarvers$Shop" (34 : Nat) "RosaryCarvers$Shop" "sold" "Ljava/util/ArrayList;") ∈ lw_all := lw_g (lw_at lw_m1 151 rfl) rfl
theorem q225 : (Jvm.Cond.fieldLink "RosaryCarvers$Shop" (37 : Nat) "RosaryCarvers$Shop" "waiting" "Ljava/util/ArrayList;") ∈ lw_all := lw_g (lw_at lw_m1 153 rfl) rfl
theorem q227 : (Jvm.Cond.fieldLink "RosaryCarvers$Shop" (43 : Nat) "RosaryCarvers$Shop" "away" "Ljava/util/BitSet;") ∈ lw_all := lw_g (lw_at lw_m1 155 rfl) rfl
theorem q229 : (Jvm.Cond.fieldLink "RosaryCarvers$Shop" (92 : Nat) "RosaryCarvers$Shop" "day" "I") ∈ lw_all := lw_g (lw_at lw_m1 157 rfl) rfl
theorem q231 : (Jvm.Cond.fieldLink "RosaryCarvers$Shop" (96 : Nat) "RosaryCarvers$Shop" "stones" "I") ∈ lw_all := lw_g (lw_at lw_m1 159 rfl) rfl
theorem q233 : (Jvm.Cond.fieldLink "RosaryCarvers$Shop" (99 : Nat) "RosaryCarvers$Shop" "carved" "I") ∈ lw_all := lw_g (lw_at lw_m1 161 rfl) rfl
theorem q235 : (Jvm.Cond.fieldLink "RosaryCarvers$Shop" (102 : Nat) "RosaryCarvers$Shop" "spoilt" "I") ∈ lw_all := lw_g (lw_at lw_m1 163 rfl) rfl
theorem q237 : (Jvm.Cond.fieldLink "RosaryCarvers$Shop" (105 : Nat) "RosaryCarvers$Shop" "sales" "I") ∈ lw_all := lw_g (lw_at lw_m1 165 rfl) rfl
theorem q239 : (Jvm.Cond.fieldLink "RosaryCarvers$Shop" (108 : Nat) "RosaryCarvers$Shop" "mended" "I") ∈ lw_all := lw_g (lw_at lw_m1 167 rfl) rfl
theorem q241 : (Jvm.Cond.fieldLink "RosaryCarvers$Shop" (111 : Nat) "RosaryCarvers$Shop" "coins" "I") ∈ lw_all := lw_g (lw_at lw_m1 169 rfl) rfl
theorem q243 : (Jvm.Cond.fieldLink "RosaryCarvers$Shop" (114 : Nat) "RosaryCarvers$Shop" "broken" "I") ∈ lw_all := lw_g (lw_at lw_m1 171 rfl) rfl
theorem q245 : (Jvm.Cond.fieldLink "RosaryCarvers$Shop" (117 : Nat) "RosaryCarvers$Shop" "gone" "I") ∈ lw_all := lw_g (lw_at lw_m1 173 rfl) rfl
theorem q247 : (Jvm.Cond.laysFinal "RosaryCarvers$Shop" "RosaryCarvers$Shop" "carvers" "Ljava/util/ArrayList;") ∈ lw_all := lw_g (lw_at lw_m1 175 rfl) rfl
theorem q248 : (Jvm.Cond.soleField "RosaryCarvers$Shop" "carvers") ∈ lw_all := lw_g (lw_at lw_m1 176 rfl) rfl
theorem q249 : (Jvm.Cond.laysFinal "RosaryCarvers$Shop" "RosaryCarvers$Shop" "lenses" "Ljava/util/ArrayList;") ∈ lw_all := lw_g (lw_at lw_m1 177 rfl) rfl
theorem q250 : (Jvm.Cond.soleField "RosaryCarvers$Shop" "lenses") ∈ lw_all := lw_g (lw_at lw_m1 178 rfl) rfl
theorem q251 : (Jvm.Cond.laysFinal "RosaryCarvers$Shop" "RosaryCarvers$Shop" "box" "LRosaryCarvers$Beads;") ∈ lw_all := lw_g (lw_at lw_m1 179 rfl) rfl
theorem q252 : (Jvm.Cond.soleField "RosaryCarvers$Shop" "box") ∈ lw_all := lw_g (lw_at lw_m1 180 rfl) rfl
theorem q253 : (Jvm.Cond.laysFinal "RosaryCarvers$Shop" "RosaryCarvers$Shop" "strings" "Ljava/util/ArrayList;") ∈ lw_all := lw_g (lw_at lw_m1 181 rfl) rfl
theorem q254 : (Jvm.Cond.soleField "RosaryCarvers$Shop" "strings") ∈ lw_all := lw_g (lw_at lw_m1 182 rfl) rfl
theorem q255 : (Jvm.Cond.laysFinal "RosaryCarvers$Shop" "RosaryCarvers$Shop" "pilgrims" "Ljava/util/ArrayList;") ∈ lw_all := lw_g (lw_at lw_m1 183 rfl) rfl
theorem q256 : (Jvm.Cond.soleField "RosaryCarvers$Shop" "pilgrims") ∈ lw_all := lw_g (lw_at lw_m1 184 rfl) rfl
theorem q257 : (Jvm.Cond.laysFinal "RosaryCarvers$Shop" "RosaryCarvers$Shop" "sold" "Ljava/util/ArrayList;") ∈ lw_all := lw_g (lw_at lw_m1 185 rfl) rfl
theorem q258 : (Jvm.Cond.soleField "RosaryCarvers$Shop" "sold") ∈ lw_all := lw_g (lw_at lw_m1 186 rfl) rfl
theorem q259 : (Jvm.Cond.laysFinal "RosaryCarvers$Shop" "RosaryCarvers$Shop" "waiting" "Ljava/util/ArrayList;") ∈ lw_all := lw_g (lw_at lw_m1 187 rfl) rfl
theorem q260 : (Jvm.Cond.soleField "RosaryCarvers$Shop" "waiting") ∈ lw_all := lw_g (lw_at lw_m1 188 rfl) rfl
theorem q261 : (Jvm.Cond.laysFinal "RosaryCarvers$Shop" "RosaryCarvers$Shop" "away" "Ljava/util/BitSet;") ∈ lw_all := lw_g (lw_at lw_m1 189 rfl) rfl
theorem q262 : (Jvm.Cond.soleField "RosaryCarvers$Shop" "away") ∈ lw_all := lw_g (lw_at lw_m1 190 rfl) rfl
theorem q263 : (Jvm.Cond.lays "RosaryCarvers$Shop" "RosaryCarvers$Shop" "day" "I") ∈ lw_all := lw_g (lw_at lw_m1 191 rfl) rfl
theorem q264 : (Jvm.Cond.soleField "RosaryCarvers$Shop" "day") ∈ lw_all := lw_g (lw_at lw_m1 192 rfl) rfl
theorem q265 : (Jvm.Cond.lays "RosaryCarvers$Shop" "RosaryCarvers$Shop" "stones" "I") ∈ lw_all := lw_g (lw_at lw_m1 193 rfl) rfl
theorem q266 : (Jvm.Cond.soleField "RosaryCarvers$Shop" "stones") ∈ lw_all := lw_g (lw_at lw_m1 194 rfl) rfl
theorem q267 : (Jvm.Cond.lays "RosaryCarvers$Shop" "RosaryCarvers$Shop" "carved" "I") ∈ lw_all := lw_g (lw_at lw_m1 195 rfl) rfl
theorem q268 : (Jvm.Cond.soleField "RosaryCarvers$Shop" "carved") ∈ lw_all := lw_g (lw_at lw_m1 196 rfl) rfl
theorem q269 : (Jvm.Cond.lays "RosaryCarvers$Shop" "RosaryCarvers$Shop" "spoilt" "I") ∈ lw_all := lw_g (lw_at lw_m1 197 rfl) rfl
theorem q270 : (Jvm.Cond.soleField "RosaryCarvers$Shop" "spoilt") ∈ lw_all := lw_g (lw_at lw_m1 198 rfl) rfl
theorem q271 : (Jvm.Cond.lays "RosaryCarvers$Shop" "RosaryCarvers$Shop" "sales" "I") ∈ lw_all := lw_g (lw_at lw_m1 199 rfl) rfl
theorem q272 : (Jvm.Cond.soleField "RosaryCarvers$Shop" "sales") ∈ lw_all := lw_g (lw_at lw_m1 200 rfl) rfl
theorem q273 : (Jvm.Cond.lays "RosaryCarvers$Shop" "RosaryCarvers$Shop" "mended" "I") ∈ lw_all := lw_g (lw_at lw_m1 201 rfl) rfl
theorem q274 : (Jvm.Cond.soleField "RosaryCarvers$Shop" "mended") ∈ lw_all := lw_g (lw_at lw_m1 202 rfl) rfl
theorem q275 : (Jvm.Cond.lays "RosaryCarvers$Shop" "RosaryCarvers$Shop" "coins" "I") ∈ lw_all := lw_g (lw_at lw_m1 203 rfl) rfl
theorem q276 : (Jvm.Cond.soleField "RosaryCarvers$Shop" "coins") ∈ lw_all := lw_g (lw_at lw_m1 204 rfl) rfl
theorem q277 : (Jvm.Cond.lays "RosaryCarvers$Shop" "RosaryCarvers$Shop" "broken" "I") ∈ lw_all := lw_g (lw_at lw_m1 205 rfl) rfl
theorem q278 : (Jvm.Cond.soleField "RosaryCarvers$Shop" "broken") ∈ lw_all := lw_g (lw_at lw_m1 206 rfl) rfl
theorem q279 : (Jvm.Cond.lays "RosaryCarvers$Shop" "RosaryCarvers$Shop" "gone" "I") ∈ lw_all := lw_g (lw_at lw_m1 207 rfl) rfl
theorem q280 : (Jvm.Cond.soleField "RosaryCarvers$Shop" "gone") ∈ lw_all := lw_g (lw_at lw_m1 208 rfl) rfl
theorem q281 : (Jvm.Cond.superclass "RosaryCarvers$Shop" "java/lang/Object") ∈ lw_all := lw_g (lw_at lw_m1 209 rfl) rfl
theorem q370 : (Jvm.Cond.instanceMethod ({ cls := "RosaryCarvers$Shop", name := "<init>", desc := "(LRosaryCarvers$Shop;)V" } : Jvm.MethodName)) ∈ lw_all := lw_g (lw_at lw_m2 58 rfl) rfl
theorem q371 : (Jvm.Cond.code ({ cls := "RosaryCarvers$Shop", name := "<init>", desc := "(LRosaryCarvers$Shop;)V" } : Jvm.MethodName) prog_30_method_2_code (4 : Nat) (Option.none : Option Jvm.ClassFile.FieldType)) ∈ lw_all := lw_g (lw_at lw_m2 59 rfl) rfl
theorem q372 : (Jvm.Cond.methodLink "RosaryCarvers$Shop" (47 : Nat) ({ cls := "java/util/ArrayList", name := "iterator", desc := "()Ljava/util/Iterator;" } : Jvm.MethodName)) ∈ lw_all := lw_g (lw_at lw_m2 60 rfl) rfl
theorem q395 : (Jvm.Cond.interfaceEntry "RosaryCarvers$Shop" (51 : Nat)) ∈ lw_tbl := lw_at lw_m2 83 rfl
theorem q396 : (Jvm.Cond.methodLink "RosaryCarvers$Shop" (51 : Nat) ({ cls := "java/util/Iterator", name := "hasNext", desc := "()Z" } : Jvm.MethodName)) ∈ lw_all := lw_g (lw_at lw_m2 84 rfl) rfl
theorem q421 : (Jvm.Cond.interfaceEntry "RosaryCarvers$Shop" (57 : Nat)) ∈ lw_tbl := lw_at lw_m2 109 rfl
theorem q422 : (Jvm.Cond.methodLink "RosaryCarvers$Shop" (57 : Nat) ({ cls := "java/util/Iterator", name := "next", desc := "()Ljava/lang/Object;" } : Jvm.MethodName)) ∈ lw_all := lw_g (lw_at lw_m2 110 rfl) rfl
theorem q542 : (Jvm.Cond.classLink "RosaryCarvers$Shop" (61 : Nat) "RosaryCarvers$Carver") ∈ lw_all := lw_g (lw_at lw_m2 230 rfl) rfl
theorem q544 : (Jvm.Cond.methodLink "RosaryCarvers$Shop" (63 : Nat) ({ cls := "RosaryCarvers$Carver", name := "<init>", desc := "(LRosaryCarvers$Carver;)V" } : Jvm.MethodName)) ∈ lw_all := lw_g (lw_at lw_m2 232 rfl) rfl
theorem q552 : (Jvm.Cond.fieldLinkNest "RosaryCarvers$Shop" (149 : Nat) "RosaryCarvers$Carver" "eye" "I" "RosaryCarvers") ∈ lw_tbl := lw_at lw_m3 0 rfl
theorem q555 : (Jvm.Cond.fieldLinkNest "RosaryCarvers$Shop" (155 : Nat) "RosaryCarvers$Carver" "tired" "I" "RosaryCarvers") ∈ lw_tbl := lw_at lw_m3 3 rfl
theorem q558 : (Jvm.Cond.fieldLinkNest "RosaryCarvers$Shop" (170 : Nat) "RosaryCarvers$Carver" "carved" "I" "RosaryCarvers") ∈ lw_tbl := lw_at lw_m3 6 rfl
theorem q561 : (Jvm.Cond.fieldLinkNest "RosaryCarvers$Shop" (171 : Nat) "RosaryCarvers$Carver" "spoilt" "I" "RosaryCarvers") ∈ lw_tbl := lw_at lw_m3 9 rfl
theorem q572 : (Jvm.Cond.methodLink "RosaryCarvers$Shop" (66 : Nat) ({ cls := "java/util/ArrayList", name := "add", desc := "(Ljava/lang/Object;)Z" } : Jvm.MethodName)) ∈ lw_all := lw_g (lw_at lw_m3 20 rfl) rfl
theorem q631 : (Jvm.Cond.selects "RosaryCarvers$Shop" ({ cls := "java/lang/Object", name := "getClass", desc := "()Ljava/lang/Class;" } : Jvm.MethodName) ({ cls := "java/lang/Object", name := "getClass", desc := "()Ljava/lang/Class;" } : Jvm.MethodName)) ∈ lw_all := lw_g (lw_at lw_m3 79 rfl) rfl
theorem q659 : (Jvm.Cond.classLink "RosaryCarvers$Shop" (70 : Nat) "RosaryCarvers$Lens") ∈ lw_all := lw_g (lw_at lw_m3 107 rfl) rfl
theorem q661 : (Jvm.Cond.methodLink "RosaryCarvers$Shop" (72 : Nat) ({ cls := "RosaryCarvers$Lens", name := "<init>", desc := "(LRosaryCarvers$Lens;)V" } : Jvm.MethodName)) ∈ lw_all := lw_g (lw_at lw_m3 109 rfl) rfl
theorem q669 : (Jvm.Cond.fieldLinkNest "RosaryCarvers$Shop" (152 : Nat) "RosaryCarvers$Lens" "power" "I" "RosaryCarvers") ∈ lw_tbl := lw_at lw_m3 117 rfl
theorem q672 : (Jvm.Cond.fieldLinkNest "RosaryCarvers$Shop" (142 : Nat) "RosaryCarvers$Lens" "carver" "I" "RosaryCarvers") ∈ lw_tbl := lw_at lw_m3 120 rfl
theorem q679 : (Jvm.Cond.methodLink "RosaryCarvers$Shop" (75 : Nat) ({ cls := "RosaryCarvers$Beads", name := "becomes", desc := "(LRosaryCarvers$Beads;)V" } : Jvm.MethodName)) ∈ lw_all := lw_g (lw_at lw_m3 127 rfl) rfl
theorem q716 : (Jvm.Cond.classLink "RosaryCarvers$Shop" (79 : Nat) "RosaryCarvers$Rosary") ∈ lw_all := lw_g (lw_at lw_m3 164 rfl) rfl
theorem q718 : (Jvm.Cond.methodLink "RosaryCarvers$Shop" (81 : Nat) ({ cls := "RosaryCarvers$Rosary", name := "<init>", desc := "(LRosaryCarvers$Rosary;)V" } : Jvm.MethodName)) ∈ lw_all := lw_g (lw_at lw_m3 166 rfl) rfl
theorem q726 : (Jvm.Cond.fieldLinkNest "RosaryCarvers$Shop" (243 : Nat) "RosaryCarvers$Rosary" "groups" "I" "RosaryCarvers") ∈ lw_tbl := lw_at lw_m3 174 rfl
theorem q729 : (Jvm.Cond.fieldLinkNest "RosaryCarvers$Shop" (225 : Nat) "RosaryCarvers$Rosary" "small" "I" "RosaryCarvers") ∈ lw_tbl := lw_at lw_m3 177 rfl
theorem q732 : (Jvm.Cond.fieldLinkNest "RosaryCarvers$Shop" (209 : Nat) "RosaryCarvers$Rosary" "knots" "I" "RosaryCarvers") ∈ lw_tbl := lw_at lw_m3 180 rfl
theorem q746 : (Jvm.Cond.methodLink "RosaryCarvers$Shop" (84 : Nat) ({ cls := "java/util/ArrayList", name := "addAll", desc := "(Ljava/util/Collection;)Z" } : Jvm.MethodName)) ∈ lw_all := lw_g (lw_at lw_m3 194 rfl) rfl
theorem q747 : (Jvm.Cond.methodLink "RosaryCarvers$Shop" (88 : Nat) ({ cls := "java/util/BitSet", name := "or", desc := "(Ljava/util/BitSet;)V" } : Jvm.MethodName)) ∈ lw_all := lw_g (lw_at lw_m3 195 rfl) rfl
theorem q781 : (Jvm.Cond.instanceMethod ({ cls := "RosaryCarvers$Shop", name := "brings", desc := "(I)I" } : Jvm.MethodName)) ∈ lw_all := lw_g (lw_at lw_m3 229 rfl) rfl
theorem q782 : (Jvm.Cond.selects "RosaryCarvers$Shop" ({ cls := "RosaryCarvers$Shop", name := "brings", desc := "(I)I" } : Jvm.MethodName) ({ cls := "RosaryCarvers$Shop", name := "brings", desc := "(I)I" } : Jvm.MethodName)) ∈ lw_all := lw_g (lw_at lw_m3 230 rfl) rfl
theorem q783 : (Jvm.Cond.code ({ cls := "RosaryCarvers$Shop", name := "brings", desc := "(I)I" } : Jvm.MethodName) prog_30_method_6_code (2 : Nat) (Option.some Jvm.ClassFile.FieldType.int)) ∈ lw_all := lw_g (lw_at lw_m3 231 rfl) rfl
theorem q784 : (Jvm.Cond.methodLink "RosaryCarvers$Shop" (128 : Nat) ({ cls := "java/lang/Math", name := "min", desc := "(II)I" } : Jvm.MethodName)) ∈ lw_all := lw_g (lw_at lw_m3 232 rfl) rfl
theorem q789 : (Jvm.Cond.instanceMethod ({ cls := "RosaryCarvers$Shop", name := "tells", desc := "(IIII)I" } : Jvm.MethodName)) ∈ lw_all := lw_g (lw_at lw_m3 237 rfl) rfl
theorem q790 : (Jvm.Cond.selects "RosaryCarvers$Shop" ({ cls := "RosaryCarvers$Shop", name := "tells", desc := "(IIII)I" } : Jvm.MethodName) ({ cls := "RosaryCarvers$Shop", name := "tells", desc := "(IIII)I" } : Jvm.MethodName)) ∈ lw_all := lw_g (lw_at lw_m3 238 rfl) rfl
theorem q791 : (Jvm.Cond.code ({ cls := "RosaryCarvers$Shop", name := "tells", desc := "(IIII)I" } : Jvm.MethodName) prog_30_method_21_code (7 : Nat) (Option.some Jvm.ClassFile.FieldType.int)) ∈ lw_all := lw_g (lw_at lw_m3 239 rfl) rfl
theorem q792 : (Jvm.Cond.methodLink "RosaryCarvers$Shop" (120 : Nat) ({ cls := "java/util/ArrayList", name := "size", desc := "()I" } : Jvm.MethodName)) ∈ lw_all := lw_g (lw_at lw_m4 0 rfl) rfl
theorem q793 : (Jvm.Cond.methodLinkNest "RosaryCarvers$Shop" (134 : Nat) ({ cls := "RosaryCarvers", name := "needs", desc := "(ZII)V" } : Jvm.MethodName) "RosaryCarvers") ∈ lw_tbl := lw_at lw_m4 1 rfl
theorem q827 : (Jvm.Cond.methodLinkNest "RosaryCarvers$Shop" (235 : Nat) ({ cls := "RosaryCarvers", name := "seasonOf", desc := "(I)I" } : Jvm.MethodName) "RosaryCarvers") ∈ lw_tbl := lw_at lw_m4 35 rfl
theorem q830 : (Jvm.Cond.classLink "RosaryCarvers$Shop" (238 : Nat) "RosaryCarvers$Pilgrim") ∈ lw_all := lw_g (lw_at lw_m4 38 rfl) rfl
theorem q832 : (Jvm.Cond.methodLink "RosaryCarvers$Shop" (240 : Nat) ({ cls := "RosaryCarvers$Pilgrim", name := "<init>", desc := "(IIII)V" } : Jvm.MethodName)) ∈ lw_all := lw_g (lw_at lw_m4 40 rfl) rfl
theorem q837 : (Jvm.Cond.fieldLinkNest "RosaryCarvers$Shop" (298 : Nat) "RosaryCarvers$Pilgrim" "day" "I" "RosaryCarvers") ∈ lw_tbl := lw_at lw_m4 45 rfl
theorem q840 : (Jvm.Cond.fieldLinkNest "RosaryCarvers$Shop" (246 : Nat) "RosaryCarvers$Pilgrim" "groups" "I" "RosaryCarvers") ∈ lw_tbl := lw_at lw_m4 48 rfl
theorem q843 : (Jvm.Cond.fieldLinkNest "RosaryCarvers$Shop" (250 : Nat) "RosaryCarvers$Pilgrim" "fineness" "I" "RosaryCarvers") ∈ lw_tbl := lw_at lw_m4 51 rfl
theorem q846 : (Jvm.Cond.fieldLinkNest "RosaryCarvers$Shop" (264 : Nat) "RosaryCarvers$Pilgrim" "coins" "I" "RosaryCarvers") ∈ lw_tbl := lw_at lw_m4 54 rfl
theorem q861 : (Jvm.Cond.instanceMethod ({ cls := "RosaryCarvers$Shop", name := "mends", desc := "()I" } : Jvm.MethodName)) ∈ lw_all := lw_g (lw_at lw_m4 69 rfl) rfl
theorem q862 : (Jvm.Cond.selects "RosaryCarvers$Shop" ({ cls := "RosaryCarvers$Shop", name := "mends", desc := "()I" } : Jvm.MethodName) ({ cls := "RosaryCarvers$Shop", name := "mends", desc := "()I" } : Jvm.MethodName)) ∈ lw_all := lw_g (lw_at lw_m4 70 rfl) rfl
theorem q863 : (Jvm.Cond.code ({ cls := "RosaryCarvers$Shop", name := "mends", desc := "()I" } : Jvm.MethodName) prog_30_method_25_code (5 : Nat) (Option.some Jvm.ClassFile.FieldType.int)) ∈ lw_all := lw_g (lw_at lw_m4 71 rfl) rfl
theorem q864 : (Jvm.Cond.methodLink "RosaryCarvers$Shop" (280 : Nat) ({ cls := "java/util/ArrayList", name := "isEmpty", desc := "()Z" } : Jvm.MethodName)) ∈ lw_all := lw_g (lw_at lw_m4 72 rfl) rfl
theorem q868 : (Jvm.Cond.methodLink "RosaryCarvers$Shop" (138 : Nat) ({ cls := "java/util/ArrayList", name := "get", desc := "(I)Ljava/lang/Object;" } : Jvm.MethodName)) ∈ lw_all := lw_g (lw_at lw_m4 76 rfl) rfl
theorem q869 : (Jvm.Cond.classLink "RosaryCarvers$Shop" (256 : Nat) "RosaryCarvers$Sold") ∈ lw_all := lw_g (lw_at lw_m4 77 rfl) rfl
theorem q870 : (Jvm.Cond.methodLink "RosaryCarvers$Shop" (215 : Nat) ({ cls := "RosaryCarvers$Shop", name := "takes", desc := "(Z)LRosaryCarvers$Bead;" } : Jvm.MethodName)) ∈ lw_all := lw_g (lw_at lw_m4 78 rfl) rfl
theorem q871 : (Jvm.Cond.privateMethod ({ cls := "RosaryCarvers$Shop", name := "takes", desc := "(Z)LRosaryCarvers$Bead;" } : Jvm.MethodName)) ∈ lw_tbl := lw_at lw_m4 79 rfl
theorem q872 : (Jvm.Cond.instanceMethod ({ cls := "RosaryCarvers$Shop", name := "takes", desc := "(Z)LRosaryCarvers$Bead;" } : Jvm.MethodName)) ∈ lw_all := lw_g (lw_at lw_m4 80 rfl) rfl
theorem q873 : (Jvm.Cond.code ({ cls := "RosaryCarvers$Shop", name := "takes", desc := "(Z)LRosaryCarvers$Bead;" } : Jvm.MethodName) prog_30_method_16_code (3 : Nat) (Option.some (Jvm.ClassFile.FieldType.object "RosaryCarvers$Bead"))) ∈ lw_all := lw_g (lw_at lw_m4 81 rfl) rfl
theorem q874 : (Jvm.Cond.methodLink "RosaryCarvers$Shop" (190 : Nat) ({ cls := "RosaryCarvers$Beads", name := "finest", desc := "(Z)LRosaryCarvers$Bead;" } : Jvm.MethodName)) ∈ lw_all := lw_g (lw_at lw_m4 82 rfl) rfl
theorem q1005 : (Jvm.Cond.classLink "RosaryCarvers$Shop" (194 : Nat) "RosaryCarvers$Refused") ∈ lw_all := lw_g (lw_at lw_m4 213 rfl) rfl
theorem q1006 : (Jvm.Cond.methodLinkNest "RosaryCarvers$Shop" (177 : Nat) ({ cls := "RosaryCarvers", name := "bit", desc := "(Z)I" } : Jvm.MethodName) "RosaryCarvers") ∈ lw_tbl := lw_at lw_m4 214 rfl
theorem q1009 : (Jvm.Cond.methodLink "RosaryCarvers$Shop" (196 : Nat) ({ cls := "RosaryCarvers$Shop", name := "onOthers", desc := "(Z)I" } : Jvm.MethodName)) ∈ lw_all := lw_g (lw_at lw_m4 217 rfl) rfl
theorem q1010 : (Jvm.Cond.privateMethod ({ cls := "RosaryCarvers$Shop", name := "onOthers", desc := "(Z)I" } : Jvm.MethodName)) ∈ lw_tbl := lw_at lw_m4 218 rfl
theorem q1011 : (Jvm.Cond.instanceMethod ({ cls := "RosaryCarvers$Shop", name := "onOthers", desc := "(Z)I" } : Jvm.MethodName)) ∈ lw_all := lw_g (lw_at lw_m4 219 rfl) rfl
theorem q1012 : (Jvm.Cond.code ({ cls := "RosaryCarvers$Shop", name := "onOthers", desc := "(Z)I" } : Jvm.MethodName) prog_30_method_15_code (5 : Nat) (Option.some Jvm.ClassFile.FieldType.int)) ∈ lw_all := lw_g (lw_at lw_m4 220 rfl) rfl
theorem q1013 : (Jvm.Cond.methodLink "RosaryCarvers$Shop" (184 : Nat) ({ cls := "RosaryCarvers$Rosary", name := "isDone", desc := "()Z" } : Jvm.MethodName)) ∈ lw_all := lw_g (lw_at lw_m4 221 rfl) rfl
theorem q1017 : (Jvm.Cond.methodLink "RosaryCarvers$Shop" (187 : Nat) ({ cls := "RosaryCarvers$Rosary", name := "many", desc := "(Z)I" } : Jvm.MethodName)) ∈ lw_all := lw_g (lw_at lw_m4 225 rfl) rfl
theorem q1023 : (Jvm.Cond.methodLink "RosaryCarvers$Shop" (199 : Nat) ({ cls := "RosaryCarvers$Refused", name := "<init>", desc := "(II)V" } : Jvm.MethodName)) ∈ lw_all := lw_g (lw_at lw_m4 231 rfl) rfl
theorem q1024 : (Jvm.Cond.methodLink "RosaryCarvers$Shop" (200 : Nat) ({ cls := "RosaryCarvers$Refused", name := "<init>", desc := "(IILjava/lang/Exception;)V" } : Jvm.MethodName)) ∈ lw_all := lw_g (lw_at lw_m4 232 rfl) rfl
theorem q1025 : (Jvm.Cond.methodLink "RosaryCarvers$Shop" (203 : Nat) ({ cls := "RosaryCarvers$Beads", name := "loses", desc := "(LRosaryCarvers$Bead;)V" } : Jvm.MethodName)) ∈ lw_all := lw_g (lw_at lw_m4 233 rfl) rfl
theorem q1067 : (Jvm.Cond.selects "RosaryCarvers$Shop" ({ cls := "java/lang/Object", name := "equals", desc := "(Ljava/lang/Object;)Z" } : Jvm.MethodName) ({ cls := "java/lang/Object", name := "equals", desc := "(Ljava/lang/Object;)Z" } : Jvm.MethodName)) ∈ lw_all := lw_g (lw_at lw_m5 35 rfl) rfl
theorem q1087 : (Jvm.Cond.methodLink "RosaryCarvers$Shop" (258 : Nat) ({ cls := "java/util/ArrayList", name := "remove", desc := "(I)Ljava/lang/Object;" } : Jvm.MethodName)) ∈ lw_all := lw_g (lw_at lw_m5 55 rfl) rfl
theorem q1091 : (Jvm.Cond.methodLink "RosaryCarvers$Shop" (276 : Nat) ({ cls := "java/util/BitSet", name := "set", desc := "(I)V" } : Jvm.MethodName)) ∈ lw_all := lw_g (lw_at lw_m5 59 rfl) rfl
theorem q1099 : (Jvm.Cond.methodLink "RosaryCarvers$Shop" (290 : Nat) ({ cls := "RosaryCarvers$Sold", name := "iterator", desc := "()Ljava/util/Iterator;" } : Jvm.MethodName)) ∈ lw_all := lw_g (lw_at lw_m5 67 rfl) rfl
theorem q1103 : (Jvm.Cond.classLink "RosaryCarvers$Shop" (161 : Nat) "RosaryCarvers$Bead") ∈ lw_all := lw_g (lw_at lw_m5 71 rfl) rfl
theorem q1104 : (Jvm.Cond.methodLink "RosaryCarvers$Shop" (291 : Nat) ({ cls := "RosaryCarvers$Sold", name := "size", desc := "()I" } : Jvm.MethodName)) ∈ lw_all := lw_g (lw_at lw_m5 72 rfl) rfl
theorem q1115 : (Jvm.Cond.instanceMethod ({ cls := "RosaryCarvers$Shop", name := "passes", desc := "(I)I" } : Jvm.MethodName)) ∈ lw_all := lw_g (lw_at lw_m5 83 rfl) rfl
theorem q1116 : (Jvm.Cond.selects "RosaryCarvers$Shop" ({ cls := "RosaryCarvers$Shop", name := "passes", desc := "(I)I" } : Jvm.MethodName) ({ cls := "RosaryCarvers$Shop", name := "passes", desc := "(I)I" } : Jvm.MethodName)) ∈ lw_all := lw_g (lw_at lw_m5 84 rfl) rfl
theorem q1117 : (Jvm.Cond.code ({ cls := "RosaryCarvers$Shop", name := "passes", desc := "(I)I" } : Jvm.MethodName) prog_30_method_27_code (4 : Nat) (Option.some Jvm.ClassFile.FieldType.int)) ∈ lw_all := lw_g (lw_at lw_m5 85 rfl) rfl
theorem q1118 : (Jvm.Cond.methodLink "RosaryCarvers$Shop" (303 : Nat) ({ cls := "RosaryCarvers$Shop", name := "goesDay", desc := "()I" } : Jvm.MethodName)) ∈ lw_all := lw_g (lw_at lw_m5 86 rfl) rfl
theorem q1119 : (Jvm.Cond.instanceMethod ({ cls := "RosaryCarvers$Shop", name := "goesDay", desc := "()I" } : Jvm.MethodName)) ∈ lw_all := lw_g (lw_at lw_m5 87 rfl) rfl
theorem q1120 : (Jvm.Cond.selects "RosaryCarvers$Shop" ({ cls := "RosaryCarvers$Shop", name := "goesDay", desc := "()I" } : Jvm.MethodName) ({ cls := "RosaryCarvers$Shop", name := "goesDay", desc := "()I" } : Jvm.MethodName)) ∈ lw_all := lw_g (lw_at lw_m5 88 rfl) rfl
theorem q1121 : (Jvm.Cond.code ({ cls := "RosaryCarvers$Shop", name := "goesDay", desc := "()I" } : Jvm.MethodName) prog_30_method_26_code (4 : Nat) (Option.some Jvm.ClassFile.FieldType.int)) ∈ lw_all := lw_g (lw_at lw_m5 89 rfl) rfl
theorem q1122 : (Jvm.Cond.methodLink "RosaryCarvers$Shop" (292 : Nat) ({ cls := "java/lang/Math", name := "max", desc := "(II)I" } : Jvm.MethodName)) ∈ lw_all := lw_g (lw_at lw_m5 90 rfl) rfl
theorem q1123 : (Jvm.Cond.methodLink "RosaryCarvers$Shop" (295 : Nat) ({ cls := "RosaryCarvers$Shop", name := "comeBack", desc := "()V" } : Jvm.MethodName)) ∈ lw_all := lw_g (lw_at lw_m5 91 rfl) rfl
theorem q1124 : (Jvm.Cond.privateMethod ({ cls := "RosaryCarvers$Shop", name := "comeBack", desc := "()V" } : Jvm.MethodName)) ∈ lw_tbl := lw_at lw_m5 92 rfl
theorem q1125 : (Jvm.Cond.instanceMethod ({ cls := "RosaryCarvers$Shop", name := "comeBack", desc := "()V" } : Jvm.MethodName)) ∈ lw_all := lw_g (lw_at lw_m5 93 rfl) rfl
theorem q1126 : (Jvm.Cond.code ({ cls := "RosaryCarvers$Shop", name := "comeBack", desc := "()V" } : Jvm.MethodName) prog_30_method_24_code (4 : Nat) (Option.none : Option Jvm.ClassFile.FieldType)) ∈ lw_all := lw_g (lw_at lw_m5 94 rfl) rfl
theorem q1127 : (Jvm.Cond.methodLink "RosaryCarvers$Shop" (265 : Nat) ({ cls := "RosaryCarvers$Sold", name := "last", desc := "()I" } : Jvm.MethodName)) ∈ lw_all := lw_g (lw_at lw_m5 95 rfl) rfl
theorem q1156 : (Jvm.Cond.interfaceEntry "RosaryCarvers$Shop" (268 : Nat)) ∈ lw_tbl := lw_at lw_m5 124 rfl
theorem q1157 : (Jvm.Cond.methodLink "RosaryCarvers$Shop" (268 : Nat) ({ cls := "java/util/Iterator", name := "remove", desc := "()V" } : Jvm.MethodName)) ∈ lw_all := lw_g (lw_at lw_m5 125 rfl) rfl
theorem q1218 : (Jvm.Cond.methodLink "RosaryCarvers$Shop" (270 : Nat) ({ cls := "RosaryCarvers$Sold", name := "weakest", desc := "()LRosaryCarvers$Bead;" } : Jvm.MethodName)) ∈ lw_all := lw_g (lw_at lw_m5 186 rfl) rfl
theorem q1229 : (Jvm.Cond.methodLink "RosaryCarvers$Shop" (273 : Nat) ({ cls := "RosaryCarvers$Sold", name := "<init>", desc := "(LRosaryCarvers$Sold;LRosaryCarvers$Bead;)V" } : Jvm.MethodName)) ∈ lw_all := lw_g (lw_at lw_m5 197 rfl) rfl
theorem q1242 : (Jvm.Cond.fieldLinkNest "RosaryCarvers$Shop" (283 : Nat) "RosaryCarvers$Sold" "broken" "LRosaryCarvers$Bead;" "RosaryCarvers") ∈ lw_tbl := lw_at lw_m5 210 rfl
theorem q1250 : (Jvm.Cond.methodLink "RosaryCarvers$Shop" (299 : Nat) ({ cls := "RosaryCarvers$Shop", name := "buys", desc := "(LRosaryCarvers$Pilgrim;)Z" } : Jvm.MethodName)) ∈ lw_all := lw_g (lw_at lw_m5 218 rfl) rfl
theorem q1251 : (Jvm.Cond.privateMethod ({ cls := "RosaryCarvers$Shop", name := "buys", desc := "(LRosaryCarvers$Pilgrim;)Z" } : Jvm.MethodName)) ∈ lw_tbl := lw_at lw_m5 219 rfl
theorem q1252 : (Jvm.Cond.instanceMethod ({ cls := "RosaryCarvers$Shop", name := "buys", desc := "(LRosaryCarvers$Pilgrim;)Z" } : Jvm.MethodName)) ∈ lw_all := lw_g (lw_at lw_m5 220 rfl) rfl
theorem q1253 : (Jvm.Cond.code ({ cls := "RosaryCarvers$Shop", name := "buys", desc := "(LRosaryCarvers$Pilgrim;)Z" } : Jvm.MethodName) prog_30_method_23_code (3 : Nat) (Option.some Jvm.ClassFile.FieldType.boolean)) ∈ lw_all := lw_g (lw_at lw_m5 221 rfl) rfl
theorem q1254 : (Jvm.Cond.methodLink "RosaryCarvers$Shop" (252 : Nat) ({ cls := "RosaryCarvers$Shop", name := "wanted", desc := "(LRosaryCarvers$Pilgrim;)I" } : Jvm.MethodName)) ∈ lw_all := lw_g (lw_at lw_m5 222 rfl) rfl
theorem q1255 : (Jvm.Cond.instanceMethod ({ cls := "RosaryCarvers$Shop", name := "wanted", desc := "(LRosaryCarvers$Pilgrim;)I" } : Jvm.MethodName)) ∈ lw_all := lw_g (lw_at lw_m5 223 rfl) rfl
theorem q1256 : (Jvm.Cond.selects "RosaryCarvers$Shop" ({ cls := "RosaryCarvers$Shop", name := "wanted", desc := "(LRosaryCarvers$Pilgrim;)I" } : Jvm.MethodName) ({ cls := "RosaryCarvers$Shop", name := "wanted", desc := "(LRosaryCarvers$Pilgrim;)I" } : Jvm.MethodName)) ∈ lw_all := lw_g (lw_at lw_m5 224 rfl) rfl
theorem q1257 : (Jvm.Cond.code ({ cls := "RosaryCarvers$Shop", name := "wanted", desc := "(LRosaryCarvers$Pilgrim;)I" } : Jvm.MethodName) prog_30_method_22_code (5 : Nat) (Option.some Jvm.ClassFile.FieldType.int)) ∈ lw_all := lw_g (lw_at lw_m5 225 rfl) rfl
theorem q1258 : (Jvm.Cond.methodLink "RosaryCarvers$Shop" (247 : Nat) ({ cls := "RosaryCarvers$Rosary", name := "fineness", desc := "()I" } : Jvm.MethodName)) ∈ lw_all := lw_g (lw_at lw_m5 226 rfl) rfl
theorem q1261 : (Jvm.Cond.methodLink "RosaryCarvers$Shop" (261 : Nat) ({ cls := "RosaryCarvers$Sold", name := "<init>", desc := "(LRosaryCarvers$Beads;I)V" } : Jvm.MethodName)) ∈ lw_all := lw_g (lw_at lw_m5 229 rfl) rfl
theorem q1361 : (Jvm.Cond.instanceMethod ({ cls := "RosaryCarvers$Shop", name := "isCarver", desc := "(I)Z" } : Jvm.MethodName)) ∈ lw_all := lw_g (lw_at lw_m6 89 rfl) rfl
theorem q1362 : (Jvm.Cond.selects "RosaryCarvers$Shop" ({ cls := "RosaryCarvers$Shop", name := "isCarver", desc := "(I)Z" } : Jvm.MethodName) ({ cls := "RosaryCarvers$Shop", name := "isCarver", desc := "(I)Z" } : Jvm.MethodName)) ∈ lw_all := lw_g (lw_at lw_m6 90 rfl) rfl
theorem q1363 : (Jvm.Cond.code ({ cls := "RosaryCarvers$Shop", name := "isCarver", desc := "(I)Z" } : Jvm.MethodName) prog_30_method_3_code (2 : Nat) (Option.some Jvm.ClassFile.FieldType.boolean)) ∈ lw_all := lw_g (lw_at lw_m6 91 rfl) rfl
theorem q1364 : (Jvm.Cond.methodLinkNest "RosaryCarvers$Shop" (124 : Nat) ({ cls := "RosaryCarvers", name := "in", desc := "(III)Z" } : Jvm.MethodName) "RosaryCarvers") ∈ lw_tbl := lw_at lw_m6 92 rfl
theorem q1386 : (Jvm.Cond.instanceMethod ({ cls := "RosaryCarvers$Shop", name := "carves", desc := "(IZI)I" } : Jvm.MethodName)) ∈ lw_all := lw_g (lw_at lw_m6 114 rfl) rfl
theorem q1387 : (Jvm.Cond.selects "RosaryCarvers$Shop" ({ cls := "RosaryCarvers$Shop", name := "carves", desc := "(IZI)I" } : Jvm.MethodName) ({ cls := "RosaryCarvers$Shop", name := "carves", desc := "(IZI)I" } : Jvm.MethodName)) ∈ lw_all := lw_g (lw_at lw_m6 115 rfl) rfl
theorem q1388 : (Jvm.Cond.code ({ cls := "RosaryCarvers$Shop", name := "carves", desc := "(IZI)I" } : Jvm.MethodName) prog_30_method_13_code (8 : Nat) (Option.some Jvm.ClassFile.FieldType.int)) ∈ lw_all := lw_g (lw_at lw_m6 116 rfl) rfl
theorem q1389 : (Jvm.Cond.methodLink "RosaryCarvers$Shop" (172 : Nat) ({ cls := "RosaryCarvers$Beads", name := "size", desc := "()I" } : Jvm.MethodName)) ∈ lw_all := lw_g (lw_at lw_m6 117 rfl) rfl
theorem q1390 : (Jvm.Cond.methodLink "RosaryCarvers$Shop" (173 : Nat) ({ cls := "RosaryCarvers$Shop", name := "carvesOne", desc := "(IZ)Z" } : Jvm.MethodName)) ∈ lw_all := lw_g (lw_at lw_m6 118 rfl) rfl
theorem q1391 : (Jvm.Cond.privateMethod ({ cls := "RosaryCarvers$Shop", name := "carvesOne", desc := "(IZ)Z" } : Jvm.MethodName)) ∈ lw_tbl := lw_at lw_m6 119 rfl
theorem q1392 : (Jvm.Cond.instanceMethod ({ cls := "RosaryCarvers$Shop", name := "carvesOne", desc := "(IZ)Z" } : Jvm.MethodName)) ∈ lw_all := lw_g (lw_at lw_m6 120 rfl) rfl
theorem q1393 : (Jvm.Cond.code ({ cls := "RosaryCarvers$Shop", name := "carvesOne", desc := "(IZ)Z" } : Jvm.MethodName) prog_30_method_12_code (6 : Nat) (Option.some Jvm.ClassFile.FieldType.boolean)) ∈ lw_all := lw_g (lw_at lw_m6 121 rfl) rfl
theorem q1394 : (Jvm.Cond.methodLink "RosaryCarvers$Shop" (158 : Nat) ({ cls := "RosaryCarvers$Shop", name := "sight", desc := "(I)I" } : Jvm.MethodName)) ∈ lw_all := lw_g (lw_at lw_m6 122 rfl) rfl
theorem q1395 : (Jvm.Cond.instanceMethod ({ cls := "RosaryCarvers$Shop", name := "sight", desc := "(I)I" } : Jvm.MethodName)) ∈ lw_all := lw_g (lw_at lw_m6 123 rfl) rfl
theorem q1396 : (Jvm.Cond.selects "RosaryCarvers$Shop" ({ cls := "RosaryCarvers$Shop", name := "sight", desc := "(I)I" } : Jvm.MethodName) ({ cls := "RosaryCarvers$Shop", name := "sight", desc := "(I)I" } : Jvm.MethodName)) ∈ lw_all := lw_g (lw_at lw_m6 124 rfl) rfl
theorem q1397 : (Jvm.Cond.code ({ cls := "RosaryCarvers$Shop", name := "sight", desc := "(I)I" } : Jvm.MethodName) prog_30_method_11_code (4 : Nat) (Option.some Jvm.ClassFile.FieldType.int)) ∈ lw_all := lw_g (lw_at lw_m6 125 rfl) rfl
theorem q1398 : (Jvm.Cond.methodLink "RosaryCarvers$Shop" (145 : Nat) ({ cls := "RosaryCarvers$Shop", name := "lensOf", desc := "(I)I" } : Jvm.MethodName)) ∈ lw_all := lw_g (lw_at lw_m6 126 rfl) rfl
theorem q1399 : (Jvm.Cond.instanceMethod ({ cls := "RosaryCarvers$Shop", name := "lensOf", desc := "(I)I" } : Jvm.MethodName)) ∈ lw_all := lw_g (lw_at lw_m6 127 rfl) rfl
theorem q1400 : (Jvm.Cond.selects "RosaryCarvers$Shop" ({ cls := "RosaryCarvers$Shop", name := "lensOf", desc := "(I)I" } : Jvm.MethodName) ({ cls := "RosaryCarvers$Shop", name := "lensOf", desc := "(I)I" } : Jvm.MethodName)) ∈ lw_all := lw_g (lw_at lw_m6 128 rfl) rfl
theorem q1401 : (Jvm.Cond.code ({ cls := "RosaryCarvers$Shop", name := "lensOf", desc := "(I)I" } : Jvm.MethodName) prog_30_method_9_code (3 : Nat) (Option.some Jvm.ClassFile.FieldType.int)) ∈ lw_all := lw_g (lw_at lw_m6 129 rfl) rfl
theorem q1403 : (Jvm.Cond.methodLink "RosaryCarvers$Shop" (163 : Nat) ({ cls := "RosaryCarvers$Bead", name := "<init>", desc := "(IZI)V" } : Jvm.MethodName)) ∈ lw_all := lw_g (lw_at lw_m6 131 rfl) rfl
theorem q1408 : (Jvm.Cond.fieldLinkNest "RosaryCarvers$Shop" (219 : Nat) "RosaryCarvers$Bead" "number" "I" "RosaryCarvers") ∈ lw_tbl := lw_at lw_m6 136 rfl
theorem q1412 : (Jvm.Cond.fieldLinkNest "RosaryCarvers$Shop" (286 : Nat) "RosaryCarvers$Bead" "isLarge" "Z" "RosaryCarvers") ∈ lw_tbl := lw_at lw_m6 140 rfl
theorem q1423 : (Jvm.Cond.methodLink "RosaryCarvers$Shop" (166 : Nat) ({ cls := "RosaryCarvers$Beads", name := "adds", desc := "(LRosaryCarvers$Bead;)V" } : Jvm.MethodName)) ∈ lw_all := lw_g (lw_at lw_m6 151 rfl) rfl
theorem q1435 : (Jvm.Cond.instanceMethod ({ cls := "RosaryCarvers$Shop", name := "begins", desc := "(II)I" } : Jvm.MethodName)) ∈ lw_all := lw_g (lw_at lw_m6 163 rfl) rfl
theorem q1436 : (Jvm.Cond.selects "RosaryCarvers$Shop" ({ cls := "RosaryCarvers$Shop", name := "begins", desc := "(II)I" } : Jvm.MethodName) ({ cls := "RosaryCarvers$Shop", name := "begins", desc := "(II)I" } : Jvm.MethodName)) ∈ lw_all := lw_g (lw_at lw_m6 164 rfl) rfl
theorem q1437 : (Jvm.Cond.code ({ cls := "RosaryCarvers$Shop", name := "begins", desc := "(II)I" } : Jvm.MethodName) prog_30_method_14_code (3 : Nat) (Option.some Jvm.ClassFile.FieldType.int)) ∈ lw_all := lw_g (lw_at lw_m6 165 rfl) rfl
theorem q1438 : (Jvm.Cond.methodLink "RosaryCarvers$Shop" (181 : Nat) ({ cls := "RosaryCarvers$Rosary", name := "<init>", desc := "(II)V" } : Jvm.MethodName)) ∈ lw_all := lw_g (lw_at lw_m6 166 rfl) rfl
theorem q1440 : (Jvm.Cond.instanceMethod ({ cls := "RosaryCarvers$Shop", name := "isString", desc := "(I)Z" } : Jvm.MethodName)) ∈ lw_all := lw_g (lw_at lw_m6 168 rfl) rfl
theorem q1441 : (Jvm.Cond.selects "RosaryCarvers$Shop" ({ cls := "RosaryCarvers$Shop", name := "isString", desc := "(I)Z" } : Jvm.MethodName) ({ cls := "RosaryCarvers$Shop", name := "isString", desc := "(I)Z" } : Jvm.MethodName)) ∈ lw_all := lw_g (lw_at lw_m6 169 rfl) rfl
theorem q1442 : (Jvm.Cond.code ({ cls := "RosaryCarvers$Shop", name := "isString", desc := "(I)Z" } : Jvm.MethodName) prog_30_method_5_code (2 : Nat) (Option.some Jvm.ClassFile.FieldType.boolean)) ∈ lw_all := lw_g (lw_at lw_m6 170 rfl) rfl
theorem q1444 : (Jvm.Cond.instanceMethod ({ cls := "RosaryCarvers$Shop", name := "threads", desc := "(II)I" } : Jvm.MethodName)) ∈ lw_all := lw_g (lw_at lw_m6 172 rfl) rfl
theorem q1445 : (Jvm.Cond.selects "RosaryCarvers$Shop" ({ cls := "RosaryCarvers$Shop", name := "threads", desc := "(II)I" } : Jvm.MethodName) ({ cls := "RosaryCarvers$Shop", name := "threads", desc := "(II)I" } : Jvm.MethodName)) ∈ lw_all := lw_g (lw_at lw_m6 173 rfl) rfl
theorem q1446 : (Jvm.Cond.code ({ cls := "RosaryCarvers$Shop", name := "threads", desc := "(II)I" } : Jvm.MethodName) prog_30_method_18_code (5 : Nat) (Option.some Jvm.ClassFile.FieldType.int)) ∈ lw_all := lw_g (lw_at lw_m6 174 rfl) rfl
theorem q1447 : (Jvm.Cond.methodLink "RosaryCarvers$Shop" (222 : Nat) ({ cls := "RosaryCarvers$Shop", name := "threads", desc := "(I)I" } : Jvm.MethodName)) ∈ lw_all := lw_g (lw_at lw_m6 175 rfl) rfl
theorem q1448 : (Jvm.Cond.instanceMethod ({ cls := "RosaryCarvers$Shop", name := "threads", desc := "(I)I" } : Jvm.MethodName)) ∈ lw_all := lw_g (lw_at lw_m6 176 rfl) rfl
theorem q1449 : (Jvm.Cond.selects "RosaryCarvers$Shop" ({ cls := "RosaryCarvers$Shop", name := "threads", desc := "(I)I" } : Jvm.MethodName) ({ cls := "RosaryCarvers$Shop", name := "threads", desc := "(I)I" } : Jvm.MethodName)) ∈ lw_all := lw_g (lw_at lw_m6 177 rfl) rfl
theorem q1450 : (Jvm.Cond.code ({ cls := "RosaryCarvers$Shop", name := "threads", desc := "(I)I" } : Jvm.MethodName) prog_30_method_17_code (4 : Nat) (Option.some Jvm.ClassFile.FieldType.int)) ∈ lw_all := lw_g (lw_at lw_m6 178 rfl) rfl
theorem q1451 : (Jvm.Cond.methodLink "RosaryCarvers$Shop" (206 : Nat) ({ cls := "RosaryCarvers$Rosary", name := "isWhole", desc := "()Z" } : Jvm.MethodName)) ∈ lw_all := lw_g (lw_at lw_m6 179 rfl) rfl
theorem q1462 : (Jvm.Cond.methodLink "RosaryCarvers$Shop" (212 : Nat) ({ cls := "RosaryCarvers$Rosary", name := "wantsLarge", desc := "()Z" } : Jvm.MethodName)) ∈ lw_all := lw_g (lw_at lw_m6 190 rfl) rfl
theorem q1466 : (Jvm.Cond.methodLink "RosaryCarvers$Shop" (218 : Nat) ({ cls := "RosaryCarvers$Rosary", name := "adds", desc := "(LRosaryCarvers$Bead;)V" } : Jvm.MethodName)) ∈ lw_all := lw_g (lw_at lw_m6 194 rfl) rfl
theorem q1471 : (Jvm.Cond.instanceMethod ({ cls := "RosaryCarvers$Shop", name := "ties", desc := "(I)I" } : Jvm.MethodName)) ∈ lw_all := lw_g (lw_at lw_m6 199 rfl) rfl
theorem q1472 : (Jvm.Cond.selects "RosaryCarvers$Shop" ({ cls := "RosaryCarvers$Shop", name := "ties", desc := "(I)I" } : Jvm.MethodName) ({ cls := "RosaryCarvers$Shop", name := "ties", desc := "(I)I" } : Jvm.MethodName)) ∈ lw_all := lw_g (lw_at lw_m6 200 rfl) rfl
theorem q1473 : (Jvm.Cond.code ({ cls := "RosaryCarvers$Shop", name := "ties", desc := "(I)I" } : Jvm.MethodName) prog_30_method_19_code (3 : Nat) (Option.some Jvm.ClassFile.FieldType.int)) ∈ lw_all := lw_g (lw_at lw_m6 201 rfl) rfl
theorem q1474 : (Jvm.Cond.methodLink "RosaryCarvers$Shop" (228 : Nat) ({ cls := "RosaryCarvers$Rosary", name := "loose", desc := "()I" } : Jvm.MethodName)) ∈ lw_all := lw_g (lw_at lw_m6 202 rfl) rfl
theorem q1476 : (Jvm.Cond.instanceMethod ({ cls := "RosaryCarvers$Shop", name := "drops", desc := "(I)I" } : Jvm.MethodName)) ∈ lw_all := lw_g (lw_at lw_m6 204 rfl) rfl
theorem q1477 : (Jvm.Cond.selects "RosaryCarvers$Shop" ({ cls := "RosaryCarvers$Shop", name := "drops", desc := "(I)I" } : Jvm.MethodName) ({ cls := "RosaryCarvers$Shop", name := "drops", desc := "(I)I" } : Jvm.MethodName)) ∈ lw_all := lw_g (lw_at lw_m6 205 rfl) rfl
theorem q1478 : (Jvm.Cond.code ({ cls := "RosaryCarvers$Shop", name := "drops", desc := "(I)I" } : Jvm.MethodName) prog_30_method_20_code (5 : Nat) (Option.some Jvm.ClassFile.FieldType.int)) ∈ lw_all := lw_g (lw_at lw_m6 206 rfl) rfl
theorem q1479 : (Jvm.Cond.methodLink "RosaryCarvers$Shop" (231 : Nat) ({ cls := "RosaryCarvers$Rosary", name := "drops", desc := "()LRosaryCarvers$Bead;" } : Jvm.MethodName)) ∈ lw_all := lw_g (lw_at lw_m6 207 rfl) rfl
theorem q1497 : (Jvm.Cond.instanceMethod ({ cls := "RosaryCarvers$Shop", name := "adds", desc := "(LRosaryCarvers$Carver;)I" } : Jvm.MethodName)) ∈ lw_all := lw_g (lw_at lw_m6 225 rfl) rfl
theorem q1498 : (Jvm.Cond.selects "RosaryCarvers$Shop" ({ cls := "RosaryCarvers$Shop", name := "adds", desc := "(LRosaryCarvers$Carver;)I" } : Jvm.MethodName) ({ cls := "RosaryCarvers$Shop", name := "adds", desc := "(LRosaryCarvers$Carver;)I" } : Jvm.MethodName)) ∈ lw_all := lw_g (lw_at lw_m6 226 rfl) rfl
theorem q1499 : (Jvm.Cond.code ({ cls := "RosaryCarvers$Shop", name := "adds", desc := "(LRosaryCarvers$Carver;)I" } : Jvm.MethodName) prog_30_method_7_code (2 : Nat) (Option.some Jvm.ClassFile.FieldType.int)) ∈ lw_all := lw_g (lw_at lw_m6 227 rfl) rfl
theorem q1506 : (Jvm.Cond.instanceMethod ({ cls := "RosaryCarvers$Shop", name := "adds", desc := "(LRosaryCarvers$Lens;)I" } : Jvm.MethodName)) ∈ lw_all := lw_g (lw_at lw_m6 234 rfl) rfl
theorem q1507 : (Jvm.Cond.selects "RosaryCarvers$Shop" ({ cls := "RosaryCarvers$Shop", name := "adds", desc := "(LRosaryCarvers$Lens;)I" } : Jvm.MethodName) ({ cls := "RosaryCarvers$Shop", name := "adds", desc := "(LRosaryCarvers$Lens;)I" } : Jvm.MethodName)) ∈ lw_all := lw_g (lw_at lw_m6 235 rfl) rfl
theorem q1508 : (Jvm.Cond.code ({ cls := "RosaryCarvers$Shop", name := "adds", desc := "(LRosaryCarvers$Lens;)I" } : Jvm.MethodName) prog_30_method_8_code (2 : Nat) (Option.some Jvm.ClassFile.FieldType.int)) ∈ lw_all := lw_g (lw_at lw_m6 236 rfl) rfl
theorem q1513 : (Jvm.Cond.instanceMethod ({ cls := "RosaryCarvers$Shop", name := "gives", desc := "(II)I" } : Jvm.MethodName)) ∈ lw_all := lw_g (lw_at lw_m7 1 rfl) rfl
theorem q1514 : (Jvm.Cond.selects "RosaryCarvers$Shop" ({ cls := "RosaryCarvers$Shop", name := "gives", desc := "(II)I" } : Jvm.MethodName) ({ cls := "RosaryCarvers$Shop", name := "gives", desc := "(II)I" } : Jvm.MethodName)) ∈ lw_all := lw_g (lw_at lw_m7 2 rfl) rfl
theorem q1515 : (Jvm.Cond.code ({ cls := "RosaryCarvers$Shop", name := "gives", desc := "(II)I" } : Jvm.MethodName) prog_30_method_10_code (5 : Nat) (Option.some Jvm.ClassFile.FieldType.int)) ∈ lw_all := lw_g (lw_at lw_m7 3 rfl) rfl
theorem q1610 : (Jvm.Cond.instanceMethod ({ cls := "RosaryCarvers$Shop", name := "isLens", desc := "(I)Z" } : Jvm.MethodName)) ∈ lw_all := lw_g (lw_at lw_m7 98 rfl) rfl
theorem q1611 : (Jvm.Cond.selects "RosaryCarvers$Shop" ({ cls := "RosaryCarvers$Shop", name := "isLens", desc := "(I)Z" } : Jvm.MethodName) ({ cls := "RosaryCarvers$Shop", name := "isLens", desc := "(I)Z" } : Jvm.MethodName)) ∈ lw_all := lw_g (lw_at lw_m7 99 rfl) rfl
theorem q1612 : (Jvm.Cond.code ({ cls := "RosaryCarvers$Shop", name := "isLens", desc := "(I)Z" } : Jvm.MethodName) prog_30_method_4_code (2 : Nat) (Option.some Jvm.ClassFile.FieldType.boolean)) ∈ lw_all := lw_g (lw_at lw_m7 100 rfl) rfl
theorem q2809 : (Jvm.Cond.castable "RosaryCarvers$Shop" "java/lang/Object") ∈ lw_tbl := lw_at lw_m12 97 rfl
theorem in_X1 : ∀ w ∈ wsX10, w ∈ lw_all := lw_in wsX10 [247, 249, 251, 253, 255, 257, 259, 261, 263, 265, 267, 269, 271, 273, 275, 277, 279] (by decide +kernel) (by decide +kernel)
