/-! RosaryCarvers$Beads -/
set_option maxRecDepth 100000
def RX2 : String := "RosaryCarvers$Beads"
def TX2 : u_T := fun k => match k with
  | _ => ("RosaryCarvers$Beads", "beads", "Ljava/util/ArrayList;", true)
def tyX2 : Nat → FieldType := fun k => match k with
  | _ => .object "java/util/ArrayList"
abbrev wsX20 : List Cond := u_ws RX2 TX2 1
theorem nmX2 : ∀ a, a < 1 → ∀ b, b < 1 → a ≠ b → (TX2 a).2.1 ≠ (TX2 b).2.1 := by decide +kernel
theorem tyX2_ok : ∀ k, k < 1 → parseFieldDescriptor (TX2 k).2.2.1 = some (tyX2 k) := by decide +kernel
abbrev cX2_init : ByteArray := prog_17_method_1_code
def yX2_init : MethodName := ⟨RX2, "<init>", "()V"⟩
def dkwX2_init_0 : List UInt8 := [42, 183, 0, 1, 42, 187, 0, 7, 89, 183, 0, 9, 181, 0, 10, 177]
abbrev dktX2_init_0 : List UInt8 := dkwX2_init_0 ++ []
theorem dksX2_init_0 : cX2_init.data.toList.drop 0 = dktX2_init_0 := by decide +kernel
theorem dX2_init_0 : decode cX2_init 0 = .ok (.aload_n 0, 1) := dk_42 (dk_at dksX2_init_0 0 rfl rfl)
theorem dX2_init_1 : decode cX2_init 1 = .ok (.invokespecial 1, 3) := dk_183 0 1 (dk_at dksX2_init_0 1 rfl rfl)
theorem dX2_init_4 : decode cX2_init 4 = .ok (.aload_n 0, 1) := dk_42 (dk_at dksX2_init_0 4 rfl rfl)
theorem dX2_init_5 : decode cX2_init 5 = .ok (.new 7, 3) := dk_187 0 7 (dk_at dksX2_init_0 5 rfl rfl)
theorem dX2_init_8 : decode cX2_init 8 = .ok (.dup, 1) := dk_89 (dk_at dksX2_init_0 8 rfl rfl)
theorem dX2_init_9 : decode cX2_init 9 = .ok (.invokespecial 9, 3) := dk_183 0 9 (dk_at dksX2_init_0 9 rfl rfl)
theorem dX2_init_12 : decode cX2_init 12 = .ok (.putfield 10, 3) := dk_181 0 10 (dk_at dksX2_init_0 12 rfl rfl)
theorem dX2_init_15 : decode cX2_init 15 = .ok (.return_, 1) := dk_177 (dk_at dksX2_init_0 15 rfl rfl)
abbrev cX2_becomes : ByteArray := prog_17_method_2_code
def yX2_becomes : MethodName := ⟨RX2, "becomes", "(LRosaryCarvers$Beads;)V"⟩
def dkwX2_becomes_0 : List UInt8 := [42, 180, 0, 10, 43, 180, 0, 10, 182, 0, 16, 87, 177]
abbrev dktX2_becomes_0 : List UInt8 := dkwX2_becomes_0 ++ []
theorem dksX2_becomes_0 : cX2_becomes.data.toList.drop 0 = dktX2_becomes_0 := by decide +kernel
theorem dX2_becomes_0 : decode cX2_becomes 0 = .ok (.aload_n 0, 1) := dk_42 (dk_at dksX2_becomes_0 0 rfl rfl)
theorem dX2_becomes_1 : decode cX2_becomes 1 = .ok (.getfield 10, 3) := dk_180 0 10 (dk_at dksX2_becomes_0 1 rfl rfl)
theorem dX2_becomes_4 : decode cX2_becomes 4 = .ok (.aload_n 1, 1) := dk_43 (dk_at dksX2_becomes_0 4 rfl rfl)
theorem dX2_becomes_5 : decode cX2_becomes 5 = .ok (.getfield 10, 3) := dk_180 0 10 (dk_at dksX2_becomes_0 5 rfl rfl)
theorem dX2_becomes_8 : decode cX2_becomes 8 = .ok (.invokevirtual 16, 3) := dk_182 0 16 (dk_at dksX2_becomes_0 8 rfl rfl)
theorem dX2_becomes_11 : decode cX2_becomes 11 = .ok (.pop, 1) := dk_87 (dk_at dksX2_becomes_0 11 rfl rfl)
theorem dX2_becomes_12 : decode cX2_becomes 12 = .ok (.return_, 1) := dk_177 (dk_at dksX2_becomes_0 12 rfl rfl)
abbrev cX2_finest : ByteArray := prog_17_method_9_code
def yX2_finest : MethodName := ⟨RX2, "finest", "(Z)LRosaryCarvers$Bead;"⟩
def dkwX2_finest_2 : List UInt8 := [25, 4, 167, 0, 4, 44, 77, 167, 255, 216, 44, 176]
abbrev dktX2_finest_2 : List UInt8 := dkwX2_finest_2 ++ []
def dkwX2_finest_1 : List UInt8 := [185, 0, 58, 1, 0, 192, 0, 62, 58, 4, 44, 198, 0, 12, 25, 4, 44, 182, 0, 64, 153, 0, 8]
abbrev dktX2_finest_1 : List UInt8 := dkwX2_finest_1 ++ dktX2_finest_2
def dkwX2_finest_0 : List UInt8 := [1, 77, 42, 27, 182, 0, 46, 185, 0, 50, 1, 0, 78, 45, 185, 0, 53, 1, 0, 153, 0, 37, 45]
abbrev dktX2_finest_0 : List UInt8 := dkwX2_finest_0 ++ dktX2_finest_1
theorem dksX2_finest_0 : cX2_finest.data.toList.drop 0 = dktX2_finest_0 := by decide +kernel
theorem dksX2_finest_1 : cX2_finest.data.toList.drop 23 = dktX2_finest_1 := dk_seg dksX2_finest_0 23 rfl rfl
theorem dksX2_finest_2 : cX2_finest.data.toList.drop 46 = dktX2_finest_2 := dk_seg dksX2_finest_1 23 rfl rfl
theorem dX2_finest_0 : decode cX2_finest 0 = .ok (.aconst_null, 1) := dk_1 (dk_at dksX2_finest_0 0 rfl rfl)
theorem dX2_finest_1 : decode cX2_finest 1 = .ok (.astore_n 2, 1) := dk_77 (dk_at dksX2_finest_0 1 rfl rfl)
theorem dX2_finest_2 : decode cX2_finest 2 = .ok (.aload_n 0, 1) := dk_42 (dk_at dksX2_finest_0 2 rfl rfl)
theorem dX2_finest_3 : decode cX2_finest 3 = .ok (.iload_n 1, 1) := dk_27 (dk_at dksX2_finest_0 3 rfl rfl)
theorem dX2_finest_4 : decode cX2_finest 4 = .ok (.invokevirtual 46, 3) := dk_182 0 46 (dk_at dksX2_finest_0 4 rfl rfl)
theorem dX2_finest_7 : decode cX2_finest 7 = .ok (.invokeinterface 50 1, 5) := by decide +kernel
theorem dX2_finest_12 : decode cX2_finest 12 = .ok (.astore_n 3, 1) := dk_78 (dk_at dksX2_finest_0 12 rfl rfl)
theorem dX2_finest_13 : decode cX2_finest 13 = .ok (.aload_n 3, 1) := dk_45 (dk_at dksX2_finest_0 13 rfl rfl)
theorem dX2_finest_14 : decode cX2_finest 14 = .ok (.invokeinterface 53 1, 5) := by decide +kernel
theorem dX2_finest_19 : decode cX2_finest 19 = .ok (.ifCond .eq 37, 3) := dk_153 0 37 (dk_at dksX2_finest_0 19 rfl rfl)
theorem dX2_finest_22 : decode cX2_finest 22 = .ok (.aload_n 3, 1) := dk_45 (dk_at dksX2_finest_0 22 rfl rfl)
theorem dX2_finest_23 : decode cX2_finest 23 = .ok (.invokeinterface 58 1, 5) := by decide +kernel
theorem dX2_finest_28 : decode cX2_finest 28 = .ok (.checkcast 62, 3) := dk_192 0 62 (dk_at dksX2_finest_1 5 rfl rfl)
theorem dX2_finest_31 : decode cX2_finest 31 = .ok (.astore 4, 2) := dk_58 4 (dk_at dksX2_finest_1 8 rfl rfl)
theorem dX2_finest_33 : decode cX2_finest 33 = .ok (.aload_n 2, 1) := dk_44 (dk_at dksX2_finest_1 10 rfl rfl)
theorem dX2_finest_34 : decode cX2_finest 34 = .ok (.ifnull 12, 3) := dk_198 0 12 (dk_at dksX2_finest_1 11 rfl rfl)
theorem dX2_finest_37 : decode cX2_finest 37 = .ok (.aload 4, 2) := dk_25 4 (dk_at dksX2_finest_1 14 rfl rfl)
theorem dX2_finest_39 : decode cX2_finest 39 = .ok (.aload_n 2, 1) := dk_44 (dk_at dksX2_finest_1 16 rfl rfl)
theorem dX2_finest_40 : decode cX2_finest 40 = .ok (.invokevirtual 64, 3) := dk_182 0 64 (dk_at dksX2_finest_1 17 rfl rfl)
theorem dX2_finest_43 : decode cX2_finest 43 = .ok (.ifCond .eq 8, 3) := dk_153 0 8 (dk_at dksX2_finest_1 20 rfl rfl)
theorem dX2_finest_46 : decode cX2_finest 46 = .ok (.aload 4, 2) := dk_25 4 (dk_at dksX2_finest_2 0 rfl rfl)
theorem dX2_finest_48 : decode cX2_finest 48 = .ok (.goto 4, 3) := dk_167 0 4 (dk_at dksX2_finest_2 2 rfl rfl)
theorem dX2_finest_51 : decode cX2_finest 51 = .ok (.aload_n 2, 1) := dk_44 (dk_at dksX2_finest_2 5 rfl rfl)
theorem dX2_finest_52 : decode cX2_finest 52 = .ok (.astore_n 2, 1) := dk_77 (dk_at dksX2_finest_2 6 rfl rfl)
theorem dX2_finest_53 : decode cX2_finest 53 = .ok (.goto (-40), 3) := dk_167 255 216 (dk_at dksX2_finest_2 7 rfl rfl)
theorem dX2_finest_56 : decode cX2_finest 56 = .ok (.aload_n 2, 1) := dk_44 (dk_at dksX2_finest_2 10 rfl rfl)
theorem dX2_finest_57 : decode cX2_finest 57 = .ok (.areturn, 1) := dk_176 (dk_at dksX2_finest_2 11 rfl rfl)
abbrev cX2_of : ByteArray := prog_17_method_7_code
def yX2_of : MethodName := ⟨RX2, "of", "(Z)Ljava/lang/Iterable;"⟩
def dkwX2_of_0 : List UInt8 := [187, 0, 41, 89, 42, 27, 183, 0, 43, 176]
abbrev dktX2_of_0 : List UInt8 := dkwX2_of_0 ++ []
theorem dksX2_of_0 : cX2_of.data.toList.drop 0 = dktX2_of_0 := by decide +kernel
theorem dX2_of_0 : decode cX2_of 0 = .ok (.new 41, 3) := dk_187 0 41 (dk_at dksX2_of_0 0 rfl rfl)
theorem dX2_of_3 : decode cX2_of 3 = .ok (.dup, 1) := dk_89 (dk_at dksX2_of_0 3 rfl rfl)
theorem dX2_of_4 : decode cX2_of 4 = .ok (.aload_n 0, 1) := dk_42 (dk_at dksX2_of_0 4 rfl rfl)
theorem dX2_of_5 : decode cX2_of 5 = .ok (.iload_n 1, 1) := dk_27 (dk_at dksX2_of_0 5 rfl rfl)
theorem dX2_of_6 : decode cX2_of 6 = .ok (.invokespecial 43, 3) := dk_183 0 43 (dk_at dksX2_of_0 6 rfl rfl)
theorem dX2_of_9 : decode cX2_of 9 = .ok (.areturn, 1) := dk_176 (dk_at dksX2_of_0 9 rfl rfl)
abbrev cX2_iterator : ByteArray := prog_17_method_6_code
def yX2_iterator : MethodName := ⟨RX2, "iterator", "()Ljava/util/Iterator;"⟩
def dkwX2_iterator_0 : List UInt8 := [42, 180, 0, 10, 182, 0, 37, 176]
abbrev dktX2_iterator_0 : List UInt8 := dkwX2_iterator_0 ++ []
theorem dksX2_iterator_0 : cX2_iterator.data.toList.drop 0 = dktX2_iterator_0 := by decide +kernel
theorem dX2_iterator_0 : decode cX2_iterator 0 = .ok (.aload_n 0, 1) := dk_42 (dk_at dksX2_iterator_0 0 rfl rfl)
theorem dX2_iterator_1 : decode cX2_iterator 1 = .ok (.getfield 10, 3) := dk_180 0 10 (dk_at dksX2_iterator_0 1 rfl rfl)
theorem dX2_iterator_4 : decode cX2_iterator 4 = .ok (.invokevirtual 37, 3) := dk_182 0 37 (dk_at dksX2_iterator_0 4 rfl rfl)
theorem dX2_iterator_7 : decode cX2_iterator 7 = .ok (.areturn, 1) := dk_176 (dk_at dksX2_iterator_0 7 rfl rfl)
abbrev cX2_many : ByteArray := prog_17_method_8_code
def yX2_many : MethodName := ⟨RX2, "many", "(Z)I"⟩
def dkwX2_many_1 : List UInt8 := [185, 0, 58, 1, 0, 192, 0, 62, 58, 4, 132, 2, 1, 167, 255, 233, 28, 172]
abbrev dktX2_many_1 : List UInt8 := dkwX2_many_1 ++ []
def dkwX2_many_0 : List UInt8 := [3, 61, 42, 27, 182, 0, 46, 185, 0, 50, 1, 0, 78, 45, 185, 0, 53, 1, 0, 153, 0, 20, 45]
abbrev dktX2_many_0 : List UInt8 := dkwX2_many_0 ++ dktX2_many_1
theorem dksX2_many_0 : cX2_many.data.toList.drop 0 = dktX2_many_0 := by decide +kernel
theorem dksX2_many_1 : cX2_many.data.toList.drop 23 = dktX2_many_1 := dk_seg dksX2_many_0 23 rfl rfl
theorem dX2_many_0 : decode cX2_many 0 = .ok (.iconst 0, 1) := dk_3 (dk_at dksX2_many_0 0 rfl rfl)
theorem dX2_many_1 : decode cX2_many 1 = .ok (.istore_n 2, 1) := dk_61 (dk_at dksX2_many_0 1 rfl rfl)
theorem dX2_many_2 : decode cX2_many 2 = .ok (.aload_n 0, 1) := dk_42 (dk_at dksX2_many_0 2 rfl rfl)
theorem dX2_many_3 : decode cX2_many 3 = .ok (.iload_n 1, 1) := dk_27 (dk_at dksX2_many_0 3 rfl rfl)
theorem dX2_many_4 : decode cX2_many 4 = .ok (.invokevirtual 46, 3) := dk_182 0 46 (dk_at dksX2_many_0 4 rfl rfl)
theorem dX2_many_7 : decode cX2_many 7 = .ok (.invokeinterface 50 1, 5) := by decide +kernel
theorem dX2_many_12 : decode cX2_many 12 = .ok (.astore_n 3, 1) := dk_78 (dk_at dksX2_many_0 12 rfl rfl)
theorem dX2_many_13 : decode cX2_many 13 = .ok (.aload_n 3, 1) := dk_45 (dk_at dksX2_many_0 13 rfl rfl)
theorem dX2_many_14 : decode cX2_many 14 = .ok (.invokeinterface 53 1, 5) := by decide +kernel
theorem dX2_many_19 : decode cX2_many 19 = .ok (.ifCond .eq 20, 3) := dk_153 0 20 (dk_at dksX2_many_0 19 rfl rfl)
theorem dX2_many_22 : decode cX2_many 22 = .ok (.aload_n 3, 1) := dk_45 (dk_at dksX2_many_0 22 rfl rfl)
theorem dX2_many_23 : decode cX2_many 23 = .ok (.invokeinterface 58 1, 5) := by decide +kernel
theorem dX2_many_28 : decode cX2_many 28 = .ok (.checkcast 62, 3) := dk_192 0 62 (dk_at dksX2_many_1 5 rfl rfl)
theorem dX2_many_31 : decode cX2_many 31 = .ok (.astore 4, 2) := dk_58 4 (dk_at dksX2_many_1 8 rfl rfl)
theorem dX2_many_33 : decode cX2_many 33 = .ok (.iinc 2 1, 3) := dk_132 2 1 (dk_at dksX2_many_1 10 rfl rfl)
theorem dX2_many_36 : decode cX2_many 36 = .ok (.goto (-23), 3) := dk_167 255 233 (dk_at dksX2_many_1 13 rfl rfl)
theorem dX2_many_39 : decode cX2_many 39 = .ok (.iload_n 2, 1) := dk_28 (dk_at dksX2_many_1 16 rfl rfl)
theorem dX2_many_40 : decode cX2_many 40 = .ok (.ireturn, 1) := dk_172 (dk_at dksX2_many_1 17 rfl rfl)
abbrev cX2_loses : ByteArray := prog_17_method_11_code
def yX2_loses : MethodName := ⟨RX2, "loses", "(LRosaryCarvers$Bead;)V"⟩
def dkwX2_loses_0 : List UInt8 := [42, 180, 0, 10, 43, 182, 0, 72, 61, 177]
abbrev dktX2_loses_0 : List UInt8 := dkwX2_loses_0 ++ []
theorem dksX2_loses_0 : cX2_loses.data.toList.drop 0 = dktX2_loses_0 := by decide +kernel
theorem dX2_loses_0 : decode cX2_loses 0 = .ok (.aload_n 0, 1) := dk_42 (dk_at dksX2_loses_0 0 rfl rfl)
theorem dX2_loses_1 : decode cX2_loses 1 = .ok (.getfield 10, 3) := dk_180 0 10 (dk_at dksX2_loses_0 1 rfl rfl)
theorem dX2_loses_4 : decode cX2_loses 4 = .ok (.aload_n 1, 1) := dk_43 (dk_at dksX2_loses_0 4 rfl rfl)
theorem dX2_loses_5 : decode cX2_loses 5 = .ok (.invokevirtual 72, 3) := dk_182 0 72 (dk_at dksX2_loses_0 5 rfl rfl)
theorem dX2_loses_8 : decode cX2_loses 8 = .ok (.istore_n 2, 1) := dk_61 (dk_at dksX2_loses_0 8 rfl rfl)
theorem dX2_loses_9 : decode cX2_loses 9 = .ok (.return_, 1) := dk_177 (dk_at dksX2_loses_0 9 rfl rfl)
abbrev cX2_size : ByteArray := prog_17_method_3_code
def yX2_size : MethodName := ⟨RX2, "size", "()I"⟩
def dkwX2_size_0 : List UInt8 := [42, 180, 0, 10, 182, 0, 20, 172]
abbrev dktX2_size_0 : List UInt8 := dkwX2_size_0 ++ []
theorem dksX2_size_0 : cX2_size.data.toList.drop 0 = dktX2_size_0 := by decide +kernel
theorem dX2_size_0 : decode cX2_size 0 = .ok (.aload_n 0, 1) := dk_42 (dk_at dksX2_size_0 0 rfl rfl)
theorem dX2_size_1 : decode cX2_size 1 = .ok (.getfield 10, 3) := dk_180 0 10 (dk_at dksX2_size_0 1 rfl rfl)
theorem dX2_size_4 : decode cX2_size 4 = .ok (.invokevirtual 20, 3) := dk_182 0 20 (dk_at dksX2_size_0 4 rfl rfl)
theorem dX2_size_7 : decode cX2_size 7 = .ok (.ireturn, 1) := dk_172 (dk_at dksX2_size_0 7 rfl rfl)
abbrev cX2_fineness : ByteArray := prog_17_method_5_code
def yX2_fineness : MethodName := ⟨RX2, "fineness", "()I"⟩
def dkwX2_fineness_0 : List UInt8 := [42, 180, 0, 10, 182, 0, 30, 153, 0, 7, 3, 167, 0, 12, 42, 182, 0, 34, 42, 182, 0, 36, 108, 172]
abbrev dktX2_fineness_0 : List UInt8 := dkwX2_fineness_0 ++ []
theorem dksX2_fineness_0 : cX2_fineness.data.toList.drop 0 = dktX2_fineness_0 := by decide +kernel
theorem dX2_fineness_0 : decode cX2_fineness 0 = .ok (.aload_n 0, 1) := dk_42 (dk_at dksX2_fineness_0 0 rfl rfl)
theorem dX2_fineness_1 : decode cX2_fineness 1 = .ok (.getfield 10, 3) := dk_180 0 10 (dk_at dksX2_fineness_0 1 rfl rfl)
theorem dX2_fineness_4 : decode cX2_fineness 4 = .ok (.invokevirtual 30, 3) := dk_182 0 30 (dk_at dksX2_fineness_0 4 rfl rfl)
theorem dX2_fineness_7 : decode cX2_fineness 7 = .ok (.ifCond .eq 7, 3) := dk_153 0 7 (dk_at dksX2_fineness_0 7 rfl rfl)
theorem dX2_fineness_10 : decode cX2_fineness 10 = .ok (.iconst 0, 1) := dk_3 (dk_at dksX2_fineness_0 10 rfl rfl)
theorem dX2_fineness_11 : decode cX2_fineness 11 = .ok (.goto 12, 3) := dk_167 0 12 (dk_at dksX2_fineness_0 11 rfl rfl)
theorem dX2_fineness_14 : decode cX2_fineness 14 = .ok (.aload_n 0, 1) := dk_42 (dk_at dksX2_fineness_0 14 rfl rfl)
theorem dX2_fineness_15 : decode cX2_fineness 15 = .ok (.invokevirtual 34, 3) := dk_182 0 34 (dk_at dksX2_fineness_0 15 rfl rfl)
theorem dX2_fineness_18 : decode cX2_fineness 18 = .ok (.aload_n 0, 1) := dk_42 (dk_at dksX2_fineness_0 18 rfl rfl)
theorem dX2_fineness_19 : decode cX2_fineness 19 = .ok (.invokevirtual 36, 3) := dk_182 0 36 (dk_at dksX2_fineness_0 19 rfl rfl)
theorem dX2_fineness_22 : decode cX2_fineness 22 = .ok (.idiv, 1) := dk_108 (dk_at dksX2_fineness_0 22 rfl rfl)
theorem dX2_fineness_23 : decode cX2_fineness 23 = .ok (.ireturn, 1) := dk_172 (dk_at dksX2_fineness_0 23 rfl rfl)
abbrev cX2_sum : ByteArray := prog_17_method_4_code
def yX2_sum : MethodName := ⟨RX2, "sum", "()I"⟩
theorem dX2_sum_0 : decode cX2_sum 0 = .ok (.aload_n 0, 1) := by decide +kernel
theorem dX2_sum_1 : decode cX2_sum 1 = .ok (.invokestatic 24, 3) := by decide +kernel
theorem dX2_sum_4 : decode cX2_sum 4 = .ok (.ireturn, 1) := by decide +kernel
abbrev cX2_adds : ByteArray := prog_17_method_10_code
def yX2_adds : MethodName := ⟨RX2, "adds", "(LRosaryCarvers$Bead;)V"⟩
def dkwX2_adds_0 : List UInt8 := [42, 180, 0, 10, 43, 182, 0, 68, 87, 177]
abbrev dktX2_adds_0 : List UInt8 := dkwX2_adds_0 ++ []
theorem dksX2_adds_0 : cX2_adds.data.toList.drop 0 = dktX2_adds_0 := by decide +kernel
theorem dX2_adds_0 : decode cX2_adds 0 = .ok (.aload_n 0, 1) := dk_42 (dk_at dksX2_adds_0 0 rfl rfl)
theorem dX2_adds_1 : decode cX2_adds 1 = .ok (.getfield 10, 3) := dk_180 0 10 (dk_at dksX2_adds_0 1 rfl rfl)
theorem dX2_adds_4 : decode cX2_adds 4 = .ok (.aload_n 1, 1) := dk_43 (dk_at dksX2_adds_0 4 rfl rfl)
theorem dX2_adds_5 : decode cX2_adds 5 = .ok (.invokevirtual 68, 3) := dk_182 0 68 (dk_at dksX2_adds_0 5 rfl rfl)
theorem dX2_adds_8 : decode cX2_adds 8 = .ok (.pop, 1) := dk_87 (dk_at dksX2_adds_0 8 rfl rfl)
theorem dX2_adds_9 : decode cX2_adds 9 = .ok (.return_, 1) := dk_177 (dk_at dksX2_adds_0 9 rfl rfl)
theorem q78 : (Jvm.Cond.initialized "RosaryCarvers$Beads") ∈ lw_all := lw_g (lw_at lw_m1 6 rfl) rfl
theorem q176 : (Jvm.Cond.instantiable "RosaryCarvers$Beads" (1 : Nat)) ∈ lw_all := lw_g (lw_at lw_m1 104 rfl) rfl
theorem q178 : (Jvm.Cond.instanceMethod ({ cls := "RosaryCarvers$Beads", name := "<init>", desc := "()V" } : Jvm.MethodName)) ∈ lw_all := lw_g (lw_at lw_m1 106 rfl) rfl
theorem q179 : (Jvm.Cond.code ({ cls := "RosaryCarvers$Beads", name := "<init>", desc := "()V" } : Jvm.MethodName) prog_17_method_1_code (1 : Nat) (Option.none : Option Jvm.ClassFile.FieldType)) ∈ lw_all := lw_g (lw_at lw_m1 107 rfl) rfl
theorem q180 : (Jvm.Cond.methodLink "RosaryCarvers$Beads" (1 : Nat) ({ cls := "java/lang/Object", name := "<init>", desc := "()V" } : Jvm.MethodName)) ∈ lw_all := lw_g (lw_at lw_m1 108 rfl) rfl
theorem q181 : (Jvm.Cond.classLink "RosaryCarvers$Beads" (7 : Nat) "java/util/ArrayList") ∈ lw_all := lw_g (lw_at lw_m1 109 rfl) rfl
theorem q182 : (Jvm.Cond.methodLink "RosaryCarvers$Beads" (9 : Nat) ({ cls := "java/util/ArrayList", name := "<init>", desc := "()V" } : Jvm.MethodName)) ∈ lw_all := lw_g (lw_at lw_m1 110 rfl) rfl
theorem q183 : (Jvm.Cond.fieldLink "RosaryCarvers$Beads" (10 : Nat) "RosaryCarvers$Beads" "beads" "Ljava/util/ArrayList;") ∈ lw_all := lw_g (lw_at lw_m1 111 rfl) rfl
theorem q186 : (Jvm.Cond.laysFinal "RosaryCarvers$Beads" "RosaryCarvers$Beads" "beads" "Ljava/util/ArrayList;") ∈ lw_all := lw_g (lw_at lw_m1 114 rfl) rfl
theorem q187 : (Jvm.Cond.soleField "RosaryCarvers$Beads" "beads") ∈ lw_all := lw_g (lw_at lw_m1 115 rfl) rfl
theorem q188 : (Jvm.Cond.superclass "RosaryCarvers$Beads" "java/lang/Object") ∈ lw_all := lw_g (lw_at lw_m1 116 rfl) rfl
theorem q620 : (Jvm.Cond.selects "RosaryCarvers$Beads" ({ cls := "java/lang/Object", name := "getClass", desc := "()Ljava/lang/Class;" } : Jvm.MethodName) ({ cls := "java/lang/Object", name := "getClass", desc := "()Ljava/lang/Class;" } : Jvm.MethodName)) ∈ lw_all := lw_g (lw_at lw_m3 68 rfl) rfl
theorem q680 : (Jvm.Cond.instanceMethod ({ cls := "RosaryCarvers$Beads", name := "becomes", desc := "(LRosaryCarvers$Beads;)V" } : Jvm.MethodName)) ∈ lw_all := lw_g (lw_at lw_m3 128 rfl) rfl
theorem q681 : (Jvm.Cond.selects "RosaryCarvers$Beads" ({ cls := "RosaryCarvers$Beads", name := "becomes", desc := "(LRosaryCarvers$Beads;)V" } : Jvm.MethodName) ({ cls := "RosaryCarvers$Beads", name := "becomes", desc := "(LRosaryCarvers$Beads;)V" } : Jvm.MethodName)) ∈ lw_all := lw_g (lw_at lw_m3 129 rfl) rfl
theorem q682 : (Jvm.Cond.sameMethod "RosaryCarvers$Beads" "RosaryCarvers$Beads" "becomes" "(LRosaryCarvers$Beads;)V") ∈ lw_all := lw_g (lw_at lw_m3 130 rfl) rfl
theorem q685 : (Jvm.Cond.code ({ cls := "RosaryCarvers$Beads", name := "becomes", desc := "(LRosaryCarvers$Beads;)V" } : Jvm.MethodName) prog_17_method_2_code (2 : Nat) (Option.none : Option Jvm.ClassFile.FieldType)) ∈ lw_all := lw_g (lw_at lw_m3 133 rfl) rfl
theorem q686 : (Jvm.Cond.methodLink "RosaryCarvers$Beads" (16 : Nat) ({ cls := "java/util/ArrayList", name := "addAll", desc := "(Ljava/util/Collection;)Z" } : Jvm.MethodName)) ∈ lw_all := lw_g (lw_at lw_m3 134 rfl) rfl
theorem q744 : (Jvm.Cond.declares ({ cls := "RosaryCarvers$Beads", name := "becomes", desc := "(LRosaryCarvers$Beads;)V" } : Jvm.MethodName)) ∈ lw_tbl := lw_at lw_m3 192 rfl
theorem q875 : (Jvm.Cond.instanceMethod ({ cls := "RosaryCarvers$Beads", name := "finest", desc := "(Z)LRosaryCarvers$Bead;" } : Jvm.MethodName)) ∈ lw_all := lw_g (lw_at lw_m4 83 rfl) rfl
theorem q876 : (Jvm.Cond.selects "RosaryCarvers$Beads" ({ cls := "RosaryCarvers$Beads", name := "finest", desc := "(Z)LRosaryCarvers$Bead;" } : Jvm.MethodName) ({ cls := "RosaryCarvers$Beads", name := "finest", desc := "(Z)LRosaryCarvers$Bead;" } : Jvm.MethodName)) ∈ lw_all := lw_g (lw_at lw_m4 84 rfl) rfl
theorem q877 : (Jvm.Cond.sameMethod "RosaryCarvers$Beads" "RosaryCarvers$Beads" "finest" "(Z)LRosaryCarvers$Bead;") ∈ lw_all := lw_g (lw_at lw_m4 85 rfl) rfl
theorem q880 : (Jvm.Cond.code ({ cls := "RosaryCarvers$Beads", name := "finest", desc := "(Z)LRosaryCarvers$Bead;" } : Jvm.MethodName) prog_17_method_9_code (5 : Nat) (Option.some (Jvm.ClassFile.FieldType.object "RosaryCarvers$Bead"))) ∈ lw_all := lw_g (lw_at lw_m4 88 rfl) rfl
theorem q881 : (Jvm.Cond.methodLink "RosaryCarvers$Beads" (46 : Nat) ({ cls := "RosaryCarvers$Beads", name := "of", desc := "(Z)Ljava/lang/Iterable;" } : Jvm.MethodName)) ∈ lw_all := lw_g (lw_at lw_m4 89 rfl) rfl
theorem q882 : (Jvm.Cond.instanceMethod ({ cls := "RosaryCarvers$Beads", name := "of", desc := "(Z)Ljava/lang/Iterable;" } : Jvm.MethodName)) ∈ lw_all := lw_g (lw_at lw_m4 90 rfl) rfl
theorem q883 : (Jvm.Cond.selects "RosaryCarvers$Beads" ({ cls := "RosaryCarvers$Beads", name := "of", desc := "(Z)Ljava/lang/Iterable;" } : Jvm.MethodName) ({ cls := "RosaryCarvers$Beads", name := "of", desc := "(Z)Ljava/lang/Iterable;" } : Jvm.MethodName)) ∈ lw_all := lw_g (lw_at lw_m4 91 rfl) rfl
theorem q884 : (Jvm.Cond.sameMethod "RosaryCarvers$Beads" "RosaryCarvers$Beads" "of" "(Z)Ljava/lang/Iterable;") ∈ lw_all := lw_g (lw_at lw_m4 92 rfl) rfl
theorem q887 : (Jvm.Cond.code ({ cls := "RosaryCarvers$Beads", name := "of", desc := "(Z)Ljava/lang/Iterable;" } : Jvm.MethodName) prog_17_method_7_code (2 : Nat) (Option.some (Jvm.ClassFile.FieldType.object "java/lang/Iterable"))) ∈ lw_all := lw_g (lw_at lw_m4 95 rfl) rfl
theorem q888 : (Jvm.Cond.classLink "RosaryCarvers$Beads" (41 : Nat) "RosaryCarvers$Beads$1") ∈ lw_all := lw_g (lw_at lw_m4 96 rfl) rfl
theorem q890 : (Jvm.Cond.methodLink "RosaryCarvers$Beads" (43 : Nat) ({ cls := "RosaryCarvers$Beads$1", name := "<init>", desc := "(LRosaryCarvers$Beads;Z)V" } : Jvm.MethodName)) ∈ lw_all := lw_g (lw_at lw_m4 98 rfl) rfl
theorem q901 : (Jvm.Cond.interfaceEntry "RosaryCarvers$Beads" (50 : Nat)) ∈ lw_tbl := lw_at lw_m4 109 rfl
theorem q902 : (Jvm.Cond.methodLink "RosaryCarvers$Beads" (50 : Nat) ({ cls := "java/lang/Iterable", name := "iterator", desc := "()Ljava/util/Iterator;" } : Jvm.MethodName)) ∈ lw_all := lw_g (lw_at lw_m4 110 rfl) rfl
theorem q905 : (Jvm.Cond.castable "RosaryCarvers$Beads" "java/lang/Iterable") ∈ lw_tbl := lw_at lw_m4 113 rfl
theorem q906 : (Jvm.Cond.selects "RosaryCarvers$Beads" ({ cls := "java/lang/Iterable", name := "iterator", desc := "()Ljava/util/Iterator;" } : Jvm.MethodName) ({ cls := "RosaryCarvers$Beads", name := "iterator", desc := "()Ljava/util/Iterator;" } : Jvm.MethodName)) ∈ lw_all := lw_g (lw_at lw_m4 114 rfl) rfl
theorem q907 : (Jvm.Cond.unhidden "RosaryCarvers$Beads" "iterator" "()Ljava/util/Iterator;") ∈ lw_tbl := lw_at lw_m4 115 rfl
theorem q908 : (Jvm.Cond.instanceMethod ({ cls := "RosaryCarvers$Beads", name := "iterator", desc := "()Ljava/util/Iterator;" } : Jvm.MethodName)) ∈ lw_all := lw_g (lw_at lw_m4 116 rfl) rfl
theorem q909 : (Jvm.Cond.publicMethod ({ cls := "RosaryCarvers$Beads", name := "iterator", desc := "()Ljava/util/Iterator;" } : Jvm.MethodName)) ∈ lw_tbl := lw_at lw_m4 117 rfl
theorem q910 : (Jvm.Cond.code ({ cls := "RosaryCarvers$Beads", name := "iterator", desc := "()Ljava/util/Iterator;" } : Jvm.MethodName) prog_17_method_6_code (1 : Nat) (Option.some (Jvm.ClassFile.FieldType.object "java/util/Iterator"))) ∈ lw_all := lw_g (lw_at lw_m4 118 rfl) rfl
theorem q911 : (Jvm.Cond.methodLink "RosaryCarvers$Beads" (37 : Nat) ({ cls := "java/util/ArrayList", name := "iterator", desc := "()Ljava/util/Iterator;" } : Jvm.MethodName)) ∈ lw_all := lw_g (lw_at lw_m4 119 rfl) rfl
theorem q975 : (Jvm.Cond.interfaceEntry "RosaryCarvers$Beads" (53 : Nat)) ∈ lw_tbl := lw_at lw_m4 183 rfl
theorem q976 : (Jvm.Cond.methodLink "RosaryCarvers$Beads" (53 : Nat) ({ cls := "java/util/Iterator", name := "hasNext", desc := "()Z" } : Jvm.MethodName)) ∈ lw_all := lw_g (lw_at lw_m4 184 rfl) rfl
theorem q977 : (Jvm.Cond.interfaceEntry "RosaryCarvers$Beads" (58 : Nat)) ∈ lw_tbl := lw_at lw_m4 185 rfl
theorem q978 : (Jvm.Cond.methodLink "RosaryCarvers$Beads" (58 : Nat) ({ cls := "java/util/Iterator", name := "next", desc := "()Ljava/lang/Object;" } : Jvm.MethodName)) ∈ lw_all := lw_g (lw_at lw_m4 186 rfl) rfl
theorem q979 : (Jvm.Cond.classLink "RosaryCarvers$Beads" (62 : Nat) "RosaryCarvers$Bead") ∈ lw_all := lw_g (lw_at lw_m4 187 rfl) rfl
theorem q1019 : (Jvm.Cond.declares ({ cls := "RosaryCarvers$Beads", name := "many", desc := "(Z)I" } : Jvm.MethodName)) ∈ lw_tbl := lw_at lw_m4 227 rfl
theorem q1021 : (Jvm.Cond.instanceMethod ({ cls := "RosaryCarvers$Beads", name := "many", desc := "(Z)I" } : Jvm.MethodName)) ∈ lw_all := lw_g (lw_at lw_m4 229 rfl) rfl
theorem q1022 : (Jvm.Cond.code ({ cls := "RosaryCarvers$Beads", name := "many", desc := "(Z)I" } : Jvm.MethodName) prog_17_method_8_code (5 : Nat) (Option.some Jvm.ClassFile.FieldType.int)) ∈ lw_all := lw_g (lw_at lw_m4 230 rfl) rfl
theorem q1026 : (Jvm.Cond.instanceMethod ({ cls := "RosaryCarvers$Beads", name := "loses", desc := "(LRosaryCarvers$Bead;)V" } : Jvm.MethodName)) ∈ lw_all := lw_g (lw_at lw_m4 234 rfl) rfl
theorem q1027 : (Jvm.Cond.selects "RosaryCarvers$Beads" ({ cls := "RosaryCarvers$Beads", name := "loses", desc := "(LRosaryCarvers$Bead;)V" } : Jvm.MethodName) ({ cls := "RosaryCarvers$Beads", name := "loses", desc := "(LRosaryCarvers$Bead;)V" } : Jvm.MethodName)) ∈ lw_all := lw_g (lw_at lw_m4 235 rfl) rfl
theorem q1028 : (Jvm.Cond.sameMethod "RosaryCarvers$Beads" "RosaryCarvers$Beads" "loses" "(LRosaryCarvers$Bead;)V") ∈ lw_all := lw_g (lw_at lw_m4 236 rfl) rfl
theorem q1031 : (Jvm.Cond.code ({ cls := "RosaryCarvers$Beads", name := "loses", desc := "(LRosaryCarvers$Bead;)V" } : Jvm.MethodName) prog_17_method_11_code (3 : Nat) (Option.none : Option Jvm.ClassFile.FieldType)) ∈ lw_all := lw_g (lw_at lw_m4 239 rfl) rfl
theorem q1032 : (Jvm.Cond.methodLink "RosaryCarvers$Beads" (72 : Nat) ({ cls := "java/util/ArrayList", name := "remove", desc := "(Ljava/lang/Object;)Z" } : Jvm.MethodName)) ∈ lw_all := lw_g (lw_at lw_m5 0 rfl) rfl
theorem q1056 : (Jvm.Cond.selects "RosaryCarvers$Beads" ({ cls := "java/lang/Object", name := "equals", desc := "(Ljava/lang/Object;)Z" } : Jvm.MethodName) ({ cls := "java/lang/Object", name := "equals", desc := "(Ljava/lang/Object;)Z" } : Jvm.MethodName)) ∈ lw_all := lw_g (lw_at lw_m5 24 rfl) rfl
theorem q1101 : (Jvm.Cond.declares ({ cls := "RosaryCarvers$Beads", name := "iterator", desc := "()Ljava/util/Iterator;" } : Jvm.MethodName)) ∈ lw_tbl := lw_at lw_m5 69 rfl
theorem q1106 : (Jvm.Cond.declares ({ cls := "RosaryCarvers$Beads", name := "size", desc := "()I" } : Jvm.MethodName)) ∈ lw_tbl := lw_at lw_m5 74 rfl
theorem q1108 : (Jvm.Cond.instanceMethod ({ cls := "RosaryCarvers$Beads", name := "size", desc := "()I" } : Jvm.MethodName)) ∈ lw_all := lw_g (lw_at lw_m5 76 rfl) rfl
theorem q1109 : (Jvm.Cond.code ({ cls := "RosaryCarvers$Beads", name := "size", desc := "()I" } : Jvm.MethodName) prog_17_method_3_code (1 : Nat) (Option.some Jvm.ClassFile.FieldType.int)) ∈ lw_all := lw_g (lw_at lw_m5 77 rfl) rfl
theorem q1110 : (Jvm.Cond.methodLink "RosaryCarvers$Beads" (20 : Nat) ({ cls := "java/util/ArrayList", name := "size", desc := "()I" } : Jvm.MethodName)) ∈ lw_all := lw_g (lw_at lw_m5 78 rfl) rfl
theorem q1133 : (Jvm.Cond.declares ({ cls := "RosaryCarvers$Beads", name := "fineness", desc := "()I" } : Jvm.MethodName)) ∈ lw_tbl := lw_at lw_m5 101 rfl
theorem q1135 : (Jvm.Cond.instanceMethod ({ cls := "RosaryCarvers$Beads", name := "fineness", desc := "()I" } : Jvm.MethodName)) ∈ lw_all := lw_g (lw_at lw_m5 103 rfl) rfl
theorem q1136 : (Jvm.Cond.code ({ cls := "RosaryCarvers$Beads", name := "fineness", desc := "()I" } : Jvm.MethodName) prog_17_method_5_code (1 : Nat) (Option.some Jvm.ClassFile.FieldType.int)) ∈ lw_all := lw_g (lw_at lw_m5 104 rfl) rfl
theorem q1137 : (Jvm.Cond.methodLink "RosaryCarvers$Beads" (30 : Nat) ({ cls := "java/util/ArrayList", name := "isEmpty", desc := "()Z" } : Jvm.MethodName)) ∈ lw_all := lw_g (lw_at lw_m5 105 rfl) rfl
theorem q1138 : (Jvm.Cond.methodLink "RosaryCarvers$Beads" (34 : Nat) ({ cls := "RosaryCarvers$Beads", name := "sum", desc := "()I" } : Jvm.MethodName)) ∈ lw_all := lw_g (lw_at lw_m5 106 rfl) rfl
theorem q1139 : (Jvm.Cond.instanceMethod ({ cls := "RosaryCarvers$Beads", name := "sum", desc := "()I" } : Jvm.MethodName)) ∈ lw_all := lw_g (lw_at lw_m5 107 rfl) rfl
theorem q1140 : (Jvm.Cond.selects "RosaryCarvers$Beads" ({ cls := "RosaryCarvers$Beads", name := "sum", desc := "()I" } : Jvm.MethodName) ({ cls := "RosaryCarvers$Beads", name := "sum", desc := "()I" } : Jvm.MethodName)) ∈ lw_all := lw_g (lw_at lw_m5 108 rfl) rfl
theorem q1141 : (Jvm.Cond.sameMethod "RosaryCarvers$Beads" "RosaryCarvers$Beads" "sum" "()I") ∈ lw_all := lw_g (lw_at lw_m5 109 rfl) rfl
theorem q1144 : (Jvm.Cond.code ({ cls := "RosaryCarvers$Beads", name := "sum", desc := "()I" } : Jvm.MethodName) prog_17_method_4_code (1 : Nat) (Option.some Jvm.ClassFile.FieldType.int)) ∈ lw_all := lw_g (lw_at lw_m5 112 rfl) rfl
theorem q1145 : (Jvm.Cond.methodLink "RosaryCarvers$Beads" (24 : Nat) ({ cls := "RosaryCarvers$Fine", name := "sum", desc := "(Ljava/lang/Iterable;)I" } : Jvm.MethodName)) ∈ lw_all := lw_g (lw_at lw_m5 113 rfl) rfl
theorem q1155 : (Jvm.Cond.methodLink "RosaryCarvers$Beads" (36 : Nat) ({ cls := "RosaryCarvers$Beads", name := "size", desc := "()I" } : Jvm.MethodName)) ∈ lw_all := lw_g (lw_at lw_m5 123 rfl) rfl
theorem q1238 : (Jvm.Cond.declares ({ cls := "RosaryCarvers$Beads", name := "loses", desc := "(LRosaryCarvers$Bead;)V" } : Jvm.MethodName)) ∈ lw_tbl := lw_at lw_m5 206 rfl
theorem q1424 : (Jvm.Cond.instanceMethod ({ cls := "RosaryCarvers$Beads", name := "adds", desc := "(LRosaryCarvers$Bead;)V" } : Jvm.MethodName)) ∈ lw_all := lw_g (lw_at lw_m6 152 rfl) rfl
theorem q1425 : (Jvm.Cond.selects "RosaryCarvers$Beads" ({ cls := "RosaryCarvers$Beads", name := "adds", desc := "(LRosaryCarvers$Bead;)V" } : Jvm.MethodName) ({ cls := "RosaryCarvers$Beads", name := "adds", desc := "(LRosaryCarvers$Bead;)V" } : Jvm.MethodName)) ∈ lw_all := lw_g (lw_at lw_m6 153 rfl) rfl
theorem q1426 : (Jvm.Cond.sameMethod "RosaryCarvers$Beads" "RosaryCarvers$Beads" "adds" "(LRosaryCarvers$Bead;)V") ∈ lw_all := lw_g (lw_at lw_m6 154 rfl) rfl
theorem q1429 : (Jvm.Cond.code ({ cls := "RosaryCarvers$Beads", name := "adds", desc := "(LRosaryCarvers$Bead;)V" } : Jvm.MethodName) prog_17_method_10_code (2 : Nat) (Option.none : Option Jvm.ClassFile.FieldType)) ∈ lw_all := lw_g (lw_at lw_m6 157 rfl) rfl
theorem q1430 : (Jvm.Cond.methodLink "RosaryCarvers$Beads" (68 : Nat) ({ cls := "java/util/ArrayList", name := "add", desc := "(Ljava/lang/Object;)Z" } : Jvm.MethodName)) ∈ lw_all := lw_g (lw_at lw_m6 158 rfl) rfl
theorem q1468 : (Jvm.Cond.declares ({ cls := "RosaryCarvers$Beads", name := "adds", desc := "(LRosaryCarvers$Bead;)V" } : Jvm.MethodName)) ∈ lw_tbl := lw_at lw_m6 196 rfl
theorem q2785 : (Jvm.Cond.sameMethod "RosaryCarvers$Beads" "RosaryCarvers$Beads" "size" "()I") ∈ lw_all := lw_g (lw_at lw_m12 73 rfl) rfl
theorem q2786 : (Jvm.Cond.selects "RosaryCarvers$Beads" ({ cls := "RosaryCarvers$Beads", name := "size", desc := "()I" } : Jvm.MethodName) ({ cls := "RosaryCarvers$Beads", name := "size", desc := "()I" } : Jvm.MethodName)) ∈ lw_all := lw_g (lw_at lw_m12 74 rfl) rfl
theorem q2791 : (Jvm.Cond.sameMethod "RosaryCarvers$Beads" "RosaryCarvers$Beads" "many" "(Z)I") ∈ lw_all := lw_g (lw_at lw_m12 79 rfl) rfl
theorem q2792 : (Jvm.Cond.selects "RosaryCarvers$Beads" ({ cls := "RosaryCarvers$Beads", name := "many", desc := "(Z)I" } : Jvm.MethodName) ({ cls := "RosaryCarvers$Beads", name := "many", desc := "(Z)I" } : Jvm.MethodName)) ∈ lw_all := lw_g (lw_at lw_m12 80 rfl) rfl
theorem q2795 : (Jvm.Cond.sameMethod "RosaryCarvers$Beads" "RosaryCarvers$Beads" "iterator" "()Ljava/util/Iterator;") ∈ lw_all := lw_g (lw_at lw_m12 83 rfl) rfl
theorem q2796 : (Jvm.Cond.selects "RosaryCarvers$Beads" ({ cls := "RosaryCarvers$Beads", name := "iterator", desc := "()Ljava/util/Iterator;" } : Jvm.MethodName) ({ cls := "RosaryCarvers$Beads", name := "iterator", desc := "()Ljava/util/Iterator;" } : Jvm.MethodName)) ∈ lw_all := lw_g (lw_at lw_m12 84 rfl) rfl
theorem q2811 : (Jvm.Cond.castable "RosaryCarvers$Beads" "java/lang/Object") ∈ lw_tbl := lw_at lw_m12 99 rfl
theorem in_X2 : ∀ w ∈ wsX20, w ∈ lw_all := lw_in wsX20 [186] (by decide +kernel) (by decide +kernel)

/-! RosaryCarvers$Deed -/
set_option maxRecDepth 100000
def RX4 : String := "RosaryCarvers$Deed"
abbrev cX4_init : ByteArray := prog_22_method_1_code
def yX4_init : MethodName := ⟨RX4, "<init>", "(LRosaryCarvers;)V"⟩
def dkwX4_init_0 : List UInt8 := [42, 43, 181, 0, 3, 42, 183, 0, 9, 177]
abbrev dktX4_init_0 : List UInt8 := dkwX4_init_0 ++ []
theorem dksX4_init_0 : cX4_init.data.toList.drop 0 = dktX4_init_0 := by decide +kernel
theorem dX4_init_0 : decode cX4_init 0 = .ok (.aload_n 0, 1) := dk_42 (dk_at dksX4_init_0 0 rfl rfl)
theorem dX4_init_1 : decode cX4_init 1 = .ok (.aload_n 1, 1) := dk_43 (dk_at dksX4_init_0 1 rfl rfl)
theorem dX4_init_2 : decode cX4_init 2 = .ok (.putfield 3, 3) := dk_181 0 3 (dk_at dksX4_init_0 2 rfl rfl)
theorem dX4_init_5 : decode cX4_init 5 = .ok (.aload_n 0, 1) := dk_42 (dk_at dksX4_init_0 5 rfl rfl)
theorem dX4_init_6 : decode cX4_init 6 = .ok (.invokespecial 9, 3) := dk_183 0 9 (dk_at dksX4_init_0 6 rfl rfl)
theorem dX4_init_9 : decode cX4_init 9 = .ok (.return_, 1) := dk_177 (dk_at dksX4_init_0 9 rfl rfl)
abbrev cX4_done : ByteArray := prog_22_method_3_code
def yX4_done : MethodName := ⟨RX4, "done", "()I"⟩
def dkwX4_done_3 : List UInt8 := [180, 0, 3, 43, 181, 0, 17, 28, 172, 77, 42, 180, 0, 3, 44, 181, 0, 48, 16, 251, 172]
abbrev dktX4_done_3 : List UInt8 := dkwX4_done_3 ++ []
def dkwX4_done_2 : List UInt8 := [182, 0, 38, 16, 8, 164, 0, 17, 42, 180, 0, 3, 180, 0, 28, 182, 0, 42, 192, 0, 15, 78, 42]
abbrev dktX4_done_2 : List UInt8 := dkwX4_done_2 ++ dktX4_done_3
def dkwX4_done_1 : List UInt8 := [180, 0, 3, 180, 0, 28, 42, 180, 0, 3, 180, 0, 17, 182, 0, 32, 42, 180, 0, 3, 180, 0, 28]
abbrev dktX4_done_1 : List UInt8 := dkwX4_done_1 ++ dktX4_done_2
def dkwX4_done_0 : List UInt8 := [187, 0, 15, 89, 42, 180, 0, 3, 180, 0, 17, 183, 0, 21, 76, 42, 43, 182, 0, 24, 61, 42]
abbrev dktX4_done_0 : List UInt8 := dkwX4_done_0 ++ dktX4_done_1
theorem dksX4_done_0 : cX4_done.data.toList.drop 0 = dktX4_done_0 := by decide +kernel
theorem dksX4_done_1 : cX4_done.data.toList.drop 22 = dktX4_done_1 := dk_seg dksX4_done_0 22 rfl rfl
theorem dksX4_done_2 : cX4_done.data.toList.drop 45 = dktX4_done_2 := dk_seg dksX4_done_1 23 rfl rfl
theorem dksX4_done_3 : cX4_done.data.toList.drop 68 = dktX4_done_3 := dk_seg dksX4_done_2 23 rfl rfl
theorem dX4_done_0 : decode cX4_done 0 = .ok (.new 15, 3) := dk_187 0 15 (dk_at dksX4_done_0 0 rfl rfl)
theorem dX4_done_3 : decode cX4_done 3 = .ok (.dup, 1) := dk_89 (dk_at dksX4_done_0 3 rfl rfl)
theorem dX4_done_4 : decode cX4_done 4 = .ok (.aload_n 0, 1) := dk_42 (dk_at dksX4_done_0 4 rfl rfl)
theorem dX4_done_5 : decode cX4_done 5 = .ok (.getfield 3, 3) := dk_180 0 3 (dk_at dksX4_done_0 5 rfl rfl)
theorem dX4_done_8 : decode cX4_done 8 = .ok (.getfield 17, 3) := dk_180 0 17 (dk_at dksX4_done_0 8 rfl rfl)
theorem dX4_done_11 : decode cX4_done 11 = .ok (.invokespecial 21, 3) := dk_183 0 21 (dk_at dksX4_done_0 11 rfl rfl)
theorem dX4_done_14 : decode cX4_done 14 = .ok (.astore_n 1, 1) := dk_76 (dk_at dksX4_done_0 14 rfl rfl)
theorem dX4_done_15 : decode cX4_done 15 = .ok (.aload_n 0, 1) := dk_42 (dk_at dksX4_done_0 15 rfl rfl)
theorem dX4_done_16 : decode cX4_done 16 = .ok (.aload_n 1, 1) := dk_43 (dk_at dksX4_done_0 16 rfl rfl)
theorem dX4_done_17 : decode cX4_done 17 = .ok (.invokevirtual 24, 3) := dk_182 0 24 (dk_at dksX4_done_0 17 rfl rfl)
theorem dX4_done_20 : decode cX4_done 20 = .ok (.istore_n 2, 1) := dk_61 (dk_at dksX4_done_0 20 rfl rfl)
theorem dX4_done_21 : decode cX4_done 21 = .ok (.aload_n 0, 1) := dk_42 (dk_at dksX4_done_0 21 rfl rfl)
theorem dX4_done_22 : decode cX4_done 22 = .ok (.getfield 3, 3) := dk_180 0 3 (dk_at dksX4_done_1 0 rfl rfl)
theorem dX4_done_25 : decode cX4_done 25 = .ok (.getfield 28, 3) := dk_180 0 28 (dk_at dksX4_done_1 3 rfl rfl)
theorem dX4_done_28 : decode cX4_done 28 = .ok (.aload_n 0, 1) := dk_42 (dk_at dksX4_done_1 6 rfl rfl)
theorem dX4_done_29 : decode cX4_done 29 = .ok (.getfield 3, 3) := dk_180 0 3 (dk_at dksX4_done_1 7 rfl rfl)
theorem dX4_done_32 : decode cX4_done 32 = .ok (.getfield 17, 3) := dk_180 0 17 (dk_at dksX4_done_1 10 rfl rfl)
theorem dX4_done_35 : decode cX4_done 35 = .ok (.invokevirtual 32, 3) := dk_182 0 32 (dk_at dksX4_done_1 13 rfl rfl)
theorem dX4_done_38 : decode cX4_done 38 = .ok (.aload_n 0, 1) := dk_42 (dk_at dksX4_done_1 16 rfl rfl)
theorem dX4_done_39 : decode cX4_done 39 = .ok (.getfield 3, 3) := dk_180 0 3 (dk_at dksX4_done_1 17 rfl rfl)
theorem dX4_done_42 : decode cX4_done 42 = .ok (.getfield 28, 3) := dk_180 0 28 (dk_at dksX4_done_1 20 rfl rfl)
theorem dX4_done_45 : decode cX4_done 45 = .ok (.invokevirtual 38, 3) := dk_182 0 38 (dk_at dksX4_done_2 0 rfl rfl)
theorem dX4_done_48 : decode cX4_done 48 = .ok (.bipush 8, 2) := dk_16 8 (dk_at dksX4_done_2 3 rfl rfl)
theorem dX4_done_50 : decode cX4_done 50 = .ok (.if_icmp .le 17, 3) := dk_164 0 17 (dk_at dksX4_done_2 5 rfl rfl)
theorem dX4_done_53 : decode cX4_done 53 = .ok (.aload_n 0, 1) := dk_42 (dk_at dksX4_done_2 8 rfl rfl)
theorem dX4_done_54 : decode cX4_done 54 = .ok (.getfield 3, 3) := dk_180 0 3 (dk_at dksX4_done_2 9 rfl rfl)
theorem dX4_done_57 : decode cX4_done 57 = .ok (.getfield 28, 3) := dk_180 0 28 (dk_at dksX4_done_2 12 rfl rfl)
theorem dX4_done_60 : decode cX4_done 60 = .ok (.invokevirtual 42, 3) := dk_182 0 42 (dk_at dksX4_done_2 15 rfl rfl)
theorem dX4_done_63 : decode cX4_done 63 = .ok (.checkcast 15, 3) := dk_192 0 15 (dk_at dksX4_done_2 18 rfl rfl)
theorem dX4_done_66 : decode cX4_done 66 = .ok (.astore_n 3, 1) := dk_78 (dk_at dksX4_done_2 21 rfl rfl)
theorem dX4_done_67 : decode cX4_done 67 = .ok (.aload_n 0, 1) := dk_42 (dk_at dksX4_done_2 22 rfl rfl)
theorem dX4_done_68 : decode cX4_done 68 = .ok (.getfield 3, 3) := dk_180 0 3 (dk_at dksX4_done_3 0 rfl rfl)
theorem dX4_done_71 : decode cX4_done 71 = .ok (.aload_n 1, 1) := dk_43 (dk_at dksX4_done_3 3 rfl rfl)
theorem dX4_done_72 : decode cX4_done 72 = .ok (.putfield 17, 3) := dk_181 0 17 (dk_at dksX4_done_3 4 rfl rfl)
theorem dX4_done_75 : decode cX4_done 75 = .ok (.iload_n 2, 1) := dk_28 (dk_at dksX4_done_3 7 rfl rfl)
theorem dX4_done_76 : decode cX4_done 76 = .ok (.ireturn, 1) := dk_172 (dk_at dksX4_done_3 8 rfl rfl)
theorem dX4_done_77 : decode cX4_done 77 = .ok (.astore_n 2, 1) := dk_77 (dk_at dksX4_done_3 9 rfl rfl)
theorem dX4_done_78 : decode cX4_done 78 = .ok (.aload_n 0, 1) := dk_42 (dk_at dksX4_done_3 10 rfl rfl)
theorem dX4_done_79 : decode cX4_done 79 = .ok (.getfield 3, 3) := dk_180 0 3 (dk_at dksX4_done_3 11 rfl rfl)
theorem dX4_done_82 : decode cX4_done 82 = .ok (.aload_n 2, 1) := dk_44 (dk_at dksX4_done_3 14 rfl rfl)
theorem dX4_done_83 : decode cX4_done 83 = .ok (.putfield 48, 3) := dk_181 0 48 (dk_at dksX4_done_3 15 rfl rfl)
theorem dX4_done_86 : decode cX4_done 86 = .ok (.bipush (-5), 2) := dk_16 251 (dk_at dksX4_done_3 18 rfl rfl)
theorem dX4_done_88 : decode cX4_done 88 = .ok (.ireturn, 1) := dk_172 (dk_at dksX4_done_3 20 rfl rfl)
theorem q82 : (Jvm.Cond.initialized "RosaryCarvers$Deed") ∈ lw_all := lw_g (lw_at lw_m1 10 rfl) rfl
theorem q303 : (Jvm.Cond.fieldLinkNest "RosaryCarvers$Deed" (17 : Nat) "RosaryCarvers" "now" "LRosaryCarvers$Shop;" "RosaryCarvers") ∈ lw_tbl := lw_at lw_m1 231 rfl
theorem q306 : (Jvm.Cond.fieldLinkNest "RosaryCarvers$Deed" (28 : Nat) "RosaryCarvers" "before" "Ljava/util/ArrayDeque;" "RosaryCarvers") ∈ lw_tbl := lw_at lw_m1 234 rfl
theorem q308 : (Jvm.Cond.fieldLinkNest "RosaryCarvers$Deed" (48 : Nat) "RosaryCarvers" "refusal" "LRosaryCarvers$Refused;" "RosaryCarvers") ∈ lw_tbl := lw_at lw_m1 236 rfl
theorem q348 : (Jvm.Cond.instanceMethod ({ cls := "RosaryCarvers$Deed", name := "<init>", desc := "(LRosaryCarvers;)V" } : Jvm.MethodName)) ∈ lw_all := lw_g (lw_at lw_m2 36 rfl) rfl
theorem q349 : (Jvm.Cond.code ({ cls := "RosaryCarvers$Deed", name := "<init>", desc := "(LRosaryCarvers;)V" } : Jvm.MethodName) prog_22_method_1_code (2 : Nat) (Option.none : Option Jvm.ClassFile.FieldType)) ∈ lw_all := lw_g (lw_at lw_m2 37 rfl) rfl
theorem q350 : (Jvm.Cond.methodLink "RosaryCarvers$Deed" (9 : Nat) ({ cls := "java/lang/Object", name := "<init>", desc := "()V" } : Jvm.MethodName)) ∈ lw_all := lw_g (lw_at lw_m2 38 rfl) rfl
theorem q353 : (Jvm.Cond.fieldLink "RosaryCarvers$Deed" (3 : Nat) "RosaryCarvers$Deed" "this$0" "LRosaryCarvers;") ∈ lw_all := lw_g (lw_at lw_m2 41 rfl) rfl
theorem q359 : (Jvm.Cond.soleField "RosaryCarvers$Deed" "this$0") ∈ lw_all := lw_g (lw_at lw_m2 47 rfl) rfl
theorem q363 : (Jvm.Cond.declares ({ cls := "RosaryCarvers$Deed", name := "done", desc := "()I" } : Jvm.MethodName)) ∈ lw_tbl := lw_at lw_m2 51 rfl
theorem q365 : (Jvm.Cond.instanceMethod ({ cls := "RosaryCarvers$Deed", name := "done", desc := "()I" } : Jvm.MethodName)) ∈ lw_all := lw_g (lw_at lw_m2 53 rfl) rfl
theorem q366 : (Jvm.Cond.codeWith ({ cls := "RosaryCarvers$Deed", name := "done", desc := "()I" } : Jvm.MethodName) prog_22_method_3_code (4 : Nat) (Option.some Jvm.ClassFile.FieldType.int) [((15 : Nat), (76 : Nat), (77 : Nat), (46 : Nat))]) ∈ lw_all := lw_g (lw_at lw_m2 54 rfl) rfl
theorem q367 : (Jvm.Cond.classLink "RosaryCarvers$Deed" (46 : Nat) "RosaryCarvers$Refused") ∈ lw_all := lw_g (lw_at lw_m2 55 rfl) rfl
theorem q368 : (Jvm.Cond.classLink "RosaryCarvers$Deed" (15 : Nat) "RosaryCarvers$Shop") ∈ lw_all := lw_g (lw_at lw_m2 56 rfl) rfl
theorem q369 : (Jvm.Cond.methodLink "RosaryCarvers$Deed" (21 : Nat) ({ cls := "RosaryCarvers$Shop", name := "<init>", desc := "(LRosaryCarvers$Shop;)V" } : Jvm.MethodName)) ∈ lw_all := lw_g (lw_at lw_m2 57 rfl) rfl
theorem q774 : (Jvm.Cond.methodLink "RosaryCarvers$Deed" (24 : Nat) ({ cls := "RosaryCarvers$Deed", name := "does", desc := "(LRosaryCarvers$Shop;)I" } : Jvm.MethodName)) ∈ lw_all := lw_g (lw_at lw_m3 222 rfl) rfl
theorem q775 : (Jvm.Cond.declares ({ cls := "RosaryCarvers$Deed", name := "does", desc := "(LRosaryCarvers$Shop;)I" } : Jvm.MethodName)) ∈ lw_tbl := lw_at lw_m3 223 rfl
theorem q776 : (Jvm.Cond.sameMethod "RosaryCarvers$Deed" "RosaryCarvers$Deed" "does" "(LRosaryCarvers$Shop;)I") ∈ lw_all := lw_g (lw_at lw_m3 224 rfl) rfl
theorem q1536 : (Jvm.Cond.methodLink "RosaryCarvers$Deed" (32 : Nat) ({ cls := "java/util/ArrayDeque", name := "addLast", desc := "(Ljava/lang/Object;)V" } : Jvm.MethodName)) ∈ lw_all := lw_g (lw_at lw_m7 24 rfl) rfl
theorem q1551 : (Jvm.Cond.methodLink "RosaryCarvers$Deed" (38 : Nat) ({ cls := "java/util/ArrayDeque", name := "size", desc := "()I" } : Jvm.MethodName)) ∈ lw_all := lw_g (lw_at lw_m7 39 rfl) rfl
theorem q1552 : (Jvm.Cond.methodLink "RosaryCarvers$Deed" (42 : Nat) ({ cls := "java/util/ArrayDeque", name := "removeFirst", desc := "()Ljava/lang/Object;" } : Jvm.MethodName)) ∈ lw_all := lw_g (lw_at lw_m7 40 rfl) rfl

/-! RosaryCarvers$1 -/
set_option maxRecDepth 100000
def RX5 : String := "RosaryCarvers$1"
def TX5 : u_T := fun k => match k with
  | 0 => ("RosaryCarvers$Deed", "this$0", "LRosaryCarvers;", true)
  | 1 => ("RosaryCarvers$1", "val$many", "I", true)
  | _ => ("RosaryCarvers$1", "this$0", "LRosaryCarvers;", true)
def tyX5 : Nat → FieldType := fun k => match k with
  | 0 => .object "RosaryCarvers"
  | 1 => .int
  | _ => .object "RosaryCarvers"
abbrev wsX50 : List Cond := u_ws RX5 TX5 3
-- two fields of one name: no nmX5
theorem tyX5_ok : ∀ k, k < 3 → parseFieldDescriptor (TX5 k).2.2.1 = some (tyX5 k) := by decide +kernel
abbrev cX5_init : ByteArray := prog_2_method_1_code
def yX5_init : MethodName := ⟨RX5, "<init>", "(LRosaryCarvers;I)V"⟩
def dkwX5_init_0 : List UInt8 := [42, 43, 181, 0, 1, 42, 28, 181, 0, 7, 42, 43, 183, 0, 11, 177]
abbrev dktX5_init_0 : List UInt8 := dkwX5_init_0 ++ []
theorem dksX5_init_0 : cX5_init.data.toList.drop 0 = dktX5_init_0 := by decide +kernel
theorem dX5_init_0 : decode cX5_init 0 = .ok (.aload_n 0, 1) := dk_42 (dk_at dksX5_init_0 0 rfl rfl)
theorem dX5_init_1 : decode cX5_init 1 = .ok (.aload_n 1, 1) := dk_43 (dk_at dksX5_init_0 1 rfl rfl)
theorem dX5_init_2 : decode cX5_init 2 = .ok (.putfield 1, 3) := dk_181 0 1 (dk_at dksX5_init_0 2 rfl rfl)
theorem dX5_init_5 : decode cX5_init 5 = .ok (.aload_n 0, 1) := dk_42 (dk_at dksX5_init_0 5 rfl rfl)
theorem dX5_init_6 : decode cX5_init 6 = .ok (.iload_n 2, 1) := dk_28 (dk_at dksX5_init_0 6 rfl rfl)
theorem dX5_init_7 : decode cX5_init 7 = .ok (.putfield 7, 3) := dk_181 0 7 (dk_at dksX5_init_0 7 rfl rfl)
theorem dX5_init_10 : decode cX5_init 10 = .ok (.aload_n 0, 1) := dk_42 (dk_at dksX5_init_0 10 rfl rfl)
theorem dX5_init_11 : decode cX5_init 11 = .ok (.aload_n 1, 1) := dk_43 (dk_at dksX5_init_0 11 rfl rfl)
theorem dX5_init_12 : decode cX5_init 12 = .ok (.invokespecial 11, 3) := dk_183 0 11 (dk_at dksX5_init_0 12 rfl rfl)
theorem dX5_init_15 : decode cX5_init 15 = .ok (.return_, 1) := dk_177 (dk_at dksX5_init_0 15 rfl rfl)
abbrev cX5_does : ByteArray := prog_2_method_2_code
def yX5_does : MethodName := ⟨RX5, "does", "(LRosaryCarvers$Shop;)I"⟩
def dkwX5_does_0 : List UInt8 := [43, 42, 180, 0, 7, 182, 0, 17, 172]
abbrev dktX5_does_0 : List UInt8 := dkwX5_does_0 ++ []
theorem dksX5_does_0 : cX5_does.data.toList.drop 0 = dktX5_does_0 := by decide +kernel
theorem dX5_does_0 : decode cX5_does 0 = .ok (.aload_n 1, 1) := dk_43 (dk_at dksX5_does_0 0 rfl rfl)
theorem dX5_does_1 : decode cX5_does 1 = .ok (.aload_n 0, 1) := dk_42 (dk_at dksX5_does_0 1 rfl rfl)
theorem dX5_does_2 : decode cX5_does 2 = .ok (.getfield 7, 3) := dk_180 0 7 (dk_at dksX5_does_0 2 rfl rfl)
theorem dX5_does_5 : decode cX5_does 5 = .ok (.invokevirtual 17, 3) := dk_182 0 17 (dk_at dksX5_does_0 5 rfl rfl)
theorem dX5_does_8 : decode cX5_does 8 = .ok (.ireturn, 1) := dk_172 (dk_at dksX5_does_0 8 rfl rfl)
theorem q83 : (Jvm.Cond.initialized "RosaryCarvers$1") ∈ lw_all := lw_g (lw_at lw_m1 11 rfl) rfl
theorem q343 : (Jvm.Cond.instantiable "RosaryCarvers$1" (3 : Nat)) ∈ lw_all := lw_g (lw_at lw_m2 31 rfl) rfl
theorem q345 : (Jvm.Cond.instanceMethod ({ cls := "RosaryCarvers$1", name := "<init>", desc := "(LRosaryCarvers;I)V" } : Jvm.MethodName)) ∈ lw_all := lw_g (lw_at lw_m2 33 rfl) rfl
theorem q346 : (Jvm.Cond.code ({ cls := "RosaryCarvers$1", name := "<init>", desc := "(LRosaryCarvers;I)V" } : Jvm.MethodName) prog_2_method_1_code (3 : Nat) (Option.none : Option Jvm.ClassFile.FieldType)) ∈ lw_all := lw_g (lw_at lw_m2 34 rfl) rfl
theorem q347 : (Jvm.Cond.methodLinkNest "RosaryCarvers$1" (11 : Nat) ({ cls := "RosaryCarvers$Deed", name := "<init>", desc := "(LRosaryCarvers;)V" } : Jvm.MethodName) "RosaryCarvers") ∈ lw_tbl := lw_at lw_m2 35 rfl
theorem q351 : (Jvm.Cond.fieldLink "RosaryCarvers$1" (7 : Nat) "RosaryCarvers$1" "val$many" "I") ∈ lw_all := lw_g (lw_at lw_m2 39 rfl) rfl
theorem q352 : (Jvm.Cond.fieldLink "RosaryCarvers$1" (1 : Nat) "RosaryCarvers$1" "this$0" "LRosaryCarvers;") ∈ lw_all := lw_g (lw_at lw_m2 40 rfl) rfl
theorem q354 : (Jvm.Cond.laysFinal "RosaryCarvers$1" "RosaryCarvers$1" "val$many" "I") ∈ lw_all := lw_g (lw_at lw_m2 42 rfl) rfl
theorem q355 : (Jvm.Cond.soleField "RosaryCarvers$1" "val$many") ∈ lw_all := lw_g (lw_at lw_m2 43 rfl) rfl
theorem q356 : (Jvm.Cond.laysFinal "RosaryCarvers$1" "RosaryCarvers$1" "this$0" "LRosaryCarvers;") ∈ lw_all := lw_g (lw_at lw_m2 44 rfl) rfl
theorem q357 : (Jvm.Cond.soleField "RosaryCarvers$1" "this$0") ∈ lw_all := lw_g (lw_at lw_m2 45 rfl) rfl
theorem q358 : (Jvm.Cond.laysFinal "RosaryCarvers$1" "RosaryCarvers$Deed" "this$0" "LRosaryCarvers;") ∈ lw_all := lw_g (lw_at lw_m2 46 rfl) rfl
theorem q360 : (Jvm.Cond.superclass "RosaryCarvers$1" "RosaryCarvers$Deed") ∈ lw_all := lw_g (lw_at lw_m2 48 rfl) rfl
theorem q362 : (Jvm.Cond.sameMethod "RosaryCarvers$1" "RosaryCarvers$Deed" "done" "()I") ∈ lw_all := lw_g (lw_at lw_m2 50 rfl) rfl
theorem q364 : (Jvm.Cond.selects "RosaryCarvers$1" ({ cls := "RosaryCarvers$1", name := "done", desc := "()I" } : Jvm.MethodName) ({ cls := "RosaryCarvers$Deed", name := "done", desc := "()I" } : Jvm.MethodName)) ∈ lw_all := lw_g (lw_at lw_m2 52 rfl) rfl
theorem q605 : (Jvm.Cond.selects "RosaryCarvers$1" ({ cls := "java/lang/Object", name := "getClass", desc := "()Ljava/lang/Class;" } : Jvm.MethodName) ({ cls := "java/lang/Object", name := "getClass", desc := "()Ljava/lang/Class;" } : Jvm.MethodName)) ∈ lw_all := lw_g (lw_at lw_m3 53 rfl) rfl
theorem q777 : (Jvm.Cond.selects "RosaryCarvers$1" ({ cls := "RosaryCarvers$Deed", name := "does", desc := "(LRosaryCarvers$Shop;)I" } : Jvm.MethodName) ({ cls := "RosaryCarvers$1", name := "does", desc := "(LRosaryCarvers$Shop;)I" } : Jvm.MethodName)) ∈ lw_all := lw_g (lw_at lw_m3 225 rfl) rfl
theorem q778 : (Jvm.Cond.instanceMethod ({ cls := "RosaryCarvers$1", name := "does", desc := "(LRosaryCarvers$Shop;)I" } : Jvm.MethodName)) ∈ lw_all := lw_g (lw_at lw_m3 226 rfl) rfl
theorem q779 : (Jvm.Cond.code ({ cls := "RosaryCarvers$1", name := "does", desc := "(LRosaryCarvers$Shop;)I" } : Jvm.MethodName) prog_2_method_2_code (2 : Nat) (Option.some Jvm.ClassFile.FieldType.int)) ∈ lw_all := lw_g (lw_at lw_m3 227 rfl) rfl
theorem q780 : (Jvm.Cond.methodLink "RosaryCarvers$1" (17 : Nat) ({ cls := "RosaryCarvers$Shop", name := "brings", desc := "(I)I" } : Jvm.MethodName)) ∈ lw_all := lw_g (lw_at lw_m3 228 rfl) rfl
theorem q1041 : (Jvm.Cond.selects "RosaryCarvers$1" ({ cls := "java/lang/Object", name := "equals", desc := "(Ljava/lang/Object;)Z" } : Jvm.MethodName) ({ cls := "java/lang/Object", name := "equals", desc := "(Ljava/lang/Object;)Z" } : Jvm.MethodName)) ∈ lw_all := lw_g (lw_at lw_m5 9 rfl) rfl
theorem q2815 : (Jvm.Cond.castable "RosaryCarvers$1" "java/lang/Object") ∈ lw_tbl := lw_at lw_m12 103 rfl
theorem in_X5 : ∀ w ∈ wsX50, w ∈ lw_all := lw_in wsX50 [358, 354, 356] (by decide +kernel) (by decide +kernel)

/-! RosaryCarvers$Carver -/
set_option maxRecDepth 100000
def RX6 : String := "RosaryCarvers$Carver"
def TX6 : u_T := fun k => match k with
  | 0 => ("RosaryCarvers$Carver", "eye", "I", true)
  | 1 => ("RosaryCarvers$Carver", "tired", "I", false)
  | 2 => ("RosaryCarvers$Carver", "carved", "I", false)
  | _ => ("RosaryCarvers$Carver", "spoilt", "I", false)
def tyX6 : Nat → FieldType := fun k => match k with
  | 0 => .int
  | 1 => .int
  | 2 => .int
  | _ => .int
abbrev wsX60 : List Cond := u_ws RX6 TX6 4
theorem nmX6 : ∀ a, a < 4 → ∀ b, b < 4 → a ≠ b → (TX6 a).2.1 ≠ (TX6 b).2.1 := by decide +kernel
theorem tyX6_ok : ∀ k, k < 4 → parseFieldDescriptor (TX6 k).2.2.1 = some (tyX6 k) := by decide +kernel
abbrev cX6_init : ByteArray := prog_20_method_2_code
def yX6_init : MethodName := ⟨RX6, "<init>", "(LRosaryCarvers$Carver;)V"⟩
def dkwX6_init_1 : List UInt8 := [42, 43, 180, 0, 22, 181, 0, 22, 177]
abbrev dktX6_init_1 : List UInt8 := dkwX6_init_1 ++ []
def dkwX6_init_0 : List UInt8 := [42, 43, 180, 0, 7, 183, 0, 13, 42, 43, 180, 0, 16, 181, 0, 16, 42, 43, 180, 0, 19, 181, 0, 19]
abbrev dktX6_init_0 : List UInt8 := dkwX6_init_0 ++ dktX6_init_1
theorem dksX6_init_0 : cX6_init.data.toList.drop 0 = dktX6_init_0 := by decide +kernel
theorem dksX6_init_1 : cX6_init.data.toList.drop 24 = dktX6_init_1 := dk_seg dksX6_init_0 24 rfl rfl
theorem dX6_init_0 : decode cX6_init 0 = .ok (.aload_n 0, 1) := dk_42 (dk_at dksX6_init_0 0 rfl rfl)
theorem dX6_init_1 : decode cX6_init 1 = .ok (.aload_n 1, 1) := dk_43 (dk_at dksX6_init_0 1 rfl rfl)
theorem dX6_init_2 : decode cX6_init 2 = .ok (.getfield 7, 3) := dk_180 0 7 (dk_at dksX6_init_0 2 rfl rfl)
theorem dX6_init_5 : decode cX6_init 5 = .ok (.invokespecial 13, 3) := dk_183 0 13 (dk_at dksX6_init_0 5 rfl rfl)
theorem dX6_init_8 : decode cX6_init 8 = .ok (.aload_n 0, 1) := dk_42 (dk_at dksX6_init_0 8 rfl rfl)
theorem dX6_init_9 : decode cX6_init 9 = .ok (.aload_n 1, 1) := dk_43 (dk_at dksX6_init_0 9 rfl rfl)
theorem dX6_init_10 : decode cX6_init 10 = .ok (.getfield 16, 3) := dk_180 0 16 (dk_at dksX6_init_0 10 rfl rfl)
theorem dX6_init_13 : decode cX6_init 13 = .ok (.putfield 16, 3) := dk_181 0 16 (dk_at dksX6_init_0 13 rfl rfl)
theorem dX6_init_16 : decode cX6_init 16 = .ok (.aload_n 0, 1) := dk_42 (dk_at dksX6_init_0 16 rfl rfl)
theorem dX6_init_17 : decode cX6_init 17 = .ok (.aload_n 1, 1) := dk_43 (dk_at dksX6_init_0 17 rfl rfl)
theorem dX6_init_18 : decode cX6_init 18 = .ok (.getfield 19, 3) := dk_180 0 19 (dk_at dksX6_init_0 18 rfl rfl)
theorem dX6_init_21 : decode cX6_init 21 = .ok (.putfield 19, 3) := dk_181 0 19 (dk_at dksX6_init_0 21 rfl rfl)
theorem dX6_init_24 : decode cX6_init 24 = .ok (.aload_n 0, 1) := dk_42 (dk_at dksX6_init_1 0 rfl rfl)
theorem dX6_init_25 : decode cX6_init 25 = .ok (.aload_n 1, 1) := dk_43 (dk_at dksX6_init_1 1 rfl rfl)
theorem dX6_init_26 : decode cX6_init 26 = .ok (.getfield 22, 3) := dk_180 0 22 (dk_at dksX6_init_1 2 rfl rfl)
theorem dX6_init_29 : decode cX6_init 29 = .ok (.putfield 22, 3) := dk_181 0 22 (dk_at dksX6_init_1 5 rfl rfl)
theorem dX6_init_32 : decode cX6_init 32 = .ok (.return_, 1) := dk_177 (dk_at dksX6_init_1 8 rfl rfl)
abbrev cX6_init_2 : ByteArray := prog_20_method_1_code
def yX6_init_2 : MethodName := ⟨RX6, "<init>", "(I)V"⟩
def dkwX6_init_2_0 : List UInt8 := [42, 183, 0, 1, 42, 27, 181, 0, 7, 177]
abbrev dktX6_init_2_0 : List UInt8 := dkwX6_init_2_0 ++ []
theorem dksX6_init_2_0 : cX6_init_2.data.toList.drop 0 = dktX6_init_2_0 := by decide +kernel
theorem dX6_init_2_0 : decode cX6_init_2 0 = .ok (.aload_n 0, 1) := dk_42 (dk_at dksX6_init_2_0 0 rfl rfl)
theorem dX6_init_2_1 : decode cX6_init_2 1 = .ok (.invokespecial 1, 3) := dk_183 0 1 (dk_at dksX6_init_2_0 1 rfl rfl)
theorem dX6_init_2_4 : decode cX6_init_2 4 = .ok (.aload_n 0, 1) := dk_42 (dk_at dksX6_init_2_0 4 rfl rfl)
theorem dX6_init_2_5 : decode cX6_init_2 5 = .ok (.iload_n 1, 1) := dk_27 (dk_at dksX6_init_2_0 5 rfl rfl)
theorem dX6_init_2_6 : decode cX6_init_2 6 = .ok (.putfield 7, 3) := dk_181 0 7 (dk_at dksX6_init_2_0 6 rfl rfl)
theorem dX6_init_2_9 : decode cX6_init_2 9 = .ok (.return_, 1) := dk_177 (dk_at dksX6_init_2_0 9 rfl rfl)
theorem q91 : (Jvm.Cond.initialized "RosaryCarvers$Carver") ∈ lw_all := lw_g (lw_at lw_m1 19 rfl) rfl
theorem q543 : (Jvm.Cond.instantiable "RosaryCarvers$Carver" (4 : Nat)) ∈ lw_all := lw_g (lw_at lw_m2 231 rfl) rfl
theorem q545 : (Jvm.Cond.instanceMethod ({ cls := "RosaryCarvers$Carver", name := "<init>", desc := "(LRosaryCarvers$Carver;)V" } : Jvm.MethodName)) ∈ lw_all := lw_g (lw_at lw_m2 233 rfl) rfl
theorem q546 : (Jvm.Cond.code ({ cls := "RosaryCarvers$Carver", name := "<init>", desc := "(LRosaryCarvers$Carver;)V" } : Jvm.MethodName) prog_20_method_2_code (2 : Nat) (Option.none : Option Jvm.ClassFile.FieldType)) ∈ lw_all := lw_g (lw_at lw_m2 234 rfl) rfl
theorem q547 : (Jvm.Cond.methodLink "RosaryCarvers$Carver" (13 : Nat) ({ cls := "RosaryCarvers$Carver", name := "<init>", desc := "(I)V" } : Jvm.MethodName)) ∈ lw_all := lw_g (lw_at lw_m2 235 rfl) rfl
theorem q548 : (Jvm.Cond.instanceMethod ({ cls := "RosaryCarvers$Carver", name := "<init>", desc := "(I)V" } : Jvm.MethodName)) ∈ lw_all := lw_g (lw_at lw_m2 236 rfl) rfl
theorem q549 : (Jvm.Cond.code ({ cls := "RosaryCarvers$Carver", name := "<init>", desc := "(I)V" } : Jvm.MethodName) prog_20_method_1_code (2 : Nat) (Option.none : Option Jvm.ClassFile.FieldType)) ∈ lw_all := lw_g (lw_at lw_m2 237 rfl) rfl
theorem q550 : (Jvm.Cond.methodLink "RosaryCarvers$Carver" (1 : Nat) ({ cls := "java/lang/Object", name := "<init>", desc := "()V" } : Jvm.MethodName)) ∈ lw_all := lw_g (lw_at lw_m2 238 rfl) rfl
theorem q551 : (Jvm.Cond.fieldLink "RosaryCarvers$Carver" (7 : Nat) "RosaryCarvers$Carver" "eye" "I") ∈ lw_all := lw_g (lw_at lw_m2 239 rfl) rfl
theorem q554 : (Jvm.Cond.fieldLink "RosaryCarvers$Carver" (16 : Nat) "RosaryCarvers$Carver" "tired" "I") ∈ lw_all := lw_g (lw_at lw_m3 2 rfl) rfl
theorem q557 : (Jvm.Cond.fieldLink "RosaryCarvers$Carver" (19 : Nat) "RosaryCarvers$Carver" "carved" "I") ∈ lw_all := lw_g (lw_at lw_m3 5 rfl) rfl
theorem q560 : (Jvm.Cond.fieldLink "RosaryCarvers$Carver" (22 : Nat) "RosaryCarvers$Carver" "spoilt" "I") ∈ lw_all := lw_g (lw_at lw_m3 8 rfl) rfl
theorem q563 : (Jvm.Cond.laysFinal "RosaryCarvers$Carver" "RosaryCarvers$Carver" "eye" "I") ∈ lw_all := lw_g (lw_at lw_m3 11 rfl) rfl
theorem q564 : (Jvm.Cond.soleField "RosaryCarvers$Carver" "eye") ∈ lw_all := lw_g (lw_at lw_m3 12 rfl) rfl
theorem q565 : (Jvm.Cond.lays "RosaryCarvers$Carver" "RosaryCarvers$Carver" "tired" "I") ∈ lw_all := lw_g (lw_at lw_m3 13 rfl) rfl
theorem q566 : (Jvm.Cond.soleField "RosaryCarvers$Carver" "tired") ∈ lw_all := lw_g (lw_at lw_m3 14 rfl) rfl
theorem q567 : (Jvm.Cond.lays "RosaryCarvers$Carver" "RosaryCarvers$Carver" "carved" "I") ∈ lw_all := lw_g (lw_at lw_m3 15 rfl) rfl
theorem q568 : (Jvm.Cond.soleField "RosaryCarvers$Carver" "carved") ∈ lw_all := lw_g (lw_at lw_m3 16 rfl) rfl
theorem q569 : (Jvm.Cond.lays "RosaryCarvers$Carver" "RosaryCarvers$Carver" "spoilt" "I") ∈ lw_all := lw_g (lw_at lw_m3 17 rfl) rfl
theorem q570 : (Jvm.Cond.soleField "RosaryCarvers$Carver" "spoilt") ∈ lw_all := lw_g (lw_at lw_m3 18 rfl) rfl
theorem q571 : (Jvm.Cond.superclass "RosaryCarvers$Carver" "java/lang/Object") ∈ lw_all := lw_g (lw_at lw_m3 19 rfl) rfl
theorem q623 : (Jvm.Cond.selects "RosaryCarvers$Carver" ({ cls := "java/lang/Object", name := "getClass", desc := "()Ljava/lang/Class;" } : Jvm.MethodName) ({ cls := "java/lang/Object", name := "getClass", desc := "()Ljava/lang/Class;" } : Jvm.MethodName)) ∈ lw_all := lw_g (lw_at lw_m3 71 rfl) rfl
theorem q1059 : (Jvm.Cond.selects "RosaryCarvers$Carver" ({ cls := "java/lang/Object", name := "equals", desc := "(Ljava/lang/Object;)Z" } : Jvm.MethodName) ({ cls := "java/lang/Object", name := "equals", desc := "(Ljava/lang/Object;)Z" } : Jvm.MethodName)) ∈ lw_all := lw_g (lw_at lw_m5 27 rfl) rfl
theorem q2817 : (Jvm.Cond.castable "RosaryCarvers$Carver" "java/lang/Object") ∈ lw_tbl := lw_at lw_m12 105 rfl
theorem in_X6 : ∀ w ∈ wsX60, w ∈ lw_all := lw_in wsX60 [563, 565, 567, 569] (by decide +kernel) (by decide +kernel)

/-! RosaryCarvers$Lens -/
set_option maxRecDepth 100000
def RX7 : String := "RosaryCarvers$Lens"
def TX7 : u_T := fun k => match k with
  | 0 => ("RosaryCarvers$Lens", "power", "I", true)
  | _ => ("RosaryCarvers$Lens", "carver", "I", false)
def tyX7 : Nat → FieldType := fun k => match k with
  | 0 => .int
  | _ => .int
abbrev wsX70 : List Cond := u_ws RX7 TX7 2
theorem nmX7 : ∀ a, a < 2 → ∀ b, b < 2 → a ≠ b → (TX7 a).2.1 ≠ (TX7 b).2.1 := by decide +kernel
theorem tyX7_ok : ∀ k, k < 2 → parseFieldDescriptor (TX7 k).2.2.1 = some (tyX7 k) := by decide +kernel
abbrev cX7_init : ByteArray := prog_24_method_2_code
def yX7_init : MethodName := ⟨RX7, "<init>", "(LRosaryCarvers$Lens;)V"⟩
def dkwX7_init_0 : List UInt8 := [42, 43, 180, 0, 15, 183, 0, 18, 42, 43, 180, 0, 9, 181, 0, 9, 177]
abbrev dktX7_init_0 : List UInt8 := dkwX7_init_0 ++ []
theorem dksX7_init_0 : cX7_init.data.toList.drop 0 = dktX7_init_0 := by decide +kernel
theorem dX7_init_0 : decode cX7_init 0 = .ok (.aload_n 0, 1) := dk_42 (dk_at dksX7_init_0 0 rfl rfl)
theorem dX7_init_1 : decode cX7_init 1 = .ok (.aload_n 1, 1) := dk_43 (dk_at dksX7_init_0 1 rfl rfl)
theorem dX7_init_2 : decode cX7_init 2 = .ok (.getfield 15, 3) := dk_180 0 15 (dk_at dksX7_init_0 2 rfl rfl)
theorem dX7_init_5 : decode cX7_init 5 = .ok (.invokespecial 18, 3) := dk_183 0 18 (dk_at dksX7_init_0 5 rfl rfl)
theorem dX7_init_8 : decode cX7_init 8 = .ok (.aload_n 0, 1) := dk_42 (dk_at dksX7_init_0 8 rfl rfl)
theorem dX7_init_9 : decode cX7_init 9 = .ok (.aload_n 1, 1) := dk_43 (dk_at dksX7_init_0 9 rfl rfl)
theorem dX7_init_10 : decode cX7_init 10 = .ok (.getfield 9, 3) := dk_180 0 9 (dk_at dksX7_init_0 10 rfl rfl)
theorem dX7_init_13 : decode cX7_init 13 = .ok (.putfield 9, 3) := dk_181 0 9 (dk_at dksX7_init_0 13 rfl rfl)
theorem dX7_init_16 : decode cX7_init 16 = .ok (.return_, 1) := dk_177 (dk_at dksX7_init_0 16 rfl rfl)
abbrev cX7_init_2 : ByteArray := prog_24_method_1_code
def yX7_init_2 : MethodName := ⟨RX7, "<init>", "(I)V"⟩
def dkwX7_init_2_0 : List UInt8 := [42, 183, 0, 3, 42, 2, 181, 0, 9, 42, 27, 181, 0, 15, 177]
abbrev dktX7_init_2_0 : List UInt8 := dkwX7_init_2_0 ++ []
theorem dksX7_init_2_0 : cX7_init_2.data.toList.drop 0 = dktX7_init_2_0 := by decide +kernel
theorem dX7_init_2_0 : decode cX7_init_2 0 = .ok (.aload_n 0, 1) := dk_42 (dk_at dksX7_init_2_0 0 rfl rfl)
theorem dX7_init_2_1 : decode cX7_init_2 1 = .ok (.invokespecial 3, 3) := dk_183 0 3 (dk_at dksX7_init_2_0 1 rfl rfl)
theorem dX7_init_2_4 : decode cX7_init_2 4 = .ok (.aload_n 0, 1) := dk_42 (dk_at dksX7_init_2_0 4 rfl rfl)
theorem dX7_init_2_5 : decode cX7_init_2 5 = .ok (.iconst (-1), 1) := dk_2 (dk_at dksX7_init_2_0 5 rfl rfl)
theorem dX7_init_2_6 : decode cX7_init_2 6 = .ok (.putfield 9, 3) := dk_181 0 9 (dk_at dksX7_init_2_0 6 rfl rfl)
theorem dX7_init_2_9 : decode cX7_init_2 9 = .ok (.aload_n 0, 1) := dk_42 (dk_at dksX7_init_2_0 9 rfl rfl)
theorem dX7_init_2_10 : decode cX7_init_2 10 = .ok (.iload_n 1, 1) := dk_27 (dk_at dksX7_init_2_0 10 rfl rfl)
theorem dX7_init_2_11 : decode cX7_init_2 11 = .ok (.putfield 15, 3) := dk_181 0 15 (dk_at dksX7_init_2_0 11 rfl rfl)
theorem dX7_init_2_14 : decode cX7_init_2 14 = .ok (.return_, 1) := dk_177 (dk_at dksX7_init_2_0 14 rfl rfl)
theorem q96 : (Jvm.Cond.initialized "RosaryCarvers$Lens") ∈ lw_all := lw_g (lw_at lw_m1 24 rfl) rfl
theorem q625 : (Jvm.Cond.selects "RosaryCarvers$Lens" ({ cls := "java/lang/Object", name := "getClass", desc := "()Ljava/lang/Class;" } : Jvm.MethodName) ({ cls := "java/lang/Object", name := "getClass", desc := "()Ljava/lang/Class;" } : Jvm.MethodName)) ∈ lw_all := lw_g (lw_at lw_m3 73 rfl) rfl
theorem q660 : (Jvm.Cond.instantiable "RosaryCarvers$Lens" (2 : Nat)) ∈ lw_all := lw_g (lw_at lw_m3 108 rfl) rfl
theorem q662 : (Jvm.Cond.instanceMethod ({ cls := "RosaryCarvers$Lens", name := "<init>", desc := "(LRosaryCarvers$Lens;)V" } : Jvm.MethodName)) ∈ lw_all := lw_g (lw_at lw_m3 110 rfl) rfl
theorem q663 : (Jvm.Cond.code ({ cls := "RosaryCarvers$Lens", name := "<init>", desc := "(LRosaryCarvers$Lens;)V" } : Jvm.MethodName) prog_24_method_2_code (2 : Nat) (Option.none : Option Jvm.ClassFile.FieldType)) ∈ lw_all := lw_g (lw_at lw_m3 111 rfl) rfl
theorem q664 : (Jvm.Cond.methodLink "RosaryCarvers$Lens" (18 : Nat) ({ cls := "RosaryCarvers$Lens", name := "<init>", desc := "(I)V" } : Jvm.MethodName)) ∈ lw_all := lw_g (lw_at lw_m3 112 rfl) rfl
theorem q665 : (Jvm.Cond.instanceMethod ({ cls := "RosaryCarvers$Lens", name := "<init>", desc := "(I)V" } : Jvm.MethodName)) ∈ lw_all := lw_g (lw_at lw_m3 113 rfl) rfl
theorem q666 : (Jvm.Cond.code ({ cls := "RosaryCarvers$Lens", name := "<init>", desc := "(I)V" } : Jvm.MethodName) prog_24_method_1_code (2 : Nat) (Option.none : Option Jvm.ClassFile.FieldType)) ∈ lw_all := lw_g (lw_at lw_m3 114 rfl) rfl
theorem q667 : (Jvm.Cond.methodLink "RosaryCarvers$Lens" (3 : Nat) ({ cls := "java/lang/Object", name := "<init>", desc := "()V" } : Jvm.MethodName)) ∈ lw_all := lw_g (lw_at lw_m3 115 rfl) rfl
theorem q668 : (Jvm.Cond.fieldLink "RosaryCarvers$Lens" (15 : Nat) "RosaryCarvers$Lens" "power" "I") ∈ lw_all := lw_g (lw_at lw_m3 116 rfl) rfl
theorem q671 : (Jvm.Cond.fieldLink "RosaryCarvers$Lens" (9 : Nat) "RosaryCarvers$Lens" "carver" "I") ∈ lw_all := lw_g (lw_at lw_m3 119 rfl) rfl
theorem q674 : (Jvm.Cond.laysFinal "RosaryCarvers$Lens" "RosaryCarvers$Lens" "power" "I") ∈ lw_all := lw_g (lw_at lw_m3 122 rfl) rfl
theorem q675 : (Jvm.Cond.soleField "RosaryCarvers$Lens" "power") ∈ lw_all := lw_g (lw_at lw_m3 123 rfl) rfl
theorem q676 : (Jvm.Cond.lays "RosaryCarvers$Lens" "RosaryCarvers$Lens" "carver" "I") ∈ lw_all := lw_g (lw_at lw_m3 124 rfl) rfl
theorem q677 : (Jvm.Cond.soleField "RosaryCarvers$Lens" "carver") ∈ lw_all := lw_g (lw_at lw_m3 125 rfl) rfl
theorem q678 : (Jvm.Cond.superclass "RosaryCarvers$Lens" "java/lang/Object") ∈ lw_all := lw_g (lw_at lw_m3 126 rfl) rfl
theorem q1061 : (Jvm.Cond.selects "RosaryCarvers$Lens" ({ cls := "java/lang/Object", name := "equals", desc := "(Ljava/lang/Object;)Z" } : Jvm.MethodName) ({ cls := "java/lang/Object", name := "equals", desc := "(Ljava/lang/Object;)Z" } : Jvm.MethodName)) ∈ lw_all := lw_g (lw_at lw_m5 29 rfl) rfl
theorem q2818 : (Jvm.Cond.castable "RosaryCarvers$Lens" "java/lang/Object") ∈ lw_tbl := lw_at lw_m12 106 rfl
theorem in_X7 : ∀ w ∈ wsX70, w ∈ lw_all := lw_in wsX70 [674, 676] (by decide +kernel) (by decide +kernel)

/-! RosaryCarvers$Rosary -/
set_option maxRecDepth 100000
def RX8 : String := "RosaryCarvers$Rosary"
def TX8 : u_T := fun k => match k with
  | 0 => ("RosaryCarvers$Beads", "beads", "Ljava/util/ArrayList;", true)
  | 1 => ("RosaryCarvers$Rosary", "groups", "I", true)
  | 2 => ("RosaryCarvers$Rosary", "small", "I", true)
  | _ => ("RosaryCarvers$Rosary", "knots", "I", false)
def tyX8 : Nat → FieldType := fun k => match k with
  | 0 => .object "java/util/ArrayList"
  | 1 => .int
  | 2 => .int
  | _ => .int
abbrev wsX80 : List Cond := u_ws RX8 TX8 4
theorem nmX8 : ∀ a, a < 4 → ∀ b, b < 4 → a ≠ b → (TX8 a).2.1 ≠ (TX8 b).2.1 := by decide +kernel
theorem tyX8_ok : ∀ k, k < 4 → parseFieldDescriptor (TX8 k).2.2.1 = some (tyX8 k) := by decide +kernel
abbrev cX8_init : ByteArray := prog_29_method_2_code
def yX8_init : MethodName := ⟨RX8, "<init>", "(LRosaryCarvers$Rosary;)V"⟩
def dkwX8_init_1 : List UInt8 := [182, 0, 22, 177]
abbrev dktX8_init_1 : List UInt8 := dkwX8_init_1 ++ []
def dkwX8_init_0 : List UInt8 := [42, 43, 180, 0, 7, 43, 180, 0, 13, 183, 0, 16, 42, 43, 180, 0, 19, 181, 0, 19, 42, 43]
abbrev dktX8_init_0 : List UInt8 := dkwX8_init_0 ++ dktX8_init_1
theorem dksX8_init_0 : cX8_init.data.toList.drop 0 = dktX8_init_0 := by decide +kernel
theorem dksX8_init_1 : cX8_init.data.toList.drop 22 = dktX8_init_1 := dk_seg dksX8_init_0 22 rfl rfl
theorem dX8_init_0 : decode cX8_init 0 = .ok (.aload_n 0, 1) := dk_42 (dk_at dksX8_init_0 0 rfl rfl)
theorem dX8_init_1 : decode cX8_init 1 = .ok (.aload_n 1, 1) := dk_43 (dk_at dksX8_init_0 1 rfl rfl)
theorem dX8_init_2 : decode cX8_init 2 = .ok (.getfield 7, 3) := dk_180 0 7 (dk_at dksX8_init_0 2 rfl rfl)
theorem dX8_init_5 : decode cX8_init 5 = .ok (.aload_n 1, 1) := dk_43 (dk_at dksX8_init_0 5 rfl rfl)
theorem dX8_init_6 : decode cX8_init 6 = .ok (.getfield 13, 3) := dk_180 0 13 (dk_at dksX8_init_0 6 rfl rfl)
theorem dX8_init_9 : decode cX8_init 9 = .ok (.invokespecial 16, 3) := dk_183 0 16 (dk_at dksX8_init_0 9 rfl rfl)
theorem dX8_init_12 : decode cX8_init 12 = .ok (.aload_n 0, 1) := dk_42 (dk_at dksX8_init_0 12 rfl rfl)
theorem dX8_init_13 : decode cX8_init 13 = .ok (.aload_n 1, 1) := dk_43 (dk_at dksX8_init_0 13 rfl rfl)
theorem dX8_init_14 : decode cX8_init 14 = .ok (.getfield 19, 3) := dk_180 0 19 (dk_at dksX8_init_0 14 rfl rfl)
theorem dX8_init_17 : decode cX8_init 17 = .ok (.putfield 19, 3) := dk_181 0 19 (dk_at dksX8_init_0 17 rfl rfl)
theorem dX8_init_20 : decode cX8_init 20 = .ok (.aload_n 0, 1) := dk_42 (dk_at dksX8_init_0 20 rfl rfl)
theorem dX8_init_21 : decode cX8_init 21 = .ok (.aload_n 1, 1) := dk_43 (dk_at dksX8_init_0 21 rfl rfl)
theorem dX8_init_22 : decode cX8_init 22 = .ok (.invokevirtual 22, 3) := dk_182 0 22 (dk_at dksX8_init_1 0 rfl rfl)
theorem dX8_init_25 : decode cX8_init 25 = .ok (.return_, 1) := dk_177 (dk_at dksX8_init_1 3 rfl rfl)
abbrev cX8_init_2 : ByteArray := prog_29_method_1_code
def yX8_init_2 : MethodName := ⟨RX8, "<init>", "(II)V"⟩
def dkwX8_init_2_0 : List UInt8 := [42, 183, 0, 1, 42, 27, 181, 0, 7, 42, 28, 181, 0, 13, 177]
abbrev dktX8_init_2_0 : List UInt8 := dkwX8_init_2_0 ++ []
theorem dksX8_init_2_0 : cX8_init_2.data.toList.drop 0 = dktX8_init_2_0 := by decide +kernel
theorem dX8_init_2_0 : decode cX8_init_2 0 = .ok (.aload_n 0, 1) := dk_42 (dk_at dksX8_init_2_0 0 rfl rfl)
theorem dX8_init_2_1 : decode cX8_init_2 1 = .ok (.invokespecial 1, 3) := dk_183 0 1 (dk_at dksX8_init_2_0 1 rfl rfl)
theorem dX8_init_2_4 : decode cX8_init_2 4 = .ok (.aload_n 0, 1) := dk_42 (dk_at dksX8_init_2_0 4 rfl rfl)
theorem dX8_init_2_5 : decode cX8_init_2 5 = .ok (.iload_n 1, 1) := dk_27 (dk_at dksX8_init_2_0 5 rfl rfl)
theorem dX8_init_2_6 : decode cX8_init_2 6 = .ok (.putfield 7, 3) := dk_181 0 7 (dk_at dksX8_init_2_0 6 rfl rfl)
theorem dX8_init_2_9 : decode cX8_init_2 9 = .ok (.aload_n 0, 1) := dk_42 (dk_at dksX8_init_2_0 9 rfl rfl)
theorem dX8_init_2_10 : decode cX8_init_2 10 = .ok (.iload_n 2, 1) := dk_28 (dk_at dksX8_init_2_0 10 rfl rfl)
theorem dX8_init_2_11 : decode cX8_init_2 11 = .ok (.putfield 13, 3) := dk_181 0 13 (dk_at dksX8_init_2_0 11 rfl rfl)
theorem dX8_init_2_14 : decode cX8_init_2 14 = .ok (.return_, 1) := dk_177 (dk_at dksX8_init_2_0 14 rfl rfl)
abbrev cX8_isDone : ByteArray := prog_29_method_3_code
def yX8_isDone : MethodName := ⟨RX8, "isDone", "()Z"⟩
def dkwX8_isDone_0 : List UInt8 := [42, 180, 0, 19, 42, 180, 0, 7, 160, 0, 7, 4, 167, 0, 4, 3, 172]
abbrev dktX8_isDone_0 : List UInt8 := dkwX8_isDone_0 ++ []
theorem dksX8_isDone_0 : cX8_isDone.data.toList.drop 0 = dktX8_isDone_0 := by decide +kernel
theorem dX8_isDone_0 : decode cX8_isDone 0 = .ok (.aload_n 0, 1) := dk_42 (dk_at dksX8_isDone_0 0 rfl rfl)
theorem dX8_isDone_1 : decode cX8_isDone 1 = .ok (.getfield 19, 3) := dk_180 0 19 (dk_at dksX8_isDone_0 1 rfl rfl)
theorem dX8_isDone_4 : decode cX8_isDone 4 = .ok (.aload_n 0, 1) := dk_42 (dk_at dksX8_isDone_0 4 rfl rfl)
theorem dX8_isDone_5 : decode cX8_isDone 5 = .ok (.getfield 7, 3) := dk_180 0 7 (dk_at dksX8_isDone_0 5 rfl rfl)
theorem dX8_isDone_8 : decode cX8_isDone 8 = .ok (.if_icmp .ne 7, 3) := dk_160 0 7 (dk_at dksX8_isDone_0 8 rfl rfl)
theorem dX8_isDone_11 : decode cX8_isDone 11 = .ok (.iconst 1, 1) := dk_4 (dk_at dksX8_isDone_0 11 rfl rfl)
theorem dX8_isDone_12 : decode cX8_isDone 12 = .ok (.goto 4, 3) := dk_167 0 4 (dk_at dksX8_isDone_0 12 rfl rfl)
theorem dX8_isDone_15 : decode cX8_isDone 15 = .ok (.iconst 0, 1) := dk_3 (dk_at dksX8_isDone_0 15 rfl rfl)
theorem dX8_isDone_16 : decode cX8_isDone 16 = .ok (.ireturn, 1) := dk_172 (dk_at dksX8_isDone_0 16 rfl rfl)
abbrev cX8_isWhole : ByteArray := prog_29_method_5_code
def yX8_isWhole : MethodName := ⟨RX8, "isWhole", "()Z"⟩
def dkwX8_isWhole_0 : List UInt8 := [42, 182, 0, 30, 42, 180, 0, 13, 4, 96, 160, 0, 7, 4, 167, 0, 4, 3, 172]
abbrev dktX8_isWhole_0 : List UInt8 := dkwX8_isWhole_0 ++ []
theorem dksX8_isWhole_0 : cX8_isWhole.data.toList.drop 0 = dktX8_isWhole_0 := by decide +kernel
theorem dX8_isWhole_0 : decode cX8_isWhole 0 = .ok (.aload_n 0, 1) := dk_42 (dk_at dksX8_isWhole_0 0 rfl rfl)
theorem dX8_isWhole_1 : decode cX8_isWhole 1 = .ok (.invokevirtual 30, 3) := dk_182 0 30 (dk_at dksX8_isWhole_0 1 rfl rfl)
theorem dX8_isWhole_4 : decode cX8_isWhole 4 = .ok (.aload_n 0, 1) := dk_42 (dk_at dksX8_isWhole_0 4 rfl rfl)
theorem dX8_isWhole_5 : decode cX8_isWhole 5 = .ok (.getfield 13, 3) := dk_180 0 13 (dk_at dksX8_isWhole_0 5 rfl rfl)
theorem dX8_isWhole_8 : decode cX8_isWhole 8 = .ok (.iconst 1, 1) := dk_4 (dk_at dksX8_isWhole_0 8 rfl rfl)
theorem dX8_isWhole_9 : decode cX8_isWhole 9 = .ok (.iadd, 1) := dk_96 (dk_at dksX8_isWhole_0 9 rfl rfl)
theorem dX8_isWhole_10 : decode cX8_isWhole 10 = .ok (.if_icmp .ne 7, 3) := dk_160 0 7 (dk_at dksX8_isWhole_0 10 rfl rfl)
theorem dX8_isWhole_13 : decode cX8_isWhole 13 = .ok (.iconst 1, 1) := dk_4 (dk_at dksX8_isWhole_0 13 rfl rfl)
theorem dX8_isWhole_14 : decode cX8_isWhole 14 = .ok (.goto 4, 3) := dk_167 0 4 (dk_at dksX8_isWhole_0 14 rfl rfl)
theorem dX8_isWhole_17 : decode cX8_isWhole 17 = .ok (.iconst 0, 1) := dk_3 (dk_at dksX8_isWhole_0 17 rfl rfl)
theorem dX8_isWhole_18 : decode cX8_isWhole 18 = .ok (.ireturn, 1) := dk_172 (dk_at dksX8_isWhole_0 18 rfl rfl)
abbrev cX8_loose : ByteArray := prog_29_method_4_code
def yX8_loose : MethodName := ⟨RX8, "loose", "()I"⟩
def dkwX8_loose_0 : List UInt8 := [42, 182, 0, 26, 42, 180, 0, 19, 42, 180, 0, 13, 4, 96, 104, 100, 172]
abbrev dktX8_loose_0 : List UInt8 := dkwX8_loose_0 ++ []
theorem dksX8_loose_0 : cX8_loose.data.toList.drop 0 = dktX8_loose_0 := by decide +kernel
theorem dX8_loose_0 : decode cX8_loose 0 = .ok (.aload_n 0, 1) := dk_42 (dk_at dksX8_loose_0 0 rfl rfl)
theorem dX8_loose_1 : decode cX8_loose 1 = .ok (.invokevirtual 26, 3) := dk_182 0 26 (dk_at dksX8_loose_0 1 rfl rfl)
theorem dX8_loose_4 : decode cX8_loose 4 = .ok (.aload_n 0, 1) := dk_42 (dk_at dksX8_loose_0 4 rfl rfl)
theorem dX8_loose_5 : decode cX8_loose 5 = .ok (.getfield 19, 3) := dk_180 0 19 (dk_at dksX8_loose_0 5 rfl rfl)
theorem dX8_loose_8 : decode cX8_loose 8 = .ok (.aload_n 0, 1) := dk_42 (dk_at dksX8_loose_0 8 rfl rfl)
theorem dX8_loose_9 : decode cX8_loose 9 = .ok (.getfield 13, 3) := dk_180 0 13 (dk_at dksX8_loose_0 9 rfl rfl)
theorem dX8_loose_12 : decode cX8_loose 12 = .ok (.iconst 1, 1) := dk_4 (dk_at dksX8_loose_0 12 rfl rfl)
theorem dX8_loose_13 : decode cX8_loose 13 = .ok (.iadd, 1) := dk_96 (dk_at dksX8_loose_0 13 rfl rfl)
theorem dX8_loose_14 : decode cX8_loose 14 = .ok (.imul, 1) := dk_104 (dk_at dksX8_loose_0 14 rfl rfl)
theorem dX8_loose_15 : decode cX8_loose 15 = .ok (.isub, 1) := dk_100 (dk_at dksX8_loose_0 15 rfl rfl)
theorem dX8_loose_16 : decode cX8_loose 16 = .ok (.ireturn, 1) := dk_172 (dk_at dksX8_loose_0 16 rfl rfl)
abbrev cX8_wantsLarge : ByteArray := prog_29_method_6_code
def yX8_wantsLarge : MethodName := ⟨RX8, "wantsLarge", "()Z"⟩
def dkwX8_wantsLarge_0 : List UInt8 := [42, 182, 0, 30, 154, 0, 7, 4, 167, 0, 4, 3, 172]
abbrev dktX8_wantsLarge_0 : List UInt8 := dkwX8_wantsLarge_0 ++ []
theorem dksX8_wantsLarge_0 : cX8_wantsLarge.data.toList.drop 0 = dktX8_wantsLarge_0 := by decide +kernel
theorem dX8_wantsLarge_0 : decode cX8_wantsLarge 0 = .ok (.aload_n 0, 1) := dk_42 (dk_at dksX8_wantsLarge_0 0 rfl rfl)
theorem dX8_wantsLarge_1 : decode cX8_wantsLarge 1 = .ok (.invokevirtual 30, 3) := dk_182 0 30 (dk_at dksX8_wantsLarge_0 1 rfl rfl)
theorem dX8_wantsLarge_4 : decode cX8_wantsLarge 4 = .ok (.ifCond .ne 7, 3) := dk_154 0 7 (dk_at dksX8_wantsLarge_0 4 rfl rfl)
theorem dX8_wantsLarge_7 : decode cX8_wantsLarge 7 = .ok (.iconst 1, 1) := dk_4 (dk_at dksX8_wantsLarge_0 7 rfl rfl)
theorem dX8_wantsLarge_8 : decode cX8_wantsLarge 8 = .ok (.goto 4, 3) := dk_167 0 4 (dk_at dksX8_wantsLarge_0 8 rfl rfl)
theorem dX8_wantsLarge_11 : decode cX8_wantsLarge 11 = .ok (.iconst 0, 1) := dk_3 (dk_at dksX8_wantsLarge_0 11 rfl rfl)
theorem dX8_wantsLarge_12 : decode cX8_wantsLarge 12 = .ok (.ireturn, 1) := dk_172 (dk_at dksX8_wantsLarge_0 12 rfl rfl)
abbrev cX8_drops : ByteArray := prog_29_method_8_code
def yX8_drops : MethodName := ⟨RX8, "drops", "()LRosaryCarvers$Bead;"⟩
def dkwX8_drops_0 : List UInt8 := [42, 180, 0, 49, 42, 182, 0, 26, 4, 100, 182, 0, 53, 192, 0, 59, 176]
abbrev dktX8_drops_0 : List UInt8 := dkwX8_drops_0 ++ []
theorem dksX8_drops_0 : cX8_drops.data.toList.drop 0 = dktX8_drops_0 := by decide +kernel
theorem dX8_drops_0 : decode cX8_drops 0 = .ok (.aload_n 0, 1) := dk_42 (dk_at dksX8_drops_0 0 rfl rfl)
theorem dX8_drops_1 : decode cX8_drops 1 = .ok (.getfield 49, 3) := dk_180 0 49 (dk_at dksX8_drops_0 1 rfl rfl)
theorem dX8_drops_4 : decode cX8_drops 4 = .ok (.aload_n 0, 1) := dk_42 (dk_at dksX8_drops_0 4 rfl rfl)
theorem dX8_drops_5 : decode cX8_drops 5 = .ok (.invokevirtual 26, 3) := dk_182 0 26 (dk_at dksX8_drops_0 5 rfl rfl)
theorem dX8_drops_8 : decode cX8_drops 8 = .ok (.iconst 1, 1) := dk_4 (dk_at dksX8_drops_0 8 rfl rfl)
theorem dX8_drops_9 : decode cX8_drops 9 = .ok (.isub, 1) := dk_100 (dk_at dksX8_drops_0 9 rfl rfl)
theorem dX8_drops_10 : decode cX8_drops 10 = .ok (.invokevirtual 53, 3) := dk_182 0 53 (dk_at dksX8_drops_0 10 rfl rfl)
theorem dX8_drops_13 : decode cX8_drops 13 = .ok (.checkcast 59, 3) := dk_192 0 59 (dk_at dksX8_drops_0 13 rfl rfl)
theorem dX8_drops_16 : decode cX8_drops 16 = .ok (.areturn, 1) := dk_176 (dk_at dksX8_drops_0 16 rfl rfl)
abbrev cX8_wants : ByteArray := prog_29_method_7_code
def yX8_wants : MethodName := ⟨RX8, "wants", "()I"⟩
def dkwX8_wants_1 : List UInt8 := [184, 0, 43, 172]
abbrev dktX8_wants_1 : List UInt8 := dkwX8_wants_1 ++ []
def dkwX8_wants_0 : List UInt8 := [42, 182, 0, 33, 153, 0, 5, 6, 172, 42, 182, 0, 37, 153, 0, 7, 5, 167, 0, 10, 42, 182, 0, 40]
abbrev dktX8_wants_0 : List UInt8 := dkwX8_wants_0 ++ dktX8_wants_1
theorem dksX8_wants_0 : cX8_wants.data.toList.drop 0 = dktX8_wants_0 := by decide +kernel
theorem dksX8_wants_1 : cX8_wants.data.toList.drop 24 = dktX8_wants_1 := dk_seg dksX8_wants_0 24 rfl rfl
theorem dX8_wants_0 : decode cX8_wants 0 = .ok (.aload_n 0, 1) := dk_42 (dk_at dksX8_wants_0 0 rfl rfl)
theorem dX8_wants_1 : decode cX8_wants 1 = .ok (.invokevirtual 33, 3) := dk_182 0 33 (dk_at dksX8_wants_0 1 rfl rfl)
theorem dX8_wants_4 : decode cX8_wants 4 = .ok (.ifCond .eq 5, 3) := dk_153 0 5 (dk_at dksX8_wants_0 4 rfl rfl)
theorem dX8_wants_7 : decode cX8_wants 7 = .ok (.iconst 3, 1) := dk_6 (dk_at dksX8_wants_0 7 rfl rfl)
theorem dX8_wants_8 : decode cX8_wants 8 = .ok (.ireturn, 1) := dk_172 (dk_at dksX8_wants_0 8 rfl rfl)
theorem dX8_wants_9 : decode cX8_wants 9 = .ok (.aload_n 0, 1) := dk_42 (dk_at dksX8_wants_0 9 rfl rfl)
theorem dX8_wants_10 : decode cX8_wants 10 = .ok (.invokevirtual 37, 3) := dk_182 0 37 (dk_at dksX8_wants_0 10 rfl rfl)
theorem dX8_wants_13 : decode cX8_wants 13 = .ok (.ifCond .eq 7, 3) := dk_153 0 7 (dk_at dksX8_wants_0 13 rfl rfl)
theorem dX8_wants_16 : decode cX8_wants 16 = .ok (.iconst 2, 1) := dk_5 (dk_at dksX8_wants_0 16 rfl rfl)
theorem dX8_wants_17 : decode cX8_wants 17 = .ok (.goto 10, 3) := dk_167 0 10 (dk_at dksX8_wants_0 17 rfl rfl)
theorem dX8_wants_20 : decode cX8_wants 20 = .ok (.aload_n 0, 1) := dk_42 (dk_at dksX8_wants_0 20 rfl rfl)
theorem dX8_wants_21 : decode cX8_wants 21 = .ok (.invokevirtual 40, 3) := dk_182 0 40 (dk_at dksX8_wants_0 21 rfl rfl)
theorem dX8_wants_24 : decode cX8_wants 24 = .ok (.invokestatic 43, 3) := dk_184 0 43 (dk_at dksX8_wants_1 0 rfl rfl)
theorem dX8_wants_27 : decode cX8_wants 27 = .ok (.ireturn, 1) := dk_172 (dk_at dksX8_wants_1 3 rfl rfl)
theorem q97 : (Jvm.Cond.initialized "RosaryCarvers$Rosary") ∈ lw_all := lw_g (lw_at lw_m1 25 rfl) rfl
theorem q185 : (Jvm.Cond.fieldLinkNest "RosaryCarvers$Rosary" (49 : Nat) "RosaryCarvers$Beads" "beads" "Ljava/util/ArrayList;" "RosaryCarvers") ∈ lw_tbl := lw_at lw_m1 113 rfl
theorem q630 : (Jvm.Cond.selects "RosaryCarvers$Rosary" ({ cls := "java/lang/Object", name := "getClass", desc := "()Ljava/lang/Class;" } : Jvm.MethodName) ({ cls := "java/lang/Object", name := "getClass", desc := "()Ljava/lang/Class;" } : Jvm.MethodName)) ∈ lw_all := lw_g (lw_at lw_m3 78 rfl) rfl
theorem q683 : (Jvm.Cond.selects "RosaryCarvers$Rosary" ({ cls := "RosaryCarvers$Beads", name := "becomes", desc := "(LRosaryCarvers$Beads;)V" } : Jvm.MethodName) ({ cls := "RosaryCarvers$Beads", name := "becomes", desc := "(LRosaryCarvers$Beads;)V" } : Jvm.MethodName)) ∈ lw_all := lw_g (lw_at lw_m3 131 rfl) rfl
theorem q717 : (Jvm.Cond.instantiable "RosaryCarvers$Rosary" (4 : Nat)) ∈ lw_all := lw_g (lw_at lw_m3 165 rfl) rfl
theorem q719 : (Jvm.Cond.instanceMethod ({ cls := "RosaryCarvers$Rosary", name := "<init>", desc := "(LRosaryCarvers$Rosary;)V" } : Jvm.MethodName)) ∈ lw_all := lw_g (lw_at lw_m3 167 rfl) rfl
theorem q720 : (Jvm.Cond.code ({ cls := "RosaryCarvers$Rosary", name := "<init>", desc := "(LRosaryCarvers$Rosary;)V" } : Jvm.MethodName) prog_29_method_2_code (2 : Nat) (Option.none : Option Jvm.ClassFile.FieldType)) ∈ lw_all := lw_g (lw_at lw_m3 168 rfl) rfl
theorem q721 : (Jvm.Cond.methodLink "RosaryCarvers$Rosary" (16 : Nat) ({ cls := "RosaryCarvers$Rosary", name := "<init>", desc := "(II)V" } : Jvm.MethodName)) ∈ lw_all := lw_g (lw_at lw_m3 169 rfl) rfl
theorem q722 : (Jvm.Cond.instanceMethod ({ cls := "RosaryCarvers$Rosary", name := "<init>", desc := "(II)V" } : Jvm.MethodName)) ∈ lw_all := lw_g (lw_at lw_m3 170 rfl) rfl
theorem q723 : (Jvm.Cond.code ({ cls := "RosaryCarvers$Rosary", name := "<init>", desc := "(II)V" } : Jvm.MethodName) prog_29_method_1_code (3 : Nat) (Option.none : Option Jvm.ClassFile.FieldType)) ∈ lw_all := lw_g (lw_at lw_m3 171 rfl) rfl
theorem q724 : (Jvm.Cond.methodLinkNest "RosaryCarvers$Rosary" (1 : Nat) ({ cls := "RosaryCarvers$Beads", name := "<init>", desc := "()V" } : Jvm.MethodName) "RosaryCarvers") ∈ lw_tbl := lw_at lw_m3 172 rfl
theorem q725 : (Jvm.Cond.fieldLink "RosaryCarvers$Rosary" (7 : Nat) "RosaryCarvers$Rosary" "groups" "I") ∈ lw_all := lw_g (lw_at lw_m3 173 rfl) rfl
theorem q728 : (Jvm.Cond.fieldLink "RosaryCarvers$Rosary" (13 : Nat) "RosaryCarvers$Rosary" "small" "I") ∈ lw_all := lw_g (lw_at lw_m3 176 rfl) rfl
theorem q731 : (Jvm.Cond.fieldLink "RosaryCarvers$Rosary" (19 : Nat) "RosaryCarvers$Rosary" "knots" "I") ∈ lw_all := lw_g (lw_at lw_m3 179 rfl) rfl
theorem q734 : (Jvm.Cond.laysFinal "RosaryCarvers$Rosary" "RosaryCarvers$Rosary" "groups" "I") ∈ lw_all := lw_g (lw_at lw_m3 182 rfl) rfl
theorem q735 : (Jvm.Cond.soleField "RosaryCarvers$Rosary" "groups") ∈ lw_all := lw_g (lw_at lw_m3 183 rfl) rfl
theorem q736 : (Jvm.Cond.laysFinal "RosaryCarvers$Rosary" "RosaryCarvers$Rosary" "small" "I") ∈ lw_all := lw_g (lw_at lw_m3 184 rfl) rfl
theorem q737 : (Jvm.Cond.soleField "RosaryCarvers$Rosary" "small") ∈ lw_all := lw_g (lw_at lw_m3 185 rfl) rfl
theorem q738 : (Jvm.Cond.lays "RosaryCarvers$Rosary" "RosaryCarvers$Rosary" "knots" "I") ∈ lw_all := lw_g (lw_at lw_m3 186 rfl) rfl
theorem q739 : (Jvm.Cond.soleField "RosaryCarvers$Rosary" "knots") ∈ lw_all := lw_g (lw_at lw_m3 187 rfl) rfl
theorem q740 : (Jvm.Cond.laysFinal "RosaryCarvers$Rosary" "RosaryCarvers$Beads" "beads" "Ljava/util/ArrayList;") ∈ lw_all := lw_g (lw_at lw_m3 188 rfl) rfl
theorem q741 : (Jvm.Cond.superclass "RosaryCarvers$Rosary" "RosaryCarvers$Beads") ∈ lw_all := lw_g (lw_at lw_m3 189 rfl) rfl
theorem q742 : (Jvm.Cond.methodLink "RosaryCarvers$Rosary" (22 : Nat) ({ cls := "RosaryCarvers$Rosary", name := "becomes", desc := "(LRosaryCarvers$Beads;)V" } : Jvm.MethodName)) ∈ lw_all := lw_g (lw_at lw_m3 190 rfl) rfl
theorem q743 : (Jvm.Cond.sameMethod "RosaryCarvers$Rosary" "RosaryCarvers$Beads" "becomes" "(LRosaryCarvers$Beads;)V") ∈ lw_all := lw_g (lw_at lw_m3 191 rfl) rfl
theorem q745 : (Jvm.Cond.selects "RosaryCarvers$Rosary" ({ cls := "RosaryCarvers$Rosary", name := "becomes", desc := "(LRosaryCarvers$Beads;)V" } : Jvm.MethodName) ({ cls := "RosaryCarvers$Beads", name := "becomes", desc := "(LRosaryCarvers$Beads;)V" } : Jvm.MethodName)) ∈ lw_all := lw_g (lw_at lw_m3 193 rfl) rfl
theorem q878 : (Jvm.Cond.selects "RosaryCarvers$Rosary" ({ cls := "RosaryCarvers$Beads", name := "finest", desc := "(Z)LRosaryCarvers$Bead;" } : Jvm.MethodName) ({ cls := "RosaryCarvers$Beads", name := "finest", desc := "(Z)LRosaryCarvers$Bead;" } : Jvm.MethodName)) ∈ lw_all := lw_g (lw_at lw_m4 86 rfl) rfl
theorem q885 : (Jvm.Cond.selects "RosaryCarvers$Rosary" ({ cls := "RosaryCarvers$Beads", name := "of", desc := "(Z)Ljava/lang/Iterable;" } : Jvm.MethodName) ({ cls := "RosaryCarvers$Beads", name := "of", desc := "(Z)Ljava/lang/Iterable;" } : Jvm.MethodName)) ∈ lw_all := lw_g (lw_at lw_m4 93 rfl) rfl
theorem q933 : (Jvm.Cond.castable "RosaryCarvers$Rosary" "java/lang/Iterable") ∈ lw_tbl := lw_at lw_m4 141 rfl
theorem q934 : (Jvm.Cond.selects "RosaryCarvers$Rosary" ({ cls := "java/lang/Iterable", name := "iterator", desc := "()Ljava/util/Iterator;" } : Jvm.MethodName) ({ cls := "RosaryCarvers$Beads", name := "iterator", desc := "()Ljava/util/Iterator;" } : Jvm.MethodName)) ∈ lw_all := lw_g (lw_at lw_m4 142 rfl) rfl
theorem q935 : (Jvm.Cond.unhidden "RosaryCarvers$Rosary" "iterator" "()Ljava/util/Iterator;") ∈ lw_tbl := lw_at lw_m4 143 rfl
theorem q1014 : (Jvm.Cond.instanceMethod ({ cls := "RosaryCarvers$Rosary", name := "isDone", desc := "()Z" } : Jvm.MethodName)) ∈ lw_all := lw_g (lw_at lw_m4 222 rfl) rfl
theorem q1015 : (Jvm.Cond.selects "RosaryCarvers$Rosary" ({ cls := "RosaryCarvers$Rosary", name := "isDone", desc := "()Z" } : Jvm.MethodName) ({ cls := "RosaryCarvers$Rosary", name := "isDone", desc := "()Z" } : Jvm.MethodName)) ∈ lw_all := lw_g (lw_at lw_m4 223 rfl) rfl
theorem q1016 : (Jvm.Cond.code ({ cls := "RosaryCarvers$Rosary", name := "isDone", desc := "()Z" } : Jvm.MethodName) prog_29_method_3_code (1 : Nat) (Option.some Jvm.ClassFile.FieldType.boolean)) ∈ lw_all := lw_g (lw_at lw_m4 224 rfl) rfl
theorem q1018 : (Jvm.Cond.sameMethod "RosaryCarvers$Rosary" "RosaryCarvers$Beads" "many" "(Z)I") ∈ lw_all := lw_g (lw_at lw_m4 226 rfl) rfl
theorem q1020 : (Jvm.Cond.selects "RosaryCarvers$Rosary" ({ cls := "RosaryCarvers$Rosary", name := "many", desc := "(Z)I" } : Jvm.MethodName) ({ cls := "RosaryCarvers$Beads", name := "many", desc := "(Z)I" } : Jvm.MethodName)) ∈ lw_all := lw_g (lw_at lw_m4 228 rfl) rfl
theorem q1029 : (Jvm.Cond.selects "RosaryCarvers$Rosary" ({ cls := "RosaryCarvers$Beads", name := "loses", desc := "(LRosaryCarvers$Bead;)V" } : Jvm.MethodName) ({ cls := "RosaryCarvers$Beads", name := "loses", desc := "(LRosaryCarvers$Bead;)V" } : Jvm.MethodName)) ∈ lw_all := lw_g (lw_at lw_m4 237 rfl) rfl
theorem q1066 : (Jvm.Cond.selects "RosaryCarvers$Rosary" ({ cls := "java/lang/Object", name := "equals", desc := "(Ljava/lang/Object;)Z" } : Jvm.MethodName) ({ cls := "java/lang/Object", name := "equals", desc := "(Ljava/lang/Object;)Z" } : Jvm.MethodName)) ∈ lw_all := lw_g (lw_at lw_m5 34 rfl) rfl
theorem q1142 : (Jvm.Cond.selects "RosaryCarvers$Rosary" ({ cls := "RosaryCarvers$Beads", name := "sum", desc := "()I" } : Jvm.MethodName) ({ cls := "RosaryCarvers$Beads", name := "sum", desc := "()I" } : Jvm.MethodName)) ∈ lw_all := lw_g (lw_at lw_m5 110 rfl) rfl
theorem q1259 : (Jvm.Cond.sameMethod "RosaryCarvers$Rosary" "RosaryCarvers$Beads" "fineness" "()I") ∈ lw_all := lw_g (lw_at lw_m5 227 rfl) rfl
theorem q1260 : (Jvm.Cond.selects "RosaryCarvers$Rosary" ({ cls := "RosaryCarvers$Rosary", name := "fineness", desc := "()I" } : Jvm.MethodName) ({ cls := "RosaryCarvers$Beads", name := "fineness", desc := "()I" } : Jvm.MethodName)) ∈ lw_all := lw_g (lw_at lw_m5 228 rfl) rfl
theorem q1427 : (Jvm.Cond.selects "RosaryCarvers$Rosary" ({ cls := "RosaryCarvers$Beads", name := "adds", desc := "(LRosaryCarvers$Bead;)V" } : Jvm.MethodName) ({ cls := "RosaryCarvers$Beads", name := "adds", desc := "(LRosaryCarvers$Bead;)V" } : Jvm.MethodName)) ∈ lw_all := lw_g (lw_at lw_m6 155 rfl) rfl
theorem q1452 : (Jvm.Cond.instanceMethod ({ cls := "RosaryCarvers$Rosary", name := "isWhole", desc := "()Z" } : Jvm.MethodName)) ∈ lw_all := lw_g (lw_at lw_m6 180 rfl) rfl
theorem q1453 : (Jvm.Cond.selects "RosaryCarvers$Rosary" ({ cls := "RosaryCarvers$Rosary", name := "isWhole", desc := "()Z" } : Jvm.MethodName) ({ cls := "RosaryCarvers$Rosary", name := "isWhole", desc := "()Z" } : Jvm.MethodName)) ∈ lw_all := lw_g (lw_at lw_m6 181 rfl) rfl
theorem q1454 : (Jvm.Cond.code ({ cls := "RosaryCarvers$Rosary", name := "isWhole", desc := "()Z" } : Jvm.MethodName) prog_29_method_5_code (1 : Nat) (Option.some Jvm.ClassFile.FieldType.boolean)) ∈ lw_all := lw_g (lw_at lw_m6 182 rfl) rfl
theorem q1455 : (Jvm.Cond.methodLink "RosaryCarvers$Rosary" (30 : Nat) ({ cls := "RosaryCarvers$Rosary", name := "loose", desc := "()I" } : Jvm.MethodName)) ∈ lw_all := lw_g (lw_at lw_m6 183 rfl) rfl
theorem q1456 : (Jvm.Cond.instanceMethod ({ cls := "RosaryCarvers$Rosary", name := "loose", desc := "()I" } : Jvm.MethodName)) ∈ lw_all := lw_g (lw_at lw_m6 184 rfl) rfl
theorem q1457 : (Jvm.Cond.selects "RosaryCarvers$Rosary" ({ cls := "RosaryCarvers$Rosary", name := "loose", desc := "()I" } : Jvm.MethodName) ({ cls := "RosaryCarvers$Rosary", name := "loose", desc := "()I" } : Jvm.MethodName)) ∈ lw_all := lw_g (lw_at lw_m6 185 rfl) rfl
theorem q1458 : (Jvm.Cond.code ({ cls := "RosaryCarvers$Rosary", name := "loose", desc := "()I" } : Jvm.MethodName) prog_29_method_4_code (1 : Nat) (Option.some Jvm.ClassFile.FieldType.int)) ∈ lw_all := lw_g (lw_at lw_m6 186 rfl) rfl
theorem q1459 : (Jvm.Cond.methodLink "RosaryCarvers$Rosary" (26 : Nat) ({ cls := "RosaryCarvers$Rosary", name := "size", desc := "()I" } : Jvm.MethodName)) ∈ lw_all := lw_g (lw_at lw_m6 187 rfl) rfl
theorem q1460 : (Jvm.Cond.sameMethod "RosaryCarvers$Rosary" "RosaryCarvers$Beads" "size" "()I") ∈ lw_all := lw_g (lw_at lw_m6 188 rfl) rfl
theorem q1461 : (Jvm.Cond.selects "RosaryCarvers$Rosary" ({ cls := "RosaryCarvers$Rosary", name := "size", desc := "()I" } : Jvm.MethodName) ({ cls := "RosaryCarvers$Beads", name := "size", desc := "()I" } : Jvm.MethodName)) ∈ lw_all := lw_g (lw_at lw_m6 189 rfl) rfl
theorem q1463 : (Jvm.Cond.instanceMethod ({ cls := "RosaryCarvers$Rosary", name := "wantsLarge", desc := "()Z" } : Jvm.MethodName)) ∈ lw_all := lw_g (lw_at lw_m6 191 rfl) rfl
theorem q1464 : (Jvm.Cond.selects "RosaryCarvers$Rosary" ({ cls := "RosaryCarvers$Rosary", name := "wantsLarge", desc := "()Z" } : Jvm.MethodName) ({ cls := "RosaryCarvers$Rosary", name := "wantsLarge", desc := "()Z" } : Jvm.MethodName)) ∈ lw_all := lw_g (lw_at lw_m6 192 rfl) rfl
theorem q1465 : (Jvm.Cond.code ({ cls := "RosaryCarvers$Rosary", name := "wantsLarge", desc := "()Z" } : Jvm.MethodName) prog_29_method_6_code (1 : Nat) (Option.some Jvm.ClassFile.FieldType.boolean)) ∈ lw_all := lw_g (lw_at lw_m6 193 rfl) rfl
theorem q1467 : (Jvm.Cond.sameMethod "RosaryCarvers$Rosary" "RosaryCarvers$Beads" "adds" "(LRosaryCarvers$Bead;)V") ∈ lw_all := lw_g (lw_at lw_m6 195 rfl) rfl
theorem q1469 : (Jvm.Cond.selects "RosaryCarvers$Rosary" ({ cls := "RosaryCarvers$Rosary", name := "adds", desc := "(LRosaryCarvers$Bead;)V" } : Jvm.MethodName) ({ cls := "RosaryCarvers$Beads", name := "adds", desc := "(LRosaryCarvers$Bead;)V" } : Jvm.MethodName)) ∈ lw_all := lw_g (lw_at lw_m6 197 rfl) rfl
theorem q1480 : (Jvm.Cond.instanceMethod ({ cls := "RosaryCarvers$Rosary", name := "drops", desc := "()LRosaryCarvers$Bead;" } : Jvm.MethodName)) ∈ lw_all := lw_g (lw_at lw_m6 208 rfl) rfl
theorem q1481 : (Jvm.Cond.selects "RosaryCarvers$Rosary" ({ cls := "RosaryCarvers$Rosary", name := "drops", desc := "()LRosaryCarvers$Bead;" } : Jvm.MethodName) ({ cls := "RosaryCarvers$Rosary", name := "drops", desc := "()LRosaryCarvers$Bead;" } : Jvm.MethodName)) ∈ lw_all := lw_g (lw_at lw_m6 209 rfl) rfl
theorem q1482 : (Jvm.Cond.code ({ cls := "RosaryCarvers$Rosary", name := "drops", desc := "()LRosaryCarvers$Bead;" } : Jvm.MethodName) prog_29_method_8_code (1 : Nat) (Option.some (Jvm.ClassFile.FieldType.object "RosaryCarvers$Bead"))) ∈ lw_all := lw_g (lw_at lw_m6 210 rfl) rfl
theorem q1483 : (Jvm.Cond.methodLink "RosaryCarvers$Rosary" (53 : Nat) ({ cls := "java/util/ArrayList", name := "remove", desc := "(I)Ljava/lang/Object;" } : Jvm.MethodName)) ∈ lw_all := lw_g (lw_at lw_m6 211 rfl) rfl
theorem q1484 : (Jvm.Cond.classLink "RosaryCarvers$Rosary" (59 : Nat) "RosaryCarvers$Bead") ∈ lw_all := lw_g (lw_at lw_m6 212 rfl) rfl
theorem q1858 : (Jvm.Cond.instanceMethod ({ cls := "RosaryCarvers$Rosary", name := "wants", desc := "()I" } : Jvm.MethodName)) ∈ lw_all := lw_g (lw_at lw_m8 106 rfl) rfl
theorem q1859 : (Jvm.Cond.selects "RosaryCarvers$Rosary" ({ cls := "RosaryCarvers$Rosary", name := "wants", desc := "()I" } : Jvm.MethodName) ({ cls := "RosaryCarvers$Rosary", name := "wants", desc := "()I" } : Jvm.MethodName)) ∈ lw_all := lw_g (lw_at lw_m8 107 rfl) rfl
theorem q1860 : (Jvm.Cond.code ({ cls := "RosaryCarvers$Rosary", name := "wants", desc := "()I" } : Jvm.MethodName) prog_29_method_7_code (1 : Nat) (Option.some Jvm.ClassFile.FieldType.int)) ∈ lw_all := lw_g (lw_at lw_m8 108 rfl) rfl
theorem q1861 : (Jvm.Cond.methodLink "RosaryCarvers$Rosary" (33 : Nat) ({ cls := "RosaryCarvers$Rosary", name := "isDone", desc := "()Z" } : Jvm.MethodName)) ∈ lw_all := lw_g (lw_at lw_m8 109 rfl) rfl
theorem q1862 : (Jvm.Cond.methodLink "RosaryCarvers$Rosary" (37 : Nat) ({ cls := "RosaryCarvers$Rosary", name := "isWhole", desc := "()Z" } : Jvm.MethodName)) ∈ lw_all := lw_g (lw_at lw_m8 110 rfl) rfl
theorem q1863 : (Jvm.Cond.methodLink "RosaryCarvers$Rosary" (40 : Nat) ({ cls := "RosaryCarvers$Rosary", name := "wantsLarge", desc := "()Z" } : Jvm.MethodName)) ∈ lw_all := lw_g (lw_at lw_m8 111 rfl) rfl
theorem q1864 : (Jvm.Cond.methodLinkNest "RosaryCarvers$Rosary" (43 : Nat) ({ cls := "RosaryCarvers", name := "bit", desc := "(Z)I" } : Jvm.MethodName) "RosaryCarvers") ∈ lw_tbl := lw_at lw_m8 112 rfl
theorem q1870 : (Jvm.Cond.sameMethod "RosaryCarvers$Rosary" "RosaryCarvers$Beads" "iterator" "()Ljava/util/Iterator;") ∈ lw_all := lw_g (lw_at lw_m8 118 rfl) rfl
theorem q1871 : (Jvm.Cond.selects "RosaryCarvers$Rosary" ({ cls := "RosaryCarvers$Rosary", name := "iterator", desc := "()Ljava/util/Iterator;" } : Jvm.MethodName) ({ cls := "RosaryCarvers$Beads", name := "iterator", desc := "()Ljava/util/Iterator;" } : Jvm.MethodName)) ∈ lw_all := lw_g (lw_at lw_m8 119 rfl) rfl
theorem q2787 : (Jvm.Cond.selects "RosaryCarvers$Rosary" ({ cls := "RosaryCarvers$Beads", name := "size", desc := "()I" } : Jvm.MethodName) ({ cls := "RosaryCarvers$Beads", name := "size", desc := "()I" } : Jvm.MethodName)) ∈ lw_all := lw_g (lw_at lw_m12 75 rfl) rfl
theorem q2793 : (Jvm.Cond.selects "RosaryCarvers$Rosary" ({ cls := "RosaryCarvers$Beads", name := "many", desc := "(Z)I" } : Jvm.MethodName) ({ cls := "RosaryCarvers$Beads", name := "many", desc := "(Z)I" } : Jvm.MethodName)) ∈ lw_all := lw_g (lw_at lw_m12 81 rfl) rfl
theorem q2797 : (Jvm.Cond.selects "RosaryCarvers$Rosary" ({ cls := "RosaryCarvers$Beads", name := "iterator", desc := "()Ljava/util/Iterator;" } : Jvm.MethodName) ({ cls := "RosaryCarvers$Beads", name := "iterator", desc := "()Ljava/util/Iterator;" } : Jvm.MethodName)) ∈ lw_all := lw_g (lw_at lw_m12 85 rfl) rfl
theorem q2805 : (Jvm.Cond.castable "RosaryCarvers$Rosary" "RosaryCarvers$Beads") ∈ lw_tbl := lw_at lw_m12 93 rfl
theorem q2819 : (Jvm.Cond.castable "RosaryCarvers$Rosary" "java/lang/Object") ∈ lw_tbl := lw_at lw_m12 107 rfl
theorem in_X8 : ∀ w ∈ wsX80, w ∈ lw_all := lw_in wsX80 [740, 734, 736, 738] (by decide +kernel) (by decide +kernel)

/-! RosaryCarvers$Refused -/
set_option maxRecDepth 100000
def RX9 : String := "RosaryCarvers$Refused"
def TX9 : u_T := fun k => match k with
  | 0 => ("java/lang/Throwable", "cause", "Ljava/lang/Throwable;", false)
  | 1 => ("java/lang/Throwable", "stackTrace", "[Ljava/lang/StackTraceElement;", false)
  | 2 => ("java/lang/Throwable", "suppressedExceptions", "Ljava/util/List;", false)
  | 3 => ("java/lang/Throwable", "detailMessage", "Ljava/lang/String;", false)
  | 4 => ("java/lang/Throwable", "backtrace", "Ljava/lang/Object;", false)
  | 5 => ("java/lang/Throwable", "depth", "I", false)
  | 6 => ("RosaryCarvers$Refused", "reason", "I", true)
  | _ => ("RosaryCarvers$Refused", "detail", "I", true)
def tyX9 : Nat → FieldType := fun k => match k with
  | 0 => .object "java/lang/Throwable"
  | 1 => .array (.object "java/lang/StackTraceElement")
  | 2 => .object "java/util/List"
  | 3 => .object "java/lang/String"
  | 4 => .object "java/lang/Object"
  | 5 => .int
  | 6 => .int
  | _ => .int
abbrev wsX90 : List Cond := u_ws RX9 TX9 8
theorem nmX9 : ∀ a, a < 8 → ∀ b, b < 8 → a ≠ b → (TX9 a).2.1 ≠ (TX9 b).2.1 := by decide +kernel
theorem tyX9_ok : ∀ k, k < 8 → parseFieldDescriptor (TX9 k).2.2.1 = some (tyX9 k) := by decide +kernel
abbrev cX9_init : ByteArray := prog_28_method_2_code
def yX9_init : MethodName := ⟨RX9, "<init>", "(II)V"⟩
def dkwX9_init_0 : List UInt8 := [42, 27, 28, 1, 183, 0, 16, 177]
abbrev dktX9_init_0 : List UInt8 := dkwX9_init_0 ++ []
theorem dksX9_init_0 : cX9_init.data.toList.drop 0 = dktX9_init_0 := by decide +kernel
theorem dX9_init_0 : decode cX9_init 0 = .ok (.aload_n 0, 1) := dk_42 (dk_at dksX9_init_0 0 rfl rfl)
theorem dX9_init_1 : decode cX9_init 1 = .ok (.iload_n 1, 1) := dk_27 (dk_at dksX9_init_0 1 rfl rfl)
theorem dX9_init_2 : decode cX9_init 2 = .ok (.iload_n 2, 1) := dk_28 (dk_at dksX9_init_0 2 rfl rfl)
theorem dX9_init_3 : decode cX9_init 3 = .ok (.aconst_null, 1) := dk_1 (dk_at dksX9_init_0 3 rfl rfl)
theorem dX9_init_4 : decode cX9_init 4 = .ok (.invokespecial 16, 3) := dk_183 0 16 (dk_at dksX9_init_0 4 rfl rfl)
theorem dX9_init_7 : decode cX9_init 7 = .ok (.return_, 1) := dk_177 (dk_at dksX9_init_0 7 rfl rfl)
abbrev cX9_init_2 : ByteArray := prog_28_method_1_code
def yX9_init_2 : MethodName := ⟨RX9, "<init>", "(IILjava/lang/Exception;)V"⟩
def dkwX9_init_2_0 : List UInt8 := [42, 1, 45, 3, 3, 183, 0, 1, 42, 27, 181, 0, 7, 42, 28, 181, 0, 13, 177]
abbrev dktX9_init_2_0 : List UInt8 := dkwX9_init_2_0 ++ []
theorem dksX9_init_2_0 : cX9_init_2.data.toList.drop 0 = dktX9_init_2_0 := by decide +kernel
theorem dX9_init_2_0 : decode cX9_init_2 0 = .ok (.aload_n 0, 1) := dk_42 (dk_at dksX9_init_2_0 0 rfl rfl)
theorem dX9_init_2_1 : decode cX9_init_2 1 = .ok (.aconst_null, 1) := dk_1 (dk_at dksX9_init_2_0 1 rfl rfl)
theorem dX9_init_2_2 : decode cX9_init_2 2 = .ok (.aload_n 3, 1) := dk_45 (dk_at dksX9_init_2_0 2 rfl rfl)
theorem dX9_init_2_3 : decode cX9_init_2 3 = .ok (.iconst 0, 1) := dk_3 (dk_at dksX9_init_2_0 3 rfl rfl)
theorem dX9_init_2_4 : decode cX9_init_2 4 = .ok (.iconst 0, 1) := dk_3 (dk_at dksX9_init_2_0 4 rfl rfl)
theorem dX9_init_2_5 : decode cX9_init_2 5 = .ok (.invokespecial 1, 3) := dk_183 0 1 (dk_at dksX9_init_2_0 5 rfl rfl)
theorem dX9_init_2_8 : decode cX9_init_2 8 = .ok (.aload_n 0, 1) := dk_42 (dk_at dksX9_init_2_0 8 rfl rfl)
theorem dX9_init_2_9 : decode cX9_init_2 9 = .ok (.iload_n 1, 1) := dk_27 (dk_at dksX9_init_2_0 9 rfl rfl)
theorem dX9_init_2_10 : decode cX9_init_2 10 = .ok (.putfield 7, 3) := dk_181 0 7 (dk_at dksX9_init_2_0 10 rfl rfl)
theorem dX9_init_2_13 : decode cX9_init_2 13 = .ok (.aload_n 0, 1) := dk_42 (dk_at dksX9_init_2_0 13 rfl rfl)
theorem dX9_init_2_14 : decode cX9_init_2 14 = .ok (.iload_n 2, 1) := dk_28 (dk_at dksX9_init_2_0 14 rfl rfl)
theorem dX9_init_2_15 : decode cX9_init_2 15 = .ok (.putfield 13, 3) := dk_181 0 13 (dk_at dksX9_init_2_0 15 rfl rfl)
theorem dX9_init_2_18 : decode cX9_init_2 18 = .ok (.return_, 1) := dk_177 (dk_at dksX9_init_2_0 18 rfl rfl)
abbrev cX9_behind : ByteArray := prog_28_method_3_code
def yX9_behind : MethodName := ⟨RX9, "behind", "(I)LRosaryCarvers$Refused;"⟩
def dkwX9_behind_1 : List UInt8 := [27, 4, 100, 182, 0, 23, 167, 0, 4, 1, 176]
abbrev dktX9_behind_1 : List UInt8 := dkwX9_behind_1 ++ []
def dkwX9_behind_0 : List UInt8 := [27, 154, 0, 5, 42, 176, 42, 182, 0, 19, 78, 45, 193, 0, 8, 153, 0, 18, 45, 192, 0, 8, 77, 44]
abbrev dktX9_behind_0 : List UInt8 := dkwX9_behind_0 ++ dktX9_behind_1
theorem dksX9_behind_0 : cX9_behind.data.toList.drop 0 = dktX9_behind_0 := by decide +kernel
theorem dksX9_behind_1 : cX9_behind.data.toList.drop 24 = dktX9_behind_1 := dk_seg dksX9_behind_0 24 rfl rfl
theorem dX9_behind_0 : decode cX9_behind 0 = .ok (.iload_n 1, 1) := dk_27 (dk_at dksX9_behind_0 0 rfl rfl)
theorem dX9_behind_1 : decode cX9_behind 1 = .ok (.ifCond .ne 5, 3) := dk_154 0 5 (dk_at dksX9_behind_0 1 rfl rfl)
theorem dX9_behind_4 : decode cX9_behind 4 = .ok (.aload_n 0, 1) := dk_42 (dk_at dksX9_behind_0 4 rfl rfl)
theorem dX9_behind_5 : decode cX9_behind 5 = .ok (.areturn, 1) := dk_176 (dk_at dksX9_behind_0 5 rfl rfl)
theorem dX9_behind_6 : decode cX9_behind 6 = .ok (.aload_n 0, 1) := dk_42 (dk_at dksX9_behind_0 6 rfl rfl)
theorem dX9_behind_7 : decode cX9_behind 7 = .ok (.invokevirtual 19, 3) := dk_182 0 19 (dk_at dksX9_behind_0 7 rfl rfl)
theorem dX9_behind_10 : decode cX9_behind 10 = .ok (.astore_n 3, 1) := dk_78 (dk_at dksX9_behind_0 10 rfl rfl)
theorem dX9_behind_11 : decode cX9_behind 11 = .ok (.aload_n 3, 1) := dk_45 (dk_at dksX9_behind_0 11 rfl rfl)
theorem dX9_behind_12 : decode cX9_behind 12 = .ok (.instanceof 8, 3) := dk_193 0 8 (dk_at dksX9_behind_0 12 rfl rfl)
theorem dX9_behind_15 : decode cX9_behind 15 = .ok (.ifCond .eq 18, 3) := dk_153 0 18 (dk_at dksX9_behind_0 15 rfl rfl)
theorem dX9_behind_18 : decode cX9_behind 18 = .ok (.aload_n 3, 1) := dk_45 (dk_at dksX9_behind_0 18 rfl rfl)
theorem dX9_behind_19 : decode cX9_behind 19 = .ok (.checkcast 8, 3) := dk_192 0 8 (dk_at dksX9_behind_0 19 rfl rfl)
theorem dX9_behind_22 : decode cX9_behind 22 = .ok (.astore_n 2, 1) := dk_77 (dk_at dksX9_behind_0 22 rfl rfl)
theorem dX9_behind_23 : decode cX9_behind 23 = .ok (.aload_n 2, 1) := dk_44 (dk_at dksX9_behind_0 23 rfl rfl)
theorem dX9_behind_24 : decode cX9_behind 24 = .ok (.iload_n 1, 1) := dk_27 (dk_at dksX9_behind_1 0 rfl rfl)
theorem dX9_behind_25 : decode cX9_behind 25 = .ok (.iconst 1, 1) := dk_4 (dk_at dksX9_behind_1 1 rfl rfl)
theorem dX9_behind_26 : decode cX9_behind 26 = .ok (.isub, 1) := dk_100 (dk_at dksX9_behind_1 2 rfl rfl)
theorem dX9_behind_27 : decode cX9_behind 27 = .ok (.invokevirtual 23, 3) := dk_182 0 23 (dk_at dksX9_behind_1 3 rfl rfl)
theorem dX9_behind_30 : decode cX9_behind 30 = .ok (.goto 4, 3) := dk_167 0 4 (dk_at dksX9_behind_1 6 rfl rfl)
theorem dX9_behind_33 : decode cX9_behind 33 = .ok (.aconst_null, 1) := dk_1 (dk_at dksX9_behind_1 9 rfl rfl)
theorem dX9_behind_34 : decode cX9_behind 34 = .ok (.areturn, 1) := dk_176 (dk_at dksX9_behind_1 10 rfl rfl)
theorem q98 : (Jvm.Cond.initialized "RosaryCarvers$Refused") ∈ lw_all := lw_g (lw_at lw_m1 26 rfl) rfl
theorem q470 : (Jvm.Cond.selects "RosaryCarvers$Refused" ({ cls := "java/lang/Throwable", name := "fillInStackTrace", desc := "()Ljava/lang/Throwable;" } : Jvm.MethodName) ({ cls := "java/lang/Throwable", name := "fillInStackTrace", desc := "()Ljava/lang/Throwable;" } : Jvm.MethodName)) ∈ lw_all := lw_g (lw_at lw_m2 158 rfl) rfl
theorem q629 : (Jvm.Cond.selects "RosaryCarvers$Refused" ({ cls := "java/lang/Object", name := "getClass", desc := "()Ljava/lang/Class;" } : Jvm.MethodName) ({ cls := "java/lang/Object", name := "getClass", desc := "()Ljava/lang/Class;" } : Jvm.MethodName)) ∈ lw_all := lw_g (lw_at lw_m3 77 rfl) rfl
theorem q797 : (Jvm.Cond.instantiable "RosaryCarvers$Refused" (8 : Nat)) ∈ lw_all := lw_g (lw_at lw_m4 5 rfl) rfl
theorem q798 : (Jvm.Cond.castable "RosaryCarvers$Refused" "RosaryCarvers$Refused") ∈ lw_tbl := lw_at lw_m4 6 rfl
theorem q799 : (Jvm.Cond.selects "RosaryCarvers$Refused" ({ cls := "java/lang/Throwable", name := "fillInStackTrace", desc := "(I)Ljava/lang/Throwable;" } : Jvm.MethodName) ({ cls := "java/lang/Throwable", name := "fillInStackTrace", desc := "(I)Ljava/lang/Throwable;" } : Jvm.MethodName)) ∈ lw_all := lw_g (lw_at lw_m4 7 rfl) rfl
theorem q800 : (Jvm.Cond.lays "RosaryCarvers$Refused" "java/lang/Throwable" "cause" "Ljava/lang/Throwable;") ∈ lw_all := lw_g (lw_at lw_m4 8 rfl) rfl
theorem q801 : (Jvm.Cond.lays "RosaryCarvers$Refused" "java/lang/Throwable" "stackTrace" "[Ljava/lang/StackTraceElement;") ∈ lw_all := lw_g (lw_at lw_m4 9 rfl) rfl
theorem q802 : (Jvm.Cond.lays "RosaryCarvers$Refused" "java/lang/Throwable" "suppressedExceptions" "Ljava/util/List;") ∈ lw_all := lw_g (lw_at lw_m4 10 rfl) rfl
theorem q803 : (Jvm.Cond.lays "RosaryCarvers$Refused" "java/lang/Throwable" "detailMessage" "Ljava/lang/String;") ∈ lw_all := lw_g (lw_at lw_m4 11 rfl) rfl
theorem q804 : (Jvm.Cond.lays "RosaryCarvers$Refused" "java/lang/Throwable" "backtrace" "Ljava/lang/Object;") ∈ lw_all := lw_g (lw_at lw_m4 12 rfl) rfl
theorem q806 : (Jvm.Cond.instanceMethod ({ cls := "RosaryCarvers$Refused", name := "<init>", desc := "(II)V" } : Jvm.MethodName)) ∈ lw_all := lw_g (lw_at lw_m4 14 rfl) rfl
theorem q807 : (Jvm.Cond.code ({ cls := "RosaryCarvers$Refused", name := "<init>", desc := "(II)V" } : Jvm.MethodName) prog_28_method_2_code (3 : Nat) (Option.none : Option Jvm.ClassFile.FieldType)) ∈ lw_all := lw_g (lw_at lw_m4 15 rfl) rfl
theorem q808 : (Jvm.Cond.methodLink "RosaryCarvers$Refused" (16 : Nat) ({ cls := "RosaryCarvers$Refused", name := "<init>", desc := "(IILjava/lang/Exception;)V" } : Jvm.MethodName)) ∈ lw_all := lw_g (lw_at lw_m4 16 rfl) rfl
theorem q809 : (Jvm.Cond.instanceMethod ({ cls := "RosaryCarvers$Refused", name := "<init>", desc := "(IILjava/lang/Exception;)V" } : Jvm.MethodName)) ∈ lw_all := lw_g (lw_at lw_m4 17 rfl) rfl
theorem q810 : (Jvm.Cond.code ({ cls := "RosaryCarvers$Refused", name := "<init>", desc := "(IILjava/lang/Exception;)V" } : Jvm.MethodName) prog_28_method_1_code (4 : Nat) (Option.none : Option Jvm.ClassFile.FieldType)) ∈ lw_all := lw_g (lw_at lw_m4 18 rfl) rfl
theorem q811 : (Jvm.Cond.methodLink "RosaryCarvers$Refused" (1 : Nat) ({ cls := "java/lang/Exception", name := "<init>", desc := "(Ljava/lang/String;Ljava/lang/Throwable;ZZ)V" } : Jvm.MethodName)) ∈ lw_all := lw_g (lw_at lw_m4 19 rfl) rfl
theorem q817 : (Jvm.Cond.fieldLink "RosaryCarvers$Refused" (7 : Nat) "RosaryCarvers$Refused" "reason" "I") ∈ lw_all := lw_g (lw_at lw_m4 25 rfl) rfl
theorem q819 : (Jvm.Cond.fieldLink "RosaryCarvers$Refused" (13 : Nat) "RosaryCarvers$Refused" "detail" "I") ∈ lw_all := lw_g (lw_at lw_m4 27 rfl) rfl
theorem q821 : (Jvm.Cond.laysFinal "RosaryCarvers$Refused" "RosaryCarvers$Refused" "reason" "I") ∈ lw_all := lw_g (lw_at lw_m4 29 rfl) rfl
theorem q822 : (Jvm.Cond.soleField "RosaryCarvers$Refused" "reason") ∈ lw_all := lw_g (lw_at lw_m4 30 rfl) rfl
theorem q823 : (Jvm.Cond.laysFinal "RosaryCarvers$Refused" "RosaryCarvers$Refused" "detail" "I") ∈ lw_all := lw_g (lw_at lw_m4 31 rfl) rfl
theorem q824 : (Jvm.Cond.soleField "RosaryCarvers$Refused" "detail") ∈ lw_all := lw_g (lw_at lw_m4 32 rfl) rfl
theorem q825 : (Jvm.Cond.lays "RosaryCarvers$Refused" "java/lang/Throwable" "depth" "I") ∈ lw_all := lw_g (lw_at lw_m4 33 rfl) rfl
theorem q826 : (Jvm.Cond.superclass "RosaryCarvers$Refused" "java/lang/Exception") ∈ lw_all := lw_g (lw_at lw_m4 34 rfl) rfl
theorem q1065 : (Jvm.Cond.selects "RosaryCarvers$Refused" ({ cls := "java/lang/Object", name := "equals", desc := "(Ljava/lang/Object;)Z" } : Jvm.MethodName) ({ cls := "java/lang/Object", name := "equals", desc := "(Ljava/lang/Object;)Z" } : Jvm.MethodName)) ∈ lw_all := lw_g (lw_at lw_m5 33 rfl) rfl
theorem q2298 : (Jvm.Cond.instanceMethod ({ cls := "RosaryCarvers$Refused", name := "behind", desc := "(I)LRosaryCarvers$Refused;" } : Jvm.MethodName)) ∈ lw_all := lw_g (lw_at lw_m10 66 rfl) rfl
theorem q2299 : (Jvm.Cond.selects "RosaryCarvers$Refused" ({ cls := "RosaryCarvers$Refused", name := "behind", desc := "(I)LRosaryCarvers$Refused;" } : Jvm.MethodName) ({ cls := "RosaryCarvers$Refused", name := "behind", desc := "(I)LRosaryCarvers$Refused;" } : Jvm.MethodName)) ∈ lw_all := lw_g (lw_at lw_m10 67 rfl) rfl
theorem q2300 : (Jvm.Cond.code ({ cls := "RosaryCarvers$Refused", name := "behind", desc := "(I)LRosaryCarvers$Refused;" } : Jvm.MethodName) prog_28_method_3_code (4 : Nat) (Option.some (Jvm.ClassFile.FieldType.object "RosaryCarvers$Refused"))) ∈ lw_all := lw_g (lw_at lw_m10 68 rfl) rfl
theorem q2301 : (Jvm.Cond.methodLink "RosaryCarvers$Refused" (19 : Nat) ({ cls := "RosaryCarvers$Refused", name := "getCause", desc := "()Ljava/lang/Throwable;" } : Jvm.MethodName)) ∈ lw_all := lw_g (lw_at lw_m10 69 rfl) rfl
theorem q2302 : (Jvm.Cond.sameMethod "RosaryCarvers$Refused" "java/lang/Throwable" "getCause" "()Ljava/lang/Throwable;") ∈ lw_all := lw_g (lw_at lw_m10 70 rfl) rfl
theorem q2304 : (Jvm.Cond.selects "RosaryCarvers$Refused" ({ cls := "RosaryCarvers$Refused", name := "getCause", desc := "()Ljava/lang/Throwable;" } : Jvm.MethodName) ({ cls := "java/lang/Throwable", name := "getCause", desc := "()Ljava/lang/Throwable;" } : Jvm.MethodName)) ∈ lw_all := lw_g (lw_at lw_m10 72 rfl) rfl
theorem q2307 : (Jvm.Cond.classLink "RosaryCarvers$Refused" (8 : Nat) "RosaryCarvers$Refused") ∈ lw_all := lw_g (lw_at lw_m10 75 rfl) rfl
theorem q2308 : (Jvm.Cond.methodLink "RosaryCarvers$Refused" (23 : Nat) ({ cls := "RosaryCarvers$Refused", name := "behind", desc := "(I)LRosaryCarvers$Refused;" } : Jvm.MethodName)) ∈ lw_all := lw_g (lw_at lw_m10 76 rfl) rfl
theorem q2823 : (Jvm.Cond.castable "RosaryCarvers$Refused" "java/lang/Object") ∈ lw_tbl := lw_at lw_m12 111 rfl
theorem in_X9 : ∀ w ∈ wsX90, w ∈ lw_all := lw_in wsX90 [800, 801, 802, 803, 804, 825, 821, 823] (by decide +kernel) (by decide +kernel)

/-! RosaryCarvers$Pilgrim -/
set_option maxRecDepth 100000
def RX10 : String := "RosaryCarvers$Pilgrim"
def TX10 : u_T := fun k => match k with
  | 0 => ("RosaryCarvers$Pilgrim", "day", "I", true)
  | 1 => ("RosaryCarvers$Pilgrim", "groups", "I", true)
  | 2 => ("RosaryCarvers$Pilgrim", "fineness", "I", true)
  | _ => ("RosaryCarvers$Pilgrim", "coins", "I", true)
def tyX10 : Nat → FieldType := fun k => match k with
  | 0 => .int
  | 1 => .int
  | 2 => .int
  | _ => .int
abbrev wsX100 : List Cond := u_ws RX10 TX10 4
theorem nmX10 : ∀ a, a < 4 → ∀ b, b < 4 → a ≠ b → (TX10 a).2.1 ≠ (TX10 b).2.1 := by decide +kernel
theorem tyX10_ok : ∀ k, k < 4 → parseFieldDescriptor (TX10 k).2.2.1 = some (tyX10 k) := by decide +kernel
abbrev cX10_init : ByteArray := prog_26_method_1_code
def yX10_init : MethodName := ⟨RX10, "<init>", "(IIII)V"⟩
def dkwX10_init_1 : List UInt8 := [181, 0, 19, 177]
abbrev dktX10_init_1 : List UInt8 := dkwX10_init_1 ++ []
def dkwX10_init_0 : List UInt8 := [42, 183, 0, 1, 42, 27, 181, 0, 7, 42, 28, 181, 0, 13, 42, 29, 181, 0, 16, 42, 21, 4]
abbrev dktX10_init_0 : List UInt8 := dkwX10_init_0 ++ dktX10_init_1
theorem dksX10_init_0 : cX10_init.data.toList.drop 0 = dktX10_init_0 := by decide +kernel
theorem dksX10_init_1 : cX10_init.data.toList.drop 22 = dktX10_init_1 := dk_seg dksX10_init_0 22 rfl rfl
theorem dX10_init_0 : decode cX10_init 0 = .ok (.aload_n 0, 1) := dk_42 (dk_at dksX10_init_0 0 rfl rfl)
theorem dX10_init_1 : decode cX10_init 1 = .ok (.invokespecial 1, 3) := dk_183 0 1 (dk_at dksX10_init_0 1 rfl rfl)
theorem dX10_init_4 : decode cX10_init 4 = .ok (.aload_n 0, 1) := dk_42 (dk_at dksX10_init_0 4 rfl rfl)
theorem dX10_init_5 : decode cX10_init 5 = .ok (.iload_n 1, 1) := dk_27 (dk_at dksX10_init_0 5 rfl rfl)
theorem dX10_init_6 : decode cX10_init 6 = .ok (.putfield 7, 3) := dk_181 0 7 (dk_at dksX10_init_0 6 rfl rfl)
theorem dX10_init_9 : decode cX10_init 9 = .ok (.aload_n 0, 1) := dk_42 (dk_at dksX10_init_0 9 rfl rfl)
theorem dX10_init_10 : decode cX10_init 10 = .ok (.iload_n 2, 1) := dk_28 (dk_at dksX10_init_0 10 rfl rfl)
theorem dX10_init_11 : decode cX10_init 11 = .ok (.putfield 13, 3) := dk_181 0 13 (dk_at dksX10_init_0 11 rfl rfl)
theorem dX10_init_14 : decode cX10_init 14 = .ok (.aload_n 0, 1) := dk_42 (dk_at dksX10_init_0 14 rfl rfl)
theorem dX10_init_15 : decode cX10_init 15 = .ok (.iload_n 3, 1) := dk_29 (dk_at dksX10_init_0 15 rfl rfl)
theorem dX10_init_16 : decode cX10_init 16 = .ok (.putfield 16, 3) := dk_181 0 16 (dk_at dksX10_init_0 16 rfl rfl)
theorem dX10_init_19 : decode cX10_init 19 = .ok (.aload_n 0, 1) := dk_42 (dk_at dksX10_init_0 19 rfl rfl)
theorem dX10_init_20 : decode cX10_init 20 = .ok (.iload 4, 2) := dk_21 4 (dk_at dksX10_init_0 20 rfl rfl)
theorem dX10_init_22 : decode cX10_init 22 = .ok (.putfield 19, 3) := dk_181 0 19 (dk_at dksX10_init_1 0 rfl rfl)
theorem dX10_init_25 : decode cX10_init 25 = .ok (.return_, 1) := dk_177 (dk_at dksX10_init_1 3 rfl rfl)
theorem q99 : (Jvm.Cond.initialized "RosaryCarvers$Pilgrim") ∈ lw_all := lw_g (lw_at lw_m1 27 rfl) rfl
theorem q627 : (Jvm.Cond.selects "RosaryCarvers$Pilgrim" ({ cls := "java/lang/Object", name := "getClass", desc := "()Ljava/lang/Class;" } : Jvm.MethodName) ({ cls := "java/lang/Object", name := "getClass", desc := "()Ljava/lang/Class;" } : Jvm.MethodName)) ∈ lw_all := lw_g (lw_at lw_m3 75 rfl) rfl
theorem q831 : (Jvm.Cond.instantiable "RosaryCarvers$Pilgrim" (4 : Nat)) ∈ lw_all := lw_g (lw_at lw_m4 39 rfl) rfl
theorem q833 : (Jvm.Cond.instanceMethod ({ cls := "RosaryCarvers$Pilgrim", name := "<init>", desc := "(IIII)V" } : Jvm.MethodName)) ∈ lw_all := lw_g (lw_at lw_m4 41 rfl) rfl
theorem q834 : (Jvm.Cond.code ({ cls := "RosaryCarvers$Pilgrim", name := "<init>", desc := "(IIII)V" } : Jvm.MethodName) prog_26_method_1_code (5 : Nat) (Option.none : Option Jvm.ClassFile.FieldType)) ∈ lw_all := lw_g (lw_at lw_m4 42 rfl) rfl
theorem q835 : (Jvm.Cond.methodLink "RosaryCarvers$Pilgrim" (1 : Nat) ({ cls := "java/lang/Object", name := "<init>", desc := "()V" } : Jvm.MethodName)) ∈ lw_all := lw_g (lw_at lw_m4 43 rfl) rfl
theorem q836 : (Jvm.Cond.fieldLink "RosaryCarvers$Pilgrim" (7 : Nat) "RosaryCarvers$Pilgrim" "day" "I") ∈ lw_all := lw_g (lw_at lw_m4 44 rfl) rfl
theorem q839 : (Jvm.Cond.fieldLink "RosaryCarvers$Pilgrim" (13 : Nat) "RosaryCarvers$Pilgrim" "groups" "I") ∈ lw_all := lw_g (lw_at lw_m4 47 rfl) rfl
theorem q842 : (Jvm.Cond.fieldLink "RosaryCarvers$Pilgrim" (16 : Nat) "RosaryCarvers$Pilgrim" "fineness" "I") ∈ lw_all := lw_g (lw_at lw_m4 50 rfl) rfl
theorem q845 : (Jvm.Cond.fieldLink "RosaryCarvers$Pilgrim" (19 : Nat) "RosaryCarvers$Pilgrim" "coins" "I") ∈ lw_all := lw_g (lw_at lw_m4 53 rfl) rfl
theorem q848 : (Jvm.Cond.laysFinal "RosaryCarvers$Pilgrim" "RosaryCarvers$Pilgrim" "day" "I") ∈ lw_all := lw_g (lw_at lw_m4 56 rfl) rfl
theorem q849 : (Jvm.Cond.soleField "RosaryCarvers$Pilgrim" "day") ∈ lw_all := lw_g (lw_at lw_m4 57 rfl) rfl
theorem q850 : (Jvm.Cond.laysFinal "RosaryCarvers$Pilgrim" "RosaryCarvers$Pilgrim" "groups" "I") ∈ lw_all := lw_g (lw_at lw_m4 58 rfl) rfl
theorem q851 : (Jvm.Cond.soleField "RosaryCarvers$Pilgrim" "groups") ∈ lw_all := lw_g (lw_at lw_m4 59 rfl) rfl
theorem q852 : (Jvm.Cond.laysFinal "RosaryCarvers$Pilgrim" "RosaryCarvers$Pilgrim" "fineness" "I") ∈ lw_all := lw_g (lw_at lw_m4 60 rfl) rfl
theorem q853 : (Jvm.Cond.soleField "RosaryCarvers$Pilgrim" "fineness") ∈ lw_all := lw_g (lw_at lw_m4 61 rfl) rfl
theorem q854 : (Jvm.Cond.laysFinal "RosaryCarvers$Pilgrim" "RosaryCarvers$Pilgrim" "coins" "I") ∈ lw_all := lw_g (lw_at lw_m4 62 rfl) rfl
theorem q855 : (Jvm.Cond.soleField "RosaryCarvers$Pilgrim" "coins") ∈ lw_all := lw_g (lw_at lw_m4 63 rfl) rfl
theorem q856 : (Jvm.Cond.superclass "RosaryCarvers$Pilgrim" "java/lang/Object") ∈ lw_all := lw_g (lw_at lw_m4 64 rfl) rfl
theorem q1063 : (Jvm.Cond.selects "RosaryCarvers$Pilgrim" ({ cls := "java/lang/Object", name := "equals", desc := "(Ljava/lang/Object;)Z" } : Jvm.MethodName) ({ cls := "java/lang/Object", name := "equals", desc := "(Ljava/lang/Object;)Z" } : Jvm.MethodName)) ∈ lw_all := lw_g (lw_at lw_m5 31 rfl) rfl
theorem q2831 : (Jvm.Cond.castable "RosaryCarvers$Pilgrim" "java/lang/Object") ∈ lw_tbl := lw_at lw_m12 119 rfl
theorem in_X10 : ∀ w ∈ wsX100, w ∈ lw_all := lw_in wsX100 [848, 850, 852, 854] (by decide +kernel) (by decide +kernel)

/-! RosaryCarvers$Beads$1 -/
set_option maxRecDepth 100000
def RX11 : String := "RosaryCarvers$Beads$1"
def TX11 : u_T := fun k => match k with
  | 0 => ("RosaryCarvers$Beads$1", "val$isLarge", "Z", true)
  | _ => ("RosaryCarvers$Beads$1", "this$0", "LRosaryCarvers$Beads;", true)
def tyX11 : Nat → FieldType := fun k => match k with
  | 0 => .boolean
  | _ => .object "RosaryCarvers$Beads"
abbrev wsX110 : List Cond := u_ws RX11 TX11 2
theorem nmX11 : ∀ a, a < 2 → ∀ b, b < 2 → a ≠ b → (TX11 a).2.1 ≠ (TX11 b).2.1 := by decide +kernel
theorem tyX11_ok : ∀ k, k < 2 → parseFieldDescriptor (TX11 k).2.2.1 = some (tyX11 k) := by decide +kernel
abbrev cX11_init : ByteArray := prog_18_method_1_code
def yX11_init : MethodName := ⟨RX11, "<init>", "(LRosaryCarvers$Beads;Z)V"⟩
def dkwX11_init_0 : List UInt8 := [42, 43, 181, 0, 1, 42, 28, 181, 0, 7, 42, 183, 0, 11, 177]
abbrev dktX11_init_0 : List UInt8 := dkwX11_init_0 ++ []
theorem dksX11_init_0 : cX11_init.data.toList.drop 0 = dktX11_init_0 := by decide +kernel
theorem dX11_init_0 : decode cX11_init 0 = .ok (.aload_n 0, 1) := dk_42 (dk_at dksX11_init_0 0 rfl rfl)
theorem dX11_init_1 : decode cX11_init 1 = .ok (.aload_n 1, 1) := dk_43 (dk_at dksX11_init_0 1 rfl rfl)
theorem dX11_init_2 : decode cX11_init 2 = .ok (.putfield 1, 3) := dk_181 0 1 (dk_at dksX11_init_0 2 rfl rfl)
theorem dX11_init_5 : decode cX11_init 5 = .ok (.aload_n 0, 1) := dk_42 (dk_at dksX11_init_0 5 rfl rfl)
theorem dX11_init_6 : decode cX11_init 6 = .ok (.iload_n 2, 1) := dk_28 (dk_at dksX11_init_0 6 rfl rfl)
theorem dX11_init_7 : decode cX11_init 7 = .ok (.putfield 7, 3) := dk_181 0 7 (dk_at dksX11_init_0 7 rfl rfl)
theorem dX11_init_10 : decode cX11_init 10 = .ok (.aload_n 0, 1) := dk_42 (dk_at dksX11_init_0 10 rfl rfl)
theorem dX11_init_11 : decode cX11_init 11 = .ok (.invokespecial 11, 3) := dk_183 0 11 (dk_at dksX11_init_0 11 rfl rfl)
theorem dX11_init_14 : decode cX11_init 14 = .ok (.return_, 1) := dk_177 (dk_at dksX11_init_0 14 rfl rfl)
abbrev cX11_iterator : ByteArray := prog_18_method_2_code
def yX11_iterator : MethodName := ⟨RX11, "iterator", "()Ljava/util/Iterator;"⟩
def dkwX11_iterator_0 : List UInt8 := [187, 0, 17, 89, 42, 180, 0, 1, 42, 180, 0, 7, 183, 0, 19, 176]
abbrev dktX11_iterator_0 : List UInt8 := dkwX11_iterator_0 ++ []
theorem dksX11_iterator_0 : cX11_iterator.data.toList.drop 0 = dktX11_iterator_0 := by decide +kernel
theorem dX11_iterator_0 : decode cX11_iterator 0 = .ok (.new 17, 3) := dk_187 0 17 (dk_at dksX11_iterator_0 0 rfl rfl)
theorem dX11_iterator_3 : decode cX11_iterator 3 = .ok (.dup, 1) := dk_89 (dk_at dksX11_iterator_0 3 rfl rfl)
theorem dX11_iterator_4 : decode cX11_iterator 4 = .ok (.aload_n 0, 1) := dk_42 (dk_at dksX11_iterator_0 4 rfl rfl)
theorem dX11_iterator_5 : decode cX11_iterator 5 = .ok (.getfield 1, 3) := dk_180 0 1 (dk_at dksX11_iterator_0 5 rfl rfl)
theorem dX11_iterator_8 : decode cX11_iterator 8 = .ok (.aload_n 0, 1) := dk_42 (dk_at dksX11_iterator_0 8 rfl rfl)
theorem dX11_iterator_9 : decode cX11_iterator 9 = .ok (.getfield 7, 3) := dk_180 0 7 (dk_at dksX11_iterator_0 9 rfl rfl)
theorem dX11_iterator_12 : decode cX11_iterator 12 = .ok (.invokespecial 19, 3) := dk_183 0 19 (dk_at dksX11_iterator_0 12 rfl rfl)
theorem dX11_iterator_15 : decode cX11_iterator 15 = .ok (.areturn, 1) := dk_176 (dk_at dksX11_iterator_0 15 rfl rfl)
theorem q100 : (Jvm.Cond.initialized "RosaryCarvers$Beads$1") ∈ lw_all := lw_g (lw_at lw_m1 28 rfl) rfl
theorem q621 : (Jvm.Cond.selects "RosaryCarvers$Beads$1" ({ cls := "java/lang/Object", name := "getClass", desc := "()Ljava/lang/Class;" } : Jvm.MethodName) ({ cls := "java/lang/Object", name := "getClass", desc := "()Ljava/lang/Class;" } : Jvm.MethodName)) ∈ lw_all := lw_g (lw_at lw_m3 69 rfl) rfl
theorem q889 : (Jvm.Cond.instantiable "RosaryCarvers$Beads$1" (2 : Nat)) ∈ lw_all := lw_g (lw_at lw_m4 97 rfl) rfl
theorem q891 : (Jvm.Cond.instanceMethod ({ cls := "RosaryCarvers$Beads$1", name := "<init>", desc := "(LRosaryCarvers$Beads;Z)V" } : Jvm.MethodName)) ∈ lw_all := lw_g (lw_at lw_m4 99 rfl) rfl
theorem q892 : (Jvm.Cond.code ({ cls := "RosaryCarvers$Beads$1", name := "<init>", desc := "(LRosaryCarvers$Beads;Z)V" } : Jvm.MethodName) prog_18_method_1_code (3 : Nat) (Option.none : Option Jvm.ClassFile.FieldType)) ∈ lw_all := lw_g (lw_at lw_m4 100 rfl) rfl
theorem q893 : (Jvm.Cond.methodLink "RosaryCarvers$Beads$1" (11 : Nat) ({ cls := "java/lang/Object", name := "<init>", desc := "()V" } : Jvm.MethodName)) ∈ lw_all := lw_g (lw_at lw_m4 101 rfl) rfl
theorem q894 : (Jvm.Cond.fieldLink "RosaryCarvers$Beads$1" (7 : Nat) "RosaryCarvers$Beads$1" "val$isLarge" "Z") ∈ lw_all := lw_g (lw_at lw_m4 102 rfl) rfl
theorem q895 : (Jvm.Cond.fieldLink "RosaryCarvers$Beads$1" (1 : Nat) "RosaryCarvers$Beads$1" "this$0" "LRosaryCarvers$Beads;") ∈ lw_all := lw_g (lw_at lw_m4 103 rfl) rfl
theorem q896 : (Jvm.Cond.laysFinal "RosaryCarvers$Beads$1" "RosaryCarvers$Beads$1" "val$isLarge" "Z") ∈ lw_all := lw_g (lw_at lw_m4 104 rfl) rfl
theorem q897 : (Jvm.Cond.soleField "RosaryCarvers$Beads$1" "val$isLarge") ∈ lw_all := lw_g (lw_at lw_m4 105 rfl) rfl
theorem q898 : (Jvm.Cond.laysFinal "RosaryCarvers$Beads$1" "RosaryCarvers$Beads$1" "this$0" "LRosaryCarvers$Beads;") ∈ lw_all := lw_g (lw_at lw_m4 106 rfl) rfl
theorem q899 : (Jvm.Cond.soleField "RosaryCarvers$Beads$1" "this$0") ∈ lw_all := lw_g (lw_at lw_m4 107 rfl) rfl
theorem q900 : (Jvm.Cond.superclass "RosaryCarvers$Beads$1" "java/lang/Object") ∈ lw_all := lw_g (lw_at lw_m4 108 rfl) rfl
theorem q912 : (Jvm.Cond.castable "RosaryCarvers$Beads$1" "java/lang/Iterable") ∈ lw_tbl := lw_at lw_m4 120 rfl
theorem q913 : (Jvm.Cond.selects "RosaryCarvers$Beads$1" ({ cls := "java/lang/Iterable", name := "iterator", desc := "()Ljava/util/Iterator;" } : Jvm.MethodName) ({ cls := "RosaryCarvers$Beads$1", name := "iterator", desc := "()Ljava/util/Iterator;" } : Jvm.MethodName)) ∈ lw_all := lw_g (lw_at lw_m4 121 rfl) rfl
theorem q914 : (Jvm.Cond.unhidden "RosaryCarvers$Beads$1" "iterator" "()Ljava/util/Iterator;") ∈ lw_tbl := lw_at lw_m4 122 rfl
theorem q915 : (Jvm.Cond.instanceMethod ({ cls := "RosaryCarvers$Beads$1", name := "iterator", desc := "()Ljava/util/Iterator;" } : Jvm.MethodName)) ∈ lw_all := lw_g (lw_at lw_m4 123 rfl) rfl
theorem q916 : (Jvm.Cond.publicMethod ({ cls := "RosaryCarvers$Beads$1", name := "iterator", desc := "()Ljava/util/Iterator;" } : Jvm.MethodName)) ∈ lw_tbl := lw_at lw_m4 124 rfl
theorem q917 : (Jvm.Cond.code ({ cls := "RosaryCarvers$Beads$1", name := "iterator", desc := "()Ljava/util/Iterator;" } : Jvm.MethodName) prog_18_method_2_code (1 : Nat) (Option.some (Jvm.ClassFile.FieldType.object "java/util/Iterator"))) ∈ lw_all := lw_g (lw_at lw_m4 125 rfl) rfl
theorem q918 : (Jvm.Cond.classLink "RosaryCarvers$Beads$1" (17 : Nat) "RosaryCarvers$Beads$1OfKind") ∈ lw_all := lw_g (lw_at lw_m4 126 rfl) rfl
theorem q919 : (Jvm.Cond.methodLink "RosaryCarvers$Beads$1" (19 : Nat) ({ cls := "RosaryCarvers$Beads$1OfKind", name := "<init>", desc := "(LRosaryCarvers$Beads;Z)V" } : Jvm.MethodName)) ∈ lw_all := lw_g (lw_at lw_m4 127 rfl) rfl
theorem q1057 : (Jvm.Cond.selects "RosaryCarvers$Beads$1" ({ cls := "java/lang/Object", name := "equals", desc := "(Ljava/lang/Object;)Z" } : Jvm.MethodName) ({ cls := "java/lang/Object", name := "equals", desc := "(Ljava/lang/Object;)Z" } : Jvm.MethodName)) ∈ lw_all := lw_g (lw_at lw_m5 25 rfl) rfl
theorem q2832 : (Jvm.Cond.castable "RosaryCarvers$Beads$1" "java/lang/Object") ∈ lw_tbl := lw_at lw_m12 120 rfl
theorem in_X11 : ∀ w ∈ wsX110, w ∈ lw_all := lw_in wsX110 [896, 898] (by decide +kernel) (by decide +kernel)

/-! RosaryCarvers$Beads$1OfKind -/
set_option maxRecDepth 100000
def RX12 : String := "RosaryCarvers$Beads$1OfKind"
def TX12 : u_T := fun k => match k with
  | 0 => ("RosaryCarvers$Beads$1OfKind", "at", "I", false)
  | 1 => ("RosaryCarvers$Beads$1OfKind", "val$isLarge", "Z", true)
  | _ => ("RosaryCarvers$Beads$1OfKind", "this$0", "LRosaryCarvers$Beads;", true)
def tyX12 : Nat → FieldType := fun k => match k with
  | 0 => .int
  | 1 => .boolean
  | _ => .object "RosaryCarvers$Beads"
abbrev wsX120 : List Cond := u_ws RX12 TX12 3
theorem nmX12 : ∀ a, a < 3 → ∀ b, b < 3 → a ≠ b → (TX12 a).2.1 ≠ (TX12 b).2.1 := by decide +kernel
theorem tyX12_ok : ∀ k, k < 3 → parseFieldDescriptor (TX12 k).2.2.1 = some (tyX12 k) := by decide +kernel
abbrev cX12_hasNext : ByteArray := prog_19_method_3_code
def yX12_hasNext : MethodName := ⟨RX12, "hasNext", "()Z"⟩
def dkwX12_hasNext_0 : List UInt8 := [42, 180, 0, 21, 42, 180, 0, 1, 180, 0, 25, 182, 0, 31, 162, 0, 7, 4, 167, 0, 4, 3, 172]
abbrev dktX12_hasNext_0 : List UInt8 := dkwX12_hasNext_0 ++ []
theorem dksX12_hasNext_0 : cX12_hasNext.data.toList.drop 0 = dktX12_hasNext_0 := by decide +kernel
theorem dX12_hasNext_0 : decode cX12_hasNext 0 = .ok (.aload_n 0, 1) := dk_42 (dk_at dksX12_hasNext_0 0 rfl rfl)
theorem dX12_hasNext_1 : decode cX12_hasNext 1 = .ok (.getfield 21, 3) := dk_180 0 21 (dk_at dksX12_hasNext_0 1 rfl rfl)
theorem dX12_hasNext_4 : decode cX12_hasNext 4 = .ok (.aload_n 0, 1) := dk_42 (dk_at dksX12_hasNext_0 4 rfl rfl)
theorem dX12_hasNext_5 : decode cX12_hasNext 5 = .ok (.getfield 1, 3) := dk_180 0 1 (dk_at dksX12_hasNext_0 5 rfl rfl)
theorem dX12_hasNext_8 : decode cX12_hasNext 8 = .ok (.getfield 25, 3) := dk_180 0 25 (dk_at dksX12_hasNext_0 8 rfl rfl)
theorem dX12_hasNext_11 : decode cX12_hasNext 11 = .ok (.invokevirtual 31, 3) := dk_182 0 31 (dk_at dksX12_hasNext_0 11 rfl rfl)
theorem dX12_hasNext_14 : decode cX12_hasNext 14 = .ok (.if_icmp .ge 7, 3) := dk_162 0 7 (dk_at dksX12_hasNext_0 14 rfl rfl)
theorem dX12_hasNext_17 : decode cX12_hasNext 17 = .ok (.iconst 1, 1) := dk_4 (dk_at dksX12_hasNext_0 17 rfl rfl)
theorem dX12_hasNext_18 : decode cX12_hasNext 18 = .ok (.goto 4, 3) := dk_167 0 4 (dk_at dksX12_hasNext_0 18 rfl rfl)
theorem dX12_hasNext_21 : decode cX12_hasNext 21 = .ok (.iconst 0, 1) := dk_3 (dk_at dksX12_hasNext_0 21 rfl rfl)
theorem dX12_hasNext_22 : decode cX12_hasNext 22 = .ok (.ireturn, 1) := dk_172 (dk_at dksX12_hasNext_0 22 rfl rfl)
abbrev cX12_next : ByteArray := prog_19_method_5_code
def yX12_next : MethodName := ⟨RX12, "next", "()Ljava/lang/Object;"⟩
theorem dX12_next_0 : decode cX12_next 0 = .ok (.aload_n 0, 1) := by decide +kernel
theorem dX12_next_1 : decode cX12_next 1 = .ok (.invokevirtual 53, 3) := by decide +kernel
theorem dX12_next_4 : decode cX12_next 4 = .ok (.areturn, 1) := by decide +kernel
abbrev cX12_next_2 : ByteArray := prog_19_method_4_code
def yX12_next_2 : MethodName := ⟨RX12, "next", "()LRosaryCarvers$Bead;"⟩
def dkwX12_next_2_2 : List UInt8 := [43, 176]
abbrev dktX12_next_2_2 : List UInt8 := dkwX12_next_2_2 ++ []
def dkwX12_next_2_1 : List UInt8 := [180, 0, 21, 182, 0, 37, 192, 0, 41, 76, 42, 42, 42, 180, 0, 21, 4, 96, 182, 0, 17, 181, 0, 21]
abbrev dktX12_next_2_1 : List UInt8 := dkwX12_next_2_1 ++ dktX12_next_2_2
def dkwX12_next_2_0 : List UInt8 := [42, 182, 0, 46, 154, 0, 11, 187, 0, 50, 89, 183, 0, 52, 191, 42, 180, 0, 1, 180, 0, 25, 42]
abbrev dktX12_next_2_0 : List UInt8 := dkwX12_next_2_0 ++ dktX12_next_2_1
theorem dksX12_next_2_0 : cX12_next_2.data.toList.drop 0 = dktX12_next_2_0 := by decide +kernel
theorem dksX12_next_2_1 : cX12_next_2.data.toList.drop 23 = dktX12_next_2_1 := dk_seg dksX12_next_2_0 23 rfl rfl
theorem dksX12_next_2_2 : cX12_next_2.data.toList.drop 47 = dktX12_next_2_2 := dk_seg dksX12_next_2_1 24 rfl rfl
theorem dX12_next_2_0 : decode cX12_next_2 0 = .ok (.aload_n 0, 1) := dk_42 (dk_at dksX12_next_2_0 0 rfl rfl)
theorem dX12_next_2_1 : decode cX12_next_2 1 = .ok (.invokevirtual 46, 3) := dk_182 0 46 (dk_at dksX12_next_2_0 1 rfl rfl)
theorem dX12_next_2_4 : decode cX12_next_2 4 = .ok (.ifCond .ne 11, 3) := dk_154 0 11 (dk_at dksX12_next_2_0 4 rfl rfl)
theorem dX12_next_2_7 : decode cX12_next_2 7 = .ok (.new 50, 3) := dk_187 0 50 (dk_at dksX12_next_2_0 7 rfl rfl)
theorem dX12_next_2_10 : decode cX12_next_2 10 = .ok (.dup, 1) := dk_89 (dk_at dksX12_next_2_0 10 rfl rfl)
theorem dX12_next_2_11 : decode cX12_next_2 11 = .ok (.invokespecial 52, 3) := dk_183 0 52 (dk_at dksX12_next_2_0 11 rfl rfl)
theorem dX12_next_2_14 : decode cX12_next_2 14 = .ok (.athrow, 1) := dk_191 (dk_at dksX12_next_2_0 14 rfl rfl)
theorem dX12_next_2_15 : decode cX12_next_2 15 = .ok (.aload_n 0, 1) := dk_42 (dk_at dksX12_next_2_0 15 rfl rfl)
theorem dX12_next_2_16 : decode cX12_next_2 16 = .ok (.getfield 1, 3) := dk_180 0 1 (dk_at dksX12_next_2_0 16 rfl rfl)
theorem dX12_next_2_19 : decode cX12_next_2 19 = .ok (.getfield 25, 3) := dk_180 0 25 (dk_at dksX12_next_2_0 19 rfl rfl)
theorem dX12_next_2_22 : decode cX12_next_2 22 = .ok (.aload_n 0, 1) := dk_42 (dk_at dksX12_next_2_0 22 rfl rfl)
theorem dX12_next_2_23 : decode cX12_next_2 23 = .ok (.getfield 21, 3) := dk_180 0 21 (dk_at dksX12_next_2_1 0 rfl rfl)
theorem dX12_next_2_26 : decode cX12_next_2 26 = .ok (.invokevirtual 37, 3) := dk_182 0 37 (dk_at dksX12_next_2_1 3 rfl rfl)
theorem dX12_next_2_29 : decode cX12_next_2 29 = .ok (.checkcast 41, 3) := dk_192 0 41 (dk_at dksX12_next_2_1 6 rfl rfl)
theorem dX12_next_2_32 : decode cX12_next_2 32 = .ok (.astore_n 1, 1) := dk_76 (dk_at dksX12_next_2_1 9 rfl rfl)
theorem dX12_next_2_33 : decode cX12_next_2 33 = .ok (.aload_n 0, 1) := dk_42 (dk_at dksX12_next_2_1 10 rfl rfl)
theorem dX12_next_2_34 : decode cX12_next_2 34 = .ok (.aload_n 0, 1) := dk_42 (dk_at dksX12_next_2_1 11 rfl rfl)
theorem dX12_next_2_35 : decode cX12_next_2 35 = .ok (.aload_n 0, 1) := dk_42 (dk_at dksX12_next_2_1 12 rfl rfl)
theorem dX12_next_2_36 : decode cX12_next_2 36 = .ok (.getfield 21, 3) := dk_180 0 21 (dk_at dksX12_next_2_1 13 rfl rfl)
theorem dX12_next_2_39 : decode cX12_next_2 39 = .ok (.iconst 1, 1) := dk_4 (dk_at dksX12_next_2_1 16 rfl rfl)
theorem dX12_next_2_40 : decode cX12_next_2 40 = .ok (.iadd, 1) := dk_96 (dk_at dksX12_next_2_1 17 rfl rfl)
theorem dX12_next_2_41 : decode cX12_next_2 41 = .ok (.invokevirtual 17, 3) := dk_182 0 17 (dk_at dksX12_next_2_1 18 rfl rfl)
theorem dX12_next_2_44 : decode cX12_next_2 44 = .ok (.putfield 21, 3) := dk_181 0 21 (dk_at dksX12_next_2_1 21 rfl rfl)
theorem dX12_next_2_47 : decode cX12_next_2 47 = .ok (.aload_n 1, 1) := dk_43 (dk_at dksX12_next_2_2 0 rfl rfl)
theorem dX12_next_2_48 : decode cX12_next_2 48 = .ok (.areturn, 1) := dk_176 (dk_at dksX12_next_2_2 1 rfl rfl)
abbrev cX12_next_3 : ByteArray := prog_19_method_2_code
def yX12_next_3 : MethodName := ⟨RX12, "next", "(I)I"⟩
def dkwX12_next_3_1 : List UInt8 := [182, 0, 37, 192, 0, 41, 180, 0, 43, 42, 180, 0, 7, 159, 0, 9, 132, 2, 1, 167, 255, 215, 28, 172]
abbrev dktX12_next_3_1 : List UInt8 := dkwX12_next_3_1 ++ []
def dkwX12_next_3_0 : List UInt8 := [27, 61, 28, 42, 180, 0, 1, 180, 0, 25, 182, 0, 31, 162, 0, 33, 42, 180, 0, 1, 180, 0, 25, 28]
abbrev dktX12_next_3_0 : List UInt8 := dkwX12_next_3_0 ++ dktX12_next_3_1
theorem dksX12_next_3_0 : cX12_next_3.data.toList.drop 0 = dktX12_next_3_0 := by decide +kernel
theorem dksX12_next_3_1 : cX12_next_3.data.toList.drop 24 = dktX12_next_3_1 := dk_seg dksX12_next_3_0 24 rfl rfl
theorem dX12_next_3_0 : decode cX12_next_3 0 = .ok (.iload_n 1, 1) := dk_27 (dk_at dksX12_next_3_0 0 rfl rfl)
theorem dX12_next_3_1 : decode cX12_next_3 1 = .ok (.istore_n 2, 1) := dk_61 (dk_at dksX12_next_3_0 1 rfl rfl)
theorem dX12_next_3_2 : decode cX12_next_3 2 = .ok (.iload_n 2, 1) := dk_28 (dk_at dksX12_next_3_0 2 rfl rfl)
theorem dX12_next_3_3 : decode cX12_next_3 3 = .ok (.aload_n 0, 1) := dk_42 (dk_at dksX12_next_3_0 3 rfl rfl)
theorem dX12_next_3_4 : decode cX12_next_3 4 = .ok (.getfield 1, 3) := dk_180 0 1 (dk_at dksX12_next_3_0 4 rfl rfl)
theorem dX12_next_3_7 : decode cX12_next_3 7 = .ok (.getfield 25, 3) := dk_180 0 25 (dk_at dksX12_next_3_0 7 rfl rfl)
theorem dX12_next_3_10 : decode cX12_next_3 10 = .ok (.invokevirtual 31, 3) := dk_182 0 31 (dk_at dksX12_next_3_0 10 rfl rfl)
theorem dX12_next_3_13 : decode cX12_next_3 13 = .ok (.if_icmp .ge 33, 3) := dk_162 0 33 (dk_at dksX12_next_3_0 13 rfl rfl)
theorem dX12_next_3_16 : decode cX12_next_3 16 = .ok (.aload_n 0, 1) := dk_42 (dk_at dksX12_next_3_0 16 rfl rfl)
theorem dX12_next_3_17 : decode cX12_next_3 17 = .ok (.getfield 1, 3) := dk_180 0 1 (dk_at dksX12_next_3_0 17 rfl rfl)
theorem dX12_next_3_20 : decode cX12_next_3 20 = .ok (.getfield 25, 3) := dk_180 0 25 (dk_at dksX12_next_3_0 20 rfl rfl)
theorem dX12_next_3_23 : decode cX12_next_3 23 = .ok (.iload_n 2, 1) := dk_28 (dk_at dksX12_next_3_0 23 rfl rfl)
theorem dX12_next_3_24 : decode cX12_next_3 24 = .ok (.invokevirtual 37, 3) := dk_182 0 37 (dk_at dksX12_next_3_1 0 rfl rfl)
theorem dX12_next_3_27 : decode cX12_next_3 27 = .ok (.checkcast 41, 3) := dk_192 0 41 (dk_at dksX12_next_3_1 3 rfl rfl)
theorem dX12_next_3_30 : decode cX12_next_3 30 = .ok (.getfield 43, 3) := dk_180 0 43 (dk_at dksX12_next_3_1 6 rfl rfl)
theorem dX12_next_3_33 : decode cX12_next_3 33 = .ok (.aload_n 0, 1) := dk_42 (dk_at dksX12_next_3_1 9 rfl rfl)
theorem dX12_next_3_34 : decode cX12_next_3 34 = .ok (.getfield 7, 3) := dk_180 0 7 (dk_at dksX12_next_3_1 10 rfl rfl)
theorem dX12_next_3_37 : decode cX12_next_3 37 = .ok (.if_icmp .eq 9, 3) := dk_159 0 9 (dk_at dksX12_next_3_1 13 rfl rfl)
theorem dX12_next_3_40 : decode cX12_next_3 40 = .ok (.iinc 2 1, 3) := dk_132 2 1 (dk_at dksX12_next_3_1 16 rfl rfl)
theorem dX12_next_3_43 : decode cX12_next_3 43 = .ok (.goto (-41), 3) := dk_167 255 215 (dk_at dksX12_next_3_1 19 rfl rfl)
theorem dX12_next_3_46 : decode cX12_next_3 46 = .ok (.iload_n 2, 1) := dk_28 (dk_at dksX12_next_3_1 22 rfl rfl)
theorem dX12_next_3_47 : decode cX12_next_3 47 = .ok (.ireturn, 1) := dk_172 (dk_at dksX12_next_3_1 23 rfl rfl)
abbrev cX12_init : ByteArray := prog_19_method_1_code
def yX12_init : MethodName := ⟨RX12, "<init>", "(LRosaryCarvers$Beads;Z)V"⟩
def dkwX12_init_0 : List UInt8 := [42, 43, 181, 0, 1, 42, 28, 181, 0, 7, 42, 183, 0, 11, 42, 42, 3, 182, 0, 17, 181, 0, 21, 177]
abbrev dktX12_init_0 : List UInt8 := dkwX12_init_0 ++ []
theorem dksX12_init_0 : cX12_init.data.toList.drop 0 = dktX12_init_0 := by decide +kernel
theorem dX12_init_0 : decode cX12_init 0 = .ok (.aload_n 0, 1) := dk_42 (dk_at dksX12_init_0 0 rfl rfl)
theorem dX12_init_1 : decode cX12_init 1 = .ok (.aload_n 1, 1) := dk_43 (dk_at dksX12_init_0 1 rfl rfl)
theorem dX12_init_2 : decode cX12_init 2 = .ok (.putfield 1, 3) := dk_181 0 1 (dk_at dksX12_init_0 2 rfl rfl)
theorem dX12_init_5 : decode cX12_init 5 = .ok (.aload_n 0, 1) := dk_42 (dk_at dksX12_init_0 5 rfl rfl)
theorem dX12_init_6 : decode cX12_init 6 = .ok (.iload_n 2, 1) := dk_28 (dk_at dksX12_init_0 6 rfl rfl)
theorem dX12_init_7 : decode cX12_init 7 = .ok (.putfield 7, 3) := dk_181 0 7 (dk_at dksX12_init_0 7 rfl rfl)
theorem dX12_init_10 : decode cX12_init 10 = .ok (.aload_n 0, 1) := dk_42 (dk_at dksX12_init_0 10 rfl rfl)
theorem dX12_init_11 : decode cX12_init 11 = .ok (.invokespecial 11, 3) := dk_183 0 11 (dk_at dksX12_init_0 11 rfl rfl)
theorem dX12_init_14 : decode cX12_init 14 = .ok (.aload_n 0, 1) := dk_42 (dk_at dksX12_init_0 14 rfl rfl)
theorem dX12_init_15 : decode cX12_init 15 = .ok (.aload_n 0, 1) := dk_42 (dk_at dksX12_init_0 15 rfl rfl)
theorem dX12_init_16 : decode cX12_init 16 = .ok (.iconst 0, 1) := dk_3 (dk_at dksX12_init_0 16 rfl rfl)
theorem dX12_init_17 : decode cX12_init 17 = .ok (.invokevirtual 17, 3) := dk_182 0 17 (dk_at dksX12_init_0 17 rfl rfl)
theorem dX12_init_20 : decode cX12_init 20 = .ok (.putfield 21, 3) := dk_181 0 21 (dk_at dksX12_init_0 20 rfl rfl)
theorem dX12_init_23 : decode cX12_init 23 = .ok (.return_, 1) := dk_177 (dk_at dksX12_init_0 23 rfl rfl)
theorem q101 : (Jvm.Cond.initialized "RosaryCarvers$Beads$1OfKind") ∈ lw_all := lw_g (lw_at lw_m1 29 rfl) rfl
theorem q184 : (Jvm.Cond.fieldLinkNest "RosaryCarvers$Beads$1OfKind" (25 : Nat) "RosaryCarvers$Beads" "beads" "Ljava/util/ArrayList;" "RosaryCarvers") ∈ lw_tbl := lw_at lw_m1 112 rfl
theorem q399 : (Jvm.Cond.castable "RosaryCarvers$Beads$1OfKind" "java/util/Iterator") ∈ lw_tbl := lw_at lw_m2 87 rfl
theorem q400 : (Jvm.Cond.selects "RosaryCarvers$Beads$1OfKind" ({ cls := "java/util/Iterator", name := "hasNext", desc := "()Z" } : Jvm.MethodName) ({ cls := "RosaryCarvers$Beads$1OfKind", name := "hasNext", desc := "()Z" } : Jvm.MethodName)) ∈ lw_all := lw_g (lw_at lw_m2 88 rfl) rfl
theorem q401 : (Jvm.Cond.unhidden "RosaryCarvers$Beads$1OfKind" "hasNext" "()Z") ∈ lw_tbl := lw_at lw_m2 89 rfl
theorem q402 : (Jvm.Cond.instanceMethod ({ cls := "RosaryCarvers$Beads$1OfKind", name := "hasNext", desc := "()Z" } : Jvm.MethodName)) ∈ lw_all := lw_g (lw_at lw_m2 90 rfl) rfl
theorem q403 : (Jvm.Cond.publicMethod ({ cls := "RosaryCarvers$Beads$1OfKind", name := "hasNext", desc := "()Z" } : Jvm.MethodName)) ∈ lw_tbl := lw_at lw_m2 91 rfl
theorem q404 : (Jvm.Cond.code ({ cls := "RosaryCarvers$Beads$1OfKind", name := "hasNext", desc := "()Z" } : Jvm.MethodName) prog_19_method_3_code (1 : Nat) (Option.some Jvm.ClassFile.FieldType.boolean)) ∈ lw_all := lw_g (lw_at lw_m2 92 rfl) rfl
theorem q405 : (Jvm.Cond.methodLink "RosaryCarvers$Beads$1OfKind" (31 : Nat) ({ cls := "java/util/ArrayList", name := "size", desc := "()I" } : Jvm.MethodName)) ∈ lw_all := lw_g (lw_at lw_m2 93 rfl) rfl
theorem q425 : (Jvm.Cond.selects "RosaryCarvers$Beads$1OfKind" ({ cls := "java/util/Iterator", name := "next", desc := "()Ljava/lang/Object;" } : Jvm.MethodName) ({ cls := "RosaryCarvers$Beads$1OfKind", name := "next", desc := "()Ljava/lang/Object;" } : Jvm.MethodName)) ∈ lw_all := lw_g (lw_at lw_m2 113 rfl) rfl
theorem q426 : (Jvm.Cond.unhidden "RosaryCarvers$Beads$1OfKind" "next" "()Ljava/lang/Object;") ∈ lw_tbl := lw_at lw_m2 114 rfl
theorem q427 : (Jvm.Cond.instanceMethod ({ cls := "RosaryCarvers$Beads$1OfKind", name := "next", desc := "()Ljava/lang/Object;" } : Jvm.MethodName)) ∈ lw_all := lw_g (lw_at lw_m2 115 rfl) rfl
theorem q428 : (Jvm.Cond.publicMethod ({ cls := "RosaryCarvers$Beads$1OfKind", name := "next", desc := "()Ljava/lang/Object;" } : Jvm.MethodName)) ∈ lw_tbl := lw_at lw_m2 116 rfl
theorem q429 : (Jvm.Cond.code ({ cls := "RosaryCarvers$Beads$1OfKind", name := "next", desc := "()Ljava/lang/Object;" } : Jvm.MethodName) prog_19_method_5_code (1 : Nat) (Option.some (Jvm.ClassFile.FieldType.object "java/lang/Object"))) ∈ lw_all := lw_g (lw_at lw_m2 117 rfl) rfl
theorem q430 : (Jvm.Cond.methodLink "RosaryCarvers$Beads$1OfKind" (53 : Nat) ({ cls := "RosaryCarvers$Beads$1OfKind", name := "next", desc := "()LRosaryCarvers$Bead;" } : Jvm.MethodName)) ∈ lw_all := lw_g (lw_at lw_m2 118 rfl) rfl
theorem q431 : (Jvm.Cond.instanceMethod ({ cls := "RosaryCarvers$Beads$1OfKind", name := "next", desc := "()LRosaryCarvers$Bead;" } : Jvm.MethodName)) ∈ lw_all := lw_g (lw_at lw_m2 119 rfl) rfl
theorem q432 : (Jvm.Cond.selects "RosaryCarvers$Beads$1OfKind" ({ cls := "RosaryCarvers$Beads$1OfKind", name := "next", desc := "()LRosaryCarvers$Bead;" } : Jvm.MethodName) ({ cls := "RosaryCarvers$Beads$1OfKind", name := "next", desc := "()LRosaryCarvers$Bead;" } : Jvm.MethodName)) ∈ lw_all := lw_g (lw_at lw_m2 120 rfl) rfl
theorem q433 : (Jvm.Cond.code ({ cls := "RosaryCarvers$Beads$1OfKind", name := "next", desc := "()LRosaryCarvers$Bead;" } : Jvm.MethodName) prog_19_method_4_code (2 : Nat) (Option.some (Jvm.ClassFile.FieldType.object "RosaryCarvers$Bead"))) ∈ lw_all := lw_g (lw_at lw_m2 121 rfl) rfl
theorem q434 : (Jvm.Cond.methodLink "RosaryCarvers$Beads$1OfKind" (46 : Nat) ({ cls := "RosaryCarvers$Beads$1OfKind", name := "hasNext", desc := "()Z" } : Jvm.MethodName)) ∈ lw_all := lw_g (lw_at lw_m2 122 rfl) rfl
theorem q435 : (Jvm.Cond.classLink "RosaryCarvers$Beads$1OfKind" (50 : Nat) "java/util/NoSuchElementException") ∈ lw_all := lw_g (lw_at lw_m2 123 rfl) rfl
theorem q479 : (Jvm.Cond.methodLink "RosaryCarvers$Beads$1OfKind" (52 : Nat) ({ cls := "java/util/NoSuchElementException", name := "<init>", desc := "()V" } : Jvm.MethodName)) ∈ lw_all := lw_g (lw_at lw_m2 167 rfl) rfl
theorem q502 : (Jvm.Cond.methodLink "RosaryCarvers$Beads$1OfKind" (37 : Nat) ({ cls := "java/util/ArrayList", name := "get", desc := "(I)Ljava/lang/Object;" } : Jvm.MethodName)) ∈ lw_all := lw_g (lw_at lw_m2 190 rfl) rfl
theorem q516 : (Jvm.Cond.classLink "RosaryCarvers$Beads$1OfKind" (41 : Nat) "RosaryCarvers$Bead") ∈ lw_all := lw_g (lw_at lw_m2 204 rfl) rfl
theorem q517 : (Jvm.Cond.methodLink "RosaryCarvers$Beads$1OfKind" (17 : Nat) ({ cls := "RosaryCarvers$Beads$1OfKind", name := "next", desc := "(I)I" } : Jvm.MethodName)) ∈ lw_all := lw_g (lw_at lw_m2 205 rfl) rfl
theorem q518 : (Jvm.Cond.privateMethod ({ cls := "RosaryCarvers$Beads$1OfKind", name := "next", desc := "(I)I" } : Jvm.MethodName)) ∈ lw_tbl := lw_at lw_m2 206 rfl
theorem q519 : (Jvm.Cond.instanceMethod ({ cls := "RosaryCarvers$Beads$1OfKind", name := "next", desc := "(I)I" } : Jvm.MethodName)) ∈ lw_all := lw_g (lw_at lw_m2 207 rfl) rfl
theorem q520 : (Jvm.Cond.instantiable "RosaryCarvers$Beads$1OfKind" (3 : Nat)) ∈ lw_all := lw_g (lw_at lw_m2 208 rfl) rfl
theorem q521 : (Jvm.Cond.code ({ cls := "RosaryCarvers$Beads$1OfKind", name := "next", desc := "(I)I" } : Jvm.MethodName) prog_19_method_2_code (3 : Nat) (Option.some Jvm.ClassFile.FieldType.int)) ∈ lw_all := lw_g (lw_at lw_m2 209 rfl) rfl
theorem q622 : (Jvm.Cond.selects "RosaryCarvers$Beads$1OfKind" ({ cls := "java/lang/Object", name := "getClass", desc := "()Ljava/lang/Class;" } : Jvm.MethodName) ({ cls := "java/lang/Object", name := "getClass", desc := "()Ljava/lang/Class;" } : Jvm.MethodName)) ∈ lw_all := lw_g (lw_at lw_m3 70 rfl) rfl
theorem q920 : (Jvm.Cond.instanceMethod ({ cls := "RosaryCarvers$Beads$1OfKind", name := "<init>", desc := "(LRosaryCarvers$Beads;Z)V" } : Jvm.MethodName)) ∈ lw_all := lw_g (lw_at lw_m4 128 rfl) rfl
theorem q921 : (Jvm.Cond.code ({ cls := "RosaryCarvers$Beads$1OfKind", name := "<init>", desc := "(LRosaryCarvers$Beads;Z)V" } : Jvm.MethodName) prog_19_method_1_code (3 : Nat) (Option.none : Option Jvm.ClassFile.FieldType)) ∈ lw_all := lw_g (lw_at lw_m4 129 rfl) rfl
theorem q922 : (Jvm.Cond.methodLink "RosaryCarvers$Beads$1OfKind" (11 : Nat) ({ cls := "java/lang/Object", name := "<init>", desc := "()V" } : Jvm.MethodName)) ∈ lw_all := lw_g (lw_at lw_m4 130 rfl) rfl
theorem q923 : (Jvm.Cond.fieldLink "RosaryCarvers$Beads$1OfKind" (21 : Nat) "RosaryCarvers$Beads$1OfKind" "at" "I") ∈ lw_all := lw_g (lw_at lw_m4 131 rfl) rfl
theorem q924 : (Jvm.Cond.fieldLink "RosaryCarvers$Beads$1OfKind" (7 : Nat) "RosaryCarvers$Beads$1OfKind" "val$isLarge" "Z") ∈ lw_all := lw_g (lw_at lw_m4 132 rfl) rfl
theorem q925 : (Jvm.Cond.fieldLink "RosaryCarvers$Beads$1OfKind" (1 : Nat) "RosaryCarvers$Beads$1OfKind" "this$0" "LRosaryCarvers$Beads;") ∈ lw_all := lw_g (lw_at lw_m4 133 rfl) rfl
theorem q926 : (Jvm.Cond.lays "RosaryCarvers$Beads$1OfKind" "RosaryCarvers$Beads$1OfKind" "at" "I") ∈ lw_all := lw_g (lw_at lw_m4 134 rfl) rfl
theorem q927 : (Jvm.Cond.soleField "RosaryCarvers$Beads$1OfKind" "at") ∈ lw_all := lw_g (lw_at lw_m4 135 rfl) rfl
theorem q928 : (Jvm.Cond.laysFinal "RosaryCarvers$Beads$1OfKind" "RosaryCarvers$Beads$1OfKind" "val$isLarge" "Z") ∈ lw_all := lw_g (lw_at lw_m4 136 rfl) rfl
theorem q929 : (Jvm.Cond.soleField "RosaryCarvers$Beads$1OfKind" "val$isLarge") ∈ lw_all := lw_g (lw_at lw_m4 137 rfl) rfl
theorem q930 : (Jvm.Cond.laysFinal "RosaryCarvers$Beads$1OfKind" "RosaryCarvers$Beads$1OfKind" "this$0" "LRosaryCarvers$Beads;") ∈ lw_all := lw_g (lw_at lw_m4 138 rfl) rfl
theorem q931 : (Jvm.Cond.soleField "RosaryCarvers$Beads$1OfKind" "this$0") ∈ lw_all := lw_g (lw_at lw_m4 139 rfl) rfl
theorem q932 : (Jvm.Cond.superclass "RosaryCarvers$Beads$1OfKind" "java/lang/Object") ∈ lw_all := lw_g (lw_at lw_m4 140 rfl) rfl
theorem q1058 : (Jvm.Cond.selects "RosaryCarvers$Beads$1OfKind" ({ cls := "java/lang/Object", name := "equals", desc := "(Ljava/lang/Object;)Z" } : Jvm.MethodName) ({ cls := "java/lang/Object", name := "equals", desc := "(Ljava/lang/Object;)Z" } : Jvm.MethodName)) ∈ lw_all := lw_g (lw_at lw_m5 26 rfl) rfl
theorem q1160 : (Jvm.Cond.unhidden "RosaryCarvers$Beads$1OfKind" "remove" "()V") ∈ lw_tbl := lw_at lw_m5 128 rfl
theorem q1411 : (Jvm.Cond.fieldLinkNest "RosaryCarvers$Beads$1OfKind" (43 : Nat) "RosaryCarvers$Bead" "isLarge" "Z" "RosaryCarvers") ∈ lw_tbl := lw_at lw_m6 139 rfl
theorem q2783 : (Jvm.Cond.selects "RosaryCarvers$Beads$1OfKind" ({ cls := "RosaryCarvers$Beads$1OfKind", name := "hasNext", desc := "()Z" } : Jvm.MethodName) ({ cls := "RosaryCarvers$Beads$1OfKind", name := "hasNext", desc := "()Z" } : Jvm.MethodName)) ∈ lw_all := lw_g (lw_at lw_m12 71 rfl) rfl
theorem q2833 : (Jvm.Cond.castable "RosaryCarvers$Beads$1OfKind" "java/lang/Object") ∈ lw_tbl := lw_at lw_m12 121 rfl
theorem in_X12 : ∀ w ∈ wsX120, w ∈ lw_all := lw_in wsX120 [926, 928, 930] (by decide +kernel) (by decide +kernel)

/-! RosaryCarvers$Fine -/
set_option maxRecDepth 100000
def RX13 : String := "RosaryCarvers$Fine"
abbrev cX13_isFinerThan : ByteArray := prog_23_method_3_code
def yX13_isFinerThan : MethodName := ⟨RX13, "isFinerThan", "(LRosaryCarvers$Fine;)Z"⟩
def dkwX13_isFinerThan_2 : List UInt8 := [167, 0, 4, 3, 172]
abbrev dktX13_isFinerThan_2 : List UInt8 := dkwX13_isFinerThan_2 ++ []
def dkwX13_isFinerThan_1 : List UInt8 := [185, 0, 1, 1, 0, 160, 0, 22, 42, 185, 0, 7, 1, 0, 43, 185, 0, 7, 1, 0, 162, 0, 7, 4]
abbrev dktX13_isFinerThan_1 : List UInt8 := dkwX13_isFinerThan_1 ++ dktX13_isFinerThan_2
def dkwX13_isFinerThan_0 : List UInt8 := [42, 185, 0, 1, 1, 0, 43, 185, 0, 1, 1, 0, 163, 0, 33, 42, 185, 0, 1, 1, 0, 43]
abbrev dktX13_isFinerThan_0 : List UInt8 := dkwX13_isFinerThan_0 ++ dktX13_isFinerThan_1
theorem dksX13_isFinerThan_0 : cX13_isFinerThan.data.toList.drop 0 = dktX13_isFinerThan_0 := by decide +kernel
theorem dksX13_isFinerThan_1 : cX13_isFinerThan.data.toList.drop 22 = dktX13_isFinerThan_1 := dk_seg dksX13_isFinerThan_0 22 rfl rfl
theorem dksX13_isFinerThan_2 : cX13_isFinerThan.data.toList.drop 46 = dktX13_isFinerThan_2 := dk_seg dksX13_isFinerThan_1 24 rfl rfl
theorem dX13_isFinerThan_0 : decode cX13_isFinerThan 0 = .ok (.aload_n 0, 1) := dk_42 (dk_at dksX13_isFinerThan_0 0 rfl rfl)
theorem dX13_isFinerThan_1 : decode cX13_isFinerThan 1 = .ok (.invokeinterface 1 1, 5) := by decide +kernel
theorem dX13_isFinerThan_6 : decode cX13_isFinerThan 6 = .ok (.aload_n 1, 1) := dk_43 (dk_at dksX13_isFinerThan_0 6 rfl rfl)
theorem dX13_isFinerThan_7 : decode cX13_isFinerThan 7 = .ok (.invokeinterface 1 1, 5) := by decide +kernel
theorem dX13_isFinerThan_12 : decode cX13_isFinerThan 12 = .ok (.if_icmp .gt 33, 3) := dk_163 0 33 (dk_at dksX13_isFinerThan_0 12 rfl rfl)
theorem dX13_isFinerThan_15 : decode cX13_isFinerThan 15 = .ok (.aload_n 0, 1) := dk_42 (dk_at dksX13_isFinerThan_0 15 rfl rfl)
theorem dX13_isFinerThan_16 : decode cX13_isFinerThan 16 = .ok (.invokeinterface 1 1, 5) := by decide +kernel
theorem dX13_isFinerThan_21 : decode cX13_isFinerThan 21 = .ok (.aload_n 1, 1) := dk_43 (dk_at dksX13_isFinerThan_0 21 rfl rfl)
theorem dX13_isFinerThan_22 : decode cX13_isFinerThan 22 = .ok (.invokeinterface 1 1, 5) := by decide +kernel
theorem dX13_isFinerThan_27 : decode cX13_isFinerThan 27 = .ok (.if_icmp .ne 22, 3) := dk_160 0 22 (dk_at dksX13_isFinerThan_1 5 rfl rfl)
theorem dX13_isFinerThan_30 : decode cX13_isFinerThan 30 = .ok (.aload_n 0, 1) := dk_42 (dk_at dksX13_isFinerThan_1 8 rfl rfl)
theorem dX13_isFinerThan_31 : decode cX13_isFinerThan 31 = .ok (.invokeinterface 7 1, 5) := by decide +kernel
theorem dX13_isFinerThan_36 : decode cX13_isFinerThan 36 = .ok (.aload_n 1, 1) := dk_43 (dk_at dksX13_isFinerThan_1 14 rfl rfl)
theorem dX13_isFinerThan_37 : decode cX13_isFinerThan 37 = .ok (.invokeinterface 7 1, 5) := by decide +kernel
theorem dX13_isFinerThan_42 : decode cX13_isFinerThan 42 = .ok (.if_icmp .ge 7, 3) := dk_162 0 7 (dk_at dksX13_isFinerThan_1 20 rfl rfl)
theorem dX13_isFinerThan_45 : decode cX13_isFinerThan 45 = .ok (.iconst 1, 1) := dk_4 (dk_at dksX13_isFinerThan_1 23 rfl rfl)
theorem dX13_isFinerThan_46 : decode cX13_isFinerThan 46 = .ok (.goto 4, 3) := dk_167 0 4 (dk_at dksX13_isFinerThan_2 0 rfl rfl)
theorem dX13_isFinerThan_49 : decode cX13_isFinerThan 49 = .ok (.iconst 0, 1) := dk_3 (dk_at dksX13_isFinerThan_2 3 rfl rfl)
theorem dX13_isFinerThan_50 : decode cX13_isFinerThan 50 = .ok (.ireturn, 1) := dk_172 (dk_at dksX13_isFinerThan_2 4 rfl rfl)
abbrev cX13_sum : ByteArray := prog_23_method_4_code
def yX13_sum : MethodName := ⟨RX13, "sum", "(Ljava/lang/Iterable;)I"⟩
def dkwX13_sum_1 : List UInt8 := [192, 0, 2, 78, 27, 45, 185, 0, 1, 1, 0, 96, 60, 167, 255, 228, 27, 172]
abbrev dktX13_sum_1 : List UInt8 := dkwX13_sum_1 ++ []
def dkwX13_sum_0 : List UInt8 := [3, 60, 42, 185, 0, 10, 1, 0, 77, 44, 185, 0, 16, 1, 0, 153, 0, 25, 44, 185, 0, 22, 1, 0]
abbrev dktX13_sum_0 : List UInt8 := dkwX13_sum_0 ++ dktX13_sum_1
theorem dksX13_sum_0 : cX13_sum.data.toList.drop 0 = dktX13_sum_0 := by decide +kernel
theorem dksX13_sum_1 : cX13_sum.data.toList.drop 24 = dktX13_sum_1 := dk_seg dksX13_sum_0 24 rfl rfl
theorem dX13_sum_0 : decode cX13_sum 0 = .ok (.iconst 0, 1) := dk_3 (dk_at dksX13_sum_0 0 rfl rfl)
theorem dX13_sum_1 : decode cX13_sum 1 = .ok (.istore_n 1, 1) := dk_60 (dk_at dksX13_sum_0 1 rfl rfl)
theorem dX13_sum_2 : decode cX13_sum 2 = .ok (.aload_n 0, 1) := dk_42 (dk_at dksX13_sum_0 2 rfl rfl)
theorem dX13_sum_3 : decode cX13_sum 3 = .ok (.invokeinterface 10 1, 5) := by decide +kernel
theorem dX13_sum_8 : decode cX13_sum 8 = .ok (.astore_n 2, 1) := dk_77 (dk_at dksX13_sum_0 8 rfl rfl)
theorem dX13_sum_9 : decode cX13_sum 9 = .ok (.aload_n 2, 1) := dk_44 (dk_at dksX13_sum_0 9 rfl rfl)
theorem dX13_sum_10 : decode cX13_sum 10 = .ok (.invokeinterface 16 1, 5) := by decide +kernel
theorem dX13_sum_15 : decode cX13_sum 15 = .ok (.ifCond .eq 25, 3) := dk_153 0 25 (dk_at dksX13_sum_0 15 rfl rfl)
theorem dX13_sum_18 : decode cX13_sum 18 = .ok (.aload_n 2, 1) := dk_44 (dk_at dksX13_sum_0 18 rfl rfl)
theorem dX13_sum_19 : decode cX13_sum 19 = .ok (.invokeinterface 22 1, 5) := by decide +kernel
theorem dX13_sum_24 : decode cX13_sum 24 = .ok (.checkcast 2, 3) := dk_192 0 2 (dk_at dksX13_sum_1 0 rfl rfl)
theorem dX13_sum_27 : decode cX13_sum 27 = .ok (.astore_n 3, 1) := dk_78 (dk_at dksX13_sum_1 3 rfl rfl)
theorem dX13_sum_28 : decode cX13_sum 28 = .ok (.iload_n 1, 1) := dk_27 (dk_at dksX13_sum_1 4 rfl rfl)
theorem dX13_sum_29 : decode cX13_sum 29 = .ok (.aload_n 3, 1) := dk_45 (dk_at dksX13_sum_1 5 rfl rfl)
theorem dX13_sum_30 : decode cX13_sum 30 = .ok (.invokeinterface 1 1, 5) := by decide +kernel
theorem dX13_sum_35 : decode cX13_sum 35 = .ok (.iadd, 1) := dk_96 (dk_at dksX13_sum_1 11 rfl rfl)
theorem dX13_sum_36 : decode cX13_sum 36 = .ok (.istore_n 1, 1) := dk_60 (dk_at dksX13_sum_1 12 rfl rfl)
theorem dX13_sum_37 : decode cX13_sum 37 = .ok (.goto (-28), 3) := dk_167 255 228 (dk_at dksX13_sum_1 13 rfl rfl)
theorem dX13_sum_40 : decode cX13_sum 40 = .ok (.iload_n 1, 1) := dk_27 (dk_at dksX13_sum_1 16 rfl rfl)
theorem dX13_sum_41 : decode cX13_sum 41 = .ok (.ireturn, 1) := dk_172 (dk_at dksX13_sum_1 17 rfl rfl)
theorem q105 : (Jvm.Cond.initialized "RosaryCarvers$Fine") ∈ lw_all := lw_g (lw_at lw_m1 33 rfl) rfl
theorem q981 : (Jvm.Cond.declares ({ cls := "RosaryCarvers$Fine", name := "isFinerThan", desc := "(LRosaryCarvers$Fine;)Z" } : Jvm.MethodName)) ∈ lw_tbl := lw_at lw_m4 189 rfl
theorem q983 : (Jvm.Cond.instanceMethod ({ cls := "RosaryCarvers$Fine", name := "isFinerThan", desc := "(LRosaryCarvers$Fine;)Z" } : Jvm.MethodName)) ∈ lw_all := lw_g (lw_at lw_m4 191 rfl) rfl
theorem q984 : (Jvm.Cond.publicMethod ({ cls := "RosaryCarvers$Fine", name := "isFinerThan", desc := "(LRosaryCarvers$Fine;)Z" } : Jvm.MethodName)) ∈ lw_tbl := lw_at lw_m4 192 rfl
theorem q985 : (Jvm.Cond.code ({ cls := "RosaryCarvers$Fine", name := "isFinerThan", desc := "(LRosaryCarvers$Fine;)Z" } : Jvm.MethodName) prog_23_method_3_code (2 : Nat) (Option.some Jvm.ClassFile.FieldType.boolean)) ∈ lw_all := lw_g (lw_at lw_m4 193 rfl) rfl
theorem q986 : (Jvm.Cond.interfaceEntry "RosaryCarvers$Fine" (1 : Nat)) ∈ lw_tbl := lw_at lw_m4 194 rfl
theorem q987 : (Jvm.Cond.methodLink "RosaryCarvers$Fine" (1 : Nat) ({ cls := "RosaryCarvers$Fine", name := "fineness", desc := "()I" } : Jvm.MethodName)) ∈ lw_all := lw_g (lw_at lw_m4 195 rfl) rfl
theorem q988 : (Jvm.Cond.interfaceMethod "RosaryCarvers$Fine" "RosaryCarvers$Fine" "fineness" "()I") ∈ lw_tbl := lw_at lw_m4 196 rfl
theorem q989 : (Jvm.Cond.declares ({ cls := "RosaryCarvers$Fine", name := "fineness", desc := "()I" } : Jvm.MethodName)) ∈ lw_tbl := lw_at lw_m4 197 rfl
theorem q996 : (Jvm.Cond.interfaceEntry "RosaryCarvers$Fine" (7 : Nat)) ∈ lw_tbl := lw_at lw_m4 204 rfl
theorem q997 : (Jvm.Cond.methodLink "RosaryCarvers$Fine" (7 : Nat) ({ cls := "RosaryCarvers$Fine", name := "number", desc := "()I" } : Jvm.MethodName)) ∈ lw_all := lw_g (lw_at lw_m4 205 rfl) rfl
theorem q998 : (Jvm.Cond.interfaceMethod "RosaryCarvers$Fine" "RosaryCarvers$Fine" "number" "()I") ∈ lw_tbl := lw_at lw_m4 206 rfl
theorem q999 : (Jvm.Cond.declares ({ cls := "RosaryCarvers$Fine", name := "number", desc := "()I" } : Jvm.MethodName)) ∈ lw_tbl := lw_at lw_m4 207 rfl
theorem q1146 : (Jvm.Cond.static ({ cls := "RosaryCarvers$Fine", name := "sum", desc := "(Ljava/lang/Iterable;)I" } : Jvm.MethodName)) ∈ lw_all := lw_g (lw_at lw_m5 114 rfl) rfl
theorem q1147 : (Jvm.Cond.code ({ cls := "RosaryCarvers$Fine", name := "sum", desc := "(Ljava/lang/Iterable;)I" } : Jvm.MethodName) prog_23_method_4_code (4 : Nat) (Option.some Jvm.ClassFile.FieldType.int)) ∈ lw_all := lw_g (lw_at lw_m5 115 rfl) rfl
theorem q1148 : (Jvm.Cond.interfaceEntry "RosaryCarvers$Fine" (10 : Nat)) ∈ lw_tbl := lw_at lw_m5 116 rfl
theorem q1149 : (Jvm.Cond.methodLink "RosaryCarvers$Fine" (10 : Nat) ({ cls := "java/lang/Iterable", name := "iterator", desc := "()Ljava/util/Iterator;" } : Jvm.MethodName)) ∈ lw_all := lw_g (lw_at lw_m5 117 rfl) rfl
theorem q1150 : (Jvm.Cond.interfaceEntry "RosaryCarvers$Fine" (16 : Nat)) ∈ lw_tbl := lw_at lw_m5 118 rfl
theorem q1151 : (Jvm.Cond.methodLink "RosaryCarvers$Fine" (16 : Nat) ({ cls := "java/util/Iterator", name := "hasNext", desc := "()Z" } : Jvm.MethodName)) ∈ lw_all := lw_g (lw_at lw_m5 119 rfl) rfl
theorem q1152 : (Jvm.Cond.interfaceEntry "RosaryCarvers$Fine" (22 : Nat)) ∈ lw_tbl := lw_at lw_m5 120 rfl
theorem q1153 : (Jvm.Cond.methodLink "RosaryCarvers$Fine" (22 : Nat) ({ cls := "java/util/Iterator", name := "next", desc := "()Ljava/lang/Object;" } : Jvm.MethodName)) ∈ lw_all := lw_g (lw_at lw_m5 121 rfl) rfl
theorem q1154 : (Jvm.Cond.classLink "RosaryCarvers$Fine" (2 : Nat) "RosaryCarvers$Fine") ∈ lw_all := lw_g (lw_at lw_m5 122 rfl) rfl

/-! RosaryCarvers$Sold -/
set_option maxRecDepth 100000
def RX14 : String := "RosaryCarvers$Sold"
def TX14 : u_T := fun k => match k with
  | 0 => ("RosaryCarvers$Beads", "beads", "Ljava/util/ArrayList;", true)
  | 1 => ("RosaryCarvers$Sold", "since", "I", true)
  | _ => ("RosaryCarvers$Sold", "broken", "LRosaryCarvers$Bead;", true)
def tyX14 : Nat → FieldType := fun k => match k with
  | 0 => .object "java/util/ArrayList"
  | 1 => .int
  | _ => .object "RosaryCarvers$Bead"
abbrev wsX140 : List Cond := u_ws RX14 TX14 3
theorem nmX14 : ∀ a, a < 3 → ∀ b, b < 3 → a ≠ b → (TX14 a).2.1 ≠ (TX14 b).2.1 := by decide +kernel
theorem tyX14_ok : ∀ k, k < 3 → parseFieldDescriptor (TX14 k).2.2.1 = some (tyX14 k) := by decide +kernel
abbrev cX14_last : ByteArray := prog_31_method_3_code
def yX14_last : MethodName := ⟨RX14, "last", "()I"⟩
def dkwX14_last_0 : List UInt8 := [42, 180, 0, 7, 16, 10, 42, 182, 0, 25, 104, 96, 172]
abbrev dktX14_last_0 : List UInt8 := dkwX14_last_0 ++ []
theorem dksX14_last_0 : cX14_last.data.toList.drop 0 = dktX14_last_0 := by decide +kernel
theorem dX14_last_0 : decode cX14_last 0 = .ok (.aload_n 0, 1) := dk_42 (dk_at dksX14_last_0 0 rfl rfl)
theorem dX14_last_1 : decode cX14_last 1 = .ok (.getfield 7, 3) := dk_180 0 7 (dk_at dksX14_last_0 1 rfl rfl)
theorem dX14_last_4 : decode cX14_last 4 = .ok (.bipush 10, 2) := dk_16 10 (dk_at dksX14_last_0 4 rfl rfl)
theorem dX14_last_6 : decode cX14_last 6 = .ok (.aload_n 0, 1) := dk_42 (dk_at dksX14_last_0 6 rfl rfl)
theorem dX14_last_7 : decode cX14_last 7 = .ok (.invokevirtual 25, 3) := dk_182 0 25 (dk_at dksX14_last_0 7 rfl rfl)
theorem dX14_last_10 : decode cX14_last 10 = .ok (.imul, 1) := dk_104 (dk_at dksX14_last_0 10 rfl rfl)
theorem dX14_last_11 : decode cX14_last 11 = .ok (.iadd, 1) := dk_96 (dk_at dksX14_last_0 11 rfl rfl)
theorem dX14_last_12 : decode cX14_last 12 = .ok (.ireturn, 1) := dk_172 (dk_at dksX14_last_0 12 rfl rfl)
abbrev cX14_weakest : ByteArray := prog_31_method_4_code
def yX14_weakest : MethodName := ⟨RX14, "weakest", "()LRosaryCarvers$Bead;"⟩
def dkwX14_weakest_2 : List UInt8 := [76, 167, 255, 216, 43, 176]
abbrev dktX14_weakest_2 : List UInt8 := dkwX14_weakest_2 ++ []
def dkwX14_weakest_1 : List UInt8 := [192, 0, 43, 78, 43, 198, 0, 14, 45, 180, 0, 45, 43, 180, 0, 45, 162, 0, 7, 45, 167, 0, 4, 43]
abbrev dktX14_weakest_1 : List UInt8 := dkwX14_weakest_1 ++ dktX14_weakest_2
def dkwX14_weakest_0 : List UInt8 := [1, 76, 42, 182, 0, 29, 77, 44, 185, 0, 33, 1, 0, 153, 0, 37, 44, 185, 0, 39, 1, 0]
abbrev dktX14_weakest_0 : List UInt8 := dkwX14_weakest_0 ++ dktX14_weakest_1
theorem dksX14_weakest_0 : cX14_weakest.data.toList.drop 0 = dktX14_weakest_0 := by decide +kernel
theorem dksX14_weakest_1 : cX14_weakest.data.toList.drop 22 = dktX14_weakest_1 := dk_seg dksX14_weakest_0 22 rfl rfl
theorem dksX14_weakest_2 : cX14_weakest.data.toList.drop 46 = dktX14_weakest_2 := dk_seg dksX14_weakest_1 24 rfl rfl
theorem dX14_weakest_0 : decode cX14_weakest 0 = .ok (.aconst_null, 1) := dk_1 (dk_at dksX14_weakest_0 0 rfl rfl)
theorem dX14_weakest_1 : decode cX14_weakest 1 = .ok (.astore_n 1, 1) := dk_76 (dk_at dksX14_weakest_0 1 rfl rfl)
theorem dX14_weakest_2 : decode cX14_weakest 2 = .ok (.aload_n 0, 1) := dk_42 (dk_at dksX14_weakest_0 2 rfl rfl)
theorem dX14_weakest_3 : decode cX14_weakest 3 = .ok (.invokevirtual 29, 3) := dk_182 0 29 (dk_at dksX14_weakest_0 3 rfl rfl)
theorem dX14_weakest_6 : decode cX14_weakest 6 = .ok (.astore_n 2, 1) := dk_77 (dk_at dksX14_weakest_0 6 rfl rfl)
theorem dX14_weakest_7 : decode cX14_weakest 7 = .ok (.aload_n 2, 1) := dk_44 (dk_at dksX14_weakest_0 7 rfl rfl)
theorem dX14_weakest_8 : decode cX14_weakest 8 = .ok (.invokeinterface 33 1, 5) := by decide +kernel
theorem dX14_weakest_13 : decode cX14_weakest 13 = .ok (.ifCond .eq 37, 3) := dk_153 0 37 (dk_at dksX14_weakest_0 13 rfl rfl)
theorem dX14_weakest_16 : decode cX14_weakest 16 = .ok (.aload_n 2, 1) := dk_44 (dk_at dksX14_weakest_0 16 rfl rfl)
theorem dX14_weakest_17 : decode cX14_weakest 17 = .ok (.invokeinterface 39 1, 5) := by decide +kernel
theorem dX14_weakest_22 : decode cX14_weakest 22 = .ok (.checkcast 43, 3) := dk_192 0 43 (dk_at dksX14_weakest_1 0 rfl rfl)
theorem dX14_weakest_25 : decode cX14_weakest 25 = .ok (.astore_n 3, 1) := dk_78 (dk_at dksX14_weakest_1 3 rfl rfl)
theorem dX14_weakest_26 : decode cX14_weakest 26 = .ok (.aload_n 1, 1) := dk_43 (dk_at dksX14_weakest_1 4 rfl rfl)
theorem dX14_weakest_27 : decode cX14_weakest 27 = .ok (.ifnull 14, 3) := dk_198 0 14 (dk_at dksX14_weakest_1 5 rfl rfl)
theorem dX14_weakest_30 : decode cX14_weakest 30 = .ok (.aload_n 3, 1) := dk_45 (dk_at dksX14_weakest_1 8 rfl rfl)
theorem dX14_weakest_31 : decode cX14_weakest 31 = .ok (.getfield 45, 3) := dk_180 0 45 (dk_at dksX14_weakest_1 9 rfl rfl)
theorem dX14_weakest_34 : decode cX14_weakest 34 = .ok (.aload_n 1, 1) := dk_43 (dk_at dksX14_weakest_1 12 rfl rfl)
theorem dX14_weakest_35 : decode cX14_weakest 35 = .ok (.getfield 45, 3) := dk_180 0 45 (dk_at dksX14_weakest_1 13 rfl rfl)
theorem dX14_weakest_38 : decode cX14_weakest 38 = .ok (.if_icmp .ge 7, 3) := dk_162 0 7 (dk_at dksX14_weakest_1 16 rfl rfl)
theorem dX14_weakest_41 : decode cX14_weakest 41 = .ok (.aload_n 3, 1) := dk_45 (dk_at dksX14_weakest_1 19 rfl rfl)
theorem dX14_weakest_42 : decode cX14_weakest 42 = .ok (.goto 4, 3) := dk_167 0 4 (dk_at dksX14_weakest_1 20 rfl rfl)
theorem dX14_weakest_45 : decode cX14_weakest 45 = .ok (.aload_n 1, 1) := dk_43 (dk_at dksX14_weakest_1 23 rfl rfl)
theorem dX14_weakest_46 : decode cX14_weakest 46 = .ok (.astore_n 1, 1) := dk_76 (dk_at dksX14_weakest_2 0 rfl rfl)
theorem dX14_weakest_47 : decode cX14_weakest 47 = .ok (.goto (-40), 3) := dk_167 255 216 (dk_at dksX14_weakest_2 1 rfl rfl)
theorem dX14_weakest_50 : decode cX14_weakest 50 = .ok (.aload_n 1, 1) := dk_43 (dk_at dksX14_weakest_2 4 rfl rfl)
theorem dX14_weakest_51 : decode cX14_weakest 51 = .ok (.areturn, 1) := dk_176 (dk_at dksX14_weakest_2 5 rfl rfl)
abbrev cX14_init : ByteArray := prog_31_method_2_code
def yX14_init : MethodName := ⟨RX14, "<init>", "(LRosaryCarvers$Sold;LRosaryCarvers$Bead;)V"⟩
def dkwX14_init_1 : List UInt8 := [182, 0, 21, 177]
abbrev dktX14_init_1 : List UInt8 := dkwX14_init_1 ++ []
def dkwX14_init_0 : List UInt8 := [42, 183, 0, 1, 42, 43, 180, 0, 7, 181, 0, 7, 42, 44, 181, 0, 13, 42, 43, 182, 0, 17, 42, 44]
abbrev dktX14_init_0 : List UInt8 := dkwX14_init_0 ++ dktX14_init_1
theorem dksX14_init_0 : cX14_init.data.toList.drop 0 = dktX14_init_0 := by decide +kernel
theorem dksX14_init_1 : cX14_init.data.toList.drop 24 = dktX14_init_1 := dk_seg dksX14_init_0 24 rfl rfl
theorem dX14_init_0 : decode cX14_init 0 = .ok (.aload_n 0, 1) := dk_42 (dk_at dksX14_init_0 0 rfl rfl)
theorem dX14_init_1 : decode cX14_init 1 = .ok (.invokespecial 1, 3) := dk_183 0 1 (dk_at dksX14_init_0 1 rfl rfl)
theorem dX14_init_4 : decode cX14_init 4 = .ok (.aload_n 0, 1) := dk_42 (dk_at dksX14_init_0 4 rfl rfl)
theorem dX14_init_5 : decode cX14_init 5 = .ok (.aload_n 1, 1) := dk_43 (dk_at dksX14_init_0 5 rfl rfl)
theorem dX14_init_6 : decode cX14_init 6 = .ok (.getfield 7, 3) := dk_180 0 7 (dk_at dksX14_init_0 6 rfl rfl)
theorem dX14_init_9 : decode cX14_init 9 = .ok (.putfield 7, 3) := dk_181 0 7 (dk_at dksX14_init_0 9 rfl rfl)
theorem dX14_init_12 : decode cX14_init 12 = .ok (.aload_n 0, 1) := dk_42 (dk_at dksX14_init_0 12 rfl rfl)
theorem dX14_init_13 : decode cX14_init 13 = .ok (.aload_n 2, 1) := dk_44 (dk_at dksX14_init_0 13 rfl rfl)
theorem dX14_init_14 : decode cX14_init 14 = .ok (.putfield 13, 3) := dk_181 0 13 (dk_at dksX14_init_0 14 rfl rfl)
theorem dX14_init_17 : decode cX14_init 17 = .ok (.aload_n 0, 1) := dk_42 (dk_at dksX14_init_0 17 rfl rfl)
theorem dX14_init_18 : decode cX14_init 18 = .ok (.aload_n 1, 1) := dk_43 (dk_at dksX14_init_0 18 rfl rfl)
theorem dX14_init_19 : decode cX14_init 19 = .ok (.invokevirtual 17, 3) := dk_182 0 17 (dk_at dksX14_init_0 19 rfl rfl)
theorem dX14_init_22 : decode cX14_init 22 = .ok (.aload_n 0, 1) := dk_42 (dk_at dksX14_init_0 22 rfl rfl)
theorem dX14_init_23 : decode cX14_init 23 = .ok (.aload_n 2, 1) := dk_44 (dk_at dksX14_init_0 23 rfl rfl)
theorem dX14_init_24 : decode cX14_init 24 = .ok (.invokevirtual 21, 3) := dk_182 0 21 (dk_at dksX14_init_1 0 rfl rfl)
theorem dX14_init_27 : decode cX14_init 27 = .ok (.return_, 1) := dk_177 (dk_at dksX14_init_1 3 rfl rfl)
abbrev cX14_init_2 : ByteArray := prog_31_method_1_code
def yX14_init_2 : MethodName := ⟨RX14, "<init>", "(LRosaryCarvers$Beads;I)V"⟩
def dkwX14_init_2_0 : List UInt8 := [42, 183, 0, 1, 42, 28, 181, 0, 7, 42, 1, 181, 0, 13, 42, 43, 182, 0, 17, 177]
abbrev dktX14_init_2_0 : List UInt8 := dkwX14_init_2_0 ++ []
theorem dksX14_init_2_0 : cX14_init_2.data.toList.drop 0 = dktX14_init_2_0 := by decide +kernel
theorem dX14_init_2_0 : decode cX14_init_2 0 = .ok (.aload_n 0, 1) := dk_42 (dk_at dksX14_init_2_0 0 rfl rfl)
theorem dX14_init_2_1 : decode cX14_init_2 1 = .ok (.invokespecial 1, 3) := dk_183 0 1 (dk_at dksX14_init_2_0 1 rfl rfl)
theorem dX14_init_2_4 : decode cX14_init_2 4 = .ok (.aload_n 0, 1) := dk_42 (dk_at dksX14_init_2_0 4 rfl rfl)
theorem dX14_init_2_5 : decode cX14_init_2 5 = .ok (.iload_n 2, 1) := dk_28 (dk_at dksX14_init_2_0 5 rfl rfl)
theorem dX14_init_2_6 : decode cX14_init_2 6 = .ok (.putfield 7, 3) := dk_181 0 7 (dk_at dksX14_init_2_0 6 rfl rfl)
theorem dX14_init_2_9 : decode cX14_init_2 9 = .ok (.aload_n 0, 1) := dk_42 (dk_at dksX14_init_2_0 9 rfl rfl)
theorem dX14_init_2_10 : decode cX14_init_2 10 = .ok (.aconst_null, 1) := dk_1 (dk_at dksX14_init_2_0 10 rfl rfl)
theorem dX14_init_2_11 : decode cX14_init_2 11 = .ok (.putfield 13, 3) := dk_181 0 13 (dk_at dksX14_init_2_0 11 rfl rfl)
theorem dX14_init_2_14 : decode cX14_init_2 14 = .ok (.aload_n 0, 1) := dk_42 (dk_at dksX14_init_2_0 14 rfl rfl)
theorem dX14_init_2_15 : decode cX14_init_2 15 = .ok (.aload_n 1, 1) := dk_43 (dk_at dksX14_init_2_0 15 rfl rfl)
theorem dX14_init_2_16 : decode cX14_init_2 16 = .ok (.invokevirtual 17, 3) := dk_182 0 17 (dk_at dksX14_init_2_0 16 rfl rfl)
theorem dX14_init_2_19 : decode cX14_init_2 19 = .ok (.return_, 1) := dk_177 (dk_at dksX14_init_2_0 19 rfl rfl)
theorem q108 : (Jvm.Cond.initialized "RosaryCarvers$Sold") ∈ lw_all := lw_g (lw_at lw_m1 36 rfl) rfl
theorem q632 : (Jvm.Cond.selects "RosaryCarvers$Sold" ({ cls := "java/lang/Object", name := "getClass", desc := "()Ljava/lang/Class;" } : Jvm.MethodName) ({ cls := "java/lang/Object", name := "getClass", desc := "()Ljava/lang/Class;" } : Jvm.MethodName)) ∈ lw_all := lw_g (lw_at lw_m3 80 rfl) rfl
theorem q684 : (Jvm.Cond.selects "RosaryCarvers$Sold" ({ cls := "RosaryCarvers$Beads", name := "becomes", desc := "(LRosaryCarvers$Beads;)V" } : Jvm.MethodName) ({ cls := "RosaryCarvers$Beads", name := "becomes", desc := "(LRosaryCarvers$Beads;)V" } : Jvm.MethodName)) ∈ lw_all := lw_g (lw_at lw_m3 132 rfl) rfl
theorem q879 : (Jvm.Cond.selects "RosaryCarvers$Sold" ({ cls := "RosaryCarvers$Beads", name := "finest", desc := "(Z)LRosaryCarvers$Bead;" } : Jvm.MethodName) ({ cls := "RosaryCarvers$Beads", name := "finest", desc := "(Z)LRosaryCarvers$Bead;" } : Jvm.MethodName)) ∈ lw_all := lw_g (lw_at lw_m4 87 rfl) rfl
theorem q886 : (Jvm.Cond.selects "RosaryCarvers$Sold" ({ cls := "RosaryCarvers$Beads", name := "of", desc := "(Z)Ljava/lang/Iterable;" } : Jvm.MethodName) ({ cls := "RosaryCarvers$Beads", name := "of", desc := "(Z)Ljava/lang/Iterable;" } : Jvm.MethodName)) ∈ lw_all := lw_g (lw_at lw_m4 94 rfl) rfl
theorem q936 : (Jvm.Cond.castable "RosaryCarvers$Sold" "java/lang/Iterable") ∈ lw_tbl := lw_at lw_m4 144 rfl
theorem q937 : (Jvm.Cond.selects "RosaryCarvers$Sold" ({ cls := "java/lang/Iterable", name := "iterator", desc := "()Ljava/util/Iterator;" } : Jvm.MethodName) ({ cls := "RosaryCarvers$Beads", name := "iterator", desc := "()Ljava/util/Iterator;" } : Jvm.MethodName)) ∈ lw_all := lw_g (lw_at lw_m4 145 rfl) rfl
theorem q938 : (Jvm.Cond.unhidden "RosaryCarvers$Sold" "iterator" "()Ljava/util/Iterator;") ∈ lw_tbl := lw_at lw_m4 146 rfl
theorem q1030 : (Jvm.Cond.selects "RosaryCarvers$Sold" ({ cls := "RosaryCarvers$Beads", name := "loses", desc := "(LRosaryCarvers$Bead;)V" } : Jvm.MethodName) ({ cls := "RosaryCarvers$Beads", name := "loses", desc := "(LRosaryCarvers$Bead;)V" } : Jvm.MethodName)) ∈ lw_all := lw_g (lw_at lw_m4 238 rfl) rfl
theorem q1068 : (Jvm.Cond.selects "RosaryCarvers$Sold" ({ cls := "java/lang/Object", name := "equals", desc := "(Ljava/lang/Object;)Z" } : Jvm.MethodName) ({ cls := "java/lang/Object", name := "equals", desc := "(Ljava/lang/Object;)Z" } : Jvm.MethodName)) ∈ lw_all := lw_g (lw_at lw_m5 36 rfl) rfl
theorem q1100 : (Jvm.Cond.sameMethod "RosaryCarvers$Sold" "RosaryCarvers$Beads" "iterator" "()Ljava/util/Iterator;") ∈ lw_all := lw_g (lw_at lw_m5 68 rfl) rfl
theorem q1102 : (Jvm.Cond.selects "RosaryCarvers$Sold" ({ cls := "RosaryCarvers$Sold", name := "iterator", desc := "()Ljava/util/Iterator;" } : Jvm.MethodName) ({ cls := "RosaryCarvers$Beads", name := "iterator", desc := "()Ljava/util/Iterator;" } : Jvm.MethodName)) ∈ lw_all := lw_g (lw_at lw_m5 70 rfl) rfl
theorem q1105 : (Jvm.Cond.sameMethod "RosaryCarvers$Sold" "RosaryCarvers$Beads" "size" "()I") ∈ lw_all := lw_g (lw_at lw_m5 73 rfl) rfl
theorem q1107 : (Jvm.Cond.selects "RosaryCarvers$Sold" ({ cls := "RosaryCarvers$Sold", name := "size", desc := "()I" } : Jvm.MethodName) ({ cls := "RosaryCarvers$Beads", name := "size", desc := "()I" } : Jvm.MethodName)) ∈ lw_all := lw_g (lw_at lw_m5 75 rfl) rfl
theorem q1128 : (Jvm.Cond.instanceMethod ({ cls := "RosaryCarvers$Sold", name := "last", desc := "()I" } : Jvm.MethodName)) ∈ lw_all := lw_g (lw_at lw_m5 96 rfl) rfl
theorem q1129 : (Jvm.Cond.selects "RosaryCarvers$Sold" ({ cls := "RosaryCarvers$Sold", name := "last", desc := "()I" } : Jvm.MethodName) ({ cls := "RosaryCarvers$Sold", name := "last", desc := "()I" } : Jvm.MethodName)) ∈ lw_all := lw_g (lw_at lw_m5 97 rfl) rfl
theorem q1130 : (Jvm.Cond.code ({ cls := "RosaryCarvers$Sold", name := "last", desc := "()I" } : Jvm.MethodName) prog_31_method_3_code (1 : Nat) (Option.some Jvm.ClassFile.FieldType.int)) ∈ lw_all := lw_g (lw_at lw_m5 98 rfl) rfl
theorem q1131 : (Jvm.Cond.methodLink "RosaryCarvers$Sold" (25 : Nat) ({ cls := "RosaryCarvers$Sold", name := "fineness", desc := "()I" } : Jvm.MethodName)) ∈ lw_all := lw_g (lw_at lw_m5 99 rfl) rfl
theorem q1132 : (Jvm.Cond.sameMethod "RosaryCarvers$Sold" "RosaryCarvers$Beads" "fineness" "()I") ∈ lw_all := lw_g (lw_at lw_m5 100 rfl) rfl
theorem q1134 : (Jvm.Cond.selects "RosaryCarvers$Sold" ({ cls := "RosaryCarvers$Sold", name := "fineness", desc := "()I" } : Jvm.MethodName) ({ cls := "RosaryCarvers$Beads", name := "fineness", desc := "()I" } : Jvm.MethodName)) ∈ lw_all := lw_g (lw_at lw_m5 102 rfl) rfl
theorem q1143 : (Jvm.Cond.selects "RosaryCarvers$Sold" ({ cls := "RosaryCarvers$Beads", name := "sum", desc := "()I" } : Jvm.MethodName) ({ cls := "RosaryCarvers$Beads", name := "sum", desc := "()I" } : Jvm.MethodName)) ∈ lw_all := lw_g (lw_at lw_m5 111 rfl) rfl
theorem q1219 : (Jvm.Cond.instanceMethod ({ cls := "RosaryCarvers$Sold", name := "weakest", desc := "()LRosaryCarvers$Bead;" } : Jvm.MethodName)) ∈ lw_all := lw_g (lw_at lw_m5 187 rfl) rfl
theorem q1220 : (Jvm.Cond.selects "RosaryCarvers$Sold" ({ cls := "RosaryCarvers$Sold", name := "weakest", desc := "()LRosaryCarvers$Bead;" } : Jvm.MethodName) ({ cls := "RosaryCarvers$Sold", name := "weakest", desc := "()LRosaryCarvers$Bead;" } : Jvm.MethodName)) ∈ lw_all := lw_g (lw_at lw_m5 188 rfl) rfl
theorem q1221 : (Jvm.Cond.code ({ cls := "RosaryCarvers$Sold", name := "weakest", desc := "()LRosaryCarvers$Bead;" } : Jvm.MethodName) prog_31_method_4_code (4 : Nat) (Option.some (Jvm.ClassFile.FieldType.object "RosaryCarvers$Bead"))) ∈ lw_all := lw_g (lw_at lw_m5 189 rfl) rfl
theorem q1222 : (Jvm.Cond.methodLink "RosaryCarvers$Sold" (29 : Nat) ({ cls := "RosaryCarvers$Sold", name := "iterator", desc := "()Ljava/util/Iterator;" } : Jvm.MethodName)) ∈ lw_all := lw_g (lw_at lw_m5 190 rfl) rfl
theorem q1223 : (Jvm.Cond.interfaceEntry "RosaryCarvers$Sold" (33 : Nat)) ∈ lw_tbl := lw_at lw_m5 191 rfl
theorem q1224 : (Jvm.Cond.methodLink "RosaryCarvers$Sold" (33 : Nat) ({ cls := "java/util/Iterator", name := "hasNext", desc := "()Z" } : Jvm.MethodName)) ∈ lw_all := lw_g (lw_at lw_m5 192 rfl) rfl
theorem q1225 : (Jvm.Cond.interfaceEntry "RosaryCarvers$Sold" (39 : Nat)) ∈ lw_tbl := lw_at lw_m5 193 rfl
theorem q1226 : (Jvm.Cond.methodLink "RosaryCarvers$Sold" (39 : Nat) ({ cls := "java/util/Iterator", name := "next", desc := "()Ljava/lang/Object;" } : Jvm.MethodName)) ∈ lw_all := lw_g (lw_at lw_m5 194 rfl) rfl
theorem q1227 : (Jvm.Cond.classLink "RosaryCarvers$Sold" (43 : Nat) "RosaryCarvers$Bead") ∈ lw_all := lw_g (lw_at lw_m5 195 rfl) rfl
theorem q1228 : (Jvm.Cond.instantiable "RosaryCarvers$Sold" (3 : Nat)) ∈ lw_all := lw_g (lw_at lw_m5 196 rfl) rfl
theorem q1230 : (Jvm.Cond.instanceMethod ({ cls := "RosaryCarvers$Sold", name := "<init>", desc := "(LRosaryCarvers$Sold;LRosaryCarvers$Bead;)V" } : Jvm.MethodName)) ∈ lw_all := lw_g (lw_at lw_m5 198 rfl) rfl
theorem q1231 : (Jvm.Cond.code ({ cls := "RosaryCarvers$Sold", name := "<init>", desc := "(LRosaryCarvers$Sold;LRosaryCarvers$Bead;)V" } : Jvm.MethodName) prog_31_method_2_code (3 : Nat) (Option.none : Option Jvm.ClassFile.FieldType)) ∈ lw_all := lw_g (lw_at lw_m5 199 rfl) rfl
theorem q1232 : (Jvm.Cond.methodLinkNest "RosaryCarvers$Sold" (1 : Nat) ({ cls := "RosaryCarvers$Beads", name := "<init>", desc := "()V" } : Jvm.MethodName) "RosaryCarvers") ∈ lw_tbl := lw_at lw_m5 200 rfl
theorem q1233 : (Jvm.Cond.methodLink "RosaryCarvers$Sold" (17 : Nat) ({ cls := "RosaryCarvers$Sold", name := "becomes", desc := "(LRosaryCarvers$Beads;)V" } : Jvm.MethodName)) ∈ lw_all := lw_g (lw_at lw_m5 201 rfl) rfl
theorem q1234 : (Jvm.Cond.sameMethod "RosaryCarvers$Sold" "RosaryCarvers$Beads" "becomes" "(LRosaryCarvers$Beads;)V") ∈ lw_all := lw_g (lw_at lw_m5 202 rfl) rfl
theorem q1235 : (Jvm.Cond.selects "RosaryCarvers$Sold" ({ cls := "RosaryCarvers$Sold", name := "becomes", desc := "(LRosaryCarvers$Beads;)V" } : Jvm.MethodName) ({ cls := "RosaryCarvers$Beads", name := "becomes", desc := "(LRosaryCarvers$Beads;)V" } : Jvm.MethodName)) ∈ lw_all := lw_g (lw_at lw_m5 203 rfl) rfl
theorem q1236 : (Jvm.Cond.methodLink "RosaryCarvers$Sold" (21 : Nat) ({ cls := "RosaryCarvers$Sold", name := "loses", desc := "(LRosaryCarvers$Bead;)V" } : Jvm.MethodName)) ∈ lw_all := lw_g (lw_at lw_m5 204 rfl) rfl
theorem q1237 : (Jvm.Cond.sameMethod "RosaryCarvers$Sold" "RosaryCarvers$Beads" "loses" "(LRosaryCarvers$Bead;)V") ∈ lw_all := lw_g (lw_at lw_m5 205 rfl) rfl
theorem q1239 : (Jvm.Cond.selects "RosaryCarvers$Sold" ({ cls := "RosaryCarvers$Sold", name := "loses", desc := "(LRosaryCarvers$Bead;)V" } : Jvm.MethodName) ({ cls := "RosaryCarvers$Beads", name := "loses", desc := "(LRosaryCarvers$Bead;)V" } : Jvm.MethodName)) ∈ lw_all := lw_g (lw_at lw_m5 207 rfl) rfl
theorem q1240 : (Jvm.Cond.fieldLink "RosaryCarvers$Sold" (7 : Nat) "RosaryCarvers$Sold" "since" "I") ∈ lw_all := lw_g (lw_at lw_m5 208 rfl) rfl
theorem q1241 : (Jvm.Cond.fieldLink "RosaryCarvers$Sold" (13 : Nat) "RosaryCarvers$Sold" "broken" "LRosaryCarvers$Bead;") ∈ lw_all := lw_g (lw_at lw_m5 209 rfl) rfl
theorem q1244 : (Jvm.Cond.laysFinal "RosaryCarvers$Sold" "RosaryCarvers$Sold" "since" "I") ∈ lw_all := lw_g (lw_at lw_m5 212 rfl) rfl
theorem q1245 : (Jvm.Cond.soleField "RosaryCarvers$Sold" "since") ∈ lw_all := lw_g (lw_at lw_m5 213 rfl) rfl
theorem q1246 : (Jvm.Cond.laysFinal "RosaryCarvers$Sold" "RosaryCarvers$Sold" "broken" "LRosaryCarvers$Bead;") ∈ lw_all := lw_g (lw_at lw_m5 214 rfl) rfl
theorem q1247 : (Jvm.Cond.soleField "RosaryCarvers$Sold" "broken") ∈ lw_all := lw_g (lw_at lw_m5 215 rfl) rfl
theorem q1248 : (Jvm.Cond.laysFinal "RosaryCarvers$Sold" "RosaryCarvers$Beads" "beads" "Ljava/util/ArrayList;") ∈ lw_all := lw_g (lw_at lw_m5 216 rfl) rfl
theorem q1249 : (Jvm.Cond.superclass "RosaryCarvers$Sold" "RosaryCarvers$Beads") ∈ lw_all := lw_g (lw_at lw_m5 217 rfl) rfl
theorem q1262 : (Jvm.Cond.instanceMethod ({ cls := "RosaryCarvers$Sold", name := "<init>", desc := "(LRosaryCarvers$Beads;I)V" } : Jvm.MethodName)) ∈ lw_all := lw_g (lw_at lw_m5 230 rfl) rfl
theorem q1263 : (Jvm.Cond.code ({ cls := "RosaryCarvers$Sold", name := "<init>", desc := "(LRosaryCarvers$Beads;I)V" } : Jvm.MethodName) prog_31_method_1_code (3 : Nat) (Option.none : Option Jvm.ClassFile.FieldType)) ∈ lw_all := lw_g (lw_at lw_m5 231 rfl) rfl
theorem q1415 : (Jvm.Cond.fieldLinkNest "RosaryCarvers$Sold" (45 : Nat) "RosaryCarvers$Bead" "fineness" "I" "RosaryCarvers") ∈ lw_tbl := lw_at lw_m6 143 rfl
theorem q1428 : (Jvm.Cond.selects "RosaryCarvers$Sold" ({ cls := "RosaryCarvers$Beads", name := "adds", desc := "(LRosaryCarvers$Bead;)V" } : Jvm.MethodName) ({ cls := "RosaryCarvers$Beads", name := "adds", desc := "(LRosaryCarvers$Bead;)V" } : Jvm.MethodName)) ∈ lw_all := lw_g (lw_at lw_m6 156 rfl) rfl
theorem q2788 : (Jvm.Cond.selects "RosaryCarvers$Sold" ({ cls := "RosaryCarvers$Beads", name := "size", desc := "()I" } : Jvm.MethodName) ({ cls := "RosaryCarvers$Beads", name := "size", desc := "()I" } : Jvm.MethodName)) ∈ lw_all := lw_g (lw_at lw_m12 76 rfl) rfl
theorem q2794 : (Jvm.Cond.selects "RosaryCarvers$Sold" ({ cls := "RosaryCarvers$Beads", name := "many", desc := "(Z)I" } : Jvm.MethodName) ({ cls := "RosaryCarvers$Beads", name := "many", desc := "(Z)I" } : Jvm.MethodName)) ∈ lw_all := lw_g (lw_at lw_m12 82 rfl) rfl
theorem q2798 : (Jvm.Cond.selects "RosaryCarvers$Sold" ({ cls := "RosaryCarvers$Beads", name := "iterator", desc := "()Ljava/util/Iterator;" } : Jvm.MethodName) ({ cls := "RosaryCarvers$Beads", name := "iterator", desc := "()Ljava/util/Iterator;" } : Jvm.MethodName)) ∈ lw_all := lw_g (lw_at lw_m12 86 rfl) rfl
theorem q2806 : (Jvm.Cond.castable "RosaryCarvers$Sold" "RosaryCarvers$Beads") ∈ lw_tbl := lw_at lw_m12 94 rfl
theorem q2845 : (Jvm.Cond.castable "RosaryCarvers$Sold" "java/lang/Object") ∈ lw_tbl := lw_at lw_m12 133 rfl
theorem in_X14 : ∀ w ∈ wsX140, w ∈ lw_all := lw_in wsX140 [1248, 1244, 1246] (by decide +kernel) (by decide +kernel)

/-! RosaryCarvers$OutOfRange -/
set_option maxRecDepth 100000
def RX15 : String := "RosaryCarvers$OutOfRange"
def TX15 : u_T := fun k => match k with
  | 0 => ("java/lang/Throwable", "cause", "Ljava/lang/Throwable;", false)
  | 1 => ("java/lang/Throwable", "stackTrace", "[Ljava/lang/StackTraceElement;", false)
  | 2 => ("java/lang/Throwable", "suppressedExceptions", "Ljava/util/List;", false)
  | 3 => ("java/lang/Throwable", "detailMessage", "Ljava/lang/String;", false)
  | 4 => ("java/lang/Throwable", "backtrace", "Ljava/lang/Object;", false)
  | _ => ("java/lang/Throwable", "depth", "I", false)
def tyX15 : Nat → FieldType := fun k => match k with
  | 0 => .object "java/lang/Throwable"
  | 1 => .array (.object "java/lang/StackTraceElement")
  | 2 => .object "java/util/List"
  | 3 => .object "java/lang/String"
  | 4 => .object "java/lang/Object"
  | _ => .int
abbrev wsX150 : List Cond := u_ws RX15 TX15 6
theorem nmX15 : ∀ a, a < 6 → ∀ b, b < 6 → a ≠ b → (TX15 a).2.1 ≠ (TX15 b).2.1 := by decide +kernel
theorem tyX15_ok : ∀ k, k < 6 → parseFieldDescriptor (TX15 k).2.2.1 = some (tyX15 k) := by decide +kernel
abbrev cX15_init : ByteArray := prog_25_method_1_code
def yX15_init : MethodName := ⟨RX15, "<init>", "()V"⟩
def dkwX15_init_0 : List UInt8 := [42, 1, 1, 3, 3, 183, 0, 1, 177]
abbrev dktX15_init_0 : List UInt8 := dkwX15_init_0 ++ []
theorem dksX15_init_0 : cX15_init.data.toList.drop 0 = dktX15_init_0 := by decide +kernel
theorem dX15_init_0 : decode cX15_init 0 = .ok (.aload_n 0, 1) := dk_42 (dk_at dksX15_init_0 0 rfl rfl)
theorem dX15_init_1 : decode cX15_init 1 = .ok (.aconst_null, 1) := dk_1 (dk_at dksX15_init_0 1 rfl rfl)
theorem dX15_init_2 : decode cX15_init 2 = .ok (.aconst_null, 1) := dk_1 (dk_at dksX15_init_0 2 rfl rfl)
theorem dX15_init_3 : decode cX15_init 3 = .ok (.iconst 0, 1) := dk_3 (dk_at dksX15_init_0 3 rfl rfl)
theorem dX15_init_4 : decode cX15_init 4 = .ok (.iconst 0, 1) := dk_3 (dk_at dksX15_init_0 4 rfl rfl)
theorem dX15_init_5 : decode cX15_init 5 = .ok (.invokespecial 1, 3) := dk_183 0 1 (dk_at dksX15_init_0 5 rfl rfl)
theorem dX15_init_8 : decode cX15_init 8 = .ok (.return_, 1) := dk_177 (dk_at dksX15_init_0 8 rfl rfl)
theorem q110 : (Jvm.Cond.initialized "RosaryCarvers$OutOfRange") ∈ lw_all := lw_g (lw_at lw_m1 38 rfl) rfl
theorem q469 : (Jvm.Cond.selects "RosaryCarvers$OutOfRange" ({ cls := "java/lang/Throwable", name := "fillInStackTrace", desc := "()Ljava/lang/Throwable;" } : Jvm.MethodName) ({ cls := "java/lang/Throwable", name := "fillInStackTrace", desc := "()Ljava/lang/Throwable;" } : Jvm.MethodName)) ∈ lw_all := lw_g (lw_at lw_m2 157 rfl) rfl
theorem q626 : (Jvm.Cond.selects "RosaryCarvers$OutOfRange" ({ cls := "java/lang/Object", name := "getClass", desc := "()Ljava/lang/Class;" } : Jvm.MethodName) ({ cls := "java/lang/Object", name := "getClass", desc := "()Ljava/lang/Class;" } : Jvm.MethodName)) ∈ lw_all := lw_g (lw_at lw_m3 74 rfl) rfl
theorem q1062 : (Jvm.Cond.selects "RosaryCarvers$OutOfRange" ({ cls := "java/lang/Object", name := "equals", desc := "(Ljava/lang/Object;)Z" } : Jvm.MethodName) ({ cls := "java/lang/Object", name := "equals", desc := "(Ljava/lang/Object;)Z" } : Jvm.MethodName)) ∈ lw_all := lw_g (lw_at lw_m5 30 rfl) rfl
theorem q1371 : (Jvm.Cond.instantiable "RosaryCarvers$OutOfRange" (6 : Nat)) ∈ lw_all := lw_g (lw_at lw_m6 99 rfl) rfl
theorem q1372 : (Jvm.Cond.castable "RosaryCarvers$OutOfRange" "RosaryCarvers$OutOfRange") ∈ lw_tbl := lw_at lw_m6 100 rfl
theorem q1373 : (Jvm.Cond.selects "RosaryCarvers$OutOfRange" ({ cls := "java/lang/Throwable", name := "fillInStackTrace", desc := "(I)Ljava/lang/Throwable;" } : Jvm.MethodName) ({ cls := "java/lang/Throwable", name := "fillInStackTrace", desc := "(I)Ljava/lang/Throwable;" } : Jvm.MethodName)) ∈ lw_all := lw_g (lw_at lw_m6 101 rfl) rfl
theorem q1374 : (Jvm.Cond.lays "RosaryCarvers$OutOfRange" "java/lang/Throwable" "cause" "Ljava/lang/Throwable;") ∈ lw_all := lw_g (lw_at lw_m6 102 rfl) rfl
theorem q1375 : (Jvm.Cond.lays "RosaryCarvers$OutOfRange" "java/lang/Throwable" "stackTrace" "[Ljava/lang/StackTraceElement;") ∈ lw_all := lw_g (lw_at lw_m6 103 rfl) rfl
theorem q1376 : (Jvm.Cond.lays "RosaryCarvers$OutOfRange" "java/lang/Throwable" "suppressedExceptions" "Ljava/util/List;") ∈ lw_all := lw_g (lw_at lw_m6 104 rfl) rfl
theorem q1377 : (Jvm.Cond.lays "RosaryCarvers$OutOfRange" "java/lang/Throwable" "detailMessage" "Ljava/lang/String;") ∈ lw_all := lw_g (lw_at lw_m6 105 rfl) rfl
theorem q1378 : (Jvm.Cond.lays "RosaryCarvers$OutOfRange" "java/lang/Throwable" "backtrace" "Ljava/lang/Object;") ∈ lw_all := lw_g (lw_at lw_m6 106 rfl) rfl
theorem q1380 : (Jvm.Cond.instanceMethod ({ cls := "RosaryCarvers$OutOfRange", name := "<init>", desc := "()V" } : Jvm.MethodName)) ∈ lw_all := lw_g (lw_at lw_m6 108 rfl) rfl
theorem q1381 : (Jvm.Cond.code ({ cls := "RosaryCarvers$OutOfRange", name := "<init>", desc := "()V" } : Jvm.MethodName) prog_25_method_1_code (1 : Nat) (Option.none : Option Jvm.ClassFile.FieldType)) ∈ lw_all := lw_g (lw_at lw_m6 109 rfl) rfl
theorem q1382 : (Jvm.Cond.methodLink "RosaryCarvers$OutOfRange" (1 : Nat) ({ cls := "java/lang/Exception", name := "<init>", desc := "(Ljava/lang/String;Ljava/lang/Throwable;ZZ)V" } : Jvm.MethodName)) ∈ lw_all := lw_g (lw_at lw_m6 110 rfl) rfl
theorem q1383 : (Jvm.Cond.lays "RosaryCarvers$OutOfRange" "java/lang/Throwable" "depth" "I") ∈ lw_all := lw_g (lw_at lw_m6 111 rfl) rfl
theorem q1384 : (Jvm.Cond.superclass "RosaryCarvers$OutOfRange" "java/lang/Exception") ∈ lw_all := lw_g (lw_at lw_m6 112 rfl) rfl
theorem q2847 : (Jvm.Cond.castable "RosaryCarvers$OutOfRange" "java/lang/Object") ∈ lw_tbl := lw_at lw_m12 135 rfl
theorem in_X15 : ∀ w ∈ wsX150, w ∈ lw_all := lw_in wsX150 [1374, 1375, 1376, 1377, 1378, 1383] (by decide +kernel) (by decide +kernel)

/-! RosaryCarvers$Bead -/
set_option maxRecDepth 100000
def RX16 : String := "RosaryCarvers$Bead"
def TX16 : u_T := fun k => match k with
  | 0 => ("RosaryCarvers$Bead", "number", "I", true)
  | 1 => ("RosaryCarvers$Bead", "isLarge", "Z", true)
  | _ => ("RosaryCarvers$Bead", "fineness", "I", true)
def tyX16 : Nat → FieldType := fun k => match k with
  | 0 => .int
  | 1 => .boolean
  | _ => .int
abbrev wsX160 : List Cond := u_ws RX16 TX16 3
theorem nmX16 : ∀ a, a < 3 → ∀ b, b < 3 → a ≠ b → (TX16 a).2.1 ≠ (TX16 b).2.1 := by decide +kernel
theorem tyX16_ok : ∀ k, k < 3 → parseFieldDescriptor (TX16 k).2.2.1 = some (tyX16 k) := by decide +kernel
abbrev cX16_fineness : ByteArray := prog_16_method_2_code
def yX16_fineness : MethodName := ⟨RX16, "fineness", "()I"⟩
theorem dX16_fineness_0 : decode cX16_fineness 0 = .ok (.aload_n 0, 1) := by decide +kernel
theorem dX16_fineness_1 : decode cX16_fineness 1 = .ok (.getfield 17, 3) := by decide +kernel
theorem dX16_fineness_4 : decode cX16_fineness 4 = .ok (.ireturn, 1) := by decide +kernel
abbrev cX16_number : ByteArray := prog_16_method_3_code
def yX16_number : MethodName := ⟨RX16, "number", "()I"⟩
theorem dX16_number_0 : decode cX16_number 0 = .ok (.aload_n 0, 1) := by decide +kernel
theorem dX16_number_1 : decode cX16_number 1 = .ok (.getfield 7, 3) := by decide +kernel
theorem dX16_number_4 : decode cX16_number 4 = .ok (.ireturn, 1) := by decide +kernel
abbrev cX16_init : ByteArray := prog_16_method_1_code
def yX16_init : MethodName := ⟨RX16, "<init>", "(IZI)V"⟩
def dkwX16_init_0 : List UInt8 := [42, 183, 0, 1, 42, 27, 181, 0, 7, 42, 28, 181, 0, 13, 42, 29, 181, 0, 17, 177]
abbrev dktX16_init_0 : List UInt8 := dkwX16_init_0 ++ []
theorem dksX16_init_0 : cX16_init.data.toList.drop 0 = dktX16_init_0 := by decide +kernel
theorem dX16_init_0 : decode cX16_init 0 = .ok (.aload_n 0, 1) := dk_42 (dk_at dksX16_init_0 0 rfl rfl)
theorem dX16_init_1 : decode cX16_init 1 = .ok (.invokespecial 1, 3) := dk_183 0 1 (dk_at dksX16_init_0 1 rfl rfl)
theorem dX16_init_4 : decode cX16_init 4 = .ok (.aload_n 0, 1) := dk_42 (dk_at dksX16_init_0 4 rfl rfl)
theorem dX16_init_5 : decode cX16_init 5 = .ok (.iload_n 1, 1) := dk_27 (dk_at dksX16_init_0 5 rfl rfl)
theorem dX16_init_6 : decode cX16_init 6 = .ok (.putfield 7, 3) := dk_181 0 7 (dk_at dksX16_init_0 6 rfl rfl)
theorem dX16_init_9 : decode cX16_init 9 = .ok (.aload_n 0, 1) := dk_42 (dk_at dksX16_init_0 9 rfl rfl)
theorem dX16_init_10 : decode cX16_init 10 = .ok (.iload_n 2, 1) := dk_28 (dk_at dksX16_init_0 10 rfl rfl)
theorem dX16_init_11 : decode cX16_init 11 = .ok (.putfield 13, 3) := dk_181 0 13 (dk_at dksX16_init_0 11 rfl rfl)
theorem dX16_init_14 : decode cX16_init 14 = .ok (.aload_n 0, 1) := dk_42 (dk_at dksX16_init_0 14 rfl rfl)
theorem dX16_init_15 : decode cX16_init 15 = .ok (.iload_n 3, 1) := dk_29 (dk_at dksX16_init_0 15 rfl rfl)
theorem dX16_init_16 : decode cX16_init 16 = .ok (.putfield 17, 3) := dk_181 0 17 (dk_at dksX16_init_0 16 rfl rfl)
theorem dX16_init_19 : decode cX16_init 19 = .ok (.return_, 1) := dk_177 (dk_at dksX16_init_0 19 rfl rfl)
abbrev cX16_sign : ByteArray := prog_16_method_4_code
def yX16_sign : MethodName := ⟨RX16, "sign", "()C"⟩
def dkwX16_sign_0 : List UInt8 := [42, 180, 0, 13, 153, 0, 8, 16, 79, 167, 0, 5, 16, 111, 172]
abbrev dktX16_sign_0 : List UInt8 := dkwX16_sign_0 ++ []
theorem dksX16_sign_0 : cX16_sign.data.toList.drop 0 = dktX16_sign_0 := by decide +kernel
theorem dX16_sign_0 : decode cX16_sign 0 = .ok (.aload_n 0, 1) := dk_42 (dk_at dksX16_sign_0 0 rfl rfl)
theorem dX16_sign_1 : decode cX16_sign 1 = .ok (.getfield 13, 3) := dk_180 0 13 (dk_at dksX16_sign_0 1 rfl rfl)
theorem dX16_sign_4 : decode cX16_sign 4 = .ok (.ifCond .eq 8, 3) := dk_153 0 8 (dk_at dksX16_sign_0 4 rfl rfl)
theorem dX16_sign_7 : decode cX16_sign 7 = .ok (.bipush 79, 2) := dk_16 79 (dk_at dksX16_sign_0 7 rfl rfl)
theorem dX16_sign_9 : decode cX16_sign 9 = .ok (.goto 5, 3) := dk_167 0 5 (dk_at dksX16_sign_0 9 rfl rfl)
theorem dX16_sign_12 : decode cX16_sign 12 = .ok (.bipush 111, 2) := dk_16 111 (dk_at dksX16_sign_0 12 rfl rfl)
theorem dX16_sign_14 : decode cX16_sign 14 = .ok (.ireturn, 1) := dk_172 (dk_at dksX16_sign_0 14 rfl rfl)
theorem q111 : (Jvm.Cond.initialized "RosaryCarvers$Bead") ∈ lw_all := lw_g (lw_at lw_m1 39 rfl) rfl
theorem q619 : (Jvm.Cond.selects "RosaryCarvers$Bead" ({ cls := "java/lang/Object", name := "getClass", desc := "()Ljava/lang/Class;" } : Jvm.MethodName) ({ cls := "java/lang/Object", name := "getClass", desc := "()Ljava/lang/Class;" } : Jvm.MethodName)) ∈ lw_all := lw_g (lw_at lw_m3 67 rfl) rfl
theorem q980 : (Jvm.Cond.superclass "RosaryCarvers$Bead" "java/lang/Object") ∈ lw_all := lw_g (lw_at lw_m4 188 rfl) rfl
theorem q982 : (Jvm.Cond.unhidden "RosaryCarvers$Bead" "isFinerThan" "(LRosaryCarvers$Fine;)Z") ∈ lw_tbl := lw_at lw_m4 190 rfl
theorem q990 : (Jvm.Cond.castable "RosaryCarvers$Bead" "RosaryCarvers$Fine") ∈ lw_tbl := lw_at lw_m4 198 rfl
theorem q991 : (Jvm.Cond.selects "RosaryCarvers$Bead" ({ cls := "RosaryCarvers$Fine", name := "fineness", desc := "()I" } : Jvm.MethodName) ({ cls := "RosaryCarvers$Bead", name := "fineness", desc := "()I" } : Jvm.MethodName)) ∈ lw_all := lw_g (lw_at lw_m4 199 rfl) rfl
theorem q992 : (Jvm.Cond.unhidden "RosaryCarvers$Bead" "fineness" "()I") ∈ lw_tbl := lw_at lw_m4 200 rfl
theorem q993 : (Jvm.Cond.instanceMethod ({ cls := "RosaryCarvers$Bead", name := "fineness", desc := "()I" } : Jvm.MethodName)) ∈ lw_all := lw_g (lw_at lw_m4 201 rfl) rfl
theorem q994 : (Jvm.Cond.publicMethod ({ cls := "RosaryCarvers$Bead", name := "fineness", desc := "()I" } : Jvm.MethodName)) ∈ lw_tbl := lw_at lw_m4 202 rfl
theorem q995 : (Jvm.Cond.code ({ cls := "RosaryCarvers$Bead", name := "fineness", desc := "()I" } : Jvm.MethodName) prog_16_method_2_code (1 : Nat) (Option.some Jvm.ClassFile.FieldType.int)) ∈ lw_all := lw_g (lw_at lw_m4 203 rfl) rfl
theorem q1000 : (Jvm.Cond.selects "RosaryCarvers$Bead" ({ cls := "RosaryCarvers$Fine", name := "number", desc := "()I" } : Jvm.MethodName) ({ cls := "RosaryCarvers$Bead", name := "number", desc := "()I" } : Jvm.MethodName)) ∈ lw_all := lw_g (lw_at lw_m4 208 rfl) rfl
theorem q1001 : (Jvm.Cond.unhidden "RosaryCarvers$Bead" "number" "()I") ∈ lw_tbl := lw_at lw_m4 209 rfl
theorem q1002 : (Jvm.Cond.instanceMethod ({ cls := "RosaryCarvers$Bead", name := "number", desc := "()I" } : Jvm.MethodName)) ∈ lw_all := lw_g (lw_at lw_m4 210 rfl) rfl
theorem q1003 : (Jvm.Cond.publicMethod ({ cls := "RosaryCarvers$Bead", name := "number", desc := "()I" } : Jvm.MethodName)) ∈ lw_tbl := lw_at lw_m4 211 rfl
theorem q1004 : (Jvm.Cond.code ({ cls := "RosaryCarvers$Bead", name := "number", desc := "()I" } : Jvm.MethodName) prog_16_method_3_code (1 : Nat) (Option.some Jvm.ClassFile.FieldType.int)) ∈ lw_all := lw_g (lw_at lw_m4 212 rfl) rfl
theorem q1055 : (Jvm.Cond.selects "RosaryCarvers$Bead" ({ cls := "java/lang/Object", name := "equals", desc := "(Ljava/lang/Object;)Z" } : Jvm.MethodName) ({ cls := "java/lang/Object", name := "equals", desc := "(Ljava/lang/Object;)Z" } : Jvm.MethodName)) ∈ lw_all := lw_g (lw_at lw_m5 23 rfl) rfl
theorem q1402 : (Jvm.Cond.instantiable "RosaryCarvers$Bead" (3 : Nat)) ∈ lw_all := lw_g (lw_at lw_m6 130 rfl) rfl
theorem q1404 : (Jvm.Cond.instanceMethod ({ cls := "RosaryCarvers$Bead", name := "<init>", desc := "(IZI)V" } : Jvm.MethodName)) ∈ lw_all := lw_g (lw_at lw_m6 132 rfl) rfl
theorem q1405 : (Jvm.Cond.code ({ cls := "RosaryCarvers$Bead", name := "<init>", desc := "(IZI)V" } : Jvm.MethodName) prog_16_method_1_code (4 : Nat) (Option.none : Option Jvm.ClassFile.FieldType)) ∈ lw_all := lw_g (lw_at lw_m6 133 rfl) rfl
theorem q1406 : (Jvm.Cond.methodLink "RosaryCarvers$Bead" (1 : Nat) ({ cls := "java/lang/Object", name := "<init>", desc := "()V" } : Jvm.MethodName)) ∈ lw_all := lw_g (lw_at lw_m6 134 rfl) rfl
theorem q1407 : (Jvm.Cond.fieldLink "RosaryCarvers$Bead" (7 : Nat) "RosaryCarvers$Bead" "number" "I") ∈ lw_all := lw_g (lw_at lw_m6 135 rfl) rfl
theorem q1410 : (Jvm.Cond.fieldLink "RosaryCarvers$Bead" (13 : Nat) "RosaryCarvers$Bead" "isLarge" "Z") ∈ lw_all := lw_g (lw_at lw_m6 138 rfl) rfl
theorem q1414 : (Jvm.Cond.fieldLink "RosaryCarvers$Bead" (17 : Nat) "RosaryCarvers$Bead" "fineness" "I") ∈ lw_all := lw_g (lw_at lw_m6 142 rfl) rfl
theorem q1417 : (Jvm.Cond.laysFinal "RosaryCarvers$Bead" "RosaryCarvers$Bead" "number" "I") ∈ lw_all := lw_g (lw_at lw_m6 145 rfl) rfl
theorem q1418 : (Jvm.Cond.soleField "RosaryCarvers$Bead" "number") ∈ lw_all := lw_g (lw_at lw_m6 146 rfl) rfl
theorem q1419 : (Jvm.Cond.laysFinal "RosaryCarvers$Bead" "RosaryCarvers$Bead" "isLarge" "Z") ∈ lw_all := lw_g (lw_at lw_m6 147 rfl) rfl
theorem q1420 : (Jvm.Cond.soleField "RosaryCarvers$Bead" "isLarge") ∈ lw_all := lw_g (lw_at lw_m6 148 rfl) rfl
theorem q1421 : (Jvm.Cond.laysFinal "RosaryCarvers$Bead" "RosaryCarvers$Bead" "fineness" "I") ∈ lw_all := lw_g (lw_at lw_m6 149 rfl) rfl
theorem q1422 : (Jvm.Cond.soleField "RosaryCarvers$Bead" "fineness") ∈ lw_all := lw_g (lw_at lw_m6 150 rfl) rfl
theorem q1978 : (Jvm.Cond.instanceMethod ({ cls := "RosaryCarvers$Bead", name := "sign", desc := "()C" } : Jvm.MethodName)) ∈ lw_all := lw_g (lw_at lw_m8 226 rfl) rfl
theorem q1979 : (Jvm.Cond.selects "RosaryCarvers$Bead" ({ cls := "RosaryCarvers$Bead", name := "sign", desc := "()C" } : Jvm.MethodName) ({ cls := "RosaryCarvers$Bead", name := "sign", desc := "()C" } : Jvm.MethodName)) ∈ lw_all := lw_g (lw_at lw_m8 227 rfl) rfl
theorem q1980 : (Jvm.Cond.code ({ cls := "RosaryCarvers$Bead", name := "sign", desc := "()C" } : Jvm.MethodName) prog_16_method_4_code (1 : Nat) (Option.some Jvm.ClassFile.FieldType.char)) ∈ lw_all := lw_g (lw_at lw_m8 228 rfl) rfl
theorem q2825 : (Jvm.Cond.castable "RosaryCarvers$Bead" "java/lang/Object") ∈ lw_tbl := lw_at lw_m12 113 rfl
theorem in_X16 : ∀ w ∈ wsX160, w ∈ lw_all := lw_in wsX160 [1417, 1419, 1421] (by decide +kernel) (by decide +kernel)

/-! RosaryCarvers$2 -/
set_option maxRecDepth 100000
def RX17 : String := "RosaryCarvers$2"
def TX17 : u_T := fun k => match k with
  | 0 => ("RosaryCarvers$Deed", "this$0", "LRosaryCarvers;", true)
  | 1 => ("RosaryCarvers$2", "val$eye", "I", true)
  | _ => ("RosaryCarvers$2", "this$0", "LRosaryCarvers;", true)
def tyX17 : Nat → FieldType := fun k => match k with
  | 0 => .object "RosaryCarvers"
  | 1 => .int
  | _ => .object "RosaryCarvers"
abbrev wsX170 : List Cond := u_ws RX17 TX17 3
-- two fields of one name: no nmX17
theorem tyX17_ok : ∀ k, k < 3 → parseFieldDescriptor (TX17 k).2.2.1 = some (tyX17 k) := by decide +kernel
abbrev cX17_does : ByteArray := prog_7_method_2_code
def yX17_does : MethodName := ⟨RX17, "does", "(LRosaryCarvers$Shop;)I"⟩
def dkwX17_does_0 : List UInt8 := [43, 187, 0, 17, 89, 42, 180, 0, 7, 183, 0, 19, 182, 0, 22, 172]
abbrev dktX17_does_0 : List UInt8 := dkwX17_does_0 ++ []
theorem dksX17_does_0 : cX17_does.data.toList.drop 0 = dktX17_does_0 := by decide +kernel
theorem dX17_does_0 : decode cX17_does 0 = .ok (.aload_n 1, 1) := dk_43 (dk_at dksX17_does_0 0 rfl rfl)
theorem dX17_does_1 : decode cX17_does 1 = .ok (.new 17, 3) := dk_187 0 17 (dk_at dksX17_does_0 1 rfl rfl)
theorem dX17_does_4 : decode cX17_does 4 = .ok (.dup, 1) := dk_89 (dk_at dksX17_does_0 4 rfl rfl)
theorem dX17_does_5 : decode cX17_does 5 = .ok (.aload_n 0, 1) := dk_42 (dk_at dksX17_does_0 5 rfl rfl)
theorem dX17_does_6 : decode cX17_does 6 = .ok (.getfield 7, 3) := dk_180 0 7 (dk_at dksX17_does_0 6 rfl rfl)
theorem dX17_does_9 : decode cX17_does 9 = .ok (.invokespecial 19, 3) := dk_183 0 19 (dk_at dksX17_does_0 9 rfl rfl)
theorem dX17_does_12 : decode cX17_does 12 = .ok (.invokevirtual 22, 3) := dk_182 0 22 (dk_at dksX17_does_0 12 rfl rfl)
theorem dX17_does_15 : decode cX17_does 15 = .ok (.ireturn, 1) := dk_172 (dk_at dksX17_does_0 15 rfl rfl)
abbrev cX17_init : ByteArray := prog_7_method_1_code
def yX17_init : MethodName := ⟨RX17, "<init>", "(LRosaryCarvers;I)V"⟩
def dkwX17_init_0 : List UInt8 := [42, 43, 181, 0, 1, 42, 28, 181, 0, 7, 42, 43, 183, 0, 11, 177]
abbrev dktX17_init_0 : List UInt8 := dkwX17_init_0 ++ []
theorem dksX17_init_0 : cX17_init.data.toList.drop 0 = dktX17_init_0 := by decide +kernel
theorem dX17_init_0 : decode cX17_init 0 = .ok (.aload_n 0, 1) := dk_42 (dk_at dksX17_init_0 0 rfl rfl)
theorem dX17_init_1 : decode cX17_init 1 = .ok (.aload_n 1, 1) := dk_43 (dk_at dksX17_init_0 1 rfl rfl)
theorem dX17_init_2 : decode cX17_init 2 = .ok (.putfield 1, 3) := dk_181 0 1 (dk_at dksX17_init_0 2 rfl rfl)
theorem dX17_init_5 : decode cX17_init 5 = .ok (.aload_n 0, 1) := dk_42 (dk_at dksX17_init_0 5 rfl rfl)
theorem dX17_init_6 : decode cX17_init 6 = .ok (.iload_n 2, 1) := dk_28 (dk_at dksX17_init_0 6 rfl rfl)
theorem dX17_init_7 : decode cX17_init 7 = .ok (.putfield 7, 3) := dk_181 0 7 (dk_at dksX17_init_0 7 rfl rfl)
theorem dX17_init_10 : decode cX17_init 10 = .ok (.aload_n 0, 1) := dk_42 (dk_at dksX17_init_0 10 rfl rfl)
theorem dX17_init_11 : decode cX17_init 11 = .ok (.aload_n 1, 1) := dk_43 (dk_at dksX17_init_0 11 rfl rfl)
theorem dX17_init_12 : decode cX17_init 12 = .ok (.invokespecial 11, 3) := dk_183 0 11 (dk_at dksX17_init_0 12 rfl rfl)
theorem dX17_init_15 : decode cX17_init 15 = .ok (.return_, 1) := dk_177 (dk_at dksX17_init_0 15 rfl rfl)
theorem q112 : (Jvm.Cond.initialized "RosaryCarvers$2") ∈ lw_all := lw_g (lw_at lw_m1 40 rfl) rfl
theorem q610 : (Jvm.Cond.selects "RosaryCarvers$2" ({ cls := "java/lang/Object", name := "getClass", desc := "()Ljava/lang/Class;" } : Jvm.MethodName) ({ cls := "java/lang/Object", name := "getClass", desc := "()Ljava/lang/Class;" } : Jvm.MethodName)) ∈ lw_all := lw_g (lw_at lw_m3 58 rfl) rfl
theorem q1046 : (Jvm.Cond.selects "RosaryCarvers$2" ({ cls := "java/lang/Object", name := "equals", desc := "(Ljava/lang/Object;)Z" } : Jvm.MethodName) ({ cls := "java/lang/Object", name := "equals", desc := "(Ljava/lang/Object;)Z" } : Jvm.MethodName)) ∈ lw_all := lw_g (lw_at lw_m5 14 rfl) rfl
theorem q1491 : (Jvm.Cond.selects "RosaryCarvers$2" ({ cls := "RosaryCarvers$Deed", name := "does", desc := "(LRosaryCarvers$Shop;)I" } : Jvm.MethodName) ({ cls := "RosaryCarvers$2", name := "does", desc := "(LRosaryCarvers$Shop;)I" } : Jvm.MethodName)) ∈ lw_all := lw_g (lw_at lw_m6 219 rfl) rfl
theorem q1492 : (Jvm.Cond.instanceMethod ({ cls := "RosaryCarvers$2", name := "does", desc := "(LRosaryCarvers$Shop;)I" } : Jvm.MethodName)) ∈ lw_all := lw_g (lw_at lw_m6 220 rfl) rfl
theorem q1493 : (Jvm.Cond.code ({ cls := "RosaryCarvers$2", name := "does", desc := "(LRosaryCarvers$Shop;)I" } : Jvm.MethodName) prog_7_method_2_code (2 : Nat) (Option.some Jvm.ClassFile.FieldType.int)) ∈ lw_all := lw_g (lw_at lw_m6 221 rfl) rfl
theorem q1494 : (Jvm.Cond.classLink "RosaryCarvers$2" (17 : Nat) "RosaryCarvers$Carver") ∈ lw_all := lw_g (lw_at lw_m6 222 rfl) rfl
theorem q1495 : (Jvm.Cond.methodLink "RosaryCarvers$2" (19 : Nat) ({ cls := "RosaryCarvers$Carver", name := "<init>", desc := "(I)V" } : Jvm.MethodName)) ∈ lw_all := lw_g (lw_at lw_m6 223 rfl) rfl
theorem q1496 : (Jvm.Cond.methodLink "RosaryCarvers$2" (22 : Nat) ({ cls := "RosaryCarvers$Shop", name := "adds", desc := "(LRosaryCarvers$Carver;)I" } : Jvm.MethodName)) ∈ lw_all := lw_g (lw_at lw_m6 224 rfl) rfl
theorem q1568 : (Jvm.Cond.instantiable "RosaryCarvers$2" (3 : Nat)) ∈ lw_all := lw_g (lw_at lw_m7 56 rfl) rfl
theorem q1570 : (Jvm.Cond.instanceMethod ({ cls := "RosaryCarvers$2", name := "<init>", desc := "(LRosaryCarvers;I)V" } : Jvm.MethodName)) ∈ lw_all := lw_g (lw_at lw_m7 58 rfl) rfl
theorem q1571 : (Jvm.Cond.code ({ cls := "RosaryCarvers$2", name := "<init>", desc := "(LRosaryCarvers;I)V" } : Jvm.MethodName) prog_7_method_1_code (3 : Nat) (Option.none : Option Jvm.ClassFile.FieldType)) ∈ lw_all := lw_g (lw_at lw_m7 59 rfl) rfl
theorem q1572 : (Jvm.Cond.methodLinkNest "RosaryCarvers$2" (11 : Nat) ({ cls := "RosaryCarvers$Deed", name := "<init>", desc := "(LRosaryCarvers;)V" } : Jvm.MethodName) "RosaryCarvers") ∈ lw_tbl := lw_at lw_m7 60 rfl
theorem q1573 : (Jvm.Cond.fieldLink "RosaryCarvers$2" (7 : Nat) "RosaryCarvers$2" "val$eye" "I") ∈ lw_all := lw_g (lw_at lw_m7 61 rfl) rfl
theorem q1574 : (Jvm.Cond.fieldLink "RosaryCarvers$2" (1 : Nat) "RosaryCarvers$2" "this$0" "LRosaryCarvers;") ∈ lw_all := lw_g (lw_at lw_m7 62 rfl) rfl
theorem q1575 : (Jvm.Cond.laysFinal "RosaryCarvers$2" "RosaryCarvers$2" "val$eye" "I") ∈ lw_all := lw_g (lw_at lw_m7 63 rfl) rfl
theorem q1576 : (Jvm.Cond.soleField "RosaryCarvers$2" "val$eye") ∈ lw_all := lw_g (lw_at lw_m7 64 rfl) rfl
theorem q1577 : (Jvm.Cond.laysFinal "RosaryCarvers$2" "RosaryCarvers$2" "this$0" "LRosaryCarvers;") ∈ lw_all := lw_g (lw_at lw_m7 65 rfl) rfl
theorem q1578 : (Jvm.Cond.soleField "RosaryCarvers$2" "this$0") ∈ lw_all := lw_g (lw_at lw_m7 66 rfl) rfl
theorem q1579 : (Jvm.Cond.laysFinal "RosaryCarvers$2" "RosaryCarvers$Deed" "this$0" "LRosaryCarvers;") ∈ lw_all := lw_g (lw_at lw_m7 67 rfl) rfl
theorem q1580 : (Jvm.Cond.superclass "RosaryCarvers$2" "RosaryCarvers$Deed") ∈ lw_all := lw_g (lw_at lw_m7 68 rfl) rfl
theorem q1582 : (Jvm.Cond.sameMethod "RosaryCarvers$2" "RosaryCarvers$Deed" "done" "()I") ∈ lw_all := lw_g (lw_at lw_m7 70 rfl) rfl
theorem q1583 : (Jvm.Cond.selects "RosaryCarvers$2" ({ cls := "RosaryCarvers$2", name := "done", desc := "()I" } : Jvm.MethodName) ({ cls := "RosaryCarvers$Deed", name := "done", desc := "()I" } : Jvm.MethodName)) ∈ lw_all := lw_g (lw_at lw_m7 71 rfl) rfl
theorem q2820 : (Jvm.Cond.castable "RosaryCarvers$2" "java/lang/Object") ∈ lw_tbl := lw_at lw_m12 108 rfl
theorem in_X17 : ∀ w ∈ wsX170, w ∈ lw_all := lw_in wsX170 [1579, 1575, 1577] (by decide +kernel) (by decide +kernel)

/-! RosaryCarvers$3 -/
set_option maxRecDepth 100000
def RX18 : String := "RosaryCarvers$3"
def TX18 : u_T := fun k => match k with
  | 0 => ("RosaryCarvers$Deed", "this$0", "LRosaryCarvers;", true)
  | 1 => ("RosaryCarvers$3", "val$power", "I", true)
  | _ => ("RosaryCarvers$3", "this$0", "LRosaryCarvers;", true)
def tyX18 : Nat → FieldType := fun k => match k with
  | 0 => .object "RosaryCarvers"
  | 1 => .int
  | _ => .object "RosaryCarvers"
abbrev wsX180 : List Cond := u_ws RX18 TX18 3
-- two fields of one name: no nmX18
theorem tyX18_ok : ∀ k, k < 3 → parseFieldDescriptor (TX18 k).2.2.1 = some (tyX18 k) := by decide +kernel
abbrev cX18_does : ByteArray := prog_8_method_2_code
def yX18_does : MethodName := ⟨RX18, "does", "(LRosaryCarvers$Shop;)I"⟩
def dkwX18_does_0 : List UInt8 := [43, 187, 0, 17, 89, 42, 180, 0, 7, 183, 0, 19, 182, 0, 22, 172]
abbrev dktX18_does_0 : List UInt8 := dkwX18_does_0 ++ []
theorem dksX18_does_0 : cX18_does.data.toList.drop 0 = dktX18_does_0 := by decide +kernel
theorem dX18_does_0 : decode cX18_does 0 = .ok (.aload_n 1, 1) := dk_43 (dk_at dksX18_does_0 0 rfl rfl)
theorem dX18_does_1 : decode cX18_does 1 = .ok (.new 17, 3) := dk_187 0 17 (dk_at dksX18_does_0 1 rfl rfl)
theorem dX18_does_4 : decode cX18_does 4 = .ok (.dup, 1) := dk_89 (dk_at dksX18_does_0 4 rfl rfl)
theorem dX18_does_5 : decode cX18_does 5 = .ok (.aload_n 0, 1) := dk_42 (dk_at dksX18_does_0 5 rfl rfl)
theorem dX18_does_6 : decode cX18_does 6 = .ok (.getfield 7, 3) := dk_180 0 7 (dk_at dksX18_does_0 6 rfl rfl)
theorem dX18_does_9 : decode cX18_does 9 = .ok (.invokespecial 19, 3) := dk_183 0 19 (dk_at dksX18_does_0 9 rfl rfl)
theorem dX18_does_12 : decode cX18_does 12 = .ok (.invokevirtual 22, 3) := dk_182 0 22 (dk_at dksX18_does_0 12 rfl rfl)
theorem dX18_does_15 : decode cX18_does 15 = .ok (.ireturn, 1) := dk_172 (dk_at dksX18_does_0 15 rfl rfl)
abbrev cX18_init : ByteArray := prog_8_method_1_code
def yX18_init : MethodName := ⟨RX18, "<init>", "(LRosaryCarvers;I)V"⟩
def dkwX18_init_0 : List UInt8 := [42, 43, 181, 0, 1, 42, 28, 181, 0, 7, 42, 43, 183, 0, 11, 177]
abbrev dktX18_init_0 : List UInt8 := dkwX18_init_0 ++ []
theorem dksX18_init_0 : cX18_init.data.toList.drop 0 = dktX18_init_0 := by decide +kernel
theorem dX18_init_0 : decode cX18_init 0 = .ok (.aload_n 0, 1) := dk_42 (dk_at dksX18_init_0 0 rfl rfl)
theorem dX18_init_1 : decode cX18_init 1 = .ok (.aload_n 1, 1) := dk_43 (dk_at dksX18_init_0 1 rfl rfl)
theorem dX18_init_2 : decode cX18_init 2 = .ok (.putfield 1, 3) := dk_181 0 1 (dk_at dksX18_init_0 2 rfl rfl)
theorem dX18_init_5 : decode cX18_init 5 = .ok (.aload_n 0, 1) := dk_42 (dk_at dksX18_init_0 5 rfl rfl)
theorem dX18_init_6 : decode cX18_init 6 = .ok (.iload_n 2, 1) := dk_28 (dk_at dksX18_init_0 6 rfl rfl)
theorem dX18_init_7 : decode cX18_init 7 = .ok (.putfield 7, 3) := dk_181 0 7 (dk_at dksX18_init_0 7 rfl rfl)
theorem dX18_init_10 : decode cX18_init 10 = .ok (.aload_n 0, 1) := dk_42 (dk_at dksX18_init_0 10 rfl rfl)
theorem dX18_init_11 : decode cX18_init 11 = .ok (.aload_n 1, 1) := dk_43 (dk_at dksX18_init_0 11 rfl rfl)
theorem dX18_init_12 : decode cX18_init 12 = .ok (.invokespecial 11, 3) := dk_183 0 11 (dk_at dksX18_init_0 12 rfl rfl)
theorem dX18_init_15 : decode cX18_init 15 = .ok (.return_, 1) := dk_177 (dk_at dksX18_init_0 15 rfl rfl)
theorem q113 : (Jvm.Cond.initialized "RosaryCarvers$3") ∈ lw_all := lw_g (lw_at lw_m1 41 rfl) rfl
theorem q611 : (Jvm.Cond.selects "RosaryCarvers$3" ({ cls := "java/lang/Object", name := "getClass", desc := "()Ljava/lang/Class;" } : Jvm.MethodName) ({ cls := "java/lang/Object", name := "getClass", desc := "()Ljava/lang/Class;" } : Jvm.MethodName)) ∈ lw_all := lw_g (lw_at lw_m3 59 rfl) rfl
theorem q1047 : (Jvm.Cond.selects "RosaryCarvers$3" ({ cls := "java/lang/Object", name := "equals", desc := "(Ljava/lang/Object;)Z" } : Jvm.MethodName) ({ cls := "java/lang/Object", name := "equals", desc := "(Ljava/lang/Object;)Z" } : Jvm.MethodName)) ∈ lw_all := lw_g (lw_at lw_m5 15 rfl) rfl
theorem q1500 : (Jvm.Cond.selects "RosaryCarvers$3" ({ cls := "RosaryCarvers$Deed", name := "does", desc := "(LRosaryCarvers$Shop;)I" } : Jvm.MethodName) ({ cls := "RosaryCarvers$3", name := "does", desc := "(LRosaryCarvers$Shop;)I" } : Jvm.MethodName)) ∈ lw_all := lw_g (lw_at lw_m6 228 rfl) rfl
theorem q1501 : (Jvm.Cond.instanceMethod ({ cls := "RosaryCarvers$3", name := "does", desc := "(LRosaryCarvers$Shop;)I" } : Jvm.MethodName)) ∈ lw_all := lw_g (lw_at lw_m6 229 rfl) rfl
theorem q1502 : (Jvm.Cond.code ({ cls := "RosaryCarvers$3", name := "does", desc := "(LRosaryCarvers$Shop;)I" } : Jvm.MethodName) prog_8_method_2_code (2 : Nat) (Option.some Jvm.ClassFile.FieldType.int)) ∈ lw_all := lw_g (lw_at lw_m6 230 rfl) rfl
theorem q1503 : (Jvm.Cond.classLink "RosaryCarvers$3" (17 : Nat) "RosaryCarvers$Lens") ∈ lw_all := lw_g (lw_at lw_m6 231 rfl) rfl
theorem q1504 : (Jvm.Cond.methodLink "RosaryCarvers$3" (19 : Nat) ({ cls := "RosaryCarvers$Lens", name := "<init>", desc := "(I)V" } : Jvm.MethodName)) ∈ lw_all := lw_g (lw_at lw_m6 232 rfl) rfl
theorem q1505 : (Jvm.Cond.methodLink "RosaryCarvers$3" (22 : Nat) ({ cls := "RosaryCarvers$Shop", name := "adds", desc := "(LRosaryCarvers$Lens;)I" } : Jvm.MethodName)) ∈ lw_all := lw_g (lw_at lw_m6 233 rfl) rfl
theorem q1589 : (Jvm.Cond.instantiable "RosaryCarvers$3" (3 : Nat)) ∈ lw_all := lw_g (lw_at lw_m7 77 rfl) rfl
theorem q1591 : (Jvm.Cond.instanceMethod ({ cls := "RosaryCarvers$3", name := "<init>", desc := "(LRosaryCarvers;I)V" } : Jvm.MethodName)) ∈ lw_all := lw_g (lw_at lw_m7 79 rfl) rfl
theorem q1592 : (Jvm.Cond.code ({ cls := "RosaryCarvers$3", name := "<init>", desc := "(LRosaryCarvers;I)V" } : Jvm.MethodName) prog_8_method_1_code (3 : Nat) (Option.none : Option Jvm.ClassFile.FieldType)) ∈ lw_all := lw_g (lw_at lw_m7 80 rfl) rfl
theorem q1593 : (Jvm.Cond.methodLinkNest "RosaryCarvers$3" (11 : Nat) ({ cls := "RosaryCarvers$Deed", name := "<init>", desc := "(LRosaryCarvers;)V" } : Jvm.MethodName) "RosaryCarvers") ∈ lw_tbl := lw_at lw_m7 81 rfl
theorem q1594 : (Jvm.Cond.fieldLink "RosaryCarvers$3" (7 : Nat) "RosaryCarvers$3" "val$power" "I") ∈ lw_all := lw_g (lw_at lw_m7 82 rfl) rfl
theorem q1595 : (Jvm.Cond.fieldLink "RosaryCarvers$3" (1 : Nat) "RosaryCarvers$3" "this$0" "LRosaryCarvers;") ∈ lw_all := lw_g (lw_at lw_m7 83 rfl) rfl
theorem q1596 : (Jvm.Cond.laysFinal "RosaryCarvers$3" "RosaryCarvers$3" "val$power" "I") ∈ lw_all := lw_g (lw_at lw_m7 84 rfl) rfl
theorem q1597 : (Jvm.Cond.soleField "RosaryCarvers$3" "val$power") ∈ lw_all := lw_g (lw_at lw_m7 85 rfl) rfl
theorem q1598 : (Jvm.Cond.laysFinal "RosaryCarvers$3" "RosaryCarvers$3" "this$0" "LRosaryCarvers;") ∈ lw_all := lw_g (lw_at lw_m7 86 rfl) rfl
theorem q1599 : (Jvm.Cond.soleField "RosaryCarvers$3" "this$0") ∈ lw_all := lw_g (lw_at lw_m7 87 rfl) rfl
theorem q1600 : (Jvm.Cond.laysFinal "RosaryCarvers$3" "RosaryCarvers$Deed" "this$0" "LRosaryCarvers;") ∈ lw_all := lw_g (lw_at lw_m7 88 rfl) rfl
theorem q1601 : (Jvm.Cond.superclass "RosaryCarvers$3" "RosaryCarvers$Deed") ∈ lw_all := lw_g (lw_at lw_m7 89 rfl) rfl
theorem q1603 : (Jvm.Cond.sameMethod "RosaryCarvers$3" "RosaryCarvers$Deed" "done" "()I") ∈ lw_all := lw_g (lw_at lw_m7 91 rfl) rfl
theorem q1604 : (Jvm.Cond.selects "RosaryCarvers$3" ({ cls := "RosaryCarvers$3", name := "done", desc := "()I" } : Jvm.MethodName) ({ cls := "RosaryCarvers$Deed", name := "done", desc := "()I" } : Jvm.MethodName)) ∈ lw_all := lw_g (lw_at lw_m7 92 rfl) rfl
theorem q2821 : (Jvm.Cond.castable "RosaryCarvers$3" "java/lang/Object") ∈ lw_tbl := lw_at lw_m12 109 rfl
theorem in_X18 : ∀ w ∈ wsX180, w ∈ lw_all := lw_in wsX180 [1600, 1596, 1598] (by decide +kernel) (by decide +kernel)

/-! RosaryCarvers$4 -/
set_option maxRecDepth 100000
def RX19 : String := "RosaryCarvers$4"
def TX19 : u_T := fun k => match k with
  | 0 => ("RosaryCarvers$Deed", "this$0", "LRosaryCarvers;", true)
  | 1 => ("RosaryCarvers$4", "val$lens", "I", true)
  | 2 => ("RosaryCarvers$4", "val$carver", "I", true)
  | _ => ("RosaryCarvers$4", "this$0", "LRosaryCarvers;", true)
def tyX19 : Nat → FieldType := fun k => match k with
  | 0 => .object "RosaryCarvers"
  | 1 => .int
  | 2 => .int
  | _ => .object "RosaryCarvers"
abbrev wsX190 : List Cond := u_ws RX19 TX19 4
-- two fields of one name: no nmX19
theorem tyX19_ok : ∀ k, k < 4 → parseFieldDescriptor (TX19 k).2.2.1 = some (tyX19 k) := by decide +kernel
abbrev cX19_does : ByteArray := prog_9_method_2_code
def yX19_does : MethodName := ⟨RX19, "does", "(LRosaryCarvers$Shop;)I"⟩
def dkwX19_does_0 : List UInt8 := [43, 42, 180, 0, 7, 42, 180, 0, 11, 182, 0, 20, 172]
abbrev dktX19_does_0 : List UInt8 := dkwX19_does_0 ++ []
theorem dksX19_does_0 : cX19_does.data.toList.drop 0 = dktX19_does_0 := by decide +kernel
theorem dX19_does_0 : decode cX19_does 0 = .ok (.aload_n 1, 1) := dk_43 (dk_at dksX19_does_0 0 rfl rfl)
theorem dX19_does_1 : decode cX19_does 1 = .ok (.aload_n 0, 1) := dk_42 (dk_at dksX19_does_0 1 rfl rfl)
theorem dX19_does_2 : decode cX19_does 2 = .ok (.getfield 7, 3) := dk_180 0 7 (dk_at dksX19_does_0 2 rfl rfl)
theorem dX19_does_5 : decode cX19_does 5 = .ok (.aload_n 0, 1) := dk_42 (dk_at dksX19_does_0 5 rfl rfl)
theorem dX19_does_6 : decode cX19_does 6 = .ok (.getfield 11, 3) := dk_180 0 11 (dk_at dksX19_does_0 6 rfl rfl)
theorem dX19_does_9 : decode cX19_does 9 = .ok (.invokevirtual 20, 3) := dk_182 0 20 (dk_at dksX19_does_0 9 rfl rfl)
theorem dX19_does_12 : decode cX19_does 12 = .ok (.ireturn, 1) := dk_172 (dk_at dksX19_does_0 12 rfl rfl)
abbrev cX19_init : ByteArray := prog_9_method_1_code
def yX19_init : MethodName := ⟨RX19, "<init>", "(LRosaryCarvers;II)V"⟩
def dkwX19_init_0 : List UInt8 := [42, 43, 181, 0, 1, 42, 28, 181, 0, 7, 42, 29, 181, 0, 11, 42, 43, 183, 0, 14, 177]
abbrev dktX19_init_0 : List UInt8 := dkwX19_init_0 ++ []
theorem dksX19_init_0 : cX19_init.data.toList.drop 0 = dktX19_init_0 := by decide +kernel
theorem dX19_init_0 : decode cX19_init 0 = .ok (.aload_n 0, 1) := dk_42 (dk_at dksX19_init_0 0 rfl rfl)
theorem dX19_init_1 : decode cX19_init 1 = .ok (.aload_n 1, 1) := dk_43 (dk_at dksX19_init_0 1 rfl rfl)
theorem dX19_init_2 : decode cX19_init 2 = .ok (.putfield 1, 3) := dk_181 0 1 (dk_at dksX19_init_0 2 rfl rfl)
theorem dX19_init_5 : decode cX19_init 5 = .ok (.aload_n 0, 1) := dk_42 (dk_at dksX19_init_0 5 rfl rfl)
theorem dX19_init_6 : decode cX19_init 6 = .ok (.iload_n 2, 1) := dk_28 (dk_at dksX19_init_0 6 rfl rfl)
theorem dX19_init_7 : decode cX19_init 7 = .ok (.putfield 7, 3) := dk_181 0 7 (dk_at dksX19_init_0 7 rfl rfl)
theorem dX19_init_10 : decode cX19_init 10 = .ok (.aload_n 0, 1) := dk_42 (dk_at dksX19_init_0 10 rfl rfl)
theorem dX19_init_11 : decode cX19_init 11 = .ok (.iload_n 3, 1) := dk_29 (dk_at dksX19_init_0 11 rfl rfl)
theorem dX19_init_12 : decode cX19_init 12 = .ok (.putfield 11, 3) := dk_181 0 11 (dk_at dksX19_init_0 12 rfl rfl)
theorem dX19_init_15 : decode cX19_init 15 = .ok (.aload_n 0, 1) := dk_42 (dk_at dksX19_init_0 15 rfl rfl)
theorem dX19_init_16 : decode cX19_init 16 = .ok (.aload_n 1, 1) := dk_43 (dk_at dksX19_init_0 16 rfl rfl)
theorem dX19_init_17 : decode cX19_init 17 = .ok (.invokespecial 14, 3) := dk_183 0 14 (dk_at dksX19_init_0 17 rfl rfl)
theorem dX19_init_20 : decode cX19_init 20 = .ok (.return_, 1) := dk_177 (dk_at dksX19_init_0 20 rfl rfl)
theorem q114 : (Jvm.Cond.initialized "RosaryCarvers$4") ∈ lw_all := lw_g (lw_at lw_m1 42 rfl) rfl
theorem q612 : (Jvm.Cond.selects "RosaryCarvers$4" ({ cls := "java/lang/Object", name := "getClass", desc := "()Ljava/lang/Class;" } : Jvm.MethodName) ({ cls := "java/lang/Object", name := "getClass", desc := "()Ljava/lang/Class;" } : Jvm.MethodName)) ∈ lw_all := lw_g (lw_at lw_m3 60 rfl) rfl
theorem q1048 : (Jvm.Cond.selects "RosaryCarvers$4" ({ cls := "java/lang/Object", name := "equals", desc := "(Ljava/lang/Object;)Z" } : Jvm.MethodName) ({ cls := "java/lang/Object", name := "equals", desc := "(Ljava/lang/Object;)Z" } : Jvm.MethodName)) ∈ lw_all := lw_g (lw_at lw_m5 16 rfl) rfl
theorem q1509 : (Jvm.Cond.selects "RosaryCarvers$4" ({ cls := "RosaryCarvers$Deed", name := "does", desc := "(LRosaryCarvers$Shop;)I" } : Jvm.MethodName) ({ cls := "RosaryCarvers$4", name := "does", desc := "(LRosaryCarvers$Shop;)I" } : Jvm.MethodName)) ∈ lw_all := lw_g (lw_at lw_m6 237 rfl) rfl
theorem q1510 : (Jvm.Cond.instanceMethod ({ cls := "RosaryCarvers$4", name := "does", desc := "(LRosaryCarvers$Shop;)I" } : Jvm.MethodName)) ∈ lw_all := lw_g (lw_at lw_m6 238 rfl) rfl
theorem q1511 : (Jvm.Cond.code ({ cls := "RosaryCarvers$4", name := "does", desc := "(LRosaryCarvers$Shop;)I" } : Jvm.MethodName) prog_9_method_2_code (2 : Nat) (Option.some Jvm.ClassFile.FieldType.int)) ∈ lw_all := lw_g (lw_at lw_m6 239 rfl) rfl
theorem q1512 : (Jvm.Cond.methodLink "RosaryCarvers$4" (20 : Nat) ({ cls := "RosaryCarvers$Shop", name := "gives", desc := "(II)I" } : Jvm.MethodName)) ∈ lw_all := lw_g (lw_at lw_m7 0 rfl) rfl
theorem q1614 : (Jvm.Cond.instantiable "RosaryCarvers$4" (4 : Nat)) ∈ lw_all := lw_g (lw_at lw_m7 102 rfl) rfl
theorem q1616 : (Jvm.Cond.instanceMethod ({ cls := "RosaryCarvers$4", name := "<init>", desc := "(LRosaryCarvers;II)V" } : Jvm.MethodName)) ∈ lw_all := lw_g (lw_at lw_m7 104 rfl) rfl
theorem q1617 : (Jvm.Cond.code ({ cls := "RosaryCarvers$4", name := "<init>", desc := "(LRosaryCarvers;II)V" } : Jvm.MethodName) prog_9_method_1_code (4 : Nat) (Option.none : Option Jvm.ClassFile.FieldType)) ∈ lw_all := lw_g (lw_at lw_m7 105 rfl) rfl
theorem q1618 : (Jvm.Cond.methodLinkNest "RosaryCarvers$4" (14 : Nat) ({ cls := "RosaryCarvers$Deed", name := "<init>", desc := "(LRosaryCarvers;)V" } : Jvm.MethodName) "RosaryCarvers") ∈ lw_tbl := lw_at lw_m7 106 rfl
theorem q1619 : (Jvm.Cond.fieldLink "RosaryCarvers$4" (7 : Nat) "RosaryCarvers$4" "val$lens" "I") ∈ lw_all := lw_g (lw_at lw_m7 107 rfl) rfl
theorem q1620 : (Jvm.Cond.fieldLink "RosaryCarvers$4" (11 : Nat) "RosaryCarvers$4" "val$carver" "I") ∈ lw_all := lw_g (lw_at lw_m7 108 rfl) rfl
theorem q1621 : (Jvm.Cond.fieldLink "RosaryCarvers$4" (1 : Nat) "RosaryCarvers$4" "this$0" "LRosaryCarvers;") ∈ lw_all := lw_g (lw_at lw_m7 109 rfl) rfl
theorem q1622 : (Jvm.Cond.laysFinal "RosaryCarvers$4" "RosaryCarvers$4" "val$lens" "I") ∈ lw_all := lw_g (lw_at lw_m7 110 rfl) rfl
theorem q1623 : (Jvm.Cond.soleField "RosaryCarvers$4" "val$lens") ∈ lw_all := lw_g (lw_at lw_m7 111 rfl) rfl
theorem q1624 : (Jvm.Cond.laysFinal "RosaryCarvers$4" "RosaryCarvers$4" "val$carver" "I") ∈ lw_all := lw_g (lw_at lw_m7 112 rfl) rfl
theorem q1625 : (Jvm.Cond.soleField "RosaryCarvers$4" "val$carver") ∈ lw_all := lw_g (lw_at lw_m7 113 rfl) rfl
theorem q1626 : (Jvm.Cond.laysFinal "RosaryCarvers$4" "RosaryCarvers$4" "this$0" "LRosaryCarvers;") ∈ lw_all := lw_g (lw_at lw_m7 114 rfl) rfl
theorem q1627 : (Jvm.Cond.soleField "RosaryCarvers$4" "this$0") ∈ lw_all := lw_g (lw_at lw_m7 115 rfl) rfl
theorem q1628 : (Jvm.Cond.laysFinal "RosaryCarvers$4" "RosaryCarvers$Deed" "this$0" "LRosaryCarvers;") ∈ lw_all := lw_g (lw_at lw_m7 116 rfl) rfl
theorem q1629 : (Jvm.Cond.superclass "RosaryCarvers$4" "RosaryCarvers$Deed") ∈ lw_all := lw_g (lw_at lw_m7 117 rfl) rfl
theorem q1631 : (Jvm.Cond.sameMethod "RosaryCarvers$4" "RosaryCarvers$Deed" "done" "()I") ∈ lw_all := lw_g (lw_at lw_m7 119 rfl) rfl
theorem q1632 : (Jvm.Cond.selects "RosaryCarvers$4" ({ cls := "RosaryCarvers$4", name := "done", desc := "()I" } : Jvm.MethodName) ({ cls := "RosaryCarvers$Deed", name := "done", desc := "()I" } : Jvm.MethodName)) ∈ lw_all := lw_g (lw_at lw_m7 120 rfl) rfl
theorem q2822 : (Jvm.Cond.castable "RosaryCarvers$4" "java/lang/Object") ∈ lw_tbl := lw_at lw_m12 110 rfl
theorem in_X19 : ∀ w ∈ wsX190, w ∈ lw_all := lw_in wsX190 [1628, 1622, 1624, 1626] (by decide +kernel) (by decide +kernel)

/-! RosaryCarvers$5 -/
set_option maxRecDepth 100000
def RX20 : String := "RosaryCarvers$5"
def TX20 : u_T := fun k => match k with
  | 0 => ("RosaryCarvers$Deed", "this$0", "LRosaryCarvers;", true)
  | 1 => ("RosaryCarvers$5", "val$carver", "I", true)
  | 2 => ("RosaryCarvers$5", "val$isLarge", "Z", true)
  | 3 => ("RosaryCarvers$5", "val$many", "I", true)
  | _ => ("RosaryCarvers$5", "this$0", "LRosaryCarvers;", true)
def tyX20 : Nat → FieldType := fun k => match k with
  | 0 => .object "RosaryCarvers"
  | 1 => .int
  | 2 => .boolean
  | 3 => .int
  | _ => .object "RosaryCarvers"
abbrev wsX200 : List Cond := u_ws RX20 TX20 5
-- two fields of one name: no nmX20
theorem tyX20_ok : ∀ k, k < 5 → parseFieldDescriptor (TX20 k).2.2.1 = some (tyX20 k) := by decide +kernel
abbrev cX20_does : ByteArray := prog_10_method_2_code
def yX20_does : MethodName := ⟨RX20, "does", "(LRosaryCarvers$Shop;)I"⟩
def dkwX20_does_0 : List UInt8 := [43, 42, 180, 0, 7, 42, 180, 0, 11, 42, 180, 0, 15, 182, 0, 24, 172]
abbrev dktX20_does_0 : List UInt8 := dkwX20_does_0 ++ []
theorem dksX20_does_0 : cX20_does.data.toList.drop 0 = dktX20_does_0 := by decide +kernel
theorem dX20_does_0 : decode cX20_does 0 = .ok (.aload_n 1, 1) := dk_43 (dk_at dksX20_does_0 0 rfl rfl)
theorem dX20_does_1 : decode cX20_does 1 = .ok (.aload_n 0, 1) := dk_42 (dk_at dksX20_does_0 1 rfl rfl)
theorem dX20_does_2 : decode cX20_does 2 = .ok (.getfield 7, 3) := dk_180 0 7 (dk_at dksX20_does_0 2 rfl rfl)
theorem dX20_does_5 : decode cX20_does 5 = .ok (.aload_n 0, 1) := dk_42 (dk_at dksX20_does_0 5 rfl rfl)
theorem dX20_does_6 : decode cX20_does 6 = .ok (.getfield 11, 3) := dk_180 0 11 (dk_at dksX20_does_0 6 rfl rfl)
theorem dX20_does_9 : decode cX20_does 9 = .ok (.aload_n 0, 1) := dk_42 (dk_at dksX20_does_0 9 rfl rfl)
theorem dX20_does_10 : decode cX20_does 10 = .ok (.getfield 15, 3) := dk_180 0 15 (dk_at dksX20_does_0 10 rfl rfl)
theorem dX20_does_13 : decode cX20_does 13 = .ok (.invokevirtual 24, 3) := dk_182 0 24 (dk_at dksX20_does_0 13 rfl rfl)
theorem dX20_does_16 : decode cX20_does 16 = .ok (.ireturn, 1) := dk_172 (dk_at dksX20_does_0 16 rfl rfl)
abbrev cX20_init : ByteArray := prog_10_method_1_code
def yX20_init : MethodName := ⟨RX20, "<init>", "(LRosaryCarvers;IZI)V"⟩
def dkwX20_init_1 : List UInt8 := [183, 0, 18, 177]
abbrev dktX20_init_1 : List UInt8 := dkwX20_init_1 ++ []
def dkwX20_init_0 : List UInt8 := [42, 43, 181, 0, 1, 42, 28, 181, 0, 7, 42, 29, 181, 0, 11, 42, 21, 4, 181, 0, 15, 42, 43]
abbrev dktX20_init_0 : List UInt8 := dkwX20_init_0 ++ dktX20_init_1
theorem dksX20_init_0 : cX20_init.data.toList.drop 0 = dktX20_init_0 := by decide +kernel
theorem dksX20_init_1 : cX20_init.data.toList.drop 23 = dktX20_init_1 := dk_seg dksX20_init_0 23 rfl rfl
theorem dX20_init_0 : decode cX20_init 0 = .ok (.aload_n 0, 1) := dk_42 (dk_at dksX20_init_0 0 rfl rfl)
theorem dX20_init_1 : decode cX20_init 1 = .ok (.aload_n 1, 1) := dk_43 (dk_at dksX20_init_0 1 rfl rfl)
theorem dX20_init_2 : decode cX20_init 2 = .ok (.putfield 1, 3) := dk_181 0 1 (dk_at dksX20_init_0 2 rfl rfl)
theorem dX20_init_5 : decode cX20_init 5 = .ok (.aload_n 0, 1) := dk_42 (dk_at dksX20_init_0 5 rfl rfl)
theorem dX20_init_6 : decode cX20_init 6 = .ok (.iload_n 2, 1) := dk_28 (dk_at dksX20_init_0 6 rfl rfl)
theorem dX20_init_7 : decode cX20_init 7 = .ok (.putfield 7, 3) := dk_181 0 7 (dk_at dksX20_init_0 7 rfl rfl)
theorem dX20_init_10 : decode cX20_init 10 = .ok (.aload_n 0, 1) := dk_42 (dk_at dksX20_init_0 10 rfl rfl)
theorem dX20_init_11 : decode cX20_init 11 = .ok (.iload_n 3, 1) := dk_29 (dk_at dksX20_init_0 11 rfl rfl)
theorem dX20_init_12 : decode cX20_init 12 = .ok (.putfield 11, 3) := dk_181 0 11 (dk_at dksX20_init_0 12 rfl rfl)
theorem dX20_init_15 : decode cX20_init 15 = .ok (.aload_n 0, 1) := dk_42 (dk_at dksX20_init_0 15 rfl rfl)
theorem dX20_init_16 : decode cX20_init 16 = .ok (.iload 4, 2) := dk_21 4 (dk_at dksX20_init_0 16 rfl rfl)
theorem dX20_init_18 : decode cX20_init 18 = .ok (.putfield 15, 3) := dk_181 0 15 (dk_at dksX20_init_0 18 rfl rfl)
theorem dX20_init_21 : decode cX20_init 21 = .ok (.aload_n 0, 1) := dk_42 (dk_at dksX20_init_0 21 rfl rfl)
theorem dX20_init_22 : decode cX20_init 22 = .ok (.aload_n 1, 1) := dk_43 (dk_at dksX20_init_0 22 rfl rfl)
theorem dX20_init_23 : decode cX20_init 23 = .ok (.invokespecial 18, 3) := dk_183 0 18 (dk_at dksX20_init_1 0 rfl rfl)
theorem dX20_init_26 : decode cX20_init 26 = .ok (.return_, 1) := dk_177 (dk_at dksX20_init_1 3 rfl rfl)
theorem q115 : (Jvm.Cond.initialized "RosaryCarvers$5") ∈ lw_all := lw_g (lw_at lw_m1 43 rfl) rfl
theorem q613 : (Jvm.Cond.selects "RosaryCarvers$5" ({ cls := "java/lang/Object", name := "getClass", desc := "()Ljava/lang/Class;" } : Jvm.MethodName) ({ cls := "java/lang/Object", name := "getClass", desc := "()Ljava/lang/Class;" } : Jvm.MethodName)) ∈ lw_all := lw_g (lw_at lw_m3 61 rfl) rfl
theorem q1049 : (Jvm.Cond.selects "RosaryCarvers$5" ({ cls := "java/lang/Object", name := "equals", desc := "(Ljava/lang/Object;)Z" } : Jvm.MethodName) ({ cls := "java/lang/Object", name := "equals", desc := "(Ljava/lang/Object;)Z" } : Jvm.MethodName)) ∈ lw_all := lw_g (lw_at lw_m5 17 rfl) rfl
theorem q1516 : (Jvm.Cond.selects "RosaryCarvers$5" ({ cls := "RosaryCarvers$Deed", name := "does", desc := "(LRosaryCarvers$Shop;)I" } : Jvm.MethodName) ({ cls := "RosaryCarvers$5", name := "does", desc := "(LRosaryCarvers$Shop;)I" } : Jvm.MethodName)) ∈ lw_all := lw_g (lw_at lw_m7 4 rfl) rfl
theorem q1517 : (Jvm.Cond.instanceMethod ({ cls := "RosaryCarvers$5", name := "does", desc := "(LRosaryCarvers$Shop;)I" } : Jvm.MethodName)) ∈ lw_all := lw_g (lw_at lw_m7 5 rfl) rfl
theorem q1518 : (Jvm.Cond.code ({ cls := "RosaryCarvers$5", name := "does", desc := "(LRosaryCarvers$Shop;)I" } : Jvm.MethodName) prog_10_method_2_code (2 : Nat) (Option.some Jvm.ClassFile.FieldType.int)) ∈ lw_all := lw_g (lw_at lw_m7 6 rfl) rfl
theorem q1519 : (Jvm.Cond.methodLink "RosaryCarvers$5" (24 : Nat) ({ cls := "RosaryCarvers$Shop", name := "carves", desc := "(IZI)I" } : Jvm.MethodName)) ∈ lw_all := lw_g (lw_at lw_m7 7 rfl) rfl
theorem q1638 : (Jvm.Cond.instantiable "RosaryCarvers$5" (5 : Nat)) ∈ lw_all := lw_g (lw_at lw_m7 126 rfl) rfl
theorem q1640 : (Jvm.Cond.instanceMethod ({ cls := "RosaryCarvers$5", name := "<init>", desc := "(LRosaryCarvers;IZI)V" } : Jvm.MethodName)) ∈ lw_all := lw_g (lw_at lw_m7 128 rfl) rfl
theorem q1641 : (Jvm.Cond.code ({ cls := "RosaryCarvers$5", name := "<init>", desc := "(LRosaryCarvers;IZI)V" } : Jvm.MethodName) prog_10_method_1_code (5 : Nat) (Option.none : Option Jvm.ClassFile.FieldType)) ∈ lw_all := lw_g (lw_at lw_m7 129 rfl) rfl
theorem q1642 : (Jvm.Cond.methodLinkNest "RosaryCarvers$5" (18 : Nat) ({ cls := "RosaryCarvers$Deed", name := "<init>", desc := "(LRosaryCarvers;)V" } : Jvm.MethodName) "RosaryCarvers") ∈ lw_tbl := lw_at lw_m7 130 rfl
theorem q1643 : (Jvm.Cond.fieldLink "RosaryCarvers$5" (7 : Nat) "RosaryCarvers$5" "val$carver" "I") ∈ lw_all := lw_g (lw_at lw_m7 131 rfl) rfl
theorem q1644 : (Jvm.Cond.fieldLink "RosaryCarvers$5" (11 : Nat) "RosaryCarvers$5" "val$isLarge" "Z") ∈ lw_all := lw_g (lw_at lw_m7 132 rfl) rfl
theorem q1645 : (Jvm.Cond.fieldLink "RosaryCarvers$5" (15 : Nat) "RosaryCarvers$5" "val$many" "I") ∈ lw_all := lw_g (lw_at lw_m7 133 rfl) rfl
theorem q1646 : (Jvm.Cond.fieldLink "RosaryCarvers$5" (1 : Nat) "RosaryCarvers$5" "this$0" "LRosaryCarvers;") ∈ lw_all := lw_g (lw_at lw_m7 134 rfl) rfl
theorem q1647 : (Jvm.Cond.laysFinal "RosaryCarvers$5" "RosaryCarvers$5" "val$carver" "I") ∈ lw_all := lw_g (lw_at lw_m7 135 rfl) rfl
theorem q1648 : (Jvm.Cond.soleField "RosaryCarvers$5" "val$carver") ∈ lw_all := lw_g (lw_at lw_m7 136 rfl) rfl
theorem q1649 : (Jvm.Cond.laysFinal "RosaryCarvers$5" "RosaryCarvers$5" "val$isLarge" "Z") ∈ lw_all := lw_g (lw_at lw_m7 137 rfl) rfl
theorem q1650 : (Jvm.Cond.soleField "RosaryCarvers$5" "val$isLarge") ∈ lw_all := lw_g (lw_at lw_m7 138 rfl) rfl
theorem q1651 : (Jvm.Cond.laysFinal "RosaryCarvers$5" "RosaryCarvers$5" "val$many" "I") ∈ lw_all := lw_g (lw_at lw_m7 139 rfl) rfl
theorem q1652 : (Jvm.Cond.soleField "RosaryCarvers$5" "val$many") ∈ lw_all := lw_g (lw_at lw_m7 140 rfl) rfl
theorem q1653 : (Jvm.Cond.laysFinal "RosaryCarvers$5" "RosaryCarvers$5" "this$0" "LRosaryCarvers;") ∈ lw_all := lw_g (lw_at lw_m7 141 rfl) rfl
theorem q1654 : (Jvm.Cond.soleField "RosaryCarvers$5" "this$0") ∈ lw_all := lw_g (lw_at lw_m7 142 rfl) rfl
theorem q1655 : (Jvm.Cond.laysFinal "RosaryCarvers$5" "RosaryCarvers$Deed" "this$0" "LRosaryCarvers;") ∈ lw_all := lw_g (lw_at lw_m7 143 rfl) rfl
theorem q1656 : (Jvm.Cond.superclass "RosaryCarvers$5" "RosaryCarvers$Deed") ∈ lw_all := lw_g (lw_at lw_m7 144 rfl) rfl
theorem q1658 : (Jvm.Cond.sameMethod "RosaryCarvers$5" "RosaryCarvers$Deed" "done" "()I") ∈ lw_all := lw_g (lw_at lw_m7 146 rfl) rfl
theorem q1659 : (Jvm.Cond.selects "RosaryCarvers$5" ({ cls := "RosaryCarvers$5", name := "done", desc := "()I" } : Jvm.MethodName) ({ cls := "RosaryCarvers$Deed", name := "done", desc := "()I" } : Jvm.MethodName)) ∈ lw_all := lw_g (lw_at lw_m7 147 rfl) rfl
theorem q2824 : (Jvm.Cond.castable "RosaryCarvers$5" "java/lang/Object") ∈ lw_tbl := lw_at lw_m12 112 rfl
theorem in_X20 : ∀ w ∈ wsX200, w ∈ lw_all := lw_in wsX200 [1655, 1647, 1649, 1651, 1653] (by decide +kernel) (by decide +kernel)

/-! RosaryCarvers$6 -/
set_option maxRecDepth 100000
def RX21 : String := "RosaryCarvers$6"
def TX21 : u_T := fun k => match k with
  | 0 => ("RosaryCarvers$Deed", "this$0", "LRosaryCarvers;", true)
  | 1 => ("RosaryCarvers$6", "val$groups", "I", true)
  | 2 => ("RosaryCarvers$6", "val$small", "I", true)
  | _ => ("RosaryCarvers$6", "this$0", "LRosaryCarvers;", true)
def tyX21 : Nat → FieldType := fun k => match k with
  | 0 => .object "RosaryCarvers"
  | 1 => .int
  | 2 => .int
  | _ => .object "RosaryCarvers"
abbrev wsX210 : List Cond := u_ws RX21 TX21 4
-- two fields of one name: no nmX21
theorem tyX21_ok : ∀ k, k < 4 → parseFieldDescriptor (TX21 k).2.2.1 = some (tyX21 k) := by decide +kernel
abbrev cX21_does : ByteArray := prog_11_method_2_code
def yX21_does : MethodName := ⟨RX21, "does", "(LRosaryCarvers$Shop;)I"⟩
def dkwX21_does_0 : List UInt8 := [43, 42, 180, 0, 7, 42, 180, 0, 11, 182, 0, 20, 172]
abbrev dktX21_does_0 : List UInt8 := dkwX21_does_0 ++ []
theorem dksX21_does_0 : cX21_does.data.toList.drop 0 = dktX21_does_0 := by decide +kernel
theorem dX21_does_0 : decode cX21_does 0 = .ok (.aload_n 1, 1) := dk_43 (dk_at dksX21_does_0 0 rfl rfl)
theorem dX21_does_1 : decode cX21_does 1 = .ok (.aload_n 0, 1) := dk_42 (dk_at dksX21_does_0 1 rfl rfl)
theorem dX21_does_2 : decode cX21_does 2 = .ok (.getfield 7, 3) := dk_180 0 7 (dk_at dksX21_does_0 2 rfl rfl)
theorem dX21_does_5 : decode cX21_does 5 = .ok (.aload_n 0, 1) := dk_42 (dk_at dksX21_does_0 5 rfl rfl)
theorem dX21_does_6 : decode cX21_does 6 = .ok (.getfield 11, 3) := dk_180 0 11 (dk_at dksX21_does_0 6 rfl rfl)
theorem dX21_does_9 : decode cX21_does 9 = .ok (.invokevirtual 20, 3) := dk_182 0 20 (dk_at dksX21_does_0 9 rfl rfl)
theorem dX21_does_12 : decode cX21_does 12 = .ok (.ireturn, 1) := dk_172 (dk_at dksX21_does_0 12 rfl rfl)
abbrev cX21_init : ByteArray := prog_11_method_1_code
def yX21_init : MethodName := ⟨RX21, "<init>", "(LRosaryCarvers;II)V"⟩
def dkwX21_init_0 : List UInt8 := [42, 43, 181, 0, 1, 42, 28, 181, 0, 7, 42, 29, 181, 0, 11, 42, 43, 183, 0, 14, 177]
abbrev dktX21_init_0 : List UInt8 := dkwX21_init_0 ++ []
theorem dksX21_init_0 : cX21_init.data.toList.drop 0 = dktX21_init_0 := by decide +kernel
theorem dX21_init_0 : decode cX21_init 0 = .ok (.aload_n 0, 1) := dk_42 (dk_at dksX21_init_0 0 rfl rfl)
theorem dX21_init_1 : decode cX21_init 1 = .ok (.aload_n 1, 1) := dk_43 (dk_at dksX21_init_0 1 rfl rfl)
theorem dX21_init_2 : decode cX21_init 2 = .ok (.putfield 1, 3) := dk_181 0 1 (dk_at dksX21_init_0 2 rfl rfl)
theorem dX21_init_5 : decode cX21_init 5 = .ok (.aload_n 0, 1) := dk_42 (dk_at dksX21_init_0 5 rfl rfl)
theorem dX21_init_6 : decode cX21_init 6 = .ok (.iload_n 2, 1) := dk_28 (dk_at dksX21_init_0 6 rfl rfl)
theorem dX21_init_7 : decode cX21_init 7 = .ok (.putfield 7, 3) := dk_181 0 7 (dk_at dksX21_init_0 7 rfl rfl)
theorem dX21_init_10 : decode cX21_init 10 = .ok (.aload_n 0, 1) := dk_42 (dk_at dksX21_init_0 10 rfl rfl)
theorem dX21_init_11 : decode cX21_init 11 = .ok (.iload_n 3, 1) := dk_29 (dk_at dksX21_init_0 11 rfl rfl)
theorem dX21_init_12 : decode cX21_init 12 = .ok (.putfield 11, 3) := dk_181 0 11 (dk_at dksX21_init_0 12 rfl rfl)
theorem dX21_init_15 : decode cX21_init 15 = .ok (.aload_n 0, 1) := dk_42 (dk_at dksX21_init_0 15 rfl rfl)
theorem dX21_init_16 : decode cX21_init 16 = .ok (.aload_n 1, 1) := dk_43 (dk_at dksX21_init_0 16 rfl rfl)
theorem dX21_init_17 : decode cX21_init 17 = .ok (.invokespecial 14, 3) := dk_183 0 14 (dk_at dksX21_init_0 17 rfl rfl)
theorem dX21_init_20 : decode cX21_init 20 = .ok (.return_, 1) := dk_177 (dk_at dksX21_init_0 20 rfl rfl)
theorem q116 : (Jvm.Cond.initialized "RosaryCarvers$6") ∈ lw_all := lw_g (lw_at lw_m1 44 rfl) rfl
theorem q614 : (Jvm.Cond.selects "RosaryCarvers$6" ({ cls := "java/lang/Object", name := "getClass", desc := "()Ljava/lang/Class;" } : Jvm.MethodName) ({ cls := "java/lang/Object", name := "getClass", desc := "()Ljava/lang/Class;" } : Jvm.MethodName)) ∈ lw_all := lw_g (lw_at lw_m3 62 rfl) rfl
theorem q1050 : (Jvm.Cond.selects "RosaryCarvers$6" ({ cls := "java/lang/Object", name := "equals", desc := "(Ljava/lang/Object;)Z" } : Jvm.MethodName) ({ cls := "java/lang/Object", name := "equals", desc := "(Ljava/lang/Object;)Z" } : Jvm.MethodName)) ∈ lw_all := lw_g (lw_at lw_m5 18 rfl) rfl
theorem q1520 : (Jvm.Cond.selects "RosaryCarvers$6" ({ cls := "RosaryCarvers$Deed", name := "does", desc := "(LRosaryCarvers$Shop;)I" } : Jvm.MethodName) ({ cls := "RosaryCarvers$6", name := "does", desc := "(LRosaryCarvers$Shop;)I" } : Jvm.MethodName)) ∈ lw_all := lw_g (lw_at lw_m7 8 rfl) rfl
theorem q1521 : (Jvm.Cond.instanceMethod ({ cls := "RosaryCarvers$6", name := "does", desc := "(LRosaryCarvers$Shop;)I" } : Jvm.MethodName)) ∈ lw_all := lw_g (lw_at lw_m7 9 rfl) rfl
theorem q1522 : (Jvm.Cond.code ({ cls := "RosaryCarvers$6", name := "does", desc := "(LRosaryCarvers$Shop;)I" } : Jvm.MethodName) prog_11_method_2_code (2 : Nat) (Option.some Jvm.ClassFile.FieldType.int)) ∈ lw_all := lw_g (lw_at lw_m7 10 rfl) rfl
theorem q1523 : (Jvm.Cond.methodLink "RosaryCarvers$6" (20 : Nat) ({ cls := "RosaryCarvers$Shop", name := "begins", desc := "(II)I" } : Jvm.MethodName)) ∈ lw_all := lw_g (lw_at lw_m7 11 rfl) rfl
theorem q1665 : (Jvm.Cond.instantiable "RosaryCarvers$6" (4 : Nat)) ∈ lw_all := lw_g (lw_at lw_m7 153 rfl) rfl
theorem q1667 : (Jvm.Cond.instanceMethod ({ cls := "RosaryCarvers$6", name := "<init>", desc := "(LRosaryCarvers;II)V" } : Jvm.MethodName)) ∈ lw_all := lw_g (lw_at lw_m7 155 rfl) rfl
theorem q1668 : (Jvm.Cond.code ({ cls := "RosaryCarvers$6", name := "<init>", desc := "(LRosaryCarvers;II)V" } : Jvm.MethodName) prog_11_method_1_code (4 : Nat) (Option.none : Option Jvm.ClassFile.FieldType)) ∈ lw_all := lw_g (lw_at lw_m7 156 rfl) rfl
theorem q1669 : (Jvm.Cond.methodLinkNest "RosaryCarvers$6" (14 : Nat) ({ cls := "RosaryCarvers$Deed", name := "<init>", desc := "(LRosaryCarvers;)V" } : Jvm.MethodName) "RosaryCarvers") ∈ lw_tbl := lw_at lw_m7 157 rfl
theorem q1670 : (Jvm.Cond.fieldLink "RosaryCarvers$6" (7 : Nat) "RosaryCarvers$6" "val$groups" "I") ∈ lw_all := lw_g (lw_at lw_m7 158 rfl) rfl
theorem q1671 : (Jvm.Cond.fieldLink "RosaryCarvers$6" (11 : Nat) "RosaryCarvers$6" "val$small" "I") ∈ lw_all := lw_g (lw_at lw_m7 159 rfl) rfl
theorem q1672 : (Jvm.Cond.fieldLink "RosaryCarvers$6" (1 : Nat) "RosaryCarvers$6" "this$0" "LRosaryCarvers;") ∈ lw_all := lw_g (lw_at lw_m7 160 rfl) rfl
theorem q1673 : (Jvm.Cond.laysFinal "RosaryCarvers$6" "RosaryCarvers$6" "val$groups" "I") ∈ lw_all := lw_g (lw_at lw_m7 161 rfl) rfl
theorem q1674 : (Jvm.Cond.soleField "RosaryCarvers$6" "val$groups") ∈ lw_all := lw_g (lw_at lw_m7 162 rfl) rfl
theorem q1675 : (Jvm.Cond.laysFinal "RosaryCarvers$6" "RosaryCarvers$6" "val$small" "I") ∈ lw_all := lw_g (lw_at lw_m7 163 rfl) rfl
theorem q1676 : (Jvm.Cond.soleField "RosaryCarvers$6" "val$small") ∈ lw_all := lw_g (lw_at lw_m7 164 rfl) rfl
theorem q1677 : (Jvm.Cond.laysFinal "RosaryCarvers$6" "RosaryCarvers$6" "this$0" "LRosaryCarvers;") ∈ lw_all := lw_g (lw_at lw_m7 165 rfl) rfl
theorem q1678 : (Jvm.Cond.soleField "RosaryCarvers$6" "this$0") ∈ lw_all := lw_g (lw_at lw_m7 166 rfl) rfl
theorem q1679 : (Jvm.Cond.laysFinal "RosaryCarvers$6" "RosaryCarvers$Deed" "this$0" "LRosaryCarvers;") ∈ lw_all := lw_g (lw_at lw_m7 167 rfl) rfl
theorem q1680 : (Jvm.Cond.superclass "RosaryCarvers$6" "RosaryCarvers$Deed") ∈ lw_all := lw_g (lw_at lw_m7 168 rfl) rfl
theorem q1682 : (Jvm.Cond.sameMethod "RosaryCarvers$6" "RosaryCarvers$Deed" "done" "()I") ∈ lw_all := lw_g (lw_at lw_m7 170 rfl) rfl
theorem q1683 : (Jvm.Cond.selects "RosaryCarvers$6" ({ cls := "RosaryCarvers$6", name := "done", desc := "()I" } : Jvm.MethodName) ({ cls := "RosaryCarvers$Deed", name := "done", desc := "()I" } : Jvm.MethodName)) ∈ lw_all := lw_g (lw_at lw_m7 171 rfl) rfl
theorem q2826 : (Jvm.Cond.castable "RosaryCarvers$6" "java/lang/Object") ∈ lw_tbl := lw_at lw_m12 114 rfl
theorem in_X21 : ∀ w ∈ wsX210, w ∈ lw_all := lw_in wsX210 [1679, 1673, 1675, 1677] (by decide +kernel) (by decide +kernel)

/-! RosaryCarvers$7 -/
set_option maxRecDepth 100000
def RX22 : String := "RosaryCarvers$7"
def TX22 : u_T := fun k => match k with
  | 0 => ("RosaryCarvers$Deed", "this$0", "LRosaryCarvers;", true)
  | 1 => ("RosaryCarvers$7", "val$string", "I", true)
  | _ => ("RosaryCarvers$7", "this$0", "LRosaryCarvers;", true)
def tyX22 : Nat → FieldType := fun k => match k with
  | 0 => .object "RosaryCarvers"
  | 1 => .int
  | _ => .object "RosaryCarvers"
abbrev wsX220 : List Cond := u_ws RX22 TX22 3
-- two fields of one name: no nmX22
theorem tyX22_ok : ∀ k, k < 3 → parseFieldDescriptor (TX22 k).2.2.1 = some (tyX22 k) := by decide +kernel
abbrev cX22_does : ByteArray := prog_12_method_2_code
def yX22_does : MethodName := ⟨RX22, "does", "(LRosaryCarvers$Shop;)I"⟩
def dkwX22_does_0 : List UInt8 := [43, 42, 180, 0, 7, 182, 0, 17, 172]
abbrev dktX22_does_0 : List UInt8 := dkwX22_does_0 ++ []
theorem dksX22_does_0 : cX22_does.data.toList.drop 0 = dktX22_does_0 := by decide +kernel
theorem dX22_does_0 : decode cX22_does 0 = .ok (.aload_n 1, 1) := dk_43 (dk_at dksX22_does_0 0 rfl rfl)
theorem dX22_does_1 : decode cX22_does 1 = .ok (.aload_n 0, 1) := dk_42 (dk_at dksX22_does_0 1 rfl rfl)
theorem dX22_does_2 : decode cX22_does 2 = .ok (.getfield 7, 3) := dk_180 0 7 (dk_at dksX22_does_0 2 rfl rfl)
theorem dX22_does_5 : decode cX22_does 5 = .ok (.invokevirtual 17, 3) := dk_182 0 17 (dk_at dksX22_does_0 5 rfl rfl)
theorem dX22_does_8 : decode cX22_does 8 = .ok (.ireturn, 1) := dk_172 (dk_at dksX22_does_0 8 rfl rfl)
abbrev cX22_init : ByteArray := prog_12_method_1_code
def yX22_init : MethodName := ⟨RX22, "<init>", "(LRosaryCarvers;I)V"⟩
def dkwX22_init_0 : List UInt8 := [42, 43, 181, 0, 1, 42, 28, 181, 0, 7, 42, 43, 183, 0, 11, 177]
abbrev dktX22_init_0 : List UInt8 := dkwX22_init_0 ++ []
theorem dksX22_init_0 : cX22_init.data.toList.drop 0 = dktX22_init_0 := by decide +kernel
theorem dX22_init_0 : decode cX22_init 0 = .ok (.aload_n 0, 1) := dk_42 (dk_at dksX22_init_0 0 rfl rfl)
theorem dX22_init_1 : decode cX22_init 1 = .ok (.aload_n 1, 1) := dk_43 (dk_at dksX22_init_0 1 rfl rfl)
theorem dX22_init_2 : decode cX22_init 2 = .ok (.putfield 1, 3) := dk_181 0 1 (dk_at dksX22_init_0 2 rfl rfl)
theorem dX22_init_5 : decode cX22_init 5 = .ok (.aload_n 0, 1) := dk_42 (dk_at dksX22_init_0 5 rfl rfl)
theorem dX22_init_6 : decode cX22_init 6 = .ok (.iload_n 2, 1) := dk_28 (dk_at dksX22_init_0 6 rfl rfl)
theorem dX22_init_7 : decode cX22_init 7 = .ok (.putfield 7, 3) := dk_181 0 7 (dk_at dksX22_init_0 7 rfl rfl)
theorem dX22_init_10 : decode cX22_init 10 = .ok (.aload_n 0, 1) := dk_42 (dk_at dksX22_init_0 10 rfl rfl)
theorem dX22_init_11 : decode cX22_init 11 = .ok (.aload_n 1, 1) := dk_43 (dk_at dksX22_init_0 11 rfl rfl)
theorem dX22_init_12 : decode cX22_init 12 = .ok (.invokespecial 11, 3) := dk_183 0 11 (dk_at dksX22_init_0 12 rfl rfl)
theorem dX22_init_15 : decode cX22_init 15 = .ok (.return_, 1) := dk_177 (dk_at dksX22_init_0 15 rfl rfl)
theorem q117 : (Jvm.Cond.initialized "RosaryCarvers$7") ∈ lw_all := lw_g (lw_at lw_m1 45 rfl) rfl
theorem q615 : (Jvm.Cond.selects "RosaryCarvers$7" ({ cls := "java/lang/Object", name := "getClass", desc := "()Ljava/lang/Class;" } : Jvm.MethodName) ({ cls := "java/lang/Object", name := "getClass", desc := "()Ljava/lang/Class;" } : Jvm.MethodName)) ∈ lw_all := lw_g (lw_at lw_m3 63 rfl) rfl
theorem q1051 : (Jvm.Cond.selects "RosaryCarvers$7" ({ cls := "java/lang/Object", name := "equals", desc := "(Ljava/lang/Object;)Z" } : Jvm.MethodName) ({ cls := "java/lang/Object", name := "equals", desc := "(Ljava/lang/Object;)Z" } : Jvm.MethodName)) ∈ lw_all := lw_g (lw_at lw_m5 19 rfl) rfl
theorem q1524 : (Jvm.Cond.selects "RosaryCarvers$7" ({ cls := "RosaryCarvers$Deed", name := "does", desc := "(LRosaryCarvers$Shop;)I" } : Jvm.MethodName) ({ cls := "RosaryCarvers$7", name := "does", desc := "(LRosaryCarvers$Shop;)I" } : Jvm.MethodName)) ∈ lw_all := lw_g (lw_at lw_m7 12 rfl) rfl
theorem q1525 : (Jvm.Cond.instanceMethod ({ cls := "RosaryCarvers$7", name := "does", desc := "(LRosaryCarvers$Shop;)I" } : Jvm.MethodName)) ∈ lw_all := lw_g (lw_at lw_m7 13 rfl) rfl
theorem q1526 : (Jvm.Cond.code ({ cls := "RosaryCarvers$7", name := "does", desc := "(LRosaryCarvers$Shop;)I" } : Jvm.MethodName) prog_12_method_2_code (2 : Nat) (Option.some Jvm.ClassFile.FieldType.int)) ∈ lw_all := lw_g (lw_at lw_m7 14 rfl) rfl
theorem q1527 : (Jvm.Cond.methodLink "RosaryCarvers$7" (17 : Nat) ({ cls := "RosaryCarvers$Shop", name := "threads", desc := "(I)I" } : Jvm.MethodName)) ∈ lw_all := lw_g (lw_at lw_m7 15 rfl) rfl
theorem q1689 : (Jvm.Cond.instantiable "RosaryCarvers$7" (3 : Nat)) ∈ lw_all := lw_g (lw_at lw_m7 177 rfl) rfl
theorem q1691 : (Jvm.Cond.instanceMethod ({ cls := "RosaryCarvers$7", name := "<init>", desc := "(LRosaryCarvers;I)V" } : Jvm.MethodName)) ∈ lw_all := lw_g (lw_at lw_m7 179 rfl) rfl
theorem q1692 : (Jvm.Cond.code ({ cls := "RosaryCarvers$7", name := "<init>", desc := "(LRosaryCarvers;I)V" } : Jvm.MethodName) prog_12_method_1_code (3 : Nat) (Option.none : Option Jvm.ClassFile.FieldType)) ∈ lw_all := lw_g (lw_at lw_m7 180 rfl) rfl
theorem q1693 : (Jvm.Cond.methodLinkNest "RosaryCarvers$7" (11 : Nat) ({ cls := "RosaryCarvers$Deed", name := "<init>", desc := "(LRosaryCarvers;)V" } : Jvm.MethodName) "RosaryCarvers") ∈ lw_tbl := lw_at lw_m7 181 rfl
theorem q1694 : (Jvm.Cond.fieldLink "RosaryCarvers$7" (7 : Nat) "RosaryCarvers$7" "val$string" "I") ∈ lw_all := lw_g (lw_at lw_m7 182 rfl) rfl
theorem q1695 : (Jvm.Cond.fieldLink "RosaryCarvers$7" (1 : Nat) "RosaryCarvers$7" "this$0" "LRosaryCarvers;") ∈ lw_all := lw_g (lw_at lw_m7 183 rfl) rfl
theorem q1696 : (Jvm.Cond.laysFinal "RosaryCarvers$7" "RosaryCarvers$7" "val$string" "I") ∈ lw_all := lw_g (lw_at lw_m7 184 rfl) rfl
theorem q1697 : (Jvm.Cond.soleField "RosaryCarvers$7" "val$string") ∈ lw_all := lw_g (lw_at lw_m7 185 rfl) rfl
theorem q1698 : (Jvm.Cond.laysFinal "RosaryCarvers$7" "RosaryCarvers$7" "this$0" "LRosaryCarvers;") ∈ lw_all := lw_g (lw_at lw_m7 186 rfl) rfl
theorem q1699 : (Jvm.Cond.soleField "RosaryCarvers$7" "this$0") ∈ lw_all := lw_g (lw_at lw_m7 187 rfl) rfl
theorem q1700 : (Jvm.Cond.laysFinal "RosaryCarvers$7" "RosaryCarvers$Deed" "this$0" "LRosaryCarvers;") ∈ lw_all := lw_g (lw_at lw_m7 188 rfl) rfl
theorem q1701 : (Jvm.Cond.superclass "RosaryCarvers$7" "RosaryCarvers$Deed") ∈ lw_all := lw_g (lw_at lw_m7 189 rfl) rfl
theorem q1703 : (Jvm.Cond.sameMethod "RosaryCarvers$7" "RosaryCarvers$Deed" "done" "()I") ∈ lw_all := lw_g (lw_at lw_m7 191 rfl) rfl
theorem q1704 : (Jvm.Cond.selects "RosaryCarvers$7" ({ cls := "RosaryCarvers$7", name := "done", desc := "()I" } : Jvm.MethodName) ({ cls := "RosaryCarvers$Deed", name := "done", desc := "()I" } : Jvm.MethodName)) ∈ lw_all := lw_g (lw_at lw_m7 192 rfl) rfl
theorem q2827 : (Jvm.Cond.castable "RosaryCarvers$7" "java/lang/Object") ∈ lw_tbl := lw_at lw_m12 115 rfl
theorem in_X22 : ∀ w ∈ wsX220, w ∈ lw_all := lw_in wsX220 [1700, 1696, 1698] (by decide +kernel) (by decide +kernel)

/-! RosaryCarvers$8 -/
set_option maxRecDepth 100000
def RX23 : String := "RosaryCarvers$8"
def TX23 : u_T := fun k => match k with
  | 0 => ("RosaryCarvers$Deed", "this$0", "LRosaryCarvers;", true)
  | 1 => ("RosaryCarvers$8", "val$string", "I", true)
  | _ => ("RosaryCarvers$8", "this$0", "LRosaryCarvers;", true)
def tyX23 : Nat → FieldType := fun k => match k with
  | 0 => .object "RosaryCarvers"
  | 1 => .int
  | _ => .object "RosaryCarvers"
abbrev wsX230 : List Cond := u_ws RX23 TX23 3
-- two fields of one name: no nmX23
theorem tyX23_ok : ∀ k, k < 3 → parseFieldDescriptor (TX23 k).2.2.1 = some (tyX23 k) := by decide +kernel
abbrev cX23_does : ByteArray := prog_13_method_2_code
def yX23_does : MethodName := ⟨RX23, "does", "(LRosaryCarvers$Shop;)I"⟩
def dkwX23_does_0 : List UInt8 := [43, 42, 180, 0, 7, 182, 0, 17, 172]
abbrev dktX23_does_0 : List UInt8 := dkwX23_does_0 ++ []
theorem dksX23_does_0 : cX23_does.data.toList.drop 0 = dktX23_does_0 := by decide +kernel
theorem dX23_does_0 : decode cX23_does 0 = .ok (.aload_n 1, 1) := dk_43 (dk_at dksX23_does_0 0 rfl rfl)
theorem dX23_does_1 : decode cX23_does 1 = .ok (.aload_n 0, 1) := dk_42 (dk_at dksX23_does_0 1 rfl rfl)
theorem dX23_does_2 : decode cX23_does 2 = .ok (.getfield 7, 3) := dk_180 0 7 (dk_at dksX23_does_0 2 rfl rfl)
theorem dX23_does_5 : decode cX23_does 5 = .ok (.invokevirtual 17, 3) := dk_182 0 17 (dk_at dksX23_does_0 5 rfl rfl)
theorem dX23_does_8 : decode cX23_does 8 = .ok (.ireturn, 1) := dk_172 (dk_at dksX23_does_0 8 rfl rfl)
abbrev cX23_init : ByteArray := prog_13_method_1_code
def yX23_init : MethodName := ⟨RX23, "<init>", "(LRosaryCarvers;I)V"⟩
def dkwX23_init_0 : List UInt8 := [42, 43, 181, 0, 1, 42, 28, 181, 0, 7, 42, 43, 183, 0, 11, 177]
abbrev dktX23_init_0 : List UInt8 := dkwX23_init_0 ++ []
theorem dksX23_init_0 : cX23_init.data.toList.drop 0 = dktX23_init_0 := by decide +kernel
theorem dX23_init_0 : decode cX23_init 0 = .ok (.aload_n 0, 1) := dk_42 (dk_at dksX23_init_0 0 rfl rfl)
theorem dX23_init_1 : decode cX23_init 1 = .ok (.aload_n 1, 1) := dk_43 (dk_at dksX23_init_0 1 rfl rfl)
theorem dX23_init_2 : decode cX23_init 2 = .ok (.putfield 1, 3) := dk_181 0 1 (dk_at dksX23_init_0 2 rfl rfl)
theorem dX23_init_5 : decode cX23_init 5 = .ok (.aload_n 0, 1) := dk_42 (dk_at dksX23_init_0 5 rfl rfl)
theorem dX23_init_6 : decode cX23_init 6 = .ok (.iload_n 2, 1) := dk_28 (dk_at dksX23_init_0 6 rfl rfl)
theorem dX23_init_7 : decode cX23_init 7 = .ok (.putfield 7, 3) := dk_181 0 7 (dk_at dksX23_init_0 7 rfl rfl)
theorem dX23_init_10 : decode cX23_init 10 = .ok (.aload_n 0, 1) := dk_42 (dk_at dksX23_init_0 10 rfl rfl)
theorem dX23_init_11 : decode cX23_init 11 = .ok (.aload_n 1, 1) := dk_43 (dk_at dksX23_init_0 11 rfl rfl)
theorem dX23_init_12 : decode cX23_init 12 = .ok (.invokespecial 11, 3) := dk_183 0 11 (dk_at dksX23_init_0 12 rfl rfl)
theorem dX23_init_15 : decode cX23_init 15 = .ok (.return_, 1) := dk_177 (dk_at dksX23_init_0 15 rfl rfl)
theorem q118 : (Jvm.Cond.initialized "RosaryCarvers$8") ∈ lw_all := lw_g (lw_at lw_m1 46 rfl) rfl
theorem q616 : (Jvm.Cond.selects "RosaryCarvers$8" ({ cls := "java/lang/Object", name := "getClass", desc := "()Ljava/lang/Class;" } : Jvm.MethodName) ({ cls := "java/lang/Object", name := "getClass", desc := "()Ljava/lang/Class;" } : Jvm.MethodName)) ∈ lw_all := lw_g (lw_at lw_m3 64 rfl) rfl
theorem q1052 : (Jvm.Cond.selects "RosaryCarvers$8" ({ cls := "java/lang/Object", name := "equals", desc := "(Ljava/lang/Object;)Z" } : Jvm.MethodName) ({ cls := "java/lang/Object", name := "equals", desc := "(Ljava/lang/Object;)Z" } : Jvm.MethodName)) ∈ lw_all := lw_g (lw_at lw_m5 20 rfl) rfl
theorem q1528 : (Jvm.Cond.selects "RosaryCarvers$8" ({ cls := "RosaryCarvers$Deed", name := "does", desc := "(LRosaryCarvers$Shop;)I" } : Jvm.MethodName) ({ cls := "RosaryCarvers$8", name := "does", desc := "(LRosaryCarvers$Shop;)I" } : Jvm.MethodName)) ∈ lw_all := lw_g (lw_at lw_m7 16 rfl) rfl
theorem q1529 : (Jvm.Cond.instanceMethod ({ cls := "RosaryCarvers$8", name := "does", desc := "(LRosaryCarvers$Shop;)I" } : Jvm.MethodName)) ∈ lw_all := lw_g (lw_at lw_m7 17 rfl) rfl
theorem q1530 : (Jvm.Cond.code ({ cls := "RosaryCarvers$8", name := "does", desc := "(LRosaryCarvers$Shop;)I" } : Jvm.MethodName) prog_13_method_2_code (2 : Nat) (Option.some Jvm.ClassFile.FieldType.int)) ∈ lw_all := lw_g (lw_at lw_m7 18 rfl) rfl
theorem q1531 : (Jvm.Cond.methodLink "RosaryCarvers$8" (17 : Nat) ({ cls := "RosaryCarvers$Shop", name := "ties", desc := "(I)I" } : Jvm.MethodName)) ∈ lw_all := lw_g (lw_at lw_m7 19 rfl) rfl
theorem q1710 : (Jvm.Cond.instantiable "RosaryCarvers$8" (3 : Nat)) ∈ lw_all := lw_g (lw_at lw_m7 198 rfl) rfl
theorem q1712 : (Jvm.Cond.instanceMethod ({ cls := "RosaryCarvers$8", name := "<init>", desc := "(LRosaryCarvers;I)V" } : Jvm.MethodName)) ∈ lw_all := lw_g (lw_at lw_m7 200 rfl) rfl
theorem q1713 : (Jvm.Cond.code ({ cls := "RosaryCarvers$8", name := "<init>", desc := "(LRosaryCarvers;I)V" } : Jvm.MethodName) prog_13_method_1_code (3 : Nat) (Option.none : Option Jvm.ClassFile.FieldType)) ∈ lw_all := lw_g (lw_at lw_m7 201 rfl) rfl
theorem q1714 : (Jvm.Cond.methodLinkNest "RosaryCarvers$8" (11 : Nat) ({ cls := "RosaryCarvers$Deed", name := "<init>", desc := "(LRosaryCarvers;)V" } : Jvm.MethodName) "RosaryCarvers") ∈ lw_tbl := lw_at lw_m7 202 rfl
theorem q1715 : (Jvm.Cond.fieldLink "RosaryCarvers$8" (7 : Nat) "RosaryCarvers$8" "val$string" "I") ∈ lw_all := lw_g (lw_at lw_m7 203 rfl) rfl
theorem q1716 : (Jvm.Cond.fieldLink "RosaryCarvers$8" (1 : Nat) "RosaryCarvers$8" "this$0" "LRosaryCarvers;") ∈ lw_all := lw_g (lw_at lw_m7 204 rfl) rfl
theorem q1717 : (Jvm.Cond.laysFinal "RosaryCarvers$8" "RosaryCarvers$8" "val$string" "I") ∈ lw_all := lw_g (lw_at lw_m7 205 rfl) rfl
theorem q1718 : (Jvm.Cond.soleField "RosaryCarvers$8" "val$string") ∈ lw_all := lw_g (lw_at lw_m7 206 rfl) rfl
theorem q1719 : (Jvm.Cond.laysFinal "RosaryCarvers$8" "RosaryCarvers$8" "this$0" "LRosaryCarvers;") ∈ lw_all := lw_g (lw_at lw_m7 207 rfl) rfl
theorem q1720 : (Jvm.Cond.soleField "RosaryCarvers$8" "this$0") ∈ lw_all := lw_g (lw_at lw_m7 208 rfl) rfl
theorem q1721 : (Jvm.Cond.laysFinal "RosaryCarvers$8" "RosaryCarvers$Deed" "this$0" "LRosaryCarvers;") ∈ lw_all := lw_g (lw_at lw_m7 209 rfl) rfl
theorem q1722 : (Jvm.Cond.superclass "RosaryCarvers$8" "RosaryCarvers$Deed") ∈ lw_all := lw_g (lw_at lw_m7 210 rfl) rfl
theorem q1724 : (Jvm.Cond.sameMethod "RosaryCarvers$8" "RosaryCarvers$Deed" "done" "()I") ∈ lw_all := lw_g (lw_at lw_m7 212 rfl) rfl
theorem q1725 : (Jvm.Cond.selects "RosaryCarvers$8" ({ cls := "RosaryCarvers$8", name := "done", desc := "()I" } : Jvm.MethodName) ({ cls := "RosaryCarvers$Deed", name := "done", desc := "()I" } : Jvm.MethodName)) ∈ lw_all := lw_g (lw_at lw_m7 213 rfl) rfl
theorem q2828 : (Jvm.Cond.castable "RosaryCarvers$8" "java/lang/Object") ∈ lw_tbl := lw_at lw_m12 116 rfl
theorem in_X23 : ∀ w ∈ wsX230, w ∈ lw_all := lw_in wsX230 [1721, 1717, 1719] (by decide +kernel) (by decide +kernel)

/-! RosaryCarvers$9 -/
set_option maxRecDepth 100000
def RX24 : String := "RosaryCarvers$9"
def TX24 : u_T := fun k => match k with
  | 0 => ("RosaryCarvers$Deed", "this$0", "LRosaryCarvers;", true)
  | 1 => ("RosaryCarvers$9", "val$string", "I", true)
  | _ => ("RosaryCarvers$9", "this$0", "LRosaryCarvers;", true)
def tyX24 : Nat → FieldType := fun k => match k with
  | 0 => .object "RosaryCarvers"
  | 1 => .int
  | _ => .object "RosaryCarvers"
abbrev wsX240 : List Cond := u_ws RX24 TX24 3
-- two fields of one name: no nmX24
theorem tyX24_ok : ∀ k, k < 3 → parseFieldDescriptor (TX24 k).2.2.1 = some (tyX24 k) := by decide +kernel
abbrev cX24_does : ByteArray := prog_14_method_2_code
def yX24_does : MethodName := ⟨RX24, "does", "(LRosaryCarvers$Shop;)I"⟩
def dkwX24_does_0 : List UInt8 := [43, 42, 180, 0, 7, 182, 0, 17, 172]
abbrev dktX24_does_0 : List UInt8 := dkwX24_does_0 ++ []
theorem dksX24_does_0 : cX24_does.data.toList.drop 0 = dktX24_does_0 := by decide +kernel
theorem dX24_does_0 : decode cX24_does 0 = .ok (.aload_n 1, 1) := dk_43 (dk_at dksX24_does_0 0 rfl rfl)
theorem dX24_does_1 : decode cX24_does 1 = .ok (.aload_n 0, 1) := dk_42 (dk_at dksX24_does_0 1 rfl rfl)
theorem dX24_does_2 : decode cX24_does 2 = .ok (.getfield 7, 3) := dk_180 0 7 (dk_at dksX24_does_0 2 rfl rfl)
theorem dX24_does_5 : decode cX24_does 5 = .ok (.invokevirtual 17, 3) := dk_182 0 17 (dk_at dksX24_does_0 5 rfl rfl)
theorem dX24_does_8 : decode cX24_does 8 = .ok (.ireturn, 1) := dk_172 (dk_at dksX24_does_0 8 rfl rfl)
abbrev cX24_init : ByteArray := prog_14_method_1_code
def yX24_init : MethodName := ⟨RX24, "<init>", "(LRosaryCarvers;I)V"⟩
def dkwX24_init_0 : List UInt8 := [42, 43, 181, 0, 1, 42, 28, 181, 0, 7, 42, 43, 183, 0, 11, 177]
abbrev dktX24_init_0 : List UInt8 := dkwX24_init_0 ++ []
theorem dksX24_init_0 : cX24_init.data.toList.drop 0 = dktX24_init_0 := by decide +kernel
theorem dX24_init_0 : decode cX24_init 0 = .ok (.aload_n 0, 1) := dk_42 (dk_at dksX24_init_0 0 rfl rfl)
theorem dX24_init_1 : decode cX24_init 1 = .ok (.aload_n 1, 1) := dk_43 (dk_at dksX24_init_0 1 rfl rfl)
theorem dX24_init_2 : decode cX24_init 2 = .ok (.putfield 1, 3) := dk_181 0 1 (dk_at dksX24_init_0 2 rfl rfl)
theorem dX24_init_5 : decode cX24_init 5 = .ok (.aload_n 0, 1) := dk_42 (dk_at dksX24_init_0 5 rfl rfl)
theorem dX24_init_6 : decode cX24_init 6 = .ok (.iload_n 2, 1) := dk_28 (dk_at dksX24_init_0 6 rfl rfl)
theorem dX24_init_7 : decode cX24_init 7 = .ok (.putfield 7, 3) := dk_181 0 7 (dk_at dksX24_init_0 7 rfl rfl)
theorem dX24_init_10 : decode cX24_init 10 = .ok (.aload_n 0, 1) := dk_42 (dk_at dksX24_init_0 10 rfl rfl)
theorem dX24_init_11 : decode cX24_init 11 = .ok (.aload_n 1, 1) := dk_43 (dk_at dksX24_init_0 11 rfl rfl)
theorem dX24_init_12 : decode cX24_init 12 = .ok (.invokespecial 11, 3) := dk_183 0 11 (dk_at dksX24_init_0 12 rfl rfl)
theorem dX24_init_15 : decode cX24_init 15 = .ok (.return_, 1) := dk_177 (dk_at dksX24_init_0 15 rfl rfl)
theorem q119 : (Jvm.Cond.initialized "RosaryCarvers$9") ∈ lw_all := lw_g (lw_at lw_m1 47 rfl) rfl
theorem q617 : (Jvm.Cond.selects "RosaryCarvers$9" ({ cls := "java/lang/Object", name := "getClass", desc := "()Ljava/lang/Class;" } : Jvm.MethodName) ({ cls := "java/lang/Object", name := "getClass", desc := "()Ljava/lang/Class;" } : Jvm.MethodName)) ∈ lw_all := lw_g (lw_at lw_m3 65 rfl) rfl
theorem q1053 : (Jvm.Cond.selects "RosaryCarvers$9" ({ cls := "java/lang/Object", name := "equals", desc := "(Ljava/lang/Object;)Z" } : Jvm.MethodName) ({ cls := "java/lang/Object", name := "equals", desc := "(Ljava/lang/Object;)Z" } : Jvm.MethodName)) ∈ lw_all := lw_g (lw_at lw_m5 21 rfl) rfl
theorem q1532 : (Jvm.Cond.selects "RosaryCarvers$9" ({ cls := "RosaryCarvers$Deed", name := "does", desc := "(LRosaryCarvers$Shop;)I" } : Jvm.MethodName) ({ cls := "RosaryCarvers$9", name := "does", desc := "(LRosaryCarvers$Shop;)I" } : Jvm.MethodName)) ∈ lw_all := lw_g (lw_at lw_m7 20 rfl) rfl
theorem q1533 : (Jvm.Cond.instanceMethod ({ cls := "RosaryCarvers$9", name := "does", desc := "(LRosaryCarvers$Shop;)I" } : Jvm.MethodName)) ∈ lw_all := lw_g (lw_at lw_m7 21 rfl) rfl
theorem q1534 : (Jvm.Cond.code ({ cls := "RosaryCarvers$9", name := "does", desc := "(LRosaryCarvers$Shop;)I" } : Jvm.MethodName) prog_14_method_2_code (2 : Nat) (Option.some Jvm.ClassFile.FieldType.int)) ∈ lw_all := lw_g (lw_at lw_m7 22 rfl) rfl
theorem q1535 : (Jvm.Cond.methodLink "RosaryCarvers$9" (17 : Nat) ({ cls := "RosaryCarvers$Shop", name := "drops", desc := "(I)I" } : Jvm.MethodName)) ∈ lw_all := lw_g (lw_at lw_m7 23 rfl) rfl
theorem q1731 : (Jvm.Cond.instantiable "RosaryCarvers$9" (3 : Nat)) ∈ lw_all := lw_g (lw_at lw_m7 219 rfl) rfl
theorem q1733 : (Jvm.Cond.instanceMethod ({ cls := "RosaryCarvers$9", name := "<init>", desc := "(LRosaryCarvers;I)V" } : Jvm.MethodName)) ∈ lw_all := lw_g (lw_at lw_m7 221 rfl) rfl
theorem q1734 : (Jvm.Cond.code ({ cls := "RosaryCarvers$9", name := "<init>", desc := "(LRosaryCarvers;I)V" } : Jvm.MethodName) prog_14_method_1_code (3 : Nat) (Option.none : Option Jvm.ClassFile.FieldType)) ∈ lw_all := lw_g (lw_at lw_m7 222 rfl) rfl
theorem q1735 : (Jvm.Cond.methodLinkNest "RosaryCarvers$9" (11 : Nat) ({ cls := "RosaryCarvers$Deed", name := "<init>", desc := "(LRosaryCarvers;)V" } : Jvm.MethodName) "RosaryCarvers") ∈ lw_tbl := lw_at lw_m7 223 rfl
theorem q1736 : (Jvm.Cond.fieldLink "RosaryCarvers$9" (7 : Nat) "RosaryCarvers$9" "val$string" "I") ∈ lw_all := lw_g (lw_at lw_m7 224 rfl) rfl
theorem q1737 : (Jvm.Cond.fieldLink "RosaryCarvers$9" (1 : Nat) "RosaryCarvers$9" "this$0" "LRosaryCarvers;") ∈ lw_all := lw_g (lw_at lw_m7 225 rfl) rfl
theorem q1738 : (Jvm.Cond.laysFinal "RosaryCarvers$9" "RosaryCarvers$9" "val$string" "I") ∈ lw_all := lw_g (lw_at lw_m7 226 rfl) rfl
theorem q1739 : (Jvm.Cond.soleField "RosaryCarvers$9" "val$string") ∈ lw_all := lw_g (lw_at lw_m7 227 rfl) rfl
theorem q1740 : (Jvm.Cond.laysFinal "RosaryCarvers$9" "RosaryCarvers$9" "this$0" "LRosaryCarvers;") ∈ lw_all := lw_g (lw_at lw_m7 228 rfl) rfl
theorem q1741 : (Jvm.Cond.soleField "RosaryCarvers$9" "this$0") ∈ lw_all := lw_g (lw_at lw_m7 229 rfl) rfl
theorem q1742 : (Jvm.Cond.laysFinal "RosaryCarvers$9" "RosaryCarvers$Deed" "this$0" "LRosaryCarvers;") ∈ lw_all := lw_g (lw_at lw_m7 230 rfl) rfl
theorem q1743 : (Jvm.Cond.superclass "RosaryCarvers$9" "RosaryCarvers$Deed") ∈ lw_all := lw_g (lw_at lw_m7 231 rfl) rfl
theorem q1745 : (Jvm.Cond.sameMethod "RosaryCarvers$9" "RosaryCarvers$Deed" "done" "()I") ∈ lw_all := lw_g (lw_at lw_m7 233 rfl) rfl
theorem q1746 : (Jvm.Cond.selects "RosaryCarvers$9" ({ cls := "RosaryCarvers$9", name := "done", desc := "()I" } : Jvm.MethodName) ({ cls := "RosaryCarvers$Deed", name := "done", desc := "()I" } : Jvm.MethodName)) ∈ lw_all := lw_g (lw_at lw_m7 234 rfl) rfl
theorem q2829 : (Jvm.Cond.castable "RosaryCarvers$9" "java/lang/Object") ∈ lw_tbl := lw_at lw_m12 117 rfl
theorem in_X24 : ∀ w ∈ wsX240, w ∈ lw_all := lw_in wsX240 [1742, 1738, 1740] (by decide +kernel) (by decide +kernel)

/-! RosaryCarvers$10 -/
set_option maxRecDepth 100000
def RX25 : String := "RosaryCarvers$10"
def TX25 : u_T := fun k => match k with
  | 0 => ("RosaryCarvers$Deed", "this$0", "LRosaryCarvers;", true)
  | 1 => ("RosaryCarvers$10", "val$days", "I", true)
  | 2 => ("RosaryCarvers$10", "val$groups", "I", true)
  | 3 => ("RosaryCarvers$10", "val$fineness", "I", true)
  | 4 => ("RosaryCarvers$10", "val$coins", "I", true)
  | _ => ("RosaryCarvers$10", "this$0", "LRosaryCarvers;", true)
def tyX25 : Nat → FieldType := fun k => match k with
  | 0 => .object "RosaryCarvers"
  | 1 => .int
  | 2 => .int
  | 3 => .int
  | 4 => .int
  | _ => .object "RosaryCarvers"
abbrev wsX250 : List Cond := u_ws RX25 TX25 6
-- two fields of one name: no nmX25
theorem tyX25_ok : ∀ k, k < 6 → parseFieldDescriptor (TX25 k).2.2.1 = some (tyX25 k) := by decide +kernel
abbrev cX25_does : ByteArray := prog_3_method_2_code
def yX25_does : MethodName := ⟨RX25, "does", "(LRosaryCarvers$Shop;)I"⟩
def dkwX25_does_0 : List UInt8 := [43, 42, 180, 0, 7, 42, 180, 0, 11, 42, 180, 0, 14, 42, 180, 0, 17, 182, 0, 26, 172]
abbrev dktX25_does_0 : List UInt8 := dkwX25_does_0 ++ []
theorem dksX25_does_0 : cX25_does.data.toList.drop 0 = dktX25_does_0 := by decide +kernel
theorem dX25_does_0 : decode cX25_does 0 = .ok (.aload_n 1, 1) := dk_43 (dk_at dksX25_does_0 0 rfl rfl)
theorem dX25_does_1 : decode cX25_does 1 = .ok (.aload_n 0, 1) := dk_42 (dk_at dksX25_does_0 1 rfl rfl)
theorem dX25_does_2 : decode cX25_does 2 = .ok (.getfield 7, 3) := dk_180 0 7 (dk_at dksX25_does_0 2 rfl rfl)
theorem dX25_does_5 : decode cX25_does 5 = .ok (.aload_n 0, 1) := dk_42 (dk_at dksX25_does_0 5 rfl rfl)
theorem dX25_does_6 : decode cX25_does 6 = .ok (.getfield 11, 3) := dk_180 0 11 (dk_at dksX25_does_0 6 rfl rfl)
theorem dX25_does_9 : decode cX25_does 9 = .ok (.aload_n 0, 1) := dk_42 (dk_at dksX25_does_0 9 rfl rfl)
theorem dX25_does_10 : decode cX25_does 10 = .ok (.getfield 14, 3) := dk_180 0 14 (dk_at dksX25_does_0 10 rfl rfl)
theorem dX25_does_13 : decode cX25_does 13 = .ok (.aload_n 0, 1) := dk_42 (dk_at dksX25_does_0 13 rfl rfl)
theorem dX25_does_14 : decode cX25_does 14 = .ok (.getfield 17, 3) := dk_180 0 17 (dk_at dksX25_does_0 14 rfl rfl)
theorem dX25_does_17 : decode cX25_does 17 = .ok (.invokevirtual 26, 3) := dk_182 0 26 (dk_at dksX25_does_0 17 rfl rfl)
theorem dX25_does_20 : decode cX25_does 20 = .ok (.ireturn, 1) := dk_172 (dk_at dksX25_does_0 20 rfl rfl)
abbrev cX25_init : ByteArray := prog_3_method_1_code
def yX25_init : MethodName := ⟨RX25, "<init>", "(LRosaryCarvers;IIII)V"⟩
def dkwX25_init_1 : List UInt8 := [181, 0, 17, 42, 43, 183, 0, 20, 177]
abbrev dktX25_init_1 : List UInt8 := dkwX25_init_1 ++ []
def dkwX25_init_0 : List UInt8 := [42, 43, 181, 0, 1, 42, 28, 181, 0, 7, 42, 29, 181, 0, 11, 42, 21, 4, 181, 0, 14, 42, 21, 5]
abbrev dktX25_init_0 : List UInt8 := dkwX25_init_0 ++ dktX25_init_1
theorem dksX25_init_0 : cX25_init.data.toList.drop 0 = dktX25_init_0 := by decide +kernel
theorem dksX25_init_1 : cX25_init.data.toList.drop 24 = dktX25_init_1 := dk_seg dksX25_init_0 24 rfl rfl
theorem dX25_init_0 : decode cX25_init 0 = .ok (.aload_n 0, 1) := dk_42 (dk_at dksX25_init_0 0 rfl rfl)
theorem dX25_init_1 : decode cX25_init 1 = .ok (.aload_n 1, 1) := dk_43 (dk_at dksX25_init_0 1 rfl rfl)
theorem dX25_init_2 : decode cX25_init 2 = .ok (.putfield 1, 3) := dk_181 0 1 (dk_at dksX25_init_0 2 rfl rfl)
theorem dX25_init_5 : decode cX25_init 5 = .ok (.aload_n 0, 1) := dk_42 (dk_at dksX25_init_0 5 rfl rfl)
theorem dX25_init_6 : decode cX25_init 6 = .ok (.iload_n 2, 1) := dk_28 (dk_at dksX25_init_0 6 rfl rfl)
theorem dX25_init_7 : decode cX25_init 7 = .ok (.putfield 7, 3) := dk_181 0 7 (dk_at dksX25_init_0 7 rfl rfl)
theorem dX25_init_10 : decode cX25_init 10 = .ok (.aload_n 0, 1) := dk_42 (dk_at dksX25_init_0 10 rfl rfl)
theorem dX25_init_11 : decode cX25_init 11 = .ok (.iload_n 3, 1) := dk_29 (dk_at dksX25_init_0 11 rfl rfl)
theorem dX25_init_12 : decode cX25_init 12 = .ok (.putfield 11, 3) := dk_181 0 11 (dk_at dksX25_init_0 12 rfl rfl)
theorem dX25_init_15 : decode cX25_init 15 = .ok (.aload_n 0, 1) := dk_42 (dk_at dksX25_init_0 15 rfl rfl)
theorem dX25_init_16 : decode cX25_init 16 = .ok (.iload 4, 2) := dk_21 4 (dk_at dksX25_init_0 16 rfl rfl)
theorem dX25_init_18 : decode cX25_init 18 = .ok (.putfield 14, 3) := dk_181 0 14 (dk_at dksX25_init_0 18 rfl rfl)
theorem dX25_init_21 : decode cX25_init 21 = .ok (.aload_n 0, 1) := dk_42 (dk_at dksX25_init_0 21 rfl rfl)
theorem dX25_init_22 : decode cX25_init 22 = .ok (.iload 5, 2) := dk_21 5 (dk_at dksX25_init_0 22 rfl rfl)
theorem dX25_init_24 : decode cX25_init 24 = .ok (.putfield 17, 3) := dk_181 0 17 (dk_at dksX25_init_1 0 rfl rfl)
theorem dX25_init_27 : decode cX25_init 27 = .ok (.aload_n 0, 1) := dk_42 (dk_at dksX25_init_1 3 rfl rfl)
theorem dX25_init_28 : decode cX25_init 28 = .ok (.aload_n 1, 1) := dk_43 (dk_at dksX25_init_1 4 rfl rfl)
theorem dX25_init_29 : decode cX25_init 29 = .ok (.invokespecial 20, 3) := dk_183 0 20 (dk_at dksX25_init_1 5 rfl rfl)
theorem dX25_init_32 : decode cX25_init 32 = .ok (.return_, 1) := dk_177 (dk_at dksX25_init_1 8 rfl rfl)
theorem q120 : (Jvm.Cond.initialized "RosaryCarvers$10") ∈ lw_all := lw_g (lw_at lw_m1 48 rfl) rfl
theorem q606 : (Jvm.Cond.selects "RosaryCarvers$10" ({ cls := "java/lang/Object", name := "getClass", desc := "()Ljava/lang/Class;" } : Jvm.MethodName) ({ cls := "java/lang/Object", name := "getClass", desc := "()Ljava/lang/Class;" } : Jvm.MethodName)) ∈ lw_all := lw_g (lw_at lw_m3 54 rfl) rfl
theorem q785 : (Jvm.Cond.selects "RosaryCarvers$10" ({ cls := "RosaryCarvers$Deed", name := "does", desc := "(LRosaryCarvers$Shop;)I" } : Jvm.MethodName) ({ cls := "RosaryCarvers$10", name := "does", desc := "(LRosaryCarvers$Shop;)I" } : Jvm.MethodName)) ∈ lw_all := lw_g (lw_at lw_m3 233 rfl) rfl
theorem q786 : (Jvm.Cond.instanceMethod ({ cls := "RosaryCarvers$10", name := "does", desc := "(LRosaryCarvers$Shop;)I" } : Jvm.MethodName)) ∈ lw_all := lw_g (lw_at lw_m3 234 rfl) rfl
theorem q787 : (Jvm.Cond.code ({ cls := "RosaryCarvers$10", name := "does", desc := "(LRosaryCarvers$Shop;)I" } : Jvm.MethodName) prog_3_method_2_code (2 : Nat) (Option.some Jvm.ClassFile.FieldType.int)) ∈ lw_all := lw_g (lw_at lw_m3 235 rfl) rfl
theorem q788 : (Jvm.Cond.methodLink "RosaryCarvers$10" (26 : Nat) ({ cls := "RosaryCarvers$Shop", name := "tells", desc := "(IIII)I" } : Jvm.MethodName)) ∈ lw_all := lw_g (lw_at lw_m3 236 rfl) rfl
theorem q1042 : (Jvm.Cond.selects "RosaryCarvers$10" ({ cls := "java/lang/Object", name := "equals", desc := "(Ljava/lang/Object;)Z" } : Jvm.MethodName) ({ cls := "java/lang/Object", name := "equals", desc := "(Ljava/lang/Object;)Z" } : Jvm.MethodName)) ∈ lw_all := lw_g (lw_at lw_m5 10 rfl) rfl
theorem q1752 : (Jvm.Cond.instantiable "RosaryCarvers$10" (6 : Nat)) ∈ lw_all := lw_g (lw_at lw_m8 0 rfl) rfl
theorem q1754 : (Jvm.Cond.instanceMethod ({ cls := "RosaryCarvers$10", name := "<init>", desc := "(LRosaryCarvers;IIII)V" } : Jvm.MethodName)) ∈ lw_all := lw_g (lw_at lw_m8 2 rfl) rfl
theorem q1755 : (Jvm.Cond.code ({ cls := "RosaryCarvers$10", name := "<init>", desc := "(LRosaryCarvers;IIII)V" } : Jvm.MethodName) prog_3_method_1_code (6 : Nat) (Option.none : Option Jvm.ClassFile.FieldType)) ∈ lw_all := lw_g (lw_at lw_m8 3 rfl) rfl
theorem q1756 : (Jvm.Cond.methodLinkNest "RosaryCarvers$10" (20 : Nat) ({ cls := "RosaryCarvers$Deed", name := "<init>", desc := "(LRosaryCarvers;)V" } : Jvm.MethodName) "RosaryCarvers") ∈ lw_tbl := lw_at lw_m8 4 rfl
theorem q1757 : (Jvm.Cond.fieldLink "RosaryCarvers$10" (7 : Nat) "RosaryCarvers$10" "val$days" "I") ∈ lw_all := lw_g (lw_at lw_m8 5 rfl) rfl
theorem q1758 : (Jvm.Cond.fieldLink "RosaryCarvers$10" (11 : Nat) "RosaryCarvers$10" "val$groups" "I") ∈ lw_all := lw_g (lw_at lw_m8 6 rfl) rfl
theorem q1759 : (Jvm.Cond.fieldLink "RosaryCarvers$10" (14 : Nat) "RosaryCarvers$10" "val$fineness" "I") ∈ lw_all := lw_g (lw_at lw_m8 7 rfl) rfl
theorem q1760 : (Jvm.Cond.fieldLink "RosaryCarvers$10" (17 : Nat) "RosaryCarvers$10" "val$coins" "I") ∈ lw_all := lw_g (lw_at lw_m8 8 rfl) rfl
theorem q1761 : (Jvm.Cond.fieldLink "RosaryCarvers$10" (1 : Nat) "RosaryCarvers$10" "this$0" "LRosaryCarvers;") ∈ lw_all := lw_g (lw_at lw_m8 9 rfl) rfl
theorem q1762 : (Jvm.Cond.laysFinal "RosaryCarvers$10" "RosaryCarvers$10" "val$days" "I") ∈ lw_all := lw_g (lw_at lw_m8 10 rfl) rfl
theorem q1763 : (Jvm.Cond.soleField "RosaryCarvers$10" "val$days") ∈ lw_all := lw_g (lw_at lw_m8 11 rfl) rfl
theorem q1764 : (Jvm.Cond.laysFinal "RosaryCarvers$10" "RosaryCarvers$10" "val$groups" "I") ∈ lw_all := lw_g (lw_at lw_m8 12 rfl) rfl
theorem q1765 : (Jvm.Cond.soleField "RosaryCarvers$10" "val$groups") ∈ lw_all := lw_g (lw_at lw_m8 13 rfl) rfl
theorem q1766 : (Jvm.Cond.laysFinal "RosaryCarvers$10" "RosaryCarvers$10" "val$fineness" "I") ∈ lw_all := lw_g (lw_at lw_m8 14 rfl) rfl
theorem q1767 : (Jvm.Cond.soleField "RosaryCarvers$10" "val$fineness") ∈ lw_all := lw_g (lw_at lw_m8 15 rfl) rfl
theorem q1768 : (Jvm.Cond.laysFinal "RosaryCarvers$10" "RosaryCarvers$10" "val$coins" "I") ∈ lw_all := lw_g (lw_at lw_m8 16 rfl) rfl
theorem q1769 : (Jvm.Cond.soleField "RosaryCarvers$10" "val$coins") ∈ lw_all := lw_g (lw_at lw_m8 17 rfl) rfl
theorem q1770 : (Jvm.Cond.laysFinal "RosaryCarvers$10" "RosaryCarvers$10" "this$0" "LRosaryCarvers;") ∈ lw_all := lw_g (lw_at lw_m8 18 rfl) rfl
theorem q1771 : (Jvm.Cond.soleField "RosaryCarvers$10" "this$0") ∈ lw_all := lw_g (lw_at lw_m8 19 rfl) rfl
theorem q1772 : (Jvm.Cond.laysFinal "RosaryCarvers$10" "RosaryCarvers$Deed" "this$0" "LRosaryCarvers;") ∈ lw_all := lw_g (lw_at lw_m8 20 rfl) rfl
theorem q1773 : (Jvm.Cond.superclass "RosaryCarvers$10" "RosaryCarvers$Deed") ∈ lw_all := lw_g (lw_at lw_m8 21 rfl) rfl
theorem q1775 : (Jvm.Cond.sameMethod "RosaryCarvers$10" "RosaryCarvers$Deed" "done" "()I") ∈ lw_all := lw_g (lw_at lw_m8 23 rfl) rfl
theorem q1776 : (Jvm.Cond.selects "RosaryCarvers$10" ({ cls := "RosaryCarvers$10", name := "done", desc := "()I" } : Jvm.MethodName) ({ cls := "RosaryCarvers$Deed", name := "done", desc := "()I" } : Jvm.MethodName)) ∈ lw_all := lw_g (lw_at lw_m8 24 rfl) rfl
theorem q2830 : (Jvm.Cond.castable "RosaryCarvers$10" "java/lang/Object") ∈ lw_tbl := lw_at lw_m12 118 rfl
theorem in_X25 : ∀ w ∈ wsX250, w ∈ lw_all := lw_in wsX250 [1772, 1762, 1764, 1766, 1768, 1770] (by decide +kernel) (by decide +kernel)

/-! RosaryCarvers$11 -/
set_option maxRecDepth 100000
def RX26 : String := "RosaryCarvers$11"
def TX26 : u_T := fun k => match k with
  | 0 => ("RosaryCarvers$Deed", "this$0", "LRosaryCarvers;", true)
  | _ => ("RosaryCarvers$11", "this$0", "LRosaryCarvers;", true)
def tyX26 : Nat → FieldType := fun k => match k with
  | 0 => .object "RosaryCarvers"
  | _ => .object "RosaryCarvers"
abbrev wsX260 : List Cond := u_ws RX26 TX26 2
-- two fields of one name: no nmX26
theorem tyX26_ok : ∀ k, k < 2 → parseFieldDescriptor (TX26 k).2.2.1 = some (tyX26 k) := by decide +kernel
abbrev cX26_does : ByteArray := prog_4_method_2_code
def yX26_does : MethodName := ⟨RX26, "does", "(LRosaryCarvers$Shop;)I"⟩
theorem dX26_does_0 : decode cX26_does 0 = .ok (.aload_n 1, 1) := by decide +kernel
theorem dX26_does_1 : decode cX26_does 1 = .ok (.invokevirtual 13, 3) := by decide +kernel
theorem dX26_does_4 : decode cX26_does 4 = .ok (.ireturn, 1) := by decide +kernel
abbrev cX26_init : ByteArray := prog_4_method_1_code
def yX26_init : MethodName := ⟨RX26, "<init>", "(LRosaryCarvers;)V"⟩
def dkwX26_init_0 : List UInt8 := [42, 43, 181, 0, 1, 42, 43, 183, 0, 7, 177]
abbrev dktX26_init_0 : List UInt8 := dkwX26_init_0 ++ []
theorem dksX26_init_0 : cX26_init.data.toList.drop 0 = dktX26_init_0 := by decide +kernel
theorem dX26_init_0 : decode cX26_init 0 = .ok (.aload_n 0, 1) := dk_42 (dk_at dksX26_init_0 0 rfl rfl)
theorem dX26_init_1 : decode cX26_init 1 = .ok (.aload_n 1, 1) := dk_43 (dk_at dksX26_init_0 1 rfl rfl)
theorem dX26_init_2 : decode cX26_init 2 = .ok (.putfield 1, 3) := dk_181 0 1 (dk_at dksX26_init_0 2 rfl rfl)
theorem dX26_init_5 : decode cX26_init 5 = .ok (.aload_n 0, 1) := dk_42 (dk_at dksX26_init_0 5 rfl rfl)
theorem dX26_init_6 : decode cX26_init 6 = .ok (.aload_n 1, 1) := dk_43 (dk_at dksX26_init_0 6 rfl rfl)
theorem dX26_init_7 : decode cX26_init 7 = .ok (.invokespecial 7, 3) := dk_183 0 7 (dk_at dksX26_init_0 7 rfl rfl)
theorem dX26_init_10 : decode cX26_init 10 = .ok (.return_, 1) := dk_177 (dk_at dksX26_init_0 10 rfl rfl)
theorem q121 : (Jvm.Cond.initialized "RosaryCarvers$11") ∈ lw_all := lw_g (lw_at lw_m1 49 rfl) rfl
theorem q607 : (Jvm.Cond.selects "RosaryCarvers$11" ({ cls := "java/lang/Object", name := "getClass", desc := "()Ljava/lang/Class;" } : Jvm.MethodName) ({ cls := "java/lang/Object", name := "getClass", desc := "()Ljava/lang/Class;" } : Jvm.MethodName)) ∈ lw_all := lw_g (lw_at lw_m3 55 rfl) rfl
theorem q857 : (Jvm.Cond.selects "RosaryCarvers$11" ({ cls := "RosaryCarvers$Deed", name := "does", desc := "(LRosaryCarvers$Shop;)I" } : Jvm.MethodName) ({ cls := "RosaryCarvers$11", name := "does", desc := "(LRosaryCarvers$Shop;)I" } : Jvm.MethodName)) ∈ lw_all := lw_g (lw_at lw_m4 65 rfl) rfl
theorem q858 : (Jvm.Cond.instanceMethod ({ cls := "RosaryCarvers$11", name := "does", desc := "(LRosaryCarvers$Shop;)I" } : Jvm.MethodName)) ∈ lw_all := lw_g (lw_at lw_m4 66 rfl) rfl
theorem q859 : (Jvm.Cond.code ({ cls := "RosaryCarvers$11", name := "does", desc := "(LRosaryCarvers$Shop;)I" } : Jvm.MethodName) prog_4_method_2_code (2 : Nat) (Option.some Jvm.ClassFile.FieldType.int)) ∈ lw_all := lw_g (lw_at lw_m4 67 rfl) rfl
theorem q860 : (Jvm.Cond.methodLink "RosaryCarvers$11" (13 : Nat) ({ cls := "RosaryCarvers$Shop", name := "mends", desc := "()I" } : Jvm.MethodName)) ∈ lw_all := lw_g (lw_at lw_m4 68 rfl) rfl
theorem q1043 : (Jvm.Cond.selects "RosaryCarvers$11" ({ cls := "java/lang/Object", name := "equals", desc := "(Ljava/lang/Object;)Z" } : Jvm.MethodName) ({ cls := "java/lang/Object", name := "equals", desc := "(Ljava/lang/Object;)Z" } : Jvm.MethodName)) ∈ lw_all := lw_g (lw_at lw_m5 11 rfl) rfl
theorem q1782 : (Jvm.Cond.instantiable "RosaryCarvers$11" (2 : Nat)) ∈ lw_all := lw_g (lw_at lw_m8 30 rfl) rfl
theorem q1784 : (Jvm.Cond.instanceMethod ({ cls := "RosaryCarvers$11", name := "<init>", desc := "(LRosaryCarvers;)V" } : Jvm.MethodName)) ∈ lw_all := lw_g (lw_at lw_m8 32 rfl) rfl
theorem q1785 : (Jvm.Cond.code ({ cls := "RosaryCarvers$11", name := "<init>", desc := "(LRosaryCarvers;)V" } : Jvm.MethodName) prog_4_method_1_code (2 : Nat) (Option.none : Option Jvm.ClassFile.FieldType)) ∈ lw_all := lw_g (lw_at lw_m8 33 rfl) rfl
theorem q1786 : (Jvm.Cond.methodLinkNest "RosaryCarvers$11" (7 : Nat) ({ cls := "RosaryCarvers$Deed", name := "<init>", desc := "(LRosaryCarvers;)V" } : Jvm.MethodName) "RosaryCarvers") ∈ lw_tbl := lw_at lw_m8 34 rfl
theorem q1787 : (Jvm.Cond.fieldLink "RosaryCarvers$11" (1 : Nat) "RosaryCarvers$11" "this$0" "LRosaryCarvers;") ∈ lw_all := lw_g (lw_at lw_m8 35 rfl) rfl
theorem q1788 : (Jvm.Cond.laysFinal "RosaryCarvers$11" "RosaryCarvers$11" "this$0" "LRosaryCarvers;") ∈ lw_all := lw_g (lw_at lw_m8 36 rfl) rfl
theorem q1789 : (Jvm.Cond.soleField "RosaryCarvers$11" "this$0") ∈ lw_all := lw_g (lw_at lw_m8 37 rfl) rfl
theorem q1790 : (Jvm.Cond.laysFinal "RosaryCarvers$11" "RosaryCarvers$Deed" "this$0" "LRosaryCarvers;") ∈ lw_all := lw_g (lw_at lw_m8 38 rfl) rfl
theorem q1791 : (Jvm.Cond.superclass "RosaryCarvers$11" "RosaryCarvers$Deed") ∈ lw_all := lw_g (lw_at lw_m8 39 rfl) rfl
theorem q1793 : (Jvm.Cond.sameMethod "RosaryCarvers$11" "RosaryCarvers$Deed" "done" "()I") ∈ lw_all := lw_g (lw_at lw_m8 41 rfl) rfl
theorem q1794 : (Jvm.Cond.selects "RosaryCarvers$11" ({ cls := "RosaryCarvers$11", name := "done", desc := "()I" } : Jvm.MethodName) ({ cls := "RosaryCarvers$Deed", name := "done", desc := "()I" } : Jvm.MethodName)) ∈ lw_all := lw_g (lw_at lw_m8 42 rfl) rfl
theorem q2836 : (Jvm.Cond.castable "RosaryCarvers$11" "java/lang/Object") ∈ lw_tbl := lw_at lw_m12 124 rfl
theorem in_X26 : ∀ w ∈ wsX260, w ∈ lw_all := lw_in wsX260 [1790, 1788] (by decide +kernel) (by decide +kernel)

/-! RosaryCarvers$12 -/
set_option maxRecDepth 100000
def RX27 : String := "RosaryCarvers$12"
def TX27 : u_T := fun k => match k with
  | 0 => ("RosaryCarvers$Deed", "this$0", "LRosaryCarvers;", true)
  | 1 => ("RosaryCarvers$12", "val$days", "I", true)
  | _ => ("RosaryCarvers$12", "this$0", "LRosaryCarvers;", true)
def tyX27 : Nat → FieldType := fun k => match k with
  | 0 => .object "RosaryCarvers"
  | 1 => .int
  | _ => .object "RosaryCarvers"
abbrev wsX270 : List Cond := u_ws RX27 TX27 3
-- two fields of one name: no nmX27
theorem tyX27_ok : ∀ k, k < 3 → parseFieldDescriptor (TX27 k).2.2.1 = some (tyX27 k) := by decide +kernel
abbrev cX27_does : ByteArray := prog_5_method_2_code
def yX27_does : MethodName := ⟨RX27, "does", "(LRosaryCarvers$Shop;)I"⟩
def dkwX27_does_0 : List UInt8 := [43, 42, 180, 0, 7, 182, 0, 17, 172]
abbrev dktX27_does_0 : List UInt8 := dkwX27_does_0 ++ []
theorem dksX27_does_0 : cX27_does.data.toList.drop 0 = dktX27_does_0 := by decide +kernel
theorem dX27_does_0 : decode cX27_does 0 = .ok (.aload_n 1, 1) := dk_43 (dk_at dksX27_does_0 0 rfl rfl)
theorem dX27_does_1 : decode cX27_does 1 = .ok (.aload_n 0, 1) := dk_42 (dk_at dksX27_does_0 1 rfl rfl)
theorem dX27_does_2 : decode cX27_does 2 = .ok (.getfield 7, 3) := dk_180 0 7 (dk_at dksX27_does_0 2 rfl rfl)
theorem dX27_does_5 : decode cX27_does 5 = .ok (.invokevirtual 17, 3) := dk_182 0 17 (dk_at dksX27_does_0 5 rfl rfl)
theorem dX27_does_8 : decode cX27_does 8 = .ok (.ireturn, 1) := dk_172 (dk_at dksX27_does_0 8 rfl rfl)
abbrev cX27_init : ByteArray := prog_5_method_1_code
def yX27_init : MethodName := ⟨RX27, "<init>", "(LRosaryCarvers;I)V"⟩
def dkwX27_init_0 : List UInt8 := [42, 43, 181, 0, 1, 42, 28, 181, 0, 7, 42, 43, 183, 0, 11, 177]
abbrev dktX27_init_0 : List UInt8 := dkwX27_init_0 ++ []
theorem dksX27_init_0 : cX27_init.data.toList.drop 0 = dktX27_init_0 := by decide +kernel
theorem dX27_init_0 : decode cX27_init 0 = .ok (.aload_n 0, 1) := dk_42 (dk_at dksX27_init_0 0 rfl rfl)
theorem dX27_init_1 : decode cX27_init 1 = .ok (.aload_n 1, 1) := dk_43 (dk_at dksX27_init_0 1 rfl rfl)
theorem dX27_init_2 : decode cX27_init 2 = .ok (.putfield 1, 3) := dk_181 0 1 (dk_at dksX27_init_0 2 rfl rfl)
theorem dX27_init_5 : decode cX27_init 5 = .ok (.aload_n 0, 1) := dk_42 (dk_at dksX27_init_0 5 rfl rfl)
theorem dX27_init_6 : decode cX27_init 6 = .ok (.iload_n 2, 1) := dk_28 (dk_at dksX27_init_0 6 rfl rfl)
theorem dX27_init_7 : decode cX27_init 7 = .ok (.putfield 7, 3) := dk_181 0 7 (dk_at dksX27_init_0 7 rfl rfl)
theorem dX27_init_10 : decode cX27_init 10 = .ok (.aload_n 0, 1) := dk_42 (dk_at dksX27_init_0 10 rfl rfl)
theorem dX27_init_11 : decode cX27_init 11 = .ok (.aload_n 1, 1) := dk_43 (dk_at dksX27_init_0 11 rfl rfl)
theorem dX27_init_12 : decode cX27_init 12 = .ok (.invokespecial 11, 3) := dk_183 0 11 (dk_at dksX27_init_0 12 rfl rfl)
theorem dX27_init_15 : decode cX27_init 15 = .ok (.return_, 1) := dk_177 (dk_at dksX27_init_0 15 rfl rfl)
theorem q122 : (Jvm.Cond.initialized "RosaryCarvers$12") ∈ lw_all := lw_g (lw_at lw_m1 50 rfl) rfl
theorem q608 : (Jvm.Cond.selects "RosaryCarvers$12" ({ cls := "java/lang/Object", name := "getClass", desc := "()Ljava/lang/Class;" } : Jvm.MethodName) ({ cls := "java/lang/Object", name := "getClass", desc := "()Ljava/lang/Class;" } : Jvm.MethodName)) ∈ lw_all := lw_g (lw_at lw_m3 56 rfl) rfl
theorem q1044 : (Jvm.Cond.selects "RosaryCarvers$12" ({ cls := "java/lang/Object", name := "equals", desc := "(Ljava/lang/Object;)Z" } : Jvm.MethodName) ({ cls := "java/lang/Object", name := "equals", desc := "(Ljava/lang/Object;)Z" } : Jvm.MethodName)) ∈ lw_all := lw_g (lw_at lw_m5 12 rfl) rfl
theorem q1111 : (Jvm.Cond.selects "RosaryCarvers$12" ({ cls := "RosaryCarvers$Deed", name := "does", desc := "(LRosaryCarvers$Shop;)I" } : Jvm.MethodName) ({ cls := "RosaryCarvers$12", name := "does", desc := "(LRosaryCarvers$Shop;)I" } : Jvm.MethodName)) ∈ lw_all := lw_g (lw_at lw_m5 79 rfl) rfl
theorem q1112 : (Jvm.Cond.instanceMethod ({ cls := "RosaryCarvers$12", name := "does", desc := "(LRosaryCarvers$Shop;)I" } : Jvm.MethodName)) ∈ lw_all := lw_g (lw_at lw_m5 80 rfl) rfl
theorem q1113 : (Jvm.Cond.code ({ cls := "RosaryCarvers$12", name := "does", desc := "(LRosaryCarvers$Shop;)I" } : Jvm.MethodName) prog_5_method_2_code (2 : Nat) (Option.some Jvm.ClassFile.FieldType.int)) ∈ lw_all := lw_g (lw_at lw_m5 81 rfl) rfl
theorem q1114 : (Jvm.Cond.methodLink "RosaryCarvers$12" (17 : Nat) ({ cls := "RosaryCarvers$Shop", name := "passes", desc := "(I)I" } : Jvm.MethodName)) ∈ lw_all := lw_g (lw_at lw_m5 82 rfl) rfl
theorem q1800 : (Jvm.Cond.instantiable "RosaryCarvers$12" (3 : Nat)) ∈ lw_all := lw_g (lw_at lw_m8 48 rfl) rfl
theorem q1802 : (Jvm.Cond.instanceMethod ({ cls := "RosaryCarvers$12", name := "<init>", desc := "(LRosaryCarvers;I)V" } : Jvm.MethodName)) ∈ lw_all := lw_g (lw_at lw_m8 50 rfl) rfl
theorem q1803 : (Jvm.Cond.code ({ cls := "RosaryCarvers$12", name := "<init>", desc := "(LRosaryCarvers;I)V" } : Jvm.MethodName) prog_5_method_1_code (3 : Nat) (Option.none : Option Jvm.ClassFile.FieldType)) ∈ lw_all := lw_g (lw_at lw_m8 51 rfl) rfl
theorem q1804 : (Jvm.Cond.methodLinkNest "RosaryCarvers$12" (11 : Nat) ({ cls := "RosaryCarvers$Deed", name := "<init>", desc := "(LRosaryCarvers;)V" } : Jvm.MethodName) "RosaryCarvers") ∈ lw_tbl := lw_at lw_m8 52 rfl
theorem q1805 : (Jvm.Cond.fieldLink "RosaryCarvers$12" (7 : Nat) "RosaryCarvers$12" "val$days" "I") ∈ lw_all := lw_g (lw_at lw_m8 53 rfl) rfl
theorem q1806 : (Jvm.Cond.fieldLink "RosaryCarvers$12" (1 : Nat) "RosaryCarvers$12" "this$0" "LRosaryCarvers;") ∈ lw_all := lw_g (lw_at lw_m8 54 rfl) rfl
theorem q1807 : (Jvm.Cond.laysFinal "RosaryCarvers$12" "RosaryCarvers$12" "val$days" "I") ∈ lw_all := lw_g (lw_at lw_m8 55 rfl) rfl
theorem q1808 : (Jvm.Cond.soleField "RosaryCarvers$12" "val$days") ∈ lw_all := lw_g (lw_at lw_m8 56 rfl) rfl
theorem q1809 : (Jvm.Cond.laysFinal "RosaryCarvers$12" "RosaryCarvers$12" "this$0" "LRosaryCarvers;") ∈ lw_all := lw_g (lw_at lw_m8 57 rfl) rfl
theorem q1810 : (Jvm.Cond.soleField "RosaryCarvers$12" "this$0") ∈ lw_all := lw_g (lw_at lw_m8 58 rfl) rfl
theorem q1811 : (Jvm.Cond.laysFinal "RosaryCarvers$12" "RosaryCarvers$Deed" "this$0" "LRosaryCarvers;") ∈ lw_all := lw_g (lw_at lw_m8 59 rfl) rfl
theorem q1812 : (Jvm.Cond.superclass "RosaryCarvers$12" "RosaryCarvers$Deed") ∈ lw_all := lw_g (lw_at lw_m8 60 rfl) rfl
theorem q1814 : (Jvm.Cond.sameMethod "RosaryCarvers$12" "RosaryCarvers$Deed" "done" "()I") ∈ lw_all := lw_g (lw_at lw_m8 62 rfl) rfl
theorem q1815 : (Jvm.Cond.selects "RosaryCarvers$12" ({ cls := "RosaryCarvers$12", name := "done", desc := "()I" } : Jvm.MethodName) ({ cls := "RosaryCarvers$Deed", name := "done", desc := "()I" } : Jvm.MethodName)) ∈ lw_all := lw_g (lw_at lw_m8 63 rfl) rfl
theorem q2837 : (Jvm.Cond.castable "RosaryCarvers$12" "java/lang/Object") ∈ lw_tbl := lw_at lw_m12 125 rfl
theorem in_X27 : ∀ w ∈ wsX270, w ∈ lw_all := lw_in wsX270 [1811, 1807, 1809] (by decide +kernel) (by decide +kernel)

/-! RosaryCarvers$Reader -/
set_option maxRecDepth 100000
def RX28 : String := "RosaryCarvers$Reader"
def TX28 : u_T := fun k => match k with
  | 0 => ("RosaryCarvers$Reader", "words", "[Ljava/lang/String;", true)
  | 1 => ("RosaryCarvers$Reader", "many", "[I", true)
  | 2 => ("RosaryCarvers$Reader", "at", "I", false)
  | _ => ("RosaryCarvers$Reader", "this$0", "LRosaryCarvers;", true)
def tyX28 : Nat → FieldType := fun k => match k with
  | 0 => .array (.object "java/lang/String")
  | 1 => .array .int
  | 2 => .int
  | _ => .object "RosaryCarvers"
abbrev wsX280 : List Cond := u_ws RX28 TX28 4
theorem nmX28 : ∀ a, a < 4 → ∀ b, b < 4 → a ≠ b → (TX28 a).2.1 ≠ (TX28 b).2.1 := by decide +kernel
theorem tyX28_ok : ∀ k, k < 4 → parseFieldDescriptor (TX28 k).2.2.1 = some (tyX28 k) := by decide +kernel
abbrev cX28_init : ByteArray := prog_27_method_1_code
def yX28_init : MethodName := ⟨RX28, "<init>", "(LRosaryCarvers;)V"⟩
def dkwX28_init_4 : List UInt8 := [16, 7, 4, 79, 181, 0, 37, 177]
abbrev dktX28_init_4 : List UInt8 := dkwX28_init_4 ++ []
def dkwX28_init_3 : List UInt8 := [79, 89, 5, 5, 79, 89, 6, 5, 79, 89, 7, 4, 79, 89, 8, 4, 79, 89, 16, 6, 3, 79, 89]
abbrev dktX28_init_3 : List UInt8 := dkwX28_init_3 ++ dktX28_init_4
def dkwX28_init_2 : List UInt8 := [18, 29, 83, 89, 16, 7, 18, 31, 83, 181, 0, 33, 42, 16, 8, 188, 10, 89, 3, 5, 79, 89, 4, 5]
abbrev dktX28_init_2 : List UInt8 := dkwX28_init_2 ++ dktX28_init_3
def dkwX28_init_1 : List UInt8 := [83, 89, 5, 18, 21, 83, 89, 6, 18, 23, 83, 89, 7, 18, 25, 83, 89, 8, 18, 27, 83, 89, 16, 6]
abbrev dktX28_init_1 : List UInt8 := dkwX28_init_1 ++ dktX28_init_2
def dkwX28_init_0 : List UInt8 := [42, 43, 181, 0, 3, 42, 183, 0, 9, 42, 16, 8, 189, 0, 15, 89, 3, 18, 17, 83, 89, 4, 18, 19]
abbrev dktX28_init_0 : List UInt8 := dkwX28_init_0 ++ dktX28_init_1
theorem dksX28_init_0 : cX28_init.data.toList.drop 0 = dktX28_init_0 := by decide +kernel
theorem dksX28_init_1 : cX28_init.data.toList.drop 24 = dktX28_init_1 := dk_seg dksX28_init_0 24 rfl rfl
theorem dksX28_init_2 : cX28_init.data.toList.drop 48 = dktX28_init_2 := dk_seg dksX28_init_1 24 rfl rfl
theorem dksX28_init_3 : cX28_init.data.toList.drop 72 = dktX28_init_3 := dk_seg dksX28_init_2 24 rfl rfl
theorem dksX28_init_4 : cX28_init.data.toList.drop 95 = dktX28_init_4 := dk_seg dksX28_init_3 23 rfl rfl
theorem dX28_init_0 : decode cX28_init 0 = .ok (.aload_n 0, 1) := dk_42 (dk_at dksX28_init_0 0 rfl rfl)
theorem dX28_init_1 : decode cX28_init 1 = .ok (.aload_n 1, 1) := dk_43 (dk_at dksX28_init_0 1 rfl rfl)
theorem dX28_init_2 : decode cX28_init 2 = .ok (.putfield 3, 3) := dk_181 0 3 (dk_at dksX28_init_0 2 rfl rfl)
theorem dX28_init_5 : decode cX28_init 5 = .ok (.aload_n 0, 1) := dk_42 (dk_at dksX28_init_0 5 rfl rfl)
theorem dX28_init_6 : decode cX28_init 6 = .ok (.invokespecial 9, 3) := dk_183 0 9 (dk_at dksX28_init_0 6 rfl rfl)
theorem dX28_init_9 : decode cX28_init 9 = .ok (.aload_n 0, 1) := dk_42 (dk_at dksX28_init_0 9 rfl rfl)
theorem dX28_init_10 : decode cX28_init 10 = .ok (.bipush 8, 2) := dk_16 8 (dk_at dksX28_init_0 10 rfl rfl)
theorem dX28_init_12 : decode cX28_init 12 = .ok (.anewarray 15, 3) := dk_189 0 15 (dk_at dksX28_init_0 12 rfl rfl)
theorem dX28_init_15 : decode cX28_init 15 = .ok (.dup, 1) := dk_89 (dk_at dksX28_init_0 15 rfl rfl)
theorem dX28_init_16 : decode cX28_init 16 = .ok (.iconst 0, 1) := dk_3 (dk_at dksX28_init_0 16 rfl rfl)
theorem dX28_init_17 : decode cX28_init 17 = .ok (.ldc 17, 2) := dk_18 17 (dk_at dksX28_init_0 17 rfl rfl)
theorem dX28_init_19 : decode cX28_init 19 = .ok (.aastore, 1) := dk_83 (dk_at dksX28_init_0 19 rfl rfl)
theorem dX28_init_20 : decode cX28_init 20 = .ok (.dup, 1) := dk_89 (dk_at dksX28_init_0 20 rfl rfl)
theorem dX28_init_21 : decode cX28_init 21 = .ok (.iconst 1, 1) := dk_4 (dk_at dksX28_init_0 21 rfl rfl)
theorem dX28_init_22 : decode cX28_init 22 = .ok (.ldc 19, 2) := dk_18 19 (dk_at dksX28_init_0 22 rfl rfl)
theorem dX28_init_24 : decode cX28_init 24 = .ok (.aastore, 1) := dk_83 (dk_at dksX28_init_1 0 rfl rfl)
theorem dX28_init_25 : decode cX28_init 25 = .ok (.dup, 1) := dk_89 (dk_at dksX28_init_1 1 rfl rfl)
theorem dX28_init_26 : decode cX28_init 26 = .ok (.iconst 2, 1) := dk_5 (dk_at dksX28_init_1 2 rfl rfl)
theorem dX28_init_27 : decode cX28_init 27 = .ok (.ldc 21, 2) := dk_18 21 (dk_at dksX28_init_1 3 rfl rfl)
theorem dX28_init_29 : decode cX28_init 29 = .ok (.aastore, 1) := dk_83 (dk_at dksX28_init_1 5 rfl rfl)
theorem dX28_init_30 : decode cX28_init 30 = .ok (.dup, 1) := dk_89 (dk_at dksX28_init_1 6 rfl rfl)
theorem dX28_init_31 : decode cX28_init 31 = .ok (.iconst 3, 1) := dk_6 (dk_at dksX28_init_1 7 rfl rfl)
theorem dX28_init_32 : decode cX28_init 32 = .ok (.ldc 23, 2) := dk_18 23 (dk_at dksX28_init_1 8 rfl rfl)
theorem dX28_init_34 : decode cX28_init 34 = .ok (.aastore, 1) := dk_83 (dk_at dksX28_init_1 10 rfl rfl)
theorem dX28_init_35 : decode cX28_init 35 = .ok (.dup, 1) := dk_89 (dk_at dksX28_init_1 11 rfl rfl)
theorem dX28_init_36 : decode cX28_init 36 = .ok (.iconst 4, 1) := dk_7 (dk_at dksX28_init_1 12 rfl rfl)
theorem dX28_init_37 : decode cX28_init 37 = .ok (.ldc 25, 2) := dk_18 25 (dk_at dksX28_init_1 13 rfl rfl)
theorem dX28_init_39 : decode cX28_init 39 = .ok (.aastore, 1) := dk_83 (dk_at dksX28_init_1 15 rfl rfl)
theorem dX28_init_40 : decode cX28_init 40 = .ok (.dup, 1) := dk_89 (dk_at dksX28_init_1 16 rfl rfl)
theorem dX28_init_41 : decode cX28_init 41 = .ok (.iconst 5, 1) := dk_8 (dk_at dksX28_init_1 17 rfl rfl)
theorem dX28_init_42 : decode cX28_init 42 = .ok (.ldc 27, 2) := dk_18 27 (dk_at dksX28_init_1 18 rfl rfl)
theorem dX28_init_44 : decode cX28_init 44 = .ok (.aastore, 1) := dk_83 (dk_at dksX28_init_1 20 rfl rfl)
theorem dX28_init_45 : decode cX28_init 45 = .ok (.dup, 1) := dk_89 (dk_at dksX28_init_1 21 rfl rfl)
theorem dX28_init_46 : decode cX28_init 46 = .ok (.bipush 6, 2) := dk_16 6 (dk_at dksX28_init_1 22 rfl rfl)
theorem dX28_init_48 : decode cX28_init 48 = .ok (.ldc 29, 2) := dk_18 29 (dk_at dksX28_init_2 0 rfl rfl)
theorem dX28_init_50 : decode cX28_init 50 = .ok (.aastore, 1) := dk_83 (dk_at dksX28_init_2 2 rfl rfl)
theorem dX28_init_51 : decode cX28_init 51 = .ok (.dup, 1) := dk_89 (dk_at dksX28_init_2 3 rfl rfl)
theorem dX28_init_52 : decode cX28_init 52 = .ok (.bipush 7, 2) := dk_16 7 (dk_at dksX28_init_2 4 rfl rfl)
theorem dX28_init_54 : decode cX28_init 54 = .ok (.ldc 31, 2) := dk_18 31 (dk_at dksX28_init_2 6 rfl rfl)
theorem dX28_init_56 : decode cX28_init 56 = .ok (.aastore, 1) := dk_83 (dk_at dksX28_init_2 8 rfl rfl)
theorem dX28_init_57 : decode cX28_init 57 = .ok (.putfield 33, 3) := dk_181 0 33 (dk_at dksX28_init_2 9 rfl rfl)
theorem dX28_init_60 : decode cX28_init 60 = .ok (.aload_n 0, 1) := dk_42 (dk_at dksX28_init_2 12 rfl rfl)
theorem dX28_init_61 : decode cX28_init 61 = .ok (.bipush 8, 2) := dk_16 8 (dk_at dksX28_init_2 13 rfl rfl)
theorem dX28_init_63 : decode cX28_init 63 = .ok (.newarray .int, 2) := dk_188_10 (dk_at dksX28_init_2 15 rfl rfl)
theorem dX28_init_65 : decode cX28_init 65 = .ok (.dup, 1) := dk_89 (dk_at dksX28_init_2 17 rfl rfl)
theorem dX28_init_66 : decode cX28_init 66 = .ok (.iconst 0, 1) := dk_3 (dk_at dksX28_init_2 18 rfl rfl)
theorem dX28_init_67 : decode cX28_init 67 = .ok (.iconst 2, 1) := dk_5 (dk_at dksX28_init_2 19 rfl rfl)
theorem dX28_init_68 : decode cX28_init 68 = .ok (.iastore, 1) := dk_79 (dk_at dksX28_init_2 20 rfl rfl)
theorem dX28_init_69 : decode cX28_init 69 = .ok (.dup, 1) := dk_89 (dk_at dksX28_init_2 21 rfl rfl)
theorem dX28_init_70 : decode cX28_init 70 = .ok (.iconst 1, 1) := dk_4 (dk_at dksX28_init_2 22 rfl rfl)
theorem dX28_init_71 : decode cX28_init 71 = .ok (.iconst 2, 1) := dk_5 (dk_at dksX28_init_2 23 rfl rfl)
theorem dX28_init_72 : decode cX28_init 72 = .ok (.iastore, 1) := dk_79 (dk_at dksX28_init_3 0 rfl rfl)
theorem dX28_init_73 : decode cX28_init 73 = .ok (.dup, 1) := dk_89 (dk_at dksX28_init_3 1 rfl rfl)
theorem dX28_init_74 : decode cX28_init 74 = .ok (.iconst 2, 1) := dk_5 (dk_at dksX28_init_3 2 rfl rfl)
theorem dX28_init_75 : decode cX28_init 75 = .ok (.iconst 2, 1) := dk_5 (dk_at dksX28_init_3 3 rfl rfl)
theorem dX28_init_76 : decode cX28_init 76 = .ok (.iastore, 1) := dk_79 (dk_at dksX28_init_3 4 rfl rfl)
theorem dX28_init_77 : decode cX28_init 77 = .ok (.dup, 1) := dk_89 (dk_at dksX28_init_3 5 rfl rfl)
theorem dX28_init_78 : decode cX28_init 78 = .ok (.iconst 3, 1) := dk_6 (dk_at dksX28_init_3 6 rfl rfl)
theorem dX28_init_79 : decode cX28_init 79 = .ok (.iconst 2, 1) := dk_5 (dk_at dksX28_init_3 7 rfl rfl)
theorem dX28_init_80 : decode cX28_init 80 = .ok (.iastore, 1) := dk_79 (dk_at dksX28_init_3 8 rfl rfl)
theorem dX28_init_81 : decode cX28_init 81 = .ok (.dup, 1) := dk_89 (dk_at dksX28_init_3 9 rfl rfl)
theorem dX28_init_82 : decode cX28_init 82 = .ok (.iconst 4, 1) := dk_7 (dk_at dksX28_init_3 10 rfl rfl)
theorem dX28_init_83 : decode cX28_init 83 = .ok (.iconst 1, 1) := dk_4 (dk_at dksX28_init_3 11 rfl rfl)
theorem dX28_init_84 : decode cX28_init 84 = .ok (.iastore, 1) := dk_79 (dk_at dksX28_init_3 12 rfl rfl)
theorem dX28_init_85 : decode cX28_init 85 = .ok (.dup, 1) := dk_89 (dk_at dksX28_init_3 13 rfl rfl)
theorem dX28_init_86 : decode cX28_init 86 = .ok (.iconst 5, 1) := dk_8 (dk_at dksX28_init_3 14 rfl rfl)
theorem dX28_init_87 : decode cX28_init 87 = .ok (.iconst 1, 1) := dk_4 (dk_at dksX28_init_3 15 rfl rfl)
theorem dX28_init_88 : decode cX28_init 88 = .ok (.iastore, 1) := dk_79 (dk_at dksX28_init_3 16 rfl rfl)
theorem dX28_init_89 : decode cX28_init 89 = .ok (.dup, 1) := dk_89 (dk_at dksX28_init_3 17 rfl rfl)
theorem dX28_init_90 : decode cX28_init 90 = .ok (.bipush 6, 2) := dk_16 6 (dk_at dksX28_init_3 18 rfl rfl)
theorem dX28_init_92 : decode cX28_init 92 = .ok (.iconst 0, 1) := dk_3 (dk_at dksX28_init_3 20 rfl rfl)
theorem dX28_init_93 : decode cX28_init 93 = .ok (.iastore, 1) := dk_79 (dk_at dksX28_init_3 21 rfl rfl)
theorem dX28_init_94 : decode cX28_init 94 = .ok (.dup, 1) := dk_89 (dk_at dksX28_init_3 22 rfl rfl)
theorem dX28_init_95 : decode cX28_init 95 = .ok (.bipush 7, 2) := dk_16 7 (dk_at dksX28_init_4 0 rfl rfl)
theorem dX28_init_97 : decode cX28_init 97 = .ok (.iconst 1, 1) := dk_4 (dk_at dksX28_init_4 2 rfl rfl)
theorem dX28_init_98 : decode cX28_init 98 = .ok (.iastore, 1) := dk_79 (dk_at dksX28_init_4 3 rfl rfl)
theorem dX28_init_99 : decode cX28_init 99 = .ok (.putfield 37, 3) := dk_181 0 37 (dk_at dksX28_init_4 4 rfl rfl)
theorem dX28_init_102 : decode cX28_init 102 = .ok (.return_, 1) := dk_177 (dk_at dksX28_init_4 7 rfl rfl)
abbrev cX28_whole : ByteArray := prog_27_method_8_code
def yX28_whole : MethodName := ⟨RX28, "whole", "()Ljava/util/ArrayDeque;"⟩
def dkwX28_whole_3 : List UInt8 := [183, 0, 58, 191, 43, 176]
abbrev dktX28_whole_3 : List UInt8 := dkwX28_whole_3 ++ []
def dkwX28_whole_2 : List UInt8 := [42, 180, 0, 41, 42, 180, 0, 3, 180, 0, 45, 162, 0, 15, 187, 0, 56, 89, 42, 180, 0, 41]
abbrev dktX28_whole_2 : List UInt8 := dkwX28_whole_2 ++ dktX28_whole_3
def dkwX28_whole_1 : List UInt8 := [153, 0, 24, 42, 89, 180, 0, 41, 4, 96, 181, 0, 41, 43, 42, 182, 0, 98, 182, 0, 102, 167, 255, 229]
abbrev dktX28_whole_1 : List UInt8 := dkwX28_whole_1 ++ dktX28_whole_2
def dkwX28_whole_0 : List UInt8 := [187, 0, 95, 89, 183, 0, 97, 76, 43, 42, 182, 0, 98, 182, 0, 102, 42, 16, 59, 182, 0, 52]
abbrev dktX28_whole_0 : List UInt8 := dkwX28_whole_0 ++ dktX28_whole_1
theorem dksX28_whole_0 : cX28_whole.data.toList.drop 0 = dktX28_whole_0 := by decide +kernel
theorem dksX28_whole_1 : cX28_whole.data.toList.drop 22 = dktX28_whole_1 := dk_seg dksX28_whole_0 22 rfl rfl
theorem dksX28_whole_2 : cX28_whole.data.toList.drop 46 = dktX28_whole_2 := dk_seg dksX28_whole_1 24 rfl rfl
theorem dksX28_whole_3 : cX28_whole.data.toList.drop 68 = dktX28_whole_3 := dk_seg dksX28_whole_2 22 rfl rfl
theorem dX28_whole_0 : decode cX28_whole 0 = .ok (.new 95, 3) := dk_187 0 95 (dk_at dksX28_whole_0 0 rfl rfl)
theorem dX28_whole_3 : decode cX28_whole 3 = .ok (.dup, 1) := dk_89 (dk_at dksX28_whole_0 3 rfl rfl)
theorem dX28_whole_4 : decode cX28_whole 4 = .ok (.invokespecial 97, 3) := dk_183 0 97 (dk_at dksX28_whole_0 4 rfl rfl)
theorem dX28_whole_7 : decode cX28_whole 7 = .ok (.astore_n 1, 1) := dk_76 (dk_at dksX28_whole_0 7 rfl rfl)
theorem dX28_whole_8 : decode cX28_whole 8 = .ok (.aload_n 1, 1) := dk_43 (dk_at dksX28_whole_0 8 rfl rfl)
theorem dX28_whole_9 : decode cX28_whole 9 = .ok (.aload_n 0, 1) := dk_42 (dk_at dksX28_whole_0 9 rfl rfl)
theorem dX28_whole_10 : decode cX28_whole 10 = .ok (.invokevirtual 98, 3) := dk_182 0 98 (dk_at dksX28_whole_0 10 rfl rfl)
theorem dX28_whole_13 : decode cX28_whole 13 = .ok (.invokevirtual 102, 3) := dk_182 0 102 (dk_at dksX28_whole_0 13 rfl rfl)
theorem dX28_whole_16 : decode cX28_whole 16 = .ok (.aload_n 0, 1) := dk_42 (dk_at dksX28_whole_0 16 rfl rfl)
theorem dX28_whole_17 : decode cX28_whole 17 = .ok (.bipush 59, 2) := dk_16 59 (dk_at dksX28_whole_0 17 rfl rfl)
theorem dX28_whole_19 : decode cX28_whole 19 = .ok (.invokevirtual 52, 3) := dk_182 0 52 (dk_at dksX28_whole_0 19 rfl rfl)
theorem dX28_whole_22 : decode cX28_whole 22 = .ok (.ifCond .eq 24, 3) := dk_153 0 24 (dk_at dksX28_whole_1 0 rfl rfl)
theorem dX28_whole_25 : decode cX28_whole 25 = .ok (.aload_n 0, 1) := dk_42 (dk_at dksX28_whole_1 3 rfl rfl)
theorem dX28_whole_26 : decode cX28_whole 26 = .ok (.dup, 1) := dk_89 (dk_at dksX28_whole_1 4 rfl rfl)
theorem dX28_whole_27 : decode cX28_whole 27 = .ok (.getfield 41, 3) := dk_180 0 41 (dk_at dksX28_whole_1 5 rfl rfl)
theorem dX28_whole_30 : decode cX28_whole 30 = .ok (.iconst 1, 1) := dk_4 (dk_at dksX28_whole_1 8 rfl rfl)
theorem dX28_whole_31 : decode cX28_whole 31 = .ok (.iadd, 1) := dk_96 (dk_at dksX28_whole_1 9 rfl rfl)
theorem dX28_whole_32 : decode cX28_whole 32 = .ok (.putfield 41, 3) := dk_181 0 41 (dk_at dksX28_whole_1 10 rfl rfl)
theorem dX28_whole_35 : decode cX28_whole 35 = .ok (.aload_n 1, 1) := dk_43 (dk_at dksX28_whole_1 13 rfl rfl)
theorem dX28_whole_36 : decode cX28_whole 36 = .ok (.aload_n 0, 1) := dk_42 (dk_at dksX28_whole_1 14 rfl rfl)
theorem dX28_whole_37 : decode cX28_whole 37 = .ok (.invokevirtual 98, 3) := dk_182 0 98 (dk_at dksX28_whole_1 15 rfl rfl)
theorem dX28_whole_40 : decode cX28_whole 40 = .ok (.invokevirtual 102, 3) := dk_182 0 102 (dk_at dksX28_whole_1 18 rfl rfl)
theorem dX28_whole_43 : decode cX28_whole 43 = .ok (.goto (-27), 3) := dk_167 255 229 (dk_at dksX28_whole_1 21 rfl rfl)
theorem dX28_whole_46 : decode cX28_whole 46 = .ok (.aload_n 0, 1) := dk_42 (dk_at dksX28_whole_2 0 rfl rfl)
theorem dX28_whole_47 : decode cX28_whole 47 = .ok (.getfield 41, 3) := dk_180 0 41 (dk_at dksX28_whole_2 1 rfl rfl)
theorem dX28_whole_50 : decode cX28_whole 50 = .ok (.aload_n 0, 1) := dk_42 (dk_at dksX28_whole_2 4 rfl rfl)
theorem dX28_whole_51 : decode cX28_whole 51 = .ok (.getfield 3, 3) := dk_180 0 3 (dk_at dksX28_whole_2 5 rfl rfl)
theorem dX28_whole_54 : decode cX28_whole 54 = .ok (.getfield 45, 3) := dk_180 0 45 (dk_at dksX28_whole_2 8 rfl rfl)
theorem dX28_whole_57 : decode cX28_whole 57 = .ok (.if_icmp .ge 15, 3) := dk_162 0 15 (dk_at dksX28_whole_2 11 rfl rfl)
theorem dX28_whole_60 : decode cX28_whole 60 = .ok (.new 56, 3) := dk_187 0 56 (dk_at dksX28_whole_2 14 rfl rfl)
theorem dX28_whole_63 : decode cX28_whole 63 = .ok (.dup, 1) := dk_89 (dk_at dksX28_whole_2 17 rfl rfl)
theorem dX28_whole_64 : decode cX28_whole 64 = .ok (.aload_n 0, 1) := dk_42 (dk_at dksX28_whole_2 18 rfl rfl)
theorem dX28_whole_65 : decode cX28_whole 65 = .ok (.getfield 41, 3) := dk_180 0 41 (dk_at dksX28_whole_2 19 rfl rfl)
theorem dX28_whole_68 : decode cX28_whole 68 = .ok (.invokespecial 58, 3) := dk_183 0 58 (dk_at dksX28_whole_3 0 rfl rfl)
theorem dX28_whole_71 : decode cX28_whole 71 = .ok (.athrow, 1) := dk_191 (dk_at dksX28_whole_3 3 rfl rfl)
theorem dX28_whole_72 : decode cX28_whole 72 = .ok (.aload_n 1, 1) := dk_43 (dk_at dksX28_whole_3 4 rfl rfl)
theorem dX28_whole_73 : decode cX28_whole 73 = .ok (.areturn, 1) := dk_176 (dk_at dksX28_whole_3 5 rfl rfl)
abbrev cX28_command : ByteArray := prog_27_method_7_code
def yX28_command : MethodName := ⟨RX28, "command", "()LRosaryCarvers$Command;"⟩
def dkwX28_command_2 : List UInt8 := [44, 176]
abbrev dktX28_command_2 : List UInt8 := dkwX28_command_2 ++ []
def dkwX28_command_1 : List UInt8 := [180, 0, 37, 27, 46, 162, 0, 19, 44, 180, 0, 89, 29, 42, 182, 0, 92, 79, 132, 3, 1, 167, 255, 233]
abbrev dktX28_command_1 : List UInt8 := dkwX28_command_1 ++ dktX28_command_2
def dkwX28_command_0 : List UInt8 := [42, 182, 0, 81, 60, 187, 0, 84, 89, 42, 180, 0, 33, 27, 50, 183, 0, 86, 77, 3, 62, 29, 42]
abbrev dktX28_command_0 : List UInt8 := dkwX28_command_0 ++ dktX28_command_1
theorem dksX28_command_0 : cX28_command.data.toList.drop 0 = dktX28_command_0 := by decide +kernel
theorem dksX28_command_1 : cX28_command.data.toList.drop 23 = dktX28_command_1 := dk_seg dksX28_command_0 23 rfl rfl
theorem dksX28_command_2 : cX28_command.data.toList.drop 47 = dktX28_command_2 := dk_seg dksX28_command_1 24 rfl rfl
theorem dX28_command_0 : decode cX28_command 0 = .ok (.aload_n 0, 1) := dk_42 (dk_at dksX28_command_0 0 rfl rfl)
theorem dX28_command_1 : decode cX28_command 1 = .ok (.invokevirtual 81, 3) := dk_182 0 81 (dk_at dksX28_command_0 1 rfl rfl)
theorem dX28_command_4 : decode cX28_command 4 = .ok (.istore_n 1, 1) := dk_60 (dk_at dksX28_command_0 4 rfl rfl)
theorem dX28_command_5 : decode cX28_command 5 = .ok (.new 84, 3) := dk_187 0 84 (dk_at dksX28_command_0 5 rfl rfl)
theorem dX28_command_8 : decode cX28_command 8 = .ok (.dup, 1) := dk_89 (dk_at dksX28_command_0 8 rfl rfl)
theorem dX28_command_9 : decode cX28_command 9 = .ok (.aload_n 0, 1) := dk_42 (dk_at dksX28_command_0 9 rfl rfl)
theorem dX28_command_10 : decode cX28_command 10 = .ok (.getfield 33, 3) := dk_180 0 33 (dk_at dksX28_command_0 10 rfl rfl)
theorem dX28_command_13 : decode cX28_command 13 = .ok (.iload_n 1, 1) := dk_27 (dk_at dksX28_command_0 13 rfl rfl)
theorem dX28_command_14 : decode cX28_command 14 = .ok (.aaload, 1) := dk_50 (dk_at dksX28_command_0 14 rfl rfl)
theorem dX28_command_15 : decode cX28_command 15 = .ok (.invokespecial 86, 3) := dk_183 0 86 (dk_at dksX28_command_0 15 rfl rfl)
theorem dX28_command_18 : decode cX28_command 18 = .ok (.astore_n 2, 1) := dk_77 (dk_at dksX28_command_0 18 rfl rfl)
theorem dX28_command_19 : decode cX28_command 19 = .ok (.iconst 0, 1) := dk_3 (dk_at dksX28_command_0 19 rfl rfl)
theorem dX28_command_20 : decode cX28_command 20 = .ok (.istore_n 3, 1) := dk_62 (dk_at dksX28_command_0 20 rfl rfl)
theorem dX28_command_21 : decode cX28_command 21 = .ok (.iload_n 3, 1) := dk_29 (dk_at dksX28_command_0 21 rfl rfl)
theorem dX28_command_22 : decode cX28_command 22 = .ok (.aload_n 0, 1) := dk_42 (dk_at dksX28_command_0 22 rfl rfl)
theorem dX28_command_23 : decode cX28_command 23 = .ok (.getfield 37, 3) := dk_180 0 37 (dk_at dksX28_command_1 0 rfl rfl)
theorem dX28_command_26 : decode cX28_command 26 = .ok (.iload_n 1, 1) := dk_27 (dk_at dksX28_command_1 3 rfl rfl)
theorem dX28_command_27 : decode cX28_command 27 = .ok (.iaload, 1) := dk_46 (dk_at dksX28_command_1 4 rfl rfl)
theorem dX28_command_28 : decode cX28_command 28 = .ok (.if_icmp .ge 19, 3) := dk_162 0 19 (dk_at dksX28_command_1 5 rfl rfl)
theorem dX28_command_31 : decode cX28_command 31 = .ok (.aload_n 2, 1) := dk_44 (dk_at dksX28_command_1 8 rfl rfl)
theorem dX28_command_32 : decode cX28_command 32 = .ok (.getfield 89, 3) := dk_180 0 89 (dk_at dksX28_command_1 9 rfl rfl)
theorem dX28_command_35 : decode cX28_command 35 = .ok (.iload_n 3, 1) := dk_29 (dk_at dksX28_command_1 12 rfl rfl)
theorem dX28_command_36 : decode cX28_command 36 = .ok (.aload_n 0, 1) := dk_42 (dk_at dksX28_command_1 13 rfl rfl)
theorem dX28_command_37 : decode cX28_command 37 = .ok (.invokevirtual 92, 3) := dk_182 0 92 (dk_at dksX28_command_1 14 rfl rfl)
theorem dX28_command_40 : decode cX28_command 40 = .ok (.iastore, 1) := dk_79 (dk_at dksX28_command_1 17 rfl rfl)
theorem dX28_command_41 : decode cX28_command 41 = .ok (.iinc 3 1, 3) := dk_132 3 1 (dk_at dksX28_command_1 18 rfl rfl)
theorem dX28_command_44 : decode cX28_command 44 = .ok (.goto (-23), 3) := dk_167 255 233 (dk_at dksX28_command_1 21 rfl rfl)
theorem dX28_command_47 : decode cX28_command 47 = .ok (.aload_n 2, 1) := dk_44 (dk_at dksX28_command_2 0 rfl rfl)
theorem dX28_command_48 : decode cX28_command 48 = .ok (.areturn, 1) := dk_176 (dk_at dksX28_command_2 1 rfl rfl)
abbrev cX28_word : ByteArray := prog_27_method_4_code
def yX28_word : MethodName := ⟨RX28, "word", "()I"⟩
def dkwX28_word_3 : List UInt8 := [167, 255, 190, 187, 0, 56, 89, 42, 180, 0, 41, 183, 0, 58, 191]
abbrev dktX28_word_3 : List UInt8 := dkwX28_word_3 ++ []
def dkwX28_word_2 : List UInt8 := [180, 0, 33, 27, 50, 28, 182, 0, 61, 182, 0, 69, 132, 2, 1, 167, 255, 226, 27, 172, 132, 1, 1]
abbrev dktX28_word_2 : List UInt8 := dkwX28_word_2 ++ dktX28_word_3
def dkwX28_word_1 : List UInt8 := [182, 0, 52, 153, 0, 40, 3, 61, 28, 42, 180, 0, 33, 27, 50, 182, 0, 65, 162, 0, 23, 42, 42]
abbrev dktX28_word_1 : List UInt8 := dkwX28_word_1 ++ dktX28_word_2
def dkwX28_word_0 : List UInt8 := [3, 60, 27, 42, 180, 0, 33, 190, 162, 0, 63, 42, 42, 180, 0, 33, 27, 50, 3, 182, 0, 61]
abbrev dktX28_word_0 : List UInt8 := dkwX28_word_0 ++ dktX28_word_1
theorem dksX28_word_0 : cX28_word.data.toList.drop 0 = dktX28_word_0 := by decide +kernel
theorem dksX28_word_1 : cX28_word.data.toList.drop 22 = dktX28_word_1 := dk_seg dksX28_word_0 22 rfl rfl
theorem dksX28_word_2 : cX28_word.data.toList.drop 45 = dktX28_word_2 := dk_seg dksX28_word_1 23 rfl rfl
theorem dksX28_word_3 : cX28_word.data.toList.drop 68 = dktX28_word_3 := dk_seg dksX28_word_2 23 rfl rfl
theorem dX28_word_0 : decode cX28_word 0 = .ok (.iconst 0, 1) := dk_3 (dk_at dksX28_word_0 0 rfl rfl)
theorem dX28_word_1 : decode cX28_word 1 = .ok (.istore_n 1, 1) := dk_60 (dk_at dksX28_word_0 1 rfl rfl)
theorem dX28_word_2 : decode cX28_word 2 = .ok (.iload_n 1, 1) := dk_27 (dk_at dksX28_word_0 2 rfl rfl)
theorem dX28_word_3 : decode cX28_word 3 = .ok (.aload_n 0, 1) := dk_42 (dk_at dksX28_word_0 3 rfl rfl)
theorem dX28_word_4 : decode cX28_word 4 = .ok (.getfield 33, 3) := dk_180 0 33 (dk_at dksX28_word_0 4 rfl rfl)
theorem dX28_word_7 : decode cX28_word 7 = .ok (.arraylength, 1) := dk_190 (dk_at dksX28_word_0 7 rfl rfl)
theorem dX28_word_8 : decode cX28_word 8 = .ok (.if_icmp .ge 63, 3) := dk_162 0 63 (dk_at dksX28_word_0 8 rfl rfl)
theorem dX28_word_11 : decode cX28_word 11 = .ok (.aload_n 0, 1) := dk_42 (dk_at dksX28_word_0 11 rfl rfl)
theorem dX28_word_12 : decode cX28_word 12 = .ok (.aload_n 0, 1) := dk_42 (dk_at dksX28_word_0 12 rfl rfl)
theorem dX28_word_13 : decode cX28_word 13 = .ok (.getfield 33, 3) := dk_180 0 33 (dk_at dksX28_word_0 13 rfl rfl)
theorem dX28_word_16 : decode cX28_word 16 = .ok (.iload_n 1, 1) := dk_27 (dk_at dksX28_word_0 16 rfl rfl)
theorem dX28_word_17 : decode cX28_word 17 = .ok (.aaload, 1) := dk_50 (dk_at dksX28_word_0 17 rfl rfl)
theorem dX28_word_18 : decode cX28_word 18 = .ok (.iconst 0, 1) := dk_3 (dk_at dksX28_word_0 18 rfl rfl)
theorem dX28_word_19 : decode cX28_word 19 = .ok (.invokevirtual 61, 3) := dk_182 0 61 (dk_at dksX28_word_0 19 rfl rfl)
theorem dX28_word_22 : decode cX28_word 22 = .ok (.invokevirtual 52, 3) := dk_182 0 52 (dk_at dksX28_word_1 0 rfl rfl)
theorem dX28_word_25 : decode cX28_word 25 = .ok (.ifCond .eq 40, 3) := dk_153 0 40 (dk_at dksX28_word_1 3 rfl rfl)
theorem dX28_word_28 : decode cX28_word 28 = .ok (.iconst 0, 1) := dk_3 (dk_at dksX28_word_1 6 rfl rfl)
theorem dX28_word_29 : decode cX28_word 29 = .ok (.istore_n 2, 1) := dk_61 (dk_at dksX28_word_1 7 rfl rfl)
theorem dX28_word_30 : decode cX28_word 30 = .ok (.iload_n 2, 1) := dk_28 (dk_at dksX28_word_1 8 rfl rfl)
theorem dX28_word_31 : decode cX28_word 31 = .ok (.aload_n 0, 1) := dk_42 (dk_at dksX28_word_1 9 rfl rfl)
theorem dX28_word_32 : decode cX28_word 32 = .ok (.getfield 33, 3) := dk_180 0 33 (dk_at dksX28_word_1 10 rfl rfl)
theorem dX28_word_35 : decode cX28_word 35 = .ok (.iload_n 1, 1) := dk_27 (dk_at dksX28_word_1 13 rfl rfl)
theorem dX28_word_36 : decode cX28_word 36 = .ok (.aaload, 1) := dk_50 (dk_at dksX28_word_1 14 rfl rfl)
theorem dX28_word_37 : decode cX28_word 37 = .ok (.invokevirtual 65, 3) := dk_182 0 65 (dk_at dksX28_word_1 15 rfl rfl)
theorem dX28_word_40 : decode cX28_word 40 = .ok (.if_icmp .ge 23, 3) := dk_162 0 23 (dk_at dksX28_word_1 18 rfl rfl)
theorem dX28_word_43 : decode cX28_word 43 = .ok (.aload_n 0, 1) := dk_42 (dk_at dksX28_word_1 21 rfl rfl)
theorem dX28_word_44 : decode cX28_word 44 = .ok (.aload_n 0, 1) := dk_42 (dk_at dksX28_word_1 22 rfl rfl)
theorem dX28_word_45 : decode cX28_word 45 = .ok (.getfield 33, 3) := dk_180 0 33 (dk_at dksX28_word_2 0 rfl rfl)
theorem dX28_word_48 : decode cX28_word 48 = .ok (.iload_n 1, 1) := dk_27 (dk_at dksX28_word_2 3 rfl rfl)
theorem dX28_word_49 : decode cX28_word 49 = .ok (.aaload, 1) := dk_50 (dk_at dksX28_word_2 4 rfl rfl)
theorem dX28_word_50 : decode cX28_word 50 = .ok (.iload_n 2, 1) := dk_28 (dk_at dksX28_word_2 5 rfl rfl)
theorem dX28_word_51 : decode cX28_word 51 = .ok (.invokevirtual 61, 3) := dk_182 0 61 (dk_at dksX28_word_2 6 rfl rfl)
theorem dX28_word_54 : decode cX28_word 54 = .ok (.invokevirtual 69, 3) := dk_182 0 69 (dk_at dksX28_word_2 9 rfl rfl)
theorem dX28_word_57 : decode cX28_word 57 = .ok (.iinc 2 1, 3) := dk_132 2 1 (dk_at dksX28_word_2 12 rfl rfl)
theorem dX28_word_60 : decode cX28_word 60 = .ok (.goto (-30), 3) := dk_167 255 226 (dk_at dksX28_word_2 15 rfl rfl)
theorem dX28_word_63 : decode cX28_word 63 = .ok (.iload_n 1, 1) := dk_27 (dk_at dksX28_word_2 18 rfl rfl)
theorem dX28_word_64 : decode cX28_word 64 = .ok (.ireturn, 1) := dk_172 (dk_at dksX28_word_2 19 rfl rfl)
theorem dX28_word_65 : decode cX28_word 65 = .ok (.iinc 1 1, 3) := dk_132 1 1 (dk_at dksX28_word_2 20 rfl rfl)
theorem dX28_word_68 : decode cX28_word 68 = .ok (.goto (-66), 3) := dk_167 255 190 (dk_at dksX28_word_3 0 rfl rfl)
theorem dX28_word_71 : decode cX28_word 71 = .ok (.new 56, 3) := dk_187 0 56 (dk_at dksX28_word_3 3 rfl rfl)
theorem dX28_word_74 : decode cX28_word 74 = .ok (.dup, 1) := dk_89 (dk_at dksX28_word_3 6 rfl rfl)
theorem dX28_word_75 : decode cX28_word 75 = .ok (.aload_n 0, 1) := dk_42 (dk_at dksX28_word_3 7 rfl rfl)
theorem dX28_word_76 : decode cX28_word 76 = .ok (.getfield 41, 3) := dk_180 0 41 (dk_at dksX28_word_3 8 rfl rfl)
theorem dX28_word_79 : decode cX28_word 79 = .ok (.invokespecial 58, 3) := dk_183 0 58 (dk_at dksX28_word_3 11 rfl rfl)
theorem dX28_word_82 : decode cX28_word 82 = .ok (.athrow, 1) := dk_191 (dk_at dksX28_word_3 14 rfl rfl)
abbrev cX28_isSign : ByteArray := prog_27_method_2_code
def yX28_isSign : MethodName := ⟨RX28, "isSign", "(C)Z"⟩
def dkwX28_isSign_1 : List UInt8 := [180, 0, 41, 52, 27, 160, 0, 7, 4, 167, 0, 4, 3, 172]
abbrev dktX28_isSign_1 : List UInt8 := dkwX28_isSign_1 ++ []
def dkwX28_isSign_0 : List UInt8 := [42, 180, 0, 41, 42, 180, 0, 3, 180, 0, 45, 162, 0, 23, 42, 180, 0, 3, 180, 0, 48, 42]
abbrev dktX28_isSign_0 : List UInt8 := dkwX28_isSign_0 ++ dktX28_isSign_1
theorem dksX28_isSign_0 : cX28_isSign.data.toList.drop 0 = dktX28_isSign_0 := by decide +kernel
theorem dksX28_isSign_1 : cX28_isSign.data.toList.drop 22 = dktX28_isSign_1 := dk_seg dksX28_isSign_0 22 rfl rfl
theorem dX28_isSign_0 : decode cX28_isSign 0 = .ok (.aload_n 0, 1) := dk_42 (dk_at dksX28_isSign_0 0 rfl rfl)
theorem dX28_isSign_1 : decode cX28_isSign 1 = .ok (.getfield 41, 3) := dk_180 0 41 (dk_at dksX28_isSign_0 1 rfl rfl)
theorem dX28_isSign_4 : decode cX28_isSign 4 = .ok (.aload_n 0, 1) := dk_42 (dk_at dksX28_isSign_0 4 rfl rfl)
theorem dX28_isSign_5 : decode cX28_isSign 5 = .ok (.getfield 3, 3) := dk_180 0 3 (dk_at dksX28_isSign_0 5 rfl rfl)
theorem dX28_isSign_8 : decode cX28_isSign 8 = .ok (.getfield 45, 3) := dk_180 0 45 (dk_at dksX28_isSign_0 8 rfl rfl)
theorem dX28_isSign_11 : decode cX28_isSign 11 = .ok (.if_icmp .ge 23, 3) := dk_162 0 23 (dk_at dksX28_isSign_0 11 rfl rfl)
theorem dX28_isSign_14 : decode cX28_isSign 14 = .ok (.aload_n 0, 1) := dk_42 (dk_at dksX28_isSign_0 14 rfl rfl)
theorem dX28_isSign_15 : decode cX28_isSign 15 = .ok (.getfield 3, 3) := dk_180 0 3 (dk_at dksX28_isSign_0 15 rfl rfl)
theorem dX28_isSign_18 : decode cX28_isSign 18 = .ok (.getfield 48, 3) := dk_180 0 48 (dk_at dksX28_isSign_0 18 rfl rfl)
theorem dX28_isSign_21 : decode cX28_isSign 21 = .ok (.aload_n 0, 1) := dk_42 (dk_at dksX28_isSign_0 21 rfl rfl)
theorem dX28_isSign_22 : decode cX28_isSign 22 = .ok (.getfield 41, 3) := dk_180 0 41 (dk_at dksX28_isSign_1 0 rfl rfl)
theorem dX28_isSign_25 : decode cX28_isSign 25 = .ok (.caload, 1) := dk_52 (dk_at dksX28_isSign_1 3 rfl rfl)
theorem dX28_isSign_26 : decode cX28_isSign 26 = .ok (.iload_n 1, 1) := dk_27 (dk_at dksX28_isSign_1 4 rfl rfl)
theorem dX28_isSign_27 : decode cX28_isSign 27 = .ok (.if_icmp .ne 7, 3) := dk_160 0 7 (dk_at dksX28_isSign_1 5 rfl rfl)
theorem dX28_isSign_30 : decode cX28_isSign 30 = .ok (.iconst 1, 1) := dk_4 (dk_at dksX28_isSign_1 8 rfl rfl)
theorem dX28_isSign_31 : decode cX28_isSign 31 = .ok (.goto 4, 3) := dk_167 0 4 (dk_at dksX28_isSign_1 9 rfl rfl)
theorem dX28_isSign_34 : decode cX28_isSign 34 = .ok (.iconst 0, 1) := dk_3 (dk_at dksX28_isSign_1 12 rfl rfl)
theorem dX28_isSign_35 : decode cX28_isSign 35 = .ok (.ireturn, 1) := dk_172 (dk_at dksX28_isSign_1 13 rfl rfl)
abbrev cX28_takes : ByteArray := prog_27_method_3_code
def yX28_takes : MethodName := ⟨RX28, "takes", "(C)V"⟩
def dkwX28_takes_1 : List UInt8 := [180, 0, 41, 4, 96, 181, 0, 41, 177]
abbrev dktX28_takes_1 : List UInt8 := dkwX28_takes_1 ++ []
def dkwX28_takes_0 : List UInt8 := [42, 27, 182, 0, 52, 154, 0, 15, 187, 0, 56, 89, 42, 180, 0, 41, 183, 0, 58, 191, 42, 89]
abbrev dktX28_takes_0 : List UInt8 := dkwX28_takes_0 ++ dktX28_takes_1
theorem dksX28_takes_0 : cX28_takes.data.toList.drop 0 = dktX28_takes_0 := by decide +kernel
theorem dksX28_takes_1 : cX28_takes.data.toList.drop 22 = dktX28_takes_1 := dk_seg dksX28_takes_0 22 rfl rfl
theorem dX28_takes_0 : decode cX28_takes 0 = .ok (.aload_n 0, 1) := dk_42 (dk_at dksX28_takes_0 0 rfl rfl)
theorem dX28_takes_1 : decode cX28_takes 1 = .ok (.iload_n 1, 1) := dk_27 (dk_at dksX28_takes_0 1 rfl rfl)
theorem dX28_takes_2 : decode cX28_takes 2 = .ok (.invokevirtual 52, 3) := dk_182 0 52 (dk_at dksX28_takes_0 2 rfl rfl)
theorem dX28_takes_5 : decode cX28_takes 5 = .ok (.ifCond .ne 15, 3) := dk_154 0 15 (dk_at dksX28_takes_0 5 rfl rfl)
theorem dX28_takes_8 : decode cX28_takes 8 = .ok (.new 56, 3) := dk_187 0 56 (dk_at dksX28_takes_0 8 rfl rfl)
theorem dX28_takes_11 : decode cX28_takes 11 = .ok (.dup, 1) := dk_89 (dk_at dksX28_takes_0 11 rfl rfl)
theorem dX28_takes_12 : decode cX28_takes 12 = .ok (.aload_n 0, 1) := dk_42 (dk_at dksX28_takes_0 12 rfl rfl)
theorem dX28_takes_13 : decode cX28_takes 13 = .ok (.getfield 41, 3) := dk_180 0 41 (dk_at dksX28_takes_0 13 rfl rfl)
theorem dX28_takes_16 : decode cX28_takes 16 = .ok (.invokespecial 58, 3) := dk_183 0 58 (dk_at dksX28_takes_0 16 rfl rfl)
theorem dX28_takes_19 : decode cX28_takes 19 = .ok (.athrow, 1) := dk_191 (dk_at dksX28_takes_0 19 rfl rfl)
theorem dX28_takes_20 : decode cX28_takes 20 = .ok (.aload_n 0, 1) := dk_42 (dk_at dksX28_takes_0 20 rfl rfl)
theorem dX28_takes_21 : decode cX28_takes 21 = .ok (.dup, 1) := dk_89 (dk_at dksX28_takes_0 21 rfl rfl)
theorem dX28_takes_22 : decode cX28_takes 22 = .ok (.getfield 41, 3) := dk_180 0 41 (dk_at dksX28_takes_1 0 rfl rfl)
theorem dX28_takes_25 : decode cX28_takes 25 = .ok (.iconst 1, 1) := dk_4 (dk_at dksX28_takes_1 3 rfl rfl)
theorem dX28_takes_26 : decode cX28_takes 26 = .ok (.iadd, 1) := dk_96 (dk_at dksX28_takes_1 4 rfl rfl)
theorem dX28_takes_27 : decode cX28_takes 27 = .ok (.putfield 41, 3) := dk_181 0 41 (dk_at dksX28_takes_1 5 rfl rfl)
theorem dX28_takes_30 : decode cX28_takes 30 = .ok (.return_, 1) := dk_177 (dk_at dksX28_takes_1 8 rfl rfl)
abbrev cX28_number : ByteArray := prog_27_method_6_code
def yX28_number : MethodName := ⟨RX28, "number", "()I"⟩
def dkwX28_number_3 : List UInt8 := [181, 0, 41, 132, 2, 1, 167, 255, 210, 27, 172]
abbrev dktX28_number_3 : List UInt8 := dkwX28_number_3 ++ []
def dkwX28_number_2 : List UInt8 := [180, 0, 3, 180, 0, 48, 42, 180, 0, 41, 52, 96, 16, 48, 100, 60, 42, 89, 180, 0, 41, 4, 96]
abbrev dktX28_number_2 : List UInt8 := dkwX28_number_2 ++ dktX28_number_3
def dkwX28_number_1 : List UInt8 := [191, 3, 60, 3, 61, 28, 5, 162, 0, 47, 42, 182, 0, 77, 153, 0, 40, 16, 10, 27, 104, 42]
abbrev dktX28_number_1 : List UInt8 := dkwX28_number_1 ++ dktX28_number_2
def dkwX28_number_0 : List UInt8 := [42, 16, 32, 182, 0, 69, 42, 182, 0, 77, 154, 0, 15, 187, 0, 56, 89, 42, 180, 0, 41, 183, 0, 58]
abbrev dktX28_number_0 : List UInt8 := dkwX28_number_0 ++ dktX28_number_1
theorem dksX28_number_0 : cX28_number.data.toList.drop 0 = dktX28_number_0 := by decide +kernel
theorem dksX28_number_1 : cX28_number.data.toList.drop 24 = dktX28_number_1 := dk_seg dksX28_number_0 24 rfl rfl
theorem dksX28_number_2 : cX28_number.data.toList.drop 46 = dktX28_number_2 := dk_seg dksX28_number_1 22 rfl rfl
theorem dksX28_number_3 : cX28_number.data.toList.drop 69 = dktX28_number_3 := dk_seg dksX28_number_2 23 rfl rfl
theorem dX28_number_0 : decode cX28_number 0 = .ok (.aload_n 0, 1) := dk_42 (dk_at dksX28_number_0 0 rfl rfl)
theorem dX28_number_1 : decode cX28_number 1 = .ok (.bipush 32, 2) := dk_16 32 (dk_at dksX28_number_0 1 rfl rfl)
theorem dX28_number_3 : decode cX28_number 3 = .ok (.invokevirtual 69, 3) := dk_182 0 69 (dk_at dksX28_number_0 3 rfl rfl)
theorem dX28_number_6 : decode cX28_number 6 = .ok (.aload_n 0, 1) := dk_42 (dk_at dksX28_number_0 6 rfl rfl)
theorem dX28_number_7 : decode cX28_number 7 = .ok (.invokevirtual 77, 3) := dk_182 0 77 (dk_at dksX28_number_0 7 rfl rfl)
theorem dX28_number_10 : decode cX28_number 10 = .ok (.ifCond .ne 15, 3) := dk_154 0 15 (dk_at dksX28_number_0 10 rfl rfl)
theorem dX28_number_13 : decode cX28_number 13 = .ok (.new 56, 3) := dk_187 0 56 (dk_at dksX28_number_0 13 rfl rfl)
theorem dX28_number_16 : decode cX28_number 16 = .ok (.dup, 1) := dk_89 (dk_at dksX28_number_0 16 rfl rfl)
theorem dX28_number_17 : decode cX28_number 17 = .ok (.aload_n 0, 1) := dk_42 (dk_at dksX28_number_0 17 rfl rfl)
theorem dX28_number_18 : decode cX28_number 18 = .ok (.getfield 41, 3) := dk_180 0 41 (dk_at dksX28_number_0 18 rfl rfl)
theorem dX28_number_21 : decode cX28_number 21 = .ok (.invokespecial 58, 3) := dk_183 0 58 (dk_at dksX28_number_0 21 rfl rfl)
theorem dX28_number_24 : decode cX28_number 24 = .ok (.athrow, 1) := dk_191 (dk_at dksX28_number_1 0 rfl rfl)
theorem dX28_number_25 : decode cX28_number 25 = .ok (.iconst 0, 1) := dk_3 (dk_at dksX28_number_1 1 rfl rfl)
theorem dX28_number_26 : decode cX28_number 26 = .ok (.istore_n 1, 1) := dk_60 (dk_at dksX28_number_1 2 rfl rfl)
theorem dX28_number_27 : decode cX28_number 27 = .ok (.iconst 0, 1) := dk_3 (dk_at dksX28_number_1 3 rfl rfl)
theorem dX28_number_28 : decode cX28_number 28 = .ok (.istore_n 2, 1) := dk_61 (dk_at dksX28_number_1 4 rfl rfl)
theorem dX28_number_29 : decode cX28_number 29 = .ok (.iload_n 2, 1) := dk_28 (dk_at dksX28_number_1 5 rfl rfl)
theorem dX28_number_30 : decode cX28_number 30 = .ok (.iconst 2, 1) := dk_5 (dk_at dksX28_number_1 6 rfl rfl)
theorem dX28_number_31 : decode cX28_number 31 = .ok (.if_icmp .ge 47, 3) := dk_162 0 47 (dk_at dksX28_number_1 7 rfl rfl)
theorem dX28_number_34 : decode cX28_number 34 = .ok (.aload_n 0, 1) := dk_42 (dk_at dksX28_number_1 10 rfl rfl)
theorem dX28_number_35 : decode cX28_number 35 = .ok (.invokevirtual 77, 3) := dk_182 0 77 (dk_at dksX28_number_1 11 rfl rfl)
theorem dX28_number_38 : decode cX28_number 38 = .ok (.ifCond .eq 40, 3) := dk_153 0 40 (dk_at dksX28_number_1 14 rfl rfl)
theorem dX28_number_41 : decode cX28_number 41 = .ok (.bipush 10, 2) := dk_16 10 (dk_at dksX28_number_1 17 rfl rfl)
theorem dX28_number_43 : decode cX28_number 43 = .ok (.iload_n 1, 1) := dk_27 (dk_at dksX28_number_1 19 rfl rfl)
theorem dX28_number_44 : decode cX28_number 44 = .ok (.imul, 1) := dk_104 (dk_at dksX28_number_1 20 rfl rfl)
theorem dX28_number_45 : decode cX28_number 45 = .ok (.aload_n 0, 1) := dk_42 (dk_at dksX28_number_1 21 rfl rfl)
theorem dX28_number_46 : decode cX28_number 46 = .ok (.getfield 3, 3) := dk_180 0 3 (dk_at dksX28_number_2 0 rfl rfl)
theorem dX28_number_49 : decode cX28_number 49 = .ok (.getfield 48, 3) := dk_180 0 48 (dk_at dksX28_number_2 3 rfl rfl)
theorem dX28_number_52 : decode cX28_number 52 = .ok (.aload_n 0, 1) := dk_42 (dk_at dksX28_number_2 6 rfl rfl)
theorem dX28_number_53 : decode cX28_number 53 = .ok (.getfield 41, 3) := dk_180 0 41 (dk_at dksX28_number_2 7 rfl rfl)
theorem dX28_number_56 : decode cX28_number 56 = .ok (.caload, 1) := dk_52 (dk_at dksX28_number_2 10 rfl rfl)
theorem dX28_number_57 : decode cX28_number 57 = .ok (.iadd, 1) := dk_96 (dk_at dksX28_number_2 11 rfl rfl)
theorem dX28_number_58 : decode cX28_number 58 = .ok (.bipush 48, 2) := dk_16 48 (dk_at dksX28_number_2 12 rfl rfl)
theorem dX28_number_60 : decode cX28_number 60 = .ok (.isub, 1) := dk_100 (dk_at dksX28_number_2 14 rfl rfl)
theorem dX28_number_61 : decode cX28_number 61 = .ok (.istore_n 1, 1) := dk_60 (dk_at dksX28_number_2 15 rfl rfl)
theorem dX28_number_62 : decode cX28_number 62 = .ok (.aload_n 0, 1) := dk_42 (dk_at dksX28_number_2 16 rfl rfl)
theorem dX28_number_63 : decode cX28_number 63 = .ok (.dup, 1) := dk_89 (dk_at dksX28_number_2 17 rfl rfl)
theorem dX28_number_64 : decode cX28_number 64 = .ok (.getfield 41, 3) := dk_180 0 41 (dk_at dksX28_number_2 18 rfl rfl)
theorem dX28_number_67 : decode cX28_number 67 = .ok (.iconst 1, 1) := dk_4 (dk_at dksX28_number_2 21 rfl rfl)
theorem dX28_number_68 : decode cX28_number 68 = .ok (.iadd, 1) := dk_96 (dk_at dksX28_number_2 22 rfl rfl)
theorem dX28_number_69 : decode cX28_number 69 = .ok (.putfield 41, 3) := dk_181 0 41 (dk_at dksX28_number_3 0 rfl rfl)
theorem dX28_number_72 : decode cX28_number 72 = .ok (.iinc 2 1, 3) := dk_132 2 1 (dk_at dksX28_number_3 3 rfl rfl)
theorem dX28_number_75 : decode cX28_number 75 = .ok (.goto (-46), 3) := dk_167 255 210 (dk_at dksX28_number_3 6 rfl rfl)
theorem dX28_number_78 : decode cX28_number 78 = .ok (.iload_n 1, 1) := dk_27 (dk_at dksX28_number_3 9 rfl rfl)
theorem dX28_number_79 : decode cX28_number 79 = .ok (.ireturn, 1) := dk_172 (dk_at dksX28_number_3 10 rfl rfl)
abbrev cX28_isDigit : ByteArray := prog_27_method_5_code
def yX28_isDigit : MethodName := ⟨RX28, "isDigit", "()Z"⟩
def dkwX28_isDigit_1 : List UInt8 := [180, 0, 41, 52, 16, 48, 16, 57, 184, 0, 73, 153, 0, 7, 4, 167, 0, 4, 3, 172]
abbrev dktX28_isDigit_1 : List UInt8 := dkwX28_isDigit_1 ++ []
def dkwX28_isDigit_0 : List UInt8 := [42, 180, 0, 41, 42, 180, 0, 3, 180, 0, 45, 162, 0, 29, 42, 180, 0, 3, 180, 0, 48, 42]
abbrev dktX28_isDigit_0 : List UInt8 := dkwX28_isDigit_0 ++ dktX28_isDigit_1
theorem dksX28_isDigit_0 : cX28_isDigit.data.toList.drop 0 = dktX28_isDigit_0 := by decide +kernel
theorem dksX28_isDigit_1 : cX28_isDigit.data.toList.drop 22 = dktX28_isDigit_1 := dk_seg dksX28_isDigit_0 22 rfl rfl
theorem dX28_isDigit_0 : decode cX28_isDigit 0 = .ok (.aload_n 0, 1) := dk_42 (dk_at dksX28_isDigit_0 0 rfl rfl)
theorem dX28_isDigit_1 : decode cX28_isDigit 1 = .ok (.getfield 41, 3) := dk_180 0 41 (dk_at dksX28_isDigit_0 1 rfl rfl)
theorem dX28_isDigit_4 : decode cX28_isDigit 4 = .ok (.aload_n 0, 1) := dk_42 (dk_at dksX28_isDigit_0 4 rfl rfl)
theorem dX28_isDigit_5 : decode cX28_isDigit 5 = .ok (.getfield 3, 3) := dk_180 0 3 (dk_at dksX28_isDigit_0 5 rfl rfl)
theorem dX28_isDigit_8 : decode cX28_isDigit 8 = .ok (.getfield 45, 3) := dk_180 0 45 (dk_at dksX28_isDigit_0 8 rfl rfl)
theorem dX28_isDigit_11 : decode cX28_isDigit 11 = .ok (.if_icmp .ge 29, 3) := dk_162 0 29 (dk_at dksX28_isDigit_0 11 rfl rfl)
theorem dX28_isDigit_14 : decode cX28_isDigit 14 = .ok (.aload_n 0, 1) := dk_42 (dk_at dksX28_isDigit_0 14 rfl rfl)
theorem dX28_isDigit_15 : decode cX28_isDigit 15 = .ok (.getfield 3, 3) := dk_180 0 3 (dk_at dksX28_isDigit_0 15 rfl rfl)
theorem dX28_isDigit_18 : decode cX28_isDigit 18 = .ok (.getfield 48, 3) := dk_180 0 48 (dk_at dksX28_isDigit_0 18 rfl rfl)
theorem dX28_isDigit_21 : decode cX28_isDigit 21 = .ok (.aload_n 0, 1) := dk_42 (dk_at dksX28_isDigit_0 21 rfl rfl)
theorem dX28_isDigit_22 : decode cX28_isDigit 22 = .ok (.getfield 41, 3) := dk_180 0 41 (dk_at dksX28_isDigit_1 0 rfl rfl)
theorem dX28_isDigit_25 : decode cX28_isDigit 25 = .ok (.caload, 1) := dk_52 (dk_at dksX28_isDigit_1 3 rfl rfl)
theorem dX28_isDigit_26 : decode cX28_isDigit 26 = .ok (.bipush 48, 2) := dk_16 48 (dk_at dksX28_isDigit_1 4 rfl rfl)
theorem dX28_isDigit_28 : decode cX28_isDigit 28 = .ok (.bipush 57, 2) := dk_16 57 (dk_at dksX28_isDigit_1 6 rfl rfl)
theorem dX28_isDigit_30 : decode cX28_isDigit 30 = .ok (.invokestatic 73, 3) := dk_184 0 73 (dk_at dksX28_isDigit_1 8 rfl rfl)
theorem dX28_isDigit_33 : decode cX28_isDigit 33 = .ok (.ifCond .eq 7, 3) := dk_153 0 7 (dk_at dksX28_isDigit_1 11 rfl rfl)
theorem dX28_isDigit_36 : decode cX28_isDigit 36 = .ok (.iconst 1, 1) := dk_4 (dk_at dksX28_isDigit_1 14 rfl rfl)
theorem dX28_isDigit_37 : decode cX28_isDigit 37 = .ok (.goto 4, 3) := dk_167 0 4 (dk_at dksX28_isDigit_1 15 rfl rfl)
theorem dX28_isDigit_40 : decode cX28_isDigit 40 = .ok (.iconst 0, 1) := dk_3 (dk_at dksX28_isDigit_1 18 rfl rfl)
theorem dX28_isDigit_41 : decode cX28_isDigit 41 = .ok (.ireturn, 1) := dk_172 (dk_at dksX28_isDigit_1 19 rfl rfl)
theorem q128 : (Jvm.Cond.initialized "RosaryCarvers$Reader") ∈ lw_all := lw_g (lw_at lw_m1 56 rfl) rfl
theorem q311 : (Jvm.Cond.fieldLinkNest "RosaryCarvers$Reader" (48 : Nat) "RosaryCarvers" "input" "[C" "RosaryCarvers") ∈ lw_tbl := lw_at lw_m1 239 rfl
theorem q313 : (Jvm.Cond.fieldLinkNest "RosaryCarvers$Reader" (45 : Nat) "RosaryCarvers" "fed" "I" "RosaryCarvers") ∈ lw_tbl := lw_at lw_m2 1 rfl
theorem q628 : (Jvm.Cond.selects "RosaryCarvers$Reader" ({ cls := "java/lang/Object", name := "getClass", desc := "()Ljava/lang/Class;" } : Jvm.MethodName) ({ cls := "java/lang/Object", name := "getClass", desc := "()Ljava/lang/Class;" } : Jvm.MethodName)) ∈ lw_all := lw_g (lw_at lw_m3 76 rfl) rfl
theorem q1064 : (Jvm.Cond.selects "RosaryCarvers$Reader" ({ cls := "java/lang/Object", name := "equals", desc := "(Ljava/lang/Object;)Z" } : Jvm.MethodName) ({ cls := "java/lang/Object", name := "equals", desc := "(Ljava/lang/Object;)Z" } : Jvm.MethodName)) ∈ lw_all := lw_g (lw_at lw_m5 32 rfl) rfl
theorem q2175 : (Jvm.Cond.instantiable "RosaryCarvers$Reader" (4 : Nat)) ∈ lw_all := lw_g (lw_at lw_m9 183 rfl) rfl
theorem q2177 : (Jvm.Cond.instanceMethod ({ cls := "RosaryCarvers$Reader", name := "<init>", desc := "(LRosaryCarvers;)V" } : Jvm.MethodName)) ∈ lw_all := lw_g (lw_at lw_m9 185 rfl) rfl
theorem q2178 : (Jvm.Cond.code ({ cls := "RosaryCarvers$Reader", name := "<init>", desc := "(LRosaryCarvers;)V" } : Jvm.MethodName) prog_27_method_1_code (2 : Nat) (Option.none : Option Jvm.ClassFile.FieldType)) ∈ lw_all := lw_g (lw_at lw_m9 186 rfl) rfl
theorem q2179 : (Jvm.Cond.methodLink "RosaryCarvers$Reader" (9 : Nat) ({ cls := "java/lang/Object", name := "<init>", desc := "()V" } : Jvm.MethodName)) ∈ lw_all := lw_g (lw_at lw_m9 187 rfl) rfl
theorem q2180 : (Jvm.Cond.classLink "RosaryCarvers$Reader" (15 : Nat) "java/lang/String") ∈ lw_all := lw_g (lw_at lw_m9 188 rfl) rfl
theorem q2182 : (Jvm.Cond.stringRef "RosaryCarvers$Reader" (17 : Nat) "large") ∈ lw_tbl := lw_at lw_m9 190 rfl
theorem q2183 : (Jvm.Cond.stringRef "RosaryCarvers$Reader" (19 : Nat) "small") ∈ lw_tbl := lw_at lw_m9 191 rfl
theorem q2184 : (Jvm.Cond.stringRef "RosaryCarvers$Reader" (21 : Nat) "begin") ∈ lw_tbl := lw_at lw_m9 192 rfl
theorem q2185 : (Jvm.Cond.stringRef "RosaryCarvers$Reader" (23 : Nat) "thread") ∈ lw_tbl := lw_at lw_m9 193 rfl
theorem q2186 : (Jvm.Cond.stringRef "RosaryCarvers$Reader" (25 : Nat) "knot") ∈ lw_tbl := lw_at lw_m9 194 rfl
theorem q2187 : (Jvm.Cond.stringRef "RosaryCarvers$Reader" (27 : Nat) "drop") ∈ lw_tbl := lw_at lw_m9 195 rfl
theorem q2188 : (Jvm.Cond.stringRef "RosaryCarvers$Reader" (29 : Nat) "mend") ∈ lw_tbl := lw_at lw_m9 196 rfl
theorem q2189 : (Jvm.Cond.stringRef "RosaryCarvers$Reader" (31 : Nat) "wait") ∈ lw_tbl := lw_at lw_m9 197 rfl
theorem q2190 : (Jvm.Cond.fieldLink "RosaryCarvers$Reader" (33 : Nat) "RosaryCarvers$Reader" "words" "[Ljava/lang/String;") ∈ lw_all := lw_g (lw_at lw_m9 198 rfl) rfl
theorem q2191 : (Jvm.Cond.fieldLink "RosaryCarvers$Reader" (37 : Nat) "RosaryCarvers$Reader" "many" "[I") ∈ lw_all := lw_g (lw_at lw_m9 199 rfl) rfl
theorem q2192 : (Jvm.Cond.fieldLink "RosaryCarvers$Reader" (41 : Nat) "RosaryCarvers$Reader" "at" "I") ∈ lw_all := lw_g (lw_at lw_m9 200 rfl) rfl
theorem q2193 : (Jvm.Cond.fieldLink "RosaryCarvers$Reader" (3 : Nat) "RosaryCarvers$Reader" "this$0" "LRosaryCarvers;") ∈ lw_all := lw_g (lw_at lw_m9 201 rfl) rfl
theorem q2194 : (Jvm.Cond.laysFinal "RosaryCarvers$Reader" "RosaryCarvers$Reader" "words" "[Ljava/lang/String;") ∈ lw_all := lw_g (lw_at lw_m9 202 rfl) rfl
theorem q2195 : (Jvm.Cond.soleField "RosaryCarvers$Reader" "words") ∈ lw_all := lw_g (lw_at lw_m9 203 rfl) rfl
theorem q2196 : (Jvm.Cond.laysFinal "RosaryCarvers$Reader" "RosaryCarvers$Reader" "many" "[I") ∈ lw_all := lw_g (lw_at lw_m9 204 rfl) rfl
theorem q2197 : (Jvm.Cond.soleField "RosaryCarvers$Reader" "many") ∈ lw_all := lw_g (lw_at lw_m9 205 rfl) rfl
theorem q2198 : (Jvm.Cond.lays "RosaryCarvers$Reader" "RosaryCarvers$Reader" "at" "I") ∈ lw_all := lw_g (lw_at lw_m9 206 rfl) rfl
theorem q2199 : (Jvm.Cond.soleField "RosaryCarvers$Reader" "at") ∈ lw_all := lw_g (lw_at lw_m9 207 rfl) rfl
theorem q2200 : (Jvm.Cond.laysFinal "RosaryCarvers$Reader" "RosaryCarvers$Reader" "this$0" "LRosaryCarvers;") ∈ lw_all := lw_g (lw_at lw_m9 208 rfl) rfl
theorem q2201 : (Jvm.Cond.soleField "RosaryCarvers$Reader" "this$0") ∈ lw_all := lw_g (lw_at lw_m9 209 rfl) rfl
theorem q2202 : (Jvm.Cond.superclass "RosaryCarvers$Reader" "java/lang/Object") ∈ lw_all := lw_g (lw_at lw_m9 210 rfl) rfl
theorem q2205 : (Jvm.Cond.instanceMethod ({ cls := "RosaryCarvers$Reader", name := "whole", desc := "()Ljava/util/ArrayDeque;" } : Jvm.MethodName)) ∈ lw_all := lw_g (lw_at lw_m9 213 rfl) rfl
theorem q2206 : (Jvm.Cond.selects "RosaryCarvers$Reader" ({ cls := "RosaryCarvers$Reader", name := "whole", desc := "()Ljava/util/ArrayDeque;" } : Jvm.MethodName) ({ cls := "RosaryCarvers$Reader", name := "whole", desc := "()Ljava/util/ArrayDeque;" } : Jvm.MethodName)) ∈ lw_all := lw_g (lw_at lw_m9 214 rfl) rfl
theorem q2207 : (Jvm.Cond.code ({ cls := "RosaryCarvers$Reader", name := "whole", desc := "()Ljava/util/ArrayDeque;" } : Jvm.MethodName) prog_27_method_8_code (2 : Nat) (Option.some (Jvm.ClassFile.FieldType.object "java/util/ArrayDeque"))) ∈ lw_all := lw_g (lw_at lw_m9 215 rfl) rfl
theorem q2208 : (Jvm.Cond.classLink "RosaryCarvers$Reader" (95 : Nat) "java/util/ArrayDeque") ∈ lw_all := lw_g (lw_at lw_m9 216 rfl) rfl
theorem q2209 : (Jvm.Cond.methodLink "RosaryCarvers$Reader" (97 : Nat) ({ cls := "java/util/ArrayDeque", name := "<init>", desc := "()V" } : Jvm.MethodName)) ∈ lw_all := lw_g (lw_at lw_m9 217 rfl) rfl
theorem q2210 : (Jvm.Cond.methodLink "RosaryCarvers$Reader" (98 : Nat) ({ cls := "RosaryCarvers$Reader", name := "command", desc := "()LRosaryCarvers$Command;" } : Jvm.MethodName)) ∈ lw_all := lw_g (lw_at lw_m9 218 rfl) rfl
theorem q2211 : (Jvm.Cond.privateMethod ({ cls := "RosaryCarvers$Reader", name := "command", desc := "()LRosaryCarvers$Command;" } : Jvm.MethodName)) ∈ lw_tbl := lw_at lw_m9 219 rfl
theorem q2212 : (Jvm.Cond.instanceMethod ({ cls := "RosaryCarvers$Reader", name := "command", desc := "()LRosaryCarvers$Command;" } : Jvm.MethodName)) ∈ lw_all := lw_g (lw_at lw_m9 220 rfl) rfl
theorem q2213 : (Jvm.Cond.code ({ cls := "RosaryCarvers$Reader", name := "command", desc := "()LRosaryCarvers$Command;" } : Jvm.MethodName) prog_27_method_7_code (4 : Nat) (Option.some (Jvm.ClassFile.FieldType.object "RosaryCarvers$Command"))) ∈ lw_all := lw_g (lw_at lw_m9 221 rfl) rfl
theorem q2214 : (Jvm.Cond.methodLink "RosaryCarvers$Reader" (81 : Nat) ({ cls := "RosaryCarvers$Reader", name := "word", desc := "()I" } : Jvm.MethodName)) ∈ lw_all := lw_g (lw_at lw_m9 222 rfl) rfl
theorem q2215 : (Jvm.Cond.privateMethod ({ cls := "RosaryCarvers$Reader", name := "word", desc := "()I" } : Jvm.MethodName)) ∈ lw_tbl := lw_at lw_m9 223 rfl
theorem q2216 : (Jvm.Cond.instanceMethod ({ cls := "RosaryCarvers$Reader", name := "word", desc := "()I" } : Jvm.MethodName)) ∈ lw_all := lw_g (lw_at lw_m9 224 rfl) rfl
theorem q2217 : (Jvm.Cond.code ({ cls := "RosaryCarvers$Reader", name := "word", desc := "()I" } : Jvm.MethodName) prog_27_method_4_code (3 : Nat) (Option.some Jvm.ClassFile.FieldType.int)) ∈ lw_all := lw_g (lw_at lw_m9 225 rfl) rfl
theorem q2218 : (Jvm.Cond.methodLink "RosaryCarvers$Reader" (61 : Nat) ({ cls := "java/lang/String", name := "charAt", desc := "(I)C" } : Jvm.MethodName)) ∈ lw_all := lw_g (lw_at lw_m9 226 rfl) rfl
theorem q2219 : (Jvm.Cond.methodLink "RosaryCarvers$Reader" (52 : Nat) ({ cls := "RosaryCarvers$Reader", name := "isSign", desc := "(C)Z" } : Jvm.MethodName)) ∈ lw_all := lw_g (lw_at lw_m9 227 rfl) rfl
theorem q2220 : (Jvm.Cond.privateMethod ({ cls := "RosaryCarvers$Reader", name := "isSign", desc := "(C)Z" } : Jvm.MethodName)) ∈ lw_tbl := lw_at lw_m9 228 rfl
theorem q2221 : (Jvm.Cond.instanceMethod ({ cls := "RosaryCarvers$Reader", name := "isSign", desc := "(C)Z" } : Jvm.MethodName)) ∈ lw_all := lw_g (lw_at lw_m9 229 rfl) rfl
theorem q2222 : (Jvm.Cond.code ({ cls := "RosaryCarvers$Reader", name := "isSign", desc := "(C)Z" } : Jvm.MethodName) prog_27_method_2_code (2 : Nat) (Option.some Jvm.ClassFile.FieldType.boolean)) ∈ lw_all := lw_g (lw_at lw_m9 230 rfl) rfl
theorem q2223 : (Jvm.Cond.methodLink "RosaryCarvers$Reader" (65 : Nat) ({ cls := "java/lang/String", name := "length", desc := "()I" } : Jvm.MethodName)) ∈ lw_all := lw_g (lw_at lw_m9 231 rfl) rfl
theorem q2224 : (Jvm.Cond.methodLink "RosaryCarvers$Reader" (69 : Nat) ({ cls := "RosaryCarvers$Reader", name := "takes", desc := "(C)V" } : Jvm.MethodName)) ∈ lw_all := lw_g (lw_at lw_m9 232 rfl) rfl
theorem q2225 : (Jvm.Cond.privateMethod ({ cls := "RosaryCarvers$Reader", name := "takes", desc := "(C)V" } : Jvm.MethodName)) ∈ lw_tbl := lw_at lw_m9 233 rfl
theorem q2226 : (Jvm.Cond.instanceMethod ({ cls := "RosaryCarvers$Reader", name := "takes", desc := "(C)V" } : Jvm.MethodName)) ∈ lw_all := lw_g (lw_at lw_m9 234 rfl) rfl
theorem q2227 : (Jvm.Cond.code ({ cls := "RosaryCarvers$Reader", name := "takes", desc := "(C)V" } : Jvm.MethodName) prog_27_method_3_code (2 : Nat) (Option.none : Option Jvm.ClassFile.FieldType)) ∈ lw_all := lw_g (lw_at lw_m9 235 rfl) rfl
theorem q2228 : (Jvm.Cond.classLink "RosaryCarvers$Reader" (56 : Nat) "RosaryCarvers$BadSign") ∈ lw_all := lw_g (lw_at lw_m9 236 rfl) rfl
theorem q2237 : (Jvm.Cond.methodLink "RosaryCarvers$Reader" (58 : Nat) ({ cls := "RosaryCarvers$BadSign", name := "<init>", desc := "(I)V" } : Jvm.MethodName)) ∈ lw_all := lw_g (lw_at lw_m10 5 rfl) rfl
theorem q2247 : (Jvm.Cond.classLink "RosaryCarvers$Reader" (84 : Nat) "RosaryCarvers$Command") ∈ lw_all := lw_g (lw_at lw_m10 15 rfl) rfl
theorem q2249 : (Jvm.Cond.methodLink "RosaryCarvers$Reader" (86 : Nat) ({ cls := "RosaryCarvers$Command", name := "<init>", desc := "(Ljava/lang/String;)V" } : Jvm.MethodName)) ∈ lw_all := lw_g (lw_at lw_m10 17 rfl) rfl
theorem q2256 : (Jvm.Cond.fieldLinkNest "RosaryCarvers$Reader" (89 : Nat) "RosaryCarvers$Command" "numbers" "[I" "RosaryCarvers") ∈ lw_tbl := lw_at lw_m10 24 rfl
theorem q2262 : (Jvm.Cond.methodLink "RosaryCarvers$Reader" (92 : Nat) ({ cls := "RosaryCarvers$Reader", name := "number", desc := "()I" } : Jvm.MethodName)) ∈ lw_all := lw_g (lw_at lw_m10 30 rfl) rfl
theorem q2263 : (Jvm.Cond.privateMethod ({ cls := "RosaryCarvers$Reader", name := "number", desc := "()I" } : Jvm.MethodName)) ∈ lw_tbl := lw_at lw_m10 31 rfl
theorem q2264 : (Jvm.Cond.instanceMethod ({ cls := "RosaryCarvers$Reader", name := "number", desc := "()I" } : Jvm.MethodName)) ∈ lw_all := lw_g (lw_at lw_m10 32 rfl) rfl
theorem q2265 : (Jvm.Cond.code ({ cls := "RosaryCarvers$Reader", name := "number", desc := "()I" } : Jvm.MethodName) prog_27_method_6_code (3 : Nat) (Option.some Jvm.ClassFile.FieldType.int)) ∈ lw_all := lw_g (lw_at lw_m10 33 rfl) rfl
theorem q2266 : (Jvm.Cond.methodLink "RosaryCarvers$Reader" (77 : Nat) ({ cls := "RosaryCarvers$Reader", name := "isDigit", desc := "()Z" } : Jvm.MethodName)) ∈ lw_all := lw_g (lw_at lw_m10 34 rfl) rfl
theorem q2267 : (Jvm.Cond.privateMethod ({ cls := "RosaryCarvers$Reader", name := "isDigit", desc := "()Z" } : Jvm.MethodName)) ∈ lw_tbl := lw_at lw_m10 35 rfl
theorem q2268 : (Jvm.Cond.instanceMethod ({ cls := "RosaryCarvers$Reader", name := "isDigit", desc := "()Z" } : Jvm.MethodName)) ∈ lw_all := lw_g (lw_at lw_m10 36 rfl) rfl
theorem q2269 : (Jvm.Cond.code ({ cls := "RosaryCarvers$Reader", name := "isDigit", desc := "()Z" } : Jvm.MethodName) prog_27_method_5_code (1 : Nat) (Option.some Jvm.ClassFile.FieldType.boolean)) ∈ lw_all := lw_g (lw_at lw_m10 37 rfl) rfl
theorem q2270 : (Jvm.Cond.methodLinkNest "RosaryCarvers$Reader" (73 : Nat) ({ cls := "RosaryCarvers", name := "in", desc := "(III)Z" } : Jvm.MethodName) "RosaryCarvers") ∈ lw_tbl := lw_at lw_m10 38 rfl
theorem q2271 : (Jvm.Cond.methodLink "RosaryCarvers$Reader" (102 : Nat) ({ cls := "java/util/ArrayDeque", name := "addLast", desc := "(Ljava/lang/Object;)V" } : Jvm.MethodName)) ∈ lw_all := lw_g (lw_at lw_m10 39 rfl) rfl
theorem q2839 : (Jvm.Cond.castable "RosaryCarvers$Reader" "java/lang/Object") ∈ lw_tbl := lw_at lw_m12 127 rfl
theorem in_X28 : ∀ w ∈ wsX280, w ∈ lw_all := lw_in wsX280 [2194, 2196, 2198, 2200] (by decide +kernel) (by decide +kernel)

/-! RosaryCarvers$BadSign -/
set_option maxRecDepth 100000
def RX29 : String := "RosaryCarvers$BadSign"
def TX29 : u_T := fun k => match k with
  | 0 => ("java/lang/Throwable", "cause", "Ljava/lang/Throwable;", false)
  | 1 => ("java/lang/Throwable", "stackTrace", "[Ljava/lang/StackTraceElement;", false)
  | 2 => ("java/lang/Throwable", "suppressedExceptions", "Ljava/util/List;", false)
  | 3 => ("java/lang/Throwable", "detailMessage", "Ljava/lang/String;", false)
  | 4 => ("java/lang/Throwable", "backtrace", "Ljava/lang/Object;", false)
  | 5 => ("java/lang/Throwable", "depth", "I", false)
  | _ => ("RosaryCarvers$BadSign", "place", "I", true)
def tyX29 : Nat → FieldType := fun k => match k with
  | 0 => .object "java/lang/Throwable"
  | 1 => .array (.object "java/lang/StackTraceElement")
  | 2 => .object "java/util/List"
  | 3 => .object "java/lang/String"
  | 4 => .object "java/lang/Object"
  | 5 => .int
  | _ => .int
abbrev wsX290 : List Cond := u_ws RX29 TX29 7
theorem nmX29 : ∀ a, a < 7 → ∀ b, b < 7 → a ≠ b → (TX29 a).2.1 ≠ (TX29 b).2.1 := by decide +kernel
theorem tyX29_ok : ∀ k, k < 7 → parseFieldDescriptor (TX29 k).2.2.1 = some (tyX29 k) := by decide +kernel
abbrev cX29_init : ByteArray := prog_15_method_1_code
def yX29_init : MethodName := ⟨RX29, "<init>", "(I)V"⟩
def dkwX29_init_0 : List UInt8 := [42, 1, 1, 3, 3, 183, 0, 1, 42, 27, 181, 0, 7, 177]
abbrev dktX29_init_0 : List UInt8 := dkwX29_init_0 ++ []
theorem dksX29_init_0 : cX29_init.data.toList.drop 0 = dktX29_init_0 := by decide +kernel
theorem dX29_init_0 : decode cX29_init 0 = .ok (.aload_n 0, 1) := dk_42 (dk_at dksX29_init_0 0 rfl rfl)
theorem dX29_init_1 : decode cX29_init 1 = .ok (.aconst_null, 1) := dk_1 (dk_at dksX29_init_0 1 rfl rfl)
theorem dX29_init_2 : decode cX29_init 2 = .ok (.aconst_null, 1) := dk_1 (dk_at dksX29_init_0 2 rfl rfl)
theorem dX29_init_3 : decode cX29_init 3 = .ok (.iconst 0, 1) := dk_3 (dk_at dksX29_init_0 3 rfl rfl)
theorem dX29_init_4 : decode cX29_init 4 = .ok (.iconst 0, 1) := dk_3 (dk_at dksX29_init_0 4 rfl rfl)
theorem dX29_init_5 : decode cX29_init 5 = .ok (.invokespecial 1, 3) := dk_183 0 1 (dk_at dksX29_init_0 5 rfl rfl)
theorem dX29_init_8 : decode cX29_init 8 = .ok (.aload_n 0, 1) := dk_42 (dk_at dksX29_init_0 8 rfl rfl)
theorem dX29_init_9 : decode cX29_init 9 = .ok (.iload_n 1, 1) := dk_27 (dk_at dksX29_init_0 9 rfl rfl)
theorem dX29_init_10 : decode cX29_init 10 = .ok (.putfield 7, 3) := dk_181 0 7 (dk_at dksX29_init_0 10 rfl rfl)
theorem dX29_init_13 : decode cX29_init 13 = .ok (.return_, 1) := dk_177 (dk_at dksX29_init_0 13 rfl rfl)
theorem q129 : (Jvm.Cond.initialized "RosaryCarvers$BadSign") ∈ lw_all := lw_g (lw_at lw_m1 57 rfl) rfl
theorem q468 : (Jvm.Cond.selects "RosaryCarvers$BadSign" ({ cls := "java/lang/Throwable", name := "fillInStackTrace", desc := "()Ljava/lang/Throwable;" } : Jvm.MethodName) ({ cls := "java/lang/Throwable", name := "fillInStackTrace", desc := "()Ljava/lang/Throwable;" } : Jvm.MethodName)) ∈ lw_all := lw_g (lw_at lw_m2 156 rfl) rfl
theorem q618 : (Jvm.Cond.selects "RosaryCarvers$BadSign" ({ cls := "java/lang/Object", name := "getClass", desc := "()Ljava/lang/Class;" } : Jvm.MethodName) ({ cls := "java/lang/Object", name := "getClass", desc := "()Ljava/lang/Class;" } : Jvm.MethodName)) ∈ lw_all := lw_g (lw_at lw_m3 66 rfl) rfl
theorem q1054 : (Jvm.Cond.selects "RosaryCarvers$BadSign" ({ cls := "java/lang/Object", name := "equals", desc := "(Ljava/lang/Object;)Z" } : Jvm.MethodName) ({ cls := "java/lang/Object", name := "equals", desc := "(Ljava/lang/Object;)Z" } : Jvm.MethodName)) ∈ lw_all := lw_g (lw_at lw_m5 22 rfl) rfl
theorem q2229 : (Jvm.Cond.instantiable "RosaryCarvers$BadSign" (7 : Nat)) ∈ lw_all := lw_g (lw_at lw_m9 237 rfl) rfl
theorem q2230 : (Jvm.Cond.castable "RosaryCarvers$BadSign" "RosaryCarvers$BadSign") ∈ lw_tbl := lw_at lw_m9 238 rfl
theorem q2231 : (Jvm.Cond.selects "RosaryCarvers$BadSign" ({ cls := "java/lang/Throwable", name := "fillInStackTrace", desc := "(I)Ljava/lang/Throwable;" } : Jvm.MethodName) ({ cls := "java/lang/Throwable", name := "fillInStackTrace", desc := "(I)Ljava/lang/Throwable;" } : Jvm.MethodName)) ∈ lw_all := lw_g (lw_at lw_m9 239 rfl) rfl
theorem q2232 : (Jvm.Cond.lays "RosaryCarvers$BadSign" "java/lang/Throwable" "cause" "Ljava/lang/Throwable;") ∈ lw_all := lw_g (lw_at lw_m10 0 rfl) rfl
theorem q2233 : (Jvm.Cond.lays "RosaryCarvers$BadSign" "java/lang/Throwable" "stackTrace" "[Ljava/lang/StackTraceElement;") ∈ lw_all := lw_g (lw_at lw_m10 1 rfl) rfl
theorem q2234 : (Jvm.Cond.lays "RosaryCarvers$BadSign" "java/lang/Throwable" "suppressedExceptions" "Ljava/util/List;") ∈ lw_all := lw_g (lw_at lw_m10 2 rfl) rfl
theorem q2235 : (Jvm.Cond.lays "RosaryCarvers$BadSign" "java/lang/Throwable" "detailMessage" "Ljava/lang/String;") ∈ lw_all := lw_g (lw_at lw_m10 3 rfl) rfl
theorem q2236 : (Jvm.Cond.lays "RosaryCarvers$BadSign" "java/lang/Throwable" "backtrace" "Ljava/lang/Object;") ∈ lw_all := lw_g (lw_at lw_m10 4 rfl) rfl
theorem q2238 : (Jvm.Cond.instanceMethod ({ cls := "RosaryCarvers$BadSign", name := "<init>", desc := "(I)V" } : Jvm.MethodName)) ∈ lw_all := lw_g (lw_at lw_m10 6 rfl) rfl
theorem q2239 : (Jvm.Cond.code ({ cls := "RosaryCarvers$BadSign", name := "<init>", desc := "(I)V" } : Jvm.MethodName) prog_15_method_1_code (2 : Nat) (Option.none : Option Jvm.ClassFile.FieldType)) ∈ lw_all := lw_g (lw_at lw_m10 7 rfl) rfl
theorem q2240 : (Jvm.Cond.methodLink "RosaryCarvers$BadSign" (1 : Nat) ({ cls := "java/lang/Exception", name := "<init>", desc := "(Ljava/lang/String;Ljava/lang/Throwable;ZZ)V" } : Jvm.MethodName)) ∈ lw_all := lw_g (lw_at lw_m10 8 rfl) rfl
theorem q2241 : (Jvm.Cond.fieldLink "RosaryCarvers$BadSign" (7 : Nat) "RosaryCarvers$BadSign" "place" "I") ∈ lw_all := lw_g (lw_at lw_m10 9 rfl) rfl
theorem q2243 : (Jvm.Cond.laysFinal "RosaryCarvers$BadSign" "RosaryCarvers$BadSign" "place" "I") ∈ lw_all := lw_g (lw_at lw_m10 11 rfl) rfl
theorem q2244 : (Jvm.Cond.soleField "RosaryCarvers$BadSign" "place") ∈ lw_all := lw_g (lw_at lw_m10 12 rfl) rfl
theorem q2245 : (Jvm.Cond.lays "RosaryCarvers$BadSign" "java/lang/Throwable" "depth" "I") ∈ lw_all := lw_g (lw_at lw_m10 13 rfl) rfl
theorem q2246 : (Jvm.Cond.superclass "RosaryCarvers$BadSign" "java/lang/Exception") ∈ lw_all := lw_g (lw_at lw_m10 14 rfl) rfl
theorem q2840 : (Jvm.Cond.castable "RosaryCarvers$BadSign" "java/lang/Object") ∈ lw_tbl := lw_at lw_m12 128 rfl
theorem in_X29 : ∀ w ∈ wsX290, w ∈ lw_all := lw_in wsX290 [2232, 2233, 2234, 2235, 2236, 2245, 2243] (by decide +kernel) (by decide +kernel)

/-! RosaryCarvers$Command -/
set_option maxRecDepth 100000
def RX30 : String := "RosaryCarvers$Command"
def TX30 : u_T := fun k => match k with
  | 0 => ("RosaryCarvers$Command", "word", "Ljava/lang/String;", true)
  | _ => ("RosaryCarvers$Command", "numbers", "[I", true)
def tyX30 : Nat → FieldType := fun k => match k with
  | 0 => .object "java/lang/String"
  | _ => .array .int
abbrev wsX300 : List Cond := u_ws RX30 TX30 2
theorem nmX30 : ∀ a, a < 2 → ∀ b, b < 2 → a ≠ b → (TX30 a).2.1 ≠ (TX30 b).2.1 := by decide +kernel
theorem tyX30_ok : ∀ k, k < 2 → parseFieldDescriptor (TX30 k).2.2.1 = some (tyX30 k) := by decide +kernel
abbrev cX30_n : ByteArray := prog_21_method_2_code
def yX30_n : MethodName := ⟨RX30, "n", "(I)I"⟩
def dkwX30_n_0 : List UInt8 := [42, 180, 0, 7, 27, 46, 172]
abbrev dktX30_n_0 : List UInt8 := dkwX30_n_0 ++ []
theorem dksX30_n_0 : cX30_n.data.toList.drop 0 = dktX30_n_0 := by decide +kernel
theorem dX30_n_0 : decode cX30_n 0 = .ok (.aload_n 0, 1) := dk_42 (dk_at dksX30_n_0 0 rfl rfl)
theorem dX30_n_1 : decode cX30_n 1 = .ok (.getfield 7, 3) := dk_180 0 7 (dk_at dksX30_n_0 1 rfl rfl)
theorem dX30_n_4 : decode cX30_n 4 = .ok (.iload_n 1, 1) := dk_27 (dk_at dksX30_n_0 4 rfl rfl)
theorem dX30_n_5 : decode cX30_n 5 = .ok (.iaload, 1) := dk_46 (dk_at dksX30_n_0 5 rfl rfl)
theorem dX30_n_6 : decode cX30_n 6 = .ok (.ireturn, 1) := dk_172 (dk_at dksX30_n_0 6 rfl rfl)
abbrev cX30_init : ByteArray := prog_21_method_1_code
def yX30_init : MethodName := ⟨RX30, "<init>", "(Ljava/lang/String;)V"⟩
def dkwX30_init_0 : List UInt8 := [42, 183, 0, 1, 42, 5, 188, 10, 181, 0, 7, 42, 43, 181, 0, 13, 177]
abbrev dktX30_init_0 : List UInt8 := dkwX30_init_0 ++ []
theorem dksX30_init_0 : cX30_init.data.toList.drop 0 = dktX30_init_0 := by decide +kernel
theorem dX30_init_0 : decode cX30_init 0 = .ok (.aload_n 0, 1) := dk_42 (dk_at dksX30_init_0 0 rfl rfl)
theorem dX30_init_1 : decode cX30_init 1 = .ok (.invokespecial 1, 3) := dk_183 0 1 (dk_at dksX30_init_0 1 rfl rfl)
theorem dX30_init_4 : decode cX30_init 4 = .ok (.aload_n 0, 1) := dk_42 (dk_at dksX30_init_0 4 rfl rfl)
theorem dX30_init_5 : decode cX30_init 5 = .ok (.iconst 2, 1) := dk_5 (dk_at dksX30_init_0 5 rfl rfl)
theorem dX30_init_6 : decode cX30_init 6 = .ok (.newarray .int, 2) := dk_188_10 (dk_at dksX30_init_0 6 rfl rfl)
theorem dX30_init_8 : decode cX30_init 8 = .ok (.putfield 7, 3) := dk_181 0 7 (dk_at dksX30_init_0 8 rfl rfl)
theorem dX30_init_11 : decode cX30_init 11 = .ok (.aload_n 0, 1) := dk_42 (dk_at dksX30_init_0 11 rfl rfl)
theorem dX30_init_12 : decode cX30_init 12 = .ok (.aload_n 1, 1) := dk_43 (dk_at dksX30_init_0 12 rfl rfl)
theorem dX30_init_13 : decode cX30_init 13 = .ok (.putfield 13, 3) := dk_181 0 13 (dk_at dksX30_init_0 13 rfl rfl)
theorem dX30_init_16 : decode cX30_init 16 = .ok (.return_, 1) := dk_177 (dk_at dksX30_init_0 16 rfl rfl)
theorem q130 : (Jvm.Cond.initialized "RosaryCarvers$Command") ∈ lw_all := lw_g (lw_at lw_m1 58 rfl) rfl
theorem q624 : (Jvm.Cond.selects "RosaryCarvers$Command" ({ cls := "java/lang/Object", name := "getClass", desc := "()Ljava/lang/Class;" } : Jvm.MethodName) ({ cls := "java/lang/Object", name := "getClass", desc := "()Ljava/lang/Class;" } : Jvm.MethodName)) ∈ lw_all := lw_g (lw_at lw_m3 72 rfl) rfl
theorem q1060 : (Jvm.Cond.selects "RosaryCarvers$Command" ({ cls := "java/lang/Object", name := "equals", desc := "(Ljava/lang/Object;)Z" } : Jvm.MethodName) ({ cls := "java/lang/Object", name := "equals", desc := "(Ljava/lang/Object;)Z" } : Jvm.MethodName)) ∈ lw_all := lw_g (lw_at lw_m5 28 rfl) rfl
theorem q1357 : (Jvm.Cond.instanceMethod ({ cls := "RosaryCarvers$Command", name := "n", desc := "(I)I" } : Jvm.MethodName)) ∈ lw_all := lw_g (lw_at lw_m6 85 rfl) rfl
theorem q1358 : (Jvm.Cond.selects "RosaryCarvers$Command" ({ cls := "RosaryCarvers$Command", name := "n", desc := "(I)I" } : Jvm.MethodName) ({ cls := "RosaryCarvers$Command", name := "n", desc := "(I)I" } : Jvm.MethodName)) ∈ lw_all := lw_g (lw_at lw_m6 86 rfl) rfl
theorem q1359 : (Jvm.Cond.code ({ cls := "RosaryCarvers$Command", name := "n", desc := "(I)I" } : Jvm.MethodName) prog_21_method_2_code (2 : Nat) (Option.some Jvm.ClassFile.FieldType.int)) ∈ lw_all := lw_g (lw_at lw_m6 87 rfl) rfl
theorem q2248 : (Jvm.Cond.instantiable "RosaryCarvers$Command" (2 : Nat)) ∈ lw_all := lw_g (lw_at lw_m10 16 rfl) rfl
theorem q2250 : (Jvm.Cond.instanceMethod ({ cls := "RosaryCarvers$Command", name := "<init>", desc := "(Ljava/lang/String;)V" } : Jvm.MethodName)) ∈ lw_all := lw_g (lw_at lw_m10 18 rfl) rfl
theorem q2251 : (Jvm.Cond.code ({ cls := "RosaryCarvers$Command", name := "<init>", desc := "(Ljava/lang/String;)V" } : Jvm.MethodName) prog_21_method_1_code (2 : Nat) (Option.none : Option Jvm.ClassFile.FieldType)) ∈ lw_all := lw_g (lw_at lw_m10 19 rfl) rfl
theorem q2252 : (Jvm.Cond.methodLink "RosaryCarvers$Command" (1 : Nat) ({ cls := "java/lang/Object", name := "<init>", desc := "()V" } : Jvm.MethodName)) ∈ lw_all := lw_g (lw_at lw_m10 20 rfl) rfl
theorem q2253 : (Jvm.Cond.fieldLink "RosaryCarvers$Command" (13 : Nat) "RosaryCarvers$Command" "word" "Ljava/lang/String;") ∈ lw_all := lw_g (lw_at lw_m10 21 rfl) rfl
theorem q2255 : (Jvm.Cond.fieldLink "RosaryCarvers$Command" (7 : Nat) "RosaryCarvers$Command" "numbers" "[I") ∈ lw_all := lw_g (lw_at lw_m10 23 rfl) rfl
theorem q2257 : (Jvm.Cond.laysFinal "RosaryCarvers$Command" "RosaryCarvers$Command" "word" "Ljava/lang/String;") ∈ lw_all := lw_g (lw_at lw_m10 25 rfl) rfl
theorem q2258 : (Jvm.Cond.soleField "RosaryCarvers$Command" "word") ∈ lw_all := lw_g (lw_at lw_m10 26 rfl) rfl
theorem q2259 : (Jvm.Cond.laysFinal "RosaryCarvers$Command" "RosaryCarvers$Command" "numbers" "[I") ∈ lw_all := lw_g (lw_at lw_m10 27 rfl) rfl
theorem q2260 : (Jvm.Cond.soleField "RosaryCarvers$Command" "numbers") ∈ lw_all := lw_g (lw_at lw_m10 28 rfl) rfl
theorem q2261 : (Jvm.Cond.superclass "RosaryCarvers$Command" "java/lang/Object") ∈ lw_all := lw_g (lw_at lw_m10 29 rfl) rfl
theorem q2841 : (Jvm.Cond.castable "RosaryCarvers$Command" "java/lang/Object") ∈ lw_tbl := lw_at lw_m12 129 rfl
theorem in_X30 : ∀ w ∈ wsX300, w ∈ lw_all := lw_in wsX300 [2257, 2259] (by decide +kernel) (by decide +kernel)

/-! RosaryCarvers$13 -/
set_option maxRecDepth 100000
def RX31 : String := "RosaryCarvers$13"
def TX31 : u_T := fun k => match k with
  | 0 => ("RosaryCarvers$Deed", "this$0", "LRosaryCarvers;", true)
  | 1 => ("RosaryCarvers$13", "val$all", "Ljava/util/ArrayDeque;", true)
  | _ => ("RosaryCarvers$13", "this$0", "LRosaryCarvers;", true)
def tyX31 : Nat → FieldType := fun k => match k with
  | 0 => .object "RosaryCarvers"
  | 1 => .object "java/util/ArrayDeque"
  | _ => .object "RosaryCarvers"
abbrev wsX310 : List Cond := u_ws RX31 TX31 3
-- two fields of one name: no nmX31
theorem tyX31_ok : ∀ k, k < 3 → parseFieldDescriptor (TX31 k).2.2.1 = some (tyX31 k) := by decide +kernel
abbrev cX31_does : ByteArray := prog_6_method_2_code
def yX31_does : MethodName := ⟨RX31, "does", "(LRosaryCarvers$Shop;)I"⟩
def dkwX31_does_0 : List UInt8 := [43, 42, 180, 0, 7, 184, 0, 17, 172]
abbrev dktX31_does_0 : List UInt8 := dkwX31_does_0 ++ []
theorem dksX31_does_0 : cX31_does.data.toList.drop 0 = dktX31_does_0 := by decide +kernel
theorem dX31_does_0 : decode cX31_does 0 = .ok (.aload_n 1, 1) := dk_43 (dk_at dksX31_does_0 0 rfl rfl)
theorem dX31_does_1 : decode cX31_does 1 = .ok (.aload_n 0, 1) := dk_42 (dk_at dksX31_does_0 1 rfl rfl)
theorem dX31_does_2 : decode cX31_does 2 = .ok (.getfield 7, 3) := dk_180 0 7 (dk_at dksX31_does_0 2 rfl rfl)
theorem dX31_does_5 : decode cX31_does 5 = .ok (.invokestatic 17, 3) := dk_184 0 17 (dk_at dksX31_does_0 5 rfl rfl)
theorem dX31_does_8 : decode cX31_does 8 = .ok (.ireturn, 1) := dk_172 (dk_at dksX31_does_0 8 rfl rfl)
abbrev cX31_init : ByteArray := prog_6_method_1_code
def yX31_init : MethodName := ⟨RX31, "<init>", "(LRosaryCarvers;Ljava/util/ArrayDeque;)V"⟩
def dkwX31_init_0 : List UInt8 := [42, 43, 181, 0, 1, 42, 44, 181, 0, 7, 42, 43, 183, 0, 11, 177]
abbrev dktX31_init_0 : List UInt8 := dkwX31_init_0 ++ []
theorem dksX31_init_0 : cX31_init.data.toList.drop 0 = dktX31_init_0 := by decide +kernel
theorem dX31_init_0 : decode cX31_init 0 = .ok (.aload_n 0, 1) := dk_42 (dk_at dksX31_init_0 0 rfl rfl)
theorem dX31_init_1 : decode cX31_init 1 = .ok (.aload_n 1, 1) := dk_43 (dk_at dksX31_init_0 1 rfl rfl)
theorem dX31_init_2 : decode cX31_init 2 = .ok (.putfield 1, 3) := dk_181 0 1 (dk_at dksX31_init_0 2 rfl rfl)
theorem dX31_init_5 : decode cX31_init 5 = .ok (.aload_n 0, 1) := dk_42 (dk_at dksX31_init_0 5 rfl rfl)
theorem dX31_init_6 : decode cX31_init 6 = .ok (.aload_n 2, 1) := dk_44 (dk_at dksX31_init_0 6 rfl rfl)
theorem dX31_init_7 : decode cX31_init 7 = .ok (.putfield 7, 3) := dk_181 0 7 (dk_at dksX31_init_0 7 rfl rfl)
theorem dX31_init_10 : decode cX31_init 10 = .ok (.aload_n 0, 1) := dk_42 (dk_at dksX31_init_0 10 rfl rfl)
theorem dX31_init_11 : decode cX31_init 11 = .ok (.aload_n 1, 1) := dk_43 (dk_at dksX31_init_0 11 rfl rfl)
theorem dX31_init_12 : decode cX31_init 12 = .ok (.invokespecial 11, 3) := dk_183 0 11 (dk_at dksX31_init_0 12 rfl rfl)
theorem dX31_init_15 : decode cX31_init 15 = .ok (.return_, 1) := dk_177 (dk_at dksX31_init_0 15 rfl rfl)
theorem q131 : (Jvm.Cond.initialized "RosaryCarvers$13") ∈ lw_all := lw_g (lw_at lw_m1 59 rfl) rfl
theorem q609 : (Jvm.Cond.selects "RosaryCarvers$13" ({ cls := "java/lang/Object", name := "getClass", desc := "()Ljava/lang/Class;" } : Jvm.MethodName) ({ cls := "java/lang/Object", name := "getClass", desc := "()Ljava/lang/Class;" } : Jvm.MethodName)) ∈ lw_all := lw_g (lw_at lw_m3 57 rfl) rfl
theorem q1045 : (Jvm.Cond.selects "RosaryCarvers$13" ({ cls := "java/lang/Object", name := "equals", desc := "(Ljava/lang/Object;)Z" } : Jvm.MethodName) ({ cls := "java/lang/Object", name := "equals", desc := "(Ljava/lang/Object;)Z" } : Jvm.MethodName)) ∈ lw_all := lw_g (lw_at lw_m5 13 rfl) rfl
theorem q1264 : (Jvm.Cond.selects "RosaryCarvers$13" ({ cls := "RosaryCarvers$Deed", name := "does", desc := "(LRosaryCarvers$Shop;)I" } : Jvm.MethodName) ({ cls := "RosaryCarvers$13", name := "does", desc := "(LRosaryCarvers$Shop;)I" } : Jvm.MethodName)) ∈ lw_all := lw_g (lw_at lw_m5 232 rfl) rfl
theorem q1265 : (Jvm.Cond.instanceMethod ({ cls := "RosaryCarvers$13", name := "does", desc := "(LRosaryCarvers$Shop;)I" } : Jvm.MethodName)) ∈ lw_all := lw_g (lw_at lw_m5 233 rfl) rfl
theorem q1266 : (Jvm.Cond.code ({ cls := "RosaryCarvers$13", name := "does", desc := "(LRosaryCarvers$Shop;)I" } : Jvm.MethodName) prog_6_method_2_code (2 : Nat) (Option.some Jvm.ClassFile.FieldType.int)) ∈ lw_all := lw_g (lw_at lw_m5 234 rfl) rfl
theorem q1267 : (Jvm.Cond.methodLinkNest "RosaryCarvers$13" (17 : Nat) ({ cls := "RosaryCarvers", name := "doesAll", desc := "(LRosaryCarvers$Shop;Ljava/util/ArrayDeque;)I" } : Jvm.MethodName) "RosaryCarvers") ∈ lw_tbl := lw_at lw_m5 235 rfl
theorem q2273 : (Jvm.Cond.instantiable "RosaryCarvers$13" (3 : Nat)) ∈ lw_all := lw_g (lw_at lw_m10 41 rfl) rfl
theorem q2275 : (Jvm.Cond.instanceMethod ({ cls := "RosaryCarvers$13", name := "<init>", desc := "(LRosaryCarvers;Ljava/util/ArrayDeque;)V" } : Jvm.MethodName)) ∈ lw_all := lw_g (lw_at lw_m10 43 rfl) rfl
theorem q2276 : (Jvm.Cond.code ({ cls := "RosaryCarvers$13", name := "<init>", desc := "(LRosaryCarvers;Ljava/util/ArrayDeque;)V" } : Jvm.MethodName) prog_6_method_1_code (3 : Nat) (Option.none : Option Jvm.ClassFile.FieldType)) ∈ lw_all := lw_g (lw_at lw_m10 44 rfl) rfl
theorem q2277 : (Jvm.Cond.methodLinkNest "RosaryCarvers$13" (11 : Nat) ({ cls := "RosaryCarvers$Deed", name := "<init>", desc := "(LRosaryCarvers;)V" } : Jvm.MethodName) "RosaryCarvers") ∈ lw_tbl := lw_at lw_m10 45 rfl
theorem q2278 : (Jvm.Cond.fieldLink "RosaryCarvers$13" (7 : Nat) "RosaryCarvers$13" "val$all" "Ljava/util/ArrayDeque;") ∈ lw_all := lw_g (lw_at lw_m10 46 rfl) rfl
theorem q2279 : (Jvm.Cond.fieldLink "RosaryCarvers$13" (1 : Nat) "RosaryCarvers$13" "this$0" "LRosaryCarvers;") ∈ lw_all := lw_g (lw_at lw_m10 47 rfl) rfl
theorem q2280 : (Jvm.Cond.laysFinal "RosaryCarvers$13" "RosaryCarvers$13" "val$all" "Ljava/util/ArrayDeque;") ∈ lw_all := lw_g (lw_at lw_m10 48 rfl) rfl
theorem q2281 : (Jvm.Cond.soleField "RosaryCarvers$13" "val$all") ∈ lw_all := lw_g (lw_at lw_m10 49 rfl) rfl
theorem q2282 : (Jvm.Cond.laysFinal "RosaryCarvers$13" "RosaryCarvers$13" "this$0" "LRosaryCarvers;") ∈ lw_all := lw_g (lw_at lw_m10 50 rfl) rfl
theorem q2283 : (Jvm.Cond.soleField "RosaryCarvers$13" "this$0") ∈ lw_all := lw_g (lw_at lw_m10 51 rfl) rfl
theorem q2284 : (Jvm.Cond.laysFinal "RosaryCarvers$13" "RosaryCarvers$Deed" "this$0" "LRosaryCarvers;") ∈ lw_all := lw_g (lw_at lw_m10 52 rfl) rfl
theorem q2285 : (Jvm.Cond.superclass "RosaryCarvers$13" "RosaryCarvers$Deed") ∈ lw_all := lw_g (lw_at lw_m10 53 rfl) rfl
theorem q2287 : (Jvm.Cond.sameMethod "RosaryCarvers$13" "RosaryCarvers$Deed" "done" "()I") ∈ lw_all := lw_g (lw_at lw_m10 55 rfl) rfl
theorem q2288 : (Jvm.Cond.selects "RosaryCarvers$13" ({ cls := "RosaryCarvers$13", name := "done", desc := "()I" } : Jvm.MethodName) ({ cls := "RosaryCarvers$Deed", name := "done", desc := "()I" } : Jvm.MethodName)) ∈ lw_all := lw_g (lw_at lw_m10 56 rfl) rfl
theorem q2842 : (Jvm.Cond.castable "RosaryCarvers$13" "java/lang/Object") ∈ lw_tbl := lw_at lw_m12 130 rfl
theorem in_X31 : ∀ w ∈ wsX310, w ∈ lw_all := lw_in wsX310 [2284, 2280, 2282] (by decide +kernel) (by decide +kernel)
