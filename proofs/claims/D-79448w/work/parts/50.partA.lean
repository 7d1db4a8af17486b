-- ===== PART A: goes FIRST, ahead of the names: the tables' words, and 'selects' of the private methods out of them =====
/-- a private method of a class that the tables say can be made, by its rows of tables_1 -/
def lw_okq (q : MethodName × Nat) : Prop := (q.1.cls ≠ "java/lang/invoke/MethodHandle" ∧ q.1.cls ≠ "java/lang/invoke/VarHandle") ∧ Cond.instantiable q.1.cls q.2 ∈ tables_1 ∧ Cond.privateMethod q.1 ∈ tables_1 ∧ Cond.instanceMethod q.1 ∈ tables_1
set_option maxRecDepth 100000
theorem lw_t1 {w : Cond} (h : w ∈ tables_1_1) : w ∈ tables_1 := List.mem_append_left _ h
theorem lw_t2 {w : Cond} (h : w ∈ tables_1_2) : w ∈ tables_1 := List.mem_append_right _ (List.mem_append_left _ h)
theorem lw_t3 {w : Cond} (h : w ∈ tables_1_3) : w ∈ tables_1 := List.mem_append_right _ (List.mem_append_right _ (List.mem_append_left _ h))
theorem lw_t4 {w : Cond} (h : w ∈ tables_1_4) : w ∈ tables_1 := List.mem_append_right _ (List.mem_append_right _ (List.mem_append_right _ (List.mem_append_left _ h)))
theorem lw_t5 {w : Cond} (h : w ∈ tables_1_5) : w ∈ tables_1 := List.mem_append_right _ (List.mem_append_right _ (List.mem_append_right _ (List.mem_append_right _ (List.mem_append_left _ h))))
theorem lw_t6 {w : Cond} (h : w ∈ tables_1_6) : w ∈ tables_1 := List.mem_append_right _ (List.mem_append_right _ (List.mem_append_right _ (List.mem_append_right _ (List.mem_append_right _ (List.mem_append_left _ h)))))
theorem lw_t7 {w : Cond} (h : w ∈ tables_1_7) : w ∈ tables_1 := List.mem_append_right _ (List.mem_append_right _ (List.mem_append_right _ (List.mem_append_right _ (List.mem_append_right _ (List.mem_append_right _ (List.mem_append_left _ h))))))
theorem lw_t8 {w : Cond} (h : w ∈ tables_1_8) : w ∈ tables_1 := List.mem_append_right _ (List.mem_append_right _ (List.mem_append_right _ (List.mem_append_right _ (List.mem_append_right _ (List.mem_append_right _ (List.mem_append_right _ (List.mem_append_left _ h)))))))
theorem lw_t9 {w : Cond} (h : w ∈ tables_1_9) : w ∈ tables_1 := List.mem_append_right _ (List.mem_append_right _ (List.mem_append_right _ (List.mem_append_right _ (List.mem_append_right _ (List.mem_append_right _ (List.mem_append_right _ (List.mem_append_right _ (List.mem_append_left _ h))))))))
theorem lw_t10 {w : Cond} (h : w ∈ tables_1_10) : w ∈ tables_1 := List.mem_append_right _ (List.mem_append_right _ (List.mem_append_right _ (List.mem_append_right _ (List.mem_append_right _ (List.mem_append_right _ (List.mem_append_right _ (List.mem_append_right _ (List.mem_append_right _ (List.mem_append_left _ h)))))))))
theorem lw_t11 {w : Cond} (h : w ∈ tables_1_11) : w ∈ tables_1 := List.mem_append_right _ (List.mem_append_right _ (List.mem_append_right _ (List.mem_append_right _ (List.mem_append_right _ (List.mem_append_right _ (List.mem_append_right _ (List.mem_append_right _ (List.mem_append_right _ (List.mem_append_right _ (List.mem_append_left _ h))))))))))
theorem lw_t12 {w : Cond} (h : w ∈ tables_1_12) : w ∈ tables_1 := List.mem_append_right _ (List.mem_append_right _ (List.mem_append_right _ (List.mem_append_right _ (List.mem_append_right _ (List.mem_append_right _ (List.mem_append_right _ (List.mem_append_right _ (List.mem_append_right _ (List.mem_append_right _ (List.mem_append_right _ h))))))))))
theorem lw_p0 : lw_okq (⟨"java/util/BitSet", "initWords", "(I)V"⟩, 3) := ⟨⟨by decide +kernel, by decide +kernel⟩, lw_t1 (List.mem_of_getElem? (i := 118) rfl), lw_t1 (List.mem_of_getElem? (i := 124) rfl), lw_t1 (List.mem_of_getElem? (i := 125) rfl)⟩
theorem lw_p1 : lw_okq (⟨"java/lang/Throwable", "fillInStackTrace", "(I)Ljava/lang/Throwable;"⟩, 6) := ⟨⟨by decide +kernel, by decide +kernel⟩, lw_t2 (List.mem_of_getElem? (i := 165) rfl), lw_t2 (List.mem_of_getElem? (i := 163) rfl), lw_t2 (List.mem_of_getElem? (i := 164) rfl)⟩
theorem lw_p2 : lw_okq (⟨"RosaryCarvers$Beads$1OfKind", "next", "(I)I"⟩, 3) := ⟨⟨by decide +kernel, by decide +kernel⟩, lw_t2 (List.mem_of_getElem? (i := 208) rfl), lw_t2 (List.mem_of_getElem? (i := 206) rfl), lw_t2 (List.mem_of_getElem? (i := 207) rfl)⟩
theorem lw_p3 : lw_okq (⟨"java/util/ArrayList", "add", "(Ljava/lang/Object;[Ljava/lang/Object;I)V"⟩, 3) := ⟨⟨by decide +kernel, by decide +kernel⟩, lw_t1 (List.mem_of_getElem? (i := 75) rfl), lw_t3 (List.mem_of_getElem? (i := 25) rfl), lw_t3 (List.mem_of_getElem? (i := 26) rfl)⟩
theorem lw_p4 : lw_okq (⟨"java/util/ArrayList", "grow", "()[Ljava/lang/Object;"⟩, 3) := ⟨⟨by decide +kernel, by decide +kernel⟩, lw_t1 (List.mem_of_getElem? (i := 75) rfl), lw_t3 (List.mem_of_getElem? (i := 29) rfl), lw_t3 (List.mem_of_getElem? (i := 30) rfl)⟩
theorem lw_p5 : lw_okq (⟨"java/util/ArrayList", "grow", "(I)[Ljava/lang/Object;"⟩, 3) := ⟨⟨by decide +kernel, by decide +kernel⟩, lw_t1 (List.mem_of_getElem? (i := 75) rfl), lw_t3 (List.mem_of_getElem? (i := 33) rfl), lw_t3 (List.mem_of_getElem? (i := 34) rfl)⟩
theorem lw_p6 : lw_okq (⟨"java/util/ArrayDeque", "toArray", "(Ljava/lang/Class;)[Ljava/lang/Object;"⟩, 3) := ⟨⟨by decide +kernel, by decide +kernel⟩, lw_t1 (List.mem_of_getElem? (i := 211) rfl), lw_t3 (List.mem_of_getElem? (i := 150) rfl), lw_t3 (List.mem_of_getElem? (i := 151) rfl)⟩
theorem lw_p7 : lw_okq (⟨"java/util/BitSet", "ensureCapacity", "(I)V"⟩, 3) := ⟨⟨by decide +kernel, by decide +kernel⟩, lw_t1 (List.mem_of_getElem? (i := 118) rfl), lw_t3 (List.mem_of_getElem? (i := 201) rfl), lw_t3 (List.mem_of_getElem? (i := 202) rfl)⟩
theorem lw_p8 : lw_okq (⟨"java/util/BitSet", "checkInvariants", "()V"⟩, 3) := ⟨⟨by decide +kernel, by decide +kernel⟩, lw_t1 (List.mem_of_getElem? (i := 118) rfl), lw_t3 (List.mem_of_getElem? (i := 217) rfl), lw_t3 (List.mem_of_getElem? (i := 218) rfl)⟩
theorem lw_p9 : lw_okq (⟨"RosaryCarvers$Shop", "takes", "(Z)LRosaryCarvers$Bead;"⟩, 17) := ⟨⟨by decide +kernel, by decide +kernel⟩, lw_t1 (List.mem_of_getElem? (i := 69) rfl), lw_t4 (List.mem_of_getElem? (i := 79) rfl), lw_t4 (List.mem_of_getElem? (i := 80) rfl)⟩
theorem lw_p10 : lw_okq (⟨"RosaryCarvers$Shop", "onOthers", "(Z)I"⟩, 17) := ⟨⟨by decide +kernel, by decide +kernel⟩, lw_t1 (List.mem_of_getElem? (i := 69) rfl), lw_t4 (List.mem_of_getElem? (i := 218) rfl), lw_t4 (List.mem_of_getElem? (i := 219) rfl)⟩
theorem lw_p11 : lw_okq (⟨"java/util/ArrayList", "fastRemove", "([Ljava/lang/Object;I)V"⟩, 3) := ⟨⟨by decide +kernel, by decide +kernel⟩, lw_t1 (List.mem_of_getElem? (i := 75) rfl), lw_t5 (List.mem_of_getElem? (i := 52) rfl), lw_t5 (List.mem_of_getElem? (i := 53) rfl)⟩
theorem lw_p12 : lw_okq (⟨"java/util/BitSet", "expandTo", "(I)V"⟩, 3) := ⟨⟨by decide +kernel, by decide +kernel⟩, lw_t1 (List.mem_of_getElem? (i := 118) rfl), lw_t5 (List.mem_of_getElem? (i := 64) rfl), lw_t5 (List.mem_of_getElem? (i := 65) rfl)⟩
theorem lw_p13 : lw_okq (⟨"RosaryCarvers$Shop", "comeBack", "()V"⟩, 17) := ⟨⟨by decide +kernel, by decide +kernel⟩, lw_t1 (List.mem_of_getElem? (i := 69) rfl), lw_t5 (List.mem_of_getElem? (i := 92) rfl), lw_t5 (List.mem_of_getElem? (i := 93) rfl)⟩
theorem lw_p14 : lw_okq (⟨"RosaryCarvers$Shop", "buys", "(LRosaryCarvers$Pilgrim;)Z"⟩, 17) := ⟨⟨by decide +kernel, by decide +kernel⟩, lw_t1 (List.mem_of_getElem? (i := 69) rfl), lw_t5 (List.mem_of_getElem? (i := 219) rfl), lw_t5 (List.mem_of_getElem? (i := 220) rfl)⟩
theorem lw_p15 : lw_okq (⟨"RosaryCarvers$Shop", "carvesOne", "(IZ)Z"⟩, 17) := ⟨⟨by decide +kernel, by decide +kernel⟩, lw_t1 (List.mem_of_getElem? (i := 69) rfl), lw_t6 (List.mem_of_getElem? (i := 119) rfl), lw_t6 (List.mem_of_getElem? (i := 120) rfl)⟩
def lw_privs_1 : List (MethodName × Nat) := [(⟨"java/util/BitSet", "initWords", "(I)V"⟩, 3), (⟨"java/lang/Throwable", "fillInStackTrace", "(I)Ljava/lang/Throwable;"⟩, 6), (⟨"RosaryCarvers$Beads$1OfKind", "next", "(I)I"⟩, 3), (⟨"java/util/ArrayList", "add", "(Ljava/lang/Object;[Ljava/lang/Object;I)V"⟩, 3), (⟨"java/util/ArrayList", "grow", "()[Ljava/lang/Object;"⟩, 3), (⟨"java/util/ArrayList", "grow", "(I)[Ljava/lang/Object;"⟩, 3), (⟨"java/util/ArrayDeque", "toArray", "(Ljava/lang/Class;)[Ljava/lang/Object;"⟩, 3), (⟨"java/util/BitSet", "ensureCapacity", "(I)V"⟩, 3), (⟨"java/util/BitSet", "checkInvariants", "()V"⟩, 3), (⟨"RosaryCarvers$Shop", "takes", "(Z)LRosaryCarvers$Bead;"⟩, 17), (⟨"RosaryCarvers$Shop", "onOthers", "(Z)I"⟩, 17), (⟨"java/util/ArrayList", "fastRemove", "([Ljava/lang/Object;I)V"⟩, 3), (⟨"java/util/BitSet", "expandTo", "(I)V"⟩, 3), (⟨"RosaryCarvers$Shop", "comeBack", "()V"⟩, 17), (⟨"RosaryCarvers$Shop", "buys", "(LRosaryCarvers$Pilgrim;)Z"⟩, 17), (⟨"RosaryCarvers$Shop", "carvesOne", "(IZ)Z"⟩, 17)]
theorem lw_r1 : ∀ q ∈ lw_privs_1, lw_okq q := List.forall_mem_cons.mpr ⟨lw_p0, List.forall_mem_cons.mpr ⟨lw_p1, List.forall_mem_cons.mpr ⟨lw_p2, List.forall_mem_cons.mpr ⟨lw_p3, List.forall_mem_cons.mpr ⟨lw_p4, List.forall_mem_cons.mpr ⟨lw_p5, List.forall_mem_cons.mpr ⟨lw_p6, List.forall_mem_cons.mpr ⟨lw_p7, List.forall_mem_cons.mpr ⟨lw_p8, List.forall_mem_cons.mpr ⟨lw_p9, List.forall_mem_cons.mpr ⟨lw_p10, List.forall_mem_cons.mpr ⟨lw_p11, List.forall_mem_cons.mpr ⟨lw_p12, List.forall_mem_cons.mpr ⟨lw_p13, List.forall_mem_cons.mpr ⟨lw_p14, List.forall_mem_cons.mpr ⟨lw_p15, fun _ h => absurd h List.not_mem_nil⟩⟩⟩⟩⟩⟩⟩⟩⟩⟩⟩⟩⟩⟩⟩⟩
theorem lw_p16 : lw_okq (⟨"java/util/ArrayDeque", "grow", "(I)V"⟩, 3) := ⟨⟨by decide +kernel, by decide +kernel⟩, lw_t1 (List.mem_of_getElem? (i := 211) rfl), lw_t7 (List.mem_of_getElem? (i := 29) rfl), lw_t7 (List.mem_of_getElem? (i := 30) rfl)⟩
theorem lw_p17 : lw_okq (⟨"java/util/ArrayDeque", "newCapacity", "(II)I"⟩, 3) := ⟨⟨by decide +kernel, by decide +kernel⟩, lw_t1 (List.mem_of_getElem? (i := 211) rfl), lw_t7 (List.mem_of_getElem? (i := 34) rfl), lw_t7 (List.mem_of_getElem? (i := 35) rfl)⟩
theorem lw_p18 : lw_okq (⟨"RosaryCarvers", "doneOnes", "()I"⟩, 8) := ⟨⟨by decide +kernel, by decide +kernel⟩, lw_t1 (List.mem_of_getElem? (i := 61) rfl), lw_t8 (List.mem_of_getElem? (i := 184) rfl), lw_t8 (List.mem_of_getElem? (i := 185) rfl)⟩
theorem lw_p19 : lw_okq (⟨"RosaryCarvers$Reader", "command", "()LRosaryCarvers$Command;"⟩, 4) := ⟨⟨by decide +kernel, by decide +kernel⟩, lw_t9 (List.mem_of_getElem? (i := 183) rfl), lw_t9 (List.mem_of_getElem? (i := 219) rfl), lw_t9 (List.mem_of_getElem? (i := 220) rfl)⟩
theorem lw_p20 : lw_okq (⟨"RosaryCarvers$Reader", "word", "()I"⟩, 4) := ⟨⟨by decide +kernel, by decide +kernel⟩, lw_t9 (List.mem_of_getElem? (i := 183) rfl), lw_t9 (List.mem_of_getElem? (i := 223) rfl), lw_t9 (List.mem_of_getElem? (i := 224) rfl)⟩
theorem lw_p21 : lw_okq (⟨"RosaryCarvers$Reader", "isSign", "(C)Z"⟩, 4) := ⟨⟨by decide +kernel, by decide +kernel⟩, lw_t9 (List.mem_of_getElem? (i := 183) rfl), lw_t9 (List.mem_of_getElem? (i := 228) rfl), lw_t9 (List.mem_of_getElem? (i := 229) rfl)⟩
theorem lw_p22 : lw_okq (⟨"RosaryCarvers$Reader", "takes", "(C)V"⟩, 4) := ⟨⟨by decide +kernel, by decide +kernel⟩, lw_t9 (List.mem_of_getElem? (i := 183) rfl), lw_t9 (List.mem_of_getElem? (i := 233) rfl), lw_t9 (List.mem_of_getElem? (i := 234) rfl)⟩
theorem lw_p23 : lw_okq (⟨"RosaryCarvers$Reader", "number", "()I"⟩, 4) := ⟨⟨by decide +kernel, by decide +kernel⟩, lw_t9 (List.mem_of_getElem? (i := 183) rfl), lw_t10 (List.mem_of_getElem? (i := 31) rfl), lw_t10 (List.mem_of_getElem? (i := 32) rfl)⟩
theorem lw_p24 : lw_okq (⟨"RosaryCarvers$Reader", "isDigit", "()Z"⟩, 4) := ⟨⟨by decide +kernel, by decide +kernel⟩, lw_t9 (List.mem_of_getElem? (i := 183) rfl), lw_t10 (List.mem_of_getElem? (i := 35) rfl), lw_t10 (List.mem_of_getElem? (i := 36) rfl)⟩
theorem lw_p25 : lw_okq (⟨"RosaryCarversModel", "keeps", "()V"⟩, 18) := ⟨⟨by decide +kernel, by decide +kernel⟩, lw_t10 (List.mem_of_getElem? (i := 110) rfl), lw_t10 (List.mem_of_getElem? (i := 187) rfl), lw_t10 (List.mem_of_getElem? (i := 188) rfl)⟩
theorem lw_p26 : lw_okq (⟨"RosaryCarversModel", "ends", "(I)I"⟩, 18) := ⟨⟨by decide +kernel, by decide +kernel⟩, lw_t10 (List.mem_of_getElem? (i := 110) rfl), lw_t10 (List.mem_of_getElem? (i := 197) rfl), lw_t10 (List.mem_of_getElem? (i := 198) rfl)⟩
theorem lw_p27 : lw_okq (⟨"RosaryCarversModel", "changed", "()V"⟩, 18) := ⟨⟨by decide +kernel, by decide +kernel⟩, lw_t10 (List.mem_of_getElem? (i := 110) rfl), lw_t10 (List.mem_of_getElem? (i := 204) rfl), lw_t10 (List.mem_of_getElem? (i := 205) rfl)⟩
theorem lw_p28 : lw_okq (⟨"RosaryCarversModel", "adds", "(IIII)I"⟩, 18) := ⟨⟨by decide +kernel, by decide +kernel⟩, lw_t10 (List.mem_of_getElem? (i := 110) rfl), lw_t10 (List.mem_of_getElem? (i := 212) rfl), lw_t10 (List.mem_of_getElem? (i := 213) rfl)⟩
theorem lw_p29 : lw_okq (⟨"RosaryCarversModel", "refuses", "(II)I"⟩, 18) := ⟨⟨by decide +kernel, by decide +kernel⟩, lw_t10 (List.mem_of_getElem? (i := 110) rfl), lw_t10 (List.mem_of_getElem? (i := 216) rfl), lw_t10 (List.mem_of_getElem? (i := 217) rfl)⟩
theorem lw_p30 : lw_okq (⟨"RosaryCarversModel", "isLens", "(I)Z"⟩, 18) := ⟨⟨by decide +kernel, by decide +kernel⟩, lw_t10 (List.mem_of_getElem? (i := 110) rfl), lw_t10 (List.mem_of_getElem? (i := 234) rfl), lw_t10 (List.mem_of_getElem? (i := 235) rfl)⟩
theorem lw_p31 : lw_okq (⟨"RosaryCarversModel", "isCarver", "(I)Z"⟩, 18) := ⟨⟨by decide +kernel, by decide +kernel⟩, lw_t10 (List.mem_of_getElem? (i := 110) rfl), lw_t10 (List.mem_of_getElem? (i := 238) rfl), lw_t10 (List.mem_of_getElem? (i := 239) rfl)⟩
def lw_privs_2 : List (MethodName × Nat) := [(⟨"java/util/ArrayDeque", "grow", "(I)V"⟩, 3), (⟨"java/util/ArrayDeque", "newCapacity", "(II)I"⟩, 3), (⟨"RosaryCarvers", "doneOnes", "()I"⟩, 8), (⟨"RosaryCarvers$Reader", "command", "()LRosaryCarvers$Command;"⟩, 4), (⟨"RosaryCarvers$Reader", "word", "()I"⟩, 4), (⟨"RosaryCarvers$Reader", "isSign", "(C)Z"⟩, 4), (⟨"RosaryCarvers$Reader", "takes", "(C)V"⟩, 4), (⟨"RosaryCarvers$Reader", "number", "()I"⟩, 4), (⟨"RosaryCarvers$Reader", "isDigit", "()Z"⟩, 4), (⟨"RosaryCarversModel", "keeps", "()V"⟩, 18), (⟨"RosaryCarversModel", "ends", "(I)I"⟩, 18), (⟨"RosaryCarversModel", "changed", "()V"⟩, 18), (⟨"RosaryCarversModel", "adds", "(IIII)I"⟩, 18), (⟨"RosaryCarversModel", "refuses", "(II)I"⟩, 18), (⟨"RosaryCarversModel", "isLens", "(I)Z"⟩, 18), (⟨"RosaryCarversModel", "isCarver", "(I)Z"⟩, 18)]
theorem lw_r2 : ∀ q ∈ lw_privs_2, lw_okq q := List.forall_mem_cons.mpr ⟨lw_p16, List.forall_mem_cons.mpr ⟨lw_p17, List.forall_mem_cons.mpr ⟨lw_p18, List.forall_mem_cons.mpr ⟨lw_p19, List.forall_mem_cons.mpr ⟨lw_p20, List.forall_mem_cons.mpr ⟨lw_p21, List.forall_mem_cons.mpr ⟨lw_p22, List.forall_mem_cons.mpr ⟨lw_p23, List.forall_mem_cons.mpr ⟨lw_p24, List.forall_mem_cons.mpr ⟨lw_p25, List.forall_mem_cons.mpr ⟨lw_p26, List.forall_mem_cons.mpr ⟨lw_p27, List.forall_mem_cons.mpr ⟨lw_p28, List.forall_mem_cons.mpr ⟨lw_p29, List.forall_mem_cons.mpr ⟨lw_p30, List.forall_mem_cons.mpr ⟨lw_p31, fun _ h => absurd h List.not_mem_nil⟩⟩⟩⟩⟩⟩⟩⟩⟩⟩⟩⟩⟩⟩⟩⟩
theorem lw_p32 : lw_okq (⟨"RosaryCarversModel", "carves", "(IZI)I"⟩, 18) := ⟨⟨by decide +kernel, by decide +kernel⟩, lw_t10 (List.mem_of_getElem? (i := 110) rfl), lw_t11 (List.mem_of_getElem? (i := 6) rfl), lw_t11 (List.mem_of_getElem? (i := 7) rfl)⟩
theorem lw_p33 : lw_okq (⟨"RosaryCarversModel", "carvesOne", "(IZ)V"⟩, 18) := ⟨⟨by decide +kernel, by decide +kernel⟩, lw_t10 (List.mem_of_getElem? (i := 110) rfl), lw_t11 (List.mem_of_getElem? (i := 10) rfl), lw_t11 (List.mem_of_getElem? (i := 11) rfl)⟩
theorem lw_p34 : lw_okq (⟨"RosaryCarversModel", "sight", "(I)I"⟩, 18) := ⟨⟨by decide +kernel, by decide +kernel⟩, lw_t10 (List.mem_of_getElem? (i := 110) rfl), lw_t11 (List.mem_of_getElem? (i := 14) rfl), lw_t11 (List.mem_of_getElem? (i := 15) rfl)⟩
theorem lw_p35 : lw_okq (⟨"RosaryCarversModel", "comesToBox", "(IZI)V"⟩, 18) := ⟨⟨by decide +kernel, by decide +kernel⟩, lw_t10 (List.mem_of_getElem? (i := 110) rfl), lw_t11 (List.mem_of_getElem? (i := 18) rfl), lw_t11 (List.mem_of_getElem? (i := 19) rfl)⟩
theorem lw_p36 : lw_okq (⟨"RosaryCarversModel", "finestPlace", "(Z)I"⟩, 18) := ⟨⟨by decide +kernel, by decide +kernel⟩, lw_t10 (List.mem_of_getElem? (i := 110) rfl), lw_t11 (List.mem_of_getElem? (i := 29) rfl), lw_t11 (List.mem_of_getElem? (i := 30) rfl)⟩
theorem lw_p37 : lw_okq (⟨"RosaryCarversModel", "begins", "(II)I"⟩, 18) := ⟨⟨by decide +kernel, by decide +kernel⟩, lw_t10 (List.mem_of_getElem? (i := 110) rfl), lw_t11 (List.mem_of_getElem? (i := 45) rfl), lw_t11 (List.mem_of_getElem? (i := 46) rfl)⟩
theorem lw_p38 : lw_okq (⟨"RosaryCarversModel", "threads", "(I)I"⟩, 18) := ⟨⟨by decide +kernel, by decide +kernel⟩, lw_t10 (List.mem_of_getElem? (i := 110) rfl), lw_t11 (List.mem_of_getElem? (i := 56) rfl), lw_t11 (List.mem_of_getElem? (i := 57) rfl)⟩
theorem lw_p39 : lw_okq (⟨"RosaryCarversModel", "isString", "(I)Z"⟩, 18) := ⟨⟨by decide +kernel, by decide +kernel⟩, lw_t10 (List.mem_of_getElem? (i := 110) rfl), lw_t11 (List.mem_of_getElem? (i := 60) rfl), lw_t11 (List.mem_of_getElem? (i := 61) rfl)⟩
theorem lw_p40 : lw_okq (⟨"RosaryCarversModel", "wants", "(I)I"⟩, 18) := ⟨⟨by decide +kernel, by decide +kernel⟩, lw_t10 (List.mem_of_getElem? (i := 110) rfl), lw_t11 (List.mem_of_getElem? (i := 64) rfl), lw_t11 (List.mem_of_getElem? (i := 65) rfl)⟩
theorem lw_p41 : lw_okq (⟨"RosaryCarversModel", "isDone", "(I)Z"⟩, 18) := ⟨⟨by decide +kernel, by decide +kernel⟩, lw_t10 (List.mem_of_getElem? (i := 110) rfl), lw_t11 (List.mem_of_getElem? (i := 68) rfl), lw_t11 (List.mem_of_getElem? (i := 69) rfl)⟩
theorem lw_p42 : lw_okq (⟨"RosaryCarversModel", "ofString", "(II)I"⟩, 18) := ⟨⟨by decide +kernel, by decide +kernel⟩, lw_t10 (List.mem_of_getElem? (i := 110) rfl), lw_t11 (List.mem_of_getElem? (i := 72) rfl), lw_t11 (List.mem_of_getElem? (i := 73) rfl)⟩
theorem lw_p43 : lw_okq (⟨"RosaryCarversModel", "lacks", "(I)I"⟩, 18) := ⟨⟨by decide +kernel, by decide +kernel⟩, lw_t10 (List.mem_of_getElem? (i := 110) rfl), lw_t11 (List.mem_of_getElem? (i := 76) rfl), lw_t11 (List.mem_of_getElem? (i := 77) rfl)⟩
theorem lw_p44 : lw_okq (⟨"RosaryCarversModel", "knotted", "(I)I"⟩, 18) := ⟨⟨by decide +kernel, by decide +kernel⟩, lw_t10 (List.mem_of_getElem? (i := 110) rfl), lw_t11 (List.mem_of_getElem? (i := 80) rfl), lw_t11 (List.mem_of_getElem? (i := 81) rfl)⟩
theorem lw_p45 : lw_okq (⟨"RosaryCarversModel", "isLargeAt", "(II)Z"⟩, 18) := ⟨⟨by decide +kernel, by decide +kernel⟩, lw_t10 (List.mem_of_getElem? (i := 110) rfl), lw_t11 (List.mem_of_getElem? (i := 84) rfl), lw_t11 (List.mem_of_getElem? (i := 85) rfl)⟩
theorem lw_p46 : lw_okq (⟨"RosaryCarversModel", "refusesBead", "(Z)I"⟩, 18) := ⟨⟨by decide +kernel, by decide +kernel⟩, lw_t10 (List.mem_of_getElem? (i := 110) rfl), lw_t11 (List.mem_of_getElem? (i := 88) rfl), lw_t11 (List.mem_of_getElem? (i := 89) rfl)⟩
theorem lw_p47 : lw_okq (⟨"RosaryCarversModel", "onOthers", "(Z)I"⟩, 18) := ⟨⟨by decide +kernel, by decide +kernel⟩, lw_t10 (List.mem_of_getElem? (i := 110) rfl), lw_t11 (List.mem_of_getElem? (i := 92) rfl), lw_t11 (List.mem_of_getElem? (i := 93) rfl)⟩
def lw_privs_3 : List (MethodName × Nat) := [(⟨"RosaryCarversModel", "carves", "(IZI)I"⟩, 18), (⟨"RosaryCarversModel", "carvesOne", "(IZ)V"⟩, 18), (⟨"RosaryCarversModel", "sight", "(I)I"⟩, 18), (⟨"RosaryCarversModel", "comesToBox", "(IZI)V"⟩, 18), (⟨"RosaryCarversModel", "finestPlace", "(Z)I"⟩, 18), (⟨"RosaryCarversModel", "begins", "(II)I"⟩, 18), (⟨"RosaryCarversModel", "threads", "(I)I"⟩, 18), (⟨"RosaryCarversModel", "isString", "(I)Z"⟩, 18), (⟨"RosaryCarversModel", "wants", "(I)I"⟩, 18), (⟨"RosaryCarversModel", "isDone", "(I)Z"⟩, 18), (⟨"RosaryCarversModel", "ofString", "(II)I"⟩, 18), (⟨"RosaryCarversModel", "lacks", "(I)I"⟩, 18), (⟨"RosaryCarversModel", "knotted", "(I)I"⟩, 18), (⟨"RosaryCarversModel", "isLargeAt", "(II)Z"⟩, 18), (⟨"RosaryCarversModel", "refusesBead", "(Z)I"⟩, 18), (⟨"RosaryCarversModel", "onOthers", "(Z)I"⟩, 18)]
theorem lw_r3 : ∀ q ∈ lw_privs_3, lw_okq q := List.forall_mem_cons.mpr ⟨lw_p32, List.forall_mem_cons.mpr ⟨lw_p33, List.forall_mem_cons.mpr ⟨lw_p34, List.forall_mem_cons.mpr ⟨lw_p35, List.forall_mem_cons.mpr ⟨lw_p36, List.forall_mem_cons.mpr ⟨lw_p37, List.forall_mem_cons.mpr ⟨lw_p38, List.forall_mem_cons.mpr ⟨lw_p39, List.forall_mem_cons.mpr ⟨lw_p40, List.forall_mem_cons.mpr ⟨lw_p41, List.forall_mem_cons.mpr ⟨lw_p42, List.forall_mem_cons.mpr ⟨lw_p43, List.forall_mem_cons.mpr ⟨lw_p44, List.forall_mem_cons.mpr ⟨lw_p45, List.forall_mem_cons.mpr ⟨lw_p46, List.forall_mem_cons.mpr ⟨lw_p47, fun _ h => absurd h List.not_mem_nil⟩⟩⟩⟩⟩⟩⟩⟩⟩⟩⟩⟩⟩⟩⟩⟩
theorem lw_p48 : lw_okq (⟨"RosaryCarversModel", "goes", "(IIII)V"⟩, 18) := ⟨⟨by decide +kernel, by decide +kernel⟩, lw_t10 (List.mem_of_getElem? (i := 110) rfl), lw_t11 (List.mem_of_getElem? (i := 99) rfl), lw_t11 (List.mem_of_getElem? (i := 100) rfl)⟩
theorem lw_p49 : lw_okq (⟨"RosaryCarversModel", "knots", "(I)I"⟩, 18) := ⟨⟨by decide +kernel, by decide +kernel⟩, lw_t10 (List.mem_of_getElem? (i := 110) rfl), lw_t11 (List.mem_of_getElem? (i := 107) rfl), lw_t11 (List.mem_of_getElem? (i := 108) rfl)⟩
theorem lw_p50 : lw_okq (⟨"RosaryCarversModel", "drops", "(I)I"⟩, 18) := ⟨⟨by decide +kernel, by decide +kernel⟩, lw_t10 (List.mem_of_getElem? (i := 110) rfl), lw_t11 (List.mem_of_getElem? (i := 115) rfl), lw_t11 (List.mem_of_getElem? (i := 116) rfl)⟩
theorem lw_p51 : lw_okq (⟨"RosaryCarversModel", "mends", "()I"⟩, 18) := ⟨⟨by decide +kernel, by decide +kernel⟩, lw_t10 (List.mem_of_getElem? (i := 110) rfl), lw_t11 (List.mem_of_getElem? (i := 133) rfl), lw_t11 (List.mem_of_getElem? (i := 134) rfl)⟩
theorem lw_p52 : lw_okq (⟨"RosaryCarversModel", "passes", "(I)I"⟩, 18) := ⟨⟨by decide +kernel, by decide +kernel⟩, lw_t10 (List.mem_of_getElem? (i := 110) rfl), lw_t11 (List.mem_of_getElem? (i := 141) rfl), lw_t11 (List.mem_of_getElem? (i := 142) rfl)⟩
theorem lw_p53 : lw_okq (⟨"RosaryCarversModel", "dayGoes", "()I"⟩, 18) := ⟨⟨by decide +kernel, by decide +kernel⟩, lw_t10 (List.mem_of_getElem? (i := 110) rfl), lw_t11 (List.mem_of_getElem? (i := 145) rfl), lw_t11 (List.mem_of_getElem? (i := 146) rfl)⟩
theorem lw_p54 : lw_okq (⟨"RosaryCarversModel", "comeBack", "()V"⟩, 18) := ⟨⟨by decide +kernel, by decide +kernel⟩, lw_t10 (List.mem_of_getElem? (i := 110) rfl), lw_t11 (List.mem_of_getElem? (i := 152) rfl), lw_t11 (List.mem_of_getElem? (i := 153) rfl)⟩
theorem lw_p55 : lw_okq (⟨"RosaryCarversModel", "pilgrimsCome", "()I"⟩, 18) := ⟨⟨by decide +kernel, by decide +kernel⟩, lw_t10 (List.mem_of_getElem? (i := 110) rfl), lw_t11 (List.mem_of_getElem? (i := 156) rfl), lw_t11 (List.mem_of_getElem? (i := 157) rfl)⟩
theorem lw_p56 : lw_okq (⟨"RosaryCarversModel", "wouldBuy", "(I)I"⟩, 18) := ⟨⟨by decide +kernel, by decide +kernel⟩, lw_t10 (List.mem_of_getElem? (i := 110) rfl), lw_t11 (List.mem_of_getElem? (i := 160) rfl), lw_t11 (List.mem_of_getElem? (i := 161) rfl)⟩
theorem lw_p57 : lw_okq (⟨"RosaryCarversModel", "fineness", "(I)I"⟩, 18) := ⟨⟨by decide +kernel, by decide +kernel⟩, lw_t10 (List.mem_of_getElem? (i := 110) rfl), lw_t11 (List.mem_of_getElem? (i := 164) rfl), lw_t11 (List.mem_of_getElem? (i := 165) rfl)⟩
theorem lw_p58 : lw_okq (⟨"RosaryCarversModel", "sumOn", "(I)I"⟩, 18) := ⟨⟨by decide +kernel, by decide +kernel⟩, lw_t10 (List.mem_of_getElem? (i := 110) rfl), lw_t11 (List.mem_of_getElem? (i := 168) rfl), lw_t11 (List.mem_of_getElem? (i := 169) rfl)⟩
theorem lw_p59 : lw_okq (⟨"RosaryCarversModel", "sells", "(II)V"⟩, 18) := ⟨⟨by decide +kernel, by decide +kernel⟩, lw_t10 (List.mem_of_getElem? (i := 110) rfl), lw_t11 (List.mem_of_getElem? (i := 172) rfl), lw_t11 (List.mem_of_getElem? (i := 173) rfl)⟩
theorem lw_p60 : lw_okq (⟨"RosaryCarversModel", "onStrings", "()I"⟩, 18) := ⟨⟨by decide +kernel, by decide +kernel⟩, lw_t10 (List.mem_of_getElem? (i := 110) rfl), lw_t11 (List.mem_of_getElem? (i := 213) rfl), lw_t11 (List.mem_of_getElem? (i := 214) rfl)⟩
theorem lw_p61 : lw_okq (⟨"RosaryCarversModel", "sold", "(II)I"⟩, 18) := ⟨⟨by decide +kernel, by decide +kernel⟩, lw_t10 (List.mem_of_getElem? (i := 110) rfl), lw_t11 (List.mem_of_getElem? (i := 217) rfl), lw_t11 (List.mem_of_getElem? (i := 218) rfl)⟩
theorem lw_p62 : lw_okq (⟨"RosaryCarversModel", "doneOnes", "()I"⟩, 18) := ⟨⟨by decide +kernel, by decide +kernel⟩, lw_t10 (List.mem_of_getElem? (i := 110) rfl), lw_t11 (List.mem_of_getElem? (i := 233) rfl), lw_t11 (List.mem_of_getElem? (i := 234) rfl)⟩
theorem lw_p63 : lw_okq (⟨"RosaryCarversModel", "writes", "(I)V"⟩, 18) := ⟨⟨by decide +kernel, by decide +kernel⟩, lw_t10 (List.mem_of_getElem? (i := 110) rfl), lw_t12 (List.mem_of_getElem? (i := 1) rfl), lw_t12 (List.mem_of_getElem? (i := 2) rfl)⟩
def lw_privs_4 : List (MethodName × Nat) := [(⟨"RosaryCarversModel", "goes", "(IIII)V"⟩, 18), (⟨"RosaryCarversModel", "knots", "(I)I"⟩, 18), (⟨"RosaryCarversModel", "drops", "(I)I"⟩, 18), (⟨"RosaryCarversModel", "mends", "()I"⟩, 18), (⟨"RosaryCarversModel", "passes", "(I)I"⟩, 18), (⟨"RosaryCarversModel", "dayGoes", "()I"⟩, 18), (⟨"RosaryCarversModel", "comeBack", "()V"⟩, 18), (⟨"RosaryCarversModel", "pilgrimsCome", "()I"⟩, 18), (⟨"RosaryCarversModel", "wouldBuy", "(I)I"⟩, 18), (⟨"RosaryCarversModel", "fineness", "(I)I"⟩, 18), (⟨"RosaryCarversModel", "sumOn", "(I)I"⟩, 18), (⟨"RosaryCarversModel", "sells", "(II)V"⟩, 18), (⟨"RosaryCarversModel", "onStrings", "()I"⟩, 18), (⟨"RosaryCarversModel", "sold", "(II)I"⟩, 18), (⟨"RosaryCarversModel", "doneOnes", "()I"⟩, 18), (⟨"RosaryCarversModel", "writes", "(I)V"⟩, 18)]
theorem lw_r4 : ∀ q ∈ lw_privs_4, lw_okq q := List.forall_mem_cons.mpr ⟨lw_p48, List.forall_mem_cons.mpr ⟨lw_p49, List.forall_mem_cons.mpr ⟨lw_p50, List.forall_mem_cons.mpr ⟨lw_p51, List.forall_mem_cons.mpr ⟨lw_p52, List.forall_mem_cons.mpr ⟨lw_p53, List.forall_mem_cons.mpr ⟨lw_p54, List.forall_mem_cons.mpr ⟨lw_p55, List.forall_mem_cons.mpr ⟨lw_p56, List.forall_mem_cons.mpr ⟨lw_p57, List.forall_mem_cons.mpr ⟨lw_p58, List.forall_mem_cons.mpr ⟨lw_p59, List.forall_mem_cons.mpr ⟨lw_p60, List.forall_mem_cons.mpr ⟨lw_p61, List.forall_mem_cons.mpr ⟨lw_p62, List.forall_mem_cons.mpr ⟨lw_p63, fun _ h => absurd h List.not_mem_nil⟩⟩⟩⟩⟩⟩⟩⟩⟩⟩⟩⟩⟩⟩⟩⟩
theorem lw_p64 : lw_okq (⟨"RosaryCarversModel", "isText", "()Z"⟩, 18) := ⟨⟨by decide +kernel, by decide +kernel⟩, lw_t10 (List.mem_of_getElem? (i := 110) rfl), lw_t12 (List.mem_of_getElem? (i := 19) rfl), lw_t12 (List.mem_of_getElem? (i := 20) rfl)⟩
theorem lw_p65 : lw_okq (⟨"RosaryCarversModel", "readsCommand", "()Z"⟩, 18) := ⟨⟨by decide +kernel, by decide +kernel⟩, lw_t10 (List.mem_of_getElem? (i := 110) rfl), lw_t12 (List.mem_of_getElem? (i := 23) rfl), lw_t12 (List.mem_of_getElem? (i := 24) rfl)⟩
theorem lw_p66 : lw_okq (⟨"RosaryCarversModel", "readsWord", "()I"⟩, 18) := ⟨⟨by decide +kernel, by decide +kernel⟩, lw_t10 (List.mem_of_getElem? (i := 110) rfl), lw_t12 (List.mem_of_getElem? (i := 27) rfl), lw_t12 (List.mem_of_getElem? (i := 28) rfl)⟩
theorem lw_p67 : lw_okq (⟨"RosaryCarversModel", "letter", "()I"⟩, 18) := ⟨⟨by decide +kernel, by decide +kernel⟩, lw_t10 (List.mem_of_getElem? (i := 110) rfl), lw_t12 (List.mem_of_getElem? (i := 31) rfl), lw_t12 (List.mem_of_getElem? (i := 32) rfl)⟩
theorem lw_p68 : lw_okq (⟨"RosaryCarversModel", "readsNumber", "()Z"⟩, 18) := ⟨⟨by decide +kernel, by decide +kernel⟩, lw_t10 (List.mem_of_getElem? (i := 110) rfl), lw_t12 (List.mem_of_getElem? (i := 36) rfl), lw_t12 (List.mem_of_getElem? (i := 37) rfl)⟩
theorem lw_p69 : lw_okq (⟨"RosaryCarversModel", "does", "(III)I"⟩, 18) := ⟨⟨by decide +kernel, by decide +kernel⟩, lw_t10 (List.mem_of_getElem? (i := 110) rfl), lw_t12 (List.mem_of_getElem? (i := 40) rfl), lw_t12 (List.mem_of_getElem? (i := 41) rfl)⟩
theorem lw_p70 : lw_okq (⟨"RosaryCarversModel", "threadsMany", "(II)I"⟩, 18) := ⟨⟨by decide +kernel, by decide +kernel⟩, lw_t10 (List.mem_of_getElem? (i := 110) rfl), lw_t12 (List.mem_of_getElem? (i := 44) rfl), lw_t12 (List.mem_of_getElem? (i := 45) rfl)⟩
theorem lw_p71 : lw_okq (⟨"RosaryCarversModel", "refusesCommand", "(IZ)I"⟩, 18) := ⟨⟨by decide +kernel, by decide +kernel⟩, lw_t10 (List.mem_of_getElem? (i := 110) rfl), lw_t12 (List.mem_of_getElem? (i := 48) rfl), lw_t12 (List.mem_of_getElem? (i := 49) rfl)⟩
def lw_privs_5 : List (MethodName × Nat) := [(⟨"RosaryCarversModel", "isText", "()Z"⟩, 18), (⟨"RosaryCarversModel", "readsCommand", "()Z"⟩, 18), (⟨"RosaryCarversModel", "readsWord", "()I"⟩, 18), (⟨"RosaryCarversModel", "letter", "()I"⟩, 18), (⟨"RosaryCarversModel", "readsNumber", "()Z"⟩, 18), (⟨"RosaryCarversModel", "does", "(III)I"⟩, 18), (⟨"RosaryCarversModel", "threadsMany", "(II)I"⟩, 18), (⟨"RosaryCarversModel", "refusesCommand", "(IZ)I"⟩, 18)]
theorem lw_r5 : ∀ q ∈ lw_privs_5, lw_okq q := List.forall_mem_cons.mpr ⟨lw_p64, List.forall_mem_cons.mpr ⟨lw_p65, List.forall_mem_cons.mpr ⟨lw_p66, List.forall_mem_cons.mpr ⟨lw_p67, List.forall_mem_cons.mpr ⟨lw_p68, List.forall_mem_cons.mpr ⟨lw_p69, List.forall_mem_cons.mpr ⟨lw_p70, List.forall_mem_cons.mpr ⟨lw_p71, fun _ h => absurd h List.not_mem_nil⟩⟩⟩⟩⟩⟩⟩⟩
def lw_privs : List (MethodName × Nat) := lw_privs_1 ++ (lw_privs_2 ++ (lw_privs_3 ++ (lw_privs_4 ++ (lw_privs_5))))
def lw_tbl : List Cond := k2_sels lw_privs ++ tables_1
theorem lw_privs_ok : ∀ q ∈ lw_privs, lw_okq q := by
  show ∀ q ∈ lw_privs_1 ++ (lw_privs_2 ++ (lw_privs_3 ++ (lw_privs_4 ++ (lw_privs_5)))), lw_okq q
  exact List.forall_mem_append.mpr ⟨lw_r1, List.forall_mem_append.mpr ⟨lw_r2, List.forall_mem_append.mpr ⟨lw_r3, List.forall_mem_append.mpr ⟨lw_r4, lw_r5⟩⟩⟩⟩
-- ===== ONE list of words for every method: the tables' words that hold all through a run =====
def lw_all : List Cond := lw_tbl.filter goodWord
/-- a word of the tables by its place: claim/WORDS.tsv -/
theorem lw_w {w : Cond} (i : Nat) (h : lw_tbl[i]? = some w) (g : goodWord w = true) : w ∈ lw_all := List.mem_filter.mpr ⟨List.mem_of_getElem? h, g⟩
theorem lw_all_tbl {w : Cond} (h : w ∈ lw_all) : w ∈ lw_tbl := (List.mem_filter.mp h).1
theorem lw_self : GoodIn lw_all lw_all := fun w h => ⟨h, good_of_word (List.mem_filter.mp h).2⟩
/-- a class's field words, by their places -/
theorem lw_in (ws : List Cond) (ps : List Nat) (hp : ws = ps.filterMap (fun i => lw_tbl[i]?)) (hg : ws.all goodWord = true) : ∀ w ∈ ws, w ∈ lw_all := by
  intro w h
  have h1 := List.all_eq_true.mp hg w h
  rw [hp] at h
  obtain ⟨i, -, hi⟩ := List.mem_filterMap.mp h
  exact lw_w i hi h1
/-- the words of a contract for the method y with code b, L locals, answer r -/
abbrev ws_ (y : MethodName) (b : ByteArray) (L : Nat) (r : Option FieldType) : List Cond := Cond.code y b L r :: lw_all
theorem lw_meth {y : MethodName} {b : ByteArray} {L : Nat} {r : Option FieldType} (h : Cond.code y b L r ∈ lw_all) : GoodIn lw_all (ws_ y b L r) := by
  intro w hw
  rcases List.mem_cons.mp hw with e | e
  · rw [e]
    exact lw_self _ h
  · exact lw_self _ e
theorem lw_app {a c : List Cond} (ha : ∀ w ∈ a, w ∈ lw_all) (hc : GoodIn lw_all c) : GoodIn lw_all (a ++ c) := by
  intro w hw
  rcases List.mem_append.mp hw with e | e
  · exact lw_self w (ha w e)
  · exact hc w e
/-- what a call through an object asks: cwV n hts (lw_V ..) -/
theorem lw_V {own : String} {idx : Nat} {C : String} {y : MethodName} {b : ByteArray} {L : Nat} {r : Option FieldType} (h1 : Cond.methodLink own idx y ∈ lw_all) (h2 : Cond.instanceMethod y ∈ lw_all) (h3 : Cond.selects C y y ∈ lw_all) (h4 : Cond.initialized C ∈ lw_all) (h5 : Cond.code y b L r ∈ lw_all) : GoodIn lw_all (wsV own idx C y (ws_ y b L r)) := by
  refine lw_app ?_ (lw_meth h5)
  intro w hw
  simp only [List.mem_cons, List.not_mem_nil, or_false] at hw
  rcases hw with e | e | e | e
  · rw [e]; exact h1
  · rw [e]; exact h2
  · rw [e]; exact h3
  · rw [e]; exact h4
/-- what a static call asks: va_cwS n hts (lw_S ..) -/
theorem lw_S {own : String} {idx : Nat} {y : MethodName} {b : ByteArray} {L : Nat} {r : Option FieldType} (h1 : Cond.methodLink own idx y ∈ lw_all) (h2 : Cond.static y ∈ lw_all) (h3 : Cond.initialized y.cls ∈ lw_all) (h4 : Cond.code y b L r ∈ lw_all) : GoodIn lw_all (va_wsS own idx y (ws_ y b L r)) := by
  refine lw_app ?_ (lw_meth h4)
  intro w hw
  simp only [List.mem_cons, List.not_mem_nil, or_false] at hw
  rcases hw with e | e | e
  · rw [e]; exact h1
  · rw [e]; exact h2
  · rw [e]; exact h3
/-- the words of a contract for a method WITH HANDLERS (hh: its table) -/
abbrev wsW_ (y : MethodName) (b : ByteArray) (L : Nat) (r : Option FieldType) (hh : List (Nat × Nat × Nat × Nat)) : List Cond := Cond.codeWith y b L r hh :: lw_all
theorem lw_methW {y : MethodName} {b : ByteArray} {L : Nat} {r : Option FieldType} {hh : List (Nat × Nat × Nat × Nat)} (h : Cond.codeWith y b L r hh ∈ lw_all) : GoodIn lw_all (wsW_ y b L r hh) := by
  intro w hw
  rcases List.mem_cons.mp hw with e | e
  · rw [e]
    exact lw_self _ h
  · exact lw_self _ e
/-- any list of words by their places (lw_in), good -/
theorem lw_good {ws : List Cond} (h : ∀ w ∈ ws, w ∈ lw_all) : GoodIn lw_all ws := fun w hw => lw_self w (h w hw)
/-- what a call of a method with handlers asks: vx_cwVW n hts (lw_VW ..), vx_cwSW n hts (lw_SW ..) -/
theorem lw_VW {own : String} {idx : Nat} {C : String} {y : MethodName} {b : ByteArray} {L : Nat} {r : Option FieldType} {hh : List (Nat × Nat × Nat × Nat)} (h1 : Cond.methodLink own idx y ∈ lw_all) (h2 : Cond.instanceMethod y ∈ lw_all) (h3 : Cond.selects C y y ∈ lw_all) (h4 : Cond.initialized C ∈ lw_all) (h5 : Cond.codeWith y b L r hh ∈ lw_all) : GoodIn lw_all (wsV own idx C y (wsW_ y b L r hh)) := by
  refine lw_app ?_ (lw_methW h5)
  intro w hw
  simp only [List.mem_cons, List.not_mem_nil, or_false] at hw
  rcases hw with e | e | e | e
  · rw [e]; exact h1
  · rw [e]; exact h2
  · rw [e]; exact h3
  · rw [e]; exact h4
theorem lw_SW {own : String} {idx : Nat} {y : MethodName} {b : ByteArray} {L : Nat} {r : Option FieldType} {hh : List (Nat × Nat × Nat × Nat)} (h1 : Cond.methodLink own idx y ∈ lw_all) (h2 : Cond.static y ∈ lw_all) (h3 : Cond.initialized y.cls ∈ lw_all) (h4 : Cond.codeWith y b L r hh ∈ lw_all) : GoodIn lw_all (va_wsS own idx y (wsW_ y b L r hh)) := by
  refine lw_app ?_ (lw_methW h4)
  intro w hw
  simp only [List.mem_cons, List.not_mem_nil, or_false] at hw
  rcases hw with e | e | e
  · rw [e]; exact h1
  · rw [e]; exact h2
  · rw [e]; exact h3
/-- a word by its place in its run of the tables -/
theorem lw_at {r : List Cond} (hr : ∀ w ∈ r, w ∈ lw_tbl) {w : Cond} (i : Nat) (h : r[i]? = some w) : w ∈ lw_tbl := hr w (List.mem_of_getElem? h)
theorem lw_g {w : Cond} (h : w ∈ lw_tbl) (g : goodWord w = true) : w ∈ lw_all := List.mem_filter.mpr ⟨h, g⟩
theorem lw_ms : ∀ w ∈ k2_sels lw_privs, w ∈ lw_tbl := fun w h => show w ∈ k2_sels lw_privs ++ tables_1 from List.mem_append_left _ h
theorem lw_m1 : ∀ w ∈ tables_1_1, w ∈ lw_tbl := fun w h => show w ∈ k2_sels lw_privs ++ tables_1 from List.mem_append_right (k2_sels lw_privs) (show w ∈ tables_1 from List.mem_append_left _ h)
theorem lw_m2 : ∀ w ∈ tables_1_2, w ∈ lw_tbl := fun w h => show w ∈ k2_sels lw_privs ++ tables_1 from List.mem_append_right (k2_sels lw_privs) (show w ∈ tables_1 from List.mem_append_right _ (List.mem_append_left _ h))
theorem lw_m3 : ∀ w ∈ tables_1_3, w ∈ lw_tbl := fun w h => show w ∈ k2_sels lw_privs ++ tables_1 from List.mem_append_right (k2_sels lw_privs) (show w ∈ tables_1 from List.mem_append_right _ (List.mem_append_right _ (List.mem_append_left _ h)))
theorem lw_m4 : ∀ w ∈ tables_1_4, w ∈ lw_tbl := fun w h => show w ∈ k2_sels lw_privs ++ tables_1 from List.mem_append_right (k2_sels lw_privs) (show w ∈ tables_1 from List.mem_append_right _ (List.mem_append_right _ (List.mem_append_right _ (List.mem_append_left _ h))))
theorem lw_m5 : ∀ w ∈ tables_1_5, w ∈ lw_tbl := fun w h => show w ∈ k2_sels lw_privs ++ tables_1 from List.mem_append_right (k2_sels lw_privs) (show w ∈ tables_1 from List.mem_append_right _ (List.mem_append_right _ (List.mem_append_right _ (List.mem_append_right _ (List.mem_append_left _ h)))))
theorem lw_m6 : ∀ w ∈ tables_1_6, w ∈ lw_tbl := fun w h => show w ∈ k2_sels lw_privs ++ tables_1 from List.mem_append_right (k2_sels lw_privs) (show w ∈ tables_1 from List.mem_append_right _ (List.mem_append_right _ (List.mem_append_right _ (List.mem_append_right _ (List.mem_append_right _ (List.mem_append_left _ h))))))
theorem lw_m7 : ∀ w ∈ tables_1_7, w ∈ lw_tbl := fun w h => show w ∈ k2_sels lw_privs ++ tables_1 from List.mem_append_right (k2_sels lw_privs) (show w ∈ tables_1 from List.mem_append_right _ (List.mem_append_right _ (List.mem_append_right _ (List.mem_append_right _ (List.mem_append_right _ (List.mem_append_right _ (List.mem_append_left _ h)))))))
theorem lw_m8 : ∀ w ∈ tables_1_8, w ∈ lw_tbl := fun w h => show w ∈ k2_sels lw_privs ++ tables_1 from List.mem_append_right (k2_sels lw_privs) (show w ∈ tables_1 from List.mem_append_right _ (List.mem_append_right _ (List.mem_append_right _ (List.mem_append_right _ (List.mem_append_right _ (List.mem_append_right _ (List.mem_append_right _ (List.mem_append_left _ h))))))))
theorem lw_m9 : ∀ w ∈ tables_1_9, w ∈ lw_tbl := fun w h => show w ∈ k2_sels lw_privs ++ tables_1 from List.mem_append_right (k2_sels lw_privs) (show w ∈ tables_1 from List.mem_append_right _ (List.mem_append_right _ (List.mem_append_right _ (List.mem_append_right _ (List.mem_append_right _ (List.mem_append_right _ (List.mem_append_right _ (List.mem_append_right _ (List.mem_append_left _ h)))))))))
theorem lw_m10 : ∀ w ∈ tables_1_10, w ∈ lw_tbl := fun w h => show w ∈ k2_sels lw_privs ++ tables_1 from List.mem_append_right (k2_sels lw_privs) (show w ∈ tables_1 from List.mem_append_right _ (List.mem_append_right _ (List.mem_append_right _ (List.mem_append_right _ (List.mem_append_right _ (List.mem_append_right _ (List.mem_append_right _ (List.mem_append_right _ (List.mem_append_right _ (List.mem_append_left _ h))))))))))
theorem lw_m11 : ∀ w ∈ tables_1_11, w ∈ lw_tbl := fun w h => show w ∈ k2_sels lw_privs ++ tables_1 from List.mem_append_right (k2_sels lw_privs) (show w ∈ tables_1 from List.mem_append_right _ (List.mem_append_right _ (List.mem_append_right _ (List.mem_append_right _ (List.mem_append_right _ (List.mem_append_right _ (List.mem_append_right _ (List.mem_append_right _ (List.mem_append_right _ (List.mem_append_right _ (List.mem_append_left _ h)))))))))))
theorem lw_m12 : ∀ w ∈ tables_1_12, w ∈ lw_tbl := fun w h => show w ∈ k2_sels lw_privs ++ tables_1 from List.mem_append_right (k2_sels lw_privs) (show w ∈ tables_1 from List.mem_append_right _ (List.mem_append_right _ (List.mem_append_right _ (List.mem_append_right _ (List.mem_append_right _ (List.mem_append_right _ (List.mem_append_right _ (List.mem_append_right _ (List.mem_append_right _ (List.mem_append_right _ (List.mem_append_right _ h)))))))))))
theorem qs0 : (Cond.selects "java/util/BitSet" ⟨"java/util/BitSet", "initWords", "(I)V"⟩ ⟨"java/util/BitSet", "initWords", "(I)V"⟩) ∈ lw_all := lw_g (lw_at lw_ms 0 rfl) rfl
theorem qs1 : (Cond.selects "java/lang/Throwable" ⟨"java/lang/Throwable", "fillInStackTrace", "(I)Ljava/lang/Throwable;"⟩ ⟨"java/lang/Throwable", "fillInStackTrace", "(I)Ljava/lang/Throwable;"⟩) ∈ lw_all := lw_g (lw_at lw_ms 1 rfl) rfl
theorem qs2 : (Cond.selects "RosaryCarvers$Beads$1OfKind" ⟨"RosaryCarvers$Beads$1OfKind", "next", "(I)I"⟩ ⟨"RosaryCarvers$Beads$1OfKind", "next", "(I)I"⟩) ∈ lw_all := lw_g (lw_at lw_ms 2 rfl) rfl
theorem qs3 : (Cond.selects "java/util/ArrayList" ⟨"java/util/ArrayList", "add", "(Ljava/lang/Object;[Ljava/lang/Object;I)V"⟩ ⟨"java/util/ArrayList", "add", "(Ljava/lang/Object;[Ljava/lang/Object;I)V"⟩) ∈ lw_all := lw_g (lw_at lw_ms 3 rfl) rfl
theorem qs4 : (Cond.selects "java/util/ArrayList" ⟨"java/util/ArrayList", "grow", "()[Ljava/lang/Object;"⟩ ⟨"java/util/ArrayList", "grow", "()[Ljava/lang/Object;"⟩) ∈ lw_all := lw_g (lw_at lw_ms 4 rfl) rfl
theorem qs5 : (Cond.selects "java/util/ArrayList" ⟨"java/util/ArrayList", "grow", "(I)[Ljava/lang/Object;"⟩ ⟨"java/util/ArrayList", "grow", "(I)[Ljava/lang/Object;"⟩) ∈ lw_all := lw_g (lw_at lw_ms 5 rfl) rfl
theorem qs6 : (Cond.selects "java/util/ArrayDeque" ⟨"java/util/ArrayDeque", "toArray", "(Ljava/lang/Class;)[Ljava/lang/Object;"⟩ ⟨"java/util/ArrayDeque", "toArray", "(Ljava/lang/Class;)[Ljava/lang/Object;"⟩) ∈ lw_all := lw_g (lw_at lw_ms 6 rfl) rfl
theorem qs7 : (Cond.selects "java/util/BitSet" ⟨"java/util/BitSet", "ensureCapacity", "(I)V"⟩ ⟨"java/util/BitSet", "ensureCapacity", "(I)V"⟩) ∈ lw_all := lw_g (lw_at lw_ms 7 rfl) rfl
theorem qs8 : (Cond.selects "java/util/BitSet" ⟨"java/util/BitSet", "checkInvariants", "()V"⟩ ⟨"java/util/BitSet", "checkInvariants", "()V"⟩) ∈ lw_all := lw_g (lw_at lw_ms 8 rfl) rfl
theorem qs9 : (Cond.selects "RosaryCarvers$Shop" ⟨"RosaryCarvers$Shop", "takes", "(Z)LRosaryCarvers$Bead;"⟩ ⟨"RosaryCarvers$Shop", "takes", "(Z)LRosaryCarvers$Bead;"⟩) ∈ lw_all := lw_g (lw_at lw_ms 9 rfl) rfl
theorem qs10 : (Cond.selects "RosaryCarvers$Shop" ⟨"RosaryCarvers$Shop", "onOthers", "(Z)I"⟩ ⟨"RosaryCarvers$Shop", "onOthers", "(Z)I"⟩) ∈ lw_all := lw_g (lw_at lw_ms 10 rfl) rfl
theorem qs11 : (Cond.selects "java/util/ArrayList" ⟨"java/util/ArrayList", "fastRemove", "([Ljava/lang/Object;I)V"⟩ ⟨"java/util/ArrayList", "fastRemove", "([Ljava/lang/Object;I)V"⟩) ∈ lw_all := lw_g (lw_at lw_ms 11 rfl) rfl
theorem qs12 : (Cond.selects "java/util/BitSet" ⟨"java/util/BitSet", "expandTo", "(I)V"⟩ ⟨"java/util/BitSet", "expandTo", "(I)V"⟩) ∈ lw_all := lw_g (lw_at lw_ms 12 rfl) rfl
theorem qs13 : (Cond.selects "RosaryCarvers$Shop" ⟨"RosaryCarvers$Shop", "comeBack", "()V"⟩ ⟨"RosaryCarvers$Shop", "comeBack", "()V"⟩) ∈ lw_all := lw_g (lw_at lw_ms 13 rfl) rfl
theorem qs14 : (Cond.selects "RosaryCarvers$Shop" ⟨"RosaryCarvers$Shop", "buys", "(LRosaryCarvers$Pilgrim;)Z"⟩ ⟨"RosaryCarvers$Shop", "buys", "(LRosaryCarvers$Pilgrim;)Z"⟩) ∈ lw_all := lw_g (lw_at lw_ms 14 rfl) rfl
theorem qs15 : (Cond.selects "RosaryCarvers$Shop" ⟨"RosaryCarvers$Shop", "carvesOne", "(IZ)Z"⟩ ⟨"RosaryCarvers$Shop", "carvesOne", "(IZ)Z"⟩) ∈ lw_all := lw_g (lw_at lw_ms 15 rfl) rfl
theorem qs16 : (Cond.selects "java/util/ArrayDeque" ⟨"java/util/ArrayDeque", "grow", "(I)V"⟩ ⟨"java/util/ArrayDeque", "grow", "(I)V"⟩) ∈ lw_all := lw_g (lw_at lw_ms 16 rfl) rfl
theorem qs17 : (Cond.selects "java/util/ArrayDeque" ⟨"java/util/ArrayDeque", "newCapacity", "(II)I"⟩ ⟨"java/util/ArrayDeque", "newCapacity", "(II)I"⟩) ∈ lw_all := lw_g (lw_at lw_ms 17 rfl) rfl
theorem qs18 : (Cond.selects "RosaryCarvers" ⟨"RosaryCarvers", "doneOnes", "()I"⟩ ⟨"RosaryCarvers", "doneOnes", "()I"⟩) ∈ lw_all := lw_g (lw_at lw_ms 18 rfl) rfl
theorem qs19 : (Cond.selects "RosaryCarvers$Reader" ⟨"RosaryCarvers$Reader", "command", "()LRosaryCarvers$Command;"⟩ ⟨"RosaryCarvers$Reader", "command", "()LRosaryCarvers$Command;"⟩) ∈ lw_all := lw_g (lw_at lw_ms 19 rfl) rfl
theorem qs20 : (Cond.selects "RosaryCarvers$Reader" ⟨"RosaryCarvers$Reader", "word", "()I"⟩ ⟨"RosaryCarvers$Reader", "word", "()I"⟩) ∈ lw_all := lw_g (lw_at lw_ms 20 rfl) rfl
theorem qs21 : (Cond.selects "RosaryCarvers$Reader" ⟨"RosaryCarvers$Reader", "isSign", "(C)Z"⟩ ⟨"RosaryCarvers$Reader", "isSign", "(C)Z"⟩) ∈ lw_all := lw_g (lw_at lw_ms 21 rfl) rfl
theorem qs22 : (Cond.selects "RosaryCarvers$Reader" ⟨"RosaryCarvers$Reader", "takes", "(C)V"⟩ ⟨"RosaryCarvers$Reader", "takes", "(C)V"⟩) ∈ lw_all := lw_g (lw_at lw_ms 22 rfl) rfl
theorem qs23 : (Cond.selects "RosaryCarvers$Reader" ⟨"RosaryCarvers$Reader", "number", "()I"⟩ ⟨"RosaryCarvers$Reader", "number", "()I"⟩) ∈ lw_all := lw_g (lw_at lw_ms 23 rfl) rfl
theorem qs24 : (Cond.selects "RosaryCarvers$Reader" ⟨"RosaryCarvers$Reader", "isDigit", "()Z"⟩ ⟨"RosaryCarvers$Reader", "isDigit", "()Z"⟩) ∈ lw_all := lw_g (lw_at lw_ms 24 rfl) rfl
theorem qs25 : (Cond.selects "RosaryCarversModel" ⟨"RosaryCarversModel", "keeps", "()V"⟩ ⟨"RosaryCarversModel", "keeps", "()V"⟩) ∈ lw_all := lw_g (lw_at lw_ms 25 rfl) rfl
theorem qs26 : (Cond.selects "RosaryCarversModel" ⟨"RosaryCarversModel", "ends", "(I)I"⟩ ⟨"RosaryCarversModel", "ends", "(I)I"⟩) ∈ lw_all := lw_g (lw_at lw_ms 26 rfl) rfl
theorem qs27 : (Cond.selects "RosaryCarversModel" ⟨"RosaryCarversModel", "changed", "()V"⟩ ⟨"RosaryCarversModel", "changed", "()V"⟩) ∈ lw_all := lw_g (lw_at lw_ms 27 rfl) rfl
theorem qs28 : (Cond.selects "RosaryCarversModel" ⟨"RosaryCarversModel", "adds", "(IIII)I"⟩ ⟨"RosaryCarversModel", "adds", "(IIII)I"⟩) ∈ lw_all := lw_g (lw_at lw_ms 28 rfl) rfl
theorem qs29 : (Cond.selects "RosaryCarversModel" ⟨"RosaryCarversModel", "refuses", "(II)I"⟩ ⟨"RosaryCarversModel", "refuses", "(II)I"⟩) ∈ lw_all := lw_g (lw_at lw_ms 29 rfl) rfl
theorem qs30 : (Cond.selects "RosaryCarversModel" ⟨"RosaryCarversModel", "isLens", "(I)Z"⟩ ⟨"RosaryCarversModel", "isLens", "(I)Z"⟩) ∈ lw_all := lw_g (lw_at lw_ms 30 rfl) rfl
theorem qs31 : (Cond.selects "RosaryCarversModel" ⟨"RosaryCarversModel", "isCarver", "(I)Z"⟩ ⟨"RosaryCarversModel", "isCarver", "(I)Z"⟩) ∈ lw_all := lw_g (lw_at lw_ms 31 rfl) rfl
theorem qs32 : (Cond.selects "RosaryCarversModel" ⟨"RosaryCarversModel", "carves", "(IZI)I"⟩ ⟨"RosaryCarversModel", "carves", "(IZI)I"⟩) ∈ lw_all := lw_g (lw_at lw_ms 32 rfl) rfl
theorem qs33 : (Cond.selects "RosaryCarversModel" ⟨"RosaryCarversModel", "carvesOne", "(IZ)V"⟩ ⟨"RosaryCarversModel", "carvesOne", "(IZ)V"⟩) ∈ lw_all := lw_g (lw_at lw_ms 33 rfl) rfl
theorem qs34 : (Cond.selects "RosaryCarversModel" ⟨"RosaryCarversModel", "sight", "(I)I"⟩ ⟨"RosaryCarversModel", "sight", "(I)I"⟩) ∈ lw_all := lw_g (lw_at lw_ms 34 rfl) rfl
theorem qs35 : (Cond.selects "RosaryCarversModel" ⟨"RosaryCarversModel", "comesToBox", "(IZI)V"⟩ ⟨"RosaryCarversModel", "comesToBox", "(IZI)V"⟩) ∈ lw_all := lw_g (lw_at lw_ms 35 rfl) rfl
theorem qs36 : (Cond.selects "RosaryCarversModel" ⟨"RosaryCarversModel", "finestPlace", "(Z)I"⟩ ⟨"RosaryCarversModel", "finestPlace", "(Z)I"⟩) ∈ lw_all := lw_g (lw_at lw_ms 36 rfl) rfl
theorem qs37 : (Cond.selects "RosaryCarversModel" ⟨"RosaryCarversModel", "begins", "(II)I"⟩ ⟨"RosaryCarversModel", "begins", "(II)I"⟩) ∈ lw_all := lw_g (lw_at lw_ms 37 rfl) rfl
theorem qs38 : (Cond.selects "RosaryCarversModel" ⟨"RosaryCarversModel", "threads", "(I)I"⟩ ⟨"RosaryCarversModel", "threads", "(I)I"⟩) ∈ lw_all := lw_g (lw_at lw_ms 38 rfl) rfl
theorem qs39 : (Cond.selects "RosaryCarversModel" ⟨"RosaryCarversModel", "isString", "(I)Z"⟩ ⟨"RosaryCarversModel", "isString", "(I)Z"⟩) ∈ lw_all := lw_g (lw_at lw_ms 39 rfl) rfl
theorem qs40 : (Cond.selects "RosaryCarversModel" ⟨"RosaryCarversModel", "wants", "(I)I"⟩ ⟨"RosaryCarversModel", "wants", "(I)I"⟩) ∈ lw_all := lw_g (lw_at lw_ms 40 rfl) rfl
theorem qs41 : (Cond.selects "RosaryCarversModel" ⟨"RosaryCarversModel", "isDone", "(I)Z"⟩ ⟨"RosaryCarversModel", "isDone", "(I)Z"⟩) ∈ lw_all := lw_g (lw_at lw_ms 41 rfl) rfl
theorem qs42 : (Cond.selects "RosaryCarversModel" ⟨"RosaryCarversModel", "ofString", "(II)I"⟩ ⟨"RosaryCarversModel", "ofString", "(II)I"⟩) ∈ lw_all := lw_g (lw_at lw_ms 42 rfl) rfl
theorem qs43 : (Cond.selects "RosaryCarversModel" ⟨"RosaryCarversModel", "lacks", "(I)I"⟩ ⟨"RosaryCarversModel", "lacks", "(I)I"⟩) ∈ lw_all := lw_g (lw_at lw_ms 43 rfl) rfl
theorem qs44 : (Cond.selects "RosaryCarversModel" ⟨"RosaryCarversModel", "knotted", "(I)I"⟩ ⟨"RosaryCarversModel", "knotted", "(I)I"⟩) ∈ lw_all := lw_g (lw_at lw_ms 44 rfl) rfl
theorem qs45 : (Cond.selects "RosaryCarversModel" ⟨"RosaryCarversModel", "isLargeAt", "(II)Z"⟩ ⟨"RosaryCarversModel", "isLargeAt", "(II)Z"⟩) ∈ lw_all := lw_g (lw_at lw_ms 45 rfl) rfl
theorem qs46 : (Cond.selects "RosaryCarversModel" ⟨"RosaryCarversModel", "refusesBead", "(Z)I"⟩ ⟨"RosaryCarversModel", "refusesBead", "(Z)I"⟩) ∈ lw_all := lw_g (lw_at lw_ms 46 rfl) rfl
theorem qs47 : (Cond.selects "RosaryCarversModel" ⟨"RosaryCarversModel", "onOthers", "(Z)I"⟩ ⟨"RosaryCarversModel", "onOthers", "(Z)I"⟩) ∈ lw_all := lw_g (lw_at lw_ms 47 rfl) rfl
theorem qs48 : (Cond.selects "RosaryCarversModel" ⟨"RosaryCarversModel", "goes", "(IIII)V"⟩ ⟨"RosaryCarversModel", "goes", "(IIII)V"⟩) ∈ lw_all := lw_g (lw_at lw_ms 48 rfl) rfl
theorem qs49 : (Cond.selects "RosaryCarversModel" ⟨"RosaryCarversModel", "knots", "(I)I"⟩ ⟨"RosaryCarversModel", "knots", "(I)I"⟩) ∈ lw_all := lw_g (lw_at lw_ms 49 rfl) rfl
theorem qs50 : (Cond.selects "RosaryCarversModel" ⟨"RosaryCarversModel", "drops", "(I)I"⟩ ⟨"RosaryCarversModel", "drops", "(I)I"⟩) ∈ lw_all := lw_g (lw_at lw_ms 50 rfl) rfl
theorem qs51 : (Cond.selects "RosaryCarversModel" ⟨"RosaryCarversModel", "mends", "()I"⟩ ⟨"RosaryCarversModel", "mends", "()I"⟩) ∈ lw_all := lw_g (lw_at lw_ms 51 rfl) rfl
theorem qs52 : (Cond.selects "RosaryCarversModel" ⟨"RosaryCarversModel", "passes", "(I)I"⟩ ⟨"RosaryCarversModel", "passes", "(I)I"⟩) ∈ lw_all := lw_g (lw_at lw_ms 52 rfl) rfl
theorem qs53 : (Cond.selects "RosaryCarversModel" ⟨"RosaryCarversModel", "dayGoes", "()I"⟩ ⟨"RosaryCarversModel", "dayGoes", "()I"⟩) ∈ lw_all := lw_g (lw_at lw_ms 53 rfl) rfl
theorem qs54 : (Cond.selects "RosaryCarversModel" ⟨"RosaryCarversModel", "comeBack", "()V"⟩ ⟨"RosaryCarversModel", "comeBack", "()V"⟩) ∈ lw_all := lw_g (lw_at lw_ms 54 rfl) rfl
theorem qs55 : (Cond.selects "RosaryCarversModel" ⟨"RosaryCarversModel", "pilgrimsCome", "()I"⟩ ⟨"RosaryCarversModel", "pilgrimsCome", "()I"⟩) ∈ lw_all := lw_g (lw_at lw_ms 55 rfl) rfl
theorem qs56 : (Cond.selects "RosaryCarversModel" ⟨"RosaryCarversModel", "wouldBuy", "(I)I"⟩ ⟨"RosaryCarversModel", "wouldBuy", "(I)I"⟩) ∈ lw_all := lw_g (lw_at lw_ms 56 rfl) rfl
theorem qs57 : (Cond.selects "RosaryCarversModel" ⟨"RosaryCarversModel", "fineness", "(I)I"⟩ ⟨"RosaryCarversModel", "fineness", "(I)I"⟩) ∈ lw_all := lw_g (lw_at lw_ms 57 rfl) rfl
theorem qs58 : (Cond.selects "RosaryCarversModel" ⟨"RosaryCarversModel", "sumOn", "(I)I"⟩ ⟨"RosaryCarversModel", "sumOn", "(I)I"⟩) ∈ lw_all := lw_g (lw_at lw_ms 58 rfl) rfl
theorem qs59 : (Cond.selects "RosaryCarversModel" ⟨"RosaryCarversModel", "sells", "(II)V"⟩ ⟨"RosaryCarversModel", "sells", "(II)V"⟩) ∈ lw_all := lw_g (lw_at lw_ms 59 rfl) rfl
theorem qs60 : (Cond.selects "RosaryCarversModel" ⟨"RosaryCarversModel", "onStrings", "()I"⟩ ⟨"RosaryCarversModel", "onStrings", "()I"⟩) ∈ lw_all := lw_g (lw_at lw_ms 60 rfl) rfl
theorem qs61 : (Cond.selects "RosaryCarversModel" ⟨"RosaryCarversModel", "sold", "(II)I"⟩ ⟨"RosaryCarversModel", "sold", "(II)I"⟩) ∈ lw_all := lw_g (lw_at lw_ms 61 rfl) rfl
theorem qs62 : (Cond.selects "RosaryCarversModel" ⟨"RosaryCarversModel", "doneOnes", "()I"⟩ ⟨"RosaryCarversModel", "doneOnes", "()I"⟩) ∈ lw_all := lw_g (lw_at lw_ms 62 rfl) rfl
theorem qs63 : (Cond.selects "RosaryCarversModel" ⟨"RosaryCarversModel", "writes", "(I)V"⟩ ⟨"RosaryCarversModel", "writes", "(I)V"⟩) ∈ lw_all := lw_g (lw_at lw_ms 63 rfl) rfl
theorem qs64 : (Cond.selects "RosaryCarversModel" ⟨"RosaryCarversModel", "isText", "()Z"⟩ ⟨"RosaryCarversModel", "isText", "()Z"⟩) ∈ lw_all := lw_g (lw_at lw_ms 64 rfl) rfl
theorem qs65 : (Cond.selects "RosaryCarversModel" ⟨"RosaryCarversModel", "readsCommand", "()Z"⟩ ⟨"RosaryCarversModel", "readsCommand", "()Z"⟩) ∈ lw_all := lw_g (lw_at lw_ms 65 rfl) rfl
theorem qs66 : (Cond.selects "RosaryCarversModel" ⟨"RosaryCarversModel", "readsWord", "()I"⟩ ⟨"RosaryCarversModel", "readsWord", "()I"⟩) ∈ lw_all := lw_g (lw_at lw_ms 66 rfl) rfl
theorem qs67 : (Cond.selects "RosaryCarversModel" ⟨"RosaryCarversModel", "letter", "()I"⟩ ⟨"RosaryCarversModel", "letter", "()I"⟩) ∈ lw_all := lw_g (lw_at lw_ms 67 rfl) rfl
theorem qs68 : (Cond.selects "RosaryCarversModel" ⟨"RosaryCarversModel", "readsNumber", "()Z"⟩ ⟨"RosaryCarversModel", "readsNumber", "()Z"⟩) ∈ lw_all := lw_g (lw_at lw_ms 68 rfl) rfl
theorem qs69 : (Cond.selects "RosaryCarversModel" ⟨"RosaryCarversModel", "does", "(III)I"⟩ ⟨"RosaryCarversModel", "does", "(III)I"⟩) ∈ lw_all := lw_g (lw_at lw_ms 69 rfl) rfl
theorem qs70 : (Cond.selects "RosaryCarversModel" ⟨"RosaryCarversModel", "threadsMany", "(II)I"⟩ ⟨"RosaryCarversModel", "threadsMany", "(II)I"⟩) ∈ lw_all := lw_g (lw_at lw_ms 70 rfl) rfl
theorem qs71 : (Cond.selects "RosaryCarversModel" ⟨"RosaryCarversModel", "refusesCommand", "(IZ)I"⟩ ⟨"RosaryCarversModel", "refusesCommand", "(IZ)I"⟩) ∈ lw_all := lw_g (lw_at lw_ms 71 rfl) rfl
