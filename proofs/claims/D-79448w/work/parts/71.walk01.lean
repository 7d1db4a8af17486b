set_option maxRecDepth 100000
/-! java/util/ArrayDeque toArray (Ljava/lang/Class;)[Ljava/lang/Object; -/
theorem fl_J4_24 : kw_fl RJ4 24 "java/util/ArrayDeque" [(32, 1)] := (kw_fl_c (C := RJ4) (T := TJ4) (N := 3) rfl (by decide) in_J4 q293 (Or.inl rfl) kw_fl_nil)
theorem fl_J4_20 : kw_fl RJ4 20 "java/util/ArrayDeque" [(32, 2)] := (kw_fl_c (C := RJ4) (T := TJ4) (N := 3) rfl (by decide) in_J4 q294 (Or.inl rfl) kw_fl_nil)
theorem wb_J4_toArray_2_77 {E : kw_E} (B : kw_ok E cJ4_toArray_2 RJ4 "toArray" 7 (some (.array (.object "java/lang/Object"))) 2 65 [])  (x2 : Option Nat) (x3 : Option Nat) (x4 : Int32) (x5 : Int32) (x6 : Int32) : kw_W E kw_eA 77 [(2, kA x2), (3, kA x3), (4, kI x4), (5, kI x5), (6, kI x6)] [] (pb_J4_toArray_2_77  x2 x3 x4 x5 x6) := by
  unfold pb_J4_toArray_2_77
  refine kw_iload (pc := 77) B dJ4_toArray_2_77 4 rfl ?_
  refine kw_iload (pc := 79) B dJ4_toArray_2_79 3 rfl ?_
  refine kw_icmp_eq (pc := 81) (tgt := 97) B dJ4_toArray_2_81 rfl ?_ ?_
  · refine kw_aload_n (pc := 97) B dJ4_toArray_2_97 rfl 1 rfl ?_
    exact kw_aret rfl B dJ4_toArray_2_98 rfl
  · refine kw_aload_n (pc := 84) B dJ4_toArray_2_84 rfl 0 rfl ?_
    refine kw_iconst (pc := 85) B dJ4_toArray_2_85 (v := (0 : Int32)) rfl ?_
    refine kw_aload_n (pc := 86) B dJ4_toArray_2_86 rfl 1 rfl ?_
    refine kw_aload_n (pc := 87) B dJ4_toArray_2_87 rfl 0 rfl ?_
    refine kw_alen (pc := 88) B dJ4_toArray_2_88 (fun i1 => ?_)
    refine kw_iload (pc := 89) B dJ4_toArray_2_89 2 rfl ?_
    refine kw_isub (pc := 91) B dJ4_toArray_2_91 ?_
    refine kw_iload (pc := 92) B dJ4_toArray_2_92 3 rfl ?_
    refine kw_acopy (pc := 94) B dJ4_toArray_2_94 q708 q656 q655 q95 (by decide) (Nat.le_of_ble_eq_true rfl) ?_
    refine kw_aload_n (pc := 97) B dJ4_toArray_2_97 rfl 1 rfl ?_
    exact kw_aret rfl B dJ4_toArray_2_98 rfl
theorem wb_J4_toArray_2_32 {E : kw_E} (B : kw_ok E cJ4_toArray_2 RJ4 "toArray" 7 (some (.array (.object "java/lang/Object"))) 2 65 [])  (x1 : Option Nat) (x2 : Option Nat) (x4 : Int32) (x5 : Int32) (s0 : Int32) (s1 : Int32) : kw_W E kw_eA 32 [(1, kA x1), (2, kA x2), (4, kI x4), (5, kI x5)] [kI s0, kI s1] (pb_J4_toArray_2_32  x1 x2 x4 x5 s0 s1) := by
  unfold pb_J4_toArray_2_32
  refine kw_iadd (pc := 32) B dJ4_toArray_2_32 ?_
  refine kw_dup (pc := 33) B dJ4_toArray_2_33 rfl ?_
  refine kw_istore (pc := 34) B dJ4_toArray_2_34 (by decide) (L2 := [(6, kI (s1 + s0)), (1, kA x1), (2, kA x2), (4, kI x4), (5, kI x5)]) rfl ?_
  refine kw_if_lt (pc := 36) (tgt := 52) B dJ4_toArray_2_36 rfl ?_ ?_
  · refine kw_aload_n (pc := 52) B dJ4_toArray_2_52 rfl 2 rfl ?_
    refine kw_iconst (pc := 53) B dJ4_toArray_2_53 (v := (0 : Int32)) rfl ?_
    refine kw_iload (pc := 54) B dJ4_toArray_2_54 0 rfl ?_
    refine kw_iload (pc := 56) B dJ4_toArray_2_56 3 rfl ?_
    refine kw_isub (pc := 58) B dJ4_toArray_2_58 ?_
    refine kw_aload_n (pc := 59) B dJ4_toArray_2_59 rfl 1 rfl ?_
    refine kw_callS (pc := 60) B dJ4_toArray_2_60 (ct_J14_copyOfRange x2 (0 : Int32) ((s1 + s0) - x4) x1) q705 q706 q94 q707 ⟨by decide, by decide, rfl⟩ (As := [kA x2, kI (0 : Int32), kI ((s1 + s0) - x4), kA x1]) rfl (st := []) rfl (Nat.le_of_ble_eq_true rfl) (by decide) (by decide) kw_qA (fun r1 => ?_)
    refine kw_astore_n (pc := 63) B dJ4_toArray_2_63 rfl (by decide) (L2 := [(3, kA r1), (6, kI (s1 + s0)), (1, kA x1), (2, kA x2), (4, kI x4), (5, kI x5)]) rfl ?_
    refine kw_aload_n (pc := 64) B dJ4_toArray_2_64 rfl 3 rfl ?_
    refine kw_iload (pc := 65) B dJ4_toArray_2_65 4 rfl ?_
    refine kw_aload_n (pc := 67) B dJ4_toArray_2_67 rfl 0 rfl ?_
    refine kw_iconst (pc := 68) B dJ4_toArray_2_68 (v := (0 : Int32)) rfl ?_
    refine kw_aload_n (pc := 69) B dJ4_toArray_2_69 rfl 3 rfl ?_
    refine kw_alen (pc := 70) B dJ4_toArray_2_70 (fun i2 => ?_)
    refine kw_iload (pc := 71) B dJ4_toArray_2_71 4 rfl ?_
    refine kw_isub (pc := 73) B dJ4_toArray_2_73 ?_
    refine kw_acopy (pc := 74) B dJ4_toArray_2_74 q708 q656 q655 q95 (by decide) (Nat.le_of_ble_eq_true rfl) ?_
    exact kw_pick [3, 0, 4, 5, 1] rfl (wb_J4_toArray_2_77 B x2 r1 x4 x5 (s1 + s0))
  · refine kw_aload_n (pc := 39) B dJ4_toArray_2_39 rfl 2 rfl ?_
    refine kw_iload (pc := 40) B dJ4_toArray_2_40 3 rfl ?_
    refine kw_iload (pc := 42) B dJ4_toArray_2_42 0 rfl ?_
    refine kw_aload_n (pc := 44) B dJ4_toArray_2_44 rfl 1 rfl ?_
    refine kw_callS (pc := 45) B dJ4_toArray_2_45 (ct_J14_copyOfRange x2 x4 (s1 + s0) x1) q705 q706 q94 q707 ⟨by decide, by decide, rfl⟩ (As := [kA x2, kI x4, kI (s1 + s0), kA x1]) rfl (st := []) rfl (Nat.le_of_ble_eq_true rfl) (by decide) (by decide) kw_qA (fun r3 => ?_)
    refine kw_astore_n (pc := 48) B dJ4_toArray_2_48 rfl (by decide) (L2 := [(3, kA r3), (6, kI (s1 + s0)), (1, kA x1), (2, kA x2), (4, kI x4), (5, kI x5)]) rfl ?_
    refine kw_goto (pc := 49) (tgt := 77) B dJ4_toArray_2_49 rfl ?_
    exact kw_pick [3, 0, 4, 5, 1] rfl (wb_J4_toArray_2_77 B x2 r3 x4 x5 (s1 + s0))
theorem wm_J4_toArray_2 {E : kw_E} (B : kw_ok E cJ4_toArray_2 RJ4 "toArray" 7 (some (.array (.object "java/lang/Object"))) 2 65 []) (a0 : Option Nat) (a1 : Option Nat) : kw_W E kw_eA 0 [(0, kA a0), (1, kA a1)] [] (pm_J4_toArray_2 a0 a1) := by
  unfold pm_J4_toArray_2
  refine kw_aload_n (pc := 0) B dJ4_toArray_2_0 rfl 0 rfl ?_
  refine kw_gR (pc := 1) B dJ4_toArray_2_1 fl_J4_3 (fun r1 => ?_)
  refine kw_astore_n (pc := 4) B dJ4_toArray_2_4 rfl (by decide) (L2 := [(2, kA r1), (0, kA a0), (1, kA a1)]) rfl ?_
  refine kw_aload_n (pc := 5) B dJ4_toArray_2_5 rfl 1 rfl ?_
  refine kw_gI (pc := 6) B dJ4_toArray_2_6 fl_J4_24 (fun i2 => ?_)
  refine kw_istore (pc := 9) B dJ4_toArray_2_9 (by decide) (L2 := [(4, kI i2), (2, kA r1), (0, kA a0), (1, kA a1)]) rfl ?_
  refine kw_aload_n (pc := 11) B dJ4_toArray_2_11 rfl 2 rfl ?_
  refine kw_gI (pc := 12) B dJ4_toArray_2_12 fl_J4_20 (fun i3 => ?_)
  refine kw_istore (pc := 15) B dJ4_toArray_2_15 (by decide) (L2 := [(5, kI i3), (4, kI i2), (2, kA r1), (0, kA a0), (1, kA a1)]) rfl ?_
  refine kw_iload (pc := 17) B dJ4_toArray_2_17 0 rfl ?_
  refine kw_iload (pc := 19) B dJ4_toArray_2_19 1 rfl ?_
  refine kw_iload (pc := 21) B dJ4_toArray_2_21 0 rfl ?_
  refine kw_icmp_gt (pc := 23) (tgt := 30) B dJ4_toArray_2_23 rfl ?_ ?_
  · refine kw_aload_n (pc := 30) B dJ4_toArray_2_30 rfl 2 rfl ?_
    refine kw_alen (pc := 31) B dJ4_toArray_2_31 (fun i4 => ?_)
    exact kw_pick [4, 2, 1, 0] rfl (wb_J4_toArray_2_32 B a1 r1 i2 i3 i4 i3)
  · refine kw_iconst (pc := 26) B dJ4_toArray_2_26 (v := (0 : Int32)) rfl ?_
    refine kw_goto (pc := 27) (tgt := 32) B dJ4_toArray_2_27 rfl ?_
    exact kw_pick [4, 2, 1, 0] rfl (wb_J4_toArray_2_32 B a1 r1 i2 i3 (0 : Int32) i3)
theorem ct_J4_toArray_2 (a0 : Option Nat) (a1 : Option Nat) (l : Launch) : kw_Met l yJ4_toArray_2 (ws_ yJ4_toArray_2 cJ4_toArray_2 7 (some (.array (.object "java/lang/Object")))) 2 65 [kA a0, kA a1] kw_eA (pm_J4_toArray_2 a0 a1) := kw_met (plainFor_of_name rfl) (Nat.le_of_ble_eq_true rfl) (fun E B => wm_J4_toArray_2 B a0 a1) l

/-! java/util/ArrayDeque toArray ()[Ljava/lang/Object; -/

theorem wm_J4_toArray {E : kw_E} (B : kw_ok E cJ4_toArray RJ4 "toArray" 1 (some (.array (.object "java/lang/Object"))) 3 91 []) (a0 : Option Nat) : kw_W E kw_eA 0 [(0, kA a0)] [] (pm_J4_toArray a0) := by
  unfold pm_J4_toArray
  refine kw_aload_n (pc := 0) B dJ4_toArray_0 rfl 0 rfl ?_
  refine kw_ldcM (pc := 1) B dJ4_toArray_1 q700 (fun r1 => ?_)
  refine kw_callV (pc := 3) B dJ4_toArray_3 (ci := 32) rfl (ct_J4_toArray_2 a0 r1) q701 q703 qs6 q80 q704 ⟨by decide, by decide, rfl⟩ (As := [kA r1]) rfl (st := []) rfl (Nat.le_of_ble_eq_true rfl) (by decide) (by decide) kw_qA (fun r2 => ?_)
  exact kw_aret rfl B dJ4_toArray_6 rfl
theorem ct_J4_toArray (a0 : Option Nat) (l : Launch) : kw_Met l yJ4_toArray (ws_ yJ4_toArray cJ4_toArray 1 (some (.array (.object "java/lang/Object")))) 3 91 [kA a0] kw_eA (pm_J4_toArray a0) := kw_met (plainFor_of_name rfl) (Nat.le_of_ble_eq_true rfl) (fun E B => wm_J4_toArray B a0) l

/-! java/util/ArrayList addAll (Ljava/util/Collection;)Z -/

theorem wb_J2_addAll_56 {E : kw_E} (B : kw_ok E cJ2_addAll RJ2 "addAll" 6 (some .boolean) 4 111 [])  (x0 : Option Nat) (x2 : Option Nat) (x3 : Int32) (x4 : Option Nat) (x5 : Int32) : kw_W E kw_eI 56 [(0, kA x0), (2, kA x2), (3, kI x3), (4, kA x4), (5, kI x5)] [] (pb_J2_addAll_56  x0 x2 x3 x4 x5) := by
  unfold pb_J2_addAll_56
  refine kw_aload_n (pc := 56) B dJ2_addAll_56 rfl 1 rfl ?_
  refine kw_iconst (pc := 57) B dJ2_addAll_57 (v := (0 : Int32)) rfl ?_
  refine kw_aload (pc := 58) B dJ2_addAll_58 3 rfl ?_
  refine kw_iload (pc := 60) B dJ2_addAll_60 4 rfl ?_
  refine kw_iload_n (pc := 62) B dJ2_addAll_62 rfl 2 rfl ?_
  refine kw_acopy (pc := 63) B dJ2_addAll_63 q715 q656 q655 q95 (by decide) (Nat.le_of_ble_eq_true rfl) ?_
  refine kw_aload_n (pc := 66) B dJ2_addAll_66 rfl 0 rfl ?_
  refine kw_iload (pc := 67) B dJ2_addAll_67 4 rfl ?_
  refine kw_iload_n (pc := 69) B dJ2_addAll_69 rfl 2 rfl ?_
  refine kw_iadd (pc := 70) B dJ2_addAll_70 ?_
  refine kw_pI (pc := 71) B dJ2_addAll_71 fl_J2_48 fp_J2_48 (fun h => by cases h) ?_
  refine kw_iconst (pc := 74) B dJ2_addAll_74 (v := (1 : Int32)) rfl ?_
  exact kw_zret B dJ2_addAll_75 (g := fun v => v) (fun _ => rfl)
theorem wm_J2_addAll {E : kw_E} (B : kw_ok E cJ2_addAll RJ2 "addAll" 6 (some .boolean) 4 111 []) (a0 : Option Nat) (a1 : Option Nat) : kw_W E kw_eI 0 [(0, kA a0), (1, kA a1)] [] (pm_J2_addAll a0 a1) := by
  unfold pm_J2_addAll
  refine kw_aload_n (pc := 0) B dJ2_addAll_0 rfl 1 rfl ?_
  refine kw_disp (pc := 1) (pc' := 6) (st := []) kw_hA (fun r1 => ?_) ?_
  · refine kw_astore_n (pc := 6) B dJ2_addAll_6 rfl (by decide) (L2 := [(2, kA r1), (0, kA a0), (1, kA a1)]) rfl ?_
    refine kw_aload_n (pc := 7) B dJ2_addAll_7 rfl 1 rfl ?_
    refine kw_dup (pc := 8) B dJ2_addAll_8 rfl ?_
    refine kw_gI (pc := 9) B dJ2_addAll_9 fl_J2_63 (fun i2 => ?_)
    refine kw_iconst (pc := 12) B dJ2_addAll_12 (v := (1 : Int32)) rfl ?_
    refine kw_iadd (pc := 13) B dJ2_addAll_13 ?_
    refine kw_pI (pc := 14) B dJ2_addAll_14 fl_J2_63 fp_J2_63 (fun h => by cases h) ?_
    refine kw_aload_n (pc := 17) B dJ2_addAll_17 rfl 0 rfl ?_
    refine kw_alen (pc := 18) B dJ2_addAll_18 (fun i4 => ?_)
    refine kw_istore_n (pc := 19) B dJ2_addAll_19 rfl (by decide) (L2 := [(3, kI i4), (2, kA r1), (0, kA a0), (1, kA a1)]) rfl ?_
    refine kw_iload_n (pc := 20) B dJ2_addAll_20 rfl 0 rfl ?_
    refine kw_if_ne (pc := 21) (tgt := 26) B dJ2_addAll_21 rfl ?_ ?_
    · refine kw_iload_n (pc := 26) B dJ2_addAll_26 rfl 0 rfl ?_
      refine kw_aload_n (pc := 27) B dJ2_addAll_27 rfl 2 rfl ?_
      refine kw_gR (pc := 28) B dJ2_addAll_28 fl_J2_9 (fun r5 => ?_)
      refine kw_dup (pc := 31) B dJ2_addAll_31 rfl ?_
      refine kw_astore (pc := 32) B dJ2_addAll_32 (by decide) (L2 := [(4, kA r5), (3, kI i4), (2, kA r1), (0, kA a0), (1, kA a1)]) rfl ?_
      refine kw_alen (pc := 34) B dJ2_addAll_34 (fun i6 => ?_)
      refine kw_aload_n (pc := 35) B dJ2_addAll_35 rfl 3 rfl ?_
      refine kw_gI (pc := 36) B dJ2_addAll_36 fl_J2_48 (fun i7 => ?_)
      refine kw_dup (pc := 39) B dJ2_addAll_39 rfl ?_
      refine kw_istore (pc := 40) B dJ2_addAll_40 (by decide) (L2 := [(5, kI i7), (4, kA r5), (3, kI i4), (2, kA r1), (0, kA a0), (1, kA a1)]) rfl ?_
      refine kw_isub (pc := 42) B dJ2_addAll_42 ?_
      refine kw_icmp_le (pc := 43) (tgt := 56) B dJ2_addAll_43 rfl ?_ ?_
      · exact kw_pick [4, 3, 2, 1, 0] rfl (wb_J2_addAll_56 B a0 r1 i4 r5 i7)
      · refine kw_aload_n (pc := 46) B dJ2_addAll_46 rfl 4 rfl ?_
        refine kw_iload (pc := 47) B dJ2_addAll_47 0 rfl ?_
        refine kw_iload_n (pc := 49) B dJ2_addAll_49 rfl 2 rfl ?_
        refine kw_iadd (pc := 50) B dJ2_addAll_50 ?_
        refine kw_callV (pc := 51) B dJ2_addAll_51 (ci := 30) rfl (ct_J2_grow_2 a0 (i7 + i4)) q584 q586 qs5 q77 q587 ⟨by decide, by decide, rfl⟩ (As := [kI (i7 + i4)]) rfl (st := []) rfl (Nat.le_of_ble_eq_true rfl) (by decide) (by decide) kw_qA (fun r8 => ?_)
        refine kw_astore (pc := 54) B dJ2_addAll_54 (by decide) (L2 := [(4, kA r8), (5, kI i7), (3, kI i4), (2, kA r1), (0, kA a0), (1, kA a1)]) rfl ?_
        exact kw_pick [4, 3, 2, 0, 1] rfl (wb_J2_addAll_56 B a0 r1 i4 r8 i7)
    · refine kw_iconst (pc := 24) B dJ2_addAll_24 (v := (0 : Int32)) rfl ?_
      exact kw_zret B dJ2_addAll_25 (g := fun v => v) (fun _ => rfl)
  · intro q hq hk
    simp only [List.mem_cons, List.not_mem_nil, or_false] at hq
    rcases hq with rfl | rfl
    · exact kw_callF (pc := 1) B dJ2_addAll_1 (ci := 30) rfl (ct_J2_toArray a1) q691 q710 q712 q77 q714 q693 q692 q713 q711 q709 ⟨by decide, by decide, rfl⟩ (As := []) rfl (st := []) rfl (Nat.le_of_ble_eq_true rfl) (by decide) (by decide) kw_qA hk
    · exact kw_callF (pc := 1) B dJ2_addAll_1 (ci := 32) rfl (ct_J4_toArray a1) q691 q695 q697 q80 q699 q693 q692 q698 q696 q694 ⟨by decide, by decide, rfl⟩ (As := []) rfl (st := []) rfl (Nat.le_of_ble_eq_true rfl) (by decide) (by decide) kw_qA hk
theorem ct_J2_addAll (a0 : Option Nat) (a1 : Option Nat) (l : Launch) : kw_Met l yJ2_addAll (ws_ yJ2_addAll cJ2_addAll 6 (some .boolean)) 4 111 [kA a0, kA a1] kw_eI (pm_J2_addAll a0 a1) := kw_met (plainFor_of_name rfl) (Nat.le_of_ble_eq_true rfl) (fun E B => wm_J2_addAll B a0 a1) l

/-! RosaryCarvers$Beads becomes (LRosaryCarvers$Beads;)V -/

theorem wm_X2_becomes {E : kw_E} (B : kw_ok E cX2_becomes RX2 "becomes" 2 none 5 136 []) (a0 : Option Nat) (a1 : Option Nat) : kw_W E kw_eV 0 [(0, kA a0), (1, kA a1)] [] (pm_X2_becomes a0 a1) := by
  unfold pm_X2_becomes
  refine kw_aload_n (pc := 0) B dX2_becomes_0 rfl 0 rfl ?_
  refine kw_gR (pc := 1) B dX2_becomes_1 fl_X2_10 (fun r1 => ?_)
  refine kw_aload_n (pc := 4) B dX2_becomes_4 rfl 1 rfl ?_
  refine kw_gR (pc := 5) B dX2_becomes_5 fl_X2_10 (fun r2 => ?_)
  refine kw_callV (pc := 8) B dX2_becomes_8 (ci := 30) rfl (ct_J2_addAll r1 r2) q686 q687 q688 q77 q689 ⟨by decide, by decide, rfl⟩ (As := [kA r2]) rfl (st := []) rfl (Nat.le_of_ble_eq_true rfl) (by decide) (by decide) kw_qI (fun i3 => ?_)
  refine kw_pop (pc := 11) B dX2_becomes_11 rfl ?_
  exact kw_vret B dX2_becomes_12 rfl
theorem ct_X2_becomes (a0 : Option Nat) (a1 : Option Nat) (l : Launch) : kw_Met l yX2_becomes (ws_ yX2_becomes cX2_becomes 2 none) 5 136 [kA a0, kA a1] kw_eV (pm_X2_becomes a0 a1) := kw_met (plainFor_of_name rfl) (Nat.le_of_ble_eq_true rfl) (fun E B => wm_X2_becomes B a0 a1) l

/-! RosaryCarvers$Rosary <init> (II)V -/
theorem fl_X8_7 : kw_fl RX8 7 "RosaryCarvers$Rosary" [(7, 1)] := (kw_fl_c (C := RX8) (T := TX8) (N := 4) rfl (by decide) in_X8 q725 (Or.inl rfl) kw_fl_nil)
theorem fp_X8_7 : kw_fp RX8 .int true [(7, 1)] := (kw_fp_c (C := RX8) (T := TX8) (N := 4) (ty0 := tyX8) rfl tyX8_ok nmX8 rfl (fun _ => rfl) (by decide) rfl kw_fp_nil)
theorem fl_X8_13 : kw_fl RX8 13 "RosaryCarvers$Rosary" [(7, 2)] := (kw_fl_c (C := RX8) (T := TX8) (N := 4) rfl (by decide) in_X8 q728 (Or.inl rfl) kw_fl_nil)
theorem fp_X8_13 : kw_fp RX8 .int true [(7, 2)] := (kw_fp_c (C := RX8) (T := TX8) (N := 4) (ty0 := tyX8) rfl tyX8_ok nmX8 rfl (fun _ => rfl) (by decide) rfl kw_fp_nil)
theorem wm_X8_init_2 {E : kw_E} (B : kw_ok E cX8_init_2 RX8 "<init>" 3 none 5 104 []) (a0 : Option Nat) (a1 : Int32) (a2 : Int32) : kw_W E kw_eV 0 [(0, kA a0), (1, kI a1), (2, kI a2)] [] (pm_X8_init_2 a0 a1 a2) := by
  unfold pm_X8_init_2
  refine kw_aload_n (pc := 0) B dX8_init_2_0 rfl 0 rfl ?_
  refine kw_callIN (pc := 1) B dX8_init_2_1 (ct_X2_init a0) q724 q178 q78 q179 rfl ⟨by decide, by decide, rfl⟩ (As := []) rfl (st := []) rfl (Nat.le_of_ble_eq_true rfl) (by decide) (by decide) kw_qV (fun _ => ?_)
  refine kw_aload_n (pc := 4) B dX8_init_2_4 rfl 0 rfl ?_
  refine kw_iload_n (pc := 5) B dX8_init_2_5 rfl 1 rfl ?_
  refine kw_pI (pc := 6) B dX8_init_2_6 fl_X8_7 fp_X8_7 (fun _ => rfl) ?_
  refine kw_aload_n (pc := 9) B dX8_init_2_9 rfl 0 rfl ?_
  refine kw_iload_n (pc := 10) B dX8_init_2_10 rfl 2 rfl ?_
  refine kw_pI (pc := 11) B dX8_init_2_11 fl_X8_13 fp_X8_13 (fun _ => rfl) ?_
  exact kw_vret B dX8_init_2_14 rfl
theorem ct_X8_init_2 (a0 : Option Nat) (a1 : Int32) (a2 : Int32) (l : Launch) : kw_Met l yX8_init_2 (ws_ yX8_init_2 cX8_init_2 3 none) 5 104 [kA a0, kI a1, kI a2] kw_eV (pm_X8_init_2 a0 a1 a2) := kw_met (plainFor_of_name rfl) (Nat.le_of_ble_eq_true rfl) (fun E B => wm_X8_init_2 B a0 a1 a2) l

/-! RosaryCarvers$Rosary <init> (LRosaryCarvers$Rosary;)V -/
theorem fl_X8_19 : kw_fl RX8 19 "RosaryCarvers$Rosary" [(7, 3)] := (kw_fl_c (C := RX8) (T := TX8) (N := 4) rfl (by decide) in_X8 q731 (Or.inl rfl) kw_fl_nil)
theorem fp_X8_19 : kw_fp RX8 .int false [(7, 3)] := (kw_fp_c (C := RX8) (T := TX8) (N := 4) (ty0 := tyX8) rfl tyX8_ok nmX8 rfl (fun h => by cases h) (by decide) rfl kw_fp_nil)
theorem wm_X8_init {E : kw_E} (B : kw_ok E cX8_init RX8 "<init>" 2 none 6 157 []) (a0 : Option Nat) (a1 : Option Nat) : kw_W E kw_eV 0 [(0, kA a0), (1, kA a1)] [] (pm_X8_init a0 a1) := by
  unfold pm_X8_init
  refine kw_aload_n (pc := 0) B dX8_init_0 rfl 0 rfl ?_
  refine kw_aload_n (pc := 1) B dX8_init_1 rfl 1 rfl ?_
  refine kw_gI (pc := 2) B dX8_init_2 fl_X8_7 (fun i1 => ?_)
  refine kw_aload_n (pc := 5) B dX8_init_5 rfl 1 rfl ?_
  refine kw_gI (pc := 6) B dX8_init_6 fl_X8_13 (fun i2 => ?_)
  refine kw_callI (pc := 9) B dX8_init_9 (ct_X8_init_2 a0 i1 i2) q721 q722 q97 q723 rfl ⟨by decide, by decide, rfl⟩ (As := [kI i1, kI i2]) rfl (st := []) rfl (Nat.le_of_ble_eq_true rfl) (by decide) (by decide) kw_qV (fun _ => ?_)
  refine kw_aload_n (pc := 12) B dX8_init_12 rfl 0 rfl ?_
  refine kw_aload_n (pc := 13) B dX8_init_13 rfl 1 rfl ?_
  refine kw_gI (pc := 14) B dX8_init_14 fl_X8_19 (fun i3 => ?_)
  refine kw_pI (pc := 17) B dX8_init_17 fl_X8_19 fp_X8_19 (fun h => by cases h) ?_
  refine kw_aload_n (pc := 20) B dX8_init_20 rfl 0 rfl ?_
  refine kw_aload_n (pc := 21) B dX8_init_21 rfl 1 rfl ?_
  refine kw_callU (pc := 22) B dX8_init_22 (x0 := ⟨"RosaryCarvers$Rosary", "becomes", "(LRosaryCarvers$Beads;)V"⟩) (owner := "RosaryCarvers$Beads") (ci := 7) rfl (ct_X2_becomes a0 a1) q742 q743 q745 q680 q78 q685 rfl ⟨by decide, by decide, rfl⟩ (As := [kA a1]) rfl (st := []) rfl (Nat.le_of_ble_eq_true rfl) (by decide) (by decide) kw_qV (fun _ => ?_)
  exact kw_vret B dX8_init_25 rfl
theorem ct_X8_init (a0 : Option Nat) (a1 : Option Nat) (l : Launch) : kw_Met l yX8_init (ws_ yX8_init cX8_init 2 none) 6 157 [kA a0, kA a1] kw_eV (pm_X8_init a0 a1) := kw_met (plainFor_of_name rfl) (Nat.le_of_ble_eq_true rfl) (fun E B => wm_X8_init B a0 a1) l

/-! java/util/Arrays copyOf ([JI)[J -/

theorem wm_J14_copyOf_3 {E : kw_E} (B : kw_ok E cJ14_copyOf_3 RJ14 "copyOf" 3 (some (.array .long)) 1 40 []) (a0 : Option Nat) (a1 : Int32) : kw_W E kw_eA 0 [(0, kA a0), (1, kI a1)] [] (pm_J14_copyOf_3 a0 a1) := by
  unfold pm_J14_copyOf_3
  refine kw_iload_n (pc := 0) B dJ14_copyOf_3_0 rfl 1 rfl ?_
  refine kw_aload_n (pc := 1) B dJ14_copyOf_3_1 rfl 0 rfl ?_
  refine kw_alen (pc := 2) B dJ14_copyOf_3_2 (fun i1 => ?_)
  refine kw_icmp_ne (pc := 3) (tgt := 14) B dJ14_copyOf_3_3 rfl ?_ ?_
  · refine kw_iload_n (pc := 14) B dJ14_copyOf_3_14 rfl 1 rfl ?_
    refine kw_newaJ (pc := 15) B dJ14_copyOf_3_15 q212 (fun r2 => ?_)
    refine kw_astore_n (pc := 17) B dJ14_copyOf_3_17 rfl (by decide) (L2 := [(2, kA r2), (0, kA a0), (1, kI a1)]) rfl ?_
    refine kw_aload_n (pc := 18) B dJ14_copyOf_3_18 rfl 1 rfl ?_
    refine kw_iconst (pc := 19) B dJ14_copyOf_3_19 (v := (0 : Int32)) rfl ?_
    refine kw_aload_n (pc := 20) B dJ14_copyOf_3_20 rfl 0 rfl ?_
    refine kw_iconst (pc := 21) B dJ14_copyOf_3_21 (v := (0 : Int32)) rfl ?_
    refine kw_aload_n (pc := 22) B dJ14_copyOf_3_22 rfl 1 rfl ?_
    refine kw_alen (pc := 23) B dJ14_copyOf_3_23 (fun i3 => ?_)
    refine kw_iload_n (pc := 24) B dJ14_copyOf_3_24 rfl 2 rfl ?_
    refine kw_mmin (pc := 25) B dJ14_copyOf_3_25 q651 q652 q93 q653 (by decide) (Nat.le_of_ble_eq_true rfl) ?_
    refine kw_acopy (pc := 28) B dJ14_copyOf_3_28 q654 q656 q655 q95 (by decide) (Nat.le_of_ble_eq_true rfl) ?_
    refine kw_aload_n (pc := 31) B dJ14_copyOf_3_31 rfl 0 rfl ?_
    exact kw_aret rfl B dJ14_copyOf_3_32 rfl
  · refine kw_aload_n (pc := 6) B dJ14_copyOf_3_6 rfl 0 rfl ?_
    exact kw_fail_ok
theorem ct_J14_copyOf_3 (a0 : Option Nat) (a1 : Int32) (l : Launch) : kw_Met l yJ14_copyOf_3 (ws_ yJ14_copyOf_3 cJ14_copyOf_3 3 (some (.array .long))) 1 40 [kA a0, kI a1] kw_eA (pm_J14_copyOf_3 a0 a1) := kw_met (plainFor_of_name rfl) (Nat.le_of_ble_eq_true rfl) (fun E B => wm_J14_copyOf_3 B a0 a1) l

/-! java/util/BitSet ensureCapacity (I)V -/

theorem wm_J3_ensureCapacity {E : kw_E} (B : kw_ok E cJ3_ensureCapacity RJ3 "ensureCapacity" 3 none 2 62 []) (a0 : Option Nat) (a1 : Int32) : kw_W E kw_eV 0 [(0, kA a0), (1, kI a1)] [] (pm_J3_ensureCapacity a0 a1) := by
  unfold pm_J3_ensureCapacity
  refine kw_aload_n (pc := 0) B dJ3_ensureCapacity_0 rfl 0 rfl ?_
  refine kw_gR (pc := 1) B dJ3_ensureCapacity_1 fl_J3_11 (fun r1 => ?_)
  refine kw_alen (pc := 4) B dJ3_ensureCapacity_4 (fun i2 => ?_)
  refine kw_iload_n (pc := 5) B dJ3_ensureCapacity_5 rfl 1 rfl ?_
  refine kw_icmp_ge (pc := 6) (tgt := 38) B dJ3_ensureCapacity_6 rfl ?_ ?_
  · exact kw_vret B dJ3_ensureCapacity_38 rfl
  · refine kw_iconst (pc := 9) B dJ3_ensureCapacity_9 (v := (2 : Int32)) rfl ?_
    refine kw_aload_n (pc := 10) B dJ3_ensureCapacity_10 rfl 0 rfl ?_
    refine kw_gR (pc := 11) B dJ3_ensureCapacity_11 fl_J3_11 (fun r3 => ?_)
    refine kw_alen (pc := 14) B dJ3_ensureCapacity_14 (fun i4 => ?_)
    refine kw_imul (pc := 15) B dJ3_ensureCapacity_15 ?_
    refine kw_iload_n (pc := 16) B dJ3_ensureCapacity_16 rfl 1 rfl ?_
    refine kw_mmax (pc := 17) B dJ3_ensureCapacity_17 q756 q592 q93 q593 (by decide) (Nat.le_of_ble_eq_true rfl) ?_
    refine kw_istore_n (pc := 20) B dJ3_ensureCapacity_20 rfl (by decide) (L2 := [(2, kI (km_max ((2 : Int32) * i4) a1)), (0, kA a0), (1, kI a1)]) rfl ?_
    refine kw_aload_n (pc := 21) B dJ3_ensureCapacity_21 rfl 1 rfl ?_
    refine kw_aload_n (pc := 22) B dJ3_ensureCapacity_22 rfl 1 rfl ?_
    refine kw_gR (pc := 23) B dJ3_ensureCapacity_23 fl_J3_11 (fun r5 => ?_)
    refine kw_iload_n (pc := 26) B dJ3_ensureCapacity_26 rfl 0 rfl ?_
    refine kw_callS (pc := 27) B dJ3_ensureCapacity_27 (ct_J14_copyOf_3 r5 (km_max ((2 : Int32) * i4) a1)) q757 q758 q94 q759 ⟨by decide, by decide, rfl⟩ (As := [kA r5, kI (km_max ((2 : Int32) * i4) a1)]) rfl (st := [kA a0]) rfl (Nat.le_of_ble_eq_true rfl) (by decide) (by decide) kw_qA (fun r6 => ?_)
    refine kw_pR (pc := 30) B dJ3_ensureCapacity_30 fl_J3_11 fp_J3_11 (fun h => by cases h) rfl ?_
    refine kw_aload_n (pc := 33) B dJ3_ensureCapacity_33 rfl 1 rfl ?_
    refine kw_iconst (pc := 34) B dJ3_ensureCapacity_34 (v := (0 : Int32)) rfl ?_
    refine kw_pI (pc := 35) B dJ3_ensureCapacity_35 fl_J3_24 fp_J3_24 (fun h => by cases h) ?_
    exact kw_vret B dJ3_ensureCapacity_38 rfl
theorem ct_J3_ensureCapacity (a0 : Option Nat) (a1 : Int32) (l : Launch) : kw_Met l yJ3_ensureCapacity (ws_ yJ3_ensureCapacity cJ3_ensureCapacity 3 none) 2 62 [kA a0, kI a1] kw_eV (pm_J3_ensureCapacity a0 a1) := kw_met (plainFor_of_name rfl) (Nat.le_of_ble_eq_true rfl) (fun E B => wm_J3_ensureCapacity B a0 a1) l

/-! java/util/BitSet checkInvariants ()V -/

theorem wb_J3_checkInvariants_70 {E : kw_E} (B : kw_ok E cJ3_checkInvariants RJ3 "checkInvariants" 1 none 1 0 [])  (x0 : Option Nat) : kw_W E kw_eV 70 [(0, kA x0)] [] (pb_J3_checkInvariants_70  x0) := by
  unfold pb_J3_checkInvariants_70
  refine kw_getsI (pc := 70) B dJ3_checkInvariants_70 (v := (1 : Int32)) (C := "java/util/BitSet") (n := "$assertionsDisabled") (dd := "Z") (by decide) q772 rfl ?_
  refine kw_if_ne (pc := 73) (tgt := 110) B dJ3_checkInvariants_73 rfl ?_ ?_
  · exact kw_vret B dJ3_checkInvariants_110 rfl
  · exact kw_fail_ok
theorem wb_J3_checkInvariants_37 {E : kw_E} (B : kw_ok E cJ3_checkInvariants RJ3 "checkInvariants" 1 none 1 0 [])  (x0 : Option Nat) : kw_W E kw_eV 37 [(0, kA x0)] [] (pb_J3_checkInvariants_37  x0) := by
  unfold pb_J3_checkInvariants_37
  refine kw_getsI (pc := 37) B dJ3_checkInvariants_37 (v := (1 : Int32)) (C := "java/util/BitSet") (n := "$assertionsDisabled") (dd := "Z") (by decide) q772 rfl ?_
  refine kw_if_ne (pc := 40) (tgt := 70) B dJ3_checkInvariants_40 rfl ?_ ?_
  · exact kw_pick [0] rfl (wb_J3_checkInvariants_70 B x0)
  · exact kw_fail_ok
theorem wm_J3_checkInvariants {E : kw_E} (B : kw_ok E cJ3_checkInvariants RJ3 "checkInvariants" 1 none 1 0 []) (a0 : Option Nat) : kw_W E kw_eV 0 [(0, kA a0)] [] (pm_J3_checkInvariants a0) := by
  unfold pm_J3_checkInvariants
  refine kw_getsI (pc := 0) B dJ3_checkInvariants_0 (v := (1 : Int32)) (C := "java/util/BitSet") (n := "$assertionsDisabled") (dd := "Z") (by decide) q772 rfl ?_
  refine kw_if_ne (pc := 3) (tgt := 37) B dJ3_checkInvariants_3 rfl ?_ ?_
  · exact kw_pick [0] rfl (wb_J3_checkInvariants_37 B a0)
  · exact kw_fail_ok
theorem ct_J3_checkInvariants (a0 : Option Nat) (l : Launch) : kw_Met l yJ3_checkInvariants (ws_ yJ3_checkInvariants cJ3_checkInvariants 1 none) 1 0 [kA a0] kw_eV (pm_J3_checkInvariants a0) := kw_met (plainFor_of_name rfl) (Nat.le_of_ble_eq_true rfl) (fun E B => wm_J3_checkInvariants B a0) l

/-! java/util/BitSet or (Ljava/util/BitSet;)V -/

theorem wb_J3_or_100 {E : kw_E} (B : kw_ok E cJ3_or RJ3 "or" 4 none 3 84 [])  (x0 : Option Nat) : kw_W E kw_eV 100 [(0, kA x0)] [] (pb_J3_or_100  x0) := by
  unfold pb_J3_or_100
  refine kw_aload_n (pc := 100) B dJ3_or_100 rfl 0 rfl ?_
  refine kw_callV (pc := 101) B dJ3_or_101 (ci := 31) rfl (ct_J3_checkInvariants x0) q768 q770 qs8 q79 q771 ⟨by decide, by decide, rfl⟩ (As := []) rfl (st := []) rfl (Nat.le_of_ble_eq_true rfl) (by decide) (by decide) kw_qV (fun _ => ?_)
  exact kw_vret B dJ3_or_104 rfl
theorem wb_J3_or_47 {E : kw_E} (B : kw_ok E cJ3_or RJ3 "or" 4 none 3 84 [])  : ∀ (n : Nat) (x0 : Option Nat) (x1 : Option Nat) (x2 : Int32) (x3 : Int32), kw_W E kw_eV 47 [(0, kA x0), (1, kA x1), (2, kI x2), (3, kI x3)] [] (pb_J3_or_47  n x0 x1 x2 x3) := by
  intro n
  induction n with
  | zero =>
    intro x0 x1 x2 x3
    exact kw_fail_ok
  | succ n ih =>
    intro x0 x1 x2 x3
    show kw_W E kw_eV 47 [(0, kA x0), (1, kA x1), (2, kI x2), (3, kI x3)] [] (
if x2 ≤ x3 then
(km_bind (km_gI [(31, 1)] x1) fun i1 =>
if i1 ≤ x2 then
(pb_J3_or_100 x0)
else
(km_bind (km_gR [(31, 0)] x1) fun r2 =>
km_bind (km_gR [(31, 0)] x0) fun r3 =>
km_bind (km_gI [(31, 1)] x0) fun i4 =>
km_bind (km_cp r2 x2 r3 x2 (i4 - x2)) fun _ =>
pb_J3_or_100 x0))
else
(km_bind (km_gR [(31, 0)] x0) fun r5 =>
km_bind (km_ldJ r5 x3) fun j6 =>
km_bind (km_gR [(31, 0)] x1) fun r7 =>
km_bind (km_ldJ r7 x3) fun j8 =>
km_bind (km_stJ r5 x3 (j6 ||| j8)) fun _ =>
pb_J3_or_47 n x0 x1 x2 (x3 + (1 : Int32))))
    refine kw_iload_n (pc := 47) B dJ3_or_47 rfl 3 rfl ?_
    refine kw_iload_n (pc := 48) B dJ3_or_48 rfl 2 rfl ?_
    refine kw_icmp_ge (pc := 49) (tgt := 73) B dJ3_or_49 rfl ?_ ?_
    · refine kw_iload_n (pc := 73) B dJ3_or_73 rfl 2 rfl ?_
      refine kw_aload_n (pc := 74) B dJ3_or_74 rfl 1 rfl ?_
      refine kw_gI (pc := 75) B dJ3_or_75 fl_J3_7 (fun i1 => ?_)
      refine kw_icmp_ge (pc := 78) (tgt := 100) B dJ3_or_78 rfl ?_ ?_
      · exact kw_pick [0] rfl (wb_J3_or_100 B x0)
      · refine kw_aload_n (pc := 81) B dJ3_or_81 rfl 1 rfl ?_
        refine kw_gR (pc := 82) B dJ3_or_82 fl_J3_11 (fun r2 => ?_)
        refine kw_iload_n (pc := 85) B dJ3_or_85 rfl 2 rfl ?_
        refine kw_aload_n (pc := 86) B dJ3_or_86 rfl 0 rfl ?_
        refine kw_gR (pc := 87) B dJ3_or_87 fl_J3_11 (fun r3 => ?_)
        refine kw_iload_n (pc := 90) B dJ3_or_90 rfl 2 rfl ?_
        refine kw_aload_n (pc := 91) B dJ3_or_91 rfl 0 rfl ?_
        refine kw_gI (pc := 92) B dJ3_or_92 fl_J3_7 (fun i4 => ?_)
        refine kw_iload_n (pc := 95) B dJ3_or_95 rfl 2 rfl ?_
        refine kw_isub (pc := 96) B dJ3_or_96 ?_
        refine kw_acopy (pc := 97) B dJ3_or_97 q767 q656 q655 q95 (by decide) (Nat.le_of_ble_eq_true rfl) ?_
        exact kw_pick [0] rfl (wb_J3_or_100 B x0)
    · refine kw_aload_n (pc := 52) B dJ3_or_52 rfl 0 rfl ?_
      refine kw_gR (pc := 53) B dJ3_or_53 fl_J3_11 (fun r5 => ?_)
      refine kw_iload_n (pc := 56) B dJ3_or_56 rfl 3 rfl ?_
      refine kw_dup2 (pc := 57) B dJ3_or_57 rfl rfl ?_
      refine kw_lald (pc := 58) B dJ3_or_58 (fun j6 => ?_)
      refine kw_aload_n (pc := 59) B dJ3_or_59 rfl 1 rfl ?_
      refine kw_gR (pc := 60) B dJ3_or_60 fl_J3_11 (fun r7 => ?_)
      refine kw_iload_n (pc := 63) B dJ3_or_63 rfl 3 rfl ?_
      refine kw_lald (pc := 64) B dJ3_or_64 (fun j8 => ?_)
      refine kw_lor (pc := 65) B dJ3_or_65 ?_
      refine kw_last (pc := 66) B dJ3_or_66 ?_
      refine kw_iinc (pc := 67) B dJ3_or_67 3 rfl (w := x3 + (1 : Int32)) rfl (by decide) (L2 := [(3, kI (x3 + (1 : Int32))), (0, kA x0), (1, kA x1), (2, kI x2)]) rfl ?_
      refine kw_goto (pc := 70) (tgt := 47) B dJ3_or_70 rfl ?_
      exact kw_pick [1, 2, 3, 0] rfl (ih x0 x1 x2 (x3 + (1 : Int32)))
theorem wb_J3_or_45 {E : kw_E} (B : kw_ok E cJ3_or RJ3 "or" 4 none 3 84 [])  (x0 : Option Nat) (x1 : Option Nat) (x2 : Int32) : kw_W E kw_eV 45 [(0, kA x0), (1, kA x1), (2, kI x2)] [] (pb_J3_or_45  x0 x1 x2) := by
  unfold pb_J3_or_45
  refine kw_iconst (pc := 45) B dJ3_or_45 (v := (0 : Int32)) rfl ?_
  refine kw_istore_n (pc := 46) B dJ3_or_46 rfl (by decide) (L2 := [(3, kI (0 : Int32)), (0, kA x0), (1, kA x1), (2, kI x2)]) rfl ?_
  exact kw_pick [1, 2, 3, 0] rfl (wb_J3_or_47 B km_fuel x0 x1 x2 (0 : Int32))
theorem wm_J3_or {E : kw_E} (B : kw_ok E cJ3_or RJ3 "or" 4 none 3 84 []) (a0 : Option Nat) (a1 : Option Nat) : kw_W E kw_eV 0 [(0, kA a0), (1, kA a1)] [] (pm_J3_or a0 a1) := by
  unfold pm_J3_or
  refine kw_aload_n (pc := 0) B dJ3_or_0 rfl 0 rfl ?_
  refine kw_aload_n (pc := 1) B dJ3_or_1 rfl 1 rfl ?_
  refine kw_acmp_ne (pc := 2) (tgt := 6) B dJ3_or_2 rfl ?_ ?_
  · refine kw_aload_n (pc := 6) B dJ3_or_6 rfl 0 rfl ?_
    refine kw_gI (pc := 7) B dJ3_or_7 fl_J3_7 (fun i1 => ?_)
    refine kw_aload_n (pc := 10) B dJ3_or_10 rfl 1 rfl ?_
    refine kw_gI (pc := 11) B dJ3_or_11 fl_J3_7 (fun i2 => ?_)
    refine kw_mmin (pc := 14) B dJ3_or_14 q751 q652 q93 q653 (by decide) (Nat.le_of_ble_eq_true rfl) ?_
    refine kw_istore_n (pc := 17) B dJ3_or_17 rfl (by decide) (L2 := [(2, kI (km_min i1 i2)), (0, kA a0), (1, kA a1)]) rfl ?_
    refine kw_aload_n (pc := 18) B dJ3_or_18 rfl 1 rfl ?_
    refine kw_gI (pc := 19) B dJ3_or_19 fl_J3_7 (fun i3 => ?_)
    refine kw_aload_n (pc := 22) B dJ3_or_22 rfl 2 rfl ?_
    refine kw_gI (pc := 23) B dJ3_or_23 fl_J3_7 (fun i4 => ?_)
    refine kw_icmp_ge (pc := 26) (tgt := 45) B dJ3_or_26 rfl ?_ ?_
    · exact kw_pick [1, 2, 0] rfl (wb_J3_or_45 B a0 a1 (km_min i1 i2))
    · refine kw_aload_n (pc := 29) B dJ3_or_29 rfl 1 rfl ?_
      refine kw_aload_n (pc := 30) B dJ3_or_30 rfl 2 rfl ?_
      refine kw_gI (pc := 31) B dJ3_or_31 fl_J3_7 (fun i5 => ?_)
      refine kw_callV (pc := 34) B dJ3_or_34 (ci := 31) rfl (ct_J3_ensureCapacity a0 i5) q752 q754 qs7 q79 q755 ⟨by decide, by decide, rfl⟩ (As := [kI i5]) rfl (st := []) rfl (Nat.le_of_ble_eq_true rfl) (by decide) (by decide) kw_qV (fun _ => ?_)
      refine kw_aload_n (pc := 37) B dJ3_or_37 rfl 1 rfl ?_
      refine kw_aload_n (pc := 38) B dJ3_or_38 rfl 2 rfl ?_
      refine kw_gI (pc := 39) B dJ3_or_39 fl_J3_7 (fun i6 => ?_)
      refine kw_pI (pc := 42) B dJ3_or_42 fl_J3_7 fp_J3_7 (fun h => by cases h) ?_
      exact kw_pick [1, 2, 0] rfl (wb_J3_or_45 B a0 a1 (km_min i1 i2))
  · exact kw_vret B dJ3_or_5 rfl
theorem ct_J3_or (a0 : Option Nat) (a1 : Option Nat) (l : Launch) : kw_Met l yJ3_or (ws_ yJ3_or cJ3_or 4 none) 3 84 [kA a0, kA a1] kw_eV (pm_J3_or a0 a1) := kw_met (plainFor_of_name rfl) (Nat.le_of_ble_eq_true rfl) (fun E B => wm_J3_or B a0 a1) l

/-! RosaryCarvers$Shop <init> (LRosaryCarvers$Shop;)V -/
theorem cs_RosaryCarvers_Carver : kw_cs "RosaryCarvers$Carver" [5] := by
  intro c hc
  simp only [List.mem_cons, List.not_mem_nil, or_false] at hc
  rcases hc with rfl
  · exact ⟨_, rfl, Or.inl rfl⟩
theorem cs_RosaryCarvers_Lens : kw_cs "RosaryCarvers$Lens" [6] := by
  intro c hc
  simp only [List.mem_cons, List.not_mem_nil, or_false] at hc
  rcases hc with rfl
  · exact ⟨_, rfl, Or.inl rfl⟩
theorem fl_X1_92 : kw_fl RX1 92 "RosaryCarvers$Shop" [(1, 8)] := (kw_fl_c (C := RX1) (T := TX1) (N := 17) rfl (by decide) in_X1 q229 (Or.inl rfl) kw_fl_nil)
theorem fp_X1_92 : kw_fp RX1 .int false [(1, 8)] := (kw_fp_c (C := RX1) (T := TX1) (N := 17) (ty0 := tyX1) rfl tyX1_ok nmX1 rfl (fun h => by cases h) (by decide) rfl kw_fp_nil)
theorem fl_X1_96 : kw_fl RX1 96 "RosaryCarvers$Shop" [(1, 9)] := (kw_fl_c (C := RX1) (T := TX1) (N := 17) rfl (by decide) in_X1 q231 (Or.inl rfl) kw_fl_nil)
theorem fp_X1_96 : kw_fp RX1 .int false [(1, 9)] := (kw_fp_c (C := RX1) (T := TX1) (N := 17) (ty0 := tyX1) rfl tyX1_ok nmX1 rfl (fun h => by cases h) (by decide) rfl kw_fp_nil)
theorem fl_X1_99 : kw_fl RX1 99 "RosaryCarvers$Shop" [(1, 10)] := (kw_fl_c (C := RX1) (T := TX1) (N := 17) rfl (by decide) in_X1 q233 (Or.inl rfl) kw_fl_nil)
theorem fp_X1_99 : kw_fp RX1 .int false [(1, 10)] := (kw_fp_c (C := RX1) (T := TX1) (N := 17) (ty0 := tyX1) rfl tyX1_ok nmX1 rfl (fun h => by cases h) (by decide) rfl kw_fp_nil)
theorem fl_X1_102 : kw_fl RX1 102 "RosaryCarvers$Shop" [(1, 11)] := (kw_fl_c (C := RX1) (T := TX1) (N := 17) rfl (by decide) in_X1 q235 (Or.inl rfl) kw_fl_nil)
theorem fp_X1_102 : kw_fp RX1 .int false [(1, 11)] := (kw_fp_c (C := RX1) (T := TX1) (N := 17) (ty0 := tyX1) rfl tyX1_ok nmX1 rfl (fun h => by cases h) (by decide) rfl kw_fp_nil)
theorem fl_X1_105 : kw_fl RX1 105 "RosaryCarvers$Shop" [(1, 12)] := (kw_fl_c (C := RX1) (T := TX1) (N := 17) rfl (by decide) in_X1 q237 (Or.inl rfl) kw_fl_nil)
theorem fp_X1_105 : kw_fp RX1 .int false [(1, 12)] := (kw_fp_c (C := RX1) (T := TX1) (N := 17) (ty0 := tyX1) rfl tyX1_ok nmX1 rfl (fun h => by cases h) (by decide) rfl kw_fp_nil)
theorem fl_X1_108 : kw_fl RX1 108 "RosaryCarvers$Shop" [(1, 13)] := (kw_fl_c (C := RX1) (T := TX1) (N := 17) rfl (by decide) in_X1 q239 (Or.inl rfl) kw_fl_nil)
theorem fp_X1_108 : kw_fp RX1 .int false [(1, 13)] := (kw_fp_c (C := RX1) (T := TX1) (N := 17) (ty0 := tyX1) rfl tyX1_ok nmX1 rfl (fun h => by cases h) (by decide) rfl kw_fp_nil)
theorem fl_X1_111 : kw_fl RX1 111 "RosaryCarvers$Shop" [(1, 14)] := (kw_fl_c (C := RX1) (T := TX1) (N := 17) rfl (by decide) in_X1 q241 (Or.inl rfl) kw_fl_nil)
theorem fp_X1_111 : kw_fp RX1 .int false [(1, 14)] := (kw_fp_c (C := RX1) (T := TX1) (N := 17) (ty0 := tyX1) rfl tyX1_ok nmX1 rfl (fun h => by cases h) (by decide) rfl kw_fp_nil)
theorem fl_X1_114 : kw_fl RX1 114 "RosaryCarvers$Shop" [(1, 15)] := (kw_fl_c (C := RX1) (T := TX1) (N := 17) rfl (by decide) in_X1 q243 (Or.inl rfl) kw_fl_nil)
theorem fp_X1_114 : kw_fp RX1 .int false [(1, 15)] := (kw_fp_c (C := RX1) (T := TX1) (N := 17) (ty0 := tyX1) rfl tyX1_ok nmX1 rfl (fun h => by cases h) (by decide) rfl kw_fp_nil)
theorem fl_X1_117 : kw_fl RX1 117 "RosaryCarvers$Shop" [(1, 16)] := (kw_fl_c (C := RX1) (T := TX1) (N := 17) rfl (by decide) in_X1 q245 (Or.inl rfl) kw_fl_nil)
theorem fp_X1_117 : kw_fp RX1 .int false [(1, 16)] := (kw_fp_c (C := RX1) (T := TX1) (N := 17) (ty0 := tyX1) rfl tyX1_ok nmX1 rfl (fun h => by cases h) (by decide) rfl kw_fp_nil)
theorem cs_RosaryCarvers_Rosary : kw_cs "RosaryCarvers$Rosary" [7] := by
  intro c hc
  simp only [List.mem_cons, List.not_mem_nil, or_false] at hc
  rcases hc with rfl
  · exact ⟨_, rfl, Or.inl rfl⟩
theorem wb_X1_init_2_203 {E : kw_E} (B : kw_ok E cX1_init_2 RX1 "<init>" 4 none 7 178 [])  : ∀ (n : Nat) (x0 : Option Nat) (x1 : Option Nat) (x2 : Option Nat), kw_W E kw_eV 203 [(0, kA x0), (1, kA x1), (2, kA x2)] [] (pb_X1_init_2_203  n x0 x1 x2) := by
  intro n
  induction n with
  | zero =>
    intro x0 x1 x2
    exact kw_fail_ok
  | succ n ih =>
    intro x0 x1 x2
    show kw_W E kw_eV 203 [(0, kA x0), (1, kA x1), (2, kA x2)] [] (
km_bind (km_disp x2 [(11, pm_X12_hasNext x2), (33, pm_J5_hasNext x2), (34, pm_J15_hasNext x2)]) fun i1 =>
if i1 = 0 then
(km_bind (km_gR [(1, 4)] x0) fun r2 =>
km_bind (km_gR [(1, 4)] x1) fun r3 =>
km_bind (km_is 30 r2) fun _ => km_bind (pm_J2_addAll r2 r3) fun i4 =>
km_bind (km_gR [(1, 5)] x0) fun r5 =>
km_bind (km_gR [(1, 5)] x1) fun r6 =>
km_bind (km_is 30 r5) fun _ => km_bind (pm_J2_addAll r5 r6) fun i7 =>
km_bind (km_gR [(1, 6)] x0) fun r8 =>
km_bind (km_gR [(1, 6)] x1) fun r9 =>
km_bind (km_is 30 r8) fun _ => km_bind (pm_J2_addAll r8 r9) fun i10 =>
km_bind (km_gR [(1, 7)] x0) fun r11 =>
km_bind (km_gR [(1, 7)] x1) fun r12 =>
km_bind (km_is 31 r11) fun _ => km_bind (pm_J3_or r11 r12) fun _ =>
km_bind (km_gI [(1, 8)] x1) fun i13 =>
km_bind (km_pI .int [(1, 8)] x0 i13) fun _ =>
km_bind (km_gI [(1, 9)] x1) fun i15 =>
km_bind (km_pI .int [(1, 9)] x0 i15) fun _ =>
km_bind (km_gI [(1, 10)] x1) fun i17 =>
km_bind (km_pI .int [(1, 10)] x0 i17) fun _ =>
km_bind (km_gI [(1, 11)] x1) fun i19 =>
km_bind (km_pI .int [(1, 11)] x0 i19) fun _ =>
km_bind (km_gI [(1, 12)] x1) fun i21 =>
km_bind (km_pI .int [(1, 12)] x0 i21) fun _ =>
km_bind (km_gI [(1, 13)] x1) fun i23 =>
km_bind (km_pI .int [(1, 13)] x0 i23) fun _ =>
km_bind (km_gI [(1, 14)] x1) fun i25 =>
km_bind (km_pI .int [(1, 14)] x0 i25) fun _ =>
km_bind (km_gI [(1, 15)] x1) fun i27 =>
km_bind (km_pI .int [(1, 15)] x0 i27) fun _ =>
km_bind (km_gI [(1, 16)] x1) fun i29 =>
km_bind (km_pI .int [(1, 16)] x0 i29) fun _ =>
km_pure ())
else
(km_bind (km_disp x2 [(11, pm_X12_next x2), (33, pm_J5_next x2), (34, pm_J15_next x2)]) fun r31 =>
km_bind (km_cast [7] r31) fun _ =>
km_bind (km_gR [(1, 3)] x0) fun r32 =>
km_bind (km_new 7 4 kz_Rosary) fun r33 =>
km_bind (km_nn r33) fun _ => km_bind (pm_X8_init r33 r31) fun _ =>
km_bind (km_is 30 r32) fun _ => km_bind (pm_J2_add r32 r33) fun i34 =>
pb_X1_init_2_203 n x0 x1 x2))
    refine kw_aload_n (pc := 203) B dX1_init_2_203 rfl 2 rfl ?_
    refine kw_disp (pc := 204) (pc' := 209) (st := []) kw_hI (fun i1 => ?_) ?_
    · refine kw_if_eq (pc := 209) (tgt := 241) B dX1_init_2_209 rfl ?_ ?_
      · refine kw_aload_n (pc := 241) B dX1_init_2_241 rfl 0 rfl ?_
        refine kw_gR (pc := 242) B dX1_init_2_242 fl_X1_31 (fun r2 => ?_)
        refine kw_aload_n (pc := 245) B dX1_init_2_245 rfl 1 rfl ?_
        refine kw_gR (pc := 246) B dX1_init_2_246 fl_X1_31 (fun r3 => ?_)
        refine kw_callV (pc := 249) B dX1_init_2_249 (ci := 30) rfl (ct_J2_addAll r2 r3) q746 q687 q688 q77 q689 ⟨by decide, by decide, rfl⟩ (As := [kA r3]) rfl (st := []) rfl (Nat.le_of_ble_eq_true rfl) (by decide) (by decide) kw_qI (fun i4 => ?_)
        refine kw_pop (pc := 252) B dX1_init_2_252 rfl ?_
        refine kw_aload_n (pc := 253) B dX1_init_2_253 rfl 0 rfl ?_
        refine kw_gR (pc := 254) B dX1_init_2_254 fl_X1_34 (fun r5 => ?_)
        refine kw_aload_n (pc := 257) B dX1_init_2_257 rfl 1 rfl ?_
        refine kw_gR (pc := 258) B dX1_init_2_258 fl_X1_34 (fun r6 => ?_)
        refine kw_callV (pc := 261) B dX1_init_2_261 (ci := 30) rfl (ct_J2_addAll r5 r6) q746 q687 q688 q77 q689 ⟨by decide, by decide, rfl⟩ (As := [kA r6]) rfl (st := []) rfl (Nat.le_of_ble_eq_true rfl) (by decide) (by decide) kw_qI (fun i7 => ?_)
        refine kw_pop (pc := 264) B dX1_init_2_264 rfl ?_
        refine kw_aload_n (pc := 265) B dX1_init_2_265 rfl 0 rfl ?_
        refine kw_gR (pc := 266) B dX1_init_2_266 fl_X1_37 (fun r8 => ?_)
        refine kw_aload_n (pc := 269) B dX1_init_2_269 rfl 1 rfl ?_
        refine kw_gR (pc := 270) B dX1_init_2_270 fl_X1_37 (fun r9 => ?_)
        refine kw_callV (pc := 273) B dX1_init_2_273 (ci := 30) rfl (ct_J2_addAll r8 r9) q746 q687 q688 q77 q689 ⟨by decide, by decide, rfl⟩ (As := [kA r9]) rfl (st := []) rfl (Nat.le_of_ble_eq_true rfl) (by decide) (by decide) kw_qI (fun i10 => ?_)
        refine kw_pop (pc := 276) B dX1_init_2_276 rfl ?_
        refine kw_aload_n (pc := 277) B dX1_init_2_277 rfl 0 rfl ?_
        refine kw_gR (pc := 278) B dX1_init_2_278 fl_X1_43 (fun r11 => ?_)
        refine kw_aload_n (pc := 281) B dX1_init_2_281 rfl 1 rfl ?_
        refine kw_gR (pc := 282) B dX1_init_2_282 fl_X1_43 (fun r12 => ?_)
        refine kw_callV (pc := 285) B dX1_init_2_285 (ci := 31) rfl (ct_J3_or r11 r12) q747 q748 q749 q79 q750 ⟨by decide, by decide, rfl⟩ (As := [kA r12]) rfl (st := []) rfl (Nat.le_of_ble_eq_true rfl) (by decide) (by decide) kw_qV (fun _ => ?_)
        refine kw_aload_n (pc := 288) B dX1_init_2_288 rfl 0 rfl ?_
        refine kw_aload_n (pc := 289) B dX1_init_2_289 rfl 1 rfl ?_
        refine kw_gI (pc := 290) B dX1_init_2_290 fl_X1_92 (fun i13 => ?_)
        refine kw_pI (pc := 293) B dX1_init_2_293 fl_X1_92 fp_X1_92 (fun h => by cases h) ?_
        refine kw_aload_n (pc := 296) B dX1_init_2_296 rfl 0 rfl ?_
        refine kw_aload_n (pc := 297) B dX1_init_2_297 rfl 1 rfl ?_
        refine kw_gI (pc := 298) B dX1_init_2_298 fl_X1_96 (fun i15 => ?_)
        refine kw_pI (pc := 301) B dX1_init_2_301 fl_X1_96 fp_X1_96 (fun h => by cases h) ?_
        refine kw_aload_n (pc := 304) B dX1_init_2_304 rfl 0 rfl ?_
        refine kw_aload_n (pc := 305) B dX1_init_2_305 rfl 1 rfl ?_
        refine kw_gI (pc := 306) B dX1_init_2_306 fl_X1_99 (fun i17 => ?_)
        refine kw_pI (pc := 309) B dX1_init_2_309 fl_X1_99 fp_X1_99 (fun h => by cases h) ?_
        refine kw_aload_n (pc := 312) B dX1_init_2_312 rfl 0 rfl ?_
        refine kw_aload_n (pc := 313) B dX1_init_2_313 rfl 1 rfl ?_
        refine kw_gI (pc := 314) B dX1_init_2_314 fl_X1_102 (fun i19 => ?_)
        refine kw_pI (pc := 317) B dX1_init_2_317 fl_X1_102 fp_X1_102 (fun h => by cases h) ?_
        refine kw_aload_n (pc := 320) B dX1_init_2_320 rfl 0 rfl ?_
        refine kw_aload_n (pc := 321) B dX1_init_2_321 rfl 1 rfl ?_
        refine kw_gI (pc := 322) B dX1_init_2_322 fl_X1_105 (fun i21 => ?_)
        refine kw_pI (pc := 325) B dX1_init_2_325 fl_X1_105 fp_X1_105 (fun h => by cases h) ?_
        refine kw_aload_n (pc := 328) B dX1_init_2_328 rfl 0 rfl ?_
        refine kw_aload_n (pc := 329) B dX1_init_2_329 rfl 1 rfl ?_
        refine kw_gI (pc := 330) B dX1_init_2_330 fl_X1_108 (fun i23 => ?_)
        refine kw_pI (pc := 333) B dX1_init_2_333 fl_X1_108 fp_X1_108 (fun h => by cases h) ?_
        refine kw_aload_n (pc := 336) B dX1_init_2_336 rfl 0 rfl ?_
        refine kw_aload_n (pc := 337) B dX1_init_2_337 rfl 1 rfl ?_
        refine kw_gI (pc := 338) B dX1_init_2_338 fl_X1_111 (fun i25 => ?_)
        refine kw_pI (pc := 341) B dX1_init_2_341 fl_X1_111 fp_X1_111 (fun h => by cases h) ?_
        refine kw_aload_n (pc := 344) B dX1_init_2_344 rfl 0 rfl ?_
        refine kw_aload_n (pc := 345) B dX1_init_2_345 rfl 1 rfl ?_
        refine kw_gI (pc := 346) B dX1_init_2_346 fl_X1_114 (fun i27 => ?_)
        refine kw_pI (pc := 349) B dX1_init_2_349 fl_X1_114 fp_X1_114 (fun h => by cases h) ?_
        refine kw_aload_n (pc := 352) B dX1_init_2_352 rfl 0 rfl ?_
        refine kw_aload_n (pc := 353) B dX1_init_2_353 rfl 1 rfl ?_
        refine kw_gI (pc := 354) B dX1_init_2_354 fl_X1_117 (fun i29 => ?_)
        refine kw_pI (pc := 357) B dX1_init_2_357 fl_X1_117 fp_X1_117 (fun h => by cases h) ?_
        exact kw_vret B dX1_init_2_360 rfl
      · refine kw_aload_n (pc := 212) B dX1_init_2_212 rfl 2 rfl ?_
        refine kw_disp (pc := 213) (pc' := 218) (st := []) kw_hA (fun r31 => ?_) ?_
        · refine kw_cast_ok (pc := 218) B dX1_init_2_218 q716 cs_RosaryCarvers_Rosary ?_
          refine kw_astore_n (pc := 221) B dX1_init_2_221 rfl (by decide) (L2 := [(3, kA r31), (0, kA x0), (1, kA x1), (2, kA x2)]) rfl ?_
          refine kw_aload_n (pc := 222) B dX1_init_2_222 rfl 1 rfl ?_
          refine kw_gR (pc := 223) B dX1_init_2_223 fl_X1_28 (fun r32 => ?_)
          refine kw_new (pc := 226) B dX1_init_2_226 (ci := 7) (N := 4) rfl in_X8 tyX8_ok kz_Rosary_ok q716 q717 q97 (fun r33 => ?_)
          refine kw_dup (pc := 229) B dX1_init_2_229 rfl ?_
          refine kw_aload_n (pc := 230) B dX1_init_2_230 rfl 0 rfl ?_
          refine kw_callI (pc := 231) B dX1_init_2_231 (ct_X8_init r33 r31) q718 q719 q97 q720 rfl ⟨by decide, by decide, rfl⟩ (As := [kA r31]) rfl (st := [kA r33, kA r32]) rfl (Nat.le_of_ble_eq_true rfl) (by decide) (by decide) kw_qV (fun _ => ?_)
          refine kw_callV (pc := 234) B dX1_init_2_234 (ci := 30) rfl (ct_J2_add r32 r33) q572 q573 q574 q77 q575 ⟨by decide, by decide, rfl⟩ (As := [kA r33]) rfl (st := []) rfl (Nat.le_of_ble_eq_true rfl) (by decide) (by decide) kw_qI (fun i34 => ?_)
          refine kw_pop (pc := 237) B dX1_init_2_237 rfl ?_
          refine kw_goto (pc := 238) (tgt := 203) B dX1_init_2_238 rfl ?_
          exact kw_pick [1, 2, 3] rfl (ih x0 x1 x2)
        · intro q hq hk
          simp only [List.mem_cons, List.not_mem_nil, or_false] at hq
          rcases hq with rfl | rfl | rfl
          · exact kw_callF (pc := 213) B dX1_init_2_213 (ci := 11) rfl (ct_X12_next x2) q422 q425 q427 q101 q429 q424 q423 q428 q426 q399 ⟨by decide, by decide, rfl⟩ (As := []) rfl (st := []) rfl (Nat.le_of_ble_eq_true rfl) (by decide) (by decide) kw_qA hk
          · exact kw_callF (pc := 213) B dX1_init_2_213 (ci := 33) rfl (ct_J5_next x2) q422 q533 q535 q84 q537 q424 q423 q536 q534 q415 ⟨by decide, by decide, rfl⟩ (As := []) rfl (st := []) rfl (Nat.le_of_ble_eq_true rfl) (by decide) (by decide) kw_qA hk
          · exact kw_callF (pc := 213) B dX1_init_2_213 (ci := 34) rfl (ct_J15_next x2) q422 q522 q524 q102 q526 q424 q423 q525 q523 q409 ⟨by decide, by decide, rfl⟩ (As := []) rfl (st := []) rfl (Nat.le_of_ble_eq_true rfl) (by decide) (by decide) kw_qA hk
    · intro q hq hk
      simp only [List.mem_cons, List.not_mem_nil, or_false] at hq
      rcases hq with rfl | rfl | rfl
      · exact kw_callF (pc := 204) B dX1_init_2_204 (ci := 11) rfl (ct_X12_hasNext x2) q396 q400 q402 q101 q404 q398 q397 q403 q401 q399 ⟨by decide, by decide, rfl⟩ (As := []) rfl (st := []) rfl (Nat.le_of_ble_eq_true rfl) (by decide) (by decide) kw_qI hk
      · exact kw_callF (pc := 204) B dX1_init_2_204 (ci := 33) rfl (ct_J5_hasNext x2) q396 q416 q418 q84 q420 q398 q397 q419 q417 q415 ⟨by decide, by decide, rfl⟩ (As := []) rfl (st := []) rfl (Nat.le_of_ble_eq_true rfl) (by decide) (by decide) kw_qI hk
      · exact kw_callF (pc := 204) B dX1_init_2_204 (ci := 34) rfl (ct_J15_hasNext x2) q396 q410 q412 q102 q414 q398 q397 q413 q411 q409 ⟨by decide, by decide, rfl⟩ (As := []) rfl (st := []) rfl (Nat.le_of_ble_eq_true rfl) (by decide) (by decide) kw_qI hk
theorem wb_X1_init_2_146 {E : kw_E} (B : kw_ok E cX1_init_2 RX1 "<init>" 4 none 7 178 [])  : ∀ (n : Nat) (x0 : Option Nat) (x1 : Option Nat) (x2 : Option Nat), kw_W E kw_eV 146 [(0, kA x0), (1, kA x1), (2, kA x2)] [] (pb_X1_init_2_146  n x0 x1 x2) := by
  intro n
  induction n with
  | zero =>
    intro x0 x1 x2
    exact kw_fail_ok
  | succ n ih =>
    intro x0 x1 x2
    show kw_W E kw_eV 146 [(0, kA x0), (1, kA x1), (2, kA x2)] [] (
km_bind (km_disp x2 [(11, pm_X12_hasNext x2), (33, pm_J5_hasNext x2), (34, pm_J15_hasNext x2)]) fun i1 =>
if i1 = 0 then
(km_bind (km_gR [(1, 2)] x0) fun r2 =>
km_bind (km_gR [(1, 2)] x1) fun r3 =>
km_bind (km_disp r2 [(2, pm_X2_becomes r2 r3), (7, pm_X2_becomes r2 r3), (12, pm_X2_becomes r2 r3)]) fun _ =>
km_bind (km_gR [(1, 3)] x1) fun r4 =>
km_bind (km_is 30 r4) fun _ => km_bind (pm_J2_iterator r4) fun r5 =>
pb_X1_init_2_203 km_fuel x0 x1 r5)
else
(km_bind (km_disp x2 [(11, pm_X12_next x2), (33, pm_J5_next x2), (34, pm_J15_next x2)]) fun r6 =>
km_bind (km_cast [6] r6) fun _ =>
km_bind (km_gR [(1, 1)] x0) fun r7 =>
km_bind (km_new 6 2 kz_Lens) fun r8 =>
km_bind (km_nn r8) fun _ => km_bind (pm_X7_init r8 r6) fun _ =>
km_bind (km_is 30 r7) fun _ => km_bind (pm_J2_add r7 r8) fun i9 =>
pb_X1_init_2_146 n x0 x1 x2))
    refine kw_aload_n (pc := 146) B dX1_init_2_146 rfl 2 rfl ?_
    refine kw_disp (pc := 147) (pc' := 152) (st := []) kw_hI (fun i1 => ?_) ?_
    · refine kw_if_eq (pc := 152) (tgt := 184) B dX1_init_2_152 rfl ?_ ?_
      · refine kw_aload_n (pc := 184) B dX1_init_2_184 rfl 0 rfl ?_
        refine kw_gR (pc := 185) B dX1_init_2_185 fl_X1_24 (fun r2 => ?_)
        refine kw_aload_n (pc := 188) B dX1_init_2_188 rfl 1 rfl ?_
        refine kw_gR (pc := 189) B dX1_init_2_189 fl_X1_24 (fun r3 => ?_)
        refine kw_disp (pc := 192) (pc' := 195) (st := []) kw_hV (fun _ => ?_) ?_
        · refine kw_aload_n (pc := 195) B dX1_init_2_195 rfl 1 rfl ?_
          refine kw_gR (pc := 196) B dX1_init_2_196 fl_X1_28 (fun r4 => ?_)
          refine kw_callV (pc := 199) B dX1_init_2_199 (ci := 30) rfl (ct_J2_iterator r4) q372 q373 q374 q77 q375 ⟨by decide, by decide, rfl⟩ (As := []) rfl (st := []) rfl (Nat.le_of_ble_eq_true rfl) (by decide) (by decide) kw_qA (fun r5 => ?_)
          refine kw_astore_n (pc := 202) B dX1_init_2_202 rfl (by decide) (L2 := [(2, kA r5), (0, kA x0), (1, kA x1)]) rfl ?_
          exact kw_pick [1, 2, 0] rfl (wb_X1_init_2_203 B km_fuel x0 x1 r5)
        · intro q hq hk
          simp only [List.mem_cons, List.not_mem_nil, or_false] at hq
          rcases hq with rfl | rfl | rfl
          · exact kw_callV (pc := 192) B dX1_init_2_192 (ci := 2) rfl (ct_X2_becomes r2 r3) q679 q680 q681 q78 q685 ⟨by decide, by decide, rfl⟩ (As := [kA r3]) rfl (st := []) rfl (Nat.le_of_ble_eq_true rfl) (by decide) (by decide) kw_qV hk
          · exact kw_callV (pc := 192) B dX1_init_2_192 (ci := 7) rfl (ct_X2_becomes r2 r3) q679 q680 q683 q78 q685 ⟨by decide, by decide, rfl⟩ (As := [kA r3]) rfl (st := []) rfl (Nat.le_of_ble_eq_true rfl) (by decide) (by decide) kw_qV hk
          · exact kw_callV (pc := 192) B dX1_init_2_192 (ci := 12) rfl (ct_X2_becomes r2 r3) q679 q680 q684 q78 q685 ⟨by decide, by decide, rfl⟩ (As := [kA r3]) rfl (st := []) rfl (Nat.le_of_ble_eq_true rfl) (by decide) (by decide) kw_qV hk
      · refine kw_aload_n (pc := 155) B dX1_init_2_155 rfl 2 rfl ?_
        refine kw_disp (pc := 156) (pc' := 161) (st := []) kw_hA (fun r6 => ?_) ?_
        · refine kw_cast_ok (pc := 161) B dX1_init_2_161 q659 cs_RosaryCarvers_Lens ?_
          refine kw_astore_n (pc := 164) B dX1_init_2_164 rfl (by decide) (L2 := [(3, kA r6), (0, kA x0), (1, kA x1), (2, kA x2)]) rfl ?_
          refine kw_aload_n (pc := 165) B dX1_init_2_165 rfl 1 rfl ?_
          refine kw_gR (pc := 166) B dX1_init_2_166 fl_X1_18 (fun r7 => ?_)
          refine kw_new (pc := 169) B dX1_init_2_169 (ci := 6) (N := 2) rfl in_X7 tyX7_ok kz_Lens_ok q659 q660 q96 (fun r8 => ?_)
          refine kw_dup (pc := 172) B dX1_init_2_172 rfl ?_
          refine kw_aload_n (pc := 173) B dX1_init_2_173 rfl 0 rfl ?_
          refine kw_callI (pc := 174) B dX1_init_2_174 (ct_X7_init r8 r6) q661 q662 q96 q663 rfl ⟨by decide, by decide, rfl⟩ (As := [kA r6]) rfl (st := [kA r8, kA r7]) rfl (Nat.le_of_ble_eq_true rfl) (by decide) (by decide) kw_qV (fun _ => ?_)
          refine kw_callV (pc := 177) B dX1_init_2_177 (ci := 30) rfl (ct_J2_add r7 r8) q572 q573 q574 q77 q575 ⟨by decide, by decide, rfl⟩ (As := [kA r8]) rfl (st := []) rfl (Nat.le_of_ble_eq_true rfl) (by decide) (by decide) kw_qI (fun i9 => ?_)
          refine kw_pop (pc := 180) B dX1_init_2_180 rfl ?_
          refine kw_goto (pc := 181) (tgt := 146) B dX1_init_2_181 rfl ?_
          exact kw_pick [1, 2, 3] rfl (ih x0 x1 x2)
        · intro q hq hk
          simp only [List.mem_cons, List.not_mem_nil, or_false] at hq
          rcases hq with rfl | rfl | rfl
          · exact kw_callF (pc := 156) B dX1_init_2_156 (ci := 11) rfl (ct_X12_next x2) q422 q425 q427 q101 q429 q424 q423 q428 q426 q399 ⟨by decide, by decide, rfl⟩ (As := []) rfl (st := []) rfl (Nat.le_of_ble_eq_true rfl) (by decide) (by decide) kw_qA hk
          · exact kw_callF (pc := 156) B dX1_init_2_156 (ci := 33) rfl (ct_J5_next x2) q422 q533 q535 q84 q537 q424 q423 q536 q534 q415 ⟨by decide, by decide, rfl⟩ (As := []) rfl (st := []) rfl (Nat.le_of_ble_eq_true rfl) (by decide) (by decide) kw_qA hk
          · exact kw_callF (pc := 156) B dX1_init_2_156 (ci := 34) rfl (ct_J15_next x2) q422 q522 q524 q102 q526 q424 q423 q525 q523 q409 ⟨by decide, by decide, rfl⟩ (As := []) rfl (st := []) rfl (Nat.le_of_ble_eq_true rfl) (by decide) (by decide) kw_qA hk
    · intro q hq hk
      simp only [List.mem_cons, List.not_mem_nil, or_false] at hq
      rcases hq with rfl | rfl | rfl
      · exact kw_callF (pc := 147) B dX1_init_2_147 (ci := 11) rfl (ct_X12_hasNext x2) q396 q400 q402 q101 q404 q398 q397 q403 q401 q399 ⟨by decide, by decide, rfl⟩ (As := []) rfl (st := []) rfl (Nat.le_of_ble_eq_true rfl) (by decide) (by decide) kw_qI hk
      · exact kw_callF (pc := 147) B dX1_init_2_147 (ci := 33) rfl (ct_J5_hasNext x2) q396 q416 q418 q84 q420 q398 q397 q419 q417 q415 ⟨by decide, by decide, rfl⟩ (As := []) rfl (st := []) rfl (Nat.le_of_ble_eq_true rfl) (by decide) (by decide) kw_qI hk
      · exact kw_callF (pc := 147) B dX1_init_2_147 (ci := 34) rfl (ct_J15_hasNext x2) q396 q410 q412 q102 q414 q398 q397 q413 q411 q409 ⟨by decide, by decide, rfl⟩ (As := []) rfl (st := []) rfl (Nat.le_of_ble_eq_true rfl) (by decide) (by decide) kw_qI hk
theorem wb_X1_init_2_100 {E : kw_E} (B : kw_ok E cX1_init_2 RX1 "<init>" 4 none 7 178 [])  : ∀ (n : Nat) (x0 : Option Nat) (x1 : Option Nat) (x2 : Option Nat), kw_W E kw_eV 100 [(0, kA x0), (1, kA x1), (2, kA x2)] [] (pb_X1_init_2_100  n x0 x1 x2) := by
  intro n
  induction n with
  | zero =>
    intro x0 x1 x2
    exact kw_fail_ok
  | succ n ih =>
    intro x0 x1 x2
    show kw_W E kw_eV 100 [(0, kA x0), (1, kA x1), (2, kA x2)] [] (
km_bind (km_disp x2 [(11, pm_X12_hasNext x2), (33, pm_J5_hasNext x2), (34, pm_J15_hasNext x2)]) fun i1 =>
if i1 = 0 then
(km_bind (km_gR [(1, 1)] x1) fun r2 =>
km_bind (km_is 30 r2) fun _ => km_bind (pm_J2_iterator r2) fun r3 =>
pb_X1_init_2_146 km_fuel x0 x1 r3)
else
(km_bind (km_disp x2 [(11, pm_X12_next x2), (33, pm_J5_next x2), (34, pm_J15_next x2)]) fun r4 =>
km_bind (km_cast [5] r4) fun _ =>
km_bind (km_gR [(1, 0)] x0) fun r5 =>
km_bind (km_new 5 4 kz_Carver) fun r6 =>
km_bind (km_nn r6) fun _ => km_bind (pm_X6_init r6 r4) fun _ =>
km_bind (km_is 30 r5) fun _ => km_bind (pm_J2_add r5 r6) fun i7 =>
pb_X1_init_2_100 n x0 x1 x2))
    refine kw_aload_n (pc := 100) B dX1_init_2_100 rfl 2 rfl ?_
    refine kw_disp (pc := 101) (pc' := 106) (st := []) kw_hI (fun i1 => ?_) ?_
    · refine kw_if_eq (pc := 106) (tgt := 138) B dX1_init_2_106 rfl ?_ ?_
      · refine kw_aload_n (pc := 138) B dX1_init_2_138 rfl 1 rfl ?_
        refine kw_gR (pc := 139) B dX1_init_2_139 fl_X1_18 (fun r2 => ?_)
        refine kw_callV (pc := 142) B dX1_init_2_142 (ci := 30) rfl (ct_J2_iterator r2) q372 q373 q374 q77 q375 ⟨by decide, by decide, rfl⟩ (As := []) rfl (st := []) rfl (Nat.le_of_ble_eq_true rfl) (by decide) (by decide) kw_qA (fun r3 => ?_)
        refine kw_astore_n (pc := 145) B dX1_init_2_145 rfl (by decide) (L2 := [(2, kA r3), (0, kA x0), (1, kA x1)]) rfl ?_
        exact kw_pick [1, 2, 0] rfl (wb_X1_init_2_146 B km_fuel x0 x1 r3)
      · refine kw_aload_n (pc := 109) B dX1_init_2_109 rfl 2 rfl ?_
        refine kw_disp (pc := 110) (pc' := 115) (st := []) kw_hA (fun r4 => ?_) ?_
        · refine kw_cast_ok (pc := 115) B dX1_init_2_115 q542 cs_RosaryCarvers_Carver ?_
          refine kw_astore_n (pc := 118) B dX1_init_2_118 rfl (by decide) (L2 := [(3, kA r4), (0, kA x0), (1, kA x1), (2, kA x2)]) rfl ?_
          refine kw_aload_n (pc := 119) B dX1_init_2_119 rfl 1 rfl ?_
          refine kw_gR (pc := 120) B dX1_init_2_120 fl_X1_12 (fun r5 => ?_)
          refine kw_new (pc := 123) B dX1_init_2_123 (ci := 5) (N := 4) rfl in_X6 tyX6_ok kz_Carver_ok q542 q543 q91 (fun r6 => ?_)
          refine kw_dup (pc := 126) B dX1_init_2_126 rfl ?_
          refine kw_aload_n (pc := 127) B dX1_init_2_127 rfl 0 rfl ?_
          refine kw_callI (pc := 128) B dX1_init_2_128 (ct_X6_init r6 r4) q544 q545 q91 q546 rfl ⟨by decide, by decide, rfl⟩ (As := [kA r4]) rfl (st := [kA r6, kA r5]) rfl (Nat.le_of_ble_eq_true rfl) (by decide) (by decide) kw_qV (fun _ => ?_)
          refine kw_callV (pc := 131) B dX1_init_2_131 (ci := 30) rfl (ct_J2_add r5 r6) q572 q573 q574 q77 q575 ⟨by decide, by decide, rfl⟩ (As := [kA r6]) rfl (st := []) rfl (Nat.le_of_ble_eq_true rfl) (by decide) (by decide) kw_qI (fun i7 => ?_)
          refine kw_pop (pc := 134) B dX1_init_2_134 rfl ?_
          refine kw_goto (pc := 135) (tgt := 100) B dX1_init_2_135 rfl ?_
          exact kw_pick [1, 2, 3] rfl (ih x0 x1 x2)
        · intro q hq hk
          simp only [List.mem_cons, List.not_mem_nil, or_false] at hq
          rcases hq with rfl | rfl | rfl
          · exact kw_callF (pc := 110) B dX1_init_2_110 (ci := 11) rfl (ct_X12_next x2) q422 q425 q427 q101 q429 q424 q423 q428 q426 q399 ⟨by decide, by decide, rfl⟩ (As := []) rfl (st := []) rfl (Nat.le_of_ble_eq_true rfl) (by decide) (by decide) kw_qA hk
          · exact kw_callF (pc := 110) B dX1_init_2_110 (ci := 33) rfl (ct_J5_next x2) q422 q533 q535 q84 q537 q424 q423 q536 q534 q415 ⟨by decide, by decide, rfl⟩ (As := []) rfl (st := []) rfl (Nat.le_of_ble_eq_true rfl) (by decide) (by decide) kw_qA hk
          · exact kw_callF (pc := 110) B dX1_init_2_110 (ci := 34) rfl (ct_J15_next x2) q422 q522 q524 q102 q526 q424 q423 q525 q523 q409 ⟨by decide, by decide, rfl⟩ (As := []) rfl (st := []) rfl (Nat.le_of_ble_eq_true rfl) (by decide) (by decide) kw_qA hk
    · intro q hq hk
      simp only [List.mem_cons, List.not_mem_nil, or_false] at hq
      rcases hq with rfl | rfl | rfl
      · exact kw_callF (pc := 101) B dX1_init_2_101 (ci := 11) rfl (ct_X12_hasNext x2) q396 q400 q402 q101 q404 q398 q397 q403 q401 q399 ⟨by decide, by decide, rfl⟩ (As := []) rfl (st := []) rfl (Nat.le_of_ble_eq_true rfl) (by decide) (by decide) kw_qI hk
      · exact kw_callF (pc := 101) B dX1_init_2_101 (ci := 33) rfl (ct_J5_hasNext x2) q396 q416 q418 q84 q420 q398 q397 q419 q417 q415 ⟨by decide, by decide, rfl⟩ (As := []) rfl (st := []) rfl (Nat.le_of_ble_eq_true rfl) (by decide) (by decide) kw_qI hk
      · exact kw_callF (pc := 101) B dX1_init_2_101 (ci := 34) rfl (ct_J15_hasNext x2) q396 q410 q412 q102 q414 q398 q397 q413 q411 q409 ⟨by decide, by decide, rfl⟩ (As := []) rfl (st := []) rfl (Nat.le_of_ble_eq_true rfl) (by decide) (by decide) kw_qI hk
theorem wm_X1_init_2 {E : kw_E} (B : kw_ok E cX1_init_2 RX1 "<init>" 4 none 7 178 []) (a0 : Option Nat) (a1 : Option Nat) : kw_W E kw_eV 0 [(0, kA a0), (1, kA a1)] [] (pm_X1_init_2 a0 a1) := by
  unfold pm_X1_init_2
  refine kw_aload_n (pc := 0) B dX1_init_2_0 rfl 0 rfl ?_
  refine kw_objInit (pc := 1) B dX1_init_2_1 q145 q138 q139 (by decide) (Nat.le_of_ble_eq_true rfl) ?_
  refine kw_aload_n (pc := 4) B dX1_init_2_4 rfl 0 rfl ?_
  refine kw_new (pc := 5) B dX1_init_2_5 (ci := 30) (N := 3) rfl in_J2 tyJ2_ok kz_AL_ok q146 q147 q77 (fun r1 => ?_)
  refine kw_dup (pc := 8) B dX1_init_2_8 rfl ?_
  refine kw_callI (pc := 9) B dX1_init_2_9 (ct_J2_init r1) q148 q149 q77 q150 rfl ⟨by decide, by decide, rfl⟩ (As := []) rfl (st := [kA r1, kA a0]) rfl (Nat.le_of_ble_eq_true rfl) (by decide) (by decide) kw_qV (fun _ => ?_)
  refine kw_pR (pc := 12) B dX1_init_2_12 fl_X1_12 fp_X1_12 (fun _ => rfl) rfl ?_
  refine kw_aload_n (pc := 15) B dX1_init_2_15 rfl 0 rfl ?_
  refine kw_new (pc := 16) B dX1_init_2_16 (ci := 30) (N := 3) rfl in_J2 tyJ2_ok kz_AL_ok q146 q147 q77 (fun r3 => ?_)
  refine kw_dup (pc := 19) B dX1_init_2_19 rfl ?_
  refine kw_callI (pc := 20) B dX1_init_2_20 (ct_J2_init r3) q148 q149 q77 q150 rfl ⟨by decide, by decide, rfl⟩ (As := []) rfl (st := [kA r3, kA a0]) rfl (Nat.le_of_ble_eq_true rfl) (by decide) (by decide) kw_qV (fun _ => ?_)
  refine kw_pR (pc := 23) B dX1_init_2_23 fl_X1_18 fp_X1_18 (fun _ => rfl) rfl ?_
  refine kw_aload_n (pc := 26) B dX1_init_2_26 rfl 0 rfl ?_
  refine kw_new (pc := 27) B dX1_init_2_27 (ci := 2) (N := 1) rfl in_X2 tyX2_ok kz_Beads_ok q175 q176 q78 (fun r5 => ?_)
  refine kw_dup (pc := 30) B dX1_init_2_30 rfl ?_
  refine kw_callIN (pc := 31) B dX1_init_2_31 (ct_X2_init r5) q177 q178 q78 q179 rfl ⟨by decide, by decide, rfl⟩ (As := []) rfl (st := [kA r5, kA a0]) rfl (Nat.le_of_ble_eq_true rfl) (by decide) (by decide) kw_qV (fun _ => ?_)
  refine kw_pR (pc := 34) B dX1_init_2_34 fl_X1_24 fp_X1_24 (fun _ => rfl) rfl ?_
  refine kw_aload_n (pc := 37) B dX1_init_2_37 rfl 0 rfl ?_
  refine kw_new (pc := 38) B dX1_init_2_38 (ci := 30) (N := 3) rfl in_J2 tyJ2_ok kz_AL_ok q146 q147 q77 (fun r7 => ?_)
  refine kw_dup (pc := 41) B dX1_init_2_41 rfl ?_
  refine kw_callI (pc := 42) B dX1_init_2_42 (ct_J2_init r7) q148 q149 q77 q150 rfl ⟨by decide, by decide, rfl⟩ (As := []) rfl (st := [kA r7, kA a0]) rfl (Nat.le_of_ble_eq_true rfl) (by decide) (by decide) kw_qV (fun _ => ?_)
  refine kw_pR (pc := 45) B dX1_init_2_45 fl_X1_28 fp_X1_28 (fun _ => rfl) rfl ?_
  refine kw_aload_n (pc := 48) B dX1_init_2_48 rfl 0 rfl ?_
  refine kw_new (pc := 49) B dX1_init_2_49 (ci := 30) (N := 3) rfl in_J2 tyJ2_ok kz_AL_ok q146 q147 q77 (fun r9 => ?_)
  refine kw_dup (pc := 52) B dX1_init_2_52 rfl ?_
  refine kw_callI (pc := 53) B dX1_init_2_53 (ct_J2_init r9) q148 q149 q77 q150 rfl ⟨by decide, by decide, rfl⟩ (As := []) rfl (st := [kA r9, kA a0]) rfl (Nat.le_of_ble_eq_true rfl) (by decide) (by decide) kw_qV (fun _ => ?_)
  refine kw_pR (pc := 56) B dX1_init_2_56 fl_X1_31 fp_X1_31 (fun _ => rfl) rfl ?_
  refine kw_aload_n (pc := 59) B dX1_init_2_59 rfl 0 rfl ?_
  refine kw_new (pc := 60) B dX1_init_2_60 (ci := 30) (N := 3) rfl in_J2 tyJ2_ok kz_AL_ok q146 q147 q77 (fun r11 => ?_)
  refine kw_dup (pc := 63) B dX1_init_2_63 rfl ?_
  refine kw_callI (pc := 64) B dX1_init_2_64 (ct_J2_init r11) q148 q149 q77 q150 rfl ⟨by decide, by decide, rfl⟩ (As := []) rfl (st := [kA r11, kA a0]) rfl (Nat.le_of_ble_eq_true rfl) (by decide) (by decide) kw_qV (fun _ => ?_)
  refine kw_pR (pc := 67) B dX1_init_2_67 fl_X1_34 fp_X1_34 (fun _ => rfl) rfl ?_
  refine kw_aload_n (pc := 70) B dX1_init_2_70 rfl 0 rfl ?_
  refine kw_new (pc := 71) B dX1_init_2_71 (ci := 30) (N := 3) rfl in_J2 tyJ2_ok kz_AL_ok q146 q147 q77 (fun r13 => ?_)
  refine kw_dup (pc := 74) B dX1_init_2_74 rfl ?_
  refine kw_callI (pc := 75) B dX1_init_2_75 (ct_J2_init r13) q148 q149 q77 q150 rfl ⟨by decide, by decide, rfl⟩ (As := []) rfl (st := [kA r13, kA a0]) rfl (Nat.le_of_ble_eq_true rfl) (by decide) (by decide) kw_qV (fun _ => ?_)
  refine kw_pR (pc := 78) B dX1_init_2_78 fl_X1_37 fp_X1_37 (fun _ => rfl) rfl ?_
  refine kw_aload_n (pc := 81) B dX1_init_2_81 rfl 0 rfl ?_
  refine kw_new (pc := 82) B dX1_init_2_82 (ci := 31) (N := 3) rfl in_J3 tyJ3_ok kz_BS_ok q189 q190 q79 (fun r15 => ?_)
  refine kw_dup (pc := 85) B dX1_init_2_85 rfl ?_
  refine kw_callI (pc := 86) B dX1_init_2_86 (ct_J3_init r15) q191 q192 q79 q193 rfl ⟨by decide, by decide, rfl⟩ (As := []) rfl (st := [kA r15, kA a0]) rfl (Nat.le_of_ble_eq_true rfl) (by decide) (by decide) kw_qV (fun _ => ?_)
  refine kw_pR (pc := 89) B dX1_init_2_89 fl_X1_43 fp_X1_43 (fun _ => rfl) rfl ?_
  refine kw_aload_n (pc := 92) B dX1_init_2_92 rfl 1 rfl ?_
  refine kw_gR (pc := 93) B dX1_init_2_93 fl_X1_12 (fun r17 => ?_)
  refine kw_callV (pc := 96) B dX1_init_2_96 (ci := 30) rfl (ct_J2_iterator r17) q372 q373 q374 q77 q375 ⟨by decide, by decide, rfl⟩ (As := []) rfl (st := []) rfl (Nat.le_of_ble_eq_true rfl) (by decide) (by decide) kw_qA (fun r18 => ?_)
  refine kw_astore_n (pc := 99) B dX1_init_2_99 rfl (by decide) (L2 := [(2, kA r18), (0, kA a0), (1, kA a1)]) rfl ?_
  exact kw_pick [1, 2, 0] rfl (wb_X1_init_2_100 B km_fuel a0 a1 r18)
theorem ct_X1_init_2 (a0 : Option Nat) (a1 : Option Nat) (l : Launch) : kw_Met l yX1_init_2 (ws_ yX1_init_2 cX1_init_2 4 none) 7 178 [kA a0, kA a1] kw_eV (pm_X1_init_2 a0 a1) := kw_met (plainFor_of_name rfl) (Nat.le_of_ble_eq_true rfl) (fun E B => wm_X1_init_2 B a0 a1) l

/-! RosaryCarvers$Shop brings (I)I -/

theorem wm_X1_brings {E : kw_E} (B : kw_ok E cX1_brings RX1 "brings" 2 (some .int) 1 24 []) (a0 : Option Nat) (a1 : Int32) : kw_W E kw_eI 0 [(0, kA a0), (1, kI a1)] [] (pm_X1_brings a0 a1) := by
  unfold pm_X1_brings
  refine kw_aload_n (pc := 0) B dX1_brings_0 rfl 0 rfl ?_
  refine kw_sipush (pc := 1) B dX1_brings_1 (v := (999 : Int32)) rfl ?_
  refine kw_aload_n (pc := 4) B dX1_brings_4 rfl 0 rfl ?_
  refine kw_gI (pc := 5) B dX1_brings_5 fl_X1_96 (fun i1 => ?_)
  refine kw_iload_n (pc := 8) B dX1_brings_8 rfl 1 rfl ?_
  refine kw_iadd (pc := 9) B dX1_brings_9 ?_
  refine kw_mmin (pc := 10) B dX1_brings_10 q784 q652 q93 q653 (by decide) (Nat.le_of_ble_eq_true rfl) ?_
  refine kw_pI (pc := 13) B dX1_brings_13 fl_X1_96 fp_X1_96 (fun h => by cases h) ?_
  refine kw_aload_n (pc := 16) B dX1_brings_16 rfl 0 rfl ?_
  refine kw_gI (pc := 17) B dX1_brings_17 fl_X1_96 (fun i3 => ?_)
  exact kw_iret B dX1_brings_20 rfl
theorem ct_X1_brings (a0 : Option Nat) (a1 : Int32) (l : Launch) : kw_Met l yX1_brings (ws_ yX1_brings cX1_brings 2 (some .int)) 1 24 [kA a0, kI a1] kw_eI (pm_X1_brings a0 a1) := kw_met (plainFor_of_name rfl) (Nat.le_of_ble_eq_true rfl) (fun E B => wm_X1_brings B a0 a1) l

/-! RosaryCarvers$1 does (LRosaryCarvers$Shop;)I -/

theorem wm_X5_does {E : kw_E} (B : kw_ok E cX5_does RX5 "does" 2 (some .int) 2 45 []) (a0 : Option Nat) (a1 : Option Nat) : kw_W E (kw_x kw_eI) 0 [(0, kA a0), (1, kA a1)] [] (pm_X5_does a0 a1) := by
  unfold pm_X5_does
  refine kw_aload_n (pc := 0) B dX5_does_0 rfl 1 rfl ?_
  refine kw_aload_n (pc := 1) B dX5_does_1 rfl 0 rfl ?_
  refine kw_gI (pc := 2) B dX5_does_2 fl_X5_7 (fun i1 => ?_)
  refine kw_callV (pc := 5) B dX5_does_5 (ci := 1) rfl (ct_X1_brings a1 i1) q780 q781 q782 q74 q783 ⟨by decide, by decide, rfl⟩ (As := [kI i1]) rfl (st := []) rfl (Nat.le_of_ble_eq_true rfl) (by decide) (by decide) kw_qI (fun i2 => ?_)
  exact kw_iret B dX5_does_8 rfl
theorem ct_X5_does (a0 : Option Nat) (a1 : Option Nat) (l : Launch) : kw_Met l yX5_does (ws_ yX5_does cX5_does 2 (some .int)) 2 45 [kA a0, kA a1] (kw_x kw_eI) (pm_X5_does a0 a1) := kw_met (plainFor_of_name rfl) (Nat.le_of_ble_eq_true rfl) (fun E B => wm_X5_does B a0 a1) l

/-! java/lang/Throwable <init> (Ljava/lang/String;Ljava/lang/Throwable;ZZ)V -/
theorem fl_J6_7 : kw_fl RJ6 7 "java/lang/Throwable" [(8, 0), (13, 0), (27, 0)] := (kw_fl_c (C := RX9) (T := TX9) (N := 8) rfl (by decide) in_X9 q491 (Or.inl rfl) (kw_fl_c (C := RX15) (T := TX15) (N := 6) rfl (by decide) in_X15 q491 (Or.inl rfl) (kw_fl_c (C := RX29) (T := TX29) (N := 7) rfl (by decide) in_X29 q491 (Or.inl rfl) kw_fl_nil)))
theorem fp_J6_7 : kw_fp RJ6 (.object "java/lang/Throwable") false [(8, 0), (13, 0), (27, 0)] := (kw_fp_c (C := RX9) (T := TX9) (N := 8) (ty0 := tyX9) rfl tyX9_ok nmX9 rfl (fun h => by cases h) (by decide) rfl (kw_fp_c (C := RX15) (T := TX15) (N := 6) (ty0 := tyX15) rfl tyX15_ok nmX15 rfl (fun h => by cases h) (by decide) rfl (kw_fp_c (C := RX29) (T := TX29) (N := 7) (ty0 := tyX29) rfl tyX29_ok nmX29 rfl (fun h => by cases h) (by decide) rfl kw_fp_nil)))
theorem fl_J6_17 : kw_fl RJ6 17 "java/lang/Throwable" [(8, 1), (13, 1), (27, 1)] := (kw_fl_c (C := RX9) (T := TX9) (N := 8) rfl (by decide) in_X9 q492 (Or.inl rfl) (kw_fl_c (C := RX15) (T := TX15) (N := 6) rfl (by decide) in_X15 q492 (Or.inl rfl) (kw_fl_c (C := RX29) (T := TX29) (N := 7) rfl (by decide) in_X29 q492 (Or.inl rfl) kw_fl_nil)))
theorem fp_J6_17 : kw_fp RJ6 (.array (.object "java/lang/StackTraceElement")) false [(8, 1), (13, 1), (27, 1)] := (kw_fp_c (C := RX9) (T := TX9) (N := 8) (ty0 := tyX9) rfl tyX9_ok nmX9 rfl (fun h => by cases h) (by decide) rfl (kw_fp_c (C := RX15) (T := TX15) (N := 6) (ty0 := tyX15) rfl tyX15_ok nmX15 rfl (fun h => by cases h) (by decide) rfl (kw_fp_c (C := RX29) (T := TX29) (N := 7) (ty0 := tyX29) rfl tyX29_ok nmX29 rfl (fun h => by cases h) (by decide) rfl kw_fp_nil)))
theorem fl_J6_24 : kw_fl RJ6 24 "java/lang/Throwable" [(8, 2), (13, 2), (27, 2)] := (kw_fl_c (C := RX9) (T := TX9) (N := 8) rfl (by decide) in_X9 q493 (Or.inl rfl) (kw_fl_c (C := RX15) (T := TX15) (N := 6) rfl (by decide) in_X15 q493 (Or.inl rfl) (kw_fl_c (C := RX29) (T := TX29) (N := 7) rfl (by decide) in_X29 q493 (Or.inl rfl) kw_fl_nil)))
theorem fp_J6_24 : kw_fp RJ6 (.object "java/util/List") false [(8, 2), (13, 2), (27, 2)] := (kw_fp_c (C := RX9) (T := TX9) (N := 8) (ty0 := tyX9) rfl tyX9_ok nmX9 rfl (fun h => by cases h) (by decide) rfl (kw_fp_c (C := RX15) (T := TX15) (N := 6) (ty0 := tyX15) rfl tyX15_ok nmX15 rfl (fun h => by cases h) (by decide) rfl (kw_fp_c (C := RX29) (T := TX29) (N := 7) (ty0 := tyX29) rfl tyX29_ok nmX29 rfl (fun h => by cases h) (by decide) rfl kw_fp_nil)))
theorem fl_J6_31 : kw_fl RJ6 31 "java/lang/Throwable" [(8, 3), (13, 3), (27, 3)] := (kw_fl_c (C := RX9) (T := TX9) (N := 8) rfl (by decide) in_X9 q490 (Or.inl rfl) (kw_fl_c (C := RX15) (T := TX15) (N := 6) rfl (by decide) in_X15 q490 (Or.inl rfl) (kw_fl_c (C := RX29) (T := TX29) (N := 7) rfl (by decide) in_X29 q490 (Or.inl rfl) kw_fl_nil)))
theorem fp_J6_31 : kw_fp RJ6 (.object "java/lang/String") false [(8, 3), (13, 3), (27, 3)] := (kw_fp_c (C := RX9) (T := TX9) (N := 8) (ty0 := tyX9) rfl tyX9_ok nmX9 rfl (fun h => by cases h) (by decide) rfl (kw_fp_c (C := RX15) (T := TX15) (N := 6) (ty0 := tyX15) rfl tyX15_ok nmX15 rfl (fun h => by cases h) (by decide) rfl (kw_fp_c (C := RX29) (T := TX29) (N := 7) (ty0 := tyX29) rfl tyX29_ok nmX29 rfl (fun h => by cases h) (by decide) rfl kw_fp_nil)))
theorem wm_J6_init_2 {E : kw_E} (B : kw_ok E cJ6_init_2 RJ6 "<init>" 5 none 1 24 []) (a0 : Option Nat) (a1 : Option Nat) (a2 : Option Nat) (a3 : Int32) (a4 : Int32) : kw_W E kw_eV 0 [(0, kA a0), (1, kA a1), (2, kA a2), (3, kI a3), (4, kI a4)] [] (pm_J6_init_2 a0 a1 a2 a3 a4) := by
  unfold pm_J6_init_2
  refine kw_aload_n (pc := 0) B dJ6_init_2_0 rfl 0 rfl ?_
  refine kw_objInit (pc := 1) B dJ6_init_2_1 q460 q138 q139 (by decide) (Nat.le_of_ble_eq_true rfl) ?_
  refine kw_aload_n (pc := 4) B dJ6_init_2_4 rfl 0 rfl ?_
  refine kw_aload_n (pc := 5) B dJ6_init_2_5 rfl 0 rfl ?_
  refine kw_pR (pc := 6) B dJ6_init_2_6 fl_J6_7 fp_J6_7 (fun h => by cases h) rfl ?_
  refine kw_aload_n (pc := 9) B dJ6_init_2_9 rfl 0 rfl ?_
  refine kw_getsR (pc := 10) B dJ6_init_2_10 (i := 4) (C := "java/lang/Throwable") (n := "UNASSIGNED_STACK") (dd := "[Ljava/lang/StackTraceElement;") (by decide) q461 rfl (fun r2 => ?_)
  refine kw_pR (pc := 13) B dJ6_init_2_13 fl_J6_17 fp_J6_17 (fun h => by cases h) rfl ?_
  refine kw_aload_n (pc := 16) B dJ6_init_2_16 rfl 0 rfl ?_
  refine kw_getsR (pc := 17) B dJ6_init_2_17 (i := 5) (C := "java/lang/Throwable") (n := "SUPPRESSED_SENTINEL") (dd := "Ljava/util/List;") (by decide) q463 rfl (fun r4 => ?_)
  refine kw_pR (pc := 20) B dJ6_init_2_20 fl_J6_24 fp_J6_24 (fun h => by cases h) rfl ?_
  refine kw_iload (pc := 23) B dJ6_init_2_23 4 rfl ?_
  refine kw_if_eq (pc := 25) (tgt := 36) B dJ6_init_2_25 rfl ?_ ?_
  · refine kw_aload_n (pc := 36) B dJ6_init_2_36 rfl 0 rfl ?_
    refine kw_null (pc := 37) B dJ6_init_2_37 ?_
    refine kw_pR (pc := 38) B dJ6_init_2_38 fl_J6_17 fp_J6_17 (fun h => by cases h) rfl ?_
    refine kw_aload_n (pc := 41) B dJ6_init_2_41 rfl 0 rfl ?_
    refine kw_aload_n (pc := 42) B dJ6_init_2_42 rfl 1 rfl ?_
    refine kw_pR (pc := 43) B dJ6_init_2_43 fl_J6_31 fp_J6_31 (fun h => by cases h) rfl ?_
    refine kw_aload_n (pc := 46) B dJ6_init_2_46 rfl 0 rfl ?_
    refine kw_aload_n (pc := 47) B dJ6_init_2_47 rfl 2 rfl ?_
    refine kw_pR (pc := 48) B dJ6_init_2_48 fl_J6_7 fp_J6_7 (fun h => by cases h) rfl ?_
    refine kw_iload_n (pc := 51) B dJ6_init_2_51 rfl 3 rfl ?_
    refine kw_if_ne (pc := 52) (tgt := 60) B dJ6_init_2_52 rfl ?_ ?_
    · exact kw_vret B dJ6_init_2_60 rfl
    · refine kw_aload_n (pc := 55) B dJ6_init_2_55 rfl 0 rfl ?_
      refine kw_null (pc := 56) B dJ6_init_2_56 ?_
      refine kw_pR (pc := 57) B dJ6_init_2_57 fl_J6_24 fp_J6_24 (fun h => by cases h) rfl ?_
      exact kw_vret B dJ6_init_2_60 rfl
  · refine kw_aload_n (pc := 28) B dJ6_init_2_28 rfl 0 rfl ?_
    exact kw_fail_ok
theorem ct_J6_init_2 (a0 : Option Nat) (a1 : Option Nat) (a2 : Option Nat) (a3 : Int32) (a4 : Int32) (l : Launch) : kw_Met l yJ6_init_2 (ws_ yJ6_init_2 cJ6_init_2 5 none) 1 24 [kA a0, kA a1, kA a2, kI a3, kI a4] kw_eV (pm_J6_init_2 a0 a1 a2 a3 a4) := kw_met (plainFor_of_name rfl) (Nat.le_of_ble_eq_true rfl) (fun E B => wm_J6_init_2 B a0 a1 a2 a3 a4) l

/-! java/lang/Exception <init> (Ljava/lang/String;Ljava/lang/Throwable;ZZ)V -/

theorem wm_J7_init_2 {E : kw_E} (B : kw_ok E cJ7_init_2 RJ7 "<init>" 5 none 2 48 []) (a0 : Option Nat) (a1 : Option Nat) (a2 : Option Nat) (a3 : Int32) (a4 : Int32) : kw_W E kw_eV 0 [(0, kA a0), (1, kA a1), (2, kA a2), (3, kI a3), (4, kI a4)] [] (pm_J7_init_2 a0 a1 a2 a3 a4) := by
  unfold pm_J7_init_2
  refine kw_aload_n (pc := 0) B dJ7_init_2_0 rfl 0 rfl ?_
  refine kw_aload_n (pc := 1) B dJ7_init_2_1 rfl 1 rfl ?_
  refine kw_aload_n (pc := 2) B dJ7_init_2_2 rfl 2 rfl ?_
  refine kw_iload_n (pc := 3) B dJ7_init_2_3 rfl 3 rfl ?_
  refine kw_iload (pc := 4) B dJ7_init_2_4 4 rfl ?_
  refine kw_callI (pc := 6) B dJ7_init_2_6 (ct_J6_init_2 a0 a1 a2 a3 a4) q814 q815 q85 q816 rfl ⟨by decide, by decide, rfl⟩ (As := [kA a1, kA a2, kI a3, kI a4]) rfl (st := []) rfl (Nat.le_of_ble_eq_true rfl) (by decide) (by decide) kw_qV (fun _ => ?_)
  exact kw_vret B dJ7_init_2_9 rfl
theorem ct_J7_init_2 (a0 : Option Nat) (a1 : Option Nat) (a2 : Option Nat) (a3 : Int32) (a4 : Int32) (l : Launch) : kw_Met l yJ7_init_2 (ws_ yJ7_init_2 cJ7_init_2 5 none) 2 48 [kA a0, kA a1, kA a2, kI a3, kI a4] kw_eV (pm_J7_init_2 a0 a1 a2 a3 a4) := kw_met (plainFor_of_name rfl) (Nat.le_of_ble_eq_true rfl) (fun E B => wm_J7_init_2 B a0 a1 a2 a3 a4) l

/-! RosaryCarvers$Refused <init> (IILjava/lang/Exception;)V -/
theorem fl_X9_7 : kw_fl RX9 7 "RosaryCarvers$Refused" [(8, 6)] := (kw_fl_c (C := RX9) (T := TX9) (N := 8) rfl (by decide) in_X9 q817 (Or.inl rfl) kw_fl_nil)
theorem fp_X9_7 : kw_fp RX9 .int true [(8, 6)] := (kw_fp_c (C := RX9) (T := TX9) (N := 8) (ty0 := tyX9) rfl tyX9_ok nmX9 rfl (fun _ => rfl) (by decide) rfl kw_fp_nil)
theorem fl_X9_13 : kw_fl RX9 13 "RosaryCarvers$Refused" [(8, 7)] := (kw_fl_c (C := RX9) (T := TX9) (N := 8) rfl (by decide) in_X9 q819 (Or.inl rfl) kw_fl_nil)
theorem fp_X9_13 : kw_fp RX9 .int true [(8, 7)] := (kw_fp_c (C := RX9) (T := TX9) (N := 8) (ty0 := tyX9) rfl tyX9_ok nmX9 rfl (fun _ => rfl) (by decide) rfl kw_fp_nil)
theorem wm_X9_init_2 {E : kw_E} (B : kw_ok E cX9_init_2 RX9 "<init>" 4 none 3 72 []) (a0 : Option Nat) (a1 : Int32) (a2 : Int32) (a3 : Option Nat) : kw_W E kw_eV 0 [(0, kA a0), (1, kI a1), (2, kI a2), (3, kA a3)] [] (pm_X9_init_2 a0 a1 a2 a3) := by
  unfold pm_X9_init_2
  refine kw_aload_n (pc := 0) B dX9_init_2_0 rfl 0 rfl ?_
  refine kw_null (pc := 1) B dX9_init_2_1 ?_
  refine kw_aload_n (pc := 2) B dX9_init_2_2 rfl 3 rfl ?_
  refine kw_iconst (pc := 3) B dX9_init_2_3 (v := (0 : Int32)) rfl ?_
  refine kw_iconst (pc := 4) B dX9_init_2_4 (v := (0 : Int32)) rfl ?_
  refine kw_callI (pc := 5) B dX9_init_2_5 (ct_J7_init_2 a0 none a3 (0 : Int32) (0 : Int32)) q811 q812 q86 q813 rfl ⟨by decide, by decide, rfl⟩ (As := [kA none, kA a3, kI (0 : Int32), kI (0 : Int32)]) rfl (st := []) rfl (Nat.le_of_ble_eq_true rfl) (by decide) (by decide) kw_qV (fun _ => ?_)
  refine kw_aload_n (pc := 8) B dX9_init_2_8 rfl 0 rfl ?_
  refine kw_iload_n (pc := 9) B dX9_init_2_9 rfl 1 rfl ?_
  refine kw_pI (pc := 10) B dX9_init_2_10 fl_X9_7 fp_X9_7 (fun _ => rfl) ?_
  refine kw_aload_n (pc := 13) B dX9_init_2_13 rfl 0 rfl ?_
  refine kw_iload_n (pc := 14) B dX9_init_2_14 rfl 2 rfl ?_
  refine kw_pI (pc := 15) B dX9_init_2_15 fl_X9_13 fp_X9_13 (fun _ => rfl) ?_
  exact kw_vret B dX9_init_2_18 rfl
theorem ct_X9_init_2 (a0 : Option Nat) (a1 : Int32) (a2 : Int32) (a3 : Option Nat) (l : Launch) : kw_Met l yX9_init_2 (ws_ yX9_init_2 cX9_init_2 4 none) 3 72 [kA a0, kI a1, kI a2, kA a3] kw_eV (pm_X9_init_2 a0 a1 a2 a3) := kw_met (plainFor_of_name rfl) (Nat.le_of_ble_eq_true rfl) (fun E B => wm_X9_init_2 B a0 a1 a2 a3) l

/-! RosaryCarvers$Refused <init> (II)V -/

theorem wm_X9_init {E : kw_E} (B : kw_ok E cX9_init RX9 "<init>" 3 none 4 95 []) (a0 : Option Nat) (a1 : Int32) (a2 : Int32) : kw_W E kw_eV 0 [(0, kA a0), (1, kI a1), (2, kI a2)] [] (pm_X9_init a0 a1 a2) := by
  unfold pm_X9_init
  refine kw_aload_n (pc := 0) B dX9_init_0 rfl 0 rfl ?_
  refine kw_iload_n (pc := 1) B dX9_init_1 rfl 1 rfl ?_
  refine kw_iload_n (pc := 2) B dX9_init_2 rfl 2 rfl ?_
  refine kw_null (pc := 3) B dX9_init_3 ?_
  refine kw_callI (pc := 4) B dX9_init_4 (ct_X9_init_2 a0 a1 a2 none) q808 q809 q98 q810 rfl ⟨by decide, by decide, rfl⟩ (As := [kI a1, kI a2, kA none]) rfl (st := []) rfl (Nat.le_of_ble_eq_true rfl) (by decide) (by decide) kw_qV (fun _ => ?_)
  exact kw_vret B dX9_init_7 rfl
theorem ct_X9_init (a0 : Option Nat) (a1 : Int32) (a2 : Int32) (l : Launch) : kw_Met l yX9_init (ws_ yX9_init cX9_init 3 none) 4 95 [kA a0, kI a1, kI a2] kw_eV (pm_X9_init a0 a1 a2) := kw_met (plainFor_of_name rfl) (Nat.le_of_ble_eq_true rfl) (fun E B => wm_X9_init B a0 a1 a2) l

/-! RosaryCarvers needs (ZII)V -/

theorem wm_X0_needs {E : kw_E} (B : kw_ok E cX0_needs RX0 "needs" 3 none 5 117 []) (a0 : Int32) (a1 : Int32) (a2 : Int32) : kw_W E (kw_x kw_eV) 0 [(0, kI a0), (1, kI a1), (2, kI a2)] [] (pm_X0_needs a0 a1 a2) := by
  unfold pm_X0_needs
  refine kw_iload_n (pc := 0) B dX0_needs_0 rfl 0 rfl ?_
  refine kw_if_ne (pc := 1) (tgt := 14) B dX0_needs_1 rfl ?_ ?_
  · exact kw_vret B dX0_needs_14 rfl
  · refine kw_new (pc := 4) B dX0_needs_4 (ci := 8) (N := 8) rfl in_X9 tyX9_ok kz_Refused_ok q796 q797 q98 (fun r1 => ?_)
    refine kw_dup (pc := 7) B dX0_needs_7 rfl ?_
    refine kw_iload_n (pc := 8) B dX0_needs_8 rfl 1 rfl ?_
    refine kw_iload_n (pc := 9) B dX0_needs_9 rfl 2 rfl ?_
    refine kw_callI (pc := 10) B dX0_needs_10 (ct_X9_init r1 a1 a2) q805 q806 q98 q807 rfl ⟨by decide, by decide, rfl⟩ (As := [kI a1, kI a2]) rfl (st := [kA r1]) rfl (Nat.le_of_ble_eq_true rfl) (by decide) (by decide) kw_qV (fun _ => ?_)
    exact kw_athrow B dX0_needs_13 kw_noh
theorem ct_X0_needs (a0 : Int32) (a1 : Int32) (a2 : Int32) (l : Launch) : kw_Met l yX0_needs (ws_ yX0_needs cX0_needs 3 none) 5 117 [kI a0, kI a1, kI a2] (kw_x kw_eV) (pm_X0_needs a0 a1 a2) := kw_met (plainFor_of_name rfl) (Nat.le_of_ble_eq_true rfl) (fun E B => wm_X0_needs B a0 a1 a2) l

/-! RosaryCarvers$Shop adds (LRosaryCarvers$Carver;)I -/

theorem wb_X1_adds_16 {E : kw_E} (B : kw_ok E cX1_adds RX1 "adds" 2 (some .int) 7 171 [])  (x0 : Option Nat) (x1 : Option Nat) (s0 : Int32) : kw_W E (kw_x kw_eI) 16 [(0, kA x0), (1, kA x1)] [kI s0] (pb_X1_adds_16  x0 x1 s0) := by
  unfold pb_X1_adds_16
  refine kw_iconst (pc := 16) B dX1_adds_16 (v := (1 : Int32)) rfl ?_
  refine kw_iconst (pc := 17) B dX1_adds_17 (v := (4 : Int32)) rfl ?_
  refine kw_callSNX (pc := 18) B dX1_adds_18 (xq := Sum.inl) (fun _ => rfl) kw_noh (ct_X0_needs s0 (1 : Int32) (4 : Int32)) q793 q794 q73 q795 ⟨by decide, by decide, rfl⟩ (As := [kI s0, kI (1 : Int32), kI (4 : Int32)]) rfl (st := []) rfl (Nat.le_of_ble_eq_true rfl) (by decide) (by decide) kw_qV (fun _ => ?_)
  refine kw_aload_n (pc := 21) B dX1_adds_21 rfl 0 rfl ?_
  refine kw_gR (pc := 22) B dX1_adds_22 fl_X1_12 (fun r1 => ?_)
  refine kw_aload_n (pc := 25) B dX1_adds_25 rfl 1 rfl ?_
  refine kw_callV (pc := 26) B dX1_adds_26 (ci := 30) rfl (ct_J2_add r1 x1) q572 q573 q574 q77 q575 ⟨by decide, by decide, rfl⟩ (As := [kA x1]) rfl (st := []) rfl (Nat.le_of_ble_eq_true rfl) (by decide) (by decide) kw_qI (fun i2 => ?_)
  refine kw_pop (pc := 29) B dX1_adds_29 rfl ?_
  refine kw_aload_n (pc := 30) B dX1_adds_30 rfl 0 rfl ?_
  refine kw_gR (pc := 31) B dX1_adds_31 fl_X1_12 (fun r3 => ?_)
  refine kw_callV (pc := 34) B dX1_adds_34 (ci := 30) rfl (ct_J2_size r3) q792 q406 q407 q77 q408 ⟨by decide, by decide, rfl⟩ (As := []) rfl (st := []) rfl (Nat.le_of_ble_eq_true rfl) (by decide) (by decide) kw_qI (fun i4 => ?_)
  refine kw_iconst (pc := 37) B dX1_adds_37 (v := (1 : Int32)) rfl ?_
  refine kw_isub (pc := 38) B dX1_adds_38 ?_
  exact kw_iret B dX1_adds_39 rfl
theorem wm_X1_adds {E : kw_E} (B : kw_ok E cX1_adds RX1 "adds" 2 (some .int) 7 171 []) (a0 : Option Nat) (a1 : Option Nat) : kw_W E (kw_x kw_eI) 0 [(0, kA a0), (1, kA a1)] [] (pm_X1_adds a0 a1) := by
  unfold pm_X1_adds
  refine kw_aload_n (pc := 0) B dX1_adds_0 rfl 0 rfl ?_
  refine kw_gR (pc := 1) B dX1_adds_1 fl_X1_12 (fun r1 => ?_)
  refine kw_callV (pc := 4) B dX1_adds_4 (ci := 30) rfl (ct_J2_size r1) q792 q406 q407 q77 q408 ⟨by decide, by decide, rfl⟩ (As := []) rfl (st := []) rfl (Nat.le_of_ble_eq_true rfl) (by decide) (by decide) kw_qI (fun i2 => ?_)
  refine kw_iconst (pc := 7) B dX1_adds_7 (v := (4 : Int32)) rfl ?_
  refine kw_icmp_ge (pc := 8) (tgt := 15) B dX1_adds_8 rfl ?_ ?_
  · refine kw_iconst (pc := 15) B dX1_adds_15 (v := (0 : Int32)) rfl ?_
    exact kw_pick [0, 1] rfl (wb_X1_adds_16 B a0 a1 (0 : Int32))
  · refine kw_iconst (pc := 11) B dX1_adds_11 (v := (1 : Int32)) rfl ?_
    refine kw_goto (pc := 12) (tgt := 16) B dX1_adds_12 rfl ?_
    exact kw_pick [0, 1] rfl (wb_X1_adds_16 B a0 a1 (1 : Int32))
theorem ct_X1_adds (a0 : Option Nat) (a1 : Option Nat) (l : Launch) : kw_Met l yX1_adds (ws_ yX1_adds cX1_adds 2 (some .int)) 7 171 [kA a0, kA a1] (kw_x kw_eI) (pm_X1_adds a0 a1) := kw_met (plainFor_of_name rfl) (Nat.le_of_ble_eq_true rfl) (fun E B => wm_X1_adds B a0 a1) l

/-! RosaryCarvers$2 does (LRosaryCarvers$Shop;)I -/
theorem fl_X17_7 : kw_fl RX17 7 "RosaryCarvers$2" [(15, 1)] := (kw_fl_c (C := RX17) (T := TX17) (N := 3) rfl (by decide) in_X17 q1573 (Or.inl rfl) kw_fl_nil)
theorem wm_X17_does {E : kw_E} (B : kw_ok E cX17_does RX17 "does" 2 (some .int) 8 192 []) (a0 : Option Nat) (a1 : Option Nat) : kw_W E (kw_x kw_eI) 0 [(0, kA a0), (1, kA a1)] [] (pm_X17_does a0 a1) := by
  unfold pm_X17_does
  refine kw_aload_n (pc := 0) B dX17_does_0 rfl 1 rfl ?_
  refine kw_new (pc := 1) B dX17_does_1 (ci := 5) (N := 4) rfl in_X6 tyX6_ok kz_Carver_ok q1494 q543 q91 (fun r1 => ?_)
  refine kw_dup (pc := 4) B dX17_does_4 rfl ?_
  refine kw_aload_n (pc := 5) B dX17_does_5 rfl 0 rfl ?_
  refine kw_gI (pc := 6) B dX17_does_6 fl_X17_7 (fun i2 => ?_)
  refine kw_callI (pc := 9) B dX17_does_9 (ct_X6_init_2 r1 i2) q1495 q548 q91 q549 rfl ⟨by decide, by decide, rfl⟩ (As := [kI i2]) rfl (st := [kA r1, kA a1]) rfl (Nat.le_of_ble_eq_true rfl) (by decide) (by decide) kw_qV (fun _ => ?_)
  refine kw_callVX (pc := 12) B dX17_does_12 (ci := 1) rfl (xq := Sum.inl) (fun _ => rfl) kw_noh (ct_X1_adds a1 r1) q1496 q1497 q1498 q74 q1499 ⟨by decide, by decide, rfl⟩ (As := [kA r1]) rfl (st := []) rfl (Nat.le_of_ble_eq_true rfl) (by decide) (by decide) kw_qI (fun i3 => ?_)
  exact kw_iret B dX17_does_15 rfl
theorem ct_X17_does (a0 : Option Nat) (a1 : Option Nat) (l : Launch) : kw_Met l yX17_does (ws_ yX17_does cX17_does 2 (some .int)) 8 192 [kA a0, kA a1] (kw_x kw_eI) (pm_X17_does a0 a1) := kw_met (plainFor_of_name rfl) (Nat.le_of_ble_eq_true rfl) (fun E B => wm_X17_does B a0 a1) l

/-! RosaryCarvers$Shop adds (LRosaryCarvers$Lens;)I -/

theorem wb_X1_adds_2_16 {E : kw_E} (B : kw_ok E cX1_adds_2 RX1 "adds" 2 (some .int) 7 171 [])  (x0 : Option Nat) (x1 : Option Nat) (s0 : Int32) : kw_W E (kw_x kw_eI) 16 [(0, kA x0), (1, kA x1)] [kI s0] (pb_X1_adds_2_16  x0 x1 s0) := by
  unfold pb_X1_adds_2_16
  refine kw_iconst (pc := 16) B dX1_adds_2_16 (v := (1 : Int32)) rfl ?_
  refine kw_iconst (pc := 17) B dX1_adds_2_17 (v := (4 : Int32)) rfl ?_
  refine kw_callSNX (pc := 18) B dX1_adds_2_18 (xq := Sum.inl) (fun _ => rfl) kw_noh (ct_X0_needs s0 (1 : Int32) (4 : Int32)) q793 q794 q73 q795 ⟨by decide, by decide, rfl⟩ (As := [kI s0, kI (1 : Int32), kI (4 : Int32)]) rfl (st := []) rfl (Nat.le_of_ble_eq_true rfl) (by decide) (by decide) kw_qV (fun _ => ?_)
  refine kw_aload_n (pc := 21) B dX1_adds_2_21 rfl 0 rfl ?_
  refine kw_gR (pc := 22) B dX1_adds_2_22 fl_X1_18 (fun r1 => ?_)
  refine kw_aload_n (pc := 25) B dX1_adds_2_25 rfl 1 rfl ?_
  refine kw_callV (pc := 26) B dX1_adds_2_26 (ci := 30) rfl (ct_J2_add r1 x1) q572 q573 q574 q77 q575 ⟨by decide, by decide, rfl⟩ (As := [kA x1]) rfl (st := []) rfl (Nat.le_of_ble_eq_true rfl) (by decide) (by decide) kw_qI (fun i2 => ?_)
  refine kw_pop (pc := 29) B dX1_adds_2_29 rfl ?_
  refine kw_aload_n (pc := 30) B dX1_adds_2_30 rfl 0 rfl ?_
  refine kw_gR (pc := 31) B dX1_adds_2_31 fl_X1_18 (fun r3 => ?_)
  refine kw_callV (pc := 34) B dX1_adds_2_34 (ci := 30) rfl (ct_J2_size r3) q792 q406 q407 q77 q408 ⟨by decide, by decide, rfl⟩ (As := []) rfl (st := []) rfl (Nat.le_of_ble_eq_true rfl) (by decide) (by decide) kw_qI (fun i4 => ?_)
  refine kw_iconst (pc := 37) B dX1_adds_2_37 (v := (1 : Int32)) rfl ?_
  refine kw_isub (pc := 38) B dX1_adds_2_38 ?_
  exact kw_iret B dX1_adds_2_39 rfl
theorem wm_X1_adds_2 {E : kw_E} (B : kw_ok E cX1_adds_2 RX1 "adds" 2 (some .int) 7 171 []) (a0 : Option Nat) (a1 : Option Nat) : kw_W E (kw_x kw_eI) 0 [(0, kA a0), (1, kA a1)] [] (pm_X1_adds_2 a0 a1) := by
  unfold pm_X1_adds_2
  refine kw_aload_n (pc := 0) B dX1_adds_2_0 rfl 0 rfl ?_
  refine kw_gR (pc := 1) B dX1_adds_2_1 fl_X1_18 (fun r1 => ?_)
  refine kw_callV (pc := 4) B dX1_adds_2_4 (ci := 30) rfl (ct_J2_size r1) q792 q406 q407 q77 q408 ⟨by decide, by decide, rfl⟩ (As := []) rfl (st := []) rfl (Nat.le_of_ble_eq_true rfl) (by decide) (by decide) kw_qI (fun i2 => ?_)
  refine kw_iconst (pc := 7) B dX1_adds_2_7 (v := (4 : Int32)) rfl ?_
  refine kw_icmp_ge (pc := 8) (tgt := 15) B dX1_adds_2_8 rfl ?_ ?_
  · refine kw_iconst (pc := 15) B dX1_adds_2_15 (v := (0 : Int32)) rfl ?_
    exact kw_pick [0, 1] rfl (wb_X1_adds_2_16 B a0 a1 (0 : Int32))
  · refine kw_iconst (pc := 11) B dX1_adds_2_11 (v := (1 : Int32)) rfl ?_
    refine kw_goto (pc := 12) (tgt := 16) B dX1_adds_2_12 rfl ?_
    exact kw_pick [0, 1] rfl (wb_X1_adds_2_16 B a0 a1 (1 : Int32))
theorem ct_X1_adds_2 (a0 : Option Nat) (a1 : Option Nat) (l : Launch) : kw_Met l yX1_adds_2 (ws_ yX1_adds_2 cX1_adds_2 2 (some .int)) 7 171 [kA a0, kA a1] (kw_x kw_eI) (pm_X1_adds_2 a0 a1) := kw_met (plainFor_of_name rfl) (Nat.le_of_ble_eq_true rfl) (fun E B => wm_X1_adds_2 B a0 a1) l

/-! RosaryCarvers$3 does (LRosaryCarvers$Shop;)I -/
theorem fl_X18_7 : kw_fl RX18 7 "RosaryCarvers$3" [(16, 1)] := (kw_fl_c (C := RX18) (T := TX18) (N := 3) rfl (by decide) in_X18 q1594 (Or.inl rfl) kw_fl_nil)
theorem wm_X18_does {E : kw_E} (B : kw_ok E cX18_does RX18 "does" 2 (some .int) 8 192 []) (a0 : Option Nat) (a1 : Option Nat) : kw_W E (kw_x kw_eI) 0 [(0, kA a0), (1, kA a1)] [] (pm_X18_does a0 a1) := by
  unfold pm_X18_does
  refine kw_aload_n (pc := 0) B dX18_does_0 rfl 1 rfl ?_
  refine kw_new (pc := 1) B dX18_does_1 (ci := 6) (N := 2) rfl in_X7 tyX7_ok kz_Lens_ok q1503 q660 q96 (fun r1 => ?_)
  refine kw_dup (pc := 4) B dX18_does_4 rfl ?_
  refine kw_aload_n (pc := 5) B dX18_does_5 rfl 0 rfl ?_
  refine kw_gI (pc := 6) B dX18_does_6 fl_X18_7 (fun i2 => ?_)
  refine kw_callI (pc := 9) B dX18_does_9 (ct_X7_init_2 r1 i2) q1504 q665 q96 q666 rfl ⟨by decide, by decide, rfl⟩ (As := [kI i2]) rfl (st := [kA r1, kA a1]) rfl (Nat.le_of_ble_eq_true rfl) (by decide) (by decide) kw_qV (fun _ => ?_)
  refine kw_callVX (pc := 12) B dX18_does_12 (ci := 1) rfl (xq := Sum.inl) (fun _ => rfl) kw_noh (ct_X1_adds_2 a1 r1) q1505 q1506 q1507 q74 q1508 ⟨by decide, by decide, rfl⟩ (As := [kA r1]) rfl (st := []) rfl (Nat.le_of_ble_eq_true rfl) (by decide) (by decide) kw_qI (fun i3 => ?_)
  exact kw_iret B dX18_does_15 rfl
theorem ct_X18_does (a0 : Option Nat) (a1 : Option Nat) (l : Launch) : kw_Met l yX18_does (ws_ yX18_does cX18_does 2 (some .int)) 8 192 [kA a0, kA a1] (kw_x kw_eI) (pm_X18_does a0 a1) := kw_met (plainFor_of_name rfl) (Nat.le_of_ble_eq_true rfl) (fun E B => wm_X18_does B a0 a1) l

/-! RosaryCarvers$Shop lensOf (I)I -/
theorem fl_X1_142 : kw_flN RX1 142 "RosaryCarvers$Lens" "RosaryCarvers" [(6, 1)] := (kw_flN_c (C := RX7) (T := TX7) (N := 2) rfl (by decide) in_X7 q672 (Or.inl rfl) kw_flN_nil)
theorem wb_X1_lensOf_2 {E : kw_E} (B : kw_ok E cX1_lensOf RX1 "lensOf" 3 (some .int) 4 64 [])  : ∀ (n : Nat) (x0 : Option Nat) (x1 : Int32) (x2 : Int32), kw_W E kw_eI 2 [(0, kA x0), (1, kI x1), (2, kI x2)] [] (pb_X1_lensOf_2  n x0 x1 x2) := by
  intro n
  induction n with
  | zero =>
    intro x0 x1 x2
    exact kw_fail_ok
  | succ n ih =>
    intro x0 x1 x2
    show kw_W E kw_eI 2 [(0, kA x0), (1, kI x1), (2, kI x2)] [] (
km_bind (km_gR [(1, 1)] x0) fun r1 =>
km_bind (km_is 30 r1) fun _ => km_bind (pm_J2_size r1) fun i2 =>
if i2 ≤ x2 then
(km_pure (-6 : Int32))
else
(km_bind (km_gR [(1, 1)] x0) fun r3 =>
km_bind (km_is 30 r3) fun _ => km_bind (pm_J2_get r3 x2) fun r4 =>
km_bind (km_cast [6] r4) fun _ =>
km_bind (km_gI [(6, 1)] r4) fun i5 =>
if ¬ i5 = x1 then
(pb_X1_lensOf_2 n x0 x1 (x2 + (1 : Int32)))
else
(km_pure x2)))
    refine kw_iload_n (pc := 2) B dX1_lensOf_2 rfl 2 rfl ?_
    refine kw_aload_n (pc := 3) B dX1_lensOf_3 rfl 0 rfl ?_
    refine kw_gR (pc := 4) B dX1_lensOf_4 fl_X1_18 (fun r1 => ?_)
    refine kw_callV (pc := 7) B dX1_lensOf_7 (ci := 30) rfl (ct_J2_size r1) q792 q406 q407 q77 q408 ⟨by decide, by decide, rfl⟩ (As := []) rfl (st := [kI x2]) rfl (Nat.le_of_ble_eq_true rfl) (by decide) (by decide) kw_qI (fun i2 => ?_)
    refine kw_icmp_ge (pc := 10) (tgt := 39) B dX1_lensOf_10 rfl ?_ ?_
    · refine kw_bipush (pc := 39) B dX1_lensOf_39 (v := (-6 : Int32)) rfl ?_
      exact kw_iret B dX1_lensOf_41 rfl
    · refine kw_aload_n (pc := 13) B dX1_lensOf_13 rfl 0 rfl ?_
      refine kw_gR (pc := 14) B dX1_lensOf_14 fl_X1_18 (fun r3 => ?_)
      refine kw_iload_n (pc := 17) B dX1_lensOf_17 rfl 2 rfl ?_
      refine kw_callV (pc := 18) B dX1_lensOf_18 (ci := 30) rfl (ct_J2_get r3 x2) q868 q503 q504 q77 q505 ⟨by decide, by decide, rfl⟩ (As := [kI x2]) rfl (st := []) rfl (Nat.le_of_ble_eq_true rfl) (by decide) (by decide) kw_qA (fun r4 => ?_)
      refine kw_cast_ok (pc := 21) B dX1_lensOf_21 q659 cs_RosaryCarvers_Lens ?_
      refine kw_gIN (pc := 24) B dX1_lensOf_24 fl_X1_142 (fun i5 => ?_)
      refine kw_iload_n (pc := 27) B dX1_lensOf_27 rfl 1 rfl ?_
      refine kw_icmp_ne (pc := 28) (tgt := 33) B dX1_lensOf_28 rfl ?_ ?_
      · refine kw_iinc (pc := 33) B dX1_lensOf_33 2 rfl (w := x2 + (1 : Int32)) rfl (by decide) (L2 := [(2, kI (x2 + (1 : Int32))), (0, kA x0), (1, kI x1)]) rfl ?_
        refine kw_goto (pc := 36) (tgt := 2) B dX1_lensOf_36 rfl ?_
        exact kw_pick [1, 2, 0] rfl (ih x0 x1 (x2 + (1 : Int32)))
      · refine kw_iload_n (pc := 31) B dX1_lensOf_31 rfl 2 rfl ?_
        exact kw_iret B dX1_lensOf_32 rfl
theorem wm_X1_lensOf {E : kw_E} (B : kw_ok E cX1_lensOf RX1 "lensOf" 3 (some .int) 4 64 []) (a0 : Option Nat) (a1 : Int32) : kw_W E kw_eI 0 [(0, kA a0), (1, kI a1)] [] (pm_X1_lensOf a0 a1) := by
  unfold pm_X1_lensOf
  refine kw_iconst (pc := 0) B dX1_lensOf_0 (v := (0 : Int32)) rfl ?_
  refine kw_istore_n (pc := 1) B dX1_lensOf_1 rfl (by decide) (L2 := [(2, kI (0 : Int32)), (0, kA a0), (1, kI a1)]) rfl ?_
  exact kw_pick [1, 2, 0] rfl (wb_X1_lensOf_2 B km_fuel a0 a1 (0 : Int32))
theorem ct_X1_lensOf (a0 : Option Nat) (a1 : Int32) (l : Launch) : kw_Met l yX1_lensOf (ws_ yX1_lensOf cX1_lensOf 3 (some .int)) 4 64 [kA a0, kI a1] kw_eI (pm_X1_lensOf a0 a1) := kw_met (plainFor_of_name rfl) (Nat.le_of_ble_eq_true rfl) (fun E B => wm_X1_lensOf B a0 a1) l

/-! RosaryCarvers$Shop gives (II)I -/
theorem fp_X1_142 : kw_fp RX1 .int false [(6, 1)] := (kw_fp_c (C := RX7) (T := TX7) (N := 2) (ty0 := tyX7) rfl tyX7_ok nmX7 rfl (fun h => by cases h) (by decide) rfl kw_fp_nil)
theorem wb_X1_gives_52 {E : kw_E} (B : kw_ok E cX1_gives RX1 "gives" 5 (some .int) 5 86 [])  (x2 : Int32) (x3 : Option Nat) (x4 : Int32) : kw_W E kw_eI 52 [(2, kI x2), (3, kA x3), (4, kI x4)] [] (pb_X1_gives_52  x2 x3 x4) := by
  unfold pb_X1_gives_52
  refine kw_aload_n (pc := 52) B dX1_gives_52 rfl 1 rfl ?_
  refine kw_iload_n (pc := 53) B dX1_gives_53 rfl 0 rfl ?_
  refine kw_pIN (pc := 54) B dX1_gives_54 fl_X1_142 fp_X1_142 ?_
  refine kw_iload (pc := 57) B dX1_gives_57 2 rfl ?_
  refine kw_iconst (pc := 59) B dX1_gives_59 (v := (-1 : Int32)) rfl ?_
  refine kw_icmp_ne (pc := 60) (tgt := 68) B dX1_gives_60 rfl ?_ ?_
  · refine kw_iload (pc := 68) B dX1_gives_68 2 rfl ?_
    exact kw_iret B dX1_gives_70 rfl
  · refine kw_bipush (pc := 63) B dX1_gives_63 (v := (-6 : Int32)) rfl ?_
    refine kw_goto (pc := 65) (tgt := 70) B dX1_gives_65 rfl ?_
    exact kw_iret B dX1_gives_70 rfl
theorem wm_X1_gives {E : kw_E} (B : kw_ok E cX1_gives RX1 "gives" 5 (some .int) 5 86 []) (a0 : Option Nat) (a1 : Int32) (a2 : Int32) : kw_W E kw_eI 0 [(0, kA a0), (1, kI a1), (2, kI a2)] [] (pm_X1_gives a0 a1 a2) := by
  unfold pm_X1_gives
  refine kw_aload_n (pc := 0) B dX1_gives_0 rfl 0 rfl ?_
  refine kw_gR (pc := 1) B dX1_gives_1 fl_X1_18 (fun r1 => ?_)
  refine kw_iload_n (pc := 4) B dX1_gives_4 rfl 1 rfl ?_
  refine kw_callV (pc := 5) B dX1_gives_5 (ci := 30) rfl (ct_J2_get r1 a1) q868 q503 q504 q77 q505 ⟨by decide, by decide, rfl⟩ (As := [kI a1]) rfl (st := []) rfl (Nat.le_of_ble_eq_true rfl) (by decide) (by decide) kw_qA (fun r2 => ?_)
  refine kw_cast_ok (pc := 8) B dX1_gives_8 q659 cs_RosaryCarvers_Lens ?_
  refine kw_astore_n (pc := 11) B dX1_gives_11 rfl (by decide) (L2 := [(3, kA r2), (0, kA a0), (1, kI a1), (2, kI a2)]) rfl ?_
  refine kw_aload_n (pc := 12) B dX1_gives_12 rfl 0 rfl ?_
  refine kw_gIN (pc := 13) B dX1_gives_13 fl_X1_142 (fun i3 => ?_)
  refine kw_istore (pc := 16) B dX1_gives_16 (by decide) (L2 := [(4, kI i3), (3, kA r2), (0, kA a0), (1, kI a1), (2, kI a2)]) rfl ?_
  refine kw_iload_n (pc := 18) B dX1_gives_18 rfl 4 rfl ?_
  refine kw_iconst (pc := 19) B dX1_gives_19 (v := (-1 : Int32)) rfl ?_
  refine kw_icmp_eq (pc := 20) (tgt := 52) B dX1_gives_20 rfl ?_ ?_
  · exact kw_pick [4, 1, 0] rfl (wb_X1_gives_52 B a2 r2 i3)
  · refine kw_aload_n (pc := 23) B dX1_gives_23 rfl 2 rfl ?_
    refine kw_iload_n (pc := 24) B dX1_gives_24 rfl 4 rfl ?_
    refine kw_callV (pc := 25) B dX1_gives_25 (ci := 1) rfl (ct_X1_lensOf a0 a2) q1398 q1399 q1400 q74 q1401 ⟨by decide, by decide, rfl⟩ (As := [kI a2]) rfl (st := []) rfl (Nat.le_of_ble_eq_true rfl) (by decide) (by decide) kw_qI (fun i4 => ?_)
    refine kw_bipush (pc := 28) B dX1_gives_28 (v := (-6 : Int32)) rfl ?_
    refine kw_icmp_eq (pc := 30) (tgt := 52) B dX1_gives_30 rfl ?_ ?_
    · exact kw_pick [4, 1, 0] rfl (wb_X1_gives_52 B a2 r2 i3)
    · refine kw_aload_n (pc := 33) B dX1_gives_33 rfl 2 rfl ?_
      refine kw_gR (pc := 34) B dX1_gives_34 fl_X1_18 (fun r5 => ?_)
      refine kw_aload_n (pc := 37) B dX1_gives_37 rfl 2 rfl ?_
      refine kw_iload_n (pc := 38) B dX1_gives_38 rfl 4 rfl ?_
      refine kw_callV (pc := 39) B dX1_gives_39 (ci := 1) rfl (ct_X1_lensOf a0 a2) q1398 q1399 q1400 q74 q1401 ⟨by decide, by decide, rfl⟩ (As := [kI a2]) rfl (st := [kA r5]) rfl (Nat.le_of_ble_eq_true rfl) (by decide) (by decide) kw_qI (fun i6 => ?_)
      refine kw_callV (pc := 42) B dX1_gives_42 (ci := 30) rfl (ct_J2_get r5 i6) q868 q503 q504 q77 q505 ⟨by decide, by decide, rfl⟩ (As := [kI i6]) rfl (st := []) rfl (Nat.le_of_ble_eq_true rfl) (by decide) (by decide) kw_qA (fun r7 => ?_)
      refine kw_cast_ok (pc := 45) B dX1_gives_45 q659 cs_RosaryCarvers_Lens ?_
      refine kw_iconst (pc := 48) B dX1_gives_48 (v := (-1 : Int32)) rfl ?_
      refine kw_pIN (pc := 49) B dX1_gives_49 fl_X1_142 fp_X1_142 ?_
      exact kw_pick [4, 1, 0] rfl (wb_X1_gives_52 B a2 r2 i3)
theorem ct_X1_gives (a0 : Option Nat) (a1 : Int32) (a2 : Int32) (l : Launch) : kw_Met l yX1_gives (ws_ yX1_gives cX1_gives 5 (some .int)) 5 86 [kA a0, kI a1, kI a2] kw_eI (pm_X1_gives a0 a1 a2) := kw_met (plainFor_of_name rfl) (Nat.le_of_ble_eq_true rfl) (fun E B => wm_X1_gives B a0 a1 a2) l
