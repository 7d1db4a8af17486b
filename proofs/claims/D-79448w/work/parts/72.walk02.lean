set_option maxRecDepth 100000
/-! RosaryCarvers$4 does (LRosaryCarvers$Shop;)I -/
theorem fl_X19_7 : kw_fl RX19 7 "RosaryCarvers$4" [(17, 1)] := (kw_fl_c (C := RX19) (T := TX19) (N := 4) rfl (by decide) in_X19 q1619 (Or.inl rfl) kw_fl_nil)
theorem fl_X19_11 : kw_fl RX19 11 "RosaryCarvers$4" [(17, 2)] := (kw_fl_c (C := RX19) (T := TX19) (N := 4) rfl (by decide) in_X19 q1620 (Or.inl rfl) kw_fl_nil)
theorem wm_X19_does {E : kw_E} (B : kw_ok E cX19_does RX19 "does" 2 (some .int) 6 110 []) (a0 : Option Nat) (a1 : Option Nat) : kw_W E (kw_x kw_eI) 0 [(0, kA a0), (1, kA a1)] [] (pm_X19_does a0 a1) := by
  unfold pm_X19_does
  refine kw_aload_n (pc := 0) B dX19_does_0 rfl 1 rfl ?_
  refine kw_aload_n (pc := 1) B dX19_does_1 rfl 0 rfl ?_
  refine kw_gI (pc := 2) B dX19_does_2 fl_X19_7 (fun i1 => ?_)
  refine kw_aload_n (pc := 5) B dX19_does_5 rfl 0 rfl ?_
  refine kw_gI (pc := 6) B dX19_does_6 fl_X19_11 (fun i2 => ?_)
  refine kw_callV (pc := 9) B dX19_does_9 (ci := 1) rfl (ct_X1_gives a1 i1 i2) q1512 q1513 q1514 q74 q1515 ⟨by decide, by decide, rfl⟩ (As := [kI i1, kI i2]) rfl (st := []) rfl (Nat.le_of_ble_eq_true rfl) (by decide) (by decide) kw_qI (fun i3 => ?_)
  exact kw_iret B dX19_does_12 rfl
theorem ct_X19_does (a0 : Option Nat) (a1 : Option Nat) (l : Launch) : kw_Met l yX19_does (ws_ yX19_does cX19_does 2 (some .int)) 6 110 [kA a0, kA a1] (kw_x kw_eI) (pm_X19_does a0 a1) := kw_met (plainFor_of_name rfl) (Nat.le_of_ble_eq_true rfl) (fun E B => wm_X19_does B a0 a1) l

/-! RosaryCarvers$Beads size ()I -/

theorem wm_X2_size {E : kw_E} (B : kw_ok E cX2_size RX2 "size" 1 (some .int) 2 20 []) (a0 : Option Nat) : kw_W E kw_eI 0 [(0, kA a0)] [] (pm_X2_size a0) := by
  unfold pm_X2_size
  refine kw_aload_n (pc := 0) B dX2_size_0 rfl 0 rfl ?_
  refine kw_gR (pc := 1) B dX2_size_1 fl_X2_10 (fun r1 => ?_)
  refine kw_callV (pc := 4) B dX2_size_4 (ci := 30) rfl (ct_J2_size r1) q1110 q406 q407 q77 q408 ⟨by decide, by decide, rfl⟩ (As := []) rfl (st := []) rfl (Nat.le_of_ble_eq_true rfl) (by decide) (by decide) kw_qI (fun i2 => ?_)
  exact kw_iret B dX2_size_7 rfl
theorem ct_X2_size (a0 : Option Nat) (l : Launch) : kw_Met l yX2_size (ws_ yX2_size cX2_size 1 (some .int)) 2 20 [kA a0] kw_eI (pm_X2_size a0) := kw_met (plainFor_of_name rfl) (Nat.le_of_ble_eq_true rfl) (fun E B => wm_X2_size B a0) l

/-! RosaryCarvers$Shop sight (I)I -/
theorem fl_X1_149 : kw_flN RX1 149 "RosaryCarvers$Carver" "RosaryCarvers" [(5, 0)] := (kw_flN_c (C := RX6) (T := TX6) (N := 4) rfl (by decide) in_X6 q552 (Or.inl rfl) kw_flN_nil)
theorem fl_X1_152 : kw_flN RX1 152 "RosaryCarvers$Lens" "RosaryCarvers" [(6, 0)] := (kw_flN_c (C := RX7) (T := TX7) (N := 2) rfl (by decide) in_X7 q669 (Or.inl rfl) kw_flN_nil)
theorem fl_X1_155 : kw_flN RX1 155 "RosaryCarvers$Carver" "RosaryCarvers" [(5, 1)] := (kw_flN_c (C := RX6) (T := TX6) (N := 4) rfl (by decide) in_X6 q555 (Or.inl rfl) kw_flN_nil)
theorem wb_X1_sight_46 {E : kw_E} (B : kw_ok E cX1_sight RX1 "sight" 4 (some .int) 5 86 [])  (x2 : Option Nat) (s0 : Int32) (s1 : Int32) : kw_W E kw_eI 46 [(2, kA x2)] [kI s0, kI s1] (pb_X1_sight_46  x2 s0 s1) := by
  unfold pb_X1_sight_46
  refine kw_iadd (pc := 46) B dX1_sight_46 ?_
  refine kw_aload_n (pc := 47) B dX1_sight_47 rfl 0 rfl ?_
  refine kw_gIN (pc := 48) B dX1_sight_48 fl_X1_155 (fun i1 => ?_)
  refine kw_bipush (pc := 51) B dX1_sight_51 (v := (10 : Int32)) rfl ?_
  refine kw_idiv (pc := 53) B dX1_sight_53 (fun i2 => ?_)
  refine kw_isub (pc := 54) B dX1_sight_54 ?_
  exact kw_iret B dX1_sight_55 rfl
theorem wm_X1_sight {E : kw_E} (B : kw_ok E cX1_sight RX1 "sight" 4 (some .int) 5 86 []) (a0 : Option Nat) (a1 : Int32) : kw_W E kw_eI 0 [(0, kA a0), (1, kI a1)] [] (pm_X1_sight a0 a1) := by
  unfold pm_X1_sight
  refine kw_aload_n (pc := 0) B dX1_sight_0 rfl 0 rfl ?_
  refine kw_gR (pc := 1) B dX1_sight_1 fl_X1_12 (fun r1 => ?_)
  refine kw_iload_n (pc := 4) B dX1_sight_4 rfl 1 rfl ?_
  refine kw_callV (pc := 5) B dX1_sight_5 (ci := 30) rfl (ct_J2_get r1 a1) q868 q503 q504 q77 q505 ⟨by decide, by decide, rfl⟩ (As := [kI a1]) rfl (st := []) rfl (Nat.le_of_ble_eq_true rfl) (by decide) (by decide) kw_qA (fun r2 => ?_)
  refine kw_cast_ok (pc := 8) B dX1_sight_8 q542 cs_RosaryCarvers_Carver ?_
  refine kw_astore_n (pc := 11) B dX1_sight_11 rfl (by decide) (L2 := [(2, kA r2), (0, kA a0), (1, kI a1)]) rfl ?_
  refine kw_aload_n (pc := 12) B dX1_sight_12 rfl 1 rfl ?_
  refine kw_iload_n (pc := 13) B dX1_sight_13 rfl 2 rfl ?_
  refine kw_callV (pc := 14) B dX1_sight_14 (ci := 1) rfl (ct_X1_lensOf a0 a1) q1398 q1399 q1400 q74 q1401 ⟨by decide, by decide, rfl⟩ (As := [kI a1]) rfl (st := []) rfl (Nat.le_of_ble_eq_true rfl) (by decide) (by decide) kw_qI (fun i3 => ?_)
  refine kw_istore_n (pc := 17) B dX1_sight_17 rfl (by decide) (L2 := [(3, kI i3), (2, kA r2), (0, kA a0), (1, kI a1)]) rfl ?_
  refine kw_aload_n (pc := 18) B dX1_sight_18 rfl 1 rfl ?_
  refine kw_gIN (pc := 19) B dX1_sight_19 fl_X1_149 (fun i4 => ?_)
  refine kw_iload_n (pc := 22) B dX1_sight_22 rfl 0 rfl ?_
  refine kw_bipush (pc := 23) B dX1_sight_23 (v := (-6 : Int32)) rfl ?_
  refine kw_icmp_ne (pc := 25) (tgt := 32) B dX1_sight_25 rfl ?_ ?_
  · refine kw_aload_n (pc := 32) B dX1_sight_32 rfl 2 rfl ?_
    refine kw_gR (pc := 33) B dX1_sight_33 fl_X1_18 (fun r5 => ?_)
    refine kw_iload_n (pc := 36) B dX1_sight_36 rfl 0 rfl ?_
    refine kw_callV (pc := 37) B dX1_sight_37 (ci := 30) rfl (ct_J2_get r5 i3) q868 q503 q504 q77 q505 ⟨by decide, by decide, rfl⟩ (As := [kI i3]) rfl (st := [kI i4]) rfl (Nat.le_of_ble_eq_true rfl) (by decide) (by decide) kw_qA (fun r6 => ?_)
    refine kw_cast_ok (pc := 40) B dX1_sight_40 q659 cs_RosaryCarvers_Lens ?_
    refine kw_gIN (pc := 43) B dX1_sight_43 fl_X1_152 (fun i7 => ?_)
    exact kw_pick [1] rfl (wb_X1_sight_46 B r2 i7 i4)
  · refine kw_iconst (pc := 28) B dX1_sight_28 (v := (0 : Int32)) rfl ?_
    refine kw_goto (pc := 29) (tgt := 46) B dX1_sight_29 rfl ?_
    exact kw_pick [1] rfl (wb_X1_sight_46 B r2 (0 : Int32) i4)
theorem ct_X1_sight (a0 : Option Nat) (a1 : Int32) (l : Launch) : kw_Met l yX1_sight (ws_ yX1_sight cX1_sight 4 (some .int)) 5 86 [kA a0, kI a1] kw_eI (pm_X1_sight a0 a1) := kw_met (plainFor_of_name rfl) (Nat.le_of_ble_eq_true rfl) (fun E B => wm_X1_sight B a0 a1) l

/-! RosaryCarvers$Bead <init> (IZI)V -/
theorem fl_X16_7 : kw_fl RX16 7 "RosaryCarvers$Bead" [(14, 0)] := (kw_fl_c (C := RX16) (T := TX16) (N := 3) rfl (by decide) in_X16 q1407 (Or.inl rfl) kw_fl_nil)
theorem fp_X16_7 : kw_fp RX16 .int true [(14, 0)] := (kw_fp_c (C := RX16) (T := TX16) (N := 3) (ty0 := tyX16) rfl tyX16_ok nmX16 rfl (fun _ => rfl) (by decide) rfl kw_fp_nil)
theorem fl_X16_13 : kw_fl RX16 13 "RosaryCarvers$Bead" [(14, 1)] := (kw_fl_c (C := RX16) (T := TX16) (N := 3) rfl (by decide) in_X16 q1410 (Or.inl rfl) kw_fl_nil)
theorem fp_X16_13 : kw_fp RX16 .boolean true [(14, 1)] := (kw_fp_c (C := RX16) (T := TX16) (N := 3) (ty0 := tyX16) rfl tyX16_ok nmX16 rfl (fun _ => rfl) (by decide) rfl kw_fp_nil)
theorem fl_X16_17 : kw_fl RX16 17 "RosaryCarvers$Bead" [(14, 2)] := (kw_fl_c (C := RX16) (T := TX16) (N := 3) rfl (by decide) in_X16 q1414 (Or.inl rfl) kw_fl_nil)
theorem fp_X16_17 : kw_fp RX16 .int true [(14, 2)] := (kw_fp_c (C := RX16) (T := TX16) (N := 3) (ty0 := tyX16) rfl tyX16_ok nmX16 rfl (fun _ => rfl) (by decide) rfl kw_fp_nil)
theorem wm_X16_init {E : kw_E} (B : kw_ok E cX16_init RX16 "<init>" 4 none 1 24 []) (a0 : Option Nat) (a1 : Int32) (a2 : Int32) (a3 : Int32) : kw_W E kw_eV 0 [(0, kA a0), (1, kI a1), (2, kI a2), (3, kI a3)] [] (pm_X16_init a0 a1 a2 a3) := by
  unfold pm_X16_init
  refine kw_aload_n (pc := 0) B dX16_init_0 rfl 0 rfl ?_
  refine kw_objInit (pc := 1) B dX16_init_1 q1406 q138 q139 (by decide) (Nat.le_of_ble_eq_true rfl) ?_
  refine kw_aload_n (pc := 4) B dX16_init_4 rfl 0 rfl ?_
  refine kw_iload_n (pc := 5) B dX16_init_5 rfl 1 rfl ?_
  refine kw_pI (pc := 6) B dX16_init_6 fl_X16_7 fp_X16_7 (fun _ => rfl) ?_
  refine kw_aload_n (pc := 9) B dX16_init_9 rfl 0 rfl ?_
  refine kw_iload_n (pc := 10) B dX16_init_10 rfl 2 rfl ?_
  refine kw_pI (pc := 11) B dX16_init_11 fl_X16_13 fp_X16_13 (fun _ => rfl) ?_
  refine kw_aload_n (pc := 14) B dX16_init_14 rfl 0 rfl ?_
  refine kw_iload_n (pc := 15) B dX16_init_15 rfl 3 rfl ?_
  refine kw_pI (pc := 16) B dX16_init_16 fl_X16_17 fp_X16_17 (fun _ => rfl) ?_
  exact kw_vret B dX16_init_19 rfl
theorem ct_X16_init (a0 : Option Nat) (a1 : Int32) (a2 : Int32) (a3 : Int32) (l : Launch) : kw_Met l yX16_init (ws_ yX16_init cX16_init 4 none) 1 24 [kA a0, kI a1, kI a2, kI a3] kw_eV (pm_X16_init a0 a1 a2 a3) := kw_met (plainFor_of_name rfl) (Nat.le_of_ble_eq_true rfl) (fun E B => wm_X16_init B a0 a1 a2 a3) l

/-! RosaryCarvers$Beads adds (LRosaryCarvers$Bead;)V -/

theorem wm_X2_adds {E : kw_E} (B : kw_ok E cX2_adds RX2 "adds" 2 none 7 171 []) (a0 : Option Nat) (a1 : Option Nat) : kw_W E kw_eV 0 [(0, kA a0), (1, kA a1)] [] (pm_X2_adds a0 a1) := by
  unfold pm_X2_adds
  refine kw_aload_n (pc := 0) B dX2_adds_0 rfl 0 rfl ?_
  refine kw_gR (pc := 1) B dX2_adds_1 fl_X2_10 (fun r1 => ?_)
  refine kw_aload_n (pc := 4) B dX2_adds_4 rfl 1 rfl ?_
  refine kw_callV (pc := 5) B dX2_adds_5 (ci := 30) rfl (ct_J2_add r1 a1) q1430 q573 q574 q77 q575 ⟨by decide, by decide, rfl⟩ (As := [kA a1]) rfl (st := []) rfl (Nat.le_of_ble_eq_true rfl) (by decide) (by decide) kw_qI (fun i2 => ?_)
  refine kw_pop (pc := 8) B dX2_adds_8 rfl ?_
  exact kw_vret B dX2_adds_9 rfl
theorem ct_X2_adds (a0 : Option Nat) (a1 : Option Nat) (l : Launch) : kw_Met l yX2_adds (ws_ yX2_adds cX2_adds 2 none) 7 171 [kA a0, kA a1] kw_eV (pm_X2_adds a0 a1) := kw_met (plainFor_of_name rfl) (Nat.le_of_ble_eq_true rfl) (fun E B => wm_X2_adds B a0 a1) l

/-! RosaryCarvers$Shop carvesOne (IZ)Z -/
theorem fp_X1_155 : kw_fp RX1 .int false [(5, 1)] := (kw_fp_c (C := RX6) (T := TX6) (N := 4) (ty0 := tyX6) rfl tyX6_ok nmX6 rfl (fun h => by cases h) (by decide) rfl kw_fp_nil)
theorem fl_X1_171 : kw_flN RX1 171 "RosaryCarvers$Carver" "RosaryCarvers" [(5, 3)] := (kw_flN_c (C := RX6) (T := TX6) (N := 4) rfl (by decide) in_X6 q561 (Or.inl rfl) kw_flN_nil)
theorem fp_X1_171 : kw_fp RX1 .int false [(5, 3)] := (kw_fp_c (C := RX6) (T := TX6) (N := 4) (ty0 := tyX6) rfl tyX6_ok nmX6 rfl (fun h => by cases h) (by decide) rfl kw_fp_nil)
theorem fl_X1_170 : kw_flN RX1 170 "RosaryCarvers$Carver" "RosaryCarvers" [(5, 2)] := (kw_flN_c (C := RX6) (T := TX6) (N := 4) rfl (by decide) in_X6 q558 (Or.inl rfl) kw_flN_nil)
theorem fp_X1_170 : kw_fp RX1 .int false [(5, 2)] := (kw_fp_c (C := RX6) (T := TX6) (N := 4) (ty0 := tyX6) rfl tyX6_ok nmX6 rfl (fun h => by cases h) (by decide) rfl kw_fp_nil)
theorem wb_X1_carvesOne_74 {E : kw_E} (B : kw_ok E cX1_carvesOne RX1 "carvesOne" 6 (some .boolean) 8 192 [])  (x0 : Option Nat) (x2 : Int32) (x3 : Option Nat) (x4 : Int32) (x5 : Int32) (s0 : Int32) (s1 : Int32) (s2 : Int32) (s3 : Option Nat) : kw_W E kw_eI 74 [(0, kA x0), (2, kI x2), (3, kA x3), (4, kI x4), (5, kI x5)] [kI s0, kI s1, kI s2, kA s3] (pb_X1_carvesOne_74  x0 x2 x3 x4 x5 s0 s1 s2 s3) := by
  unfold pb_X1_carvesOne_74
  refine kw_iadd (pc := 74) B dX1_carvesOne_74 ?_
  refine kw_mmin (pc := 75) B dX1_carvesOne_75 q784 q652 q93 q653 (by decide) (Nat.le_of_ble_eq_true rfl) ?_
  refine kw_pIN (pc := 78) B dX1_carvesOne_78 fl_X1_155 fp_X1_155 ?_
  refine kw_iload (pc := 81) B dX1_carvesOne_81 4 rfl ?_
  refine kw_if_eq (pc := 83) (tgt := 135) B dX1_carvesOne_83 rfl ?_ ?_
  · refine kw_aload_n (pc := 135) B dX1_carvesOne_135 rfl 0 rfl ?_
    refine kw_dup (pc := 136) B dX1_carvesOne_136 rfl ?_
    refine kw_gI (pc := 137) B dX1_carvesOne_137 fl_X1_102 (fun i2 => ?_)
    refine kw_iconst (pc := 140) B dX1_carvesOne_140 (v := (1 : Int32)) rfl ?_
    refine kw_iadd (pc := 141) B dX1_carvesOne_141 ?_
    refine kw_pI (pc := 142) B dX1_carvesOne_142 fl_X1_102 fp_X1_102 (fun h => by cases h) ?_
    refine kw_aload_n (pc := 145) B dX1_carvesOne_145 rfl 2 rfl ?_
    refine kw_dup (pc := 146) B dX1_carvesOne_146 rfl ?_
    refine kw_gIN (pc := 147) B dX1_carvesOne_147 fl_X1_171 (fun i4 => ?_)
    refine kw_iconst (pc := 150) B dX1_carvesOne_150 (v := (1 : Int32)) rfl ?_
    refine kw_iadd (pc := 151) B dX1_carvesOne_151 ?_
    refine kw_pIN (pc := 152) B dX1_carvesOne_152 fl_X1_171 fp_X1_171 ?_
    refine kw_iload (pc := 155) B dX1_carvesOne_155 4 rfl ?_
    exact kw_zret B dX1_carvesOne_157 (g := fun v => v) (fun _ => rfl)
  · refine kw_aload_n (pc := 86) B dX1_carvesOne_86 rfl 0 rfl ?_
    refine kw_gR (pc := 87) B dX1_carvesOne_87 fl_X1_24 (fun r6 => ?_)
    refine kw_new (pc := 90) B dX1_carvesOne_90 (ci := 14) (N := 3) rfl in_X16 tyX16_ok kz_Bead_ok q1103 q1402 q111 (fun r7 => ?_)
    refine kw_dup (pc := 93) B dX1_carvesOne_93 rfl ?_
    refine kw_aload_n (pc := 94) B dX1_carvesOne_94 rfl 0 rfl ?_
    refine kw_gI (pc := 95) B dX1_carvesOne_95 fl_X1_99 (fun i8 => ?_)
    refine kw_iload_n (pc := 98) B dX1_carvesOne_98 rfl 1 rfl ?_
    refine kw_bipush (pc := 99) B dX1_carvesOne_99 (v := (9 : Int32)) rfl ?_
    refine kw_iload (pc := 101) B dX1_carvesOne_101 3 rfl ?_
    refine kw_mmin (pc := 103) B dX1_carvesOne_103 q784 q652 q93 q653 (by decide) (Nat.le_of_ble_eq_true rfl) ?_
    refine kw_callI (pc := 106) B dX1_carvesOne_106 (ct_X16_init r7 i8 x2 (km_min (9 : Int32) x4)) q1403 q1404 q111 q1405 rfl ⟨by decide, by decide, rfl⟩ (As := [kI i8, kI x2, kI (km_min (9 : Int32) x4)]) rfl (st := [kA r7, kA r6]) rfl (Nat.le_of_ble_eq_true rfl) (by decide) (by decide) kw_qV (fun _ => ?_)
    refine kw_disp (pc := 109) (pc' := 112) (st := []) kw_hV (fun _ => ?_) ?_
    · refine kw_aload_n (pc := 112) B dX1_carvesOne_112 rfl 0 rfl ?_
      refine kw_dup (pc := 113) B dX1_carvesOne_113 rfl ?_
      refine kw_gI (pc := 114) B dX1_carvesOne_114 fl_X1_99 (fun i9 => ?_)
      refine kw_iconst (pc := 117) B dX1_carvesOne_117 (v := (1 : Int32)) rfl ?_
      refine kw_iadd (pc := 118) B dX1_carvesOne_118 ?_
      refine kw_pI (pc := 119) B dX1_carvesOne_119 fl_X1_99 fp_X1_99 (fun h => by cases h) ?_
      refine kw_aload_n (pc := 122) B dX1_carvesOne_122 rfl 2 rfl ?_
      refine kw_dup (pc := 123) B dX1_carvesOne_123 rfl ?_
      refine kw_gIN (pc := 124) B dX1_carvesOne_124 fl_X1_170 (fun i11 => ?_)
      refine kw_iconst (pc := 127) B dX1_carvesOne_127 (v := (1 : Int32)) rfl ?_
      refine kw_iadd (pc := 128) B dX1_carvesOne_128 ?_
      refine kw_pIN (pc := 129) B dX1_carvesOne_129 fl_X1_170 fp_X1_170 ?_
      refine kw_goto (pc := 132) (tgt := 155) B dX1_carvesOne_132 rfl ?_
      refine kw_iload (pc := 155) B dX1_carvesOne_155 4 rfl ?_
      exact kw_zret B dX1_carvesOne_157 (g := fun v => v) (fun _ => rfl)
    · intro q hq hk
      simp only [List.mem_cons, List.not_mem_nil, or_false] at hq
      rcases hq with rfl | rfl | rfl
      · exact kw_callV (pc := 109) B dX1_carvesOne_109 (ci := 2) rfl (ct_X2_adds r6 r7) q1423 q1424 q1425 q78 q1429 ⟨by decide, by decide, rfl⟩ (As := [kA r7]) rfl (st := []) rfl (Nat.le_of_ble_eq_true rfl) (by decide) (by decide) kw_qV hk
      · exact kw_callV (pc := 109) B dX1_carvesOne_109 (ci := 7) rfl (ct_X2_adds r6 r7) q1423 q1424 q1427 q78 q1429 ⟨by decide, by decide, rfl⟩ (As := [kA r7]) rfl (st := []) rfl (Nat.le_of_ble_eq_true rfl) (by decide) (by decide) kw_qV hk
      · exact kw_callV (pc := 109) B dX1_carvesOne_109 (ci := 12) rfl (ct_X2_adds r6 r7) q1423 q1424 q1428 q78 q1429 ⟨by decide, by decide, rfl⟩ (As := [kA r7]) rfl (st := []) rfl (Nat.le_of_ble_eq_true rfl) (by decide) (by decide) kw_qV hk
theorem wb_X1_carvesOne_54 {E : kw_E} (B : kw_ok E cX1_carvesOne RX1 "carvesOne" 6 (some .boolean) 8 192 [])  (x0 : Option Nat) (x2 : Int32) (x3 : Option Nat) (x4 : Int32) (x5 : Int32) (s0 : Int32) (s1 : Int32) (s2 : Option Nat) : kw_W E kw_eI 54 [(0, kA x0), (2, kI x2), (3, kA x3), (4, kI x4), (5, kI x5)] [kI s0, kI s1, kA s2] (pb_X1_carvesOne_54  x0 x2 x3 x4 x5 s0 s1 s2) := by
  unfold pb_X1_carvesOne_54
  refine kw_isub (pc := 54) B dX1_carvesOne_54 ?_
  refine kw_pI (pc := 55) B dX1_carvesOne_55 fl_X1_96 fp_X1_96 (fun h => by cases h) ?_
  refine kw_aload_n (pc := 58) B dX1_carvesOne_58 rfl 2 rfl ?_
  refine kw_bipush (pc := 59) B dX1_carvesOne_59 (v := (99 : Int32)) rfl ?_
  refine kw_aload_n (pc := 61) B dX1_carvesOne_61 rfl 2 rfl ?_
  refine kw_gIN (pc := 62) B dX1_carvesOne_62 fl_X1_155 (fun i2 => ?_)
  refine kw_iload_n (pc := 65) B dX1_carvesOne_65 rfl 1 rfl ?_
  refine kw_if_eq (pc := 66) (tgt := 73) B dX1_carvesOne_66 rfl ?_ ?_
  · refine kw_iconst (pc := 73) B dX1_carvesOne_73 (v := (3 : Int32)) rfl ?_
    exact kw_pick [0, 1, 2, 3, 4] rfl (wb_X1_carvesOne_74 B x0 x2 x3 x4 x5 (3 : Int32) i2 (99 : Int32) x3)
  · refine kw_iconst (pc := 69) B dX1_carvesOne_69 (v := (2 : Int32)) rfl ?_
    refine kw_goto (pc := 70) (tgt := 74) B dX1_carvesOne_70 rfl ?_
    exact kw_pick [0, 1, 2, 3, 4] rfl (wb_X1_carvesOne_74 B x0 x2 x3 x4 x5 (2 : Int32) i2 (99 : Int32) x3)
theorem wb_X1_carvesOne_38 {E : kw_E} (B : kw_ok E cX1_carvesOne RX1 "carvesOne" 6 (some .boolean) 8 192 [])  (x0 : Option Nat) (x2 : Int32) (x3 : Option Nat) (x4 : Int32) (s0 : Int32) : kw_W E kw_eI 38 [(0, kA x0), (2, kI x2), (3, kA x3), (4, kI x4)] [kI s0] (pb_X1_carvesOne_38  x0 x2 x3 x4 s0) := by
  unfold pb_X1_carvesOne_38
  refine kw_istore (pc := 38) B dX1_carvesOne_38 (by decide) (L2 := [(5, kI s0), (0, kA x0), (2, kI x2), (3, kA x3), (4, kI x4)]) rfl ?_
  refine kw_aload_n (pc := 40) B dX1_carvesOne_40 rfl 1 rfl ?_
  refine kw_dup (pc := 41) B dX1_carvesOne_41 rfl ?_
  refine kw_gI (pc := 42) B dX1_carvesOne_42 fl_X1_96 (fun i1 => ?_)
  refine kw_iload_n (pc := 45) B dX1_carvesOne_45 rfl 2 rfl ?_
  refine kw_if_eq (pc := 46) (tgt := 53) B dX1_carvesOne_46 rfl ?_ ?_
  · refine kw_iconst (pc := 53) B dX1_carvesOne_53 (v := (1 : Int32)) rfl ?_
    exact kw_pick [1, 2, 3, 4, 0] rfl (wb_X1_carvesOne_54 B x0 x2 x3 x4 s0 (1 : Int32) i1 x0)
  · refine kw_iconst (pc := 49) B dX1_carvesOne_49 (v := (2 : Int32)) rfl ?_
    refine kw_goto (pc := 50) (tgt := 54) B dX1_carvesOne_50 rfl ?_
    exact kw_pick [1, 2, 3, 4, 0] rfl (wb_X1_carvesOne_54 B x0 x2 x3 x4 s0 (2 : Int32) i1 x0)
theorem wb_X1_carvesOne_30 {E : kw_E} (B : kw_ok E cX1_carvesOne RX1 "carvesOne" 6 (some .boolean) 8 192 [])  (x0 : Option Nat) (x2 : Int32) (x3 : Option Nat) (x4 : Int32) (s0 : Int32) (s1 : Int32) : kw_W E kw_eI 30 [(0, kA x0), (2, kI x2), (3, kA x3), (4, kI x4)] [kI s0, kI s1] (pb_X1_carvesOne_30  x0 x2 x3 x4 s0 s1) := by
  unfold pb_X1_carvesOne_30
  refine kw_icmp_lt (pc := 30) (tgt := 37) B dX1_carvesOne_30 rfl ?_ ?_
  · refine kw_iconst (pc := 37) B dX1_carvesOne_37 (v := (0 : Int32)) rfl ?_
    exact kw_pick [0, 1, 2, 3] rfl (wb_X1_carvesOne_38 B x0 x2 x3 x4 (0 : Int32))
  · refine kw_iconst (pc := 33) B dX1_carvesOne_33 (v := (1 : Int32)) rfl ?_
    refine kw_goto (pc := 34) (tgt := 38) B dX1_carvesOne_34 rfl ?_
    exact kw_pick [0, 1, 2, 3] rfl (wb_X1_carvesOne_38 B x0 x2 x3 x4 (1 : Int32))
theorem wm_X1_carvesOne {E : kw_E} (B : kw_ok E cX1_carvesOne RX1 "carvesOne" 6 (some .boolean) 8 192 []) (a0 : Option Nat) (a1 : Int32) (a2 : Int32) : kw_W E kw_eI 0 [(0, kA a0), (1, kI a1), (2, kI a2)] [] (pm_X1_carvesOne a0 a1 a2) := by
  unfold pm_X1_carvesOne
  refine kw_aload_n (pc := 0) B dX1_carvesOne_0 rfl 0 rfl ?_
  refine kw_gR (pc := 1) B dX1_carvesOne_1 fl_X1_12 (fun r1 => ?_)
  refine kw_iload_n (pc := 4) B dX1_carvesOne_4 rfl 1 rfl ?_
  refine kw_callV (pc := 5) B dX1_carvesOne_5 (ci := 30) rfl (ct_J2_get r1 a1) q868 q503 q504 q77 q505 ⟨by decide, by decide, rfl⟩ (As := [kI a1]) rfl (st := []) rfl (Nat.le_of_ble_eq_true rfl) (by decide) (by decide) kw_qA (fun r2 => ?_)
  refine kw_cast_ok (pc := 8) B dX1_carvesOne_8 q542 cs_RosaryCarvers_Carver ?_
  refine kw_astore_n (pc := 11) B dX1_carvesOne_11 rfl (by decide) (L2 := [(3, kA r2), (0, kA a0), (1, kI a1), (2, kI a2)]) rfl ?_
  refine kw_aload_n (pc := 12) B dX1_carvesOne_12 rfl 1 rfl ?_
  refine kw_iload_n (pc := 13) B dX1_carvesOne_13 rfl 2 rfl ?_
  refine kw_callV (pc := 14) B dX1_carvesOne_14 (ci := 1) rfl (ct_X1_sight a0 a1) q1394 q1395 q1396 q74 q1397 ⟨by decide, by decide, rfl⟩ (As := [kI a1]) rfl (st := []) rfl (Nat.le_of_ble_eq_true rfl) (by decide) (by decide) kw_qI (fun i3 => ?_)
  refine kw_istore (pc := 17) B dX1_carvesOne_17 (by decide) (L2 := [(4, kI i3), (3, kA r2), (0, kA a0), (1, kI a1), (2, kI a2)]) rfl ?_
  refine kw_iload (pc := 19) B dX1_carvesOne_19 0 rfl ?_
  refine kw_iload_n (pc := 21) B dX1_carvesOne_21 rfl 4 rfl ?_
  refine kw_if_eq (pc := 22) (tgt := 29) B dX1_carvesOne_22 rfl ?_ ?_
  · refine kw_iconst (pc := 29) B dX1_carvesOne_29 (v := (4 : Int32)) rfl ?_
    exact kw_pick [2, 4, 1, 0] rfl (wb_X1_carvesOne_30 B a0 a2 r2 i3 (4 : Int32) i3)
  · refine kw_iconst (pc := 25) B dX1_carvesOne_25 (v := (2 : Int32)) rfl ?_
    refine kw_goto (pc := 26) (tgt := 30) B dX1_carvesOne_26 rfl ?_
    exact kw_pick [2, 4, 1, 0] rfl (wb_X1_carvesOne_30 B a0 a2 r2 i3 (2 : Int32) i3)
theorem ct_X1_carvesOne (a0 : Option Nat) (a1 : Int32) (a2 : Int32) (l : Launch) : kw_Met l yX1_carvesOne (ws_ yX1_carvesOne cX1_carvesOne 6 (some .boolean)) 8 192 [kA a0, kI a1, kI a2] kw_eI (pm_X1_carvesOne a0 a1 a2) := kw_met (plainFor_of_name rfl) (Nat.le_of_ble_eq_true rfl) (fun E B => wm_X1_carvesOne B a0 a1 a2) l

/-! RosaryCarvers bit (Z)I -/

theorem wm_X0_bit {E : kw_E} (B : kw_ok E cX0_bit RX0 "bit" 1 (some .int) 1 0 []) (a0 : Int32) : kw_W E kw_eI 0 [(0, kI a0)] [] (pm_X0_bit a0) := by
  unfold pm_X0_bit
  refine kw_iload_n (pc := 0) B dX0_bit_0 rfl 0 rfl ?_
  refine kw_if_eq (pc := 1) (tgt := 8) B dX0_bit_1 rfl ?_ ?_
  · refine kw_iconst (pc := 8) B dX0_bit_8 (v := (0 : Int32)) rfl ?_
    exact kw_iret B dX0_bit_9 rfl
  · refine kw_iconst (pc := 4) B dX0_bit_4 (v := (1 : Int32)) rfl ?_
    refine kw_goto (pc := 5) (tgt := 9) B dX0_bit_5 rfl ?_
    exact kw_iret B dX0_bit_9 rfl
theorem ct_X0_bit (a0 : Int32) (l : Launch) : kw_Met l yX0_bit (ws_ yX0_bit cX0_bit 1 (some .int)) 1 0 [kI a0] kw_eI (pm_X0_bit a0) := kw_met (plainFor_of_name rfl) (Nat.le_of_ble_eq_true rfl) (fun E B => wm_X0_bit B a0) l

/-! RosaryCarvers$Shop carves (IZI)I -/

theorem wb_X1_carves_102 {E : kw_E} (B : kw_ok E cX1_carves RX1 "carves" 8 (some .int) 9 217 [])  : ∀ (n : Nat) (x0 : Option Nat) (x1 : Int32) (x2 : Int32) (x3 : Int32) (x6 : Int32) (x7 : Int32), kw_W E (kw_x kw_eI) 102 [(0, kA x0), (1, kI x1), (2, kI x2), (3, kI x3), (6, kI x6), (7, kI x7)] [] (pb_X1_carves_102  n x0 x1 x2 x3 x6 x7) := by
  intro n
  induction n with
  | zero =>
    intro x0 x1 x2 x3 x6 x7
    exact kw_fail_ok
  | succ n ih =>
    intro x0 x1 x2 x3 x6 x7
    show kw_W E (kw_x kw_eI) 102 [(0, kA x0), (1, kI x1), (2, kI x2), (3, kI x3), (6, kI x6), (7, kI x7)] [] (
if x3 ≤ x7 then
(km_pure (Sum.inr x6))
else
(km_bind (km_is 1 x0) fun _ => km_bind (pm_X1_carvesOne x0 x1 x2) fun i1 =>
km_bind (pm_X0_bit i1) fun i2 =>
pb_X1_carves_102 n x0 x1 x2 x3 (x6 + i2) (x7 + (1 : Int32))))
    refine kw_iload (pc := 102) B dX1_carves_102 5 rfl ?_
    refine kw_iload_n (pc := 104) B dX1_carves_104 rfl 3 rfl ?_
    refine kw_icmp_ge (pc := 105) (tgt := 128) B dX1_carves_105 rfl ?_ ?_
    · refine kw_iload (pc := 128) B dX1_carves_128 4 rfl ?_
      exact kw_iret B dX1_carves_130 rfl
    · refine kw_iload (pc := 108) B dX1_carves_108 4 rfl ?_
      refine kw_aload_n (pc := 110) B dX1_carves_110 rfl 0 rfl ?_
      refine kw_iload_n (pc := 111) B dX1_carves_111 rfl 1 rfl ?_
      refine kw_iload_n (pc := 112) B dX1_carves_112 rfl 2 rfl ?_
      refine kw_callV (pc := 113) B dX1_carves_113 (ci := 1) rfl (ct_X1_carvesOne x0 x1 x2) q1390 q1392 qs15 q74 q1393 ⟨by decide, by decide, rfl⟩ (As := [kI x1, kI x2]) rfl (st := [kI x6]) rfl (Nat.le_of_ble_eq_true rfl) (by decide) (by decide) kw_qI (fun i1 => ?_)
      refine kw_callSN (pc := 116) B dX1_carves_116 (ct_X0_bit i1) q1006 q1007 q73 q1008 ⟨by decide, by decide, rfl⟩ (As := [kI i1]) rfl (st := [kI x6]) rfl (Nat.le_of_ble_eq_true rfl) (by decide) (by decide) kw_qI (fun i2 => ?_)
      refine kw_iadd (pc := 119) B dX1_carves_119 ?_
      refine kw_istore (pc := 120) B dX1_carves_120 (by decide) (L2 := [(6, kI (x6 + i2)), (0, kA x0), (1, kI x1), (2, kI x2), (3, kI x3), (7, kI x7)]) rfl ?_
      refine kw_iinc (pc := 122) B dX1_carves_122 5 rfl (w := x7 + (1 : Int32)) rfl (by decide) (L2 := [(7, kI (x7 + (1 : Int32))), (6, kI (x6 + i2)), (0, kA x0), (1, kI x1), (2, kI x2), (3, kI x3)]) rfl ?_
      refine kw_goto (pc := 125) (tgt := 102) B dX1_carves_125 rfl ?_
      exact kw_pick [2, 3, 4, 5, 1, 0] rfl (ih x0 x1 x2 x3 (x6 + i2) (x7 + (1 : Int32)))
theorem wb_X1_carves_90 {E : kw_E} (B : kw_ok E cX1_carves RX1 "carves" 8 (some .int) 9 217 [])  (x0 : Option Nat) (x1 : Int32) (x2 : Int32) (x3 : Int32) (s0 : Int32) : kw_W E (kw_x kw_eI) 90 [(0, kA x0), (1, kI x1), (2, kI x2), (3, kI x3)] [kI s0] (pb_X1_carves_90  x0 x1 x2 x3 s0) := by
  unfold pb_X1_carves_90
  refine kw_iconst (pc := 90) B dX1_carves_90 (v := (1 : Int32)) rfl ?_
  refine kw_bipush (pc := 91) B dX1_carves_91 (v := (60 : Int32)) rfl ?_
  refine kw_callSNX (pc := 93) B dX1_carves_93 (xq := Sum.inl) (fun _ => rfl) kw_noh (ct_X0_needs s0 (1 : Int32) (60 : Int32)) q793 q794 q73 q795 ⟨by decide, by decide, rfl⟩ (As := [kI s0, kI (1 : Int32), kI (60 : Int32)]) rfl (st := []) rfl (Nat.le_of_ble_eq_true rfl) (by decide) (by decide) kw_qV (fun _ => ?_)
  refine kw_iconst (pc := 96) B dX1_carves_96 (v := (0 : Int32)) rfl ?_
  refine kw_istore (pc := 97) B dX1_carves_97 (by decide) (L2 := [(6, kI (0 : Int32)), (0, kA x0), (1, kI x1), (2, kI x2), (3, kI x3)]) rfl ?_
  refine kw_iconst (pc := 99) B dX1_carves_99 (v := (0 : Int32)) rfl ?_
  refine kw_istore (pc := 100) B dX1_carves_100 (by decide) (L2 := [(7, kI (0 : Int32)), (6, kI (0 : Int32)), (0, kA x0), (1, kI x1), (2, kI x2), (3, kI x3)]) rfl ?_
  exact kw_pick [2, 3, 4, 5, 1, 0] rfl (wb_X1_carves_102 B km_fuel x0 x1 x2 x3 (0 : Int32) (0 : Int32))
theorem wb_X1_carves_65 {E : kw_E} (B : kw_ok E cX1_carves RX1 "carves" 8 (some .int) 9 217 [])  (x0 : Option Nat) (x1 : Int32) (x2 : Int32) (x3 : Int32) (x5 : Int32) (s0 : Int32) : kw_W E (kw_x kw_eI) 65 [(0, kA x0), (1, kI x1), (2, kI x2), (3, kI x3), (5, kI x5)] [kI s0] (pb_X1_carves_65  x0 x1 x2 x3 x5 s0) := by
  unfold pb_X1_carves_65
  refine kw_iconst (pc := 65) B dX1_carves_65 (v := (3 : Int32)) rfl ?_
  refine kw_iload (pc := 66) B dX1_carves_66 4 rfl ?_
  refine kw_callSNX (pc := 68) B dX1_carves_68 (xq := Sum.inl) (fun _ => rfl) kw_noh (ct_X0_needs s0 (3 : Int32) x5) q793 q794 q73 q795 ⟨by decide, by decide, rfl⟩ (As := [kI s0, kI (3 : Int32), kI x5]) rfl (st := []) rfl (Nat.le_of_ble_eq_true rfl) (by decide) (by decide) kw_qV (fun _ => ?_)
  refine kw_aload_n (pc := 71) B dX1_carves_71 rfl 0 rfl ?_
  refine kw_gR (pc := 72) B dX1_carves_72 fl_X1_24 (fun r1 => ?_)
  refine kw_disp (pc := 75) (pc' := 78) (st := []) kw_hI (fun i2 => ?_) ?_
  · refine kw_iload_n (pc := 78) B dX1_carves_78 rfl 3 rfl ?_
    refine kw_iadd (pc := 79) B dX1_carves_79 ?_
    refine kw_bipush (pc := 80) B dX1_carves_80 (v := (60 : Int32)) rfl ?_
    refine kw_icmp_gt (pc := 82) (tgt := 89) B dX1_carves_82 rfl ?_ ?_
    · refine kw_iconst (pc := 89) B dX1_carves_89 (v := (0 : Int32)) rfl ?_
      exact kw_pick [0, 1, 2, 3] rfl (wb_X1_carves_90 B x0 x1 x2 x3 (0 : Int32))
    · refine kw_iconst (pc := 85) B dX1_carves_85 (v := (1 : Int32)) rfl ?_
      refine kw_goto (pc := 86) (tgt := 90) B dX1_carves_86 rfl ?_
      exact kw_pick [0, 1, 2, 3] rfl (wb_X1_carves_90 B x0 x1 x2 x3 (1 : Int32))
  · intro q hq hk
    simp only [List.mem_cons, List.not_mem_nil, or_false] at hq
    rcases hq with rfl | rfl | rfl
    · exact kw_callV (pc := 75) B dX1_carves_75 (ci := 2) rfl (ct_X2_size r1) q1389 q1108 q2786 q78 q1109 ⟨by decide, by decide, rfl⟩ (As := []) rfl (st := []) rfl (Nat.le_of_ble_eq_true rfl) (by decide) (by decide) kw_qI hk
    · exact kw_callV (pc := 75) B dX1_carves_75 (ci := 7) rfl (ct_X2_size r1) q1389 q1108 q2787 q78 q1109 ⟨by decide, by decide, rfl⟩ (As := []) rfl (st := []) rfl (Nat.le_of_ble_eq_true rfl) (by decide) (by decide) kw_qI hk
    · exact kw_callV (pc := 75) B dX1_carves_75 (ci := 12) rfl (ct_X2_size r1) q1389 q1108 q2788 q78 q1109 ⟨by decide, by decide, rfl⟩ (As := []) rfl (st := []) rfl (Nat.le_of_ble_eq_true rfl) (by decide) (by decide) kw_qI hk
theorem wb_X1_carves_47 {E : kw_E} (B : kw_ok E cX1_carves RX1 "carves" 8 (some .int) 9 217 [])  (x0 : Option Nat) (x1 : Int32) (x2 : Int32) (x3 : Int32) (s0 : Int32) (s1 : Int32) : kw_W E (kw_x kw_eI) 47 [(0, kA x0), (1, kI x1), (2, kI x2), (3, kI x3)] [kI s0, kI s1] (pb_X1_carves_47  x0 x1 x2 x3 s0 s1) := by
  unfold pb_X1_carves_47
  refine kw_imul (pc := 47) B dX1_carves_47 ?_
  refine kw_aload_n (pc := 48) B dX1_carves_48 rfl 0 rfl ?_
  refine kw_gI (pc := 49) B dX1_carves_49 fl_X1_96 (fun i1 => ?_)
  refine kw_isub (pc := 52) B dX1_carves_52 ?_
  refine kw_istore (pc := 53) B dX1_carves_53 (by decide) (L2 := [(5, kI ((s1 * s0) - i1)), (0, kA x0), (1, kI x1), (2, kI x2), (3, kI x3)]) rfl ?_
  refine kw_iload (pc := 55) B dX1_carves_55 0 rfl ?_
  refine kw_if_gt (pc := 57) (tgt := 64) B dX1_carves_57 rfl ?_ ?_
  · refine kw_iconst (pc := 64) B dX1_carves_64 (v := (0 : Int32)) rfl ?_
    exact kw_pick [1, 2, 3, 4, 0] rfl (wb_X1_carves_65 B x0 x1 x2 x3 ((s1 * s0) - i1) (0 : Int32))
  · refine kw_iconst (pc := 60) B dX1_carves_60 (v := (1 : Int32)) rfl ?_
    refine kw_goto (pc := 61) (tgt := 65) B dX1_carves_61 rfl ?_
    exact kw_pick [1, 2, 3, 4, 0] rfl (wb_X1_carves_65 B x0 x1 x2 x3 ((s1 * s0) - i1) (1 : Int32))
theorem wb_X1_carves_28 {E : kw_E} (B : kw_ok E cX1_carves RX1 "carves" 8 (some .int) 9 217 [])  (x0 : Option Nat) (x1 : Int32) (x2 : Int32) (x3 : Int32) (x4 : Option Nat) (s0 : Int32) : kw_W E (kw_x kw_eI) 28 [(0, kA x0), (1, kI x1), (2, kI x2), (3, kI x3), (4, kA x4)] [kI s0] (pb_X1_carves_28  x0 x1 x2 x3 x4 s0) := by
  unfold pb_X1_carves_28
  refine kw_iconst (pc := 28) B dX1_carves_28 (v := (2 : Int32)) rfl ?_
  refine kw_aload (pc := 29) B dX1_carves_29 4 rfl ?_
  refine kw_gIN (pc := 31) B dX1_carves_31 fl_X1_155 (fun i1 => ?_)
  refine kw_callSNX (pc := 34) B dX1_carves_34 (xq := Sum.inl) (fun _ => rfl) kw_noh (ct_X0_needs s0 (2 : Int32) i1) q793 q794 q73 q795 ⟨by decide, by decide, rfl⟩ (As := [kI s0, kI (2 : Int32), kI i1]) rfl (st := []) rfl (Nat.le_of_ble_eq_true rfl) (by decide) (by decide) kw_qV (fun _ => ?_)
  refine kw_iload_n (pc := 37) B dX1_carves_37 rfl 3 rfl ?_
  refine kw_iload_n (pc := 38) B dX1_carves_38 rfl 2 rfl ?_
  refine kw_if_eq (pc := 39) (tgt := 46) B dX1_carves_39 rfl ?_ ?_
  · refine kw_iconst (pc := 46) B dX1_carves_46 (v := (1 : Int32)) rfl ?_
    exact kw_pick [0, 1, 2, 3] rfl (wb_X1_carves_47 B x0 x1 x2 x3 (1 : Int32) x3)
  · refine kw_iconst (pc := 42) B dX1_carves_42 (v := (2 : Int32)) rfl ?_
    refine kw_goto (pc := 43) (tgt := 47) B dX1_carves_43 rfl ?_
    exact kw_pick [0, 1, 2, 3] rfl (wb_X1_carves_47 B x0 x1 x2 x3 (2 : Int32) x3)
theorem wm_X1_carves {E : kw_E} (B : kw_ok E cX1_carves RX1 "carves" 8 (some .int) 9 217 []) (a0 : Option Nat) (a1 : Int32) (a2 : Int32) (a3 : Int32) : kw_W E (kw_x kw_eI) 0 [(0, kA a0), (1, kI a1), (2, kI a2), (3, kI a3)] [] (pm_X1_carves a0 a1 a2 a3) := by
  unfold pm_X1_carves
  refine kw_aload_n (pc := 0) B dX1_carves_0 rfl 0 rfl ?_
  refine kw_gR (pc := 1) B dX1_carves_1 fl_X1_12 (fun r1 => ?_)
  refine kw_iload_n (pc := 4) B dX1_carves_4 rfl 1 rfl ?_
  refine kw_callV (pc := 5) B dX1_carves_5 (ci := 30) rfl (ct_J2_get r1 a1) q868 q503 q504 q77 q505 ⟨by decide, by decide, rfl⟩ (As := [kI a1]) rfl (st := []) rfl (Nat.le_of_ble_eq_true rfl) (by decide) (by decide) kw_qA (fun r2 => ?_)
  refine kw_cast_ok (pc := 8) B dX1_carves_8 q542 cs_RosaryCarvers_Carver ?_
  refine kw_astore (pc := 11) B dX1_carves_11 (by decide) (L2 := [(4, kA r2), (0, kA a0), (1, kI a1), (2, kI a2), (3, kI a3)]) rfl ?_
  refine kw_aload (pc := 13) B dX1_carves_13 0 rfl ?_
  refine kw_gIN (pc := 15) B dX1_carves_15 fl_X1_155 (fun i3 => ?_)
  refine kw_bipush (pc := 18) B dX1_carves_18 (v := (60 : Int32)) rfl ?_
  refine kw_icmp_ge (pc := 20) (tgt := 27) B dX1_carves_20 rfl ?_ ?_
  · refine kw_iconst (pc := 27) B dX1_carves_27 (v := (0 : Int32)) rfl ?_
    exact kw_pick [1, 2, 3, 4, 0] rfl (wb_X1_carves_28 B a0 a1 a2 a3 r2 (0 : Int32))
  · refine kw_iconst (pc := 23) B dX1_carves_23 (v := (1 : Int32)) rfl ?_
    refine kw_goto (pc := 24) (tgt := 28) B dX1_carves_24 rfl ?_
    exact kw_pick [1, 2, 3, 4, 0] rfl (wb_X1_carves_28 B a0 a1 a2 a3 r2 (1 : Int32))
theorem ct_X1_carves (a0 : Option Nat) (a1 : Int32) (a2 : Int32) (a3 : Int32) (l : Launch) : kw_Met l yX1_carves (ws_ yX1_carves cX1_carves 8 (some .int)) 9 217 [kA a0, kI a1, kI a2, kI a3] (kw_x kw_eI) (pm_X1_carves a0 a1 a2 a3) := kw_met (plainFor_of_name rfl) (Nat.le_of_ble_eq_true rfl) (fun E B => wm_X1_carves B a0 a1 a2 a3) l

/-! RosaryCarvers$5 does (LRosaryCarvers$Shop;)I -/
theorem fl_X20_7 : kw_fl RX20 7 "RosaryCarvers$5" [(18, 1)] := (kw_fl_c (C := RX20) (T := TX20) (N := 5) rfl (by decide) in_X20 q1643 (Or.inl rfl) kw_fl_nil)
theorem fl_X20_11 : kw_fl RX20 11 "RosaryCarvers$5" [(18, 2)] := (kw_fl_c (C := RX20) (T := TX20) (N := 5) rfl (by decide) in_X20 q1644 (Or.inl rfl) kw_fl_nil)
theorem fl_X20_15 : kw_fl RX20 15 "RosaryCarvers$5" [(18, 3)] := (kw_fl_c (C := RX20) (T := TX20) (N := 5) rfl (by decide) in_X20 q1645 (Or.inl rfl) kw_fl_nil)
theorem wm_X20_does {E : kw_E} (B : kw_ok E cX20_does RX20 "does" 2 (some .int) 10 244 []) (a0 : Option Nat) (a1 : Option Nat) : kw_W E (kw_x kw_eI) 0 [(0, kA a0), (1, kA a1)] [] (pm_X20_does a0 a1) := by
  unfold pm_X20_does
  refine kw_aload_n (pc := 0) B dX20_does_0 rfl 1 rfl ?_
  refine kw_aload_n (pc := 1) B dX20_does_1 rfl 0 rfl ?_
  refine kw_gI (pc := 2) B dX20_does_2 fl_X20_7 (fun i1 => ?_)
  refine kw_aload_n (pc := 5) B dX20_does_5 rfl 0 rfl ?_
  refine kw_gI (pc := 6) B dX20_does_6 fl_X20_11 (fun i2 => ?_)
  refine kw_aload_n (pc := 9) B dX20_does_9 rfl 0 rfl ?_
  refine kw_gI (pc := 10) B dX20_does_10 fl_X20_15 (fun i3 => ?_)
  refine kw_callVX (pc := 13) B dX20_does_13 (ci := 1) rfl (xq := Sum.inl) (fun _ => rfl) kw_noh (ct_X1_carves a1 i1 i2 i3) q1519 q1386 q1387 q74 q1388 ⟨by decide, by decide, rfl⟩ (As := [kI i1, kI i2, kI i3]) rfl (st := []) rfl (Nat.le_of_ble_eq_true rfl) (by decide) (by decide) kw_qI (fun i4 => ?_)
  exact kw_iret B dX20_does_16 rfl
theorem ct_X20_does (a0 : Option Nat) (a1 : Option Nat) (l : Launch) : kw_Met l yX20_does (ws_ yX20_does cX20_does 2 (some .int)) 10 244 [kA a0, kA a1] (kw_x kw_eI) (pm_X20_does a0 a1) := kw_met (plainFor_of_name rfl) (Nat.le_of_ble_eq_true rfl) (fun E B => wm_X20_does B a0 a1) l

/-! RosaryCarvers$Shop begins (II)I -/

theorem wb_X1_begins_17 {E : kw_E} (B : kw_ok E cX1_begins RX1 "begins" 3 (some .int) 7 171 [])  (x0 : Option Nat) (x1 : Int32) (x2 : Int32) (s0 : Int32) : kw_W E (kw_x kw_eI) 17 [(0, kA x0), (1, kI x1), (2, kI x2)] [kI s0] (pb_X1_begins_17  x0 x1 x2 s0) := by
  unfold pb_X1_begins_17
  refine kw_iconst (pc := 17) B dX1_begins_17 (v := (1 : Int32)) rfl ?_
  refine kw_bipush (pc := 18) B dX1_begins_18 (v := (6 : Int32)) rfl ?_
  refine kw_callSNX (pc := 20) B dX1_begins_20 (xq := Sum.inl) (fun _ => rfl) kw_noh (ct_X0_needs s0 (1 : Int32) (6 : Int32)) q793 q794 q73 q795 ⟨by decide, by decide, rfl⟩ (As := [kI s0, kI (1 : Int32), kI (6 : Int32)]) rfl (st := []) rfl (Nat.le_of_ble_eq_true rfl) (by decide) (by decide) kw_qV (fun _ => ?_)
  refine kw_aload_n (pc := 23) B dX1_begins_23 rfl 0 rfl ?_
  refine kw_gR (pc := 24) B dX1_begins_24 fl_X1_28 (fun r1 => ?_)
  refine kw_new (pc := 27) B dX1_begins_27 (ci := 7) (N := 4) rfl in_X8 tyX8_ok kz_Rosary_ok q716 q717 q97 (fun r2 => ?_)
  refine kw_dup (pc := 30) B dX1_begins_30 rfl ?_
  refine kw_iload_n (pc := 31) B dX1_begins_31 rfl 1 rfl ?_
  refine kw_iload_n (pc := 32) B dX1_begins_32 rfl 2 rfl ?_
  refine kw_callI (pc := 33) B dX1_begins_33 (ct_X8_init_2 r2 x1 x2) q1438 q722 q97 q723 rfl ⟨by decide, by decide, rfl⟩ (As := [kI x1, kI x2]) rfl (st := [kA r2, kA r1]) rfl (Nat.le_of_ble_eq_true rfl) (by decide) (by decide) kw_qV (fun _ => ?_)
  refine kw_callV (pc := 36) B dX1_begins_36 (ci := 30) rfl (ct_J2_add r1 r2) q572 q573 q574 q77 q575 ⟨by decide, by decide, rfl⟩ (As := [kA r2]) rfl (st := []) rfl (Nat.le_of_ble_eq_true rfl) (by decide) (by decide) kw_qI (fun i3 => ?_)
  refine kw_pop (pc := 39) B dX1_begins_39 rfl ?_
  refine kw_aload_n (pc := 40) B dX1_begins_40 rfl 0 rfl ?_
  refine kw_gR (pc := 41) B dX1_begins_41 fl_X1_28 (fun r4 => ?_)
  refine kw_callV (pc := 44) B dX1_begins_44 (ci := 30) rfl (ct_J2_size r4) q792 q406 q407 q77 q408 ⟨by decide, by decide, rfl⟩ (As := []) rfl (st := []) rfl (Nat.le_of_ble_eq_true rfl) (by decide) (by decide) kw_qI (fun i5 => ?_)
  refine kw_iconst (pc := 47) B dX1_begins_47 (v := (1 : Int32)) rfl ?_
  refine kw_isub (pc := 48) B dX1_begins_48 ?_
  exact kw_iret B dX1_begins_49 rfl
theorem wm_X1_begins {E : kw_E} (B : kw_ok E cX1_begins RX1 "begins" 3 (some .int) 7 171 []) (a0 : Option Nat) (a1 : Int32) (a2 : Int32) : kw_W E (kw_x kw_eI) 0 [(0, kA a0), (1, kI a1), (2, kI a2)] [] (pm_X1_begins a0 a1 a2) := by
  unfold pm_X1_begins
  refine kw_aload_n (pc := 0) B dX1_begins_0 rfl 0 rfl ?_
  refine kw_gR (pc := 1) B dX1_begins_1 fl_X1_28 (fun r1 => ?_)
  refine kw_callV (pc := 4) B dX1_begins_4 (ci := 30) rfl (ct_J2_size r1) q792 q406 q407 q77 q408 ⟨by decide, by decide, rfl⟩ (As := []) rfl (st := []) rfl (Nat.le_of_ble_eq_true rfl) (by decide) (by decide) kw_qI (fun i2 => ?_)
  refine kw_bipush (pc := 7) B dX1_begins_7 (v := (6 : Int32)) rfl ?_
  refine kw_icmp_ge (pc := 9) (tgt := 16) B dX1_begins_9 rfl ?_ ?_
  · refine kw_iconst (pc := 16) B dX1_begins_16 (v := (0 : Int32)) rfl ?_
    exact kw_pick [0, 1, 2] rfl (wb_X1_begins_17 B a0 a1 a2 (0 : Int32))
  · refine kw_iconst (pc := 12) B dX1_begins_12 (v := (1 : Int32)) rfl ?_
    refine kw_goto (pc := 13) (tgt := 17) B dX1_begins_13 rfl ?_
    exact kw_pick [0, 1, 2] rfl (wb_X1_begins_17 B a0 a1 a2 (1 : Int32))
theorem ct_X1_begins (a0 : Option Nat) (a1 : Int32) (a2 : Int32) (l : Launch) : kw_Met l yX1_begins (ws_ yX1_begins cX1_begins 3 (some .int)) 7 171 [kA a0, kI a1, kI a2] (kw_x kw_eI) (pm_X1_begins a0 a1 a2) := kw_met (plainFor_of_name rfl) (Nat.le_of_ble_eq_true rfl) (fun E B => wm_X1_begins B a0 a1 a2) l

/-! RosaryCarvers$6 does (LRosaryCarvers$Shop;)I -/
theorem fl_X21_7 : kw_fl RX21 7 "RosaryCarvers$6" [(19, 1)] := (kw_fl_c (C := RX21) (T := TX21) (N := 4) rfl (by decide) in_X21 q1670 (Or.inl rfl) kw_fl_nil)
theorem fl_X21_11 : kw_fl RX21 11 "RosaryCarvers$6" [(19, 2)] := (kw_fl_c (C := RX21) (T := TX21) (N := 4) rfl (by decide) in_X21 q1671 (Or.inl rfl) kw_fl_nil)
theorem wm_X21_does {E : kw_E} (B : kw_ok E cX21_does RX21 "does" 2 (some .int) 8 193 []) (a0 : Option Nat) (a1 : Option Nat) : kw_W E (kw_x kw_eI) 0 [(0, kA a0), (1, kA a1)] [] (pm_X21_does a0 a1) := by
  unfold pm_X21_does
  refine kw_aload_n (pc := 0) B dX21_does_0 rfl 1 rfl ?_
  refine kw_aload_n (pc := 1) B dX21_does_1 rfl 0 rfl ?_
  refine kw_gI (pc := 2) B dX21_does_2 fl_X21_7 (fun i1 => ?_)
  refine kw_aload_n (pc := 5) B dX21_does_5 rfl 0 rfl ?_
  refine kw_gI (pc := 6) B dX21_does_6 fl_X21_11 (fun i2 => ?_)
  refine kw_callVX (pc := 9) B dX21_does_9 (ci := 1) rfl (xq := Sum.inl) (fun _ => rfl) kw_noh (ct_X1_begins a1 i1 i2) q1523 q1435 q1436 q74 q1437 ⟨by decide, by decide, rfl⟩ (As := [kI i1, kI i2]) rfl (st := []) rfl (Nat.le_of_ble_eq_true rfl) (by decide) (by decide) kw_qI (fun i3 => ?_)
  exact kw_iret B dX21_does_12 rfl
theorem ct_X21_does (a0 : Option Nat) (a1 : Option Nat) (l : Launch) : kw_Met l yX21_does (ws_ yX21_does cX21_does 2 (some .int)) 8 193 [kA a0, kA a1] (kw_x kw_eI) (pm_X21_does a0 a1) := kw_met (plainFor_of_name rfl) (Nat.le_of_ble_eq_true rfl) (fun E B => wm_X21_does B a0 a1) l

/-! RosaryCarvers$Rosary isDone ()Z -/

theorem wm_X8_isDone {E : kw_E} (B : kw_ok E cX8_isDone RX8 "isDone" 1 (some .boolean) 1 0 []) (a0 : Option Nat) : kw_W E kw_eI 0 [(0, kA a0)] [] (pm_X8_isDone a0) := by
  unfold pm_X8_isDone
  refine kw_aload_n (pc := 0) B dX8_isDone_0 rfl 0 rfl ?_
  refine kw_gI (pc := 1) B dX8_isDone_1 fl_X8_19 (fun i1 => ?_)
  refine kw_aload_n (pc := 4) B dX8_isDone_4 rfl 0 rfl ?_
  refine kw_gI (pc := 5) B dX8_isDone_5 fl_X8_7 (fun i2 => ?_)
  refine kw_icmp_ne (pc := 8) (tgt := 15) B dX8_isDone_8 rfl ?_ ?_
  · refine kw_iconst (pc := 15) B dX8_isDone_15 (v := (0 : Int32)) rfl ?_
    exact kw_zret B dX8_isDone_16 (g := fun v => v) (fun _ => rfl)
  · refine kw_iconst (pc := 11) B dX8_isDone_11 (v := (1 : Int32)) rfl ?_
    refine kw_goto (pc := 12) (tgt := 16) B dX8_isDone_12 rfl ?_
    exact kw_zret B dX8_isDone_16 (g := fun v => v) (fun _ => rfl)
theorem ct_X8_isDone (a0 : Option Nat) (l : Launch) : kw_Met l yX8_isDone (ws_ yX8_isDone cX8_isDone 1 (some .boolean)) 1 0 [kA a0] kw_eI (pm_X8_isDone a0) := kw_met (plainFor_of_name rfl) (Nat.le_of_ble_eq_true rfl) (fun E B => wm_X8_isDone B a0) l

/-! RosaryCarvers$Rosary loose ()I -/

theorem wm_X8_loose {E : kw_E} (B : kw_ok E cX8_loose RX8 "loose" 1 (some .int) 3 40 []) (a0 : Option Nat) : kw_W E kw_eI 0 [(0, kA a0)] [] (pm_X8_loose a0) := by
  unfold pm_X8_loose
  refine kw_aload_n (pc := 0) B dX8_loose_0 rfl 0 rfl ?_
  refine kw_callU (pc := 1) B dX8_loose_1 (x0 := ⟨"RosaryCarvers$Rosary", "size", "()I"⟩) (owner := "RosaryCarvers$Beads") (ci := 7) rfl (ct_X2_size a0) q1459 q1460 q1461 q1108 q78 q1109 rfl ⟨by decide, by decide, rfl⟩ (As := []) rfl (st := []) rfl (Nat.le_of_ble_eq_true rfl) (by decide) (by decide) kw_qI (fun i1 => ?_)
  refine kw_aload_n (pc := 4) B dX8_loose_4 rfl 0 rfl ?_
  refine kw_gI (pc := 5) B dX8_loose_5 fl_X8_19 (fun i2 => ?_)
  refine kw_aload_n (pc := 8) B dX8_loose_8 rfl 0 rfl ?_
  refine kw_gI (pc := 9) B dX8_loose_9 fl_X8_13 (fun i3 => ?_)
  refine kw_iconst (pc := 12) B dX8_loose_12 (v := (1 : Int32)) rfl ?_
  refine kw_iadd (pc := 13) B dX8_loose_13 ?_
  refine kw_imul (pc := 14) B dX8_loose_14 ?_
  refine kw_isub (pc := 15) B dX8_loose_15 ?_
  exact kw_iret B dX8_loose_16 rfl
theorem ct_X8_loose (a0 : Option Nat) (l : Launch) : kw_Met l yX8_loose (ws_ yX8_loose cX8_loose 1 (some .int)) 3 40 [kA a0] kw_eI (pm_X8_loose a0) := kw_met (plainFor_of_name rfl) (Nat.le_of_ble_eq_true rfl) (fun E B => wm_X8_loose B a0) l

/-! RosaryCarvers$Rosary isWhole ()Z -/

theorem wm_X8_isWhole {E : kw_E} (B : kw_ok E cX8_isWhole RX8 "isWhole" 1 (some .boolean) 4 60 []) (a0 : Option Nat) : kw_W E kw_eI 0 [(0, kA a0)] [] (pm_X8_isWhole a0) := by
  unfold pm_X8_isWhole
  refine kw_aload_n (pc := 0) B dX8_isWhole_0 rfl 0 rfl ?_
  refine kw_callV (pc := 1) B dX8_isWhole_1 (ci := 7) rfl (ct_X8_loose a0) q1455 q1456 q1457 q97 q1458 ⟨by decide, by decide, rfl⟩ (As := []) rfl (st := []) rfl (Nat.le_of_ble_eq_true rfl) (by decide) (by decide) kw_qI (fun i1 => ?_)
  refine kw_aload_n (pc := 4) B dX8_isWhole_4 rfl 0 rfl ?_
  refine kw_gI (pc := 5) B dX8_isWhole_5 fl_X8_13 (fun i2 => ?_)
  refine kw_iconst (pc := 8) B dX8_isWhole_8 (v := (1 : Int32)) rfl ?_
  refine kw_iadd (pc := 9) B dX8_isWhole_9 ?_
  refine kw_icmp_ne (pc := 10) (tgt := 17) B dX8_isWhole_10 rfl ?_ ?_
  · refine kw_iconst (pc := 17) B dX8_isWhole_17 (v := (0 : Int32)) rfl ?_
    exact kw_zret B dX8_isWhole_18 (g := fun v => v) (fun _ => rfl)
  · refine kw_iconst (pc := 13) B dX8_isWhole_13 (v := (1 : Int32)) rfl ?_
    refine kw_goto (pc := 14) (tgt := 18) B dX8_isWhole_14 rfl ?_
    exact kw_zret B dX8_isWhole_18 (g := fun v => v) (fun _ => rfl)
theorem ct_X8_isWhole (a0 : Option Nat) (l : Launch) : kw_Met l yX8_isWhole (ws_ yX8_isWhole cX8_isWhole 1 (some .boolean)) 4 60 [kA a0] kw_eI (pm_X8_isWhole a0) := kw_met (plainFor_of_name rfl) (Nat.le_of_ble_eq_true rfl) (fun E B => wm_X8_isWhole B a0) l

/-! RosaryCarvers$Rosary wantsLarge ()Z -/

theorem wm_X8_wantsLarge {E : kw_E} (B : kw_ok E cX8_wantsLarge RX8 "wantsLarge" 1 (some .boolean) 4 60 []) (a0 : Option Nat) : kw_W E kw_eI 0 [(0, kA a0)] [] (pm_X8_wantsLarge a0) := by
  unfold pm_X8_wantsLarge
  refine kw_aload_n (pc := 0) B dX8_wantsLarge_0 rfl 0 rfl ?_
  refine kw_callV (pc := 1) B dX8_wantsLarge_1 (ci := 7) rfl (ct_X8_loose a0) q1455 q1456 q1457 q97 q1458 ⟨by decide, by decide, rfl⟩ (As := []) rfl (st := []) rfl (Nat.le_of_ble_eq_true rfl) (by decide) (by decide) kw_qI (fun i1 => ?_)
  refine kw_if_ne (pc := 4) (tgt := 11) B dX8_wantsLarge_4 rfl ?_ ?_
  · refine kw_iconst (pc := 11) B dX8_wantsLarge_11 (v := (0 : Int32)) rfl ?_
    exact kw_zret B dX8_wantsLarge_12 (g := fun v => v) (fun _ => rfl)
  · refine kw_iconst (pc := 7) B dX8_wantsLarge_7 (v := (1 : Int32)) rfl ?_
    refine kw_goto (pc := 8) (tgt := 12) B dX8_wantsLarge_8 rfl ?_
    exact kw_zret B dX8_wantsLarge_12 (g := fun v => v) (fun _ => rfl)
theorem ct_X8_wantsLarge (a0 : Option Nat) (l : Launch) : kw_Met l yX8_wantsLarge (ws_ yX8_wantsLarge cX8_wantsLarge 1 (some .boolean)) 4 60 [kA a0] kw_eI (pm_X8_wantsLarge a0) := kw_met (plainFor_of_name rfl) (Nat.le_of_ble_eq_true rfl) (fun E B => wm_X8_wantsLarge B a0) l

/-! RosaryCarvers$Beads$1 <init> (LRosaryCarvers$Beads;Z)V -/
theorem fl_X11_1 : kw_fl RX11 1 "RosaryCarvers$Beads$1" [(10, 1)] := (kw_fl_c (C := RX11) (T := TX11) (N := 2) rfl (by decide) in_X11 q895 (Or.inl rfl) kw_fl_nil)
theorem fp_X11_1 : kw_fp RX11 (.object "RosaryCarvers$Beads") true [(10, 1)] := (kw_fp_c (C := RX11) (T := TX11) (N := 2) (ty0 := tyX11) rfl tyX11_ok nmX11 rfl (fun _ => rfl) (by decide) rfl kw_fp_nil)
theorem fl_X11_7 : kw_fl RX11 7 "RosaryCarvers$Beads$1" [(10, 0)] := (kw_fl_c (C := RX11) (T := TX11) (N := 2) rfl (by decide) in_X11 q894 (Or.inl rfl) kw_fl_nil)
theorem fp_X11_7 : kw_fp RX11 .boolean true [(10, 0)] := (kw_fp_c (C := RX11) (T := TX11) (N := 2) (ty0 := tyX11) rfl tyX11_ok nmX11 rfl (fun _ => rfl) (by decide) rfl kw_fp_nil)
theorem wm_X11_init {E : kw_E} (B : kw_ok E cX11_init RX11 "<init>" 3 none 1 24 []) (a0 : Option Nat) (a1 : Option Nat) (a2 : Int32) : kw_W E kw_eV 0 [(0, kA a0), (1, kA a1), (2, kI a2)] [] (pm_X11_init a0 a1 a2) := by
  unfold pm_X11_init
  refine kw_aload_n (pc := 0) B dX11_init_0 rfl 0 rfl ?_
  refine kw_aload_n (pc := 1) B dX11_init_1 rfl 1 rfl ?_
  refine kw_pR (pc := 2) B dX11_init_2 fl_X11_1 fp_X11_1 (fun _ => rfl) rfl ?_
  refine kw_aload_n (pc := 5) B dX11_init_5 rfl 0 rfl ?_
  refine kw_iload_n (pc := 6) B dX11_init_6 rfl 2 rfl ?_
  refine kw_pI (pc := 7) B dX11_init_7 fl_X11_7 fp_X11_7 (fun _ => rfl) ?_
  refine kw_aload_n (pc := 10) B dX11_init_10 rfl 0 rfl ?_
  refine kw_objInit (pc := 11) B dX11_init_11 q893 q138 q139 (by decide) (Nat.le_of_ble_eq_true rfl) ?_
  exact kw_vret B dX11_init_14 rfl
theorem ct_X11_init (a0 : Option Nat) (a1 : Option Nat) (a2 : Int32) (l : Launch) : kw_Met l yX11_init (ws_ yX11_init cX11_init 3 none) 1 24 [kA a0, kA a1, kI a2] kw_eV (pm_X11_init a0 a1 a2) := kw_met (plainFor_of_name rfl) (Nat.le_of_ble_eq_true rfl) (fun E B => wm_X11_init B a0 a1 a2) l

/-! RosaryCarvers$Beads of (Z)Ljava/lang/Iterable; -/

theorem wm_X2_of {E : kw_E} (B : kw_ok E cX2_of RX2 "of" 2 (some (.object "java/lang/Iterable")) 2 46 []) (a0 : Option Nat) (a1 : Int32) : kw_W E kw_eA 0 [(0, kA a0), (1, kI a1)] [] (pm_X2_of a0 a1) := by
  unfold pm_X2_of
  refine kw_new (pc := 0) B dX2_of_0 (ci := 10) (N := 2) rfl in_X11 tyX11_ok kz_Beads1_ok q888 q889 q100 (fun r1 => ?_)
  refine kw_dup (pc := 3) B dX2_of_3 rfl ?_
  refine kw_aload_n (pc := 4) B dX2_of_4 rfl 0 rfl ?_
  refine kw_iload_n (pc := 5) B dX2_of_5 rfl 1 rfl ?_
  refine kw_callI (pc := 6) B dX2_of_6 (ct_X11_init r1 a0 a1) q890 q891 q100 q892 rfl ⟨by decide, by decide, rfl⟩ (As := [kA a0, kI a1]) rfl (st := [kA r1]) rfl (Nat.le_of_ble_eq_true rfl) (by decide) (by decide) kw_qV (fun _ => ?_)
  exact kw_aret rfl B dX2_of_9 rfl
theorem ct_X2_of (a0 : Option Nat) (a1 : Int32) (l : Launch) : kw_Met l yX2_of (ws_ yX2_of cX2_of 2 (some (.object "java/lang/Iterable"))) 2 46 [kA a0, kI a1] kw_eA (pm_X2_of a0 a1) := kw_met (plainFor_of_name rfl) (Nat.le_of_ble_eq_true rfl) (fun E B => wm_X2_of B a0 a1) l

/-! RosaryCarvers$Beads iterator ()Ljava/util/Iterator; -/

theorem wm_X2_iterator {E : kw_E} (B : kw_ok E cX2_iterator RX2 "iterator" 1 (some (.object "java/util/Iterator")) 3 65 []) (a0 : Option Nat) : kw_W E kw_eA 0 [(0, kA a0)] [] (pm_X2_iterator a0) := by
  unfold pm_X2_iterator
  refine kw_aload_n (pc := 0) B dX2_iterator_0 rfl 0 rfl ?_
  refine kw_gR (pc := 1) B dX2_iterator_1 fl_X2_10 (fun r1 => ?_)
  refine kw_callV (pc := 4) B dX2_iterator_4 (ci := 30) rfl (ct_J2_iterator r1) q911 q373 q374 q77 q375 ⟨by decide, by decide, rfl⟩ (As := []) rfl (st := []) rfl (Nat.le_of_ble_eq_true rfl) (by decide) (by decide) kw_qA (fun r2 => ?_)
  exact kw_aret rfl B dX2_iterator_7 rfl
theorem ct_X2_iterator (a0 : Option Nat) (l : Launch) : kw_Met l yX2_iterator (ws_ yX2_iterator cX2_iterator 1 (some (.object "java/util/Iterator"))) 3 65 [kA a0] kw_eA (pm_X2_iterator a0) := kw_met (plainFor_of_name rfl) (Nat.le_of_ble_eq_true rfl) (fun E B => wm_X2_iterator B a0) l

/-! RosaryCarvers$Beads$1OfKind <init> (LRosaryCarvers$Beads;Z)V -/
theorem fp_X12_1 : kw_fp RX12 (.object "RosaryCarvers$Beads") true [(11, 2)] := (kw_fp_c (C := RX12) (T := TX12) (N := 3) (ty0 := tyX12) rfl tyX12_ok nmX12 rfl (fun _ => rfl) (by decide) rfl kw_fp_nil)
theorem fp_X12_7 : kw_fp RX12 .boolean true [(11, 1)] := (kw_fp_c (C := RX12) (T := TX12) (N := 3) (ty0 := tyX12) rfl tyX12_ok nmX12 rfl (fun _ => rfl) (by decide) rfl kw_fp_nil)
theorem wm_X12_init {E : kw_E} (B : kw_ok E cX12_init RX12 "<init>" 3 none 5 86 []) (a0 : Option Nat) (a1 : Option Nat) (a2 : Int32) : kw_W E kw_eV 0 [(0, kA a0), (1, kA a1), (2, kI a2)] [] (pm_X12_init a0 a1 a2) := by
  unfold pm_X12_init
  refine kw_aload_n (pc := 0) B dX12_init_0 rfl 0 rfl ?_
  refine kw_aload_n (pc := 1) B dX12_init_1 rfl 1 rfl ?_
  refine kw_pR (pc := 2) B dX12_init_2 fl_X12_1 fp_X12_1 (fun _ => rfl) rfl ?_
  refine kw_aload_n (pc := 5) B dX12_init_5 rfl 0 rfl ?_
  refine kw_iload_n (pc := 6) B dX12_init_6 rfl 2 rfl ?_
  refine kw_pI (pc := 7) B dX12_init_7 fl_X12_7 fp_X12_7 (fun _ => rfl) ?_
  refine kw_aload_n (pc := 10) B dX12_init_10 rfl 0 rfl ?_
  refine kw_objInit (pc := 11) B dX12_init_11 q922 q138 q139 (by decide) (Nat.le_of_ble_eq_true rfl) ?_
  refine kw_aload_n (pc := 14) B dX12_init_14 rfl 0 rfl ?_
  refine kw_aload_n (pc := 15) B dX12_init_15 rfl 0 rfl ?_
  refine kw_iconst (pc := 16) B dX12_init_16 (v := (0 : Int32)) rfl ?_
  refine kw_callV (pc := 17) B dX12_init_17 (ci := 11) rfl (ct_X12_next_3 a0 (0 : Int32)) q517 q519 qs2 q101 q521 ⟨by decide, by decide, rfl⟩ (As := [kI (0 : Int32)]) rfl (st := [kA a0]) rfl (Nat.le_of_ble_eq_true rfl) (by decide) (by decide) kw_qI (fun i3 => ?_)
  refine kw_pI (pc := 20) B dX12_init_20 fl_X12_21 fp_X12_21 (fun h => by cases h) ?_
  exact kw_vret B dX12_init_23 rfl
theorem ct_X12_init (a0 : Option Nat) (a1 : Option Nat) (a2 : Int32) (l : Launch) : kw_Met l yX12_init (ws_ yX12_init cX12_init 3 none) 5 86 [kA a0, kA a1, kI a2] kw_eV (pm_X12_init a0 a1 a2) := kw_met (plainFor_of_name rfl) (Nat.le_of_ble_eq_true rfl) (fun E B => wm_X12_init B a0 a1 a2) l

/-! RosaryCarvers$Beads$1 iterator ()Ljava/util/Iterator; -/

theorem wm_X11_iterator {E : kw_E} (B : kw_ok E cX11_iterator RX11 "iterator" 1 (some (.object "java/util/Iterator")) 6 108 []) (a0 : Option Nat) : kw_W E kw_eA 0 [(0, kA a0)] [] (pm_X11_iterator a0) := by
  unfold pm_X11_iterator
  refine kw_new (pc := 0) B dX11_iterator_0 (ci := 11) (N := 3) rfl in_X12 tyX12_ok kz_OfKind_ok q918 q520 q101 (fun r1 => ?_)
  refine kw_dup (pc := 3) B dX11_iterator_3 rfl ?_
  refine kw_aload_n (pc := 4) B dX11_iterator_4 rfl 0 rfl ?_
  refine kw_gR (pc := 5) B dX11_iterator_5 fl_X11_1 (fun r2 => ?_)
  refine kw_aload_n (pc := 8) B dX11_iterator_8 rfl 0 rfl ?_
  refine kw_gI (pc := 9) B dX11_iterator_9 fl_X11_7 (fun i3 => ?_)
  refine kw_callI (pc := 12) B dX11_iterator_12 (ct_X12_init r1 r2 i3) q919 q920 q101 q921 rfl ⟨by decide, by decide, rfl⟩ (As := [kA r2, kI i3]) rfl (st := [kA r1]) rfl (Nat.le_of_ble_eq_true rfl) (by decide) (by decide) kw_qV (fun _ => ?_)
  exact kw_aret rfl B dX11_iterator_15 rfl
theorem ct_X11_iterator (a0 : Option Nat) (l : Launch) : kw_Met l yX11_iterator (ws_ yX11_iterator cX11_iterator 1 (some (.object "java/util/Iterator"))) 6 108 [kA a0] kw_eA (pm_X11_iterator a0) := kw_met (plainFor_of_name rfl) (Nat.le_of_ble_eq_true rfl) (fun E B => wm_X11_iterator B a0) l

/-! java/util/ArrayDeque sub (III)I -/

theorem wm_J4_sub {E : kw_E} (B : kw_ok E cJ4_sub RJ4 "sub" 3 (some .int) 1 0 []) (a0 : Int32) (a1 : Int32) (a2 : Int32) : kw_W E kw_eI 0 [(0, kI a0), (1, kI a1), (2, kI a2)] [] (pm_J4_sub a0 a1 a2) := by
  unfold pm_J4_sub
  refine kw_iload_n (pc := 0) B dJ4_sub_0 rfl 0 rfl ?_
  refine kw_iload_n (pc := 1) B dJ4_sub_1 rfl 1 rfl ?_
  refine kw_isub (pc := 2) B dJ4_sub_2 ?_
  refine kw_dup (pc := 3) B dJ4_sub_3 rfl ?_
  refine kw_istore_n (pc := 4) B dJ4_sub_4 rfl (by decide) (L2 := [(0, kI (a0 - a1)), (1, kI a1), (2, kI a2)]) rfl ?_
  refine kw_if_ge (pc := 5) (tgt := 12) B dJ4_sub_5 rfl ?_ ?_
  · refine kw_iload_n (pc := 12) B dJ4_sub_12 rfl 0 rfl ?_
    exact kw_iret B dJ4_sub_13 rfl
  · refine kw_iload_n (pc := 8) B dJ4_sub_8 rfl 0 rfl ?_
    refine kw_iload_n (pc := 9) B dJ4_sub_9 rfl 2 rfl ?_
    refine kw_iadd (pc := 10) B dJ4_sub_10 ?_
    refine kw_istore_n (pc := 11) B dJ4_sub_11 rfl (by decide) (L2 := [(0, kI ((a0 - a1) + a2)), (1, kI a1), (2, kI a2)]) rfl ?_
    refine kw_iload_n (pc := 12) B dJ4_sub_12 rfl 0 rfl ?_
    exact kw_iret B dJ4_sub_13 rfl
theorem ct_J4_sub (a0 : Int32) (a1 : Int32) (a2 : Int32) (l : Launch) : kw_Met l yJ4_sub (ws_ yJ4_sub cJ4_sub 3 (some .int)) 1 0 [kI a0, kI a1, kI a2] kw_eI (pm_J4_sub a0 a1 a2) := kw_met (plainFor_of_name rfl) (Nat.le_of_ble_eq_true rfl) (fun E B => wm_J4_sub B a0 a1 a2) l

/-! java/util/ArrayDeque size ()I -/

theorem wm_J4_size {E : kw_E} (B : kw_ok E cJ4_size RJ4 "size" 1 (some .int) 2 22 []) (a0 : Option Nat) : kw_W E kw_eI 0 [(0, kA a0)] [] (pm_J4_size a0) := by
  unfold pm_J4_size
  refine kw_aload_n (pc := 0) B dJ4_size_0 rfl 0 rfl ?_
  refine kw_gI (pc := 1) B dJ4_size_1 fl_J4_20 (fun i1 => ?_)
  refine kw_aload_n (pc := 4) B dJ4_size_4 rfl 0 rfl ?_
  refine kw_gI (pc := 5) B dJ4_size_5 fl_J4_24 (fun i2 => ?_)
  refine kw_aload_n (pc := 8) B dJ4_size_8 rfl 0 rfl ?_
  refine kw_gR (pc := 9) B dJ4_size_9 fl_J4_3 (fun r3 => ?_)
  refine kw_alen (pc := 12) B dJ4_size_12 (fun i4 => ?_)
  refine kw_callS (pc := 13) B dJ4_size_13 (ct_J4_sub i1 i2 i4) q955 q956 q80 q957 ⟨by decide, by decide, rfl⟩ (As := [kI i1, kI i2, kI i4]) rfl (st := []) rfl (Nat.le_of_ble_eq_true rfl) (by decide) (by decide) kw_qI (fun i5 => ?_)
  exact kw_iret B dJ4_size_16 rfl
theorem ct_J4_size (a0 : Option Nat) (l : Launch) : kw_Met l yJ4_size (ws_ yJ4_size cJ4_size 1 (some .int)) 2 22 [kA a0] kw_eI (pm_J4_size a0) := kw_met (plainFor_of_name rfl) (Nat.le_of_ble_eq_true rfl) (fun E B => wm_J4_size B a0) l

/-! java/util/ArrayDeque$DeqIterator <init> (Ljava/util/ArrayDeque;)V -/
theorem fp_J15_1 : kw_fp RJ15 (.object "java/util/ArrayDeque") true [(34, 3)] := (kw_fp_c (C := RJ15) (T := TJ15) (N := 4) (ty0 := tyJ15) rfl tyJ15_ok nmJ15 rfl (fun _ => rfl) (by decide) rfl kw_fp_nil)
theorem fl_J15_26 : kw_fl RJ15 26 "java/util/ArrayDeque" [(32, 1)] := (kw_fl_c (C := RJ4) (T := TJ4) (N := 3) rfl (by decide) in_J4 q292 (Or.inl rfl) kw_fl_nil)
theorem wm_J15_init {E : kw_E} (B : kw_ok E cJ15_init RJ15 "<init>" 2 none 3 42 []) (a0 : Option Nat) (a1 : Option Nat) : kw_W E kw_eV 0 [(0, kA a0), (1, kA a1)] [] (pm_J15_init a0 a1) := by
  unfold pm_J15_init
  refine kw_aload_n (pc := 0) B dJ15_init_0 rfl 0 rfl ?_
  refine kw_aload_n (pc := 1) B dJ15_init_1 rfl 1 rfl ?_
  refine kw_pR (pc := 2) B dJ15_init_2 fl_J15_1 fp_J15_1 (fun _ => rfl) rfl ?_
  refine kw_aload_n (pc := 5) B dJ15_init_5 rfl 0 rfl ?_
  refine kw_objInit (pc := 6) B dJ15_init_6 q950 q138 q139 (by decide) (Nat.le_of_ble_eq_true rfl) ?_
  refine kw_aload_n (pc := 9) B dJ15_init_9 rfl 0 rfl ?_
  refine kw_aload_n (pc := 10) B dJ15_init_10 rfl 0 rfl ?_
  refine kw_gR (pc := 11) B dJ15_init_11 fl_J15_1 (fun r2 => ?_)
  refine kw_callV (pc := 14) B dJ15_init_14 (ci := 32) rfl (ct_J4_size r2) q951 q952 q953 q80 q954 ⟨by decide, by decide, rfl⟩ (As := []) rfl (st := [kA a0]) rfl (Nat.le_of_ble_eq_true rfl) (by decide) (by decide) kw_qI (fun i3 => ?_)
  refine kw_pI (pc := 17) B dJ15_init_17 fl_J15_19 fp_J15_19 (fun h => by cases h) ?_
  refine kw_aload_n (pc := 20) B dJ15_init_20 rfl 0 rfl ?_
  refine kw_iconst (pc := 21) B dJ15_init_21 (v := (-1 : Int32)) rfl ?_
  refine kw_pI (pc := 22) B dJ15_init_22 fl_J15_23 fp_J15_23 (fun h => by cases h) ?_
  refine kw_aload_n (pc := 25) B dJ15_init_25 rfl 0 rfl ?_
  refine kw_aload_n (pc := 26) B dJ15_init_26 rfl 1 rfl ?_
  refine kw_gI (pc := 27) B dJ15_init_27 fl_J15_26 (fun i6 => ?_)
  refine kw_pI (pc := 30) B dJ15_init_30 fl_J15_29 fp_J15_29 (fun h => by cases h) ?_
  exact kw_vret B dJ15_init_33 rfl
theorem ct_J15_init (a0 : Option Nat) (a1 : Option Nat) (l : Launch) : kw_Met l yJ15_init (ws_ yJ15_init cJ15_init 2 none) 3 42 [kA a0, kA a1] kw_eV (pm_J15_init a0 a1) := kw_met (plainFor_of_name rfl) (Nat.le_of_ble_eq_true rfl) (fun E B => wm_J15_init B a0 a1) l

/-! java/util/ArrayDeque iterator ()Ljava/util/Iterator; -/

theorem wm_J4_iterator {E : kw_E} (B : kw_ok E cJ4_iterator RJ4 "iterator" 1 (some (.object "java/util/Iterator")) 4 63 []) (a0 : Option Nat) : kw_W E kw_eA 0 [(0, kA a0)] [] (pm_J4_iterator a0) := by
  unfold pm_J4_iterator
  refine kw_new (pc := 0) B dJ4_iterator_0 (ci := 34) (N := 4) rfl in_J15 tyJ15_ok kz_DIt_ok q945 q946 q102 (fun r1 => ?_)
  refine kw_dup (pc := 3) B dJ4_iterator_3 rfl ?_
  refine kw_aload_n (pc := 4) B dJ4_iterator_4 rfl 0 rfl ?_
  refine kw_callI (pc := 5) B dJ4_iterator_5 (ct_J15_init r1 a0) q947 q948 q102 q949 rfl ⟨by decide, by decide, rfl⟩ (As := [kA a0]) rfl (st := [kA r1]) rfl (Nat.le_of_ble_eq_true rfl) (by decide) (by decide) kw_qV (fun _ => ?_)
  exact kw_aret rfl B dJ4_iterator_8 rfl
theorem ct_J4_iterator (a0 : Option Nat) (l : Launch) : kw_Met l yJ4_iterator (ws_ yJ4_iterator cJ4_iterator 1 (some (.object "java/util/Iterator"))) 4 63 [kA a0] kw_eA (pm_J4_iterator a0) := kw_met (plainFor_of_name rfl) (Nat.le_of_ble_eq_true rfl) (fun E B => wm_J4_iterator B a0) l

/-! RosaryCarvers$Bead fineness ()I -/

theorem wm_X16_fineness {E : kw_E} (B : kw_ok E cX16_fineness RX16 "fineness" 1 (some .int) 1 0 []) (a0 : Option Nat) : kw_W E kw_eI 0 [(0, kA a0)] [] (pm_X16_fineness a0) := by
  unfold pm_X16_fineness
  refine kw_aload_n (pc := 0) B dX16_fineness_0 rfl 0 rfl ?_
  refine kw_gI (pc := 1) B dX16_fineness_1 fl_X16_17 (fun i1 => ?_)
  exact kw_iret B dX16_fineness_4 rfl
theorem ct_X16_fineness (a0 : Option Nat) (l : Launch) : kw_Met l yX16_fineness (ws_ yX16_fineness cX16_fineness 1 (some .int)) 1 0 [kA a0] kw_eI (pm_X16_fineness a0) := kw_met (plainFor_of_name rfl) (Nat.le_of_ble_eq_true rfl) (fun E B => wm_X16_fineness B a0) l

/-! RosaryCarvers$Bead number ()I -/

theorem wm_X16_number {E : kw_E} (B : kw_ok E cX16_number RX16 "number" 1 (some .int) 1 0 []) (a0 : Option Nat) : kw_W E kw_eI 0 [(0, kA a0)] [] (pm_X16_number a0) := by
  unfold pm_X16_number
  refine kw_aload_n (pc := 0) B dX16_number_0 rfl 0 rfl ?_
  refine kw_gI (pc := 1) B dX16_number_1 fl_X16_7 (fun i1 => ?_)
  exact kw_iret B dX16_number_4 rfl
theorem ct_X16_number (a0 : Option Nat) (l : Launch) : kw_Met l yX16_number (ws_ yX16_number cX16_number 1 (some .int)) 1 0 [kA a0] kw_eI (pm_X16_number a0) := kw_met (plainFor_of_name rfl) (Nat.le_of_ble_eq_true rfl) (fun E B => wm_X16_number B a0) l

/-! RosaryCarvers$Fine isFinerThan (LRosaryCarvers$Fine;)Z -/

theorem wm_X13_isFinerThan {E : kw_E} (B : kw_ok E cX13_isFinerThan RX13 "isFinerThan" 2 (some .boolean) 2 20 []) (a0 : Option Nat) (a1 : Option Nat) : kw_W E kw_eI 0 [(0, kA a0), (1, kA a1)] [] (pm_X13_isFinerThan a0 a1) := by
  unfold pm_X13_isFinerThan
  refine kw_aload_n (pc := 0) B dX13_isFinerThan_0 rfl 0 rfl ?_
  refine kw_callF (pc := 1) B dX13_isFinerThan_1 (ci := 14) rfl (ct_X16_fineness a0) q987 q991 q993 q111 q995 q989 q988 q994 q992 q990 ⟨by decide, by decide, rfl⟩ (As := []) rfl (st := []) rfl (Nat.le_of_ble_eq_true rfl) (by decide) (by decide) kw_qI (fun i1 => ?_)
  refine kw_aload_n (pc := 6) B dX13_isFinerThan_6 rfl 1 rfl ?_
  refine kw_callF (pc := 7) B dX13_isFinerThan_7 (ci := 14) rfl (ct_X16_fineness a1) q987 q991 q993 q111 q995 q989 q988 q994 q992 q990 ⟨by decide, by decide, rfl⟩ (As := []) rfl (st := [kI i1]) rfl (Nat.le_of_ble_eq_true rfl) (by decide) (by decide) kw_qI (fun i2 => ?_)
  refine kw_icmp_gt (pc := 12) (tgt := 45) B dX13_isFinerThan_12 rfl ?_ ?_
  · refine kw_iconst (pc := 45) B dX13_isFinerThan_45 (v := (1 : Int32)) rfl ?_
    refine kw_goto (pc := 46) (tgt := 50) B dX13_isFinerThan_46 rfl ?_
    exact kw_zret B dX13_isFinerThan_50 (g := fun v => v) (fun _ => rfl)
  · refine kw_aload_n (pc := 15) B dX13_isFinerThan_15 rfl 0 rfl ?_
    refine kw_callF (pc := 16) B dX13_isFinerThan_16 (ci := 14) rfl (ct_X16_fineness a0) q987 q991 q993 q111 q995 q989 q988 q994 q992 q990 ⟨by decide, by decide, rfl⟩ (As := []) rfl (st := []) rfl (Nat.le_of_ble_eq_true rfl) (by decide) (by decide) kw_qI (fun i3 => ?_)
    refine kw_aload_n (pc := 21) B dX13_isFinerThan_21 rfl 1 rfl ?_
    refine kw_callF (pc := 22) B dX13_isFinerThan_22 (ci := 14) rfl (ct_X16_fineness a1) q987 q991 q993 q111 q995 q989 q988 q994 q992 q990 ⟨by decide, by decide, rfl⟩ (As := []) rfl (st := [kI i3]) rfl (Nat.le_of_ble_eq_true rfl) (by decide) (by decide) kw_qI (fun i4 => ?_)
    refine kw_icmp_ne (pc := 27) (tgt := 49) B dX13_isFinerThan_27 rfl ?_ ?_
    · refine kw_iconst (pc := 49) B dX13_isFinerThan_49 (v := (0 : Int32)) rfl ?_
      exact kw_zret B dX13_isFinerThan_50 (g := fun v => v) (fun _ => rfl)
    · refine kw_aload_n (pc := 30) B dX13_isFinerThan_30 rfl 0 rfl ?_
      refine kw_callF (pc := 31) B dX13_isFinerThan_31 (ci := 14) rfl (ct_X16_number a0) q997 q1000 q1002 q111 q1004 q999 q998 q1003 q1001 q990 ⟨by decide, by decide, rfl⟩ (As := []) rfl (st := []) rfl (Nat.le_of_ble_eq_true rfl) (by decide) (by decide) kw_qI (fun i5 => ?_)
      refine kw_aload_n (pc := 36) B dX13_isFinerThan_36 rfl 1 rfl ?_
      refine kw_callF (pc := 37) B dX13_isFinerThan_37 (ci := 14) rfl (ct_X16_number a1) q997 q1000 q1002 q111 q1004 q999 q998 q1003 q1001 q990 ⟨by decide, by decide, rfl⟩ (As := []) rfl (st := [kI i5]) rfl (Nat.le_of_ble_eq_true rfl) (by decide) (by decide) kw_qI (fun i6 => ?_)
      refine kw_icmp_ge (pc := 42) (tgt := 49) B dX13_isFinerThan_42 rfl ?_ ?_
      · refine kw_iconst (pc := 49) B dX13_isFinerThan_49 (v := (0 : Int32)) rfl ?_
        exact kw_zret B dX13_isFinerThan_50 (g := fun v => v) (fun _ => rfl)
      · refine kw_iconst (pc := 45) B dX13_isFinerThan_45 (v := (1 : Int32)) rfl ?_
        refine kw_goto (pc := 46) (tgt := 50) B dX13_isFinerThan_46 rfl ?_
        exact kw_zret B dX13_isFinerThan_50 (g := fun v => v) (fun _ => rfl)
theorem ct_X13_isFinerThan (a0 : Option Nat) (a1 : Option Nat) (l : Launch) : kw_Met l yX13_isFinerThan (ws_ yX13_isFinerThan cX13_isFinerThan 2 (some .boolean)) 2 20 [kA a0, kA a1] kw_eI (pm_X13_isFinerThan a0 a1) := kw_met (plainFor_of_name rfl) (Nat.le_of_ble_eq_true rfl) (fun E B => wm_X13_isFinerThan B a0 a1) l

/-! RosaryCarvers$Beads finest (Z)LRosaryCarvers$Bead; -/

theorem wb_X2_finest_13 {E : kw_E} (B : kw_ok E cX2_finest RX2 "finest" 5 (some (.object "RosaryCarvers$Bead")) 7 128 [])  : ∀ (n : Nat) (x2 : Option Nat) (x3 : Option Nat), kw_W E kw_eA 13 [(2, kA x2), (3, kA x3)] [] (pb_X2_finest_13  n x2 x3) := by
  intro n
  induction n with
  | zero =>
    intro x2 x3
    exact kw_fail_ok
  | succ n ih =>
    intro x2 x3
    show kw_W E kw_eA 13 [(2, kA x2), (3, kA x3)] [] (
km_bind (km_disp x3 [(11, pm_X12_hasNext x3), (33, pm_J5_hasNext x3), (34, pm_J15_hasNext x3)]) fun i1 =>
if i1 = 0 then
(km_pure x2)
else
(km_bind (km_disp x3 [(11, pm_X12_next x3), (33, pm_J5_next x3), (34, pm_J15_next x3)]) fun r2 =>
km_bind (km_cast [14] r2) fun _ =>
if x2 = none then
(pb_X2_finest_13 n r2 x3)
else
(km_bind (km_is 14 r2) fun _ => km_bind (pm_X13_isFinerThan r2 x2) fun i3 =>
if i3 = 0 then
(pb_X2_finest_13 n x2 x3)
else
(pb_X2_finest_13 n r2 x3))))
    refine kw_aload_n (pc := 13) B dX2_finest_13 rfl 1 rfl ?_
    refine kw_disp (pc := 14) (pc' := 19) (st := []) kw_hI (fun i1 => ?_) ?_
    · refine kw_if_eq (pc := 19) (tgt := 56) B dX2_finest_19 rfl ?_ ?_
      · refine kw_aload_n (pc := 56) B dX2_finest_56 rfl 0 rfl ?_
        exact kw_aret rfl B dX2_finest_57 rfl
      · refine kw_aload_n (pc := 22) B dX2_finest_22 rfl 1 rfl ?_
        refine kw_disp (pc := 23) (pc' := 28) (st := []) kw_hA (fun r2 => ?_) ?_
        · refine kw_cast_ok (pc := 28) B dX2_finest_28 q979 cs_RosaryCarvers_Bead ?_
          refine kw_astore (pc := 31) B dX2_finest_31 (by decide) (L2 := [(4, kA r2), (2, kA x2), (3, kA x3)]) rfl ?_
          refine kw_aload_n (pc := 33) B dX2_finest_33 rfl 1 rfl ?_
          refine kw_ifnull (pc := 34) (tgt := 46) B dX2_finest_34 rfl ?_ ?_
          · refine kw_aload (pc := 46) B dX2_finest_46 0 rfl ?_
            refine kw_goto (pc := 48) (tgt := 52) B dX2_finest_48 rfl ?_
            refine kw_astore_n (pc := 52) B dX2_finest_52 rfl (by decide) (L2 := [(2, kA r2), (4, kA r2), (3, kA x3)]) rfl ?_
            refine kw_goto (pc := 53) (tgt := 13) B dX2_finest_53 rfl ?_
            exact kw_pick [0, 2] rfl (ih r2 x3)
          · refine kw_aload (pc := 37) B dX2_finest_37 0 rfl ?_
            refine kw_aload_n (pc := 39) B dX2_finest_39 rfl 1 rfl ?_
            refine kw_callD (pc := 40) B dX2_finest_40 (x0 := ⟨"RosaryCarvers$Bead", "isFinerThan", "(LRosaryCarvers$Fine;)Z"⟩) (owner := "RosaryCarvers$Fine") (ci := 14) rfl (ct_X13_isFinerThan r2 x2) qd_link qd_same qd_lands q983 q105 q985 rfl ⟨by decide, by decide, rfl⟩ (As := [kA x2]) rfl (st := []) rfl (Nat.le_of_ble_eq_true rfl) (by decide) (by decide) kw_qI (fun i3 => ?_)
            refine kw_if_eq (pc := 43) (tgt := 51) B dX2_finest_43 rfl ?_ ?_
            · refine kw_aload_n (pc := 51) B dX2_finest_51 rfl 1 rfl ?_
              refine kw_astore_n (pc := 52) B dX2_finest_52 rfl (by decide) (L2 := [(2, kA x2), (4, kA r2), (3, kA x3)]) rfl ?_
              refine kw_goto (pc := 53) (tgt := 13) B dX2_finest_53 rfl ?_
              exact kw_pick [0, 2] rfl (ih x2 x3)
            · refine kw_aload (pc := 46) B dX2_finest_46 0 rfl ?_
              refine kw_goto (pc := 48) (tgt := 52) B dX2_finest_48 rfl ?_
              refine kw_astore_n (pc := 52) B dX2_finest_52 rfl (by decide) (L2 := [(2, kA r2), (4, kA r2), (3, kA x3)]) rfl ?_
              refine kw_goto (pc := 53) (tgt := 13) B dX2_finest_53 rfl ?_
              exact kw_pick [0, 2] rfl (ih r2 x3)
        · intro q hq hk
          simp only [List.mem_cons, List.not_mem_nil, or_false] at hq
          rcases hq with rfl | rfl | rfl
          · exact kw_callF (pc := 23) B dX2_finest_23 (ci := 11) rfl (ct_X12_next x3) q978 q425 q427 q101 q429 q424 q423 q428 q426 q399 ⟨by decide, by decide, rfl⟩ (As := []) rfl (st := []) rfl (Nat.le_of_ble_eq_true rfl) (by decide) (by decide) kw_qA hk
          · exact kw_callF (pc := 23) B dX2_finest_23 (ci := 33) rfl (ct_J5_next x3) q978 q533 q535 q84 q537 q424 q423 q536 q534 q415 ⟨by decide, by decide, rfl⟩ (As := []) rfl (st := []) rfl (Nat.le_of_ble_eq_true rfl) (by decide) (by decide) kw_qA hk
          · exact kw_callF (pc := 23) B dX2_finest_23 (ci := 34) rfl (ct_J15_next x3) q978 q522 q524 q102 q526 q424 q423 q525 q523 q409 ⟨by decide, by decide, rfl⟩ (As := []) rfl (st := []) rfl (Nat.le_of_ble_eq_true rfl) (by decide) (by decide) kw_qA hk
    · intro q hq hk
      simp only [List.mem_cons, List.not_mem_nil, or_false] at hq
      rcases hq with rfl | rfl | rfl
      · exact kw_callF (pc := 14) B dX2_finest_14 (ci := 11) rfl (ct_X12_hasNext x3) q976 q400 q402 q101 q404 q398 q397 q403 q401 q399 ⟨by decide, by decide, rfl⟩ (As := []) rfl (st := []) rfl (Nat.le_of_ble_eq_true rfl) (by decide) (by decide) kw_qI hk
      · exact kw_callF (pc := 14) B dX2_finest_14 (ci := 33) rfl (ct_J5_hasNext x3) q976 q416 q418 q84 q420 q398 q397 q419 q417 q415 ⟨by decide, by decide, rfl⟩ (As := []) rfl (st := []) rfl (Nat.le_of_ble_eq_true rfl) (by decide) (by decide) kw_qI hk
      · exact kw_callF (pc := 14) B dX2_finest_14 (ci := 34) rfl (ct_J15_hasNext x3) q976 q410 q412 q102 q414 q398 q397 q413 q411 q409 ⟨by decide, by decide, rfl⟩ (As := []) rfl (st := []) rfl (Nat.le_of_ble_eq_true rfl) (by decide) (by decide) kw_qI hk
theorem wm_X2_finest {E : kw_E} (B : kw_ok E cX2_finest RX2 "finest" 5 (some (.object "RosaryCarvers$Bead")) 7 128 []) (a0 : Option Nat) (a1 : Int32) : kw_W E kw_eA 0 [(0, kA a0), (1, kI a1)] [] (pm_X2_finest a0 a1) := by
  unfold pm_X2_finest
  refine kw_null (pc := 0) B dX2_finest_0 ?_
  refine kw_astore_n (pc := 1) B dX2_finest_1 rfl (by decide) (L2 := [(2, kA none), (0, kA a0), (1, kI a1)]) rfl ?_
  refine kw_aload_n (pc := 2) B dX2_finest_2 rfl 1 rfl ?_
  refine kw_iload_n (pc := 3) B dX2_finest_3 rfl 2 rfl ?_
  refine kw_disp (pc := 4) (pc' := 7) (st := []) kw_hA (fun r1 => ?_) ?_
  · refine kw_disp (pc := 7) (pc' := 12) (st := []) kw_hA (fun r2 => ?_) ?_
    · refine kw_astore_n (pc := 12) B dX2_finest_12 rfl (by decide) (L2 := [(3, kA r2), (2, kA none), (0, kA a0), (1, kI a1)]) rfl ?_
      exact kw_pick [1, 0] rfl (wb_X2_finest_13 B km_fuel none r2)
    · intro q hq hk
      simp only [List.mem_cons, List.not_mem_nil, or_false] at hq
      rcases hq with rfl | rfl | rfl | rfl | rfl | rfl
      · exact kw_callF (pc := 7) B dX2_finest_7 (ci := 2) rfl (ct_X2_iterator r1) q902 q906 q908 q78 q910 q904 q903 q909 q907 q905 ⟨by decide, by decide, rfl⟩ (As := []) rfl (st := []) rfl (Nat.le_of_ble_eq_true rfl) (by decide) (by decide) kw_qA hk
      · exact kw_callF (pc := 7) B dX2_finest_7 (ci := 7) rfl (ct_X2_iterator r1) q902 q934 q908 q78 q910 q904 q903 q909 q935 q933 ⟨by decide, by decide, rfl⟩ (As := []) rfl (st := []) rfl (Nat.le_of_ble_eq_true rfl) (by decide) (by decide) kw_qA hk
      · exact kw_callF (pc := 7) B dX2_finest_7 (ci := 10) rfl (ct_X11_iterator r1) q902 q913 q915 q100 q917 q904 q903 q916 q914 q912 ⟨by decide, by decide, rfl⟩ (As := []) rfl (st := []) rfl (Nat.le_of_ble_eq_true rfl) (by decide) (by decide) kw_qA hk
      · exact kw_callF (pc := 7) B dX2_finest_7 (ci := 12) rfl (ct_X2_iterator r1) q902 q937 q908 q78 q910 q904 q903 q909 q938 q936 ⟨by decide, by decide, rfl⟩ (As := []) rfl (st := []) rfl (Nat.le_of_ble_eq_true rfl) (by decide) (by decide) kw_qA hk
      · exact kw_callF (pc := 7) B dX2_finest_7 (ci := 30) rfl (ct_J2_iterator r1) q902 q972 q373 q77 q375 q904 q903 q974 q973 q971 ⟨by decide, by decide, rfl⟩ (As := []) rfl (st := []) rfl (Nat.le_of_ble_eq_true rfl) (by decide) (by decide) kw_qA hk
      · exact kw_callF (pc := 7) B dX2_finest_7 (ci := 32) rfl (ct_J4_iterator r1) q902 q940 q942 q80 q944 q904 q903 q943 q941 q939 ⟨by decide, by decide, rfl⟩ (As := []) rfl (st := []) rfl (Nat.le_of_ble_eq_true rfl) (by decide) (by decide) kw_qA hk
  · intro q hq hk
    simp only [List.mem_cons, List.not_mem_nil, or_false] at hq
    rcases hq with rfl | rfl | rfl
    · exact kw_callV (pc := 4) B dX2_finest_4 (ci := 2) rfl (ct_X2_of a0 a1) q881 q882 q883 q78 q887 ⟨by decide, by decide, rfl⟩ (As := [kI a1]) rfl (st := []) rfl (Nat.le_of_ble_eq_true rfl) (by decide) (by decide) kw_qA hk
    · exact kw_callV (pc := 4) B dX2_finest_4 (ci := 7) rfl (ct_X2_of a0 a1) q881 q882 q885 q78 q887 ⟨by decide, by decide, rfl⟩ (As := [kI a1]) rfl (st := []) rfl (Nat.le_of_ble_eq_true rfl) (by decide) (by decide) kw_qA hk
    · exact kw_callV (pc := 4) B dX2_finest_4 (ci := 12) rfl (ct_X2_of a0 a1) q881 q882 q886 q78 q887 ⟨by decide, by decide, rfl⟩ (As := [kI a1]) rfl (st := []) rfl (Nat.le_of_ble_eq_true rfl) (by decide) (by decide) kw_qA hk
theorem ct_X2_finest (a0 : Option Nat) (a1 : Int32) (l : Launch) : kw_Met l yX2_finest (ws_ yX2_finest cX2_finest 5 (some (.object "RosaryCarvers$Bead"))) 7 128 [kA a0, kI a1] kw_eA (pm_X2_finest a0 a1) := kw_met (plainFor_of_name rfl) (Nat.le_of_ble_eq_true rfl) (fun E B => wm_X2_finest B a0 a1) l

/-! RosaryCarvers$Beads many (Z)I -/

theorem wb_X2_many_13 {E : kw_E} (B : kw_ok E cX2_many RX2 "many" 5 (some .int) 7 128 [])  : ∀ (n : Nat) (x2 : Int32) (x3 : Option Nat), kw_W E kw_eI 13 [(2, kI x2), (3, kA x3)] [] (pb_X2_many_13  n x2 x3) := by
  intro n
  induction n with
  | zero =>
    intro x2 x3
    exact kw_fail_ok
  | succ n ih =>
    intro x2 x3
    show kw_W E kw_eI 13 [(2, kI x2), (3, kA x3)] [] (
km_bind (km_disp x3 [(11, pm_X12_hasNext x3), (33, pm_J5_hasNext x3), (34, pm_J15_hasNext x3)]) fun i1 =>
if i1 = 0 then
(km_pure x2)
else
(km_bind (km_disp x3 [(11, pm_X12_next x3), (33, pm_J5_next x3), (34, pm_J15_next x3)]) fun r2 =>
km_bind (km_cast [14] r2) fun _ =>
pb_X2_many_13 n (x2 + (1 : Int32)) x3))
    refine kw_aload_n (pc := 13) B dX2_many_13 rfl 1 rfl ?_
    refine kw_disp (pc := 14) (pc' := 19) (st := []) kw_hI (fun i1 => ?_) ?_
    · refine kw_if_eq (pc := 19) (tgt := 39) B dX2_many_19 rfl ?_ ?_
      · refine kw_iload_n (pc := 39) B dX2_many_39 rfl 0 rfl ?_
        exact kw_iret B dX2_many_40 rfl
      · refine kw_aload_n (pc := 22) B dX2_many_22 rfl 1 rfl ?_
        refine kw_disp (pc := 23) (pc' := 28) (st := []) kw_hA (fun r2 => ?_) ?_
        · refine kw_cast_ok (pc := 28) B dX2_many_28 q979 cs_RosaryCarvers_Bead ?_
          refine kw_astore (pc := 31) B dX2_many_31 (by decide) (L2 := [(4, kA r2), (2, kI x2), (3, kA x3)]) rfl ?_
          refine kw_iinc (pc := 33) B dX2_many_33 1 rfl (w := x2 + (1 : Int32)) rfl (by decide) (L2 := [(2, kI (x2 + (1 : Int32))), (4, kA r2), (3, kA x3)]) rfl ?_
          refine kw_goto (pc := 36) (tgt := 13) B dX2_many_36 rfl ?_
          exact kw_pick [0, 2] rfl (ih (x2 + (1 : Int32)) x3)
        · intro q hq hk
          simp only [List.mem_cons, List.not_mem_nil, or_false] at hq
          rcases hq with rfl | rfl | rfl
          · exact kw_callF (pc := 23) B dX2_many_23 (ci := 11) rfl (ct_X12_next x3) q978 q425 q427 q101 q429 q424 q423 q428 q426 q399 ⟨by decide, by decide, rfl⟩ (As := []) rfl (st := []) rfl (Nat.le_of_ble_eq_true rfl) (by decide) (by decide) kw_qA hk
          · exact kw_callF (pc := 23) B dX2_many_23 (ci := 33) rfl (ct_J5_next x3) q978 q533 q535 q84 q537 q424 q423 q536 q534 q415 ⟨by decide, by decide, rfl⟩ (As := []) rfl (st := []) rfl (Nat.le_of_ble_eq_true rfl) (by decide) (by decide) kw_qA hk
          · exact kw_callF (pc := 23) B dX2_many_23 (ci := 34) rfl (ct_J15_next x3) q978 q522 q524 q102 q526 q424 q423 q525 q523 q409 ⟨by decide, by decide, rfl⟩ (As := []) rfl (st := []) rfl (Nat.le_of_ble_eq_true rfl) (by decide) (by decide) kw_qA hk
    · intro q hq hk
      simp only [List.mem_cons, List.not_mem_nil, or_false] at hq
      rcases hq with rfl | rfl | rfl
      · exact kw_callF (pc := 14) B dX2_many_14 (ci := 11) rfl (ct_X12_hasNext x3) q976 q400 q402 q101 q404 q398 q397 q403 q401 q399 ⟨by decide, by decide, rfl⟩ (As := []) rfl (st := []) rfl (Nat.le_of_ble_eq_true rfl) (by decide) (by decide) kw_qI hk
      · exact kw_callF (pc := 14) B dX2_many_14 (ci := 33) rfl (ct_J5_hasNext x3) q976 q416 q418 q84 q420 q398 q397 q419 q417 q415 ⟨by decide, by decide, rfl⟩ (As := []) rfl (st := []) rfl (Nat.le_of_ble_eq_true rfl) (by decide) (by decide) kw_qI hk
      · exact kw_callF (pc := 14) B dX2_many_14 (ci := 34) rfl (ct_J15_hasNext x3) q976 q410 q412 q102 q414 q398 q397 q413 q411 q409 ⟨by decide, by decide, rfl⟩ (As := []) rfl (st := []) rfl (Nat.le_of_ble_eq_true rfl) (by decide) (by decide) kw_qI hk
theorem wm_X2_many {E : kw_E} (B : kw_ok E cX2_many RX2 "many" 5 (some .int) 7 128 []) (a0 : Option Nat) (a1 : Int32) : kw_W E kw_eI 0 [(0, kA a0), (1, kI a1)] [] (pm_X2_many a0 a1) := by
  unfold pm_X2_many
  refine kw_iconst (pc := 0) B dX2_many_0 (v := (0 : Int32)) rfl ?_
  refine kw_istore_n (pc := 1) B dX2_many_1 rfl (by decide) (L2 := [(2, kI (0 : Int32)), (0, kA a0), (1, kI a1)]) rfl ?_
  refine kw_aload_n (pc := 2) B dX2_many_2 rfl 1 rfl ?_
  refine kw_iload_n (pc := 3) B dX2_many_3 rfl 2 rfl ?_
  refine kw_disp (pc := 4) (pc' := 7) (st := []) kw_hA (fun r1 => ?_) ?_
  · refine kw_disp (pc := 7) (pc' := 12) (st := []) kw_hA (fun r2 => ?_) ?_
    · refine kw_astore_n (pc := 12) B dX2_many_12 rfl (by decide) (L2 := [(3, kA r2), (2, kI (0 : Int32)), (0, kA a0), (1, kI a1)]) rfl ?_
      exact kw_pick [1, 0] rfl (wb_X2_many_13 B km_fuel (0 : Int32) r2)
    · intro q hq hk
      simp only [List.mem_cons, List.not_mem_nil, or_false] at hq
      rcases hq with rfl | rfl | rfl | rfl | rfl | rfl
      · exact kw_callF (pc := 7) B dX2_many_7 (ci := 2) rfl (ct_X2_iterator r1) q902 q906 q908 q78 q910 q904 q903 q909 q907 q905 ⟨by decide, by decide, rfl⟩ (As := []) rfl (st := []) rfl (Nat.le_of_ble_eq_true rfl) (by decide) (by decide) kw_qA hk
      · exact kw_callF (pc := 7) B dX2_many_7 (ci := 7) rfl (ct_X2_iterator r1) q902 q934 q908 q78 q910 q904 q903 q909 q935 q933 ⟨by decide, by decide, rfl⟩ (As := []) rfl (st := []) rfl (Nat.le_of_ble_eq_true rfl) (by decide) (by decide) kw_qA hk
      · exact kw_callF (pc := 7) B dX2_many_7 (ci := 10) rfl (ct_X11_iterator r1) q902 q913 q915 q100 q917 q904 q903 q916 q914 q912 ⟨by decide, by decide, rfl⟩ (As := []) rfl (st := []) rfl (Nat.le_of_ble_eq_true rfl) (by decide) (by decide) kw_qA hk
      · exact kw_callF (pc := 7) B dX2_many_7 (ci := 12) rfl (ct_X2_iterator r1) q902 q937 q908 q78 q910 q904 q903 q909 q938 q936 ⟨by decide, by decide, rfl⟩ (As := []) rfl (st := []) rfl (Nat.le_of_ble_eq_true rfl) (by decide) (by decide) kw_qA hk
      · exact kw_callF (pc := 7) B dX2_many_7 (ci := 30) rfl (ct_J2_iterator r1) q902 q972 q373 q77 q375 q904 q903 q974 q973 q971 ⟨by decide, by decide, rfl⟩ (As := []) rfl (st := []) rfl (Nat.le_of_ble_eq_true rfl) (by decide) (by decide) kw_qA hk
      · exact kw_callF (pc := 7) B dX2_many_7 (ci := 32) rfl (ct_J4_iterator r1) q902 q940 q942 q80 q944 q904 q903 q943 q941 q939 ⟨by decide, by decide, rfl⟩ (As := []) rfl (st := []) rfl (Nat.le_of_ble_eq_true rfl) (by decide) (by decide) kw_qA hk
  · intro q hq hk
    simp only [List.mem_cons, List.not_mem_nil, or_false] at hq
    rcases hq with rfl | rfl | rfl
    · exact kw_callV (pc := 4) B dX2_many_4 (ci := 2) rfl (ct_X2_of a0 a1) q881 q882 q883 q78 q887 ⟨by decide, by decide, rfl⟩ (As := [kI a1]) rfl (st := []) rfl (Nat.le_of_ble_eq_true rfl) (by decide) (by decide) kw_qA hk
    · exact kw_callV (pc := 4) B dX2_many_4 (ci := 7) rfl (ct_X2_of a0 a1) q881 q882 q885 q78 q887 ⟨by decide, by decide, rfl⟩ (As := [kI a1]) rfl (st := []) rfl (Nat.le_of_ble_eq_true rfl) (by decide) (by decide) kw_qA hk
    · exact kw_callV (pc := 4) B dX2_many_4 (ci := 12) rfl (ct_X2_of a0 a1) q881 q882 q886 q78 q887 ⟨by decide, by decide, rfl⟩ (As := [kI a1]) rfl (st := []) rfl (Nat.le_of_ble_eq_true rfl) (by decide) (by decide) kw_qA hk
theorem ct_X2_many (a0 : Option Nat) (a1 : Int32) (l : Launch) : kw_Met l yX2_many (ws_ yX2_many cX2_many 5 (some .int)) 7 128 [kA a0, kI a1] kw_eI (pm_X2_many a0 a1) := kw_met (plainFor_of_name rfl) (Nat.le_of_ble_eq_true rfl) (fun E B => wm_X2_many B a0 a1) l

/-! RosaryCarvers$Shop onOthers (Z)I -/

theorem wb_X1_onOthers_49 {E : kw_E} (B : kw_ok E cX1_onOthers RX1 "onOthers" 5 (some .int) 8 152 []) {k10 : Int32 → Int32 → Option Nat → km_M Int32} (h10 : ∀ (y1 : Int32) (y2 : Int32) (y3 : Option Nat), kw_W E kw_eI 10 [(1, kI y1), (2, kI y2), (3, kA y3)] [] (k10 y1 y2 y3)) (x1 : Int32) (x3 : Option Nat) (s0 : Int32) (s1 : Int32) : kw_W E kw_eI 49 [(1, kI x1), (3, kA x3)] [kI s0, kI s1] (pb_X1_onOthers_49 k10 x1 x3 s0 s1) := by
  unfold pb_X1_onOthers_49
  refine kw_iadd (pc := 49) B dX1_onOthers_49 ?_
  refine kw_istore_n (pc := 50) B dX1_onOthers_50 rfl (by decide) (L2 := [(2, kI (s1 + s0)), (1, kI x1), (3, kA x3)]) rfl ?_
  refine kw_goto (pc := 51) (tgt := 10) B dX1_onOthers_51 rfl ?_
  exact kw_pick [1, 0, 2] rfl (h10 x1 (s1 + s0) x3)
theorem wb_X1_onOthers_10 {E : kw_E} (B : kw_ok E cX1_onOthers RX1 "onOthers" 5 (some .int) 8 152 [])  : ∀ (n : Nat) (x1 : Int32) (x2 : Int32) (x3 : Option Nat), kw_W E kw_eI 10 [(1, kI x1), (2, kI x2), (3, kA x3)] [] (pb_X1_onOthers_10  n x1 x2 x3) := by
  intro n
  induction n with
  | zero =>
    intro x1 x2 x3
    exact kw_fail_ok
  | succ n ih =>
    intro x1 x2 x3
    show kw_W E kw_eI 10 [(1, kI x1), (2, kI x2), (3, kA x3)] [] (
km_bind (km_disp x3 [(11, pm_X12_hasNext x3), (33, pm_J5_hasNext x3), (34, pm_J15_hasNext x3)]) fun i1 =>
if i1 = 0 then
(km_pure x2)
else
(km_bind (km_disp x3 [(11, pm_X12_next x3), (33, pm_J5_next x3), (34, pm_J15_next x3)]) fun r2 =>
km_bind (km_cast [7] r2) fun _ =>
km_bind (km_is 7 r2) fun _ => km_bind (pm_X8_isDone r2) fun i3 =>
if i3 = 0 then
(km_bind (km_is 7 r2) fun _ => km_bind (pm_X2_many r2 x1) fun i4 =>
pb_X1_onOthers_49 (pb_X1_onOthers_10 n) x1 x3 i4 x2)
else
(pb_X1_onOthers_49 (pb_X1_onOthers_10 n) x1 x3 (0 : Int32) x2)))
    refine kw_aload_n (pc := 10) B dX1_onOthers_10 rfl 2 rfl ?_
    refine kw_disp (pc := 11) (pc' := 16) (st := []) kw_hI (fun i1 => ?_) ?_
    · refine kw_if_eq (pc := 16) (tgt := 54) B dX1_onOthers_16 rfl ?_ ?_
      · refine kw_iload_n (pc := 54) B dX1_onOthers_54 rfl 1 rfl ?_
        exact kw_iret B dX1_onOthers_55 rfl
      · refine kw_aload_n (pc := 19) B dX1_onOthers_19 rfl 2 rfl ?_
        refine kw_disp (pc := 20) (pc' := 25) (st := []) kw_hA (fun r2 => ?_) ?_
        · refine kw_cast_ok (pc := 25) B dX1_onOthers_25 q716 cs_RosaryCarvers_Rosary ?_
          refine kw_astore (pc := 28) B dX1_onOthers_28 (by decide) (L2 := [(4, kA r2), (1, kI x1), (2, kI x2), (3, kA x3)]) rfl ?_
          refine kw_iload_n (pc := 30) B dX1_onOthers_30 rfl 2 rfl ?_
          refine kw_aload (pc := 31) B dX1_onOthers_31 0 rfl ?_
          refine kw_callV (pc := 33) B dX1_onOthers_33 (ci := 7) rfl (ct_X8_isDone r2) q1013 q1014 q1015 q97 q1016 ⟨by decide, by decide, rfl⟩ (As := []) rfl (st := [kI x2]) rfl (Nat.le_of_ble_eq_true rfl) (by decide) (by decide) kw_qI (fun i3 => ?_)
          refine kw_if_eq (pc := 36) (tgt := 43) B dX1_onOthers_36 rfl ?_ ?_
          · refine kw_aload (pc := 43) B dX1_onOthers_43 0 rfl ?_
            refine kw_iload_n (pc := 45) B dX1_onOthers_45 rfl 1 rfl ?_
            refine kw_callU (pc := 46) B dX1_onOthers_46 (x0 := ⟨"RosaryCarvers$Rosary", "many", "(Z)I"⟩) (owner := "RosaryCarvers$Beads") (ci := 7) rfl (ct_X2_many r2 x1) q1017 q1018 q1020 q1021 q78 q1022 rfl ⟨by decide, by decide, rfl⟩ (As := [kI x1]) rfl (st := [kI x2]) rfl (Nat.le_of_ble_eq_true rfl) (by decide) (by decide) kw_qI (fun i4 => ?_)
            exact kw_pick [1, 3] rfl (wb_X1_onOthers_49 B ih x1 x3 i4 x2)
          · refine kw_iconst (pc := 39) B dX1_onOthers_39 (v := (0 : Int32)) rfl ?_
            refine kw_goto (pc := 40) (tgt := 49) B dX1_onOthers_40 rfl ?_
            exact kw_pick [1, 3] rfl (wb_X1_onOthers_49 B ih x1 x3 (0 : Int32) x2)
        · intro q hq hk
          simp only [List.mem_cons, List.not_mem_nil, or_false] at hq
          rcases hq with rfl | rfl | rfl
          · exact kw_callF (pc := 20) B dX1_onOthers_20 (ci := 11) rfl (ct_X12_next x3) q422 q425 q427 q101 q429 q424 q423 q428 q426 q399 ⟨by decide, by decide, rfl⟩ (As := []) rfl (st := []) rfl (Nat.le_of_ble_eq_true rfl) (by decide) (by decide) kw_qA hk
          · exact kw_callF (pc := 20) B dX1_onOthers_20 (ci := 33) rfl (ct_J5_next x3) q422 q533 q535 q84 q537 q424 q423 q536 q534 q415 ⟨by decide, by decide, rfl⟩ (As := []) rfl (st := []) rfl (Nat.le_of_ble_eq_true rfl) (by decide) (by decide) kw_qA hk
          · exact kw_callF (pc := 20) B dX1_onOthers_20 (ci := 34) rfl (ct_J15_next x3) q422 q522 q524 q102 q526 q424 q423 q525 q523 q409 ⟨by decide, by decide, rfl⟩ (As := []) rfl (st := []) rfl (Nat.le_of_ble_eq_true rfl) (by decide) (by decide) kw_qA hk
    · intro q hq hk
      simp only [List.mem_cons, List.not_mem_nil, or_false] at hq
      rcases hq with rfl | rfl | rfl
      · exact kw_callF (pc := 11) B dX1_onOthers_11 (ci := 11) rfl (ct_X12_hasNext x3) q396 q400 q402 q101 q404 q398 q397 q403 q401 q399 ⟨by decide, by decide, rfl⟩ (As := []) rfl (st := []) rfl (Nat.le_of_ble_eq_true rfl) (by decide) (by decide) kw_qI hk
      · exact kw_callF (pc := 11) B dX1_onOthers_11 (ci := 33) rfl (ct_J5_hasNext x3) q396 q416 q418 q84 q420 q398 q397 q419 q417 q415 ⟨by decide, by decide, rfl⟩ (As := []) rfl (st := []) rfl (Nat.le_of_ble_eq_true rfl) (by decide) (by decide) kw_qI hk
      · exact kw_callF (pc := 11) B dX1_onOthers_11 (ci := 34) rfl (ct_J15_hasNext x3) q396 q410 q412 q102 q414 q398 q397 q413 q411 q409 ⟨by decide, by decide, rfl⟩ (As := []) rfl (st := []) rfl (Nat.le_of_ble_eq_true rfl) (by decide) (by decide) kw_qI hk
theorem wm_X1_onOthers {E : kw_E} (B : kw_ok E cX1_onOthers RX1 "onOthers" 5 (some .int) 8 152 []) (a0 : Option Nat) (a1 : Int32) : kw_W E kw_eI 0 [(0, kA a0), (1, kI a1)] [] (pm_X1_onOthers a0 a1) := by
  unfold pm_X1_onOthers
  refine kw_iconst (pc := 0) B dX1_onOthers_0 (v := (0 : Int32)) rfl ?_
  refine kw_istore_n (pc := 1) B dX1_onOthers_1 rfl (by decide) (L2 := [(2, kI (0 : Int32)), (0, kA a0), (1, kI a1)]) rfl ?_
  refine kw_aload_n (pc := 2) B dX1_onOthers_2 rfl 1 rfl ?_
  refine kw_gR (pc := 3) B dX1_onOthers_3 fl_X1_28 (fun r1 => ?_)
  refine kw_callV (pc := 6) B dX1_onOthers_6 (ci := 30) rfl (ct_J2_iterator r1) q372 q373 q374 q77 q375 ⟨by decide, by decide, rfl⟩ (As := []) rfl (st := []) rfl (Nat.le_of_ble_eq_true rfl) (by decide) (by decide) kw_qA (fun r2 => ?_)
  refine kw_astore_n (pc := 9) B dX1_onOthers_9 rfl (by decide) (L2 := [(3, kA r2), (2, kI (0 : Int32)), (0, kA a0), (1, kI a1)]) rfl ?_
  exact kw_pick [3, 1, 0] rfl (wb_X1_onOthers_10 B km_fuel a1 (0 : Int32) r2)
theorem ct_X1_onOthers (a0 : Option Nat) (a1 : Int32) (l : Launch) : kw_Met l yX1_onOthers (ws_ yX1_onOthers cX1_onOthers 5 (some .int)) 8 152 [kA a0, kI a1] kw_eI (pm_X1_onOthers a0 a1) := kw_met (plainFor_of_name rfl) (Nat.le_of_ble_eq_true rfl) (fun E B => wm_X1_onOthers B a0 a1) l

/-! java/lang/Object equals (Ljava/lang/Object;)Z -/

theorem wm_J25_equals {E : kw_E} (B : kw_ok E cJ25_equals RJ25 "equals" 2 (some .boolean) 1 0 []) (a0 : Option Nat) (a1 : Option Nat) : kw_W E kw_eI 0 [(0, kA a0), (1, kA a1)] [] (pm_J25_equals a0 a1) := by
  unfold pm_J25_equals
  refine kw_aload_n (pc := 0) B dJ25_equals_0 rfl 0 rfl ?_
  refine kw_aload_n (pc := 1) B dJ25_equals_1 rfl 1 rfl ?_
  refine kw_acmp_ne (pc := 2) (tgt := 9) B dJ25_equals_2 rfl ?_ ?_
  · refine kw_iconst (pc := 9) B dJ25_equals_9 (v := (0 : Int32)) rfl ?_
    exact kw_zret B dJ25_equals_10 (g := fun v => v) (fun _ => rfl)
  · refine kw_iconst (pc := 5) B dJ25_equals_5 (v := (1 : Int32)) rfl ?_
    refine kw_goto (pc := 6) (tgt := 10) B dJ25_equals_6 rfl ?_
    exact kw_zret B dJ25_equals_10 (g := fun v => v) (fun _ => rfl)
theorem ct_J25_equals (a0 : Option Nat) (a1 : Option Nat) (l : Launch) : kw_Met l yJ25_equals (ws_ yJ25_equals cJ25_equals 2 (some .boolean)) 1 0 [kA a0, kA a1] kw_eI (pm_J25_equals a0 a1) := kw_met (by decide +kernel) (Nat.le_of_ble_eq_true rfl) (fun E B => wm_J25_equals B a0 a1) l

/-! java/lang/StringLatin1 equals ([B[B)Z -/

theorem wb_J17_equals_9 {E : kw_E} (B : kw_ok E cJ17_equals RJ17 "equals" 3 (some .boolean) 1 0 [])  : ∀ (n : Nat) (x0 : Option Nat) (x1 : Option Nat) (x2 : Int32), kw_W E kw_eI 9 [(0, kA x0), (1, kA x1), (2, kI x2)] [] (pb_J17_equals_9  n x0 x1 x2) := by
  intro n
  induction n with
  | zero =>
    intro x0 x1 x2
    exact kw_fail_ok
  | succ n ih =>
    intro x0 x1 x2
    show kw_W E kw_eI 9 [(0, kA x0), (1, kA x1), (2, kI x2)] [] (
km_bind (km_len x0) fun i1 =>
if i1 ≤ x2 then
(km_bind (km_ret .boolean (1 : Int32)) (fun v => km_pure v))
else
(km_bind (km_ldI 2 x0 x2) fun i2 =>
km_bind (km_ldI 2 x1 x2) fun i3 =>
if i2 = i3 then
(pb_J17_equals_9 n x0 x1 (x2 + (1 : Int32)))
else
(km_bind (km_ret .boolean (0 : Int32)) (fun v => km_pure v))))
    refine kw_iload_n (pc := 9) B dJ17_equals_9 rfl 2 rfl ?_
    refine kw_aload_n (pc := 10) B dJ17_equals_10 rfl 0 rfl ?_
    refine kw_alen (pc := 11) B dJ17_equals_11 (fun i1 => ?_)
    refine kw_icmp_ge (pc := 12) (tgt := 32) B dJ17_equals_12 rfl ?_ ?_
    · refine kw_iconst (pc := 32) B dJ17_equals_32 (v := (1 : Int32)) rfl ?_
      exact kw_zret B dJ17_equals_33 (g := fun v => v) (fun _ => rfl)
    · refine kw_aload_n (pc := 15) B dJ17_equals_15 rfl 0 rfl ?_
      refine kw_iload_n (pc := 16) B dJ17_equals_16 rfl 2 rfl ?_
      refine kw_bald (pc := 17) B dJ17_equals_17 (fun i2 => ?_)
      refine kw_aload_n (pc := 18) B dJ17_equals_18 rfl 1 rfl ?_
      refine kw_iload_n (pc := 19) B dJ17_equals_19 rfl 2 rfl ?_
      refine kw_bald (pc := 20) B dJ17_equals_20 (fun i3 => ?_)
      refine kw_icmp_eq (pc := 21) (tgt := 26) B dJ17_equals_21 rfl ?_ ?_
      · refine kw_iinc (pc := 26) B dJ17_equals_26 2 rfl (w := x2 + (1 : Int32)) rfl (by decide) (L2 := [(2, kI (x2 + (1 : Int32))), (0, kA x0), (1, kA x1)]) rfl ?_
        refine kw_goto (pc := 29) (tgt := 9) B dJ17_equals_29 rfl ?_
        exact kw_pick [1, 2, 0] rfl (ih x0 x1 (x2 + (1 : Int32)))
      · refine kw_iconst (pc := 24) B dJ17_equals_24 (v := (0 : Int32)) rfl ?_
        exact kw_zret B dJ17_equals_25 (g := fun v => v) (fun _ => rfl)
theorem wm_J17_equals {E : kw_E} (B : kw_ok E cJ17_equals RJ17 "equals" 3 (some .boolean) 1 0 []) (a0 : Option Nat) (a1 : Option Nat) : kw_W E kw_eI 0 [(0, kA a0), (1, kA a1)] [] (pm_J17_equals a0 a1) := by
  unfold pm_J17_equals
  refine kw_aload_n (pc := 0) B dJ17_equals_0 rfl 0 rfl ?_
  refine kw_alen (pc := 1) B dJ17_equals_1 (fun i1 => ?_)
  refine kw_aload_n (pc := 2) B dJ17_equals_2 rfl 1 rfl ?_
  refine kw_alen (pc := 3) B dJ17_equals_3 (fun i2 => ?_)
  refine kw_icmp_ne (pc := 4) (tgt := 34) B dJ17_equals_4 rfl ?_ ?_
  · refine kw_iconst (pc := 34) B dJ17_equals_34 (v := (0 : Int32)) rfl ?_
    exact kw_zret B dJ17_equals_35 (g := fun v => v) (fun _ => rfl)
  · refine kw_iconst (pc := 7) B dJ17_equals_7 (v := (0 : Int32)) rfl ?_
    refine kw_istore_n (pc := 8) B dJ17_equals_8 rfl (by decide) (L2 := [(2, kI (0 : Int32)), (0, kA a0), (1, kA a1)]) rfl ?_
    exact kw_pick [1, 2, 0] rfl (wb_J17_equals_9 B km_fuel a0 a1 (0 : Int32))
theorem ct_J17_equals (a0 : Option Nat) (a1 : Option Nat) (l : Launch) : kw_Met l yJ17_equals (ws_ yJ17_equals cJ17_equals 3 (some .boolean)) 1 0 [kA a0, kA a1] kw_eI (pm_J17_equals a0 a1) := kw_met (plainFor_of_name rfl) (Nat.le_of_ble_eq_true rfl) (fun E B => wm_J17_equals B a0 a1) l

/-! java/lang/String equals (Ljava/lang/Object;)Z -/
theorem cs_java_lang_String : kw_cs "java/lang/String" [35] := by
  intro c hc
  simp only [List.mem_cons, List.not_mem_nil, or_false] at hc
  rcases hc with rfl
  · exact ⟨_, rfl, Or.inl rfl⟩
theorem fl_J16_15 : kw_fl RJ16 15 "java/lang/String" [(35, 1)] := (kw_fl_c (C := RJ16) (T := TJ16) (N := 4) rfl (by decide) in_J16 q2130 (Or.inl rfl) kw_fl_nil)
theorem fl_J16_9 : kw_fl RJ16 9 "java/lang/String" [(35, 0)] := (kw_fl_c (C := RJ16) (T := TJ16) (N := 4) rfl (by decide) in_J16 q2129 (Or.inl rfl) kw_fl_nil)
theorem wb_J16_equals_36 {E : kw_E} (B : kw_ok E cJ16_equals RJ16 "equals" 3 (some .boolean) 2 22 [])  (x0 : Option Nat) (x2 : Option Nat) : kw_W E kw_eI 36 [(0, kA x0), (2, kA x2)] [] (pb_J16_equals_36  x0 x2) := by
  unfold pb_J16_equals_36
  refine kw_aload_n (pc := 36) B dJ16_equals_36 rfl 0 rfl ?_
  refine kw_gR (pc := 37) B dJ16_equals_37 fl_J16_9 (fun r1 => ?_)
  refine kw_aload_n (pc := 40) B dJ16_equals_40 rfl 1 rfl ?_
  refine kw_gR (pc := 41) B dJ16_equals_41 fl_J16_9 (fun r2 => ?_)
  refine kw_callS (pc := 44) B dJ16_equals_44 (ct_J17_equals r1 r2) q1077 q1078 q104 q1079 ⟨by decide, by decide, rfl⟩ (As := [kA r1, kA r2]) rfl (st := []) rfl (Nat.le_of_ble_eq_true rfl) (by decide) (by decide) kw_qI (fun i3 => ?_)
  refine kw_if_eq (pc := 47) (tgt := 54) B dJ16_equals_47 rfl ?_ ?_
  · refine kw_iconst (pc := 54) B dJ16_equals_54 (v := (0 : Int32)) rfl ?_
    exact kw_zret B dJ16_equals_55 (g := fun v => v) (fun _ => rfl)
  · refine kw_iconst (pc := 50) B dJ16_equals_50 (v := (1 : Int32)) rfl ?_
    refine kw_goto (pc := 51) (tgt := 55) B dJ16_equals_51 rfl ?_
    exact kw_zret B dJ16_equals_55 (g := fun v => v) (fun _ => rfl)
theorem wm_J16_equals {E : kw_E} (B : kw_ok E cJ16_equals RJ16 "equals" 3 (some .boolean) 2 22 []) (a0 : Option Nat) (a1 : Option Nat) : kw_W E kw_eI 0 [(0, kA a0), (1, kA a1)] [] (pm_J16_equals a0 a1) := by
  unfold pm_J16_equals
  refine kw_aload_n (pc := 0) B dJ16_equals_0 rfl 0 rfl ?_
  refine kw_aload_n (pc := 1) B dJ16_equals_1 rfl 1 rfl ?_
  refine kw_acmp_ne (pc := 2) (tgt := 7) B dJ16_equals_2 rfl ?_ ?_
  · refine kw_aload_n (pc := 7) B dJ16_equals_7 rfl 1 rfl ?_
    refine kw_inst (pc := 8) B dJ16_equals_8 q1074 cs_java_lang_String (fun c hc => by cases hc) (fun i1 => ?_)
    refine kw_if_eq (pc := 11) (tgt := 54) B dJ16_equals_11 rfl ?_ ?_
    · refine kw_iconst (pc := 54) B dJ16_equals_54 (v := (0 : Int32)) rfl ?_
      exact kw_zret B dJ16_equals_55 (g := fun v => v) (fun _ => rfl)
    · refine kw_aload_n (pc := 14) B dJ16_equals_14 rfl 1 rfl ?_
      refine kw_cast_ok (pc := 15) B dJ16_equals_15 q1074 cs_java_lang_String ?_
      refine kw_astore_n (pc := 18) B dJ16_equals_18 rfl (by decide) (L2 := [(2, kA a1), (0, kA a0), (1, kA a1)]) rfl ?_
      refine kw_getsI (pc := 19) B dJ16_equals_19 (v := (1 : Int32)) (C := "java/lang/String") (n := "COMPACT_STRINGS") (dd := "Z") (by decide) q1075 rfl ?_
      refine kw_if_eq (pc := 22) (tgt := 36) B dJ16_equals_22 rfl ?_ ?_
      · exact kw_fail_ok
      · refine kw_aload_n (pc := 25) B dJ16_equals_25 rfl 1 rfl ?_
        refine kw_gI (pc := 26) B dJ16_equals_26 fl_J16_15 (fun i2 => ?_)
        refine kw_aload_n (pc := 29) B dJ16_equals_29 rfl 0 rfl ?_
        refine kw_gI (pc := 30) B dJ16_equals_30 fl_J16_15 (fun i3 => ?_)
        refine kw_icmp_ne (pc := 33) (tgt := 54) B dJ16_equals_33 rfl ?_ ?_
        · refine kw_iconst (pc := 54) B dJ16_equals_54 (v := (0 : Int32)) rfl ?_
          exact kw_zret B dJ16_equals_55 (g := fun v => v) (fun _ => rfl)
        · exact kw_pick [1, 0] rfl (wb_J16_equals_36 B a0 a1)
  · refine kw_iconst (pc := 5) B dJ16_equals_5 (v := (1 : Int32)) rfl ?_
    exact kw_zret B dJ16_equals_6 (g := fun v => v) (fun _ => rfl)
theorem ct_J16_equals (a0 : Option Nat) (a1 : Option Nat) (l : Launch) : kw_Met l yJ16_equals (ws_ yJ16_equals cJ16_equals 3 (some .boolean)) 2 22 [kA a0, kA a1] kw_eI (pm_J16_equals a0 a1) := kw_met (plainFor_of_name rfl) (Nat.le_of_ble_eq_true rfl) (fun E B => wm_J16_equals B a0 a1) l

/-! java/util/ArrayList fastRemove ([Ljava/lang/Object;I)V -/

theorem wb_J2_fastRemove_34 {E : kw_E} (B : kw_ok E cJ2_fastRemove RJ2 "fastRemove" 4 none 1 40 [])  (x0 : Option Nat) (x1 : Option Nat) (x3 : Int32) : kw_W E kw_eV 34 [(0, kA x0), (1, kA x1), (3, kI x3)] [] (pb_J2_fastRemove_34  x0 x1 x3) := by
  unfold pb_J2_fastRemove_34
  refine kw_aload_n (pc := 34) B dJ2_fastRemove_34 rfl 1 rfl ?_
  refine kw_aload_n (pc := 35) B dJ2_fastRemove_35 rfl 0 rfl ?_
  refine kw_iload_n (pc := 36) B dJ2_fastRemove_36 rfl 2 rfl ?_
  refine kw_dup_x1 (pc := 37) B dJ2_fastRemove_37 rfl rfl ?_
  refine kw_pI (pc := 38) B dJ2_fastRemove_38 fl_J2_48 fp_J2_48 (fun h => by cases h) ?_
  refine kw_null (pc := 41) B dJ2_fastRemove_41 ?_
  refine kw_aast (pc := 42) B dJ2_fastRemove_42 ?_
  exact kw_vret B dJ2_fastRemove_43 rfl
theorem wm_J2_fastRemove {E : kw_E} (B : kw_ok E cJ2_fastRemove RJ2 "fastRemove" 4 none 1 40 []) (a0 : Option Nat) (a1 : Option Nat) (a2 : Int32) : kw_W E kw_eV 0 [(0, kA a0), (1, kA a1), (2, kI a2)] [] (pm_J2_fastRemove a0 a1 a2) := by
  unfold pm_J2_fastRemove
  refine kw_aload_n (pc := 0) B dJ2_fastRemove_0 rfl 0 rfl ?_
  refine kw_dup (pc := 1) B dJ2_fastRemove_1 rfl ?_
  refine kw_gI (pc := 2) B dJ2_fastRemove_2 fl_J2_63 (fun i1 => ?_)
  refine kw_iconst (pc := 5) B dJ2_fastRemove_5 (v := (1 : Int32)) rfl ?_
  refine kw_iadd (pc := 6) B dJ2_fastRemove_6 ?_
  refine kw_pI (pc := 7) B dJ2_fastRemove_7 fl_J2_63 fp_J2_63 (fun h => by cases h) ?_
  refine kw_aload_n (pc := 10) B dJ2_fastRemove_10 rfl 0 rfl ?_
  refine kw_gI (pc := 11) B dJ2_fastRemove_11 fl_J2_48 (fun i3 => ?_)
  refine kw_iconst (pc := 14) B dJ2_fastRemove_14 (v := (1 : Int32)) rfl ?_
  refine kw_isub (pc := 15) B dJ2_fastRemove_15 ?_
  refine kw_dup (pc := 16) B dJ2_fastRemove_16 rfl ?_
  refine kw_istore_n (pc := 17) B dJ2_fastRemove_17 rfl (by decide) (L2 := [(3, kI (i3 - (1 : Int32))), (0, kA a0), (1, kA a1), (2, kI a2)]) rfl ?_
  refine kw_iload_n (pc := 18) B dJ2_fastRemove_18 rfl 3 rfl ?_
  refine kw_icmp_le (pc := 19) (tgt := 34) B dJ2_fastRemove_19 rfl ?_ ?_
  · exact kw_pick [1, 2, 0] rfl (wb_J2_fastRemove_34 B a0 a1 (i3 - (1 : Int32)))
  · refine kw_aload_n (pc := 22) B dJ2_fastRemove_22 rfl 2 rfl ?_
    refine kw_iload_n (pc := 23) B dJ2_fastRemove_23 rfl 3 rfl ?_
    refine kw_iconst (pc := 24) B dJ2_fastRemove_24 (v := (1 : Int32)) rfl ?_
    refine kw_iadd (pc := 25) B dJ2_fastRemove_25 ?_
    refine kw_aload_n (pc := 26) B dJ2_fastRemove_26 rfl 2 rfl ?_
    refine kw_iload_n (pc := 27) B dJ2_fastRemove_27 rfl 3 rfl ?_
    refine kw_iload_n (pc := 28) B dJ2_fastRemove_28 rfl 0 rfl ?_
    refine kw_iload_n (pc := 29) B dJ2_fastRemove_29 rfl 3 rfl ?_
    refine kw_isub (pc := 30) B dJ2_fastRemove_30 ?_
    refine kw_acopy (pc := 31) B dJ2_fastRemove_31 q715 q656 q655 q95 (by decide) (Nat.le_of_ble_eq_true rfl) ?_
    exact kw_pick [1, 2, 0] rfl (wb_J2_fastRemove_34 B a0 a1 (i3 - (1 : Int32)))
theorem ct_J2_fastRemove (a0 : Option Nat) (a1 : Option Nat) (a2 : Int32) (l : Launch) : kw_Met l yJ2_fastRemove (ws_ yJ2_fastRemove cJ2_fastRemove 4 none) 1 40 [kA a0, kA a1, kI a2] kw_eV (pm_J2_fastRemove a0 a1 a2) := kw_met (plainFor_of_name rfl) (Nat.le_of_ble_eq_true rfl) (fun E B => wm_J2_fastRemove B a0 a1 a2) l
