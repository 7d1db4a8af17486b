set_option maxRecDepth 100000
/-! RosaryCarvers pilgrim (IIII)I -/

theorem wm_X0_pilgrim {E : kw_E} (B : kw_ok E cX0_pilgrim RX0 "pilgrim" 5 (some .int) 18 375 []) (a0 : Option Nat) (a1 : Int32) (a2 : Int32) (a3 : Int32) (a4 : Int32) : kw_W E kw_eI 0 [(0, kA a0), (1, kI a1), (2, kI a2), (3, kI a3), (4, kI a4)] [] (pm_X0_pilgrim a0 a1 a2 a3 a4) := by
  unfold pm_X0_pilgrim
  refine kw_iload_n (pc := 0) B dX0_pilgrim_0 rfl 1 rfl ?_
  refine kw_callS (pc := 1) B dX0_pilgrim_1 (ct_X0_areDays a1) q1486 q1487 q73 q1488 ⟨by decide, by decide, rfl⟩ (As := [kI a1]) rfl (st := []) rfl (Nat.le_of_ble_eq_true rfl) (by decide) (by decide) kw_qI (fun i1 => ?_)
  refine kw_if_eq (pc := 4) (tgt := 37) B dX0_pilgrim_4 rfl ?_ ?_
  · refine kw_bipush (pc := 37) B dX0_pilgrim_37 (v := (-2 : Int32)) rfl ?_
    exact kw_iret B dX0_pilgrim_39 rfl
  · refine kw_iload_n (pc := 7) B dX0_pilgrim_7 rfl 2 rfl ?_
    refine kw_iconst (pc := 8) B dX0_pilgrim_8 (v := (1 : Int32)) rfl ?_
    refine kw_iconst (pc := 9) B dX0_pilgrim_9 (v := (4 : Int32)) rfl ?_
    refine kw_callS (pc := 10) B dX0_pilgrim_10 (ct_X0_in a2 (1 : Int32) (4 : Int32)) q339 q340 q73 q341 ⟨by decide, by decide, rfl⟩ (As := [kI a2, kI (1 : Int32), kI (4 : Int32)]) rfl (st := []) rfl (Nat.le_of_ble_eq_true rfl) (by decide) (by decide) kw_qI (fun i2 => ?_)
    refine kw_if_eq (pc := 13) (tgt := 37) B dX0_pilgrim_13 rfl ?_ ?_
    · refine kw_bipush (pc := 37) B dX0_pilgrim_37 (v := (-2 : Int32)) rfl ?_
      exact kw_iret B dX0_pilgrim_39 rfl
    · refine kw_iload_n (pc := 16) B dX0_pilgrim_16 rfl 3 rfl ?_
      refine kw_iconst (pc := 17) B dX0_pilgrim_17 (v := (0 : Int32)) rfl ?_
      refine kw_bipush (pc := 18) B dX0_pilgrim_18 (v := (9 : Int32)) rfl ?_
      refine kw_callS (pc := 20) B dX0_pilgrim_20 (ct_X0_in a3 (0 : Int32) (9 : Int32)) q339 q340 q73 q341 ⟨by decide, by decide, rfl⟩ (As := [kI a3, kI (0 : Int32), kI (9 : Int32)]) rfl (st := []) rfl (Nat.le_of_ble_eq_true rfl) (by decide) (by decide) kw_qI (fun i3 => ?_)
      refine kw_if_eq (pc := 23) (tgt := 37) B dX0_pilgrim_23 rfl ?_ ?_
      · refine kw_bipush (pc := 37) B dX0_pilgrim_37 (v := (-2 : Int32)) rfl ?_
        exact kw_iret B dX0_pilgrim_39 rfl
      · refine kw_iload (pc := 26) B dX0_pilgrim_26 4 rfl ?_
        refine kw_iconst (pc := 28) B dX0_pilgrim_28 (v := (1 : Int32)) rfl ?_
        refine kw_bipush (pc := 29) B dX0_pilgrim_29 (v := (99 : Int32)) rfl ?_
        refine kw_callS (pc := 31) B dX0_pilgrim_31 (ct_X0_in a4 (1 : Int32) (99 : Int32)) q339 q340 q73 q341 ⟨by decide, by decide, rfl⟩ (As := [kI a4, kI (1 : Int32), kI (99 : Int32)]) rfl (st := []) rfl (Nat.le_of_ble_eq_true rfl) (by decide) (by decide) kw_qI (fun i4 => ?_)
        refine kw_if_ne (pc := 34) (tgt := 40) B dX0_pilgrim_34 rfl ?_ ?_
        · refine kw_new (pc := 40) B dX0_pilgrim_40 (ci := 23) (N := 6) rfl in_X25 tyX25_ok kz_D10_ok q1751 q1752 q120 (fun r5 => ?_)
          refine kw_dup (pc := 43) B dX0_pilgrim_43 rfl ?_
          refine kw_aload_n (pc := 44) B dX0_pilgrim_44 rfl 0 rfl ?_
          refine kw_iload_n (pc := 45) B dX0_pilgrim_45 rfl 1 rfl ?_
          refine kw_iload_n (pc := 46) B dX0_pilgrim_46 rfl 2 rfl ?_
          refine kw_iload_n (pc := 47) B dX0_pilgrim_47 rfl 3 rfl ?_
          refine kw_iload (pc := 48) B dX0_pilgrim_48 4 rfl ?_
          refine kw_callI (pc := 50) B dX0_pilgrim_50 (ct_X25_init r5 a0 a1 a2 a3 a4) q1753 q1754 q120 q1755 rfl ⟨by decide, by decide, rfl⟩ (As := [kA a0, kI a1, kI a2, kI a3, kI a4]) rfl (st := [kA r5]) rfl (Nat.le_of_ble_eq_true rfl) (by decide) (by decide) kw_qV (fun _ => ?_)
          refine kw_callUW (pc := 53) B dX0_pilgrim_53 (x0 := ⟨"RosaryCarvers$10", "done", "()I"⟩) (owner := "RosaryCarvers$Deed") (ci := 23) rfl (ct_X4_done r5) q1774 q1775 q1776 q365 q365 q82 q366 rfl ⟨by decide, by decide, rfl⟩ (As := []) rfl (st := []) rfl (Nat.le_of_ble_eq_true rfl) (by decide) (by decide) kw_qI (fun i6 => ?_)
          exact kw_iret B dX0_pilgrim_56 rfl
        · refine kw_bipush (pc := 37) B dX0_pilgrim_37 (v := (-2 : Int32)) rfl ?_
          exact kw_iret B dX0_pilgrim_39 rfl
theorem ct_X0_pilgrim (a0 : Option Nat) (a1 : Int32) (a2 : Int32) (a3 : Int32) (a4 : Int32) (l : Launch) : kw_Met l yX0_pilgrim (ws_ yX0_pilgrim cX0_pilgrim 5 (some .int)) 18 375 [kA a0, kI a1, kI a2, kI a3, kI a4] kw_eI (pm_X0_pilgrim a0 a1 a2 a3 a4) := kw_met (plainFor_of_name rfl) (Nat.le_of_ble_eq_true rfl) (fun E B => wm_X0_pilgrim B a0 a1 a2 a3 a4) l

/-! RosaryCarversModel pilgrimAt (II)I -/

theorem wm_X3_pilgrimAt {E : kw_E} (B : kw_ok E cX3_pilgrimAt RX3 "pilgrimAt" 2 (some .int) 1 0 []) (a0 : Int32) (a1 : Int32) : kw_W E kw_eI 0 [(0, kI a0), (1, kI a1)] [] (pm_X3_pilgrimAt a0 a1) := by
  unfold pm_X3_pilgrimAt
  refine kw_sipush (pc := 0) B dX3_pilgrimAt_0 (v := (1124 : Int32)) rfl ?_
  refine kw_iconst (pc := 3) B dX3_pilgrimAt_3 (v := (4 : Int32)) rfl ?_
  refine kw_iload_n (pc := 4) B dX3_pilgrimAt_4 rfl 0 rfl ?_
  refine kw_imul (pc := 5) B dX3_pilgrimAt_5 ?_
  refine kw_iadd (pc := 6) B dX3_pilgrimAt_6 ?_
  refine kw_iload_n (pc := 7) B dX3_pilgrimAt_7 rfl 1 rfl ?_
  refine kw_iadd (pc := 8) B dX3_pilgrimAt_8 ?_
  exact kw_iret B dX3_pilgrimAt_9 rfl
theorem ct_X3_pilgrimAt (a0 : Int32) (a1 : Int32) (l : Launch) : kw_Met l yX3_pilgrimAt (ws_ yX3_pilgrimAt cX3_pilgrimAt 2 (some .int)) 1 0 [kI a0, kI a1] kw_eI (pm_X3_pilgrimAt a0 a1) := kw_met (plainFor_of_name rfl) (Nat.le_of_ble_eq_true rfl) (fun E B => wm_X3_pilgrimAt B a0 a1) l

/-! RosaryCarversModel season (I)I -/

theorem wm_X3_season {E : kw_E} (B : kw_ok E cX3_season RX3 "season" 1 (some .int) 1 0 []) (a0 : Int32) : kw_W E kw_eI 0 [(0, kI a0)] [] (pm_X3_season a0) := by
  unfold pm_X3_season
  refine kw_iload_n (pc := 0) B dX3_season_0 rfl 0 rfl ?_
  refine kw_bipush (pc := 1) B dX3_season_1 (v := (30 : Int32)) rfl ?_
  refine kw_idiv (pc := 3) B dX3_season_3 (fun i1 => ?_)
  refine kw_iconst (pc := 4) B dX3_season_4 (v := (4 : Int32)) rfl ?_
  refine kw_irem (pc := 5) B dX3_season_5 (fun i2 => ?_)
  exact kw_iret B dX3_season_6 rfl
theorem ct_X3_season (a0 : Int32) (l : Launch) : kw_Met l yX3_season (ws_ yX3_season cX3_season 1 (some .int)) 1 0 [kI a0] kw_eI (pm_X3_season a0) := kw_met (plainFor_of_name rfl) (Nat.le_of_ble_eq_true rfl) (fun E B => wm_X3_season B a0) l

/-! RosaryCarversModel pilgrim (IIII)I -/

theorem wb_X3_pilgrim_113 {E : kw_E} (B : kw_ok E cX3_pilgrim RX3 "pilgrim" 7 (some .int) 4 67 [])  (x0 : Option Nat) (x2 : Int32) (x3 : Int32) (x4 : Int32) (x5 : Int32) (s0 : Int32) (s1 : Int32) (s2 : Option Nat) : kw_W E kw_eI 113 [(0, kA x0), (2, kI x2), (3, kI x3), (4, kI x4), (5, kI x5)] [kI s0, kI s1, kA s2] (pb_X3_pilgrim_113  x0 x2 x3 x4 x5 s0 s1 s2) := by
  unfold pb_X3_pilgrim_113
  refine kw_iast (pc := 113) B dX3_pilgrim_113 ?_
  refine kw_aload_n (pc := 114) B dX3_pilgrim_114 rfl 0 rfl ?_
  refine kw_gR (pc := 115) B dX3_pilgrim_115 fl_X3_9 (fun r2 => ?_)
  refine kw_iload (pc := 118) B dX3_pilgrim_118 4 rfl ?_
  refine kw_iconst (pc := 120) B dX3_pilgrim_120 (v := (1 : Int32)) rfl ?_
  refine kw_callS (pc := 121) B dX3_pilgrim_121 (ct_X3_pilgrimAt x5 (1 : Int32)) q2594 q2595 q81 q2596 ⟨by decide, by decide, rfl⟩ (As := [kI x5, kI (1 : Int32)]) rfl (st := [kA r2]) rfl (Nat.le_of_ble_eq_true rfl) (by decide) (by decide) kw_qI (fun i3 => ?_)
  refine kw_iload_n (pc := 124) B dX3_pilgrim_124 rfl 1 rfl ?_
  refine kw_iast (pc := 125) B dX3_pilgrim_125 ?_
  refine kw_aload_n (pc := 126) B dX3_pilgrim_126 rfl 0 rfl ?_
  refine kw_gR (pc := 127) B dX3_pilgrim_127 fl_X3_9 (fun r5 => ?_)
  refine kw_iload (pc := 130) B dX3_pilgrim_130 4 rfl ?_
  refine kw_iconst (pc := 132) B dX3_pilgrim_132 (v := (2 : Int32)) rfl ?_
  refine kw_callS (pc := 133) B dX3_pilgrim_133 (ct_X3_pilgrimAt x5 (2 : Int32)) q2594 q2595 q81 q2596 ⟨by decide, by decide, rfl⟩ (As := [kI x5, kI (2 : Int32)]) rfl (st := [kA r5]) rfl (Nat.le_of_ble_eq_true rfl) (by decide) (by decide) kw_qI (fun i6 => ?_)
  refine kw_iload_n (pc := 136) B dX3_pilgrim_136 rfl 2 rfl ?_
  refine kw_iast (pc := 137) B dX3_pilgrim_137 ?_
  refine kw_aload_n (pc := 138) B dX3_pilgrim_138 rfl 0 rfl ?_
  refine kw_gR (pc := 139) B dX3_pilgrim_139 fl_X3_9 (fun r8 => ?_)
  refine kw_iload (pc := 142) B dX3_pilgrim_142 4 rfl ?_
  refine kw_iconst (pc := 144) B dX3_pilgrim_144 (v := (3 : Int32)) rfl ?_
  refine kw_callS (pc := 145) B dX3_pilgrim_145 (ct_X3_pilgrimAt x5 (3 : Int32)) q2594 q2595 q81 q2596 ⟨by decide, by decide, rfl⟩ (As := [kI x5, kI (3 : Int32)]) rfl (st := [kA r8]) rfl (Nat.le_of_ble_eq_true rfl) (by decide) (by decide) kw_qI (fun i9 => ?_)
  refine kw_iload (pc := 148) B dX3_pilgrim_148 3 rfl ?_
  refine kw_iast (pc := 150) B dX3_pilgrim_150 ?_
  refine kw_aload_n (pc := 151) B dX3_pilgrim_151 rfl 0 rfl ?_
  refine kw_aload_n (pc := 152) B dX3_pilgrim_152 rfl 0 rfl ?_
  refine kw_gR (pc := 153) B dX3_pilgrim_153 fl_X3_9 (fun r11 => ?_)
  refine kw_bipush (pc := 156) B dX3_pilgrim_156 (v := (13 : Int32)) rfl ?_
  refine kw_iald (pc := 158) B dX3_pilgrim_158 (fun i12 => ?_)
  refine kw_callV (pc := 159) B dX3_pilgrim_159 (ci := 3) rfl (ct_X3_ends x0 i12) q2428 q2430 qs26 q81 q2431 ⟨by decide, by decide, rfl⟩ (As := [kI i12]) rfl (st := []) rfl (Nat.le_of_ble_eq_true rfl) (by decide) (by decide) kw_qI (fun i13 => ?_)
  exact kw_iret B dX3_pilgrim_162 rfl
theorem wm_X3_pilgrim {E : kw_E} (B : kw_ok E cX3_pilgrim RX3 "pilgrim" 7 (some .int) 4 67 []) (a0 : Option Nat) (a1 : Int32) (a2 : Int32) (a3 : Int32) (a4 : Int32) : kw_W E kw_eI 0 [(0, kA a0), (1, kI a1), (2, kI a2), (3, kI a3), (4, kI a4)] [] (pm_X3_pilgrim a0 a1 a2 a3 a4) := by
  unfold pm_X3_pilgrim
  refine kw_iload_n (pc := 0) B dX3_pilgrim_0 rfl 1 rfl ?_
  refine kw_iconst (pc := 1) B dX3_pilgrim_1 (v := (1 : Int32)) rfl ?_
  refine kw_bipush (pc := 2) B dX3_pilgrim_2 (v := (60 : Int32)) rfl ?_
  refine kw_callS (pc := 4) B dX3_pilgrim_4 (ct_X3_isIn a1 (1 : Int32) (60 : Int32)) q2415 q2416 q81 q2417 ⟨by decide, by decide, rfl⟩ (As := [kI a1, kI (1 : Int32), kI (60 : Int32)]) rfl (st := []) rfl (Nat.le_of_ble_eq_true rfl) (by decide) (by decide) kw_qI (fun i1 => ?_)
  refine kw_if_eq (pc := 7) (tgt := 40) B dX3_pilgrim_7 rfl ?_ ?_
  · refine kw_bipush (pc := 40) B dX3_pilgrim_40 (v := (-2 : Int32)) rfl ?_
    exact kw_iret B dX3_pilgrim_42 rfl
  · refine kw_iload_n (pc := 10) B dX3_pilgrim_10 rfl 2 rfl ?_
    refine kw_iconst (pc := 11) B dX3_pilgrim_11 (v := (1 : Int32)) rfl ?_
    refine kw_iconst (pc := 12) B dX3_pilgrim_12 (v := (4 : Int32)) rfl ?_
    refine kw_callS (pc := 13) B dX3_pilgrim_13 (ct_X3_isIn a2 (1 : Int32) (4 : Int32)) q2415 q2416 q81 q2417 ⟨by decide, by decide, rfl⟩ (As := [kI a2, kI (1 : Int32), kI (4 : Int32)]) rfl (st := []) rfl (Nat.le_of_ble_eq_true rfl) (by decide) (by decide) kw_qI (fun i2 => ?_)
    refine kw_if_eq (pc := 16) (tgt := 40) B dX3_pilgrim_16 rfl ?_ ?_
    · refine kw_bipush (pc := 40) B dX3_pilgrim_40 (v := (-2 : Int32)) rfl ?_
      exact kw_iret B dX3_pilgrim_42 rfl
    · refine kw_iload_n (pc := 19) B dX3_pilgrim_19 rfl 3 rfl ?_
      refine kw_iconst (pc := 20) B dX3_pilgrim_20 (v := (0 : Int32)) rfl ?_
      refine kw_bipush (pc := 21) B dX3_pilgrim_21 (v := (9 : Int32)) rfl ?_
      refine kw_callS (pc := 23) B dX3_pilgrim_23 (ct_X3_isIn a3 (0 : Int32) (9 : Int32)) q2415 q2416 q81 q2417 ⟨by decide, by decide, rfl⟩ (As := [kI a3, kI (0 : Int32), kI (9 : Int32)]) rfl (st := []) rfl (Nat.le_of_ble_eq_true rfl) (by decide) (by decide) kw_qI (fun i3 => ?_)
      refine kw_if_eq (pc := 26) (tgt := 40) B dX3_pilgrim_26 rfl ?_ ?_
      · refine kw_bipush (pc := 40) B dX3_pilgrim_40 (v := (-2 : Int32)) rfl ?_
        exact kw_iret B dX3_pilgrim_42 rfl
      · refine kw_iload (pc := 29) B dX3_pilgrim_29 4 rfl ?_
        refine kw_iconst (pc := 31) B dX3_pilgrim_31 (v := (1 : Int32)) rfl ?_
        refine kw_bipush (pc := 32) B dX3_pilgrim_32 (v := (99 : Int32)) rfl ?_
        refine kw_callS (pc := 34) B dX3_pilgrim_34 (ct_X3_isIn a4 (1 : Int32) (99 : Int32)) q2415 q2416 q81 q2417 ⟨by decide, by decide, rfl⟩ (As := [kI a4, kI (1 : Int32), kI (99 : Int32)]) rfl (st := []) rfl (Nat.le_of_ble_eq_true rfl) (by decide) (by decide) kw_qI (fun i4 => ?_)
        refine kw_if_ne (pc := 37) (tgt := 43) B dX3_pilgrim_37 rfl ?_ ?_
        · refine kw_aload_n (pc := 43) B dX3_pilgrim_43 rfl 0 rfl ?_
          refine kw_callV (pc := 44) B dX3_pilgrim_44 (ci := 3) rfl (ct_X3_keeps a0) q2418 q2420 qs25 q81 q2421 ⟨by decide, by decide, rfl⟩ (As := []) rfl (st := []) rfl (Nat.le_of_ble_eq_true rfl) (by decide) (by decide) kw_qV (fun _ => ?_)
          refine kw_aload_n (pc := 47) B dX3_pilgrim_47 rfl 0 rfl ?_
          refine kw_bipush (pc := 48) B dX3_pilgrim_48 (v := (13 : Int32)) rfl ?_
          refine kw_bipush (pc := 50) B dX3_pilgrim_50 (v := (6 : Int32)) rfl ?_
          refine kw_sipush (pc := 52) B dX3_pilgrim_52 (v := (1124 : Int32)) rfl ?_
          refine kw_iconst (pc := 55) B dX3_pilgrim_55 (v := (4 : Int32)) rfl ?_
          refine kw_callV (pc := 56) B dX3_pilgrim_56 (ci := 3) rfl (ct_X3_adds a0 (13 : Int32) (6 : Int32) (1124 : Int32) (4 : Int32)) q2443 q2445 qs28 q81 q2446 ⟨by decide, by decide, rfl⟩ (As := [kI (13 : Int32), kI (6 : Int32), kI (1124 : Int32), kI (4 : Int32)]) rfl (st := []) rfl (Nat.le_of_ble_eq_true rfl) (by decide) (by decide) kw_qI (fun i5 => ?_)
          refine kw_istore (pc := 59) B dX3_pilgrim_59 (by decide) (L2 := [(5, kI i5), (0, kA a0), (1, kI a1), (2, kI a2), (3, kI a3), (4, kI a4)]) rfl ?_
          refine kw_iload (pc := 61) B dX3_pilgrim_61 0 rfl ?_
          refine kw_if_ge (pc := 63) (tgt := 69) B dX3_pilgrim_63 rfl ?_ ?_
          · refine kw_aload_n (pc := 69) B dX3_pilgrim_69 rfl 1 rfl ?_
            refine kw_gR (pc := 70) B dX3_pilgrim_70 fl_X3_9 (fun r6 => ?_)
            refine kw_iconst (pc := 73) B dX3_pilgrim_73 (v := (0 : Int32)) rfl ?_
            refine kw_iald (pc := 74) B dX3_pilgrim_74 (fun i7 => ?_)
            refine kw_iload_n (pc := 75) B dX3_pilgrim_75 rfl 2 rfl ?_
            refine kw_iadd (pc := 76) B dX3_pilgrim_76 ?_
            refine kw_istore (pc := 77) B dX3_pilgrim_77 (by decide) (L2 := [(6, kI (i7 + a1)), (5, kI i5), (0, kA a0), (1, kI a1), (2, kI a2), (3, kI a3), (4, kI a4)]) rfl ?_
            refine kw_aload_n (pc := 79) B dX3_pilgrim_79 rfl 2 rfl ?_
            refine kw_gR (pc := 80) B dX3_pilgrim_80 fl_X3_9 (fun r8 => ?_)
            refine kw_iload (pc := 83) B dX3_pilgrim_83 1 rfl ?_
            refine kw_iconst (pc := 85) B dX3_pilgrim_85 (v := (0 : Int32)) rfl ?_
            refine kw_callS (pc := 86) B dX3_pilgrim_86 (ct_X3_pilgrimAt i5 (0 : Int32)) q2594 q2595 q81 q2596 ⟨by decide, by decide, rfl⟩ (As := [kI i5, kI (0 : Int32)]) rfl (st := [kA r8]) rfl (Nat.le_of_ble_eq_true rfl) (by decide) (by decide) kw_qI (fun i9 => ?_)
            refine kw_iload (pc := 89) B dX3_pilgrim_89 0 rfl ?_
            refine kw_callS (pc := 91) B dX3_pilgrim_91 (ct_X3_season (i7 + a1)) q2597 q2598 q81 q2599 ⟨by decide, by decide, rfl⟩ (As := [kI (i7 + a1)]) rfl (st := [kI i9, kA r8]) rfl (Nat.le_of_ble_eq_true rfl) (by decide) (by decide) kw_qI (fun i10 => ?_)
            refine kw_iconst (pc := 94) B dX3_pilgrim_94 (v := (3 : Int32)) rfl ?_
            refine kw_icmp_ne (pc := 95) (tgt := 111) B dX3_pilgrim_95 rfl ?_ ?_
            · refine kw_iload (pc := 111) B dX3_pilgrim_111 0 rfl ?_
              exact kw_pick [2, 4, 5, 6, 1] rfl (wb_X3_pilgrim_113 B a0 a2 a3 a4 i5 (i7 + a1) i9 r8)
            · refine kw_bipush (pc := 98) B dX3_pilgrim_98 (v := (120 : Int32)) rfl ?_
              refine kw_iload (pc := 100) B dX3_pilgrim_100 0 rfl ?_
              refine kw_bipush (pc := 102) B dX3_pilgrim_102 (v := (120 : Int32)) rfl ?_
              refine kw_idiv (pc := 104) B dX3_pilgrim_104 (fun i11 => ?_)
              refine kw_iconst (pc := 105) B dX3_pilgrim_105 (v := (1 : Int32)) rfl ?_
              refine kw_iadd (pc := 106) B dX3_pilgrim_106 ?_
              refine kw_imul (pc := 107) B dX3_pilgrim_107 ?_
              refine kw_goto (pc := 108) (tgt := 113) B dX3_pilgrim_108 rfl ?_
              exact kw_pick [2, 4, 5, 6, 1] rfl (wb_X3_pilgrim_113 B a0 a2 a3 a4 i5 ((120 : Int32) * (i11 + (1 : Int32))) i9 r8)
          · refine kw_iload (pc := 66) B dX3_pilgrim_66 0 rfl ?_
            exact kw_iret B dX3_pilgrim_68 rfl
        · refine kw_bipush (pc := 40) B dX3_pilgrim_40 (v := (-2 : Int32)) rfl ?_
          exact kw_iret B dX3_pilgrim_42 rfl
theorem ct_X3_pilgrim (a0 : Option Nat) (a1 : Int32) (a2 : Int32) (a3 : Int32) (a4 : Int32) (l : Launch) : kw_Met l yX3_pilgrim (ws_ yX3_pilgrim cX3_pilgrim 7 (some .int)) 4 67 [kA a0, kI a1, kI a2, kI a3, kI a4] kw_eI (pm_X3_pilgrim a0 a1 a2 a3 a4) := kw_met (plainFor_of_name rfl) (Nat.le_of_ble_eq_true rfl) (fun E B => wm_X3_pilgrim B a0 a1 a2 a3 a4) l

/-! RosaryCarvers$11 <init> (LRosaryCarvers;)V -/
theorem fl_X26_1 : kw_fl RX26 1 "RosaryCarvers$11" [(24, 1)] := (kw_fl_c (C := RX26) (T := TX26) (N := 2) rfl (by decide) in_X26 q1787 (Or.inl rfl) kw_fl_nil)
theorem fp_X26_1 : kw_fp RX26 (.object "RosaryCarvers") true [(24, 1)] := (kw_fp_d (C := RX26) (T := TX26) (N := 2) (ty0 := tyX26) rfl tyX26_ok (by unfold kw_ap; decide) rfl rfl (by decide) rfl kw_fp_nil)
theorem wm_X26_init {E : kw_E} (B : kw_ok E cX26_init RX26 "<init>" 2 none 2 45 []) (a0 : Option Nat) (a1 : Option Nat) : kw_W E kw_eV 0 [(0, kA a0), (1, kA a1)] [] (pm_X26_init a0 a1) := by
  unfold pm_X26_init
  refine kw_aload_n (pc := 0) B dX26_init_0 rfl 0 rfl ?_
  refine kw_aload_n (pc := 1) B dX26_init_1 rfl 1 rfl ?_
  refine kw_pR (pc := 2) B dX26_init_2 fl_X26_1 fp_X26_1 (fun _ => rfl) rfl ?_
  refine kw_aload_n (pc := 5) B dX26_init_5 rfl 0 rfl ?_
  refine kw_aload_n (pc := 6) B dX26_init_6 rfl 1 rfl ?_
  refine kw_callIN (pc := 7) B dX26_init_7 (ct_X4_init a0 a1) q1786 q348 q82 q349 rfl ⟨by decide, by decide, rfl⟩ (As := [kA a1]) rfl (st := []) rfl (Nat.le_of_ble_eq_true rfl) (by decide) (by decide) kw_qV (fun _ => ?_)
  exact kw_vret B dX26_init_10 rfl
theorem ct_X26_init (a0 : Option Nat) (a1 : Option Nat) (l : Launch) : kw_Met l yX26_init (ws_ yX26_init cX26_init 2 none) 2 45 [kA a0, kA a1] kw_eV (pm_X26_init a0 a1) := kw_met (plainFor_of_name rfl) (Nat.le_of_ble_eq_true rfl) (fun E B => wm_X26_init B a0 a1) l

/-! RosaryCarvers mend ()I -/

theorem wm_X0_mend {E : kw_E} (B : kw_ok E cX0_mend RX0 "mend" 1 (some .int) 18 375 []) (a0 : Option Nat) : kw_W E kw_eI 0 [(0, kA a0)] [] (pm_X0_mend a0) := by
  unfold pm_X0_mend
  refine kw_new (pc := 0) B dX0_mend_0 (ci := 24) (N := 2) rfl in_X26 tyX26_ok kz_D11_ok q1781 q1782 q121 (fun r1 => ?_)
  refine kw_dup (pc := 3) B dX0_mend_3 rfl ?_
  refine kw_aload_n (pc := 4) B dX0_mend_4 rfl 0 rfl ?_
  refine kw_callI (pc := 5) B dX0_mend_5 (ct_X26_init r1 a0) q1783 q1784 q121 q1785 rfl ⟨by decide, by decide, rfl⟩ (As := [kA a0]) rfl (st := [kA r1]) rfl (Nat.le_of_ble_eq_true rfl) (by decide) (by decide) kw_qV (fun _ => ?_)
  refine kw_callUW (pc := 8) B dX0_mend_8 (x0 := ⟨"RosaryCarvers$11", "done", "()I"⟩) (owner := "RosaryCarvers$Deed") (ci := 24) rfl (ct_X4_done r1) q1792 q1793 q1794 q365 q365 q82 q366 rfl ⟨by decide, by decide, rfl⟩ (As := []) rfl (st := []) rfl (Nat.le_of_ble_eq_true rfl) (by decide) (by decide) kw_qI (fun i2 => ?_)
  exact kw_iret B dX0_mend_11 rfl
theorem ct_X0_mend (a0 : Option Nat) (l : Launch) : kw_Met l yX0_mend (ws_ yX0_mend cX0_mend 1 (some .int)) 18 375 [kA a0] kw_eI (pm_X0_mend a0) := kw_met (plainFor_of_name rfl) (Nat.le_of_ble_eq_true rfl) (fun E B => wm_X0_mend B a0) l

/-! RosaryCarversModel mends ()I -/

theorem wb_X3_mends_35 {E : kw_E} (B : kw_ok E cX3_mends RX3 "mends" 4 (some .int) 6 111 [])  (x0 : Option Nat) (s0 : Int32) : kw_W E kw_eI 35 [(0, kA x0)] [kI s0] (pb_X3_mends_35  x0 s0) := by
  unfold pb_X3_mends_35
  refine kw_istore_n (pc := 35) B dX3_mends_35 rfl (by decide) (L2 := [(1, kI s0), (0, kA x0)]) rfl ?_
  refine kw_aload_n (pc := 36) B dX3_mends_36 rfl 1 rfl ?_
  refine kw_iload_n (pc := 37) B dX3_mends_37 rfl 0 rfl ?_
  refine kw_callV (pc := 38) B dX3_mends_38 (ci := 3) rfl (ct_X3_finestPlace x0 s0) q2500 q2502 qs36 q81 q2503 ⟨by decide, by decide, rfl⟩ (As := [kI s0]) rfl (st := []) rfl (Nat.le_of_ble_eq_true rfl) (by decide) (by decide) kw_qI (fun i1 => ?_)
  refine kw_istore_n (pc := 41) B dX3_mends_41 rfl (by decide) (L2 := [(2, kI i1), (1, kI s0), (0, kA x0)]) rfl ?_
  refine kw_iload_n (pc := 42) B dX3_mends_42 rfl 0 rfl ?_
  refine kw_if_ge (pc := 43) (tgt := 52) B dX3_mends_43 rfl ?_ ?_
  · refine kw_aload_n (pc := 52) B dX3_mends_52 rfl 2 rfl ?_
    refine kw_gR (pc := 53) B dX3_mends_53 fl_X3_9 (fun r2 => ?_)
    refine kw_iload_n (pc := 56) B dX3_mends_56 rfl 0 rfl ?_
    refine kw_iconst (pc := 57) B dX3_mends_57 (v := (0 : Int32)) rfl ?_
    refine kw_callS (pc := 58) B dX3_mends_58 (ct_X3_boxAt i1 (0 : Int32)) q2493 q2494 q81 q2495 ⟨by decide, by decide, rfl⟩ (As := [kI i1, kI (0 : Int32)]) rfl (st := [kA r2]) rfl (Nat.le_of_ble_eq_true rfl) (by decide) (by decide) kw_qI (fun i3 => ?_)
    refine kw_iald (pc := 61) B dX3_mends_61 (fun i4 => ?_)
    refine kw_istore_n (pc := 62) B dX3_mends_62 rfl (by decide) (L2 := [(3, kI i4), (2, kI i1), (1, kI s0), (0, kA x0)]) rfl ?_
    refine kw_aload_n (pc := 63) B dX3_mends_63 rfl 3 rfl ?_
    refine kw_bipush (pc := 64) B dX3_mends_64 (v := (11 : Int32)) rfl ?_
    refine kw_bipush (pc := 66) B dX3_mends_66 (v := (44 : Int32)) rfl ?_
    refine kw_iconst (pc := 68) B dX3_mends_68 (v := (3 : Int32)) rfl ?_
    refine kw_iload_n (pc := 69) B dX3_mends_69 rfl 1 rfl ?_
    refine kw_callV (pc := 70) B dX3_mends_70 (ci := 3) rfl (ct_X3_goes x0 (11 : Int32) (44 : Int32) (3 : Int32) i1) q2570 q2572 qs48 q81 q2573 ⟨by decide, by decide, rfl⟩ (As := [kI (11 : Int32), kI (44 : Int32), kI (3 : Int32), kI i1]) rfl (st := []) rfl (Nat.le_of_ble_eq_true rfl) (by decide) (by decide) kw_qV (fun _ => ?_)
    refine kw_aload_n (pc := 73) B dX3_mends_73 rfl 3 rfl ?_
    refine kw_gR (pc := 74) B dX3_mends_74 fl_X3_9 (fun r5 => ?_)
    refine kw_bipush (pc := 77) B dX3_mends_77 (v := (8 : Int32)) rfl ?_
    refine kw_dup2 (pc := 79) B dX3_mends_79 rfl rfl ?_
    refine kw_iald (pc := 80) B dX3_mends_80 (fun i6 => ?_)
    refine kw_aload_n (pc := 81) B dX3_mends_81 rfl 3 rfl ?_
    refine kw_gR (pc := 82) B dX3_mends_82 fl_X3_9 (fun r7 => ?_)
    refine kw_sipush (pc := 85) B dX3_mends_85 (v := (1189 : Int32)) rfl ?_
    refine kw_iald (pc := 88) B dX3_mends_88 (fun i8 => ?_)
    refine kw_iconst (pc := 89) B dX3_mends_89 (v := (1 : Int32)) rfl ?_
    refine kw_iadd (pc := 90) B dX3_mends_90 ?_
    refine kw_iadd (pc := 91) B dX3_mends_91 ?_
    refine kw_iast (pc := 92) B dX3_mends_92 ?_
    refine kw_aload_n (pc := 93) B dX3_mends_93 rfl 3 rfl ?_
    refine kw_gR (pc := 94) B dX3_mends_94 fl_X3_9 (fun r10 => ?_)
    refine kw_bipush (pc := 97) B dX3_mends_97 (v := (6 : Int32)) rfl ?_
    refine kw_dup2 (pc := 99) B dX3_mends_99 rfl rfl ?_
    refine kw_iald (pc := 100) B dX3_mends_100 (fun i11 => ?_)
    refine kw_iconst (pc := 101) B dX3_mends_101 (v := (3 : Int32)) rfl ?_
    refine kw_iadd (pc := 102) B dX3_mends_102 ?_
    refine kw_iast (pc := 103) B dX3_mends_103 ?_
    refine kw_aload_n (pc := 104) B dX3_mends_104 rfl 3 rfl ?_
    refine kw_gR (pc := 105) B dX3_mends_105 fl_X3_9 (fun r13 => ?_)
    refine kw_iconst (pc := 108) B dX3_mends_108 (v := (5 : Int32)) rfl ?_
    refine kw_dup2 (pc := 109) B dX3_mends_109 rfl rfl ?_
    refine kw_iald (pc := 110) B dX3_mends_110 (fun i14 => ?_)
    refine kw_iconst (pc := 111) B dX3_mends_111 (v := (1 : Int32)) rfl ?_
    refine kw_iadd (pc := 112) B dX3_mends_112 ?_
    refine kw_iast (pc := 113) B dX3_mends_113 ?_
    refine kw_aload_n (pc := 114) B dX3_mends_114 rfl 3 rfl ?_
    refine kw_bipush (pc := 115) B dX3_mends_115 (v := (15 : Int32)) rfl ?_
    refine kw_sipush (pc := 117) B dX3_mends_117 (v := (1188 : Int32)) rfl ?_
    refine kw_iconst (pc := 120) B dX3_mends_120 (v := (5 : Int32)) rfl ?_
    refine kw_iconst (pc := 121) B dX3_mends_121 (v := (0 : Int32)) rfl ?_
    refine kw_callV (pc := 122) B dX3_mends_122 (ci := 3) rfl (ct_X3_goes x0 (15 : Int32) (1188 : Int32) (5 : Int32) (0 : Int32)) q2570 q2572 qs48 q81 q2573 ⟨by decide, by decide, rfl⟩ (As := [kI (15 : Int32), kI (1188 : Int32), kI (5 : Int32), kI (0 : Int32)]) rfl (st := []) rfl (Nat.le_of_ble_eq_true rfl) (by decide) (by decide) kw_qV (fun _ => ?_)
    refine kw_iload_n (pc := 125) B dX3_mends_125 rfl 0 rfl ?_
    exact kw_iret B dX3_mends_126 rfl
  · refine kw_aload_n (pc := 46) B dX3_mends_46 rfl 2 rfl ?_
    refine kw_iload_n (pc := 47) B dX3_mends_47 rfl 1 rfl ?_
    refine kw_callV (pc := 48) B dX3_mends_48 (ci := 3) rfl (ct_X3_refusesBead x0 s0) q2559 q2561 qs46 q81 q2562 ⟨by decide, by decide, rfl⟩ (As := [kI s0]) rfl (st := []) rfl (Nat.le_of_ble_eq_true rfl) (by decide) (by decide) kw_qI (fun i16 => ?_)
    exact kw_iret B dX3_mends_51 rfl
theorem wm_X3_mends {E : kw_E} (B : kw_ok E cX3_mends RX3 "mends" 4 (some .int) 6 111 []) (a0 : Option Nat) : kw_W E kw_eI 0 [(0, kA a0)] [] (pm_X3_mends a0) := by
  unfold pm_X3_mends
  refine kw_aload_n (pc := 0) B dX3_mends_0 rfl 0 rfl ?_
  refine kw_gR (pc := 1) B dX3_mends_1 fl_X3_9 (fun r1 => ?_)
  refine kw_bipush (pc := 4) B dX3_mends_4 (v := (15 : Int32)) rfl ?_
  refine kw_iald (pc := 6) B dX3_mends_6 (fun i2 => ?_)
  refine kw_if_ne (pc := 7) (tgt := 18) B dX3_mends_7 rfl ?_ ?_
  · refine kw_aload_n (pc := 18) B dX3_mends_18 rfl 0 rfl ?_
    refine kw_gR (pc := 19) B dX3_mends_19 fl_X3_9 (fun r3 => ?_)
    refine kw_sipush (pc := 22) B dX3_mends_22 (v := (1191 : Int32)) rfl ?_
    refine kw_iald (pc := 25) B dX3_mends_25 (fun i4 => ?_)
    refine kw_iconst (pc := 26) B dX3_mends_26 (v := (1 : Int32)) rfl ?_
    refine kw_icmp_ne (pc := 27) (tgt := 34) B dX3_mends_27 rfl ?_ ?_
    · refine kw_iconst (pc := 34) B dX3_mends_34 (v := (0 : Int32)) rfl ?_
      exact kw_pick [0] rfl (wb_X3_mends_35 B a0 (0 : Int32))
    · refine kw_iconst (pc := 30) B dX3_mends_30 (v := (1 : Int32)) rfl ?_
      refine kw_goto (pc := 31) (tgt := 35) B dX3_mends_31 rfl ?_
      exact kw_pick [0] rfl (wb_X3_mends_35 B a0 (1 : Int32))
  · refine kw_aload_n (pc := 10) B dX3_mends_10 rfl 0 rfl ?_
    refine kw_bipush (pc := 11) B dX3_mends_11 (v := (8 : Int32)) rfl ?_
    refine kw_iconst (pc := 13) B dX3_mends_13 (v := (0 : Int32)) rfl ?_
    refine kw_callV (pc := 14) B dX3_mends_14 (ci := 3) rfl (ct_X3_refuses a0 (8 : Int32) (0 : Int32)) q2447 q2449 qs29 q81 q2450 ⟨by decide, by decide, rfl⟩ (As := [kI (8 : Int32), kI (0 : Int32)]) rfl (st := []) rfl (Nat.le_of_ble_eq_true rfl) (by decide) (by decide) kw_qI (fun i5 => ?_)
    exact kw_iret B dX3_mends_17 rfl
theorem ct_X3_mends (a0 : Option Nat) (l : Launch) : kw_Met l yX3_mends (ws_ yX3_mends cX3_mends 4 (some .int)) 6 111 [kA a0] kw_eI (pm_X3_mends a0) := kw_met (plainFor_of_name rfl) (Nat.le_of_ble_eq_true rfl) (fun E B => wm_X3_mends B a0) l

/-! RosaryCarversModel mend ()I -/

theorem wm_X3_mend {E : kw_E} (B : kw_ok E cX3_mend RX3 "mend" 1 (some .int) 7 134 []) (a0 : Option Nat) : kw_W E kw_eI 0 [(0, kA a0)] [] (pm_X3_mend a0) := by
  unfold pm_X3_mend
  refine kw_aload_n (pc := 0) B dX3_mend_0 rfl 0 rfl ?_
  refine kw_callV (pc := 1) B dX3_mend_1 (ci := 3) rfl (ct_X3_keeps a0) q2418 q2420 qs25 q81 q2421 ⟨by decide, by decide, rfl⟩ (As := []) rfl (st := []) rfl (Nat.le_of_ble_eq_true rfl) (by decide) (by decide) kw_qV (fun _ => ?_)
  refine kw_aload_n (pc := 4) B dX3_mend_4 rfl 0 rfl ?_
  refine kw_aload_n (pc := 5) B dX3_mend_5 rfl 0 rfl ?_
  refine kw_callV (pc := 6) B dX3_mend_6 (ci := 3) rfl (ct_X3_mends a0) q2604 q2606 qs51 q81 q2607 ⟨by decide, by decide, rfl⟩ (As := []) rfl (st := [kA a0]) rfl (Nat.le_of_ble_eq_true rfl) (by decide) (by decide) kw_qI (fun i1 => ?_)
  refine kw_callV (pc := 9) B dX3_mend_9 (ci := 3) rfl (ct_X3_ends a0 i1) q2428 q2430 qs26 q81 q2431 ⟨by decide, by decide, rfl⟩ (As := [kI i1]) rfl (st := []) rfl (Nat.le_of_ble_eq_true rfl) (by decide) (by decide) kw_qI (fun i2 => ?_)
  exact kw_iret B dX3_mend_12 rfl
theorem ct_X3_mend (a0 : Option Nat) (l : Launch) : kw_Met l yX3_mend (ws_ yX3_mend cX3_mend 1 (some .int)) 7 134 [kA a0] kw_eI (pm_X3_mend a0) := kw_met (plainFor_of_name rfl) (Nat.le_of_ble_eq_true rfl) (fun E B => wm_X3_mend B a0) l

/-! RosaryCarvers$12 <init> (LRosaryCarvers;I)V -/
theorem fl_X27_1 : kw_fl RX27 1 "RosaryCarvers$12" [(25, 2)] := (kw_fl_c (C := RX27) (T := TX27) (N := 3) rfl (by decide) in_X27 q1806 (Or.inl rfl) kw_fl_nil)
theorem fp_X27_1 : kw_fp RX27 (.object "RosaryCarvers") true [(25, 2)] := (kw_fp_d (C := RX27) (T := TX27) (N := 3) (ty0 := tyX27) rfl tyX27_ok (by unfold kw_ap; decide) rfl rfl (by decide) rfl kw_fp_nil)
theorem fp_X27_7 : kw_fp RX27 .int true [(25, 1)] := (kw_fp_d (C := RX27) (T := TX27) (N := 3) (ty0 := tyX27) rfl tyX27_ok (by unfold kw_ap; decide) rfl rfl (by decide) rfl kw_fp_nil)
theorem wm_X27_init {E : kw_E} (B : kw_ok E cX27_init RX27 "<init>" 3 none 2 45 []) (a0 : Option Nat) (a1 : Option Nat) (a2 : Int32) : kw_W E kw_eV 0 [(0, kA a0), (1, kA a1), (2, kI a2)] [] (pm_X27_init a0 a1 a2) := by
  unfold pm_X27_init
  refine kw_aload_n (pc := 0) B dX27_init_0 rfl 0 rfl ?_
  refine kw_aload_n (pc := 1) B dX27_init_1 rfl 1 rfl ?_
  refine kw_pR (pc := 2) B dX27_init_2 fl_X27_1 fp_X27_1 (fun _ => rfl) rfl ?_
  refine kw_aload_n (pc := 5) B dX27_init_5 rfl 0 rfl ?_
  refine kw_iload_n (pc := 6) B dX27_init_6 rfl 2 rfl ?_
  refine kw_pI (pc := 7) B dX27_init_7 fl_X27_7 fp_X27_7 (fun _ => rfl) ?_
  refine kw_aload_n (pc := 10) B dX27_init_10 rfl 0 rfl ?_
  refine kw_aload_n (pc := 11) B dX27_init_11 rfl 1 rfl ?_
  refine kw_callIN (pc := 12) B dX27_init_12 (ct_X4_init a0 a1) q1804 q348 q82 q349 rfl ⟨by decide, by decide, rfl⟩ (As := [kA a1]) rfl (st := []) rfl (Nat.le_of_ble_eq_true rfl) (by decide) (by decide) kw_qV (fun _ => ?_)
  exact kw_vret B dX27_init_15 rfl
theorem ct_X27_init (a0 : Option Nat) (a1 : Option Nat) (a2 : Int32) (l : Launch) : kw_Met l yX27_init (ws_ yX27_init cX27_init 3 none) 2 45 [kA a0, kA a1, kI a2] kw_eV (pm_X27_init a0 a1 a2) := kw_met (plainFor_of_name rfl) (Nat.le_of_ble_eq_true rfl) (fun E B => wm_X27_init B a0 a1 a2) l

/-! RosaryCarvers pass (I)I -/

theorem wm_X0_pass {E : kw_E} (B : kw_ok E cX0_pass RX0 "pass" 2 (some .int) 18 375 []) (a0 : Option Nat) (a1 : Int32) : kw_W E kw_eI 0 [(0, kA a0), (1, kI a1)] [] (pm_X0_pass a0 a1) := by
  unfold pm_X0_pass
  refine kw_iload_n (pc := 0) B dX0_pass_0 rfl 1 rfl ?_
  refine kw_callS (pc := 1) B dX0_pass_1 (ct_X0_areDays a1) q1486 q1487 q73 q1488 ⟨by decide, by decide, rfl⟩ (As := [kI a1]) rfl (st := []) rfl (Nat.le_of_ble_eq_true rfl) (by decide) (by decide) kw_qI (fun i1 => ?_)
  refine kw_if_ne (pc := 4) (tgt := 10) B dX0_pass_4 rfl ?_ ?_
  · refine kw_new (pc := 10) B dX0_pass_10 (ci := 25) (N := 3) rfl in_X27 tyX27_ok kz_D12_ok q1799 q1800 q122 (fun r2 => ?_)
    refine kw_dup (pc := 13) B dX0_pass_13 rfl ?_
    refine kw_aload_n (pc := 14) B dX0_pass_14 rfl 0 rfl ?_
    refine kw_iload_n (pc := 15) B dX0_pass_15 rfl 1 rfl ?_
    refine kw_callI (pc := 16) B dX0_pass_16 (ct_X27_init r2 a0 a1) q1801 q1802 q122 q1803 rfl ⟨by decide, by decide, rfl⟩ (As := [kA a0, kI a1]) rfl (st := [kA r2]) rfl (Nat.le_of_ble_eq_true rfl) (by decide) (by decide) kw_qV (fun _ => ?_)
    refine kw_callUW (pc := 19) B dX0_pass_19 (x0 := ⟨"RosaryCarvers$12", "done", "()I"⟩) (owner := "RosaryCarvers$Deed") (ci := 25) rfl (ct_X4_done r2) q1813 q1814 q1815 q365 q365 q82 q366 rfl ⟨by decide, by decide, rfl⟩ (As := []) rfl (st := []) rfl (Nat.le_of_ble_eq_true rfl) (by decide) (by decide) kw_qI (fun i3 => ?_)
    exact kw_iret B dX0_pass_22 rfl
  · refine kw_bipush (pc := 7) B dX0_pass_7 (v := (-2 : Int32)) rfl ?_
    exact kw_iret B dX0_pass_9 rfl
theorem ct_X0_pass (a0 : Option Nat) (a1 : Int32) (l : Launch) : kw_Met l yX0_pass (ws_ yX0_pass cX0_pass 2 (some .int)) 18 375 [kA a0, kI a1] kw_eI (pm_X0_pass a0 a1) := kw_met (plainFor_of_name rfl) (Nat.le_of_ble_eq_true rfl) (fun E B => wm_X0_pass B a0 a1) l

/-! RosaryCarversModel greater (II)I -/

theorem wm_X3_greater {E : kw_E} (B : kw_ok E cX3_greater RX3 "greater" 2 (some .int) 1 0 []) (a0 : Int32) (a1 : Int32) : kw_W E kw_eI 0 [(0, kI a0), (1, kI a1)] [] (pm_X3_greater a0 a1) := by
  unfold pm_X3_greater
  refine kw_iload_n (pc := 0) B dX3_greater_0 rfl 0 rfl ?_
  refine kw_iload_n (pc := 1) B dX3_greater_1 rfl 1 rfl ?_
  refine kw_icmp_le (pc := 2) (tgt := 9) B dX3_greater_2 rfl ?_ ?_
  · refine kw_iload_n (pc := 9) B dX3_greater_9 rfl 1 rfl ?_
    exact kw_iret B dX3_greater_10 rfl
  · refine kw_iload_n (pc := 5) B dX3_greater_5 rfl 0 rfl ?_
    refine kw_goto (pc := 6) (tgt := 10) B dX3_greater_6 rfl ?_
    exact kw_iret B dX3_greater_10 rfl
theorem ct_X3_greater (a0 : Int32) (a1 : Int32) (l : Launch) : kw_Met l yX3_greater (ws_ yX3_greater cX3_greater 2 (some .int)) 1 0 [kI a0, kI a1] kw_eI (pm_X3_greater a0 a1) := kw_met (plainFor_of_name rfl) (Nat.le_of_ble_eq_true rfl) (fun E B => wm_X3_greater B a0 a1) l

/-! RosaryCarversModel comeBack ()V -/

theorem wb_X3_comeBack_2 {E : kw_E} (B : kw_ok E cX3_comeBack RX3 "comeBack" 4 none 2 25 [])  : ∀ (n : Nat) (x0 : Option Nat) (x1 : Int32), kw_W E kw_eV 2 [(0, kA x0), (1, kI x1)] [] (pb_X3_comeBack_2  n x0 x1) := by
  intro n
  induction n with
  | zero =>
    intro x0 x1
    exact kw_fail_ok
  | succ n ih =>
    intro x0 x1
    show kw_W E kw_eV 2 [(0, kA x0), (1, kI x1)] [] (
km_bind (km_gR [(3, 0)] x0) fun r1 =>
km_bind (km_ldI 0 r1 (14 : Int32)) fun i2 =>
if i2 ≤ x1 then
(km_pure ())
else
(km_bind (km_gR [(3, 0)] x0) fun r3 =>
km_bind (km_ldI 0 r3 (((1148 : Int32) + ((5 : Int32) * x1)) + (0 : Int32))) fun i4 =>
km_bind (km_gR [(3, 0)] x0) fun r5 =>
km_bind (km_ldI 0 r5 (0 : Int32)) fun i6 =>
if i4 ≤ i6 then
(km_bind (km_gR [(3, 0)] x0) fun r7 =>
km_bind (km_ldI 0 r7 (15 : Int32)) fun i8 =>
km_bind (km_gR [(3, 0)] x0) fun r9 =>
km_bind (km_gR [(3, 0)] x0) fun r10 =>
km_bind (pm_X3_copies r9 ((1148 : Int32) + ((5 : Int32) * x1)) r10 ((1188 : Int32) + ((5 : Int32) * i8)) (5 : Int32)) fun _ =>
km_bind (km_gR [(3, 0)] x0) fun r11 =>
km_bind (km_ldI 0 r11 (((1188 : Int32) + ((5 : Int32) * i8)) + (1 : Int32))) fun i12 =>
km_bind (km_stI 0 r11 (((1188 : Int32) + ((5 : Int32) * i8)) + (1 : Int32)) (i12 - (1 : Int32))) fun _ =>
km_bind (km_gR [(3, 0)] x0) fun r14 =>
km_bind (km_ldI 0 r14 (((1188 : Int32) + ((5 : Int32) * i8)) + (2 : Int32))) fun i15 =>
km_bind (km_gR [(3, 0)] x0) fun r16 =>
km_bind (km_ldI 0 r16 (((1188 : Int32) + ((5 : Int32) * i8)) + (4 : Int32))) fun i17 =>
km_bind (km_stI 0 r14 (((1188 : Int32) + ((5 : Int32) * i8)) + (2 : Int32)) (i15 - i17)) fun _ =>
km_bind (km_gR [(3, 0)] x0) fun r19 =>
km_bind (km_ldI 0 r19 (15 : Int32)) fun i20 =>
km_bind (km_stI 0 r19 (15 : Int32) (i20 + (1 : Int32))) fun _ =>
km_bind (km_gR [(3, 0)] x0) fun r22 =>
km_bind (km_ldI 0 r22 (7 : Int32)) fun i23 =>
km_bind (km_stI 0 r22 (7 : Int32) (i23 + (1 : Int32))) fun _ =>
km_bind (km_is 3 x0) fun _ => km_bind (pm_X3_goes x0 (14 : Int32) (1148 : Int32) (5 : Int32) x1) fun _ =>
pb_X3_comeBack_2 n x0 x1)
else
(pb_X3_comeBack_2 n x0 (x1 + (1 : Int32)))))
    refine kw_iload_n (pc := 2) B dX3_comeBack_2 rfl 1 rfl ?_
    refine kw_aload_n (pc := 3) B dX3_comeBack_3 rfl 0 rfl ?_
    refine kw_gR (pc := 4) B dX3_comeBack_4 fl_X3_9 (fun r1 => ?_)
    refine kw_bipush (pc := 7) B dX3_comeBack_7 (v := (14 : Int32)) rfl ?_
    refine kw_iald (pc := 9) B dX3_comeBack_9 (fun i2 => ?_)
    refine kw_icmp_ge (pc := 10) (tgt := 139) B dX3_comeBack_10 rfl ?_ ?_
    · exact kw_vret B dX3_comeBack_139 rfl
    · refine kw_sipush (pc := 13) B dX3_comeBack_13 (v := (1148 : Int32)) rfl ?_
      refine kw_iconst (pc := 16) B dX3_comeBack_16 (v := (5 : Int32)) rfl ?_
      refine kw_iload_n (pc := 17) B dX3_comeBack_17 rfl 1 rfl ?_
      refine kw_imul (pc := 18) B dX3_comeBack_18 ?_
      refine kw_iadd (pc := 19) B dX3_comeBack_19 ?_
      refine kw_istore_n (pc := 20) B dX3_comeBack_20 rfl (by decide) (L2 := [(2, kI ((1148 : Int32) + ((5 : Int32) * x1))), (0, kA x0), (1, kI x1)]) rfl ?_
      refine kw_aload_n (pc := 21) B dX3_comeBack_21 rfl 1 rfl ?_
      refine kw_gR (pc := 22) B dX3_comeBack_22 fl_X3_9 (fun r3 => ?_)
      refine kw_iload_n (pc := 25) B dX3_comeBack_25 rfl 0 rfl ?_
      refine kw_iconst (pc := 26) B dX3_comeBack_26 (v := (0 : Int32)) rfl ?_
      refine kw_iadd (pc := 27) B dX3_comeBack_27 ?_
      refine kw_iald (pc := 28) B dX3_comeBack_28 (fun i4 => ?_)
      refine kw_aload_n (pc := 29) B dX3_comeBack_29 rfl 1 rfl ?_
      refine kw_gR (pc := 30) B dX3_comeBack_30 fl_X3_9 (fun r5 => ?_)
      refine kw_iconst (pc := 33) B dX3_comeBack_33 (v := (0 : Int32)) rfl ?_
      refine kw_iald (pc := 34) B dX3_comeBack_34 (fun i6 => ?_)
      refine kw_icmp_le (pc := 35) (tgt := 44) B dX3_comeBack_35 rfl ?_ ?_
      · refine kw_sipush (pc := 44) B dX3_comeBack_44 (v := (1188 : Int32)) rfl ?_
        refine kw_iconst (pc := 47) B dX3_comeBack_47 (v := (5 : Int32)) rfl ?_
        refine kw_aload_n (pc := 48) B dX3_comeBack_48 rfl 1 rfl ?_
        refine kw_gR (pc := 49) B dX3_comeBack_49 fl_X3_9 (fun r7 => ?_)
        refine kw_bipush (pc := 52) B dX3_comeBack_52 (v := (15 : Int32)) rfl ?_
        refine kw_iald (pc := 54) B dX3_comeBack_54 (fun i8 => ?_)
        refine kw_imul (pc := 55) B dX3_comeBack_55 ?_
        refine kw_iadd (pc := 56) B dX3_comeBack_56 ?_
        refine kw_istore_n (pc := 57) B dX3_comeBack_57 rfl (by decide) (L2 := [(3, kI ((1188 : Int32) + ((5 : Int32) * i8))), (2, kI ((1148 : Int32) + ((5 : Int32) * x1))), (0, kA x0), (1, kI x1)]) rfl ?_
        refine kw_aload_n (pc := 58) B dX3_comeBack_58 rfl 2 rfl ?_
        refine kw_gR (pc := 59) B dX3_comeBack_59 fl_X3_9 (fun r9 => ?_)
        refine kw_iload_n (pc := 62) B dX3_comeBack_62 rfl 1 rfl ?_
        refine kw_aload_n (pc := 63) B dX3_comeBack_63 rfl 2 rfl ?_
        refine kw_gR (pc := 64) B dX3_comeBack_64 fl_X3_9 (fun r10 => ?_)
        refine kw_iload_n (pc := 67) B dX3_comeBack_67 rfl 0 rfl ?_
        refine kw_iconst (pc := 68) B dX3_comeBack_68 (v := (5 : Int32)) rfl ?_
        refine kw_callS (pc := 69) B dX3_comeBack_69 (ct_X3_copies r9 ((1148 : Int32) + ((5 : Int32) * x1)) r10 ((1188 : Int32) + ((5 : Int32) * i8)) (5 : Int32)) q2422 q2423 q81 q2424 ⟨by decide, by decide, rfl⟩ (As := [kA r9, kI ((1148 : Int32) + ((5 : Int32) * x1)), kA r10, kI ((1188 : Int32) + ((5 : Int32) * i8)), kI (5 : Int32)]) rfl (st := []) rfl (Nat.le_of_ble_eq_true rfl) (by decide) (by decide) kw_qV (fun _ => ?_)
        refine kw_aload_n (pc := 72) B dX3_comeBack_72 rfl 2 rfl ?_
        refine kw_gR (pc := 73) B dX3_comeBack_73 fl_X3_9 (fun r11 => ?_)
        refine kw_iload_n (pc := 76) B dX3_comeBack_76 rfl 0 rfl ?_
        refine kw_iconst (pc := 77) B dX3_comeBack_77 (v := (1 : Int32)) rfl ?_
        refine kw_iadd (pc := 78) B dX3_comeBack_78 ?_
        refine kw_dup2 (pc := 79) B dX3_comeBack_79 rfl rfl ?_
        refine kw_iald (pc := 80) B dX3_comeBack_80 (fun i12 => ?_)
        refine kw_iconst (pc := 81) B dX3_comeBack_81 (v := (1 : Int32)) rfl ?_
        refine kw_isub (pc := 82) B dX3_comeBack_82 ?_
        refine kw_iast (pc := 83) B dX3_comeBack_83 ?_
        refine kw_aload_n (pc := 84) B dX3_comeBack_84 rfl 2 rfl ?_
        refine kw_gR (pc := 85) B dX3_comeBack_85 fl_X3_9 (fun r14 => ?_)
        refine kw_iload_n (pc := 88) B dX3_comeBack_88 rfl 0 rfl ?_
        refine kw_iconst (pc := 89) B dX3_comeBack_89 (v := (2 : Int32)) rfl ?_
        refine kw_iadd (pc := 90) B dX3_comeBack_90 ?_
        refine kw_dup2 (pc := 91) B dX3_comeBack_91 rfl rfl ?_
        refine kw_iald (pc := 92) B dX3_comeBack_92 (fun i15 => ?_)
        refine kw_aload_n (pc := 93) B dX3_comeBack_93 rfl 2 rfl ?_
        refine kw_gR (pc := 94) B dX3_comeBack_94 fl_X3_9 (fun r16 => ?_)
        refine kw_iload_n (pc := 97) B dX3_comeBack_97 rfl 0 rfl ?_
        refine kw_iconst (pc := 98) B dX3_comeBack_98 (v := (4 : Int32)) rfl ?_
        refine kw_iadd (pc := 99) B dX3_comeBack_99 ?_
        refine kw_iald (pc := 100) B dX3_comeBack_100 (fun i17 => ?_)
        refine kw_isub (pc := 101) B dX3_comeBack_101 ?_
        refine kw_iast (pc := 102) B dX3_comeBack_102 ?_
        refine kw_aload_n (pc := 103) B dX3_comeBack_103 rfl 2 rfl ?_
        refine kw_gR (pc := 104) B dX3_comeBack_104 fl_X3_9 (fun r19 => ?_)
        refine kw_bipush (pc := 107) B dX3_comeBack_107 (v := (15 : Int32)) rfl ?_
        refine kw_dup2 (pc := 109) B dX3_comeBack_109 rfl rfl ?_
        refine kw_iald (pc := 110) B dX3_comeBack_110 (fun i20 => ?_)
        refine kw_iconst (pc := 111) B dX3_comeBack_111 (v := (1 : Int32)) rfl ?_
        refine kw_iadd (pc := 112) B dX3_comeBack_112 ?_
        refine kw_iast (pc := 113) B dX3_comeBack_113 ?_
        refine kw_aload_n (pc := 114) B dX3_comeBack_114 rfl 2 rfl ?_
        refine kw_gR (pc := 115) B dX3_comeBack_115 fl_X3_9 (fun r22 => ?_)
        refine kw_bipush (pc := 118) B dX3_comeBack_118 (v := (7 : Int32)) rfl ?_
        refine kw_dup2 (pc := 120) B dX3_comeBack_120 rfl rfl ?_
        refine kw_iald (pc := 121) B dX3_comeBack_121 (fun i23 => ?_)
        refine kw_iconst (pc := 122) B dX3_comeBack_122 (v := (1 : Int32)) rfl ?_
        refine kw_iadd (pc := 123) B dX3_comeBack_123 ?_
        refine kw_iast (pc := 124) B dX3_comeBack_124 ?_
        refine kw_aload_n (pc := 125) B dX3_comeBack_125 rfl 2 rfl ?_
        refine kw_bipush (pc := 126) B dX3_comeBack_126 (v := (14 : Int32)) rfl ?_
        refine kw_sipush (pc := 128) B dX3_comeBack_128 (v := (1148 : Int32)) rfl ?_
        refine kw_iconst (pc := 131) B dX3_comeBack_131 (v := (5 : Int32)) rfl ?_
        refine kw_iload_n (pc := 132) B dX3_comeBack_132 rfl 3 rfl ?_
        refine kw_callV (pc := 133) B dX3_comeBack_133 (ci := 3) rfl (ct_X3_goes x0 (14 : Int32) (1148 : Int32) (5 : Int32) x1) q2570 q2572 qs48 q81 q2573 ⟨by decide, by decide, rfl⟩ (As := [kI (14 : Int32), kI (1148 : Int32), kI (5 : Int32), kI x1]) rfl (st := []) rfl (Nat.le_of_ble_eq_true rfl) (by decide) (by decide) kw_qV (fun _ => ?_)
        refine kw_goto (pc := 136) (tgt := 2) B dX3_comeBack_136 rfl ?_
        exact kw_pick [2, 3] rfl (ih x0 x1)
      · refine kw_iinc (pc := 38) B dX3_comeBack_38 2 rfl (w := x1 + (1 : Int32)) rfl (by decide) (L2 := [(1, kI (x1 + (1 : Int32))), (2, kI ((1148 : Int32) + ((5 : Int32) * x1))), (0, kA x0)]) rfl ?_
        refine kw_goto (pc := 41) (tgt := 2) B dX3_comeBack_41 rfl ?_
        exact kw_pick [2, 0] rfl (ih x0 (x1 + (1 : Int32)))
theorem wm_X3_comeBack {E : kw_E} (B : kw_ok E cX3_comeBack RX3 "comeBack" 4 none 2 25 []) (a0 : Option Nat) : kw_W E kw_eV 0 [(0, kA a0)] [] (pm_X3_comeBack a0) := by
  unfold pm_X3_comeBack
  refine kw_iconst (pc := 0) B dX3_comeBack_0 (v := (0 : Int32)) rfl ?_
  refine kw_istore_n (pc := 1) B dX3_comeBack_1 rfl (by decide) (L2 := [(1, kI (0 : Int32)), (0, kA a0)]) rfl ?_
  exact kw_pick [1, 0] rfl (wb_X3_comeBack_2 B km_fuel a0 (0 : Int32))
theorem ct_X3_comeBack (a0 : Option Nat) (l : Launch) : kw_Met l yX3_comeBack (ws_ yX3_comeBack cX3_comeBack 4 none) 2 25 [kA a0] kw_eV (pm_X3_comeBack a0) := kw_met (plainFor_of_name rfl) (Nat.le_of_ble_eq_true rfl) (fun E B => wm_X3_comeBack B a0) l

/-! RosaryCarversModel sumOn (I)I -/

theorem wb_X3_sumOn_4 {E : kw_E} (B : kw_ok E cX3_sumOn RX3 "sumOn" 4 (some .int) 3 43 [])  : ∀ (n : Nat) (x0 : Option Nat) (x1 : Int32) (x2 : Int32) (x3 : Int32), kw_W E kw_eI 4 [(0, kA x0), (1, kI x1), (2, kI x2), (3, kI x3)] [] (pb_X3_sumOn_4  n x0 x1 x2 x3) := by
  intro n
  induction n with
  | zero =>
    intro x0 x1 x2 x3
    exact kw_fail_ok
  | succ n ih =>
    intro x0 x1 x2 x3
    show kw_W E kw_eI 4 [(0, kA x0), (1, kI x1), (2, kI x2), (3, kI x3)] [] (
km_bind (km_is 3 x0) fun _ => km_bind (pm_X3_ofString x0 x1 (3 : Int32)) fun i1 =>
if i1 ≤ x3 then
(km_pure x2)
else
(km_bind (km_gR [(3, 0)] x0) fun r2 =>
km_bind (pm_X3_beadAt x1 x3) fun i3 =>
km_bind (km_ldI 0 r2 (i3 + (1 : Int32))) fun i4 =>
pb_X3_sumOn_4 n x0 x1 (x2 + i4) (x3 + (1 : Int32))))
    refine kw_iload_n (pc := 4) B dX3_sumOn_4 rfl 3 rfl ?_
    refine kw_aload_n (pc := 5) B dX3_sumOn_5 rfl 0 rfl ?_
    refine kw_iload_n (pc := 6) B dX3_sumOn_6 rfl 1 rfl ?_
    refine kw_iconst (pc := 7) B dX3_sumOn_7 (v := (3 : Int32)) rfl ?_
    refine kw_callV (pc := 8) B dX3_sumOn_8 (ci := 3) rfl (ct_X3_ofString x0 x1 (3 : Int32)) q2543 q2545 qs42 q81 q2546 ⟨by decide, by decide, rfl⟩ (As := [kI x1, kI (3 : Int32)]) rfl (st := [kI x3]) rfl (Nat.le_of_ble_eq_true rfl) (by decide) (by decide) kw_qI (fun i1 => ?_)
    refine kw_icmp_ge (pc := 11) (tgt := 35) B dX3_sumOn_11 rfl ?_ ?_
    · refine kw_iload_n (pc := 35) B dX3_sumOn_35 rfl 2 rfl ?_
      exact kw_iret B dX3_sumOn_36 rfl
    · refine kw_iload_n (pc := 14) B dX3_sumOn_14 rfl 2 rfl ?_
      refine kw_aload_n (pc := 15) B dX3_sumOn_15 rfl 0 rfl ?_
      refine kw_gR (pc := 16) B dX3_sumOn_16 fl_X3_9 (fun r2 => ?_)
      refine kw_iload_n (pc := 19) B dX3_sumOn_19 rfl 1 rfl ?_
      refine kw_iload_n (pc := 20) B dX3_sumOn_20 rfl 3 rfl ?_
      refine kw_callS (pc := 21) B dX3_sumOn_21 (ct_X3_beadAt x1 x3) q2567 q2568 q81 q2569 ⟨by decide, by decide, rfl⟩ (As := [kI x1, kI x3]) rfl (st := [kA r2, kI x2]) rfl (Nat.le_of_ble_eq_true rfl) (by decide) (by decide) kw_qI (fun i3 => ?_)
      refine kw_iconst (pc := 24) B dX3_sumOn_24 (v := (1 : Int32)) rfl ?_
      refine kw_iadd (pc := 25) B dX3_sumOn_25 ?_
      refine kw_iald (pc := 26) B dX3_sumOn_26 (fun i4 => ?_)
      refine kw_iadd (pc := 27) B dX3_sumOn_27 ?_
      refine kw_istore_n (pc := 28) B dX3_sumOn_28 rfl (by decide) (L2 := [(2, kI (x2 + i4)), (0, kA x0), (1, kI x1), (3, kI x3)]) rfl ?_
      refine kw_iinc (pc := 29) B dX3_sumOn_29 3 rfl (w := x3 + (1 : Int32)) rfl (by decide) (L2 := [(3, kI (x3 + (1 : Int32))), (2, kI (x2 + i4)), (0, kA x0), (1, kI x1)]) rfl ?_
      refine kw_goto (pc := 32) (tgt := 4) B dX3_sumOn_32 rfl ?_
      exact kw_pick [2, 3, 1, 0] rfl (ih x0 x1 (x2 + i4) (x3 + (1 : Int32)))
theorem wm_X3_sumOn {E : kw_E} (B : kw_ok E cX3_sumOn RX3 "sumOn" 4 (some .int) 3 43 []) (a0 : Option Nat) (a1 : Int32) : kw_W E kw_eI 0 [(0, kA a0), (1, kI a1)] [] (pm_X3_sumOn a0 a1) := by
  unfold pm_X3_sumOn
  refine kw_iconst (pc := 0) B dX3_sumOn_0 (v := (0 : Int32)) rfl ?_
  refine kw_istore_n (pc := 1) B dX3_sumOn_1 rfl (by decide) (L2 := [(2, kI (0 : Int32)), (0, kA a0), (1, kI a1)]) rfl ?_
  refine kw_iconst (pc := 2) B dX3_sumOn_2 (v := (0 : Int32)) rfl ?_
  refine kw_istore_n (pc := 3) B dX3_sumOn_3 rfl (by decide) (L2 := [(3, kI (0 : Int32)), (2, kI (0 : Int32)), (0, kA a0), (1, kI a1)]) rfl ?_
  exact kw_pick [2, 3, 1, 0] rfl (wb_X3_sumOn_4 B km_fuel a0 a1 (0 : Int32) (0 : Int32))
theorem ct_X3_sumOn (a0 : Option Nat) (a1 : Int32) (l : Launch) : kw_Met l yX3_sumOn (ws_ yX3_sumOn cX3_sumOn 4 (some .int)) 3 43 [kA a0, kI a1] kw_eI (pm_X3_sumOn a0 a1) := kw_met (plainFor_of_name rfl) (Nat.le_of_ble_eq_true rfl) (fun E B => wm_X3_sumOn B a0 a1) l

/-! RosaryCarversModel fineness (I)I -/

theorem wm_X3_fineness {E : kw_E} (B : kw_ok E cX3_fineness RX3 "fineness" 3 (some .int) 4 66 []) (a0 : Option Nat) (a1 : Int32) : kw_W E kw_eI 0 [(0, kA a0), (1, kI a1)] [] (pm_X3_fineness a0 a1) := by
  unfold pm_X3_fineness
  refine kw_aload_n (pc := 0) B dX3_fineness_0 rfl 0 rfl ?_
  refine kw_iload_n (pc := 1) B dX3_fineness_1 rfl 1 rfl ?_
  refine kw_iconst (pc := 2) B dX3_fineness_2 (v := (3 : Int32)) rfl ?_
  refine kw_callV (pc := 3) B dX3_fineness_3 (ci := 3) rfl (ct_X3_ofString a0 a1 (3 : Int32)) q2543 q2545 qs42 q81 q2546 ⟨by decide, by decide, rfl⟩ (As := [kI a1, kI (3 : Int32)]) rfl (st := []) rfl (Nat.le_of_ble_eq_true rfl) (by decide) (by decide) kw_qI (fun i1 => ?_)
  refine kw_istore_n (pc := 6) B dX3_fineness_6 rfl (by decide) (L2 := [(2, kI i1), (0, kA a0), (1, kI a1)]) rfl ?_
  refine kw_iload_n (pc := 7) B dX3_fineness_7 rfl 0 rfl ?_
  refine kw_if_ne (pc := 8) (tgt := 15) B dX3_fineness_8 rfl ?_ ?_
  · refine kw_aload_n (pc := 15) B dX3_fineness_15 rfl 1 rfl ?_
    refine kw_iload_n (pc := 16) B dX3_fineness_16 rfl 2 rfl ?_
    refine kw_callV (pc := 17) B dX3_fineness_17 (ci := 3) rfl (ct_X3_sumOn a0 a1) q2639 q2641 qs58 q81 q2642 ⟨by decide, by decide, rfl⟩ (As := [kI a1]) rfl (st := []) rfl (Nat.le_of_ble_eq_true rfl) (by decide) (by decide) kw_qI (fun i2 => ?_)
    refine kw_iload_n (pc := 20) B dX3_fineness_20 rfl 0 rfl ?_
    refine kw_idiv (pc := 21) B dX3_fineness_21 (fun i3 => ?_)
    exact kw_iret B dX3_fineness_22 rfl
  · refine kw_iconst (pc := 11) B dX3_fineness_11 (v := (0 : Int32)) rfl ?_
    refine kw_goto (pc := 12) (tgt := 22) B dX3_fineness_12 rfl ?_
    exact kw_iret B dX3_fineness_22 rfl
theorem ct_X3_fineness (a0 : Option Nat) (a1 : Int32) (l : Launch) : kw_Met l yX3_fineness (ws_ yX3_fineness cX3_fineness 3 (some .int)) 4 66 [kA a0, kI a1] kw_eI (pm_X3_fineness a0 a1) := kw_met (plainFor_of_name rfl) (Nat.le_of_ble_eq_true rfl) (fun E B => wm_X3_fineness B a0 a1) l

/-! RosaryCarversModel wouldBuy (I)I -/

theorem wb_X3_wouldBuy_109 {E : kw_E} (B : kw_ok E cX3_wouldBuy RX3 "wouldBuy" 5 (some .int) 5 88 []) {k5 : Option Nat → Int32 → Int32 → Int32 → km_M Int32} (h5 : ∀ (y0 : Option Nat) (y1 : Int32) (y2 : Int32) (y3 : Int32), kw_W E kw_eI 5 [(0, kA y0), (1, kI y1), (2, kI y2), (3, kI y3)] [] (k5 y0 y1 y2 y3)) (x0 : Option Nat) (x1 : Int32) (x3 : Int32) (s0 : Int32) : kw_W E kw_eI 109 [(0, kA x0), (1, kI x1), (3, kI x3)] [kI s0] (pb_X3_wouldBuy_109 k5 x0 x1 x3 s0) := by
  unfold pb_X3_wouldBuy_109
  refine kw_istore_n (pc := 109) B dX3_wouldBuy_109 rfl (by decide) (L2 := [(2, kI s0), (0, kA x0), (1, kI x1), (3, kI x3)]) rfl ?_
  refine kw_iinc (pc := 110) B dX3_wouldBuy_110 3 rfl (w := x3 + (1 : Int32)) rfl (by decide) (L2 := [(3, kI (x3 + (1 : Int32))), (2, kI s0), (0, kA x0), (1, kI x1)]) rfl ?_
  refine kw_goto (pc := 113) (tgt := 5) B dX3_wouldBuy_113 rfl ?_
  exact kw_pick [2, 3, 1, 0] rfl (h5 x0 x1 s0 (x3 + (1 : Int32)))
theorem wb_X3_wouldBuy_108 {E : kw_E} (B : kw_ok E cX3_wouldBuy RX3 "wouldBuy" 5 (some .int) 5 88 []) {k5 : Option Nat → Int32 → Int32 → Int32 → km_M Int32} (h5 : ∀ (y0 : Option Nat) (y1 : Int32) (y2 : Int32) (y3 : Int32), kw_W E kw_eI 5 [(0, kA y0), (1, kI y1), (2, kI y2), (3, kI y3)] [] (k5 y0 y1 y2 y3)) (x0 : Option Nat) (x1 : Int32) (x2 : Int32) (x3 : Int32) : kw_W E kw_eI 108 [(0, kA x0), (1, kI x1), (2, kI x2), (3, kI x3)] [] (pb_X3_wouldBuy_108 k5 x0 x1 x2 x3) := by
  unfold pb_X3_wouldBuy_108
  refine kw_iload_n (pc := 108) B dX3_wouldBuy_108 rfl 2 rfl ?_
  exact kw_pick [0, 1, 3] rfl (wb_X3_wouldBuy_109 B h5 x0 x1 x3 x2)
theorem wb_X3_wouldBuy_78 {E : kw_E} (B : kw_ok E cX3_wouldBuy RX3 "wouldBuy" 5 (some .int) 5 88 []) {k5 : Option Nat → Int32 → Int32 → Int32 → km_M Int32} (h5 : ∀ (y0 : Option Nat) (y1 : Int32) (y2 : Int32) (y3 : Int32), kw_W E kw_eI 5 [(0, kA y0), (1, kI y1), (2, kI y2), (3, kI y3)] [] (k5 y0 y1 y2 y3)) (x0 : Option Nat) (x1 : Int32) (x2 : Int32) (x3 : Int32) (s0 : Int32) : kw_W E kw_eI 78 [(0, kA x0), (1, kI x1), (2, kI x2), (3, kI x3)] [kI s0] (pb_X3_wouldBuy_78 k5 x0 x1 x2 x3 s0) := by
  unfold pb_X3_wouldBuy_78
  refine kw_istore (pc := 78) B dX3_wouldBuy_78 (by decide) (L2 := [(4, kI s0), (0, kA x0), (1, kI x1), (2, kI x2), (3, kI x3)]) rfl ?_
  refine kw_iload (pc := 80) B dX3_wouldBuy_80 0 rfl ?_
  refine kw_if_eq (pc := 82) (tgt := 108) B dX3_wouldBuy_82 rfl ?_ ?_
  · exact kw_pick [1, 2, 3, 4] rfl (wb_X3_wouldBuy_108 B h5 x0 x1 x2 x3)
  · refine kw_iload_n (pc := 85) B dX3_wouldBuy_85 rfl 3 rfl ?_
    refine kw_bipush (pc := 86) B dX3_wouldBuy_86 (v := (-6 : Int32)) rfl ?_
    refine kw_icmp_eq (pc := 88) (tgt := 104) B dX3_wouldBuy_88 rfl ?_ ?_
    · refine kw_iload_n (pc := 104) B dX3_wouldBuy_104 rfl 4 rfl ?_
      refine kw_goto (pc := 105) (tgt := 109) B dX3_wouldBuy_105 rfl ?_
      exact kw_pick [1, 2, 4] rfl (wb_X3_wouldBuy_109 B h5 x0 x1 x3 x3)
    · refine kw_aload_n (pc := 91) B dX3_wouldBuy_91 rfl 1 rfl ?_
      refine kw_iload_n (pc := 92) B dX3_wouldBuy_92 rfl 4 rfl ?_
      refine kw_callV (pc := 93) B dX3_wouldBuy_93 (ci := 3) rfl (ct_X3_fineness x0 x3) q2635 q2637 qs57 q81 q2638 ⟨by decide, by decide, rfl⟩ (As := [kI x3]) rfl (st := []) rfl (Nat.le_of_ble_eq_true rfl) (by decide) (by decide) kw_qI (fun i1 => ?_)
      refine kw_aload_n (pc := 96) B dX3_wouldBuy_96 rfl 1 rfl ?_
      refine kw_iload_n (pc := 97) B dX3_wouldBuy_97 rfl 3 rfl ?_
      refine kw_callV (pc := 98) B dX3_wouldBuy_98 (ci := 3) rfl (ct_X3_fineness x0 x2) q2635 q2637 qs57 q81 q2638 ⟨by decide, by decide, rfl⟩ (As := [kI x2]) rfl (st := [kI i1]) rfl (Nat.le_of_ble_eq_true rfl) (by decide) (by decide) kw_qI (fun i2 => ?_)
      refine kw_icmp_ge (pc := 101) (tgt := 108) B dX3_wouldBuy_101 rfl ?_ ?_
      · exact kw_pick [1, 2, 3, 4] rfl (wb_X3_wouldBuy_108 B h5 x0 x1 x2 x3)
      · refine kw_iload_n (pc := 104) B dX3_wouldBuy_104 rfl 4 rfl ?_
        refine kw_goto (pc := 105) (tgt := 109) B dX3_wouldBuy_105 rfl ?_
        exact kw_pick [1, 2, 4] rfl (wb_X3_wouldBuy_109 B h5 x0 x1 x3 x3)
theorem wb_X3_wouldBuy_77 {E : kw_E} (B : kw_ok E cX3_wouldBuy RX3 "wouldBuy" 5 (some .int) 5 88 []) {k5 : Option Nat → Int32 → Int32 → Int32 → km_M Int32} (h5 : ∀ (y0 : Option Nat) (y1 : Int32) (y2 : Int32) (y3 : Int32), kw_W E kw_eI 5 [(0, kA y0), (1, kI y1), (2, kI y2), (3, kI y3)] [] (k5 y0 y1 y2 y3)) (x0 : Option Nat) (x1 : Int32) (x2 : Int32) (x3 : Int32) : kw_W E kw_eI 77 [(0, kA x0), (1, kI x1), (2, kI x2), (3, kI x3)] [] (pb_X3_wouldBuy_77 k5 x0 x1 x2 x3) := by
  unfold pb_X3_wouldBuy_77
  refine kw_iconst (pc := 77) B dX3_wouldBuy_77 (v := (0 : Int32)) rfl ?_
  exact kw_pick [0, 1, 2, 3] rfl (wb_X3_wouldBuy_78 B h5 x0 x1 x2 x3 (0 : Int32))
theorem wb_X3_wouldBuy_5 {E : kw_E} (B : kw_ok E cX3_wouldBuy RX3 "wouldBuy" 5 (some .int) 5 88 [])  : ∀ (n : Nat) (x0 : Option Nat) (x1 : Int32) (x2 : Int32) (x3 : Int32), kw_W E kw_eI 5 [(0, kA x0), (1, kI x1), (2, kI x2), (3, kI x3)] [] (pb_X3_wouldBuy_5  n x0 x1 x2 x3) := by
  intro n
  induction n with
  | zero =>
    intro x0 x1 x2 x3
    exact kw_fail_ok
  | succ n ih =>
    intro x0 x1 x2 x3
    show kw_W E kw_eI 5 [(0, kA x0), (1, kI x1), (2, kI x2), (3, kI x3)] [] (
km_bind (km_gR [(3, 0)] x0) fun r1 =>
km_bind (km_ldI 0 r1 (12 : Int32)) fun i2 =>
if i2 ≤ x3 then
(km_pure x2)
else
(km_bind (km_gR [(3, 0)] x0) fun r3 =>
km_bind (km_ldI 0 r3 (14 : Int32)) fun i4 =>
if (8 : Int32) ≤ i4 then
(km_pure x2)
else
(km_bind (km_is 3 x0) fun _ => km_bind (pm_X3_isDone x0 x3) fun i5 =>
if i5 = 0 then
(pb_X3_wouldBuy_77 (pb_X3_wouldBuy_5 n) x0 x1 x2 x3)
else
(km_bind (km_is 3 x0) fun _ => km_bind (pm_X3_ofString x0 x3 (0 : Int32)) fun i6 =>
km_bind (km_gR [(3, 0)] x0) fun r7 =>
km_bind (pm_X3_pilgrimAt x1 (1 : Int32)) fun i8 =>
km_bind (km_ldI 0 r7 i8) fun i9 =>
if ¬ i6 = i9 then
(pb_X3_wouldBuy_77 (pb_X3_wouldBuy_5 n) x0 x1 x2 x3)
else
(km_bind (km_is 3 x0) fun _ => km_bind (pm_X3_fineness x0 x3) fun i10 =>
km_bind (km_gR [(3, 0)] x0) fun r11 =>
km_bind (pm_X3_pilgrimAt x1 (2 : Int32)) fun i12 =>
km_bind (km_ldI 0 r11 i12) fun i13 =>
if i10 < i13 then
(pb_X3_wouldBuy_77 (pb_X3_wouldBuy_5 n) x0 x1 x2 x3)
else
(pb_X3_wouldBuy_78 (pb_X3_wouldBuy_5 n) x0 x1 x2 x3 (1 : Int32)))))))
    refine kw_iload_n (pc := 5) B dX3_wouldBuy_5 rfl 3 rfl ?_
    refine kw_aload_n (pc := 6) B dX3_wouldBuy_6 rfl 0 rfl ?_
    refine kw_gR (pc := 7) B dX3_wouldBuy_7 fl_X3_9 (fun r1 => ?_)
    refine kw_bipush (pc := 10) B dX3_wouldBuy_10 (v := (12 : Int32)) rfl ?_
    refine kw_iald (pc := 12) B dX3_wouldBuy_12 (fun i2 => ?_)
    refine kw_icmp_ge (pc := 13) (tgt := 116) B dX3_wouldBuy_13 rfl ?_ ?_
    · refine kw_iload_n (pc := 116) B dX3_wouldBuy_116 rfl 2 rfl ?_
      exact kw_iret B dX3_wouldBuy_117 rfl
    · refine kw_aload_n (pc := 16) B dX3_wouldBuy_16 rfl 0 rfl ?_
      refine kw_gR (pc := 17) B dX3_wouldBuy_17 fl_X3_9 (fun r3 => ?_)
      refine kw_bipush (pc := 20) B dX3_wouldBuy_20 (v := (14 : Int32)) rfl ?_
      refine kw_iald (pc := 22) B dX3_wouldBuy_22 (fun i4 => ?_)
      refine kw_bipush (pc := 23) B dX3_wouldBuy_23 (v := (8 : Int32)) rfl ?_
      refine kw_icmp_ge (pc := 25) (tgt := 116) B dX3_wouldBuy_25 rfl ?_ ?_
      · refine kw_iload_n (pc := 116) B dX3_wouldBuy_116 rfl 2 rfl ?_
        exact kw_iret B dX3_wouldBuy_117 rfl
      · refine kw_aload_n (pc := 28) B dX3_wouldBuy_28 rfl 0 rfl ?_
        refine kw_iload_n (pc := 29) B dX3_wouldBuy_29 rfl 3 rfl ?_
        refine kw_callV (pc := 30) B dX3_wouldBuy_30 (ci := 3) rfl (ct_X3_isDone x0 x3) q2539 q2541 qs41 q81 q2542 ⟨by decide, by decide, rfl⟩ (As := [kI x3]) rfl (st := []) rfl (Nat.le_of_ble_eq_true rfl) (by decide) (by decide) kw_qI (fun i5 => ?_)
        refine kw_if_eq (pc := 33) (tgt := 77) B dX3_wouldBuy_33 rfl ?_ ?_
        · exact kw_pick [0, 1, 2, 3] rfl (wb_X3_wouldBuy_77 B ih x0 x1 x2 x3)
        · refine kw_aload_n (pc := 36) B dX3_wouldBuy_36 rfl 0 rfl ?_
          refine kw_iload_n (pc := 37) B dX3_wouldBuy_37 rfl 3 rfl ?_
          refine kw_iconst (pc := 38) B dX3_wouldBuy_38 (v := (0 : Int32)) rfl ?_
          refine kw_callV (pc := 39) B dX3_wouldBuy_39 (ci := 3) rfl (ct_X3_ofString x0 x3 (0 : Int32)) q2543 q2545 qs42 q81 q2546 ⟨by decide, by decide, rfl⟩ (As := [kI x3, kI (0 : Int32)]) rfl (st := []) rfl (Nat.le_of_ble_eq_true rfl) (by decide) (by decide) kw_qI (fun i6 => ?_)
          refine kw_aload_n (pc := 42) B dX3_wouldBuy_42 rfl 0 rfl ?_
          refine kw_gR (pc := 43) B dX3_wouldBuy_43 fl_X3_9 (fun r7 => ?_)
          refine kw_iload_n (pc := 46) B dX3_wouldBuy_46 rfl 1 rfl ?_
          refine kw_iconst (pc := 47) B dX3_wouldBuy_47 (v := (1 : Int32)) rfl ?_
          refine kw_callS (pc := 48) B dX3_wouldBuy_48 (ct_X3_pilgrimAt x1 (1 : Int32)) q2594 q2595 q81 q2596 ⟨by decide, by decide, rfl⟩ (As := [kI x1, kI (1 : Int32)]) rfl (st := [kA r7, kI i6]) rfl (Nat.le_of_ble_eq_true rfl) (by decide) (by decide) kw_qI (fun i8 => ?_)
          refine kw_iald (pc := 51) B dX3_wouldBuy_51 (fun i9 => ?_)
          refine kw_icmp_ne (pc := 52) (tgt := 77) B dX3_wouldBuy_52 rfl ?_ ?_
          · exact kw_pick [0, 1, 2, 3] rfl (wb_X3_wouldBuy_77 B ih x0 x1 x2 x3)
          · refine kw_aload_n (pc := 55) B dX3_wouldBuy_55 rfl 0 rfl ?_
            refine kw_iload_n (pc := 56) B dX3_wouldBuy_56 rfl 3 rfl ?_
            refine kw_callV (pc := 57) B dX3_wouldBuy_57 (ci := 3) rfl (ct_X3_fineness x0 x3) q2635 q2637 qs57 q81 q2638 ⟨by decide, by decide, rfl⟩ (As := [kI x3]) rfl (st := []) rfl (Nat.le_of_ble_eq_true rfl) (by decide) (by decide) kw_qI (fun i10 => ?_)
            refine kw_aload_n (pc := 60) B dX3_wouldBuy_60 rfl 0 rfl ?_
            refine kw_gR (pc := 61) B dX3_wouldBuy_61 fl_X3_9 (fun r11 => ?_)
            refine kw_iload_n (pc := 64) B dX3_wouldBuy_64 rfl 1 rfl ?_
            refine kw_iconst (pc := 65) B dX3_wouldBuy_65 (v := (2 : Int32)) rfl ?_
            refine kw_callS (pc := 66) B dX3_wouldBuy_66 (ct_X3_pilgrimAt x1 (2 : Int32)) q2594 q2595 q81 q2596 ⟨by decide, by decide, rfl⟩ (As := [kI x1, kI (2 : Int32)]) rfl (st := [kA r11, kI i10]) rfl (Nat.le_of_ble_eq_true rfl) (by decide) (by decide) kw_qI (fun i12 => ?_)
            refine kw_iald (pc := 69) B dX3_wouldBuy_69 (fun i13 => ?_)
            refine kw_icmp_lt (pc := 70) (tgt := 77) B dX3_wouldBuy_70 rfl ?_ ?_
            · exact kw_pick [0, 1, 2, 3] rfl (wb_X3_wouldBuy_77 B ih x0 x1 x2 x3)
            · refine kw_iconst (pc := 73) B dX3_wouldBuy_73 (v := (1 : Int32)) rfl ?_
              refine kw_goto (pc := 74) (tgt := 78) B dX3_wouldBuy_74 rfl ?_
              exact kw_pick [0, 1, 2, 3] rfl (wb_X3_wouldBuy_78 B ih x0 x1 x2 x3 (1 : Int32))
theorem wm_X3_wouldBuy {E : kw_E} (B : kw_ok E cX3_wouldBuy RX3 "wouldBuy" 5 (some .int) 5 88 []) (a0 : Option Nat) (a1 : Int32) : kw_W E kw_eI 0 [(0, kA a0), (1, kI a1)] [] (pm_X3_wouldBuy a0 a1) := by
  unfold pm_X3_wouldBuy
  refine kw_bipush (pc := 0) B dX3_wouldBuy_0 (v := (-6 : Int32)) rfl ?_
  refine kw_istore_n (pc := 2) B dX3_wouldBuy_2 rfl (by decide) (L2 := [(2, kI (-6 : Int32)), (0, kA a0), (1, kI a1)]) rfl ?_
  refine kw_iconst (pc := 3) B dX3_wouldBuy_3 (v := (0 : Int32)) rfl ?_
  refine kw_istore_n (pc := 4) B dX3_wouldBuy_4 rfl (by decide) (L2 := [(3, kI (0 : Int32)), (2, kI (-6 : Int32)), (0, kA a0), (1, kI a1)]) rfl ?_
  exact kw_pick [2, 3, 1, 0] rfl (wb_X3_wouldBuy_5 B km_fuel a0 a1 (-6 : Int32) (0 : Int32))
theorem ct_X3_wouldBuy (a0 : Option Nat) (a1 : Int32) (l : Launch) : kw_Met l yX3_wouldBuy (ws_ yX3_wouldBuy cX3_wouldBuy 5 (some .int)) 5 88 [kA a0, kI a1] kw_eI (pm_X3_wouldBuy a0 a1) := kw_met (plainFor_of_name rfl) (Nat.le_of_ble_eq_true rfl) (fun E B => wm_X3_wouldBuy B a0 a1) l

/-! RosaryCarversModel sells (II)V -/

theorem wb_X3_sells_67 {E : kw_E} (B : kw_ok E cX3_sells RX3 "sells" 6 none 5 88 []) {k20 : Option Nat → Int32 → Int32 → Int32 → Int32 → Int32 → km_M Unit} (h20 : ∀ (y0 : Option Nat) (y1 : Int32) (y2 : Int32) (y3 : Int32) (y4 : Int32) (y5 : Int32), kw_W E kw_eV 20 [(0, kA y0), (1, kI y1), (2, kI y2), (3, kI y3), (4, kI y4), (5, kI y5)] [] (k20 y0 y1 y2 y3 y4 y5)) (x0 : Option Nat) (x1 : Int32) (x2 : Int32) (x3 : Int32) (x5 : Int32) (s0 : Int32) : kw_W E kw_eV 67 [(0, kA x0), (1, kI x1), (2, kI x2), (3, kI x3), (5, kI x5)] [kI s0] (pb_X3_sells_67 k20 x0 x1 x2 x3 x5 s0) := by
  unfold pb_X3_sells_67
  refine kw_istore (pc := 67) B dX3_sells_67 (by decide) (L2 := [(4, kI s0), (0, kA x0), (1, kI x1), (2, kI x2), (3, kI x3), (5, kI x5)]) rfl ?_
  refine kw_iinc (pc := 69) B dX3_sells_69 5 rfl (w := x5 + (1 : Int32)) rfl (by decide) (L2 := [(5, kI (x5 + (1 : Int32))), (4, kI s0), (0, kA x0), (1, kI x1), (2, kI x2), (3, kI x3)]) rfl ?_
  refine kw_goto (pc := 72) (tgt := 20) B dX3_sells_72 rfl ?_
  exact kw_pick [2, 3, 4, 5, 1, 0] rfl (h20 x0 x1 x2 x3 s0 (x5 + (1 : Int32)))
theorem wb_X3_sells_147 {E : kw_E} (B : kw_ok E cX3_sells RX3 "sells" 6 none 5 88 [])  (x0 : Option Nat) (x1 : Int32) (x2 : Int32) (x3 : Int32) (x4 : Int32) (s0 : Int32) (s1 : Int32) (s2 : Option Nat) : kw_W E kw_eV 147 [(0, kA x0), (1, kI x1), (2, kI x2), (3, kI x3), (4, kI x4)] [kI s0, kI s1, kA s2] (pb_X3_sells_147  x0 x1 x2 x3 x4 s0 s1 s2) := by
  unfold pb_X3_sells_147
  refine kw_iast (pc := 147) B dX3_sells_147 ?_
  refine kw_aload_n (pc := 148) B dX3_sells_148 rfl 0 rfl ?_
  refine kw_gR (pc := 149) B dX3_sells_149 fl_X3_9 (fun r2 => ?_)
  refine kw_iload_n (pc := 152) B dX3_sells_152 rfl 3 rfl ?_
  refine kw_iconst (pc := 153) B dX3_sells_153 (v := (4 : Int32)) rfl ?_
  refine kw_iadd (pc := 154) B dX3_sells_154 ?_
  refine kw_aload_n (pc := 155) B dX3_sells_155 rfl 0 rfl ?_
  refine kw_gR (pc := 156) B dX3_sells_156 fl_X3_9 (fun r3 => ?_)
  refine kw_iload_n (pc := 159) B dX3_sells_159 rfl 1 rfl ?_
  refine kw_iload (pc := 160) B dX3_sells_160 4 rfl ?_
  refine kw_callS (pc := 162) B dX3_sells_162 (ct_X3_beadAt x1 x4) q2567 q2568 q81 q2569 ⟨by decide, by decide, rfl⟩ (As := [kI x1, kI x4]) rfl (st := [kA r3, kI (x3 + (4 : Int32)), kA r2]) rfl (Nat.le_of_ble_eq_true rfl) (by decide) (by decide) kw_qI (fun i4 => ?_)
  refine kw_iconst (pc := 165) B dX3_sells_165 (v := (1 : Int32)) rfl ?_
  refine kw_iadd (pc := 166) B dX3_sells_166 ?_
  refine kw_iald (pc := 167) B dX3_sells_167 (fun i5 => ?_)
  refine kw_iast (pc := 168) B dX3_sells_168 ?_
  refine kw_aload_n (pc := 169) B dX3_sells_169 rfl 0 rfl ?_
  refine kw_gR (pc := 170) B dX3_sells_170 fl_X3_9 (fun r7 => ?_)
  refine kw_bipush (pc := 173) B dX3_sells_173 (v := (14 : Int32)) rfl ?_
  refine kw_dup2 (pc := 175) B dX3_sells_175 rfl rfl ?_
  refine kw_iald (pc := 176) B dX3_sells_176 (fun i8 => ?_)
  refine kw_iconst (pc := 177) B dX3_sells_177 (v := (1 : Int32)) rfl ?_
  refine kw_iadd (pc := 178) B dX3_sells_178 ?_
  refine kw_iast (pc := 179) B dX3_sells_179 ?_
  refine kw_aload_n (pc := 180) B dX3_sells_180 rfl 0 rfl ?_
  refine kw_gR (pc := 181) B dX3_sells_181 fl_X3_9 (fun r10 => ?_)
  refine kw_iconst (pc := 184) B dX3_sells_184 (v := (4 : Int32)) rfl ?_
  refine kw_dup2 (pc := 185) B dX3_sells_185 rfl rfl ?_
  refine kw_iald (pc := 186) B dX3_sells_186 (fun i11 => ?_)
  refine kw_iconst (pc := 187) B dX3_sells_187 (v := (1 : Int32)) rfl ?_
  refine kw_iadd (pc := 188) B dX3_sells_188 ?_
  refine kw_iast (pc := 189) B dX3_sells_189 ?_
  refine kw_aload_n (pc := 190) B dX3_sells_190 rfl 0 rfl ?_
  refine kw_gR (pc := 191) B dX3_sells_191 fl_X3_9 (fun r13 => ?_)
  refine kw_bipush (pc := 194) B dX3_sells_194 (v := (6 : Int32)) rfl ?_
  refine kw_dup2 (pc := 196) B dX3_sells_196 rfl rfl ?_
  refine kw_iald (pc := 197) B dX3_sells_197 (fun i14 => ?_)
  refine kw_iload_n (pc := 198) B dX3_sells_198 rfl 2 rfl ?_
  refine kw_iadd (pc := 199) B dX3_sells_199 ?_
  refine kw_iast (pc := 200) B dX3_sells_200 ?_
  refine kw_aload_n (pc := 201) B dX3_sells_201 rfl 0 rfl ?_
  refine kw_bipush (pc := 202) B dX3_sells_202 (v := (12 : Int32)) rfl ?_
  refine kw_sipush (pc := 204) B dX3_sells_204 (v := (764 : Int32)) rfl ?_
  refine kw_bipush (pc := 207) B dX3_sells_207 (v := (60 : Int32)) rfl ?_
  refine kw_iload_n (pc := 209) B dX3_sells_209 rfl 1 rfl ?_
  refine kw_callV (pc := 210) B dX3_sells_210 (ci := 3) rfl (ct_X3_goes x0 (12 : Int32) (764 : Int32) (60 : Int32) x1) q2570 q2572 qs48 q81 q2573 ⟨by decide, by decide, rfl⟩ (As := [kI (12 : Int32), kI (764 : Int32), kI (60 : Int32), kI x1]) rfl (st := []) rfl (Nat.le_of_ble_eq_true rfl) (by decide) (by decide) kw_qV (fun _ => ?_)
  exact kw_vret B dX3_sells_213 rfl
theorem wb_X3_sells_20 {E : kw_E} (B : kw_ok E cX3_sells RX3 "sells" 6 none 5 88 [])  : ∀ (n : Nat) (x0 : Option Nat) (x1 : Int32) (x2 : Int32) (x3 : Int32) (x4 : Int32) (x5 : Int32), kw_W E kw_eV 20 [(0, kA x0), (1, kI x1), (2, kI x2), (3, kI x3), (4, kI x4), (5, kI x5)] [] (pb_X3_sells_20  n x0 x1 x2 x3 x4 x5) := by
  intro n
  induction n with
  | zero =>
    intro x0 x1 x2 x3 x4 x5
    exact kw_fail_ok
  | succ n ih =>
    intro x0 x1 x2 x3 x4 x5
    show kw_W E kw_eV 20 [(0, kA x0), (1, kI x1), (2, kI x2), (3, kI x3), (4, kI x4), (5, kI x5)] [] (
km_bind (km_is 3 x0) fun _ => km_bind (pm_X3_ofString x0 x1 (3 : Int32)) fun i1 =>
if i1 ≤ x5 then
(km_bind (km_gR [(3, 0)] x0) fun r2 =>
km_bind (km_gR [(3, 0)] x0) fun r3 =>
km_bind (km_ldI 0 r3 (0 : Int32)) fun i4 =>
km_bind (km_is 3 x0) fun _ => km_bind (pm_X3_fineness x0 x1) fun i5 =>
km_bind (km_stI 0 r2 (x3 + (0 : Int32)) (i4 + ((10 : Int32) * i5))) fun _ =>
km_bind (km_gR [(3, 0)] x0) fun r7 =>
km_bind (km_is 3 x0) fun _ => km_bind (pm_X3_ofString x0 x1 (3 : Int32)) fun i8 =>
km_bind (km_stI 0 r7 (x3 + (1 : Int32)) i8) fun _ =>
km_bind (km_gR [(3, 0)] x0) fun r10 =>
km_bind (km_is 3 x0) fun _ => km_bind (pm_X3_sumOn x0 x1) fun i11 =>
km_bind (km_stI 0 r10 (x3 + (2 : Int32)) i11) fun _ =>
km_bind (km_gR [(3, 0)] x0) fun r13 =>
km_bind (km_is 3 x0) fun _ => km_bind (pm_X3_isLargeAt x0 x1 x4) fun i14 =>
if i14 = 0 then
(pb_X3_sells_147 x0 x1 x2 x3 x4 (0 : Int32) (x3 + (3 : Int32)) r13)
else
(pb_X3_sells_147 x0 x1 x2 x3 x4 (1 : Int32) (x3 + (3 : Int32)) r13))
else
(km_bind (km_gR [(3, 0)] x0) fun r15 =>
km_bind (pm_X3_beadAt x1 x5) fun i16 =>
km_bind (km_ldI 0 r15 (i16 + (1 : Int32))) fun i17 =>
km_bind (km_gR [(3, 0)] x0) fun r18 =>
km_bind (pm_X3_beadAt x1 x4) fun i19 =>
km_bind (km_ldI 0 r18 (i19 + (1 : Int32))) fun i20 =>
if i20 ≤ i17 then
(pb_X3_sells_67 (pb_X3_sells_20 n) x0 x1 x2 x3 x5 x4)
else
(pb_X3_sells_67 (pb_X3_sells_20 n) x0 x1 x2 x3 x5 x5)))
    refine kw_iload (pc := 20) B dX3_sells_20 5 rfl ?_
    refine kw_aload_n (pc := 22) B dX3_sells_22 rfl 0 rfl ?_
    refine kw_iload_n (pc := 23) B dX3_sells_23 rfl 1 rfl ?_
    refine kw_iconst (pc := 24) B dX3_sells_24 (v := (3 : Int32)) rfl ?_
    refine kw_callV (pc := 25) B dX3_sells_25 (ci := 3) rfl (ct_X3_ofString x0 x1 (3 : Int32)) q2543 q2545 qs42 q81 q2546 ⟨by decide, by decide, rfl⟩ (As := [kI x1, kI (3 : Int32)]) rfl (st := [kI x5]) rfl (Nat.le_of_ble_eq_true rfl) (by decide) (by decide) kw_qI (fun i1 => ?_)
    refine kw_icmp_ge (pc := 28) (tgt := 75) B dX3_sells_28 rfl ?_ ?_
    · refine kw_aload_n (pc := 75) B dX3_sells_75 rfl 0 rfl ?_
      refine kw_gR (pc := 76) B dX3_sells_76 fl_X3_9 (fun r2 => ?_)
      refine kw_iload_n (pc := 79) B dX3_sells_79 rfl 3 rfl ?_
      refine kw_iconst (pc := 80) B dX3_sells_80 (v := (0 : Int32)) rfl ?_
      refine kw_iadd (pc := 81) B dX3_sells_81 ?_
      refine kw_aload_n (pc := 82) B dX3_sells_82 rfl 0 rfl ?_
      refine kw_gR (pc := 83) B dX3_sells_83 fl_X3_9 (fun r3 => ?_)
      refine kw_iconst (pc := 86) B dX3_sells_86 (v := (0 : Int32)) rfl ?_
      refine kw_iald (pc := 87) B dX3_sells_87 (fun i4 => ?_)
      refine kw_bipush (pc := 88) B dX3_sells_88 (v := (10 : Int32)) rfl ?_
      refine kw_aload_n (pc := 90) B dX3_sells_90 rfl 0 rfl ?_
      refine kw_iload_n (pc := 91) B dX3_sells_91 rfl 1 rfl ?_
      refine kw_callV (pc := 92) B dX3_sells_92 (ci := 3) rfl (ct_X3_fineness x0 x1) q2635 q2637 qs57 q81 q2638 ⟨by decide, by decide, rfl⟩ (As := [kI x1]) rfl (st := [kI (10 : Int32), kI i4, kI (x3 + (0 : Int32)), kA r2]) rfl (Nat.le_of_ble_eq_true rfl) (by decide) (by decide) kw_qI (fun i5 => ?_)
      refine kw_imul (pc := 95) B dX3_sells_95 ?_
      refine kw_iadd (pc := 96) B dX3_sells_96 ?_
      refine kw_iast (pc := 97) B dX3_sells_97 ?_
      refine kw_aload_n (pc := 98) B dX3_sells_98 rfl 0 rfl ?_
      refine kw_gR (pc := 99) B dX3_sells_99 fl_X3_9 (fun r7 => ?_)
      refine kw_iload_n (pc := 102) B dX3_sells_102 rfl 3 rfl ?_
      refine kw_iconst (pc := 103) B dX3_sells_103 (v := (1 : Int32)) rfl ?_
      refine kw_iadd (pc := 104) B dX3_sells_104 ?_
      refine kw_aload_n (pc := 105) B dX3_sells_105 rfl 0 rfl ?_
      refine kw_iload_n (pc := 106) B dX3_sells_106 rfl 1 rfl ?_
      refine kw_iconst (pc := 107) B dX3_sells_107 (v := (3 : Int32)) rfl ?_
      refine kw_callV (pc := 108) B dX3_sells_108 (ci := 3) rfl (ct_X3_ofString x0 x1 (3 : Int32)) q2543 q2545 qs42 q81 q2546 ⟨by decide, by decide, rfl⟩ (As := [kI x1, kI (3 : Int32)]) rfl (st := [kI (x3 + (1 : Int32)), kA r7]) rfl (Nat.le_of_ble_eq_true rfl) (by decide) (by decide) kw_qI (fun i8 => ?_)
      refine kw_iast (pc := 111) B dX3_sells_111 ?_
      refine kw_aload_n (pc := 112) B dX3_sells_112 rfl 0 rfl ?_
      refine kw_gR (pc := 113) B dX3_sells_113 fl_X3_9 (fun r10 => ?_)
      refine kw_iload_n (pc := 116) B dX3_sells_116 rfl 3 rfl ?_
      refine kw_iconst (pc := 117) B dX3_sells_117 (v := (2 : Int32)) rfl ?_
      refine kw_iadd (pc := 118) B dX3_sells_118 ?_
      refine kw_aload_n (pc := 119) B dX3_sells_119 rfl 0 rfl ?_
      refine kw_iload_n (pc := 120) B dX3_sells_120 rfl 1 rfl ?_
      refine kw_callV (pc := 121) B dX3_sells_121 (ci := 3) rfl (ct_X3_sumOn x0 x1) q2639 q2641 qs58 q81 q2642 ⟨by decide, by decide, rfl⟩ (As := [kI x1]) rfl (st := [kI (x3 + (2 : Int32)), kA r10]) rfl (Nat.le_of_ble_eq_true rfl) (by decide) (by decide) kw_qI (fun i11 => ?_)
      refine kw_iast (pc := 124) B dX3_sells_124 ?_
      refine kw_aload_n (pc := 125) B dX3_sells_125 rfl 0 rfl ?_
      refine kw_gR (pc := 126) B dX3_sells_126 fl_X3_9 (fun r13 => ?_)
      refine kw_iload_n (pc := 129) B dX3_sells_129 rfl 3 rfl ?_
      refine kw_iconst (pc := 130) B dX3_sells_130 (v := (3 : Int32)) rfl ?_
      refine kw_iadd (pc := 131) B dX3_sells_131 ?_
      refine kw_aload_n (pc := 132) B dX3_sells_132 rfl 0 rfl ?_
      refine kw_iload_n (pc := 133) B dX3_sells_133 rfl 1 rfl ?_
      refine kw_iload (pc := 134) B dX3_sells_134 4 rfl ?_
      refine kw_callV (pc := 136) B dX3_sells_136 (ci := 3) rfl (ct_X3_isLargeAt x0 x1 x4) q2555 q2557 qs45 q81 q2558 ⟨by decide, by decide, rfl⟩ (As := [kI x1, kI x4]) rfl (st := [kI (x3 + (3 : Int32)), kA r13]) rfl (Nat.le_of_ble_eq_true rfl) (by decide) (by decide) kw_qI (fun i14 => ?_)
      refine kw_if_eq (pc := 139) (tgt := 146) B dX3_sells_139 rfl ?_ ?_
      · refine kw_iconst (pc := 146) B dX3_sells_146 (v := (0 : Int32)) rfl ?_
        exact kw_pick [0, 1, 2, 3, 4] rfl (wb_X3_sells_147 B x0 x1 x2 x3 x4 (0 : Int32) (x3 + (3 : Int32)) r13)
      · refine kw_iconst (pc := 142) B dX3_sells_142 (v := (1 : Int32)) rfl ?_
        refine kw_goto (pc := 143) (tgt := 147) B dX3_sells_143 rfl ?_
        exact kw_pick [0, 1, 2, 3, 4] rfl (wb_X3_sells_147 B x0 x1 x2 x3 x4 (1 : Int32) (x3 + (3 : Int32)) r13)
    · refine kw_aload_n (pc := 31) B dX3_sells_31 rfl 0 rfl ?_
      refine kw_gR (pc := 32) B dX3_sells_32 fl_X3_9 (fun r15 => ?_)
      refine kw_iload_n (pc := 35) B dX3_sells_35 rfl 1 rfl ?_
      refine kw_iload (pc := 36) B dX3_sells_36 5 rfl ?_
      refine kw_callS (pc := 38) B dX3_sells_38 (ct_X3_beadAt x1 x5) q2567 q2568 q81 q2569 ⟨by decide, by decide, rfl⟩ (As := [kI x1, kI x5]) rfl (st := [kA r15]) rfl (Nat.le_of_ble_eq_true rfl) (by decide) (by decide) kw_qI (fun i16 => ?_)
      refine kw_iconst (pc := 41) B dX3_sells_41 (v := (1 : Int32)) rfl ?_
      refine kw_iadd (pc := 42) B dX3_sells_42 ?_
      refine kw_iald (pc := 43) B dX3_sells_43 (fun i17 => ?_)
      refine kw_aload_n (pc := 44) B dX3_sells_44 rfl 0 rfl ?_
      refine kw_gR (pc := 45) B dX3_sells_45 fl_X3_9 (fun r18 => ?_)
      refine kw_iload_n (pc := 48) B dX3_sells_48 rfl 1 rfl ?_
      refine kw_iload (pc := 49) B dX3_sells_49 4 rfl ?_
      refine kw_callS (pc := 51) B dX3_sells_51 (ct_X3_beadAt x1 x4) q2567 q2568 q81 q2569 ⟨by decide, by decide, rfl⟩ (As := [kI x1, kI x4]) rfl (st := [kA r18, kI i17]) rfl (Nat.le_of_ble_eq_true rfl) (by decide) (by decide) kw_qI (fun i19 => ?_)
      refine kw_iconst (pc := 54) B dX3_sells_54 (v := (1 : Int32)) rfl ?_
      refine kw_iadd (pc := 55) B dX3_sells_55 ?_
      refine kw_iald (pc := 56) B dX3_sells_56 (fun i20 => ?_)
      refine kw_icmp_ge (pc := 57) (tgt := 65) B dX3_sells_57 rfl ?_ ?_
      · refine kw_iload (pc := 65) B dX3_sells_65 4 rfl ?_
        exact kw_pick [0, 1, 2, 3, 5] rfl (wb_X3_sells_67 B ih x0 x1 x2 x3 x5 x4)
      · refine kw_iload (pc := 60) B dX3_sells_60 5 rfl ?_
        refine kw_goto (pc := 62) (tgt := 67) B dX3_sells_62 rfl ?_
        exact kw_pick [0, 1, 2, 3, 5] rfl (wb_X3_sells_67 B ih x0 x1 x2 x3 x5 x5)
theorem wm_X3_sells {E : kw_E} (B : kw_ok E cX3_sells RX3 "sells" 6 none 5 88 []) (a0 : Option Nat) (a1 : Int32) (a2 : Int32) : kw_W E kw_eV 0 [(0, kA a0), (1, kI a1), (2, kI a2)] [] (pm_X3_sells a0 a1 a2) := by
  unfold pm_X3_sells
  refine kw_sipush (pc := 0) B dX3_sells_0 (v := (1148 : Int32)) rfl ?_
  refine kw_iconst (pc := 3) B dX3_sells_3 (v := (5 : Int32)) rfl ?_
  refine kw_aload_n (pc := 4) B dX3_sells_4 rfl 0 rfl ?_
  refine kw_gR (pc := 5) B dX3_sells_5 fl_X3_9 (fun r1 => ?_)
  refine kw_bipush (pc := 8) B dX3_sells_8 (v := (14 : Int32)) rfl ?_
  refine kw_iald (pc := 10) B dX3_sells_10 (fun i2 => ?_)
  refine kw_imul (pc := 11) B dX3_sells_11 ?_
  refine kw_iadd (pc := 12) B dX3_sells_12 ?_
  refine kw_istore_n (pc := 13) B dX3_sells_13 rfl (by decide) (L2 := [(3, kI ((1148 : Int32) + ((5 : Int32) * i2))), (0, kA a0), (1, kI a1), (2, kI a2)]) rfl ?_
  refine kw_iconst (pc := 14) B dX3_sells_14 (v := (0 : Int32)) rfl ?_
  refine kw_istore (pc := 15) B dX3_sells_15 (by decide) (L2 := [(4, kI (0 : Int32)), (3, kI ((1148 : Int32) + ((5 : Int32) * i2))), (0, kA a0), (1, kI a1), (2, kI a2)]) rfl ?_
  refine kw_iconst (pc := 17) B dX3_sells_17 (v := (1 : Int32)) rfl ?_
  refine kw_istore (pc := 18) B dX3_sells_18 (by decide) (L2 := [(5, kI (1 : Int32)), (4, kI (0 : Int32)), (3, kI ((1148 : Int32) + ((5 : Int32) * i2))), (0, kA a0), (1, kI a1), (2, kI a2)]) rfl ?_
  exact kw_pick [3, 4, 5, 2, 1, 0] rfl (wb_X3_sells_20 B km_fuel a0 a1 a2 ((1148 : Int32) + ((5 : Int32) * i2)) (0 : Int32) (1 : Int32))
theorem ct_X3_sells (a0 : Option Nat) (a1 : Int32) (a2 : Int32) (l : Launch) : kw_Met l yX3_sells (ws_ yX3_sells cX3_sells 6 none) 5 88 [kA a0, kI a1, kI a2] kw_eV (pm_X3_sells a0 a1 a2) := kw_met (plainFor_of_name rfl) (Nat.le_of_ble_eq_true rfl) (fun E B => wm_X3_sells B a0 a1 a2) l

/-! RosaryCarversModel pilgrimsCome ()I -/

theorem wb_X3_pilgrimsCome_70 {E : kw_E} (B : kw_ok E cX3_pilgrimsCome RX3 "pilgrimsCome" 4 (some .int) 6 113 []) {k4 : Option Nat → Int32 → Int32 → km_M Int32} (h4 : ∀ (y0 : Option Nat) (y1 : Int32) (y2 : Int32), kw_W E kw_eI 4 [(0, kA y0), (1, kI y1), (2, kI y2)] [] (k4 y0 y1 y2)) (x0 : Option Nat) (x1 : Int32) (x2 : Int32) : kw_W E kw_eI 70 [(0, kA x0), (1, kI x1), (2, kI x2)] [] (pb_X3_pilgrimsCome_70 k4 x0 x1 x2) := by
  unfold pb_X3_pilgrimsCome_70
  refine kw_aload_n (pc := 70) B dX3_pilgrimsCome_70 rfl 0 rfl ?_
  refine kw_bipush (pc := 71) B dX3_pilgrimsCome_71 (v := (13 : Int32)) rfl ?_
  refine kw_sipush (pc := 73) B dX3_pilgrimsCome_73 (v := (1124 : Int32)) rfl ?_
  refine kw_iconst (pc := 76) B dX3_pilgrimsCome_76 (v := (4 : Int32)) rfl ?_
  refine kw_iload_n (pc := 77) B dX3_pilgrimsCome_77 rfl 2 rfl ?_
  refine kw_callV (pc := 78) B dX3_pilgrimsCome_78 (ci := 3) rfl (ct_X3_goes x0 (13 : Int32) (1124 : Int32) (4 : Int32) x2) q2570 q2572 qs48 q81 q2573 ⟨by decide, by decide, rfl⟩ (As := [kI (13 : Int32), kI (1124 : Int32), kI (4 : Int32), kI x2]) rfl (st := []) rfl (Nat.le_of_ble_eq_true rfl) (by decide) (by decide) kw_qV (fun _ => ?_)
  refine kw_goto (pc := 81) (tgt := 4) B dX3_pilgrimsCome_81 rfl ?_
  exact kw_pick [0, 1, 2] rfl (h4 x0 x1 x2)
theorem wb_X3_pilgrimsCome_4 {E : kw_E} (B : kw_ok E cX3_pilgrimsCome RX3 "pilgrimsCome" 4 (some .int) 6 113 [])  : ∀ (n : Nat) (x0 : Option Nat) (x1 : Int32) (x2 : Int32), kw_W E kw_eI 4 [(0, kA x0), (1, kI x1), (2, kI x2)] [] (pb_X3_pilgrimsCome_4  n x0 x1 x2) := by
  intro n
  induction n with
  | zero =>
    intro x0 x1 x2
    exact kw_fail_ok
  | succ n ih =>
    intro x0 x1 x2
    show kw_W E kw_eI 4 [(0, kA x0), (1, kI x1), (2, kI x2)] [] (
km_bind (km_gR [(3, 0)] x0) fun r1 =>
km_bind (km_ldI 0 r1 (13 : Int32)) fun i2 =>
if i2 ≤ x2 then
(km_pure x1)
else
(km_bind (km_gR [(3, 0)] x0) fun r3 =>
km_bind (pm_X3_pilgrimAt x2 (0 : Int32)) fun i4 =>
km_bind (km_ldI 0 r3 i4) fun i5 =>
km_bind (km_gR [(3, 0)] x0) fun r6 =>
km_bind (km_ldI 0 r6 (0 : Int32)) fun i7 =>
if i5 = i7 then
(km_bind (km_is 3 x0) fun _ => km_bind (pm_X3_wouldBuy x0 x2) fun i8 =>
if i8 = (-6 : Int32) then
(pb_X3_pilgrimsCome_70 (pb_X3_pilgrimsCome_4 n) x0 x1 x2)
else
(km_bind (km_gR [(3, 0)] x0) fun r9 =>
km_bind (pm_X3_pilgrimAt x2 (3 : Int32)) fun i10 =>
km_bind (km_ldI 0 r9 i10) fun i11 =>
km_bind (km_is 3 x0) fun _ => km_bind (pm_X3_sells x0 i8 i11) fun _ =>
pb_X3_pilgrimsCome_70 (pb_X3_pilgrimsCome_4 n) x0 (x1 + (1 : Int32)) x2))
else
(pb_X3_pilgrimsCome_4 n x0 x1 (x2 + (1 : Int32)))))
    refine kw_iload_n (pc := 4) B dX3_pilgrimsCome_4 rfl 2 rfl ?_
    refine kw_aload_n (pc := 5) B dX3_pilgrimsCome_5 rfl 0 rfl ?_
    refine kw_gR (pc := 6) B dX3_pilgrimsCome_6 fl_X3_9 (fun r1 => ?_)
    refine kw_bipush (pc := 9) B dX3_pilgrimsCome_9 (v := (13 : Int32)) rfl ?_
    refine kw_iald (pc := 11) B dX3_pilgrimsCome_11 (fun i2 => ?_)
    refine kw_icmp_ge (pc := 12) (tgt := 84) B dX3_pilgrimsCome_12 rfl ?_ ?_
    · refine kw_iload_n (pc := 84) B dX3_pilgrimsCome_84 rfl 1 rfl ?_
      exact kw_iret B dX3_pilgrimsCome_85 rfl
    · refine kw_aload_n (pc := 15) B dX3_pilgrimsCome_15 rfl 0 rfl ?_
      refine kw_gR (pc := 16) B dX3_pilgrimsCome_16 fl_X3_9 (fun r3 => ?_)
      refine kw_iload_n (pc := 19) B dX3_pilgrimsCome_19 rfl 2 rfl ?_
      refine kw_iconst (pc := 20) B dX3_pilgrimsCome_20 (v := (0 : Int32)) rfl ?_
      refine kw_callS (pc := 21) B dX3_pilgrimsCome_21 (ct_X3_pilgrimAt x2 (0 : Int32)) q2594 q2595 q81 q2596 ⟨by decide, by decide, rfl⟩ (As := [kI x2, kI (0 : Int32)]) rfl (st := [kA r3]) rfl (Nat.le_of_ble_eq_true rfl) (by decide) (by decide) kw_qI (fun i4 => ?_)
      refine kw_iald (pc := 24) B dX3_pilgrimsCome_24 (fun i5 => ?_)
      refine kw_aload_n (pc := 25) B dX3_pilgrimsCome_25 rfl 0 rfl ?_
      refine kw_gR (pc := 26) B dX3_pilgrimsCome_26 fl_X3_9 (fun r6 => ?_)
      refine kw_iconst (pc := 29) B dX3_pilgrimsCome_29 (v := (0 : Int32)) rfl ?_
      refine kw_iald (pc := 30) B dX3_pilgrimsCome_30 (fun i7 => ?_)
      refine kw_icmp_eq (pc := 31) (tgt := 40) B dX3_pilgrimsCome_31 rfl ?_ ?_
      · refine kw_aload_n (pc := 40) B dX3_pilgrimsCome_40 rfl 0 rfl ?_
        refine kw_iload_n (pc := 41) B dX3_pilgrimsCome_41 rfl 2 rfl ?_
        refine kw_callV (pc := 42) B dX3_pilgrimsCome_42 (ci := 3) rfl (ct_X3_wouldBuy x0 x2) q2631 q2633 qs56 q81 q2634 ⟨by decide, by decide, rfl⟩ (As := [kI x2]) rfl (st := []) rfl (Nat.le_of_ble_eq_true rfl) (by decide) (by decide) kw_qI (fun i8 => ?_)
        refine kw_istore_n (pc := 45) B dX3_pilgrimsCome_45 rfl (by decide) (L2 := [(3, kI i8), (0, kA x0), (1, kI x1), (2, kI x2)]) rfl ?_
        refine kw_iload_n (pc := 46) B dX3_pilgrimsCome_46 rfl 0 rfl ?_
        refine kw_bipush (pc := 47) B dX3_pilgrimsCome_47 (v := (-6 : Int32)) rfl ?_
        refine kw_icmp_eq (pc := 49) (tgt := 70) B dX3_pilgrimsCome_49 rfl ?_ ?_
        · exact kw_pick [1, 2, 3] rfl (wb_X3_pilgrimsCome_70 B ih x0 x1 x2)
        · refine kw_aload_n (pc := 52) B dX3_pilgrimsCome_52 rfl 1 rfl ?_
          refine kw_iload_n (pc := 53) B dX3_pilgrimsCome_53 rfl 0 rfl ?_
          refine kw_aload_n (pc := 54) B dX3_pilgrimsCome_54 rfl 1 rfl ?_
          refine kw_gR (pc := 55) B dX3_pilgrimsCome_55 fl_X3_9 (fun r9 => ?_)
          refine kw_iload_n (pc := 58) B dX3_pilgrimsCome_58 rfl 3 rfl ?_
          refine kw_iconst (pc := 59) B dX3_pilgrimsCome_59 (v := (3 : Int32)) rfl ?_
          refine kw_callS (pc := 60) B dX3_pilgrimsCome_60 (ct_X3_pilgrimAt x2 (3 : Int32)) q2594 q2595 q81 q2596 ⟨by decide, by decide, rfl⟩ (As := [kI x2, kI (3 : Int32)]) rfl (st := [kA r9, kI i8, kA x0]) rfl (Nat.le_of_ble_eq_true rfl) (by decide) (by decide) kw_qI (fun i10 => ?_)
          refine kw_iald (pc := 63) B dX3_pilgrimsCome_63 (fun i11 => ?_)
          refine kw_callV (pc := 64) B dX3_pilgrimsCome_64 (ci := 3) rfl (ct_X3_sells x0 i8 i11) q2643 q2645 qs59 q81 q2646 ⟨by decide, by decide, rfl⟩ (As := [kI i8, kI i11]) rfl (st := []) rfl (Nat.le_of_ble_eq_true rfl) (by decide) (by decide) kw_qV (fun _ => ?_)
          refine kw_iinc (pc := 67) B dX3_pilgrimsCome_67 2 rfl (w := x1 + (1 : Int32)) rfl (by decide) (L2 := [(1, kI (x1 + (1 : Int32))), (3, kI i8), (0, kA x0), (2, kI x2)]) rfl ?_
          exact kw_pick [2, 0, 3] rfl (wb_X3_pilgrimsCome_70 B ih x0 (x1 + (1 : Int32)) x2)
      · refine kw_iinc (pc := 34) B dX3_pilgrimsCome_34 2 rfl (w := x2 + (1 : Int32)) rfl (by decide) (L2 := [(2, kI (x2 + (1 : Int32))), (0, kA x0), (1, kI x1)]) rfl ?_
        refine kw_goto (pc := 37) (tgt := 4) B dX3_pilgrimsCome_37 rfl ?_
        exact kw_pick [1, 2, 0] rfl (ih x0 x1 (x2 + (1 : Int32)))
theorem wm_X3_pilgrimsCome {E : kw_E} (B : kw_ok E cX3_pilgrimsCome RX3 "pilgrimsCome" 4 (some .int) 6 113 []) (a0 : Option Nat) : kw_W E kw_eI 0 [(0, kA a0)] [] (pm_X3_pilgrimsCome a0) := by
  unfold pm_X3_pilgrimsCome
  refine kw_iconst (pc := 0) B dX3_pilgrimsCome_0 (v := (0 : Int32)) rfl ?_
  refine kw_istore_n (pc := 1) B dX3_pilgrimsCome_1 rfl (by decide) (L2 := [(1, kI (0 : Int32)), (0, kA a0)]) rfl ?_
  refine kw_iconst (pc := 2) B dX3_pilgrimsCome_2 (v := (0 : Int32)) rfl ?_
  refine kw_istore_n (pc := 3) B dX3_pilgrimsCome_3 rfl (by decide) (L2 := [(2, kI (0 : Int32)), (1, kI (0 : Int32)), (0, kA a0)]) rfl ?_
  exact kw_pick [2, 1, 0] rfl (wb_X3_pilgrimsCome_4 B km_fuel a0 (0 : Int32) (0 : Int32))
theorem ct_X3_pilgrimsCome (a0 : Option Nat) (l : Launch) : kw_Met l yX3_pilgrimsCome (ws_ yX3_pilgrimsCome cX3_pilgrimsCome 4 (some .int)) 6 113 [kA a0] kw_eI (pm_X3_pilgrimsCome a0) := kw_met (plainFor_of_name rfl) (Nat.le_of_ble_eq_true rfl) (fun E B => wm_X3_pilgrimsCome B a0) l

/-! RosaryCarversModel dayGoes ()I -/

theorem wb_X3_dayGoes_12 {E : kw_E} (B : kw_ok E cX3_dayGoes RX3 "dayGoes" 2 (some .int) 7 136 [])  : ∀ (n : Nat) (x0 : Option Nat) (x1 : Int32), kw_W E kw_eI 12 [(0, kA x0), (1, kI x1)] [] (pb_X3_dayGoes_12  n x0 x1) := by
  intro n
  induction n with
  | zero =>
    intro x0 x1
    exact kw_fail_ok
  | succ n ih =>
    intro x0 x1
    show kw_W E kw_eI 12 [(0, kA x0), (1, kI x1)] [] (
km_bind (km_gR [(3, 0)] x0) fun r1 =>
km_bind (km_ldI 0 r1 (9 : Int32)) fun i2 =>
if i2 ≤ x1 then
(km_bind (km_is 3 x0) fun _ => km_bind (pm_X3_comeBack x0) fun _ =>
km_bind (km_is 3 x0) fun _ => km_bind (pm_X3_pilgrimsCome x0) fun i3 =>
km_pure i3)
else
(km_bind (km_gR [(3, 0)] x0) fun r4 =>
km_bind (pm_X3_carverAt x1 (1 : Int32)) fun i5 =>
km_bind (km_gR [(3, 0)] x0) fun r6 =>
km_bind (pm_X3_carverAt x1 (1 : Int32)) fun i7 =>
km_bind (km_ldI 0 r6 i7) fun i8 =>
km_bind (pm_X3_greater (0 : Int32) (i8 - (30 : Int32))) fun i9 =>
km_bind (km_stI 0 r4 i5 i9) fun _ =>
pb_X3_dayGoes_12 n x0 (x1 + (1 : Int32))))
    refine kw_iload_n (pc := 12) B dX3_dayGoes_12 rfl 1 rfl ?_
    refine kw_aload_n (pc := 13) B dX3_dayGoes_13 rfl 0 rfl ?_
    refine kw_gR (pc := 14) B dX3_dayGoes_14 fl_X3_9 (fun r1 => ?_)
    refine kw_bipush (pc := 17) B dX3_dayGoes_17 (v := (9 : Int32)) rfl ?_
    refine kw_iald (pc := 19) B dX3_dayGoes_19 (fun i2 => ?_)
    refine kw_icmp_ge (pc := 20) (tgt := 56) B dX3_dayGoes_20 rfl ?_ ?_
    · refine kw_aload_n (pc := 56) B dX3_dayGoes_56 rfl 0 rfl ?_
      refine kw_callV (pc := 57) B dX3_dayGoes_57 (ci := 3) rfl (ct_X3_comeBack x0) q2623 q2625 qs54 q81 q2626 ⟨by decide, by decide, rfl⟩ (As := []) rfl (st := []) rfl (Nat.le_of_ble_eq_true rfl) (by decide) (by decide) kw_qV (fun _ => ?_)
      refine kw_aload_n (pc := 60) B dX3_dayGoes_60 rfl 0 rfl ?_
      refine kw_callV (pc := 61) B dX3_dayGoes_61 (ci := 3) rfl (ct_X3_pilgrimsCome x0) q2627 q2629 qs55 q81 q2630 ⟨by decide, by decide, rfl⟩ (As := []) rfl (st := []) rfl (Nat.le_of_ble_eq_true rfl) (by decide) (by decide) kw_qI (fun i3 => ?_)
      exact kw_iret B dX3_dayGoes_64 rfl
    · refine kw_aload_n (pc := 23) B dX3_dayGoes_23 rfl 0 rfl ?_
      refine kw_gR (pc := 24) B dX3_dayGoes_24 fl_X3_9 (fun r4 => ?_)
      refine kw_iload_n (pc := 27) B dX3_dayGoes_27 rfl 1 rfl ?_
      refine kw_iconst (pc := 28) B dX3_dayGoes_28 (v := (1 : Int32)) rfl ?_
      refine kw_callS (pc := 29) B dX3_dayGoes_29 (ct_X3_carverAt x1 (1 : Int32)) q2451 q2452 q81 q2453 ⟨by decide, by decide, rfl⟩ (As := [kI x1, kI (1 : Int32)]) rfl (st := [kA r4]) rfl (Nat.le_of_ble_eq_true rfl) (by decide) (by decide) kw_qI (fun i5 => ?_)
      refine kw_iconst (pc := 32) B dX3_dayGoes_32 (v := (0 : Int32)) rfl ?_
      refine kw_aload_n (pc := 33) B dX3_dayGoes_33 rfl 0 rfl ?_
      refine kw_gR (pc := 34) B dX3_dayGoes_34 fl_X3_9 (fun r6 => ?_)
      refine kw_iload_n (pc := 37) B dX3_dayGoes_37 rfl 1 rfl ?_
      refine kw_iconst (pc := 38) B dX3_dayGoes_38 (v := (1 : Int32)) rfl ?_
      refine kw_callS (pc := 39) B dX3_dayGoes_39 (ct_X3_carverAt x1 (1 : Int32)) q2451 q2452 q81 q2453 ⟨by decide, by decide, rfl⟩ (As := [kI x1, kI (1 : Int32)]) rfl (st := [kA r6, kI (0 : Int32), kI i5, kA r4]) rfl (Nat.le_of_ble_eq_true rfl) (by decide) (by decide) kw_qI (fun i7 => ?_)
      refine kw_iald (pc := 42) B dX3_dayGoes_42 (fun i8 => ?_)
      refine kw_bipush (pc := 43) B dX3_dayGoes_43 (v := (30 : Int32)) rfl ?_
      refine kw_isub (pc := 45) B dX3_dayGoes_45 ?_
      refine kw_callS (pc := 46) B dX3_dayGoes_46 (ct_X3_greater (0 : Int32) (i8 - (30 : Int32))) q2620 q2621 q81 q2622 ⟨by decide, by decide, rfl⟩ (As := [kI (0 : Int32), kI (i8 - (30 : Int32))]) rfl (st := [kI i5, kA r4]) rfl (Nat.le_of_ble_eq_true rfl) (by decide) (by decide) kw_qI (fun i9 => ?_)
      refine kw_iast (pc := 49) B dX3_dayGoes_49 ?_
      refine kw_iinc (pc := 50) B dX3_dayGoes_50 1 rfl (w := x1 + (1 : Int32)) rfl (by decide) (L2 := [(1, kI (x1 + (1 : Int32))), (0, kA x0)]) rfl ?_
      refine kw_goto (pc := 53) (tgt := 12) B dX3_dayGoes_53 rfl ?_
      exact kw_pick [1, 0] rfl (ih x0 (x1 + (1 : Int32)))
theorem wm_X3_dayGoes {E : kw_E} (B : kw_ok E cX3_dayGoes RX3 "dayGoes" 2 (some .int) 7 136 []) (a0 : Option Nat) : kw_W E kw_eI 0 [(0, kA a0)] [] (pm_X3_dayGoes a0) := by
  unfold pm_X3_dayGoes
  refine kw_aload_n (pc := 0) B dX3_dayGoes_0 rfl 0 rfl ?_
  refine kw_gR (pc := 1) B dX3_dayGoes_1 fl_X3_9 (fun r1 => ?_)
  refine kw_iconst (pc := 4) B dX3_dayGoes_4 (v := (0 : Int32)) rfl ?_
  refine kw_dup2 (pc := 5) B dX3_dayGoes_5 rfl rfl ?_
  refine kw_iald (pc := 6) B dX3_dayGoes_6 (fun i2 => ?_)
  refine kw_iconst (pc := 7) B dX3_dayGoes_7 (v := (1 : Int32)) rfl ?_
  refine kw_iadd (pc := 8) B dX3_dayGoes_8 ?_
  refine kw_iast (pc := 9) B dX3_dayGoes_9 ?_
  refine kw_iconst (pc := 10) B dX3_dayGoes_10 (v := (0 : Int32)) rfl ?_
  refine kw_istore_n (pc := 11) B dX3_dayGoes_11 rfl (by decide) (L2 := [(1, kI (0 : Int32)), (0, kA a0)]) rfl ?_
  exact kw_pick [1, 0] rfl (wb_X3_dayGoes_12 B km_fuel a0 (0 : Int32))
theorem ct_X3_dayGoes (a0 : Option Nat) (l : Launch) : kw_Met l yX3_dayGoes (ws_ yX3_dayGoes cX3_dayGoes 2 (some .int)) 7 136 [kA a0] kw_eI (pm_X3_dayGoes a0) := kw_met (plainFor_of_name rfl) (Nat.le_of_ble_eq_true rfl) (fun E B => wm_X3_dayGoes B a0) l
