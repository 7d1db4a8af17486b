set_option maxRecDepth 100000
/-! RosaryCarvers soldOf (ZII)I -/
theorem fl_X0_268 : kw_flN RX0 268 "RosaryCarvers$Shop" "RosaryCarvers" [(1, 5)] := (kw_flN_c (C := RX1) (T := TX1) (N := 17) rfl (by decide) in_X1 q224 (Or.inl rfl) kw_flN_nil)
theorem fl_X0_265 : kw_flN RX0 265 "RosaryCarvers$Shop" "RosaryCarvers" [(1, 6)] := (kw_flN_c (C := RX1) (T := TX1) (N := 17) rfl (by decide) in_X1 q226 (Or.inl rfl) kw_flN_nil)
theorem fl_X0_278 : kw_flN RX0 278 "RosaryCarvers$Sold" "RosaryCarvers" [(12, 2)] := (kw_flN_c (C := RX14) (T := TX14) (N := 3) rfl (by decide) in_X14 q1243 (Or.inl rfl) kw_flN_nil)
theorem fl_X0_282 : kw_flN RX0 282 "RosaryCarvers$Bead" "RosaryCarvers" [(14, 1)] := (kw_flN_c (C := RX16) (T := TX16) (N := 3) rfl (by decide) in_X16 q1413 (Or.inl rfl) kw_flN_nil)
theorem wb_X0_soldOf_21 {E : kw_E} (B : kw_ok E cX0_soldOf RX0 "soldOf" 6 (some .int) 11 211 [])  (x0 : Option Nat) (x1 : Int32) (x2 : Int32) (x3 : Int32) (s0 : Option Nat) : kw_W E kw_eI 21 [(0, kA x0), (1, kI x1), (2, kI x2), (3, kI x3)] [kA s0] (pb_X0_soldOf_21  x0 x1 x2 x3 s0) := by
  unfold pb_X0_soldOf_21
  refine kw_astore (pc := 21) B dX0_soldOf_21 (by decide) (L2 := [(4, kA s0), (0, kA x0), (1, kI x1), (2, kI x2), (3, kI x3)]) rfl ?_
  refine kw_iload_n (pc := 23) B dX0_soldOf_23 rfl 3 rfl ?_
  refine kw_iconst (pc := 24) B dX0_soldOf_24 (v := (0 : Int32)) rfl ?_
  refine kw_aload (pc := 25) B dX0_soldOf_25 0 rfl ?_
  refine kw_callV (pc := 27) B dX0_soldOf_27 (ci := 30) rfl (ct_J2_size s0) q1876 q406 q407 q77 q408 ⟨by decide, by decide, rfl⟩ (As := []) rfl (st := [kI (0 : Int32), kI x2]) rfl (Nat.le_of_ble_eq_true rfl) (by decide) (by decide) kw_qI (fun i1 => ?_)
  refine kw_iconst (pc := 30) B dX0_soldOf_30 (v := (1 : Int32)) rfl ?_
  refine kw_isub (pc := 31) B dX0_soldOf_31 ?_
  refine kw_callS (pc := 32) B dX0_soldOf_32 (ct_X0_in x2 (0 : Int32) (i1 - (1 : Int32))) q339 q340 q73 q341 ⟨by decide, by decide, rfl⟩ (As := [kI x2, kI (0 : Int32), kI (i1 - (1 : Int32))]) rfl (st := []) rfl (Nat.le_of_ble_eq_true rfl) (by decide) (by decide) kw_qI (fun i2 => ?_)
  refine kw_if_ne (pc := 35) (tgt := 40) B dX0_soldOf_35 rfl ?_ ?_
  · refine kw_aload (pc := 40) B dX0_soldOf_40 0 rfl ?_
    refine kw_iload_n (pc := 42) B dX0_soldOf_42 rfl 3 rfl ?_
    refine kw_callV (pc := 43) B dX0_soldOf_43 (ci := 30) rfl (ct_J2_get s0 x2) q1820 q503 q504 q77 q505 ⟨by decide, by decide, rfl⟩ (As := [kI x2]) rfl (st := []) rfl (Nat.le_of_ble_eq_true rfl) (by decide) (by decide) kw_qA (fun r3 => ?_)
    refine kw_cast_ok (pc := 46) B dX0_soldOf_46 q1883 cs_RosaryCarvers_Sold ?_
    refine kw_astore (pc := 49) B dX0_soldOf_49 (by decide) (L2 := [(5, kA r3), (4, kA s0), (0, kA x0), (1, kI x1), (2, kI x2), (3, kI x3)]) rfl ?_
    refine kw_iload_n (pc := 51) B dX0_soldOf_51 rfl 5 rfl ?_
    refine kw_tsw (pc := 52) (tgt := 139) B dX0_soldOf_52 rfl rfl ⟨⟨84, rfl, ?_⟩, ⟨90, rfl, ?_⟩, ⟨96, rfl, ?_⟩, ⟨118, rfl, ?_⟩, trivial⟩ ?_
    · refine kw_aload (pc := 84) B dX0_soldOf_84 0 rfl ?_
      refine kw_callU (pc := 86) B dX0_soldOf_86 (x0 := ⟨"RosaryCarvers$Sold", "size", "()I"⟩) (owner := "RosaryCarvers$Beads") (ci := 12) rfl (ct_X2_size r3) q1884 q1105 q1107 q1108 q78 q1109 rfl ⟨by decide, by decide, rfl⟩ (As := []) rfl (st := []) rfl (Nat.le_of_ble_eq_true rfl) (by decide) (by decide) kw_qI (fun i4 => ?_)
      exact kw_iret B dX0_soldOf_89 rfl
    · refine kw_aload (pc := 90) B dX0_soldOf_90 0 rfl ?_
      refine kw_callU (pc := 92) B dX0_soldOf_92 (x0 := ⟨"RosaryCarvers$Sold", "fineness", "()I"⟩) (owner := "RosaryCarvers$Beads") (ci := 12) rfl (ct_X2_fineness r3) q1885 q1132 q1134 q1135 q78 q1136 rfl ⟨by decide, by decide, rfl⟩ (As := []) rfl (st := []) rfl (Nat.le_of_ble_eq_true rfl) (by decide) (by decide) kw_qI (fun i5 => ?_)
      exact kw_iret B dX0_soldOf_95 rfl
    · refine kw_iload_n (pc := 96) B dX0_soldOf_96 rfl 3 rfl ?_
      refine kw_if_eq (pc := 97) (tgt := 104) B dX0_soldOf_97 rfl ?_ ?_
      · refine kw_aload (pc := 104) B dX0_soldOf_104 0 rfl ?_
        refine kw_callV (pc := 106) B dX0_soldOf_106 (ci := 12) rfl (ct_X14_last r3) q1886 q1128 q1129 q108 q1130 ⟨by decide, by decide, rfl⟩ (As := []) rfl (st := []) rfl (Nat.le_of_ble_eq_true rfl) (by decide) (by decide) kw_qI (fun i6 => ?_)
        refine kw_aload_n (pc := 109) B dX0_soldOf_109 rfl 2 rfl ?_
        refine kw_gR (pc := 110) B dX0_soldOf_110 fl_X0_17 (fun r7 => ?_)
        refine kw_gIN (pc := 113) B dX0_soldOf_113 fl_X0_255 (fun i8 => ?_)
        refine kw_isub (pc := 116) B dX0_soldOf_116 ?_
        exact kw_iret B dX0_soldOf_117 rfl
      · refine kw_iconst (pc := 100) B dX0_soldOf_100 (v := (0 : Int32)) rfl ?_
        refine kw_goto (pc := 101) (tgt := 117) B dX0_soldOf_101 rfl ?_
        exact kw_iret B dX0_soldOf_117 rfl
    · refine kw_iload_n (pc := 118) B dX0_soldOf_118 rfl 3 rfl ?_
      refine kw_if_eq (pc := 119) (tgt := 136) B dX0_soldOf_119 rfl ?_ ?_
      · refine kw_bipush (pc := 136) B dX0_soldOf_136 (v := (-6 : Int32)) rfl ?_
        exact kw_iret B dX0_soldOf_138 rfl
      · refine kw_aload (pc := 122) B dX0_soldOf_122 0 rfl ?_
        refine kw_gRN (pc := 124) B dX0_soldOf_124 fl_X0_278 (fun r9 => ?_)
        refine kw_gIN (pc := 127) B dX0_soldOf_127 fl_X0_282 (fun i10 => ?_)
        refine kw_callS (pc := 130) B dX0_soldOf_130 (ct_X0_bit i10) q1856 q1007 q73 q1008 ⟨by decide, by decide, rfl⟩ (As := [kI i10]) rfl (st := []) rfl (Nat.le_of_ble_eq_true rfl) (by decide) (by decide) kw_qI (fun i11 => ?_)
        refine kw_goto (pc := 133) (tgt := 138) B dX0_soldOf_133 rfl ?_
        exact kw_iret B dX0_soldOf_138 rfl
    · refine kw_bipush (pc := 139) B dX0_soldOf_139 (v := (-2 : Int32)) rfl ?_
      exact kw_iret B dX0_soldOf_141 rfl
  · refine kw_iconst (pc := 38) B dX0_soldOf_38 (v := (-1 : Int32)) rfl ?_
    exact kw_iret B dX0_soldOf_39 rfl
theorem wm_X0_soldOf {E : kw_E} (B : kw_ok E cX0_soldOf RX0 "soldOf" 6 (some .int) 11 211 []) (a0 : Option Nat) (a1 : Int32) (a2 : Int32) (a3 : Int32) : kw_W E kw_eI 0 [(0, kA a0), (1, kI a1), (2, kI a2), (3, kI a3)] [] (pm_X0_soldOf a0 a1 a2 a3) := by
  unfold pm_X0_soldOf
  refine kw_iload_n (pc := 0) B dX0_soldOf_0 rfl 1 rfl ?_
  refine kw_if_eq (pc := 1) (tgt := 14) B dX0_soldOf_1 rfl ?_ ?_
  · refine kw_aload_n (pc := 14) B dX0_soldOf_14 rfl 0 rfl ?_
    refine kw_gR (pc := 15) B dX0_soldOf_15 fl_X0_17 (fun r1 => ?_)
    refine kw_gRN (pc := 18) B dX0_soldOf_18 fl_X0_268 (fun r2 => ?_)
    exact kw_pick [0, 1, 2, 3] rfl (wb_X0_soldOf_21 B a0 a1 a2 a3 r2)
  · refine kw_aload_n (pc := 4) B dX0_soldOf_4 rfl 0 rfl ?_
    refine kw_gR (pc := 5) B dX0_soldOf_5 fl_X0_17 (fun r3 => ?_)
    refine kw_gRN (pc := 8) B dX0_soldOf_8 fl_X0_265 (fun r4 => ?_)
    refine kw_goto (pc := 11) (tgt := 21) B dX0_soldOf_11 rfl ?_
    exact kw_pick [0, 1, 2, 3] rfl (wb_X0_soldOf_21 B a0 a1 a2 a3 r4)
theorem ct_X0_soldOf (a0 : Option Nat) (a1 : Int32) (a2 : Int32) (a3 : Int32) (l : Launch) : kw_Met l yX0_soldOf (ws_ yX0_soldOf cX0_soldOf 6 (some .int)) 11 211 [kA a0, kI a1, kI a2, kI a3] kw_eI (pm_X0_soldOf a0 a1 a2 a3) := kw_met (plainFor_of_name rfl) (Nat.le_of_ble_eq_true rfl) (fun E B => wm_X0_soldOf B a0 a1 a2 a3) l

/-! RosaryCarversModel soldOf (ZII)I -/

theorem wb_X3_soldOf_41 {E : kw_E} (B : kw_ok E cX3_soldOf RX3 "soldOf" 5 (some .int) 2 22 [])  (x0 : Option Nat) (x1 : Int32) (x2 : Int32) (x3 : Int32) (s0 : Int32) : kw_W E kw_eI 41 [(0, kA x0), (1, kI x1), (2, kI x2), (3, kI x3)] [kI s0] (pb_X3_soldOf_41  x0 x1 x2 x3 s0) := by
  unfold pb_X3_soldOf_41
  refine kw_iconst (pc := 41) B dX3_soldOf_41 (v := (5 : Int32)) rfl ?_
  refine kw_iload_n (pc := 42) B dX3_soldOf_42 rfl 2 rfl ?_
  refine kw_imul (pc := 43) B dX3_soldOf_43 ?_
  refine kw_iadd (pc := 44) B dX3_soldOf_44 ?_
  refine kw_istore (pc := 45) B dX3_soldOf_45 (by decide) (L2 := [(4, kI (s0 + ((5 : Int32) * x2))), (0, kA x0), (1, kI x1), (2, kI x2), (3, kI x3)]) rfl ?_
  refine kw_iload_n (pc := 47) B dX3_soldOf_47 rfl 4 rfl ?_
  refine kw_tsw (pc := 48) (tgt := 154) B dX3_soldOf_48 rfl rfl ⟨⟨80, rfl, ?_⟩, ⟨90, rfl, ?_⟩, ⟨110, rfl, ?_⟩, ⟨135, rfl, ?_⟩, trivial⟩ ?_
  · refine kw_aload_n (pc := 80) B dX3_soldOf_80 rfl 1 rfl ?_
    refine kw_gR (pc := 81) B dX3_soldOf_81 fl_X3_9 (fun r1 => ?_)
    refine kw_iload (pc := 84) B dX3_soldOf_84 0 rfl ?_
    refine kw_iconst (pc := 86) B dX3_soldOf_86 (v := (1 : Int32)) rfl ?_
    refine kw_iadd (pc := 87) B dX3_soldOf_87 ?_
    refine kw_iald (pc := 88) B dX3_soldOf_88 (fun i2 => ?_)
    exact kw_iret B dX3_soldOf_89 rfl
  · refine kw_aload_n (pc := 90) B dX3_soldOf_90 rfl 1 rfl ?_
    refine kw_gR (pc := 91) B dX3_soldOf_91 fl_X3_9 (fun r3 => ?_)
    refine kw_iload (pc := 94) B dX3_soldOf_94 0 rfl ?_
    refine kw_iconst (pc := 96) B dX3_soldOf_96 (v := (2 : Int32)) rfl ?_
    refine kw_iadd (pc := 97) B dX3_soldOf_97 ?_
    refine kw_iald (pc := 98) B dX3_soldOf_98 (fun i4 => ?_)
    refine kw_aload_n (pc := 99) B dX3_soldOf_99 rfl 1 rfl ?_
    refine kw_gR (pc := 100) B dX3_soldOf_100 fl_X3_9 (fun r5 => ?_)
    refine kw_iload (pc := 103) B dX3_soldOf_103 0 rfl ?_
    refine kw_iconst (pc := 105) B dX3_soldOf_105 (v := (1 : Int32)) rfl ?_
    refine kw_iadd (pc := 106) B dX3_soldOf_106 ?_
    refine kw_iald (pc := 107) B dX3_soldOf_107 (fun i6 => ?_)
    refine kw_idiv (pc := 108) B dX3_soldOf_108 (fun i7 => ?_)
    exact kw_iret B dX3_soldOf_109 rfl
  · refine kw_iload_n (pc := 110) B dX3_soldOf_110 rfl 2 rfl ?_
    refine kw_if_eq (pc := 111) (tgt := 118) B dX3_soldOf_111 rfl ?_ ?_
    · refine kw_aload_n (pc := 118) B dX3_soldOf_118 rfl 1 rfl ?_
      refine kw_gR (pc := 119) B dX3_soldOf_119 fl_X3_9 (fun r8 => ?_)
      refine kw_iload (pc := 122) B dX3_soldOf_122 0 rfl ?_
      refine kw_iconst (pc := 124) B dX3_soldOf_124 (v := (0 : Int32)) rfl ?_
      refine kw_iadd (pc := 125) B dX3_soldOf_125 ?_
      refine kw_iald (pc := 126) B dX3_soldOf_126 (fun i9 => ?_)
      refine kw_aload_n (pc := 127) B dX3_soldOf_127 rfl 1 rfl ?_
      refine kw_gR (pc := 128) B dX3_soldOf_128 fl_X3_9 (fun r10 => ?_)
      refine kw_iconst (pc := 131) B dX3_soldOf_131 (v := (0 : Int32)) rfl ?_
      refine kw_iald (pc := 132) B dX3_soldOf_132 (fun i11 => ?_)
      refine kw_isub (pc := 133) B dX3_soldOf_133 ?_
      exact kw_iret B dX3_soldOf_134 rfl
    · refine kw_iconst (pc := 114) B dX3_soldOf_114 (v := (0 : Int32)) rfl ?_
      refine kw_goto (pc := 115) (tgt := 134) B dX3_soldOf_115 rfl ?_
      exact kw_iret B dX3_soldOf_134 rfl
  · refine kw_iload_n (pc := 135) B dX3_soldOf_135 rfl 2 rfl ?_
    refine kw_if_eq (pc := 136) (tgt := 151) B dX3_soldOf_136 rfl ?_ ?_
    · refine kw_bipush (pc := 151) B dX3_soldOf_151 (v := (-6 : Int32)) rfl ?_
      exact kw_iret B dX3_soldOf_153 rfl
    · refine kw_aload_n (pc := 139) B dX3_soldOf_139 rfl 1 rfl ?_
      refine kw_gR (pc := 140) B dX3_soldOf_140 fl_X3_9 (fun r12 => ?_)
      refine kw_iload (pc := 143) B dX3_soldOf_143 0 rfl ?_
      refine kw_iconst (pc := 145) B dX3_soldOf_145 (v := (3 : Int32)) rfl ?_
      refine kw_iadd (pc := 146) B dX3_soldOf_146 ?_
      refine kw_iald (pc := 147) B dX3_soldOf_147 (fun i13 => ?_)
      refine kw_goto (pc := 148) (tgt := 153) B dX3_soldOf_148 rfl ?_
      exact kw_iret B dX3_soldOf_153 rfl
  · refine kw_bipush (pc := 154) B dX3_soldOf_154 (v := (-2 : Int32)) rfl ?_
    exact kw_iret B dX3_soldOf_156 rfl
theorem wb_X3_soldOf_17 {E : kw_E} (B : kw_ok E cX3_soldOf RX3 "soldOf" 5 (some .int) 2 22 [])  (x0 : Option Nat) (x1 : Int32) (x2 : Int32) (x3 : Int32) (s0 : Int32) (s1 : Option Nat) (s2 : Int32) (s3 : Int32) : kw_W E kw_eI 17 [(0, kA x0), (1, kI x1), (2, kI x2), (3, kI x3)] [kI s0, kA s1, kI s2, kI s3] (pb_X3_soldOf_17  x0 x1 x2 x3 s0 s1 s2 s3) := by
  unfold pb_X3_soldOf_17
  refine kw_iald (pc := 17) B dX3_soldOf_17 (fun i1 => ?_)
  refine kw_iconst (pc := 18) B dX3_soldOf_18 (v := (1 : Int32)) rfl ?_
  refine kw_isub (pc := 19) B dX3_soldOf_19 ?_
  refine kw_callS (pc := 20) B dX3_soldOf_20 (ct_X3_isIn s3 s2 (i1 - (1 : Int32))) q2415 q2416 q81 q2417 ⟨by decide, by decide, rfl⟩ (As := [kI s3, kI s2, kI (i1 - (1 : Int32))]) rfl (st := []) rfl (Nat.le_of_ble_eq_true rfl) (by decide) (by decide) kw_qI (fun i2 => ?_)
  refine kw_if_ne (pc := 23) (tgt := 28) B dX3_soldOf_23 rfl ?_ ?_
  · refine kw_iload_n (pc := 28) B dX3_soldOf_28 rfl 1 rfl ?_
    refine kw_if_eq (pc := 29) (tgt := 38) B dX3_soldOf_29 rfl ?_ ?_
    · refine kw_sipush (pc := 38) B dX3_soldOf_38 (v := (1148 : Int32)) rfl ?_
      exact kw_pick [0, 1, 2, 3] rfl (wb_X3_soldOf_41 B x0 x1 x2 x3 (1148 : Int32))
    · refine kw_sipush (pc := 32) B dX3_soldOf_32 (v := (1188 : Int32)) rfl ?_
      refine kw_goto (pc := 35) (tgt := 41) B dX3_soldOf_35 rfl ?_
      exact kw_pick [0, 1, 2, 3] rfl (wb_X3_soldOf_41 B x0 x1 x2 x3 (1188 : Int32))
  · refine kw_iconst (pc := 26) B dX3_soldOf_26 (v := (-1 : Int32)) rfl ?_
    exact kw_iret B dX3_soldOf_27 rfl
theorem wm_X3_soldOf {E : kw_E} (B : kw_ok E cX3_soldOf RX3 "soldOf" 5 (some .int) 2 22 []) (a0 : Option Nat) (a1 : Int32) (a2 : Int32) (a3 : Int32) : kw_W E kw_eI 0 [(0, kA a0), (1, kI a1), (2, kI a2), (3, kI a3)] [] (pm_X3_soldOf a0 a1 a2 a3) := by
  unfold pm_X3_soldOf
  refine kw_iload_n (pc := 0) B dX3_soldOf_0 rfl 2 rfl ?_
  refine kw_iconst (pc := 1) B dX3_soldOf_1 (v := (0 : Int32)) rfl ?_
  refine kw_aload_n (pc := 2) B dX3_soldOf_2 rfl 0 rfl ?_
  refine kw_gR (pc := 3) B dX3_soldOf_3 fl_X3_9 (fun r1 => ?_)
  refine kw_iload_n (pc := 6) B dX3_soldOf_6 rfl 1 rfl ?_
  refine kw_if_eq (pc := 7) (tgt := 15) B dX3_soldOf_7 rfl ?_ ?_
  · refine kw_bipush (pc := 15) B dX3_soldOf_15 (v := (14 : Int32)) rfl ?_
    exact kw_pick [0, 1, 2, 3] rfl (wb_X3_soldOf_17 B a0 a1 a2 a3 (14 : Int32) r1 (0 : Int32) a2)
  · refine kw_bipush (pc := 10) B dX3_soldOf_10 (v := (15 : Int32)) rfl ?_
    refine kw_goto (pc := 12) (tgt := 17) B dX3_soldOf_12 rfl ?_
    exact kw_pick [0, 1, 2, 3] rfl (wb_X3_soldOf_17 B a0 a1 a2 a3 (15 : Int32) r1 (0 : Int32) a2)
theorem ct_X3_soldOf (a0 : Option Nat) (a1 : Int32) (a2 : Int32) (a3 : Int32) (l : Launch) : kw_Met l yX3_soldOf (ws_ yX3_soldOf cX3_soldOf 5 (some .int)) 2 22 [kA a0, kI a1, kI a2, kI a3] kw_eI (pm_X3_soldOf a0 a1 a2 a3) := kw_met (plainFor_of_name rfl) (Nat.le_of_ble_eq_true rfl) (fun E B => wm_X3_soldOf B a0 a1 a2 a3) l

/-! RosaryCarvers could (II)I -/

theorem wm_X0_could {E : kw_E} (B : kw_ok E cX0_could RX0 "could" 3 (some .int) 8 152 []) (a0 : Option Nat) (a1 : Int32) (a2 : Int32) : kw_W E kw_eI 0 [(0, kA a0), (1, kI a1), (2, kI a2)] [] (pm_X0_could a0 a1 a2) := by
  unfold pm_X0_could
  refine kw_iload_n (pc := 0) B dX0_could_0 rfl 1 rfl ?_
  refine kw_iload_n (pc := 1) B dX0_could_1 rfl 2 rfl ?_
  refine kw_callS (pc := 2) B dX0_could_2 (ct_X0_isPattern a1 a2) q1431 q1432 q73 q1433 ⟨by decide, by decide, rfl⟩ (As := [kI a1, kI a2]) rfl (st := []) rfl (Nat.le_of_ble_eq_true rfl) (by decide) (by decide) kw_qI (fun i1 => ?_)
  refine kw_if_ne (pc := 5) (tgt := 11) B dX0_could_5 rfl ?_ ?_
  · refine kw_aload_n (pc := 11) B dX0_could_11 rfl 0 rfl ?_
    refine kw_gR (pc := 12) B dX0_could_12 fl_X0_17 (fun r2 => ?_)
    refine kw_gRN (pc := 15) B dX0_could_15 fl_X0_169 (fun r3 => ?_)
    refine kw_iconst (pc := 18) B dX0_could_18 (v := (1 : Int32)) rfl ?_
    refine kw_disp (pc := 19) (pc' := 22) (st := []) kw_hI (fun i4 => ?_) ?_
    · refine kw_iload_n (pc := 22) B dX0_could_22 rfl 1 rfl ?_
      refine kw_idiv (pc := 23) B dX0_could_23 (fun i5 => ?_)
      refine kw_aload_n (pc := 24) B dX0_could_24 rfl 0 rfl ?_
      refine kw_gR (pc := 25) B dX0_could_25 fl_X0_17 (fun r6 => ?_)
      refine kw_gRN (pc := 28) B dX0_could_28 fl_X0_169 (fun r7 => ?_)
      refine kw_iconst (pc := 31) B dX0_could_31 (v := (0 : Int32)) rfl ?_
      refine kw_disp (pc := 32) (pc' := 35) (st := [kI i5]) kw_hI (fun i8 => ?_) ?_
      · refine kw_iload_n (pc := 35) B dX0_could_35 rfl 1 rfl ?_
        refine kw_iload_n (pc := 36) B dX0_could_36 rfl 2 rfl ?_
        refine kw_imul (pc := 37) B dX0_could_37 ?_
        refine kw_idiv (pc := 38) B dX0_could_38 (fun i9 => ?_)
        refine kw_mmin (pc := 39) B dX0_could_39 q1891 q652 q93 q653 (by decide) (Nat.le_of_ble_eq_true rfl) ?_
        exact kw_iret B dX0_could_42 rfl
      · intro q hq hk
        simp only [List.mem_cons, List.not_mem_nil, or_false] at hq
        rcases hq with rfl | rfl | rfl
        · exact kw_callV (pc := 32) B dX0_could_32 (ci := 2) rfl (ct_X2_many r7 (0 : Int32)) q1835 q1021 q2792 q78 q1022 ⟨by decide, by decide, rfl⟩ (As := [kI (0 : Int32)]) rfl (st := [kI i5]) rfl (Nat.le_of_ble_eq_true rfl) (by decide) (by decide) kw_qI hk
        · exact kw_callV (pc := 32) B dX0_could_32 (ci := 7) rfl (ct_X2_many r7 (0 : Int32)) q1835 q1021 q2793 q78 q1022 ⟨by decide, by decide, rfl⟩ (As := [kI (0 : Int32)]) rfl (st := [kI i5]) rfl (Nat.le_of_ble_eq_true rfl) (by decide) (by decide) kw_qI hk
        · exact kw_callV (pc := 32) B dX0_could_32 (ci := 12) rfl (ct_X2_many r7 (0 : Int32)) q1835 q1021 q2794 q78 q1022 ⟨by decide, by decide, rfl⟩ (As := [kI (0 : Int32)]) rfl (st := [kI i5]) rfl (Nat.le_of_ble_eq_true rfl) (by decide) (by decide) kw_qI hk
    · intro q hq hk
      simp only [List.mem_cons, List.not_mem_nil, or_false] at hq
      rcases hq with rfl | rfl | rfl
      · exact kw_callV (pc := 19) B dX0_could_19 (ci := 2) rfl (ct_X2_many r3 (1 : Int32)) q1835 q1021 q2792 q78 q1022 ⟨by decide, by decide, rfl⟩ (As := [kI (1 : Int32)]) rfl (st := []) rfl (Nat.le_of_ble_eq_true rfl) (by decide) (by decide) kw_qI hk
      · exact kw_callV (pc := 19) B dX0_could_19 (ci := 7) rfl (ct_X2_many r3 (1 : Int32)) q1835 q1021 q2793 q78 q1022 ⟨by decide, by decide, rfl⟩ (As := [kI (1 : Int32)]) rfl (st := []) rfl (Nat.le_of_ble_eq_true rfl) (by decide) (by decide) kw_qI hk
      · exact kw_callV (pc := 19) B dX0_could_19 (ci := 12) rfl (ct_X2_many r3 (1 : Int32)) q1835 q1021 q2794 q78 q1022 ⟨by decide, by decide, rfl⟩ (As := [kI (1 : Int32)]) rfl (st := []) rfl (Nat.le_of_ble_eq_true rfl) (by decide) (by decide) kw_qI hk
  · refine kw_bipush (pc := 8) B dX0_could_8 (v := (-2 : Int32)) rfl ?_
    exact kw_iret B dX0_could_10 rfl
theorem ct_X0_could (a0 : Option Nat) (a1 : Int32) (a2 : Int32) (l : Launch) : kw_Met l yX0_could (ws_ yX0_could cX0_could 3 (some .int)) 8 152 [kA a0, kI a1, kI a2] kw_eI (pm_X0_could a0 a1 a2) := kw_met (plainFor_of_name rfl) (Nat.le_of_ble_eq_true rfl) (fun E B => wm_X0_could B a0 a1 a2) l

/-! RosaryCarversModel could (II)I -/

theorem wm_X3_could {E : kw_E} (B : kw_ok E cX3_could RX3 "could" 3 (some .int) 3 46 []) (a0 : Option Nat) (a1 : Int32) (a2 : Int32) : kw_W E kw_eI 0 [(0, kA a0), (1, kI a1), (2, kI a2)] [] (pm_X3_could a0 a1 a2) := by
  unfold pm_X3_could
  refine kw_iload_n (pc := 0) B dX3_could_0 rfl 1 rfl ?_
  refine kw_iconst (pc := 1) B dX3_could_1 (v := (1 : Int32)) rfl ?_
  refine kw_iconst (pc := 2) B dX3_could_2 (v := (4 : Int32)) rfl ?_
  refine kw_callS (pc := 3) B dX3_could_3 (ct_X3_isIn a1 (1 : Int32) (4 : Int32)) q2415 q2416 q81 q2417 ⟨by decide, by decide, rfl⟩ (As := [kI a1, kI (1 : Int32), kI (4 : Int32)]) rfl (st := []) rfl (Nat.le_of_ble_eq_true rfl) (by decide) (by decide) kw_qI (fun i1 => ?_)
  refine kw_if_eq (pc := 6) (tgt := 19) B dX3_could_6 rfl ?_ ?_
  · refine kw_bipush (pc := 19) B dX3_could_19 (v := (-2 : Int32)) rfl ?_
    exact kw_iret B dX3_could_21 rfl
  · refine kw_iload_n (pc := 9) B dX3_could_9 rfl 2 rfl ?_
    refine kw_iconst (pc := 10) B dX3_could_10 (v := (1 : Int32)) rfl ?_
    refine kw_bipush (pc := 11) B dX3_could_11 (v := (6 : Int32)) rfl ?_
    refine kw_callS (pc := 13) B dX3_could_13 (ct_X3_isIn a2 (1 : Int32) (6 : Int32)) q2415 q2416 q81 q2417 ⟨by decide, by decide, rfl⟩ (As := [kI a2, kI (1 : Int32), kI (6 : Int32)]) rfl (st := []) rfl (Nat.le_of_ble_eq_true rfl) (by decide) (by decide) kw_qI (fun i2 => ?_)
    refine kw_if_ne (pc := 16) (tgt := 22) B dX3_could_16 rfl ?_ ?_
    · refine kw_aload_n (pc := 22) B dX3_could_22 rfl 0 rfl ?_
      refine kw_iconst (pc := 23) B dX3_could_23 (v := (1 : Int32)) rfl ?_
      refine kw_iconst (pc := 24) B dX3_could_24 (v := (0 : Int32)) rfl ?_
      refine kw_callV (pc := 25) B dX3_could_25 (ci := 3) rfl (ct_X3_box a0 (1 : Int32) (0 : Int32)) q2675 q2509 q2510 q81 q2511 ⟨by decide, by decide, rfl⟩ (As := [kI (1 : Int32), kI (0 : Int32)]) rfl (st := []) rfl (Nat.le_of_ble_eq_true rfl) (by decide) (by decide) kw_qI (fun i3 => ?_)
      refine kw_iload_n (pc := 28) B dX3_could_28 rfl 1 rfl ?_
      refine kw_idiv (pc := 29) B dX3_could_29 (fun i4 => ?_)
      refine kw_aload_n (pc := 30) B dX3_could_30 rfl 0 rfl ?_
      refine kw_iconst (pc := 31) B dX3_could_31 (v := (0 : Int32)) rfl ?_
      refine kw_iconst (pc := 32) B dX3_could_32 (v := (0 : Int32)) rfl ?_
      refine kw_callV (pc := 33) B dX3_could_33 (ci := 3) rfl (ct_X3_box a0 (0 : Int32) (0 : Int32)) q2675 q2509 q2510 q81 q2511 ⟨by decide, by decide, rfl⟩ (As := [kI (0 : Int32), kI (0 : Int32)]) rfl (st := [kI i4]) rfl (Nat.le_of_ble_eq_true rfl) (by decide) (by decide) kw_qI (fun i5 => ?_)
      refine kw_iload_n (pc := 36) B dX3_could_36 rfl 1 rfl ?_
      refine kw_iload_n (pc := 37) B dX3_could_37 rfl 2 rfl ?_
      refine kw_imul (pc := 38) B dX3_could_38 ?_
      refine kw_idiv (pc := 39) B dX3_could_39 (fun i6 => ?_)
      refine kw_callS (pc := 40) B dX3_could_40 (ct_X3_lesser i4 i6) q2425 q2426 q81 q2427 ⟨by decide, by decide, rfl⟩ (As := [kI i4, kI i6]) rfl (st := []) rfl (Nat.le_of_ble_eq_true rfl) (by decide) (by decide) kw_qI (fun i7 => ?_)
      exact kw_iret B dX3_could_43 rfl
    · refine kw_bipush (pc := 19) B dX3_could_19 (v := (-2 : Int32)) rfl ?_
      exact kw_iret B dX3_could_21 rfl
theorem ct_X3_could (a0 : Option Nat) (a1 : Int32) (a2 : Int32) (l : Launch) : kw_Met l yX3_could (ws_ yX3_could cX3_could 3 (some .int)) 3 46 [kA a0, kI a1, kI a2] kw_eI (pm_X3_could a0 a1 a2) := kw_met (plainFor_of_name rfl) (Nat.le_of_ble_eq_true rfl) (fun E B => wm_X3_could B a0 a1 a2) l

/-! RosaryCarvers nextBack ()I -/

theorem wb_X0_nextBack_14 {E : kw_E} (B : kw_ok E cX0_nextBack RX0 "nextBack" 5 (some .int) 11 211 [])  : ∀ (n : Nat) (x0 : Option Nat) (x1 : Int32) (x2 : Option Nat), kw_W E kw_eI 14 [(0, kA x0), (1, kI x1), (2, kA x2)] [] (pb_X0_nextBack_14  n x0 x1 x2) := by
  intro n
  induction n with
  | zero =>
    intro x0 x1 x2
    exact kw_fail_ok
  | succ n ih =>
    intro x0 x1 x2
    show kw_W E kw_eI 14 [(0, kA x0), (1, kI x1), (2, kA x2)] [] (
km_bind (km_disp x2 [(11, pm_X12_hasNext x2), (33, pm_J5_hasNext x2), (34, pm_J15_hasNext x2)]) fun i1 =>
if i1 = 0 then
(km_pure x1)
else
(km_bind (km_disp x2 [(11, pm_X12_next x2), (33, pm_J5_next x2), (34, pm_J15_next x2)]) fun r2 =>
km_bind (km_cast [12] r2) fun _ =>
km_bind (km_is 12 r2) fun _ => km_bind (pm_X14_last r2) fun i3 =>
km_bind (km_gR [(0, 0)] x0) fun r4 =>
km_bind (km_gI [(1, 8)] r4) fun i5 =>
if x1 = (-6 : Int32) then
(pb_X0_nextBack_14 n x0 (i3 - i5) x2)
else
(if x1 ≤ (i3 - i5) then
(pb_X0_nextBack_14 n x0 x1 x2)
else
(pb_X0_nextBack_14 n x0 (i3 - i5) x2))))
    refine kw_aload_n (pc := 14) B dX0_nextBack_14 rfl 2 rfl ?_
    refine kw_disp (pc := 15) (pc' := 20) (st := []) kw_hI (fun i1 => ?_) ?_
    · refine kw_if_eq (pc := 20) (tgt := 69) B dX0_nextBack_20 rfl ?_ ?_
      · refine kw_iload_n (pc := 69) B dX0_nextBack_69 rfl 1 rfl ?_
        exact kw_iret B dX0_nextBack_70 rfl
      · refine kw_aload_n (pc := 23) B dX0_nextBack_23 rfl 2 rfl ?_
        refine kw_disp (pc := 24) (pc' := 29) (st := []) kw_hA (fun r2 => ?_) ?_
        · refine kw_cast_ok (pc := 29) B dX0_nextBack_29 q1883 cs_RosaryCarvers_Sold ?_
          refine kw_astore_n (pc := 32) B dX0_nextBack_32 rfl (by decide) (L2 := [(3, kA r2), (0, kA x0), (1, kI x1), (2, kA x2)]) rfl ?_
          refine kw_aload_n (pc := 33) B dX0_nextBack_33 rfl 0 rfl ?_
          refine kw_callV (pc := 34) B dX0_nextBack_34 (ci := 12) rfl (ct_X14_last r2) q1886 q1128 q1129 q108 q1130 ⟨by decide, by decide, rfl⟩ (As := []) rfl (st := []) rfl (Nat.le_of_ble_eq_true rfl) (by decide) (by decide) kw_qI (fun i3 => ?_)
          refine kw_aload_n (pc := 37) B dX0_nextBack_37 rfl 1 rfl ?_
          refine kw_gR (pc := 38) B dX0_nextBack_38 fl_X0_17 (fun r4 => ?_)
          refine kw_gIN (pc := 41) B dX0_nextBack_41 fl_X0_255 (fun i5 => ?_)
          refine kw_isub (pc := 44) B dX0_nextBack_44 ?_
          refine kw_istore (pc := 45) B dX0_nextBack_45 (by decide) (L2 := [(4, kI (i3 - i5)), (3, kA r2), (0, kA x0), (1, kI x1), (2, kA x2)]) rfl ?_
          refine kw_iload_n (pc := 47) B dX0_nextBack_47 rfl 3 rfl ?_
          refine kw_bipush (pc := 48) B dX0_nextBack_48 (v := (-6 : Int32)) rfl ?_
          refine kw_icmp_eq (pc := 50) (tgt := 59) B dX0_nextBack_50 rfl ?_ ?_
          · refine kw_iload (pc := 59) B dX0_nextBack_59 0 rfl ?_
            refine kw_goto (pc := 61) (tgt := 65) B dX0_nextBack_61 rfl ?_
            refine kw_istore_n (pc := 65) B dX0_nextBack_65 rfl (by decide) (L2 := [(1, kI (i3 - i5)), (4, kI (i3 - i5)), (3, kA r2), (0, kA x0), (2, kA x2)]) rfl ?_
            refine kw_goto (pc := 66) (tgt := 14) B dX0_nextBack_66 rfl ?_
            exact kw_pick [3, 0, 4] rfl (ih x0 (i3 - i5) x2)
          · refine kw_iload (pc := 53) B dX0_nextBack_53 0 rfl ?_
            refine kw_iload_n (pc := 55) B dX0_nextBack_55 rfl 3 rfl ?_
            refine kw_icmp_ge (pc := 56) (tgt := 64) B dX0_nextBack_56 rfl ?_ ?_
            · refine kw_iload_n (pc := 64) B dX0_nextBack_64 rfl 3 rfl ?_
              refine kw_istore_n (pc := 65) B dX0_nextBack_65 rfl (by decide) (L2 := [(1, kI x1), (4, kI (i3 - i5)), (3, kA r2), (0, kA x0), (2, kA x2)]) rfl ?_
              refine kw_goto (pc := 66) (tgt := 14) B dX0_nextBack_66 rfl ?_
              exact kw_pick [3, 0, 4] rfl (ih x0 x1 x2)
            · refine kw_iload (pc := 59) B dX0_nextBack_59 0 rfl ?_
              refine kw_goto (pc := 61) (tgt := 65) B dX0_nextBack_61 rfl ?_
              refine kw_istore_n (pc := 65) B dX0_nextBack_65 rfl (by decide) (L2 := [(1, kI (i3 - i5)), (4, kI (i3 - i5)), (3, kA r2), (0, kA x0), (2, kA x2)]) rfl ?_
              refine kw_goto (pc := 66) (tgt := 14) B dX0_nextBack_66 rfl ?_
              exact kw_pick [3, 0, 4] rfl (ih x0 (i3 - i5) x2)
        · intro q hq hk
          simp only [List.mem_cons, List.not_mem_nil, or_false] at hq
          rcases hq with rfl | rfl | rfl
          · exact kw_callF (pc := 24) B dX0_nextBack_24 (ci := 11) rfl (ct_X12_next x2) q1275 q425 q427 q101 q429 q424 q423 q428 q426 q399 ⟨by decide, by decide, rfl⟩ (As := []) rfl (st := []) rfl (Nat.le_of_ble_eq_true rfl) (by decide) (by decide) kw_qA hk
          · exact kw_callF (pc := 24) B dX0_nextBack_24 (ci := 33) rfl (ct_J5_next x2) q1275 q533 q535 q84 q537 q424 q423 q536 q534 q415 ⟨by decide, by decide, rfl⟩ (As := []) rfl (st := []) rfl (Nat.le_of_ble_eq_true rfl) (by decide) (by decide) kw_qA hk
          · exact kw_callF (pc := 24) B dX0_nextBack_24 (ci := 34) rfl (ct_J15_next x2) q1275 q522 q524 q102 q526 q424 q423 q525 q523 q409 ⟨by decide, by decide, rfl⟩ (As := []) rfl (st := []) rfl (Nat.le_of_ble_eq_true rfl) (by decide) (by decide) kw_qA hk
    · intro q hq hk
      simp only [List.mem_cons, List.not_mem_nil, or_false] at hq
      rcases hq with rfl | rfl | rfl
      · exact kw_callF (pc := 15) B dX0_nextBack_15 (ci := 11) rfl (ct_X12_hasNext x2) q1273 q400 q402 q101 q404 q398 q397 q403 q401 q399 ⟨by decide, by decide, rfl⟩ (As := []) rfl (st := []) rfl (Nat.le_of_ble_eq_true rfl) (by decide) (by decide) kw_qI hk
      · exact kw_callF (pc := 15) B dX0_nextBack_15 (ci := 33) rfl (ct_J5_hasNext x2) q1273 q416 q418 q84 q420 q398 q397 q419 q417 q415 ⟨by decide, by decide, rfl⟩ (As := []) rfl (st := []) rfl (Nat.le_of_ble_eq_true rfl) (by decide) (by decide) kw_qI hk
      · exact kw_callF (pc := 15) B dX0_nextBack_15 (ci := 34) rfl (ct_J15_hasNext x2) q1273 q410 q412 q102 q414 q398 q397 q413 q411 q409 ⟨by decide, by decide, rfl⟩ (As := []) rfl (st := []) rfl (Nat.le_of_ble_eq_true rfl) (by decide) (by decide) kw_qI hk
theorem wm_X0_nextBack {E : kw_E} (B : kw_ok E cX0_nextBack RX0 "nextBack" 5 (some .int) 11 211 []) (a0 : Option Nat) : kw_W E kw_eI 0 [(0, kA a0)] [] (pm_X0_nextBack a0) := by
  unfold pm_X0_nextBack
  refine kw_bipush (pc := 0) B dX0_nextBack_0 (v := (-6 : Int32)) rfl ?_
  refine kw_istore_n (pc := 2) B dX0_nextBack_2 rfl (by decide) (L2 := [(1, kI (-6 : Int32)), (0, kA a0)]) rfl ?_
  refine kw_aload_n (pc := 3) B dX0_nextBack_3 rfl 1 rfl ?_
  refine kw_gR (pc := 4) B dX0_nextBack_4 fl_X0_17 (fun r1 => ?_)
  refine kw_gRN (pc := 7) B dX0_nextBack_7 fl_X0_268 (fun r2 => ?_)
  refine kw_callV (pc := 10) B dX0_nextBack_10 (ci := 30) rfl (ct_J2_iterator r2) q1896 q373 q374 q77 q375 ⟨by decide, by decide, rfl⟩ (As := []) rfl (st := []) rfl (Nat.le_of_ble_eq_true rfl) (by decide) (by decide) kw_qA (fun r3 => ?_)
  refine kw_astore_n (pc := 13) B dX0_nextBack_13 rfl (by decide) (L2 := [(2, kA r3), (1, kI (-6 : Int32)), (0, kA a0)]) rfl ?_
  exact kw_pick [2, 1, 0] rfl (wb_X0_nextBack_14 B km_fuel a0 (-6 : Int32) r3)
theorem ct_X0_nextBack (a0 : Option Nat) (l : Launch) : kw_Met l yX0_nextBack (ws_ yX0_nextBack cX0_nextBack 5 (some .int)) 11 211 [kA a0] kw_eI (pm_X0_nextBack a0) := kw_met (plainFor_of_name rfl) (Nat.le_of_ble_eq_true rfl) (fun E B => wm_X0_nextBack B a0) l

/-! RosaryCarversModel nextBack ()I -/

theorem wb_X3_nextBack_53 {E : kw_E} (B : kw_ok E cX3_nextBack RX3 "nextBack" 4 (some .int) 2 21 []) {k5 : Option Nat → Int32 → Int32 → km_M Int32} (h5 : ∀ (y0 : Option Nat) (y1 : Int32) (y2 : Int32), kw_W E kw_eI 5 [(0, kA y0), (1, kI y1), (2, kI y2)] [] (k5 y0 y1 y2)) (x0 : Option Nat) (x2 : Int32) (s0 : Int32) : kw_W E kw_eI 53 [(0, kA x0), (2, kI x2)] [kI s0] (pb_X3_nextBack_53 k5 x0 x2 s0) := by
  unfold pb_X3_nextBack_53
  refine kw_istore_n (pc := 53) B dX3_nextBack_53 rfl (by decide) (L2 := [(1, kI s0), (0, kA x0), (2, kI x2)]) rfl ?_
  refine kw_iinc (pc := 54) B dX3_nextBack_54 2 rfl (w := x2 + (1 : Int32)) rfl (by decide) (L2 := [(2, kI (x2 + (1 : Int32))), (1, kI s0), (0, kA x0)]) rfl ?_
  refine kw_goto (pc := 57) (tgt := 5) B dX3_nextBack_57 rfl ?_
  exact kw_pick [2, 1, 0] rfl (h5 x0 s0 (x2 + (1 : Int32)))
theorem wb_X3_nextBack_5 {E : kw_E} (B : kw_ok E cX3_nextBack RX3 "nextBack" 4 (some .int) 2 21 [])  : ∀ (n : Nat) (x0 : Option Nat) (x1 : Int32) (x2 : Int32), kw_W E kw_eI 5 [(0, kA x0), (1, kI x1), (2, kI x2)] [] (pb_X3_nextBack_5  n x0 x1 x2) := by
  intro n
  induction n with
  | zero =>
    intro x0 x1 x2
    exact kw_fail_ok
  | succ n ih =>
    intro x0 x1 x2
    show kw_W E kw_eI 5 [(0, kA x0), (1, kI x1), (2, kI x2)] [] (
km_bind (km_gR [(3, 0)] x0) fun r1 =>
km_bind (km_ldI 0 r1 (14 : Int32)) fun i2 =>
if i2 ≤ x2 then
(km_pure x1)
else
(km_bind (km_gR [(3, 0)] x0) fun r3 =>
km_bind (km_ldI 0 r3 (((1148 : Int32) + ((5 : Int32) * x2)) + (0 : Int32))) fun i4 =>
km_bind (km_gR [(3, 0)] x0) fun r5 =>
km_bind (km_ldI 0 r5 (0 : Int32)) fun i6 =>
if ¬ x1 = (-6 : Int32) then
(km_bind (pm_X3_lesser x1 (i4 - i6)) fun i7 =>
pb_X3_nextBack_53 (pb_X3_nextBack_5 n) x0 x2 i7)
else
(pb_X3_nextBack_53 (pb_X3_nextBack_5 n) x0 x2 (i4 - i6))))
    refine kw_iload_n (pc := 5) B dX3_nextBack_5 rfl 2 rfl ?_
    refine kw_aload_n (pc := 6) B dX3_nextBack_6 rfl 0 rfl ?_
    refine kw_gR (pc := 7) B dX3_nextBack_7 fl_X3_9 (fun r1 => ?_)
    refine kw_bipush (pc := 10) B dX3_nextBack_10 (v := (14 : Int32)) rfl ?_
    refine kw_iald (pc := 12) B dX3_nextBack_12 (fun i2 => ?_)
    refine kw_icmp_ge (pc := 13) (tgt := 60) B dX3_nextBack_13 rfl ?_ ?_
    · refine kw_iload_n (pc := 60) B dX3_nextBack_60 rfl 1 rfl ?_
      exact kw_iret B dX3_nextBack_61 rfl
    · refine kw_aload_n (pc := 16) B dX3_nextBack_16 rfl 0 rfl ?_
      refine kw_gR (pc := 17) B dX3_nextBack_17 fl_X3_9 (fun r3 => ?_)
      refine kw_sipush (pc := 20) B dX3_nextBack_20 (v := (1148 : Int32)) rfl ?_
      refine kw_iconst (pc := 23) B dX3_nextBack_23 (v := (5 : Int32)) rfl ?_
      refine kw_iload_n (pc := 24) B dX3_nextBack_24 rfl 2 rfl ?_
      refine kw_imul (pc := 25) B dX3_nextBack_25 ?_
      refine kw_iadd (pc := 26) B dX3_nextBack_26 ?_
      refine kw_iconst (pc := 27) B dX3_nextBack_27 (v := (0 : Int32)) rfl ?_
      refine kw_iadd (pc := 28) B dX3_nextBack_28 ?_
      refine kw_iald (pc := 29) B dX3_nextBack_29 (fun i4 => ?_)
      refine kw_aload_n (pc := 30) B dX3_nextBack_30 rfl 0 rfl ?_
      refine kw_gR (pc := 31) B dX3_nextBack_31 fl_X3_9 (fun r5 => ?_)
      refine kw_iconst (pc := 34) B dX3_nextBack_34 (v := (0 : Int32)) rfl ?_
      refine kw_iald (pc := 35) B dX3_nextBack_35 (fun i6 => ?_)
      refine kw_isub (pc := 36) B dX3_nextBack_36 ?_
      refine kw_istore_n (pc := 37) B dX3_nextBack_37 rfl (by decide) (L2 := [(3, kI (i4 - i6)), (0, kA x0), (1, kI x1), (2, kI x2)]) rfl ?_
      refine kw_iload_n (pc := 38) B dX3_nextBack_38 rfl 2 rfl ?_
      refine kw_bipush (pc := 39) B dX3_nextBack_39 (v := (-6 : Int32)) rfl ?_
      refine kw_icmp_ne (pc := 41) (tgt := 48) B dX3_nextBack_41 rfl ?_ ?_
      · refine kw_iload_n (pc := 48) B dX3_nextBack_48 rfl 2 rfl ?_
        refine kw_iload_n (pc := 49) B dX3_nextBack_49 rfl 0 rfl ?_
        refine kw_callS (pc := 50) B dX3_nextBack_50 (ct_X3_lesser x1 (i4 - i6)) q2425 q2426 q81 q2427 ⟨by decide, by decide, rfl⟩ (As := [kI x1, kI (i4 - i6)]) rfl (st := []) rfl (Nat.le_of_ble_eq_true rfl) (by decide) (by decide) kw_qI (fun i7 => ?_)
        exact kw_pick [1, 3] rfl (wb_X3_nextBack_53 B ih x0 x2 i7)
      · refine kw_iload_n (pc := 44) B dX3_nextBack_44 rfl 0 rfl ?_
        refine kw_goto (pc := 45) (tgt := 53) B dX3_nextBack_45 rfl ?_
        exact kw_pick [1, 3] rfl (wb_X3_nextBack_53 B ih x0 x2 (i4 - i6))
theorem wm_X3_nextBack {E : kw_E} (B : kw_ok E cX3_nextBack RX3 "nextBack" 4 (some .int) 2 21 []) (a0 : Option Nat) : kw_W E kw_eI 0 [(0, kA a0)] [] (pm_X3_nextBack a0) := by
  unfold pm_X3_nextBack
  refine kw_bipush (pc := 0) B dX3_nextBack_0 (v := (-6 : Int32)) rfl ?_
  refine kw_istore_n (pc := 2) B dX3_nextBack_2 rfl (by decide) (L2 := [(1, kI (-6 : Int32)), (0, kA a0)]) rfl ?_
  refine kw_iconst (pc := 3) B dX3_nextBack_3 (v := (0 : Int32)) rfl ?_
  refine kw_istore_n (pc := 4) B dX3_nextBack_4 rfl (by decide) (L2 := [(2, kI (0 : Int32)), (1, kI (-6 : Int32)), (0, kA a0)]) rfl ?_
  exact kw_pick [2, 1, 0] rfl (wb_X3_nextBack_5 B km_fuel a0 (-6 : Int32) (0 : Int32))
theorem ct_X3_nextBack (a0 : Option Nat) (l : Launch) : kw_Met l yX3_nextBack (ws_ yX3_nextBack cX3_nextBack 4 (some .int)) 2 21 [kA a0] kw_eI (pm_X3_nextBack a0) := kw_met (plainFor_of_name rfl) (Nat.le_of_ble_eq_true rfl) (fun E B => wm_X3_nextBack B a0) l

/-! RosaryCarvers marks (Ljava/util/BitSet;Ljava/lang/Iterable;)I -/

theorem wb_X0_marks_36 {E : kw_E} (B : kw_ok E cX0_marks RX0 "marks" 7 (some .int) 7 128 []) {k9 : Option Nat → Int32 → Option Nat → km_M Int32} (h9 : ∀ (y0 : Option Nat) (y2 : Int32) (y3 : Option Nat), kw_W E kw_eI 9 [(0, kA y0), (2, kI y2), (3, kA y3)] [] (k9 y0 y2 y3)) : ∀ (n : Nat) (x0 : Option Nat) (x2 : Int32) (x3 : Option Nat) (x5 : Option Nat), kw_W E kw_eI 36 [(0, kA x0), (2, kI x2), (3, kA x3), (5, kA x5)] [] (pb_X0_marks_36 k9 n x0 x2 x3 x5) := by
  intro n
  induction n with
  | zero =>
    intro x0 x2 x3 x5
    exact kw_fail_ok
  | succ n ih =>
    intro x0 x2 x3 x5
    show kw_W E kw_eI 36 [(0, kA x0), (2, kI x2), (3, kA x3), (5, kA x5)] [] (
km_bind (km_disp x5 [(11, pm_X12_hasNext x5), (33, pm_J5_hasNext x5), (34, pm_J15_hasNext x5)]) fun i1 =>
if i1 = 0 then
(k9 x0 x2 x3)
else
(km_bind (km_disp x5 [(11, pm_X12_next x5), (33, pm_J5_next x5), (34, pm_J15_next x5)]) fun r2 =>
km_bind (km_cast [14] r2) fun _ =>
km_bind (km_gI [(14, 0)] r2) fun i3 =>
km_bind (km_is 31 x0) fun _ => km_bind (pm_J3_set x0 i3) fun _ =>
(pb_X0_marks_36 k9 n) x0 (x2 + (1 : Int32)) x3 x5))
    refine kw_aload (pc := 36) B dX0_marks_36 3 rfl ?_
    refine kw_disp (pc := 38) (pc' := 43) (st := []) kw_hI (fun i1 => ?_) ?_
    · refine kw_if_eq (pc := 43) (tgt := 73) B dX0_marks_43 rfl ?_ ?_
      · refine kw_goto (pc := 73) (tgt := 9) B dX0_marks_73 rfl ?_
        exact kw_pick [0, 1, 2] rfl (h9 x0 x2 x3)
      · refine kw_aload (pc := 46) B dX0_marks_46 3 rfl ?_
        refine kw_disp (pc := 48) (pc' := 53) (st := []) kw_hA (fun r2 => ?_) ?_
        · refine kw_cast_ok (pc := 53) B dX0_marks_53 q1847 cs_RosaryCarvers_Bead ?_
          refine kw_astore (pc := 56) B dX0_marks_56 (by decide) (L2 := [(6, kA r2), (0, kA x0), (2, kI x2), (3, kA x3), (5, kA x5)]) rfl ?_
          refine kw_aload_n (pc := 58) B dX0_marks_58 rfl 1 rfl ?_
          refine kw_aload (pc := 59) B dX0_marks_59 0 rfl ?_
          refine kw_gIN (pc := 61) B dX0_marks_61 fl_X0_193 (fun i3 => ?_)
          refine kw_callV (pc := 64) B dX0_marks_64 (ci := 31) rfl (ct_J3_set x0 i3) q1908 q1092 q1093 q79 q1094 ⟨by decide, by decide, rfl⟩ (As := [kI i3]) rfl (st := []) rfl (Nat.le_of_ble_eq_true rfl) (by decide) (by decide) kw_qV (fun _ => ?_)
          refine kw_iinc (pc := 67) B dX0_marks_67 2 rfl (w := x2 + (1 : Int32)) rfl (by decide) (L2 := [(2, kI (x2 + (1 : Int32))), (6, kA r2), (0, kA x0), (3, kA x3), (5, kA x5)]) rfl ?_
          refine kw_goto (pc := 70) (tgt := 36) B dX0_marks_70 rfl ?_
          exact kw_pick [2, 0, 3, 4] rfl (ih x0 (x2 + (1 : Int32)) x3 x5)
        · intro q hq hk
          simp only [List.mem_cons, List.not_mem_nil, or_false] at hq
          rcases hq with rfl | rfl | rfl
          · exact kw_callF (pc := 48) B dX0_marks_48 (ci := 11) rfl (ct_X12_next x5) q1275 q425 q427 q101 q429 q424 q423 q428 q426 q399 ⟨by decide, by decide, rfl⟩ (As := []) rfl (st := []) rfl (Nat.le_of_ble_eq_true rfl) (by decide) (by decide) kw_qA hk
          · exact kw_callF (pc := 48) B dX0_marks_48 (ci := 33) rfl (ct_J5_next x5) q1275 q533 q535 q84 q537 q424 q423 q536 q534 q415 ⟨by decide, by decide, rfl⟩ (As := []) rfl (st := []) rfl (Nat.le_of_ble_eq_true rfl) (by decide) (by decide) kw_qA hk
          · exact kw_callF (pc := 48) B dX0_marks_48 (ci := 34) rfl (ct_J15_next x5) q1275 q522 q524 q102 q526 q424 q423 q525 q523 q409 ⟨by decide, by decide, rfl⟩ (As := []) rfl (st := []) rfl (Nat.le_of_ble_eq_true rfl) (by decide) (by decide) kw_qA hk
    · intro q hq hk
      simp only [List.mem_cons, List.not_mem_nil, or_false] at hq
      rcases hq with rfl | rfl | rfl
      · exact kw_callF (pc := 38) B dX0_marks_38 (ci := 11) rfl (ct_X12_hasNext x5) q1273 q400 q402 q101 q404 q398 q397 q403 q401 q399 ⟨by decide, by decide, rfl⟩ (As := []) rfl (st := []) rfl (Nat.le_of_ble_eq_true rfl) (by decide) (by decide) kw_qI hk
      · exact kw_callF (pc := 38) B dX0_marks_38 (ci := 33) rfl (ct_J5_hasNext x5) q1273 q416 q418 q84 q420 q398 q397 q419 q417 q415 ⟨by decide, by decide, rfl⟩ (As := []) rfl (st := []) rfl (Nat.le_of_ble_eq_true rfl) (by decide) (by decide) kw_qI hk
      · exact kw_callF (pc := 38) B dX0_marks_38 (ci := 34) rfl (ct_J15_hasNext x5) q1273 q410 q412 q102 q414 q398 q397 q413 q411 q409 ⟨by decide, by decide, rfl⟩ (As := []) rfl (st := []) rfl (Nat.le_of_ble_eq_true rfl) (by decide) (by decide) kw_qI hk
theorem wb_X0_marks_9 {E : kw_E} (B : kw_ok E cX0_marks RX0 "marks" 7 (some .int) 7 128 [])  : ∀ (n : Nat) (x0 : Option Nat) (x2 : Int32) (x3 : Option Nat), kw_W E kw_eI 9 [(0, kA x0), (2, kI x2), (3, kA x3)] [] (pb_X0_marks_9  n x0 x2 x3) := by
  intro n
  induction n with
  | zero =>
    intro x0 x2 x3
    exact kw_fail_ok
  | succ n ih =>
    intro x0 x2 x3
    show kw_W E kw_eI 9 [(0, kA x0), (2, kI x2), (3, kA x3)] [] (
km_bind (km_disp x3 [(11, pm_X12_hasNext x3), (33, pm_J5_hasNext x3), (34, pm_J15_hasNext x3)]) fun i1 =>
if i1 = 0 then
(km_pure x2)
else
(km_bind (km_disp x3 [(11, pm_X12_next x3), (33, pm_J5_next x3), (34, pm_J15_next x3)]) fun r2 =>
km_bind (km_cast [2, 7, 12] r2) fun _ =>
km_bind (km_disp r2 [(2, pm_X2_iterator r2), (7, pm_X2_iterator r2), (12, pm_X2_iterator r2)]) fun r3 =>
pb_X0_marks_36 (pb_X0_marks_9 n) km_fuel x0 x2 x3 r3))
    refine kw_aload_n (pc := 9) B dX0_marks_9 rfl 2 rfl ?_
    refine kw_disp (pc := 10) (pc' := 15) (st := []) kw_hI (fun i1 => ?_) ?_
    · refine kw_if_eq (pc := 15) (tgt := 76) B dX0_marks_15 rfl ?_ ?_
      · refine kw_iload_n (pc := 76) B dX0_marks_76 rfl 1 rfl ?_
        exact kw_iret B dX0_marks_77 rfl
      · refine kw_aload_n (pc := 18) B dX0_marks_18 rfl 2 rfl ?_
        refine kw_disp (pc := 19) (pc' := 24) (st := []) kw_hA (fun r2 => ?_) ?_
        · refine kw_cast_ok (pc := 24) B dX0_marks_24 q1906 cs_RosaryCarvers_Beads ?_
          refine kw_astore (pc := 27) B dX0_marks_27 (by decide) (L2 := [(4, kA r2), (0, kA x0), (2, kI x2), (3, kA x3)]) rfl ?_
          refine kw_aload (pc := 29) B dX0_marks_29 0 rfl ?_
          refine kw_disp (pc := 31) (pc' := 34) (st := []) kw_hA (fun r3 => ?_) ?_
          · refine kw_astore (pc := 34) B dX0_marks_34 (by decide) (L2 := [(5, kA r3), (4, kA r2), (0, kA x0), (2, kI x2), (3, kA x3)]) rfl ?_
            exact kw_pick [2, 3, 4, 0] rfl (wb_X0_marks_36 B ih km_fuel x0 x2 x3 r3)
          · intro q hq hk
            simp only [List.mem_cons, List.not_mem_nil, or_false] at hq
            rcases hq with rfl | rfl | rfl
            · exact kw_callV (pc := 31) B dX0_marks_31 (ci := 2) rfl (ct_X2_iterator r2) q1907 q908 q2796 q78 q910 ⟨by decide, by decide, rfl⟩ (As := []) rfl (st := []) rfl (Nat.le_of_ble_eq_true rfl) (by decide) (by decide) kw_qA hk
            · exact kw_callV (pc := 31) B dX0_marks_31 (ci := 7) rfl (ct_X2_iterator r2) q1907 q908 q2797 q78 q910 ⟨by decide, by decide, rfl⟩ (As := []) rfl (st := []) rfl (Nat.le_of_ble_eq_true rfl) (by decide) (by decide) kw_qA hk
            · exact kw_callV (pc := 31) B dX0_marks_31 (ci := 12) rfl (ct_X2_iterator r2) q1907 q908 q2798 q78 q910 ⟨by decide, by decide, rfl⟩ (As := []) rfl (st := []) rfl (Nat.le_of_ble_eq_true rfl) (by decide) (by decide) kw_qA hk
        · intro q hq hk
          simp only [List.mem_cons, List.not_mem_nil, or_false] at hq
          rcases hq with rfl | rfl | rfl
          · exact kw_callF (pc := 19) B dX0_marks_19 (ci := 11) rfl (ct_X12_next x3) q1275 q425 q427 q101 q429 q424 q423 q428 q426 q399 ⟨by decide, by decide, rfl⟩ (As := []) rfl (st := []) rfl (Nat.le_of_ble_eq_true rfl) (by decide) (by decide) kw_qA hk
          · exact kw_callF (pc := 19) B dX0_marks_19 (ci := 33) rfl (ct_J5_next x3) q1275 q533 q535 q84 q537 q424 q423 q536 q534 q415 ⟨by decide, by decide, rfl⟩ (As := []) rfl (st := []) rfl (Nat.le_of_ble_eq_true rfl) (by decide) (by decide) kw_qA hk
          · exact kw_callF (pc := 19) B dX0_marks_19 (ci := 34) rfl (ct_J15_next x3) q1275 q522 q524 q102 q526 q424 q423 q525 q523 q409 ⟨by decide, by decide, rfl⟩ (As := []) rfl (st := []) rfl (Nat.le_of_ble_eq_true rfl) (by decide) (by decide) kw_qA hk
    · intro q hq hk
      simp only [List.mem_cons, List.not_mem_nil, or_false] at hq
      rcases hq with rfl | rfl | rfl
      · exact kw_callF (pc := 10) B dX0_marks_10 (ci := 11) rfl (ct_X12_hasNext x3) q1273 q400 q402 q101 q404 q398 q397 q403 q401 q399 ⟨by decide, by decide, rfl⟩ (As := []) rfl (st := []) rfl (Nat.le_of_ble_eq_true rfl) (by decide) (by decide) kw_qI hk
      · exact kw_callF (pc := 10) B dX0_marks_10 (ci := 33) rfl (ct_J5_hasNext x3) q1273 q416 q418 q84 q420 q398 q397 q419 q417 q415 ⟨by decide, by decide, rfl⟩ (As := []) rfl (st := []) rfl (Nat.le_of_ble_eq_true rfl) (by decide) (by decide) kw_qI hk
      · exact kw_callF (pc := 10) B dX0_marks_10 (ci := 34) rfl (ct_J15_hasNext x3) q1273 q410 q412 q102 q414 q398 q397 q413 q411 q409 ⟨by decide, by decide, rfl⟩ (As := []) rfl (st := []) rfl (Nat.le_of_ble_eq_true rfl) (by decide) (by decide) kw_qI hk
theorem wm_X0_marks {E : kw_E} (B : kw_ok E cX0_marks RX0 "marks" 7 (some .int) 7 128 []) (a0 : Option Nat) (a1 : Option Nat) : kw_W E kw_eI 0 [(0, kA a0), (1, kA a1)] [] (pm_X0_marks a0 a1) := by
  unfold pm_X0_marks
  refine kw_iconst (pc := 0) B dX0_marks_0 (v := (0 : Int32)) rfl ?_
  refine kw_istore_n (pc := 1) B dX0_marks_1 rfl (by decide) (L2 := [(2, kI (0 : Int32)), (0, kA a0), (1, kA a1)]) rfl ?_
  refine kw_aload_n (pc := 2) B dX0_marks_2 rfl 2 rfl ?_
  refine kw_disp (pc := 3) (pc' := 8) (st := []) kw_hA (fun r1 => ?_) ?_
  · refine kw_astore_n (pc := 8) B dX0_marks_8 rfl (by decide) (L2 := [(3, kA r1), (2, kI (0 : Int32)), (0, kA a0), (1, kA a1)]) rfl ?_
    exact kw_pick [2, 1, 0] rfl (wb_X0_marks_9 B km_fuel a0 (0 : Int32) r1)
  · intro q hq hk
    simp only [List.mem_cons, List.not_mem_nil, or_false] at hq
    rcases hq with rfl | rfl | rfl | rfl | rfl | rfl
    · exact kw_callF (pc := 3) B dX0_marks_3 (ci := 2) rfl (ct_X2_iterator a1) q1846 q906 q908 q78 q910 q904 q903 q909 q907 q905 ⟨by decide, by decide, rfl⟩ (As := []) rfl (st := []) rfl (Nat.le_of_ble_eq_true rfl) (by decide) (by decide) kw_qA hk
    · exact kw_callF (pc := 3) B dX0_marks_3 (ci := 7) rfl (ct_X2_iterator a1) q1846 q934 q908 q78 q910 q904 q903 q909 q935 q933 ⟨by decide, by decide, rfl⟩ (As := []) rfl (st := []) rfl (Nat.le_of_ble_eq_true rfl) (by decide) (by decide) kw_qA hk
    · exact kw_callF (pc := 3) B dX0_marks_3 (ci := 10) rfl (ct_X11_iterator a1) q1846 q913 q915 q100 q917 q904 q903 q916 q914 q912 ⟨by decide, by decide, rfl⟩ (As := []) rfl (st := []) rfl (Nat.le_of_ble_eq_true rfl) (by decide) (by decide) kw_qA hk
    · exact kw_callF (pc := 3) B dX0_marks_3 (ci := 12) rfl (ct_X2_iterator a1) q1846 q937 q908 q78 q910 q904 q903 q909 q938 q936 ⟨by decide, by decide, rfl⟩ (As := []) rfl (st := []) rfl (Nat.le_of_ble_eq_true rfl) (by decide) (by decide) kw_qA hk
    · exact kw_callF (pc := 3) B dX0_marks_3 (ci := 30) rfl (ct_J2_iterator a1) q1846 q972 q373 q77 q375 q904 q903 q974 q973 q971 ⟨by decide, by decide, rfl⟩ (As := []) rfl (st := []) rfl (Nat.le_of_ble_eq_true rfl) (by decide) (by decide) kw_qA hk
    · exact kw_callF (pc := 3) B dX0_marks_3 (ci := 32) rfl (ct_J4_iterator a1) q1846 q940 q942 q80 q944 q904 q903 q943 q941 q939 ⟨by decide, by decide, rfl⟩ (As := []) rfl (st := []) rfl (Nat.le_of_ble_eq_true rfl) (by decide) (by decide) kw_qA hk
theorem ct_X0_marks (a0 : Option Nat) (a1 : Option Nat) (l : Launch) : kw_Met l yX0_marks (ws_ yX0_marks cX0_marks 7 (some .int)) 7 128 [kA a0, kA a1] kw_eI (pm_X0_marks a0 a1) := kw_met (plainFor_of_name rfl) (Nat.le_of_ble_eq_true rfl) (fun E B => wm_X0_marks B a0 a1) l

/-! java/lang/Long bitCount (J)I -/

theorem wm_J21_bitCount {E : kw_E} (B : kw_ok E cJ21_bitCount RJ21 "bitCount" 2 (some .int) 1 0 []) (a0 : Int64) : kw_W E kw_eI 0 [(0, kJ a0)] [] (pm_J21_bitCount a0) := by
  unfold pm_J21_bitCount
  refine kw_lload_n (pc := 0) B dJ21_bitCount_0 rfl 0 rfl ?_
  refine kw_lload_n (pc := 1) B dJ21_bitCount_1 rfl 0 rfl ?_
  refine kw_iconst (pc := 2) B dJ21_bitCount_2 (v := (1 : Int32)) rfl ?_
  refine kw_lushr (pc := 3) B dJ21_bitCount_3 ?_
  refine kw_ldcJ (pc := 4) B dJ21_bitCount_4 q1917 ?_
  refine kw_land (pc := 7) B dJ21_bitCount_7 ?_
  refine kw_lsub (pc := 8) B dJ21_bitCount_8 ?_
  refine kw_lstore_n (pc := 9) B dJ21_bitCount_9 rfl (by decide) (L2 := [(0, kJ (a0 - (((a0.toUInt64 >>> ((1 : Int32).toInt64.toUInt64 &&& Int64.toUInt64 63)).toInt64) &&& (6148914691236517205 : Int64))))]) rfl ?_
  refine kw_lload_n (pc := 10) B dJ21_bitCount_10 rfl 0 rfl ?_
  refine kw_ldcJ (pc := 11) B dJ21_bitCount_11 q1918 ?_
  refine kw_land (pc := 14) B dJ21_bitCount_14 ?_
  refine kw_lload_n (pc := 15) B dJ21_bitCount_15 rfl 0 rfl ?_
  refine kw_iconst (pc := 16) B dJ21_bitCount_16 (v := (2 : Int32)) rfl ?_
  refine kw_lushr (pc := 17) B dJ21_bitCount_17 ?_
  refine kw_ldcJ (pc := 18) B dJ21_bitCount_18 q1918 ?_
  refine kw_land (pc := 21) B dJ21_bitCount_21 ?_
  refine kw_ladd (pc := 22) B dJ21_bitCount_22 ?_
  refine kw_lstore_n (pc := 23) B dJ21_bitCount_23 rfl (by decide) (L2 := [(0, kJ (((a0 - (((a0.toUInt64 >>> ((1 : Int32).toInt64.toUInt64 &&& Int64.toUInt64 63)).toInt64) &&& (6148914691236517205 : Int64))) &&& (3689348814741910323 : Int64)) + ((((a0 - (((a0.toUInt64 >>> ((1 : Int32).toInt64.toUInt64 &&& Int64.toUInt64 63)).toInt64) &&& (6148914691236517205 : Int64))).toUInt64 >>> ((2 : Int32).toInt64.toUInt64 &&& Int64.toUInt64 63)).toInt64) &&& (3689348814741910323 : Int64))))]) rfl ?_
  refine kw_lload_n (pc := 24) B dJ21_bitCount_24 rfl 0 rfl ?_
  refine kw_lload_n (pc := 25) B dJ21_bitCount_25 rfl 0 rfl ?_
  refine kw_iconst (pc := 26) B dJ21_bitCount_26 (v := (4 : Int32)) rfl ?_
  refine kw_lushr (pc := 27) B dJ21_bitCount_27 ?_
  refine kw_ladd (pc := 28) B dJ21_bitCount_28 ?_
  refine kw_ldcJ (pc := 29) B dJ21_bitCount_29 q1919 ?_
  refine kw_land (pc := 32) B dJ21_bitCount_32 ?_
  refine kw_lstore_n (pc := 33) B dJ21_bitCount_33 rfl (by decide) (L2 := [(0, kJ (((((a0 - (((a0.toUInt64 >>> ((1 : Int32).toInt64.toUInt64 &&& Int64.toUInt64 63)).toInt64) &&& (6148914691236517205 : Int64))) &&& (3689348814741910323 : Int64)) + ((((a0 - (((a0.toUInt64 >>> ((1 : Int32).toInt64.toUInt64 &&& Int64.toUInt64 63)).toInt64) &&& (6148914691236517205 : Int64))).toUInt64 >>> ((2 : Int32).toInt64.toUInt64 &&& Int64.toUInt64 63)).toInt64) &&& (3689348814741910323 : Int64))) + (((((a0 - (((a0.toUInt64 >>> ((1 : Int32).toInt64.toUInt64 &&& Int64.toUInt64 63)).toInt64) &&& (6148914691236517205 : Int64))) &&& (3689348814741910323 : Int64)) + ((((a0 - (((a0.toUInt64 >>> ((1 : Int32).toInt64.toUInt64 &&& Int64.toUInt64 63)).toInt64) &&& (6148914691236517205 : Int64))).toUInt64 >>> ((2 : Int32).toInt64.toUInt64 &&& Int64.toUInt64 63)).toInt64) &&& (3689348814741910323 : Int64))).toUInt64 >>> ((4 : Int32).toInt64.toUInt64 &&& Int64.toUInt64 63)).toInt64)) &&& (1085102592571150095 : Int64)))]) rfl ?_
  refine kw_lload_n (pc := 34) B dJ21_bitCount_34 rfl 0 rfl ?_
  refine kw_lload_n (pc := 35) B dJ21_bitCount_35 rfl 0 rfl ?_
  refine kw_bipush (pc := 36) B dJ21_bitCount_36 (v := (8 : Int32)) rfl ?_
  refine kw_lushr (pc := 38) B dJ21_bitCount_38 ?_
  refine kw_ladd (pc := 39) B dJ21_bitCount_39 ?_
  refine kw_lstore_n (pc := 40) B dJ21_bitCount_40 rfl (by decide) (L2 := [(0, kJ ((((((a0 - (((a0.toUInt64 >>> ((1 : Int32).toInt64.toUInt64 &&& Int64.toUInt64 63)).toInt64) &&& (6148914691236517205 : Int64))) &&& (3689348814741910323 : Int64)) + ((((a0 - (((a0.toUInt64 >>> ((1 : Int32).toInt64.toUInt64 &&& Int64.toUInt64 63)).toInt64) &&& (6148914691236517205 : Int64))).toUInt64 >>> ((2 : Int32).toInt64.toUInt64 &&& Int64.toUInt64 63)).toInt64) &&& (3689348814741910323 : Int64))) + (((((a0 - (((a0.toUInt64 >>> ((1 : Int32).toInt64.toUInt64 &&& Int64.toUInt64 63)).toInt64) &&& (6148914691236517205 : Int64))) &&& (3689348814741910323 : Int64)) + ((((a0 - (((a0.toUInt64 >>> ((1 : Int32).toInt64.toUInt64 &&& Int64.toUInt64 63)).toInt64) &&& (6148914691236517205 : Int64))).toUInt64 >>> ((2 : Int32).toInt64.toUInt64 &&& Int64.toUInt64 63)).toInt64) &&& (3689348814741910323 : Int64))).toUInt64 >>> ((4 : Int32).toInt64.toUInt64 &&& Int64.toUInt64 63)).toInt64)) &&& (1085102592571150095 : Int64)) + (((((((a0 - (((a0.toUInt64 >>> ((1 : Int32).toInt64.toUInt64 &&& Int64.toUInt64 63)).toInt64) &&& (6148914691236517205 : Int64))) &&& (3689348814741910323 : Int64)) + ((((a0 - (((a0.toUInt64 >>> ((1 : Int32).toInt64.toUInt64 &&& Int64.toUInt64 63)).toInt64) &&& (6148914691236517205 : Int64))).toUInt64 >>> ((2 : Int32).toInt64.toUInt64 &&& Int64.toUInt64 63)).toInt64) &&& (3689348814741910323 : Int64))) + (((((a0 - (((a0.toUInt64 >>> ((1 : Int32).toInt64.toUInt64 &&& Int64.toUInt64 63)).toInt64) &&& (6148914691236517205 : Int64))) &&& (3689348814741910323 : Int64)) + ((((a0 - (((a0.toUInt64 >>> ((1 : Int32).toInt64.toUInt64 &&& Int64.toUInt64 63)).toInt64) &&& (6148914691236517205 : Int64))).toUInt64 >>> ((2 : Int32).toInt64.toUInt64 &&& Int64.toUInt64 63)).toInt64) &&& (3689348814741910323 : Int64))).toUInt64 >>> ((4 : Int32).toInt64.toUInt64 &&& Int64.toUInt64 63)).toInt64)) &&& (1085102592571150095 : Int64)).toUInt64 >>> ((8 : Int32).toInt64.toUInt64 &&& Int64.toUInt64 63)).toInt64)))]) rfl ?_
  refine kw_lload_n (pc := 41) B dJ21_bitCount_41 rfl 0 rfl ?_
  refine kw_lload_n (pc := 42) B dJ21_bitCount_42 rfl 0 rfl ?_
  refine kw_bipush (pc := 43) B dJ21_bitCount_43 (v := (16 : Int32)) rfl ?_
  refine kw_lushr (pc := 45) B dJ21_bitCount_45 ?_
  refine kw_ladd (pc := 46) B dJ21_bitCount_46 ?_
  refine kw_lstore_n (pc := 47) B dJ21_bitCount_47 rfl (by decide) (L2 := [(0, kJ (((((((a0 - (((a0.toUInt64 >>> ((1 : Int32).toInt64.toUInt64 &&& Int64.toUInt64 63)).toInt64) &&& (6148914691236517205 : Int64))) &&& (3689348814741910323 : Int64)) + ((((a0 - (((a0.toUInt64 >>> ((1 : Int32).toInt64.toUInt64 &&& Int64.toUInt64 63)).toInt64) &&& (6148914691236517205 : Int64))).toUInt64 >>> ((2 : Int32).toInt64.toUInt64 &&& Int64.toUInt64 63)).toInt64) &&& (3689348814741910323 : Int64))) + (((((a0 - (((a0.toUInt64 >>> ((1 : Int32).toInt64.toUInt64 &&& Int64.toUInt64 63)).toInt64) &&& (6148914691236517205 : Int64))) &&& (3689348814741910323 : Int64)) + ((((a0 - (((a0.toUInt64 >>> ((1 : Int32).toInt64.toUInt64 &&& Int64.toUInt64 63)).toInt64) &&& (6148914691236517205 : Int64))).toUInt64 >>> ((2 : Int32).toInt64.toUInt64 &&& Int64.toUInt64 63)).toInt64) &&& (3689348814741910323 : Int64))).toUInt64 >>> ((4 : Int32).toInt64.toUInt64 &&& Int64.toUInt64 63)).toInt64)) &&& (1085102592571150095 : Int64)) + (((((((a0 - (((a0.toUInt64 >>> ((1 : Int32).toInt64.toUInt64 &&& Int64.toUInt64 63)).toInt64) &&& (6148914691236517205 : Int64))) &&& (3689348814741910323 : Int64)) + ((((a0 - (((a0.toUInt64 >>> ((1 : Int32).toInt64.toUInt64 &&& Int64.toUInt64 63)).toInt64) &&& (6148914691236517205 : Int64))).toUInt64 >>> ((2 : Int32).toInt64.toUInt64 &&& Int64.toUInt64 63)).toInt64) &&& (3689348814741910323 : Int64))) + (((((a0 - (((a0.toUInt64 >>> ((1 : Int32).toInt64.toUInt64 &&& Int64.toUInt64 63)).toInt64) &&& (6148914691236517205 : Int64))) &&& (3689348814741910323 : Int64)) + ((((a0 - (((a0.toUInt64 >>> ((1 : Int32).toInt64.toUInt64 &&& Int64.toUInt64 63)).toInt64) &&& (6148914691236517205 : Int64))).toUInt64 >>> ((2 : Int32).toInt64.toUInt64 &&& Int64.toUInt64 63)).toInt64) &&& (3689348814741910323 : Int64))).toUInt64 >>> ((4 : Int32).toInt64.toUInt64 &&& Int64.toUInt64 63)).toInt64)) &&& (1085102592571150095 : Int64)).toUInt64 >>> ((8 : Int32).toInt64.toUInt64 &&& Int64.toUInt64 63)).toInt64)) + ((((((((a0 - (((a0.toUInt64 >>> ((1 : Int32).toInt64.toUInt64 &&& Int64.toUInt64 63)).toInt64) &&& (6148914691236517205 : Int64))) &&& (3689348814741910323 : Int64)) + ((((a0 - (((a0.toUInt64 >>> ((1 : Int32).toInt64.toUInt64 &&& Int64.toUInt64 63)).toInt64) &&& (6148914691236517205 : Int64))).toUInt64 >>> ((2 : Int32).toInt64.toUInt64 &&& Int64.toUInt64 63)).toInt64) &&& (3689348814741910323 : Int64))) + (((((a0 - (((a0.toUInt64 >>> ((1 : Int32).toInt64.toUInt64 &&& Int64.toUInt64 63)).toInt64) &&& (6148914691236517205 : Int64))) &&& (3689348814741910323 : Int64)) + ((((a0 - (((a0.toUInt64 >>> ((1 : Int32).toInt64.toUInt64 &&& Int64.toUInt64 63)).toInt64) &&& (6148914691236517205 : Int64))).toUInt64 >>> ((2 : Int32).toInt64.toUInt64 &&& Int64.toUInt64 63)).toInt64) &&& (3689348814741910323 : Int64))).toUInt64 >>> ((4 : Int32).toInt64.toUInt64 &&& Int64.toUInt64 63)).toInt64)) &&& (1085102592571150095 : Int64)) + (((((((a0 - (((a0.toUInt64 >>> ((1 : Int32).toInt64.toUInt64 &&& Int64.toUInt64 63)).toInt64) &&& (6148914691236517205 : Int64))) &&& (3689348814741910323 : Int64)) + ((((a0 - (((a0.toUInt64 >>> ((1 : Int32).toInt64.toUInt64 &&& Int64.toUInt64 63)).toInt64) &&& (6148914691236517205 : Int64))).toUInt64 >>> ((2 : Int32).toInt64.toUInt64 &&& Int64.toUInt64 63)).toInt64) &&& (3689348814741910323 : Int64))) + (((((a0 - (((a0.toUInt64 >>> ((1 : Int32).toInt64.toUInt64 &&& Int64.toUInt64 63)).toInt64) &&& (6148914691236517205 : Int64))) &&& (3689348814741910323 : Int64)) + ((((a0 - (((a0.toUInt64 >>> ((1 : Int32).toInt64.toUInt64 &&& Int64.toUInt64 63)).toInt64) &&& (6148914691236517205 : Int64))).toUInt64 >>> ((2 : Int32).toInt64.toUInt64 &&& Int64.toUInt64 63)).toInt64) &&& (3689348814741910323 : Int64))).toUInt64 >>> ((4 : Int32).toInt64.toUInt64 &&& Int64.toUInt64 63)).toInt64)) &&& (1085102592571150095 : Int64)).toUInt64 >>> ((8 : Int32).toInt64.toUInt64 &&& Int64.toUInt64 63)).toInt64)).toUInt64 >>> ((16 : Int32).toInt64.toUInt64 &&& Int64.toUInt64 63)).toInt64)))]) rfl ?_
  refine kw_lload_n (pc := 48) B dJ21_bitCount_48 rfl 0 rfl ?_
  refine kw_lload_n (pc := 49) B dJ21_bitCount_49 rfl 0 rfl ?_
  refine kw_bipush (pc := 50) B dJ21_bitCount_50 (v := (32 : Int32)) rfl ?_
  refine kw_lushr (pc := 52) B dJ21_bitCount_52 ?_
  refine kw_ladd (pc := 53) B dJ21_bitCount_53 ?_
  refine kw_lstore_n (pc := 54) B dJ21_bitCount_54 rfl (by decide) (L2 := [(0, kJ ((((((((a0 - (((a0.toUInt64 >>> ((1 : Int32).toInt64.toUInt64 &&& Int64.toUInt64 63)).toInt64) &&& (6148914691236517205 : Int64))) &&& (3689348814741910323 : Int64)) + ((((a0 - (((a0.toUInt64 >>> ((1 : Int32).toInt64.toUInt64 &&& Int64.toUInt64 63)).toInt64) &&& (6148914691236517205 : Int64))).toUInt64 >>> ((2 : Int32).toInt64.toUInt64 &&& Int64.toUInt64 63)).toInt64) &&& (3689348814741910323 : Int64))) + (((((a0 - (((a0.toUInt64 >>> ((1 : Int32).toInt64.toUInt64 &&& Int64.toUInt64 63)).toInt64) &&& (6148914691236517205 : Int64))) &&& (3689348814741910323 : Int64)) + ((((a0 - (((a0.toUInt64 >>> ((1 : Int32).toInt64.toUInt64 &&& Int64.toUInt64 63)).toInt64) &&& (6148914691236517205 : Int64))).toUInt64 >>> ((2 : Int32).toInt64.toUInt64 &&& Int64.toUInt64 63)).toInt64) &&& (3689348814741910323 : Int64))).toUInt64 >>> ((4 : Int32).toInt64.toUInt64 &&& Int64.toUInt64 63)).toInt64)) &&& (1085102592571150095 : Int64)) + (((((((a0 - (((a0.toUInt64 >>> ((1 : Int32).toInt64.toUInt64 &&& Int64.toUInt64 63)).toInt64) &&& (6148914691236517205 : Int64))) &&& (3689348814741910323 : Int64)) + ((((a0 - (((a0.toUInt64 >>> ((1 : Int32).toInt64.toUInt64 &&& Int64.toUInt64 63)).toInt64) &&& (6148914691236517205 : Int64))).toUInt64 >>> ((2 : Int32).toInt64.toUInt64 &&& Int64.toUInt64 63)).toInt64) &&& (3689348814741910323 : Int64))) + (((((a0 - (((a0.toUInt64 >>> ((1 : Int32).toInt64.toUInt64 &&& Int64.toUInt64 63)).toInt64) &&& (6148914691236517205 : Int64))) &&& (3689348814741910323 : Int64)) + ((((a0 - (((a0.toUInt64 >>> ((1 : Int32).toInt64.toUInt64 &&& Int64.toUInt64 63)).toInt64) &&& (6148914691236517205 : Int64))).toUInt64 >>> ((2 : Int32).toInt64.toUInt64 &&& Int64.toUInt64 63)).toInt64) &&& (3689348814741910323 : Int64))).toUInt64 >>> ((4 : Int32).toInt64.toUInt64 &&& Int64.toUInt64 63)).toInt64)) &&& (1085102592571150095 : Int64)).toUInt64 >>> ((8 : Int32).toInt64.toUInt64 &&& Int64.toUInt64 63)).toInt64)) + ((((((((a0 - (((a0.toUInt64 >>> ((1 : Int32).toInt64.toUInt64 &&& Int64.toUInt64 63)).toInt64) &&& (6148914691236517205 : Int64))) &&& (3689348814741910323 : Int64)) + ((((a0 - (((a0.toUInt64 >>> ((1 : Int32).toInt64.toUInt64 &&& Int64.toUInt64 63)).toInt64) &&& (6148914691236517205 : Int64))).toUInt64 >>> ((2 : Int32).toInt64.toUInt64 &&& Int64.toUInt64 63)).toInt64) &&& (3689348814741910323 : Int64))) + (((((a0 - (((a0.toUInt64 >>> ((1 : Int32).toInt64.toUInt64 &&& Int64.toUInt64 63)).toInt64) &&& (6148914691236517205 : Int64))) &&& (3689348814741910323 : Int64)) + ((((a0 - (((a0.toUInt64 >>> ((1 : Int32).toInt64.toUInt64 &&& Int64.toUInt64 63)).toInt64) &&& (6148914691236517205 : Int64))).toUInt64 >>> ((2 : Int32).toInt64.toUInt64 &&& Int64.toUInt64 63)).toInt64) &&& (3689348814741910323 : Int64))).toUInt64 >>> ((4 : Int32).toInt64.toUInt64 &&& Int64.toUInt64 63)).toInt64)) &&& (1085102592571150095 : Int64)) + (((((((a0 - (((a0.toUInt64 >>> ((1 : Int32).toInt64.toUInt64 &&& Int64.toUInt64 63)).toInt64) &&& (6148914691236517205 : Int64))) &&& (3689348814741910323 : Int64)) + ((((a0 - (((a0.toUInt64 >>> ((1 : Int32).toInt64.toUInt64 &&& Int64.toUInt64 63)).toInt64) &&& (6148914691236517205 : Int64))).toUInt64 >>> ((2 : Int32).toInt64.toUInt64 &&& Int64.toUInt64 63)).toInt64) &&& (3689348814741910323 : Int64))) + (((((a0 - (((a0.toUInt64 >>> ((1 : Int32).toInt64.toUInt64 &&& Int64.toUInt64 63)).toInt64) &&& (6148914691236517205 : Int64))) &&& (3689348814741910323 : Int64)) + ((((a0 - (((a0.toUInt64 >>> ((1 : Int32).toInt64.toUInt64 &&& Int64.toUInt64 63)).toInt64) &&& (6148914691236517205 : Int64))).toUInt64 >>> ((2 : Int32).toInt64.toUInt64 &&& Int64.toUInt64 63)).toInt64) &&& (3689348814741910323 : Int64))).toUInt64 >>> ((4 : Int32).toInt64.toUInt64 &&& Int64.toUInt64 63)).toInt64)) &&& (1085102592571150095 : Int64)).toUInt64 >>> ((8 : Int32).toInt64.toUInt64 &&& Int64.toUInt64 63)).toInt64)).toUInt64 >>> ((16 : Int32).toInt64.toUInt64 &&& Int64.toUInt64 63)).toInt64)) + (((((((((a0 - (((a0.toUInt64 >>> ((1 : Int32).toInt64.toUInt64 &&& Int64.toUInt64 63)).toInt64) &&& (6148914691236517205 : Int64))) &&& (3689348814741910323 : Int64)) + ((((a0 - (((a0.toUInt64 >>> ((1 : Int32).toInt64.toUInt64 &&& Int64.toUInt64 63)).toInt64) &&& (6148914691236517205 : Int64))).toUInt64 >>> ((2 : Int32).toInt64.toUInt64 &&& Int64.toUInt64 63)).toInt64) &&& (3689348814741910323 : Int64))) + (((((a0 - (((a0.toUInt64 >>> ((1 : Int32).toInt64.toUInt64 &&& Int64.toUInt64 63)).toInt64) &&& (6148914691236517205 : Int64))) &&& (3689348814741910323 : Int64)) + ((((a0 - (((a0.toUInt64 >>> ((1 : Int32).toInt64.toUInt64 &&& Int64.toUInt64 63)).toInt64) &&& (6148914691236517205 : Int64))).toUInt64 >>> ((2 : Int32).toInt64.toUInt64 &&& Int64.toUInt64 63)).toInt64) &&& (3689348814741910323 : Int64))).toUInt64 >>> ((4 : Int32).toInt64.toUInt64 &&& Int64.toUInt64 63)).toInt64)) &&& (1085102592571150095 : Int64)) + (((((((a0 - (((a0.toUInt64 >>> ((1 : Int32).toInt64.toUInt64 &&& Int64.toUInt64 63)).toInt64) &&& (6148914691236517205 : Int64))) &&& (3689348814741910323 : Int64)) + ((((a0 - (((a0.toUInt64 >>> ((1 : Int32).toInt64.toUInt64 &&& Int64.toUInt64 63)).toInt64) &&& (6148914691236517205 : Int64))).toUInt64 >>> ((2 : Int32).toInt64.toUInt64 &&& Int64.toUInt64 63)).toInt64) &&& (3689348814741910323 : Int64))) + (((((a0 - (((a0.toUInt64 >>> ((1 : Int32).toInt64.toUInt64 &&& Int64.toUInt64 63)).toInt64) &&& (6148914691236517205 : Int64))) &&& (3689348814741910323 : Int64)) + ((((a0 - (((a0.toUInt64 >>> ((1 : Int32).toInt64.toUInt64 &&& Int64.toUInt64 63)).toInt64) &&& (6148914691236517205 : Int64))).toUInt64 >>> ((2 : Int32).toInt64.toUInt64 &&& Int64.toUInt64 63)).toInt64) &&& (3689348814741910323 : Int64))).toUInt64 >>> ((4 : Int32).toInt64.toUInt64 &&& Int64.toUInt64 63)).toInt64)) &&& (1085102592571150095 : Int64)).toUInt64 >>> ((8 : Int32).toInt64.toUInt64 &&& Int64.toUInt64 63)).toInt64)) + ((((((((a0 - (((a0.toUInt64 >>> ((1 : Int32).toInt64.toUInt64 &&& Int64.toUInt64 63)).toInt64) &&& (6148914691236517205 : Int64))) &&& (3689348814741910323 : Int64)) + ((((a0 - (((a0.toUInt64 >>> ((1 : Int32).toInt64.toUInt64 &&& Int64.toUInt64 63)).toInt64) &&& (6148914691236517205 : Int64))).toUInt64 >>> ((2 : Int32).toInt64.toUInt64 &&& Int64.toUInt64 63)).toInt64) &&& (3689348814741910323 : Int64))) + (((((a0 - (((a0.toUInt64 >>> ((1 : Int32).toInt64.toUInt64 &&& Int64.toUInt64 63)).toInt64) &&& (6148914691236517205 : Int64))) &&& (3689348814741910323 : Int64)) + ((((a0 - (((a0.toUInt64 >>> ((1 : Int32).toInt64.toUInt64 &&& Int64.toUInt64 63)).toInt64) &&& (6148914691236517205 : Int64))).toUInt64 >>> ((2 : Int32).toInt64.toUInt64 &&& Int64.toUInt64 63)).toInt64) &&& (3689348814741910323 : Int64))).toUInt64 >>> ((4 : Int32).toInt64.toUInt64 &&& Int64.toUInt64 63)).toInt64)) &&& (1085102592571150095 : Int64)) + (((((((a0 - (((a0.toUInt64 >>> ((1 : Int32).toInt64.toUInt64 &&& Int64.toUInt64 63)).toInt64) &&& (6148914691236517205 : Int64))) &&& (3689348814741910323 : Int64)) + ((((a0 - (((a0.toUInt64 >>> ((1 : Int32).toInt64.toUInt64 &&& Int64.toUInt64 63)).toInt64) &&& (6148914691236517205 : Int64))).toUInt64 >>> ((2 : Int32).toInt64.toUInt64 &&& Int64.toUInt64 63)).toInt64) &&& (3689348814741910323 : Int64))) + (((((a0 - (((a0.toUInt64 >>> ((1 : Int32).toInt64.toUInt64 &&& Int64.toUInt64 63)).toInt64) &&& (6148914691236517205 : Int64))) &&& (3689348814741910323 : Int64)) + ((((a0 - (((a0.toUInt64 >>> ((1 : Int32).toInt64.toUInt64 &&& Int64.toUInt64 63)).toInt64) &&& (6148914691236517205 : Int64))).toUInt64 >>> ((2 : Int32).toInt64.toUInt64 &&& Int64.toUInt64 63)).toInt64) &&& (3689348814741910323 : Int64))).toUInt64 >>> ((4 : Int32).toInt64.toUInt64 &&& Int64.toUInt64 63)).toInt64)) &&& (1085102592571150095 : Int64)).toUInt64 >>> ((8 : Int32).toInt64.toUInt64 &&& Int64.toUInt64 63)).toInt64)).toUInt64 >>> ((16 : Int32).toInt64.toUInt64 &&& Int64.toUInt64 63)).toInt64)).toUInt64 >>> ((32 : Int32).toInt64.toUInt64 &&& Int64.toUInt64 63)).toInt64)))]) rfl ?_
  refine kw_lload_n (pc := 55) B dJ21_bitCount_55 rfl 0 rfl ?_
  refine kw_l2i (pc := 56) B dJ21_bitCount_56 ?_
  refine kw_bipush (pc := 57) B dJ21_bitCount_57 (v := (127 : Int32)) rfl ?_
  refine kw_iand (pc := 59) B dJ21_bitCount_59 ?_
  exact kw_iret B dJ21_bitCount_60 rfl
theorem ct_J21_bitCount (a0 : Int64) (l : Launch) : kw_Met l yJ21_bitCount (ws_ yJ21_bitCount cJ21_bitCount 2 (some .int)) 1 0 [kJ a0] kw_eI (pm_J21_bitCount a0) := kw_met (plainFor_of_name rfl) (Nat.le_of_ble_eq_true rfl) (fun E B => wm_J21_bitCount B a0) l

/-! java/util/BitSet cardinality ()I -/

theorem wb_J3_cardinality_4 {E : kw_E} (B : kw_ok E cJ3_cardinality RJ3 "cardinality" 3 (some .int) 2 21 [])  : ∀ (n : Nat) (x0 : Option Nat) (x1 : Int32) (x2 : Int32), kw_W E kw_eI 4 [(0, kA x0), (1, kI x1), (2, kI x2)] [] (pb_J3_cardinality_4  n x0 x1 x2) := by
  intro n
  induction n with
  | zero =>
    intro x0 x1 x2
    exact kw_fail_ok
  | succ n ih =>
    intro x0 x1 x2
    show kw_W E kw_eI 4 [(0, kA x0), (1, kI x1), (2, kI x2)] [] (
km_bind (km_gI [(31, 1)] x0) fun i1 =>
if i1 ≤ x2 then
(km_pure x1)
else
(km_bind (km_gR [(31, 0)] x0) fun r2 =>
km_bind (km_ldJ r2 x2) fun j3 =>
km_bind (pm_J21_bitCount j3) fun i4 =>
pb_J3_cardinality_4 n x0 (x1 + i4) (x2 + (1 : Int32))))
    refine kw_iload_n (pc := 4) B dJ3_cardinality_4 rfl 2 rfl ?_
    refine kw_aload_n (pc := 5) B dJ3_cardinality_5 rfl 0 rfl ?_
    refine kw_gI (pc := 6) B dJ3_cardinality_6 fl_J3_7 (fun i1 => ?_)
    refine kw_icmp_ge (pc := 9) (tgt := 30) B dJ3_cardinality_9 rfl ?_ ?_
    · refine kw_iload_n (pc := 30) B dJ3_cardinality_30 rfl 1 rfl ?_
      exact kw_iret B dJ3_cardinality_31 rfl
    · refine kw_iload_n (pc := 12) B dJ3_cardinality_12 rfl 1 rfl ?_
      refine kw_aload_n (pc := 13) B dJ3_cardinality_13 rfl 0 rfl ?_
      refine kw_gR (pc := 14) B dJ3_cardinality_14 fl_J3_11 (fun r2 => ?_)
      refine kw_iload_n (pc := 17) B dJ3_cardinality_17 rfl 2 rfl ?_
      refine kw_lald (pc := 18) B dJ3_cardinality_18 (fun j3 => ?_)
      refine kw_callS (pc := 19) B dJ3_cardinality_19 (ct_J21_bitCount j3) q1914 q1915 q124 q1916 ⟨by decide, by decide, rfl⟩ (As := [kJ j3]) rfl (st := [kI x1]) rfl (Nat.le_of_ble_eq_true rfl) (by decide) (by decide) kw_qI (fun i4 => ?_)
      refine kw_iadd (pc := 22) B dJ3_cardinality_22 ?_
      refine kw_istore_n (pc := 23) B dJ3_cardinality_23 rfl (by decide) (L2 := [(1, kI (x1 + i4)), (0, kA x0), (2, kI x2)]) rfl ?_
      refine kw_iinc (pc := 24) B dJ3_cardinality_24 2 rfl (w := x2 + (1 : Int32)) rfl (by decide) (L2 := [(2, kI (x2 + (1 : Int32))), (1, kI (x1 + i4)), (0, kA x0)]) rfl ?_
      refine kw_goto (pc := 27) (tgt := 4) B dJ3_cardinality_27 rfl ?_
      exact kw_pick [2, 1, 0] rfl (ih x0 (x1 + i4) (x2 + (1 : Int32)))
theorem wm_J3_cardinality {E : kw_E} (B : kw_ok E cJ3_cardinality RJ3 "cardinality" 3 (some .int) 2 21 []) (a0 : Option Nat) : kw_W E kw_eI 0 [(0, kA a0)] [] (pm_J3_cardinality a0) := by
  unfold pm_J3_cardinality
  refine kw_iconst (pc := 0) B dJ3_cardinality_0 (v := (0 : Int32)) rfl ?_
  refine kw_istore_n (pc := 1) B dJ3_cardinality_1 rfl (by decide) (L2 := [(1, kI (0 : Int32)), (0, kA a0)]) rfl ?_
  refine kw_iconst (pc := 2) B dJ3_cardinality_2 (v := (0 : Int32)) rfl ?_
  refine kw_istore_n (pc := 3) B dJ3_cardinality_3 rfl (by decide) (L2 := [(2, kI (0 : Int32)), (1, kI (0 : Int32)), (0, kA a0)]) rfl ?_
  exact kw_pick [2, 1, 0] rfl (wb_J3_cardinality_4 B km_fuel a0 (0 : Int32) (0 : Int32))
theorem ct_J3_cardinality (a0 : Option Nat) (l : Launch) : kw_Met l yJ3_cardinality (ws_ yJ3_cardinality cJ3_cardinality 3 (some .int)) 2 21 [kA a0] kw_eI (pm_J3_cardinality a0) := kw_met (plainFor_of_name rfl) (Nat.le_of_ble_eq_true rfl) (fun E B => wm_J3_cardinality B a0) l

/-! RosaryCarvers isCounted ()Z -/
theorem fl_X0_306 : kw_flN RX0 306 "RosaryCarvers$Shop" "RosaryCarvers" [(1, 7)] := (kw_flN_c (C := RX1) (T := TX1) (N := 17) rfl (by decide) in_X1 q228 (Or.inl rfl) kw_flN_nil)
theorem fl_X0_314 : kw_flN RX0 314 "RosaryCarvers$Shop" "RosaryCarvers" [(1, 15)] := (kw_flN_c (C := RX1) (T := TX1) (N := 17) rfl (by decide) in_X1 q244 (Or.inl rfl) kw_flN_nil)
theorem fl_X0_316 : kw_flN RX0 316 "RosaryCarvers$Shop" "RosaryCarvers" [(1, 16)] := (kw_flN_c (C := RX1) (T := TX1) (N := 17) rfl (by decide) in_X1 q246 (Or.inl rfl) kw_flN_nil)
theorem fl_X0_319 : kw_flN RX0 319 "RosaryCarvers$Shop" "RosaryCarvers" [(1, 10)] := (kw_flN_c (C := RX1) (T := TX1) (N := 17) rfl (by decide) in_X1 q234 (Or.inl rfl) kw_flN_nil)
theorem wb_X0_isCounted_55 {E : kw_E} (B : kw_ok E cX0_isCounted RX0 "isCounted" 5 (some .boolean) 8 154 [])  : ∀ (n : Nat) (x0 : Option Nat) (x1 : Option Nat) (x2 : Int32) (x3 : Option Nat), kw_W E kw_eI 55 [(0, kA x0), (1, kA x1), (2, kI x2), (3, kA x3)] [] (pb_X0_isCounted_55  n x0 x1 x2 x3) := by
  intro n
  induction n with
  | zero =>
    intro x0 x1 x2 x3
    exact kw_fail_ok
  | succ n ih =>
    intro x0 x1 x2 x3
    show kw_W E kw_eI 55 [(0, kA x0), (1, kA x1), (2, kI x2), (3, kA x3)] [] (
km_bind (km_disp x3 [(11, pm_X12_hasNext x3), (33, pm_J5_hasNext x3), (34, pm_J15_hasNext x3)]) fun i1 =>
if i1 = 0 then
(km_bind (km_gR [(0, 0)] x0) fun r2 =>
km_bind (km_gR [(1, 7)] r2) fun r3 =>
km_bind (km_is 31 x1) fun _ => km_bind (pm_J3_or x1 r3) fun _ =>
km_bind (km_gR [(0, 0)] x0) fun r4 =>
km_bind (km_gI [(1, 15)] r4) fun i5 =>
km_bind (km_gR [(0, 0)] x0) fun r6 =>
km_bind (km_gI [(1, 16)] r6) fun i7 =>
km_bind (km_gR [(0, 0)] x0) fun r8 =>
km_bind (km_gI [(1, 10)] r8) fun i9 =>
if ¬ ((x2 + i5) + i7) = i9 then
(km_bind (km_ret .boolean (0 : Int32)) (fun v => km_pure v))
else
(km_bind (km_is 31 x1) fun _ => km_bind (pm_J3_cardinality x1) fun i10 =>
km_bind (km_gR [(0, 0)] x0) fun r11 =>
km_bind (km_gI [(1, 10)] r11) fun i12 =>
if ¬ i10 = i12 then
(km_bind (km_ret .boolean (0 : Int32)) (fun v => km_pure v))
else
(km_bind (km_gR [(0, 0)] x0) fun r13 =>
km_bind (km_gR [(1, 7)] r13) fun r14 =>
km_bind (km_is 31 r14) fun _ => km_bind (pm_J3_cardinality r14) fun i15 =>
km_bind (km_gR [(0, 0)] x0) fun r16 =>
km_bind (km_gI [(1, 15)] r16) fun i17 =>
km_bind (km_gR [(0, 0)] x0) fun r18 =>
km_bind (km_gI [(1, 16)] r18) fun i19 =>
if ¬ i15 = (i17 + i19) then
(km_bind (km_ret .boolean (0 : Int32)) (fun v => km_pure v))
else
(km_bind (km_ret .boolean (1 : Int32)) (fun v => km_pure v)))))
else
(km_bind (km_disp x3 [(11, pm_X12_next x3), (33, pm_J5_next x3), (34, pm_J15_next x3)]) fun r20 =>
km_bind (km_cast [14] r20) fun _ =>
km_bind (km_gI [(14, 0)] r20) fun i21 =>
km_bind (km_is 31 x1) fun _ => km_bind (pm_J3_set x1 i21) fun _ =>
pb_X0_isCounted_55 n x0 x1 (x2 + (1 : Int32)) x3))
    refine kw_aload_n (pc := 55) B dX0_isCounted_55 rfl 3 rfl ?_
    refine kw_disp (pc := 56) (pc' := 61) (st := []) kw_hI (fun i1 => ?_) ?_
    · refine kw_if_eq (pc := 61) (tgt := 90) B dX0_isCounted_61 rfl ?_ ?_
      · refine kw_aload_n (pc := 90) B dX0_isCounted_90 rfl 1 rfl ?_
        refine kw_aload_n (pc := 91) B dX0_isCounted_91 rfl 0 rfl ?_
        refine kw_gR (pc := 92) B dX0_isCounted_92 fl_X0_17 (fun r2 => ?_)
        refine kw_gRN (pc := 95) B dX0_isCounted_95 fl_X0_306 (fun r3 => ?_)
        refine kw_callV (pc := 98) B dX0_isCounted_98 (ci := 31) rfl (ct_J3_or x1 r3) q1909 q748 q749 q79 q750 ⟨by decide, by decide, rfl⟩ (As := [kA r3]) rfl (st := []) rfl (Nat.le_of_ble_eq_true rfl) (by decide) (by decide) kw_qV (fun _ => ?_)
        refine kw_iload_n (pc := 101) B dX0_isCounted_101 rfl 2 rfl ?_
        refine kw_aload_n (pc := 102) B dX0_isCounted_102 rfl 0 rfl ?_
        refine kw_gR (pc := 103) B dX0_isCounted_103 fl_X0_17 (fun r4 => ?_)
        refine kw_gIN (pc := 106) B dX0_isCounted_106 fl_X0_314 (fun i5 => ?_)
        refine kw_iadd (pc := 109) B dX0_isCounted_109 ?_
        refine kw_aload_n (pc := 110) B dX0_isCounted_110 rfl 0 rfl ?_
        refine kw_gR (pc := 111) B dX0_isCounted_111 fl_X0_17 (fun r6 => ?_)
        refine kw_gIN (pc := 114) B dX0_isCounted_114 fl_X0_316 (fun i7 => ?_)
        refine kw_iadd (pc := 117) B dX0_isCounted_117 ?_
        refine kw_aload_n (pc := 118) B dX0_isCounted_118 rfl 0 rfl ?_
        refine kw_gR (pc := 119) B dX0_isCounted_119 fl_X0_17 (fun r8 => ?_)
        refine kw_gIN (pc := 122) B dX0_isCounted_122 fl_X0_319 (fun i9 => ?_)
        refine kw_icmp_ne (pc := 125) (tgt := 174) B dX0_isCounted_125 rfl ?_ ?_
        · refine kw_iconst (pc := 174) B dX0_isCounted_174 (v := (0 : Int32)) rfl ?_
          exact kw_zret B dX0_isCounted_175 (g := fun v => v) (fun _ => rfl)
        · refine kw_aload_n (pc := 128) B dX0_isCounted_128 rfl 1 rfl ?_
          refine kw_callV (pc := 129) B dX0_isCounted_129 (ci := 31) rfl (ct_J3_cardinality x1) q1910 q1911 q1912 q79 q1913 ⟨by decide, by decide, rfl⟩ (As := []) rfl (st := []) rfl (Nat.le_of_ble_eq_true rfl) (by decide) (by decide) kw_qI (fun i10 => ?_)
          refine kw_aload_n (pc := 132) B dX0_isCounted_132 rfl 0 rfl ?_
          refine kw_gR (pc := 133) B dX0_isCounted_133 fl_X0_17 (fun r11 => ?_)
          refine kw_gIN (pc := 136) B dX0_isCounted_136 fl_X0_319 (fun i12 => ?_)
          refine kw_icmp_ne (pc := 139) (tgt := 174) B dX0_isCounted_139 rfl ?_ ?_
          · refine kw_iconst (pc := 174) B dX0_isCounted_174 (v := (0 : Int32)) rfl ?_
            exact kw_zret B dX0_isCounted_175 (g := fun v => v) (fun _ => rfl)
          · refine kw_aload_n (pc := 142) B dX0_isCounted_142 rfl 0 rfl ?_
            refine kw_gR (pc := 143) B dX0_isCounted_143 fl_X0_17 (fun r13 => ?_)
            refine kw_gRN (pc := 146) B dX0_isCounted_146 fl_X0_306 (fun r14 => ?_)
            refine kw_callV (pc := 149) B dX0_isCounted_149 (ci := 31) rfl (ct_J3_cardinality r14) q1910 q1911 q1912 q79 q1913 ⟨by decide, by decide, rfl⟩ (As := []) rfl (st := []) rfl (Nat.le_of_ble_eq_true rfl) (by decide) (by decide) kw_qI (fun i15 => ?_)
            refine kw_aload_n (pc := 152) B dX0_isCounted_152 rfl 0 rfl ?_
            refine kw_gR (pc := 153) B dX0_isCounted_153 fl_X0_17 (fun r16 => ?_)
            refine kw_gIN (pc := 156) B dX0_isCounted_156 fl_X0_314 (fun i17 => ?_)
            refine kw_aload_n (pc := 159) B dX0_isCounted_159 rfl 0 rfl ?_
            refine kw_gR (pc := 160) B dX0_isCounted_160 fl_X0_17 (fun r18 => ?_)
            refine kw_gIN (pc := 163) B dX0_isCounted_163 fl_X0_316 (fun i19 => ?_)
            refine kw_iadd (pc := 166) B dX0_isCounted_166 ?_
            refine kw_icmp_ne (pc := 167) (tgt := 174) B dX0_isCounted_167 rfl ?_ ?_
            · refine kw_iconst (pc := 174) B dX0_isCounted_174 (v := (0 : Int32)) rfl ?_
              exact kw_zret B dX0_isCounted_175 (g := fun v => v) (fun _ => rfl)
            · refine kw_iconst (pc := 170) B dX0_isCounted_170 (v := (1 : Int32)) rfl ?_
              refine kw_goto (pc := 171) (tgt := 175) B dX0_isCounted_171 rfl ?_
              exact kw_zret B dX0_isCounted_175 (g := fun v => v) (fun _ => rfl)
      · refine kw_aload_n (pc := 64) B dX0_isCounted_64 rfl 3 rfl ?_
        refine kw_disp (pc := 65) (pc' := 70) (st := []) kw_hA (fun r20 => ?_) ?_
        · refine kw_cast_ok (pc := 70) B dX0_isCounted_70 q1847 cs_RosaryCarvers_Bead ?_
          refine kw_astore (pc := 73) B dX0_isCounted_73 (by decide) (L2 := [(4, kA r20), (0, kA x0), (1, kA x1), (2, kI x2), (3, kA x3)]) rfl ?_
          refine kw_aload_n (pc := 75) B dX0_isCounted_75 rfl 2 rfl ?_
          refine kw_aload (pc := 76) B dX0_isCounted_76 0 rfl ?_
          refine kw_gIN (pc := 78) B dX0_isCounted_78 fl_X0_193 (fun i21 => ?_)
          refine kw_callV (pc := 81) B dX0_isCounted_81 (ci := 31) rfl (ct_J3_set x1 i21) q1908 q1092 q1093 q79 q1094 ⟨by decide, by decide, rfl⟩ (As := [kI i21]) rfl (st := []) rfl (Nat.le_of_ble_eq_true rfl) (by decide) (by decide) kw_qV (fun _ => ?_)
          refine kw_iinc (pc := 84) B dX0_isCounted_84 3 rfl (w := x2 + (1 : Int32)) rfl (by decide) (L2 := [(2, kI (x2 + (1 : Int32))), (4, kA r20), (0, kA x0), (1, kA x1), (3, kA x3)]) rfl ?_
          refine kw_goto (pc := 87) (tgt := 55) B dX0_isCounted_87 rfl ?_
          exact kw_pick [2, 3, 0, 4] rfl (ih x0 x1 (x2 + (1 : Int32)) x3)
        · intro q hq hk
          simp only [List.mem_cons, List.not_mem_nil, or_false] at hq
          rcases hq with rfl | rfl | rfl
          · exact kw_callF (pc := 65) B dX0_isCounted_65 (ci := 11) rfl (ct_X12_next x3) q1275 q425 q427 q101 q429 q424 q423 q428 q426 q399 ⟨by decide, by decide, rfl⟩ (As := []) rfl (st := []) rfl (Nat.le_of_ble_eq_true rfl) (by decide) (by decide) kw_qA hk
          · exact kw_callF (pc := 65) B dX0_isCounted_65 (ci := 33) rfl (ct_J5_next x3) q1275 q533 q535 q84 q537 q424 q423 q536 q534 q415 ⟨by decide, by decide, rfl⟩ (As := []) rfl (st := []) rfl (Nat.le_of_ble_eq_true rfl) (by decide) (by decide) kw_qA hk
          · exact kw_callF (pc := 65) B dX0_isCounted_65 (ci := 34) rfl (ct_J15_next x3) q1275 q522 q524 q102 q526 q424 q423 q525 q523 q409 ⟨by decide, by decide, rfl⟩ (As := []) rfl (st := []) rfl (Nat.le_of_ble_eq_true rfl) (by decide) (by decide) kw_qA hk
    · intro q hq hk
      simp only [List.mem_cons, List.not_mem_nil, or_false] at hq
      rcases hq with rfl | rfl | rfl
      · exact kw_callF (pc := 56) B dX0_isCounted_56 (ci := 11) rfl (ct_X12_hasNext x3) q1273 q400 q402 q101 q404 q398 q397 q403 q401 q399 ⟨by decide, by decide, rfl⟩ (As := []) rfl (st := []) rfl (Nat.le_of_ble_eq_true rfl) (by decide) (by decide) kw_qI hk
      · exact kw_callF (pc := 56) B dX0_isCounted_56 (ci := 33) rfl (ct_J5_hasNext x3) q1273 q416 q418 q84 q420 q398 q397 q419 q417 q415 ⟨by decide, by decide, rfl⟩ (As := []) rfl (st := []) rfl (Nat.le_of_ble_eq_true rfl) (by decide) (by decide) kw_qI hk
      · exact kw_callF (pc := 56) B dX0_isCounted_56 (ci := 34) rfl (ct_J15_hasNext x3) q1273 q410 q412 q102 q414 q398 q397 q413 q411 q409 ⟨by decide, by decide, rfl⟩ (As := []) rfl (st := []) rfl (Nat.le_of_ble_eq_true rfl) (by decide) (by decide) kw_qI hk
theorem wm_X0_isCounted {E : kw_E} (B : kw_ok E cX0_isCounted RX0 "isCounted" 5 (some .boolean) 8 154 []) (a0 : Option Nat) : kw_W E kw_eI 0 [(0, kA a0)] [] (pm_X0_isCounted a0) := by
  unfold pm_X0_isCounted
  refine kw_new (pc := 0) B dX0_isCounted_0 (ci := 31) (N := 3) rfl in_J3 tyJ3_ok kz_BS_ok q1901 q190 q79 (fun r1 => ?_)
  refine kw_dup (pc := 3) B dX0_isCounted_3 rfl ?_
  refine kw_callI (pc := 4) B dX0_isCounted_4 (ct_J3_init r1) q1902 q192 q79 q193 rfl ⟨by decide, by decide, rfl⟩ (As := []) rfl (st := [kA r1]) rfl (Nat.le_of_ble_eq_true rfl) (by decide) (by decide) kw_qV (fun _ => ?_)
  refine kw_astore_n (pc := 7) B dX0_isCounted_7 rfl (by decide) (L2 := [(1, kA r1), (0, kA a0)]) rfl ?_
  refine kw_aload_n (pc := 8) B dX0_isCounted_8 rfl 0 rfl ?_
  refine kw_aload_n (pc := 9) B dX0_isCounted_9 rfl 1 rfl ?_
  refine kw_gR (pc := 10) B dX0_isCounted_10 fl_X0_17 (fun r2 => ?_)
  refine kw_gRN (pc := 13) B dX0_isCounted_13 fl_X0_217 (fun r3 => ?_)
  refine kw_callS (pc := 16) B dX0_isCounted_16 (ct_X0_marks r1 r3) q1903 q1904 q73 q1905 ⟨by decide, by decide, rfl⟩ (As := [kA r1, kA r3]) rfl (st := []) rfl (Nat.le_of_ble_eq_true rfl) (by decide) (by decide) kw_qI (fun i4 => ?_)
  refine kw_aload_n (pc := 19) B dX0_isCounted_19 rfl 0 rfl ?_
  refine kw_aload_n (pc := 20) B dX0_isCounted_20 rfl 1 rfl ?_
  refine kw_gR (pc := 21) B dX0_isCounted_21 fl_X0_17 (fun r5 => ?_)
  refine kw_gRN (pc := 24) B dX0_isCounted_24 fl_X0_268 (fun r6 => ?_)
  refine kw_callS (pc := 27) B dX0_isCounted_27 (ct_X0_marks r1 r6) q1903 q1904 q73 q1905 ⟨by decide, by decide, rfl⟩ (As := [kA r1, kA r6]) rfl (st := [kI i4]) rfl (Nat.le_of_ble_eq_true rfl) (by decide) (by decide) kw_qI (fun i7 => ?_)
  refine kw_iadd (pc := 30) B dX0_isCounted_30 ?_
  refine kw_aload_n (pc := 31) B dX0_isCounted_31 rfl 0 rfl ?_
  refine kw_aload_n (pc := 32) B dX0_isCounted_32 rfl 1 rfl ?_
  refine kw_gR (pc := 33) B dX0_isCounted_33 fl_X0_17 (fun r8 => ?_)
  refine kw_gRN (pc := 36) B dX0_isCounted_36 fl_X0_265 (fun r9 => ?_)
  refine kw_callS (pc := 39) B dX0_isCounted_39 (ct_X0_marks r1 r9) q1903 q1904 q73 q1905 ⟨by decide, by decide, rfl⟩ (As := [kA r1, kA r9]) rfl (st := [kI (i4 + i7)]) rfl (Nat.le_of_ble_eq_true rfl) (by decide) (by decide) kw_qI (fun i10 => ?_)
  refine kw_iadd (pc := 42) B dX0_isCounted_42 ?_
  refine kw_istore_n (pc := 43) B dX0_isCounted_43 rfl (by decide) (L2 := [(2, kI ((i4 + i7) + i10)), (1, kA r1), (0, kA a0)]) rfl ?_
  refine kw_aload_n (pc := 44) B dX0_isCounted_44 rfl 2 rfl ?_
  refine kw_gR (pc := 45) B dX0_isCounted_45 fl_X0_17 (fun r11 => ?_)
  refine kw_gRN (pc := 48) B dX0_isCounted_48 fl_X0_169 (fun r12 => ?_)
  refine kw_disp (pc := 51) (pc' := 54) (st := []) kw_hA (fun r13 => ?_) ?_
  · refine kw_astore_n (pc := 54) B dX0_isCounted_54 rfl (by decide) (L2 := [(3, kA r13), (2, kI ((i4 + i7) + i10)), (1, kA r1), (0, kA a0)]) rfl ?_
    exact kw_pick [3, 2, 1, 0] rfl (wb_X0_isCounted_55 B km_fuel a0 r1 ((i4 + i7) + i10) r13)
  · intro q hq hk
    simp only [List.mem_cons, List.not_mem_nil, or_false] at hq
    rcases hq with rfl | rfl | rfl
    · exact kw_callV (pc := 51) B dX0_isCounted_51 (ci := 2) rfl (ct_X2_iterator r12) q1907 q908 q2796 q78 q910 ⟨by decide, by decide, rfl⟩ (As := []) rfl (st := []) rfl (Nat.le_of_ble_eq_true rfl) (by decide) (by decide) kw_qA hk
    · exact kw_callV (pc := 51) B dX0_isCounted_51 (ci := 7) rfl (ct_X2_iterator r12) q1907 q908 q2797 q78 q910 ⟨by decide, by decide, rfl⟩ (As := []) rfl (st := []) rfl (Nat.le_of_ble_eq_true rfl) (by decide) (by decide) kw_qA hk
    · exact kw_callV (pc := 51) B dX0_isCounted_51 (ci := 12) rfl (ct_X2_iterator r12) q1907 q908 q2798 q78 q910 ⟨by decide, by decide, rfl⟩ (As := []) rfl (st := []) rfl (Nat.le_of_ble_eq_true rfl) (by decide) (by decide) kw_qA hk
theorem ct_X0_isCounted (a0 : Option Nat) (l : Launch) : kw_Met l yX0_isCounted (ws_ yX0_isCounted cX0_isCounted 5 (some .boolean)) 8 154 [kA a0] kw_eI (pm_X0_isCounted a0) := kw_met (plainFor_of_name rfl) (Nat.le_of_ble_eq_true rfl) (fun E B => wm_X0_isCounted B a0) l

/-! RosaryCarversModel onStrings ()I -/

theorem wb_X3_onStrings_4 {E : kw_E} (B : kw_ok E cX3_onStrings RX3 "onStrings" 3 (some .int) 3 43 [])  : ∀ (n : Nat) (x0 : Option Nat) (x1 : Int32) (x2 : Int32), kw_W E kw_eI 4 [(0, kA x0), (1, kI x1), (2, kI x2)] [] (pb_X3_onStrings_4  n x0 x1 x2) := by
  intro n
  induction n with
  | zero =>
    intro x0 x1 x2
    exact kw_fail_ok
  | succ n ih =>
    intro x0 x1 x2
    show kw_W E kw_eI 4 [(0, kA x0), (1, kI x1), (2, kI x2)] [] (
km_bind (km_gR [(3, 0)] x0) fun r1 =>
km_bind (km_ldI 0 r1 (12 : Int32)) fun i2 =>
if i2 ≤ x2 then
(km_pure x1)
else
(km_bind (km_is 3 x0) fun _ => km_bind (pm_X3_ofString x0 x2 (3 : Int32)) fun i3 =>
pb_X3_onStrings_4 n x0 (x1 + i3) (x2 + (1 : Int32))))
    refine kw_iload_n (pc := 4) B dX3_onStrings_4 rfl 2 rfl ?_
    refine kw_aload_n (pc := 5) B dX3_onStrings_5 rfl 0 rfl ?_
    refine kw_gR (pc := 6) B dX3_onStrings_6 fl_X3_9 (fun r1 => ?_)
    refine kw_bipush (pc := 9) B dX3_onStrings_9 (v := (12 : Int32)) rfl ?_
    refine kw_iald (pc := 11) B dX3_onStrings_11 (fun i2 => ?_)
    refine kw_icmp_ge (pc := 12) (tgt := 30) B dX3_onStrings_12 rfl ?_ ?_
    · refine kw_iload_n (pc := 30) B dX3_onStrings_30 rfl 1 rfl ?_
      exact kw_iret B dX3_onStrings_31 rfl
    · refine kw_iload_n (pc := 15) B dX3_onStrings_15 rfl 1 rfl ?_
      refine kw_aload_n (pc := 16) B dX3_onStrings_16 rfl 0 rfl ?_
      refine kw_iload_n (pc := 17) B dX3_onStrings_17 rfl 2 rfl ?_
      refine kw_iconst (pc := 18) B dX3_onStrings_18 (v := (3 : Int32)) rfl ?_
      refine kw_callV (pc := 19) B dX3_onStrings_19 (ci := 3) rfl (ct_X3_ofString x0 x2 (3 : Int32)) q2543 q2545 qs42 q81 q2546 ⟨by decide, by decide, rfl⟩ (As := [kI x2, kI (3 : Int32)]) rfl (st := [kI x1]) rfl (Nat.le_of_ble_eq_true rfl) (by decide) (by decide) kw_qI (fun i3 => ?_)
      refine kw_iadd (pc := 22) B dX3_onStrings_22 ?_
      refine kw_istore_n (pc := 23) B dX3_onStrings_23 rfl (by decide) (L2 := [(1, kI (x1 + i3)), (0, kA x0), (2, kI x2)]) rfl ?_
      refine kw_iinc (pc := 24) B dX3_onStrings_24 2 rfl (w := x2 + (1 : Int32)) rfl (by decide) (L2 := [(2, kI (x2 + (1 : Int32))), (1, kI (x1 + i3)), (0, kA x0)]) rfl ?_
      refine kw_goto (pc := 27) (tgt := 4) B dX3_onStrings_27 rfl ?_
      exact kw_pick [2, 1, 0] rfl (ih x0 (x1 + i3) (x2 + (1 : Int32)))
theorem wm_X3_onStrings {E : kw_E} (B : kw_ok E cX3_onStrings RX3 "onStrings" 3 (some .int) 3 43 []) (a0 : Option Nat) : kw_W E kw_eI 0 [(0, kA a0)] [] (pm_X3_onStrings a0) := by
  unfold pm_X3_onStrings
  refine kw_iconst (pc := 0) B dX3_onStrings_0 (v := (0 : Int32)) rfl ?_
  refine kw_istore_n (pc := 1) B dX3_onStrings_1 rfl (by decide) (L2 := [(1, kI (0 : Int32)), (0, kA a0)]) rfl ?_
  refine kw_iconst (pc := 2) B dX3_onStrings_2 (v := (0 : Int32)) rfl ?_
  refine kw_istore_n (pc := 3) B dX3_onStrings_3 rfl (by decide) (L2 := [(2, kI (0 : Int32)), (1, kI (0 : Int32)), (0, kA a0)]) rfl ?_
  exact kw_pick [2, 1, 0] rfl (wb_X3_onStrings_4 B km_fuel a0 (0 : Int32) (0 : Int32))
theorem ct_X3_onStrings (a0 : Option Nat) (l : Launch) : kw_Met l yX3_onStrings (ws_ yX3_onStrings cX3_onStrings 3 (some .int)) 3 43 [kA a0] kw_eI (pm_X3_onStrings a0) := kw_met (plainFor_of_name rfl) (Nat.le_of_ble_eq_true rfl) (fun E B => wm_X3_onStrings B a0) l

/-! RosaryCarversModel sold (II)I -/

theorem wb_X3_sold_5 {E : kw_E} (B : kw_ok E cX3_sold RX3 "sold" 5 (some .int) 1 0 [])  : ∀ (n : Nat) (x0 : Option Nat) (x1 : Int32) (x2 : Int32) (x3 : Int32) (x4 : Int32), kw_W E kw_eI 5 [(0, kA x0), (1, kI x1), (2, kI x2), (3, kI x3), (4, kI x4)] [] (pb_X3_sold_5  n x0 x1 x2 x3 x4) := by
  intro n
  induction n with
  | zero =>
    intro x0 x1 x2 x3 x4
    exact kw_fail_ok
  | succ n ih =>
    intro x0 x1 x2 x3 x4
    show kw_W E kw_eI 5 [(0, kA x0), (1, kI x1), (2, kI x2), (3, kI x3), (4, kI x4)] [] (
if x2 ≤ x4 then
(km_pure x3)
else
(km_bind (km_gR [(3, 0)] x0) fun r1 =>
km_bind (km_ldI 0 r1 ((x1 + ((5 : Int32) * x4)) + (1 : Int32))) fun i2 =>
pb_X3_sold_5 n x0 x1 x2 (x3 + i2) (x4 + (1 : Int32))))
    refine kw_iload (pc := 5) B dX3_sold_5 4 rfl ?_
    refine kw_iload_n (pc := 7) B dX3_sold_7 rfl 2 rfl ?_
    refine kw_icmp_ge (pc := 8) (tgt := 33) B dX3_sold_8 rfl ?_ ?_
    · refine kw_iload_n (pc := 33) B dX3_sold_33 rfl 3 rfl ?_
      exact kw_iret B dX3_sold_34 rfl
    · refine kw_iload_n (pc := 11) B dX3_sold_11 rfl 3 rfl ?_
      refine kw_aload_n (pc := 12) B dX3_sold_12 rfl 0 rfl ?_
      refine kw_gR (pc := 13) B dX3_sold_13 fl_X3_9 (fun r1 => ?_)
      refine kw_iload_n (pc := 16) B dX3_sold_16 rfl 1 rfl ?_
      refine kw_iconst (pc := 17) B dX3_sold_17 (v := (5 : Int32)) rfl ?_
      refine kw_iload (pc := 18) B dX3_sold_18 4 rfl ?_
      refine kw_imul (pc := 20) B dX3_sold_20 ?_
      refine kw_iadd (pc := 21) B dX3_sold_21 ?_
      refine kw_iconst (pc := 22) B dX3_sold_22 (v := (1 : Int32)) rfl ?_
      refine kw_iadd (pc := 23) B dX3_sold_23 ?_
      refine kw_iald (pc := 24) B dX3_sold_24 (fun i2 => ?_)
      refine kw_iadd (pc := 25) B dX3_sold_25 ?_
      refine kw_istore_n (pc := 26) B dX3_sold_26 rfl (by decide) (L2 := [(3, kI (x3 + i2)), (0, kA x0), (1, kI x1), (2, kI x2), (4, kI x4)]) rfl ?_
      refine kw_iinc (pc := 27) B dX3_sold_27 4 rfl (w := x4 + (1 : Int32)) rfl (by decide) (L2 := [(4, kI (x4 + (1 : Int32))), (3, kI (x3 + i2)), (0, kA x0), (1, kI x1), (2, kI x2)]) rfl ?_
      refine kw_goto (pc := 30) (tgt := 5) B dX3_sold_30 rfl ?_
      exact kw_pick [2, 3, 4, 1, 0] rfl (ih x0 x1 x2 (x3 + i2) (x4 + (1 : Int32)))
theorem wm_X3_sold {E : kw_E} (B : kw_ok E cX3_sold RX3 "sold" 5 (some .int) 1 0 []) (a0 : Option Nat) (a1 : Int32) (a2 : Int32) : kw_W E kw_eI 0 [(0, kA a0), (1, kI a1), (2, kI a2)] [] (pm_X3_sold a0 a1 a2) := by
  unfold pm_X3_sold
  refine kw_iconst (pc := 0) B dX3_sold_0 (v := (0 : Int32)) rfl ?_
  refine kw_istore_n (pc := 1) B dX3_sold_1 rfl (by decide) (L2 := [(3, kI (0 : Int32)), (0, kA a0), (1, kI a1), (2, kI a2)]) rfl ?_
  refine kw_iconst (pc := 2) B dX3_sold_2 (v := (0 : Int32)) rfl ?_
  refine kw_istore (pc := 3) B dX3_sold_3 (by decide) (L2 := [(4, kI (0 : Int32)), (3, kI (0 : Int32)), (0, kA a0), (1, kI a1), (2, kI a2)]) rfl ?_
  exact kw_pick [2, 3, 4, 1, 0] rfl (wb_X3_sold_5 B km_fuel a0 a1 a2 (0 : Int32) (0 : Int32))
theorem ct_X3_sold (a0 : Option Nat) (a1 : Int32) (a2 : Int32) (l : Launch) : kw_Met l yX3_sold (ws_ yX3_sold cX3_sold 5 (some .int)) 1 0 [kA a0, kI a1, kI a2] kw_eI (pm_X3_sold a0 a1 a2) := kw_met (plainFor_of_name rfl) (Nat.le_of_ble_eq_true rfl) (fun E B => wm_X3_sold B a0 a1 a2) l

/-! RosaryCarversModel isCounted ()Z -/

theorem wm_X3_isCounted {E : kw_E} (B : kw_ok E cX3_isCounted RX3 "isCounted" 1 (some .boolean) 4 65 []) (a0 : Option Nat) : kw_W E kw_eI 0 [(0, kA a0)] [] (pm_X3_isCounted a0) := by
  unfold pm_X3_isCounted
  refine kw_aload_n (pc := 0) B dX3_isCounted_0 rfl 0 rfl ?_
  refine kw_gR (pc := 1) B dX3_isCounted_1 fl_X3_9 (fun r1 => ?_)
  refine kw_iconst (pc := 4) B dX3_isCounted_4 (v := (2 : Int32)) rfl ?_
  refine kw_iald (pc := 5) B dX3_isCounted_5 (fun i2 => ?_)
  refine kw_aload_n (pc := 6) B dX3_isCounted_6 rfl 0 rfl ?_
  refine kw_gR (pc := 7) B dX3_isCounted_7 fl_X3_9 (fun r3 => ?_)
  refine kw_bipush (pc := 10) B dX3_isCounted_10 (v := (11 : Int32)) rfl ?_
  refine kw_iald (pc := 12) B dX3_isCounted_12 (fun i4 => ?_)
  refine kw_aload_n (pc := 13) B dX3_isCounted_13 rfl 0 rfl ?_
  refine kw_callV (pc := 14) B dX3_isCounted_14 (ci := 3) rfl (ct_X3_onStrings a0) q2684 q2686 qs60 q81 q2687 ⟨by decide, by decide, rfl⟩ (As := []) rfl (st := [kI i4, kI i2]) rfl (Nat.le_of_ble_eq_true rfl) (by decide) (by decide) kw_qI (fun i5 => ?_)
  refine kw_iadd (pc := 17) B dX3_isCounted_17 ?_
  refine kw_aload_n (pc := 18) B dX3_isCounted_18 rfl 0 rfl ?_
  refine kw_sipush (pc := 19) B dX3_isCounted_19 (v := (1148 : Int32)) rfl ?_
  refine kw_aload_n (pc := 22) B dX3_isCounted_22 rfl 0 rfl ?_
  refine kw_gR (pc := 23) B dX3_isCounted_23 fl_X3_9 (fun r6 => ?_)
  refine kw_bipush (pc := 26) B dX3_isCounted_26 (v := (14 : Int32)) rfl ?_
  refine kw_iald (pc := 28) B dX3_isCounted_28 (fun i7 => ?_)
  refine kw_callV (pc := 29) B dX3_isCounted_29 (ci := 3) rfl (ct_X3_sold a0 (1148 : Int32) i7) q2688 q2690 qs61 q81 q2691 ⟨by decide, by decide, rfl⟩ (As := [kI (1148 : Int32), kI i7]) rfl (st := [kI (i4 + i5), kI i2]) rfl (Nat.le_of_ble_eq_true rfl) (by decide) (by decide) kw_qI (fun i8 => ?_)
  refine kw_iadd (pc := 32) B dX3_isCounted_32 ?_
  refine kw_aload_n (pc := 33) B dX3_isCounted_33 rfl 0 rfl ?_
  refine kw_sipush (pc := 34) B dX3_isCounted_34 (v := (1188 : Int32)) rfl ?_
  refine kw_aload_n (pc := 37) B dX3_isCounted_37 rfl 0 rfl ?_
  refine kw_gR (pc := 38) B dX3_isCounted_38 fl_X3_9 (fun r9 => ?_)
  refine kw_bipush (pc := 41) B dX3_isCounted_41 (v := (15 : Int32)) rfl ?_
  refine kw_iald (pc := 43) B dX3_isCounted_43 (fun i10 => ?_)
  refine kw_callV (pc := 44) B dX3_isCounted_44 (ci := 3) rfl (ct_X3_sold a0 (1188 : Int32) i10) q2688 q2690 qs61 q81 q2691 ⟨by decide, by decide, rfl⟩ (As := [kI (1188 : Int32), kI i10]) rfl (st := [kI ((i4 + i5) + i8), kI i2]) rfl (Nat.le_of_ble_eq_true rfl) (by decide) (by decide) kw_qI (fun i11 => ?_)
  refine kw_iadd (pc := 47) B dX3_isCounted_47 ?_
  refine kw_aload_n (pc := 48) B dX3_isCounted_48 rfl 0 rfl ?_
  refine kw_gR (pc := 49) B dX3_isCounted_49 fl_X3_9 (fun r12 => ?_)
  refine kw_bipush (pc := 52) B dX3_isCounted_52 (v := (7 : Int32)) rfl ?_
  refine kw_iald (pc := 54) B dX3_isCounted_54 (fun i13 => ?_)
  refine kw_iadd (pc := 55) B dX3_isCounted_55 ?_
  refine kw_aload_n (pc := 56) B dX3_isCounted_56 rfl 0 rfl ?_
  refine kw_gR (pc := 57) B dX3_isCounted_57 fl_X3_9 (fun r14 => ?_)
  refine kw_bipush (pc := 60) B dX3_isCounted_60 (v := (8 : Int32)) rfl ?_
  refine kw_iald (pc := 62) B dX3_isCounted_62 (fun i15 => ?_)
  refine kw_iadd (pc := 63) B dX3_isCounted_63 ?_
  refine kw_icmp_ne (pc := 64) (tgt := 71) B dX3_isCounted_64 rfl ?_ ?_
  · refine kw_iconst (pc := 71) B dX3_isCounted_71 (v := (0 : Int32)) rfl ?_
    exact kw_zret B dX3_isCounted_72 (g := fun v => v) (fun _ => rfl)
  · refine kw_iconst (pc := 67) B dX3_isCounted_67 (v := (1 : Int32)) rfl ?_
    refine kw_goto (pc := 68) (tgt := 72) B dX3_isCounted_68 rfl ?_
    exact kw_zret B dX3_isCounted_72 (g := fun v => v) (fun _ => rfl)
theorem ct_X3_isCounted (a0 : Option Nat) (l : Launch) : kw_Met l yX3_isCounted (ws_ yX3_isCounted cX3_isCounted 1 (some .boolean)) 4 65 [kA a0] kw_eI (pm_X3_isCounted a0) := kw_met (plainFor_of_name rfl) (Nat.le_of_ble_eq_true rfl) (fun E B => wm_X3_isCounted B a0) l

/-! RosaryCarvers meanFineness ()D -/

theorem wm_X0_meanFineness {E : kw_E} (B : kw_ok E cX0_meanFineness RX0 "meanFineness" 2 (some .double) 9 171 []) (a0 : Option Nat) : kw_W E kw_eD 0 [(0, kA a0)] [] (pm_X0_meanFineness a0) := by
  unfold pm_X0_meanFineness
  refine kw_aload_n (pc := 0) B dX0_meanFineness_0 rfl 0 rfl ?_
  refine kw_gR (pc := 1) B dX0_meanFineness_1 fl_X0_17 (fun r1 => ?_)
  refine kw_gRN (pc := 4) B dX0_meanFineness_4 fl_X0_169 (fun r2 => ?_)
  refine kw_disp (pc := 7) (pc' := 10) (st := []) kw_hI (fun i3 => ?_) ?_
  · refine kw_istore_n (pc := 10) B dX0_meanFineness_10 rfl (by decide) (L2 := [(1, kI i3), (0, kA a0)]) rfl ?_
    refine kw_iload_n (pc := 11) B dX0_meanFineness_11 rfl 0 rfl ?_
    refine kw_if_ne (pc := 12) (tgt := 19) B dX0_meanFineness_12 rfl ?_ ?_
    · refine kw_aload_n (pc := 19) B dX0_meanFineness_19 rfl 1 rfl ?_
      refine kw_gR (pc := 20) B dX0_meanFineness_20 fl_X0_17 (fun r4 => ?_)
      refine kw_gRN (pc := 23) B dX0_meanFineness_23 fl_X0_169 (fun r5 => ?_)
      refine kw_disp (pc := 26) (pc' := 29) (st := []) kw_hI (fun i6 => ?_) ?_
      · refine kw_i2d (pc := 29) B dX0_meanFineness_29 ?_
        refine kw_iload_n (pc := 30) B dX0_meanFineness_30 rfl 0 rfl ?_
        refine kw_i2d (pc := 31) B dX0_meanFineness_31 ?_
        refine kw_ddiv (pc := 32) B dX0_meanFineness_32 (fun d7 => ?_)
        exact kw_dret B dX0_meanFineness_33 rfl
      · intro q hq hk
        simp only [List.mem_cons, List.not_mem_nil, or_false] at hq
        rcases hq with rfl | rfl | rfl
        · exact kw_callV (pc := 26) B dX0_meanFineness_26 (ci := 2) rfl (ct_X2_sum r5) q1925 q1139 q1140 q78 q1144 ⟨by decide, by decide, rfl⟩ (As := []) rfl (st := []) rfl (Nat.le_of_ble_eq_true rfl) (by decide) (by decide) kw_qI hk
        · exact kw_callV (pc := 26) B dX0_meanFineness_26 (ci := 7) rfl (ct_X2_sum r5) q1925 q1139 q1142 q78 q1144 ⟨by decide, by decide, rfl⟩ (As := []) rfl (st := []) rfl (Nat.le_of_ble_eq_true rfl) (by decide) (by decide) kw_qI hk
        · exact kw_callV (pc := 26) B dX0_meanFineness_26 (ci := 12) rfl (ct_X2_sum r5) q1925 q1139 q1143 q78 q1144 ⟨by decide, by decide, rfl⟩ (As := []) rfl (st := []) rfl (Nat.le_of_ble_eq_true rfl) (by decide) (by decide) kw_qI hk
    · refine kw_dconst0 (pc := 15) B dX0_meanFineness_15 ?_
      refine kw_goto (pc := 16) (tgt := 33) B dX0_meanFineness_16 rfl ?_
      exact kw_dret B dX0_meanFineness_33 rfl
  · intro q hq hk
    simp only [List.mem_cons, List.not_mem_nil, or_false] at hq
    rcases hq with rfl | rfl | rfl
    · exact kw_callV (pc := 7) B dX0_meanFineness_7 (ci := 2) rfl (ct_X2_size r2) q1924 q1108 q2786 q78 q1109 ⟨by decide, by decide, rfl⟩ (As := []) rfl (st := []) rfl (Nat.le_of_ble_eq_true rfl) (by decide) (by decide) kw_qI hk
    · exact kw_callV (pc := 7) B dX0_meanFineness_7 (ci := 7) rfl (ct_X2_size r2) q1924 q1108 q2787 q78 q1109 ⟨by decide, by decide, rfl⟩ (As := []) rfl (st := []) rfl (Nat.le_of_ble_eq_true rfl) (by decide) (by decide) kw_qI hk
    · exact kw_callV (pc := 7) B dX0_meanFineness_7 (ci := 12) rfl (ct_X2_size r2) q1924 q1108 q2788 q78 q1109 ⟨by decide, by decide, rfl⟩ (As := []) rfl (st := []) rfl (Nat.le_of_ble_eq_true rfl) (by decide) (by decide) kw_qI hk
theorem ct_X0_meanFineness (a0 : Option Nat) (l : Launch) : kw_Met l yX0_meanFineness (ws_ yX0_meanFineness cX0_meanFineness 2 (some .double)) 9 171 [kA a0] kw_eD (pm_X0_meanFineness a0) := kw_met (plainFor_of_name rfl) (Nat.le_of_ble_eq_true rfl) (fun E B => wm_X0_meanFineness B a0) l

/-! RosaryCarversModel meanFineness ()D -/

theorem wm_X3_meanFineness {E : kw_E} (B : kw_ok E cX3_meanFineness RX3 "meanFineness" 2 (some .double) 3 46 []) (a0 : Option Nat) : kw_W E kw_eD 0 [(0, kA a0)] [] (pm_X3_meanFineness a0) := by
  unfold pm_X3_meanFineness
  refine kw_aload_n (pc := 0) B dX3_meanFineness_0 rfl 0 rfl ?_
  refine kw_iconst (pc := 1) B dX3_meanFineness_1 (v := (1 : Int32)) rfl ?_
  refine kw_iconst (pc := 2) B dX3_meanFineness_2 (v := (1 : Int32)) rfl ?_
  refine kw_callV (pc := 3) B dX3_meanFineness_3 (ci := 3) rfl (ct_X3_box a0 (1 : Int32) (1 : Int32)) q2675 q2509 q2510 q81 q2511 ⟨by decide, by decide, rfl⟩ (As := [kI (1 : Int32), kI (1 : Int32)]) rfl (st := []) rfl (Nat.le_of_ble_eq_true rfl) (by decide) (by decide) kw_qI (fun i1 => ?_)
  refine kw_aload_n (pc := 6) B dX3_meanFineness_6 rfl 0 rfl ?_
  refine kw_iconst (pc := 7) B dX3_meanFineness_7 (v := (0 : Int32)) rfl ?_
  refine kw_iconst (pc := 8) B dX3_meanFineness_8 (v := (1 : Int32)) rfl ?_
  refine kw_callV (pc := 9) B dX3_meanFineness_9 (ci := 3) rfl (ct_X3_box a0 (0 : Int32) (1 : Int32)) q2675 q2509 q2510 q81 q2511 ⟨by decide, by decide, rfl⟩ (As := [kI (0 : Int32), kI (1 : Int32)]) rfl (st := [kI i1]) rfl (Nat.le_of_ble_eq_true rfl) (by decide) (by decide) kw_qI (fun i2 => ?_)
  refine kw_iadd (pc := 12) B dX3_meanFineness_12 ?_
  refine kw_istore_n (pc := 13) B dX3_meanFineness_13 rfl (by decide) (L2 := [(1, kI (i1 + i2)), (0, kA a0)]) rfl ?_
  refine kw_aload_n (pc := 14) B dX3_meanFineness_14 rfl 1 rfl ?_
  refine kw_gR (pc := 15) B dX3_meanFineness_15 fl_X3_9 (fun r3 => ?_)
  refine kw_bipush (pc := 18) B dX3_meanFineness_18 (v := (11 : Int32)) rfl ?_
  refine kw_iald (pc := 20) B dX3_meanFineness_20 (fun i4 => ?_)
  refine kw_if_ne (pc := 21) (tgt := 28) B dX3_meanFineness_21 rfl ?_ ?_
  · refine kw_iload_n (pc := 28) B dX3_meanFineness_28 rfl 0 rfl ?_
    refine kw_i2d (pc := 29) B dX3_meanFineness_29 ?_
    refine kw_aload_n (pc := 30) B dX3_meanFineness_30 rfl 1 rfl ?_
    refine kw_gR (pc := 31) B dX3_meanFineness_31 fl_X3_9 (fun r5 => ?_)
    refine kw_bipush (pc := 34) B dX3_meanFineness_34 (v := (11 : Int32)) rfl ?_
    refine kw_iald (pc := 36) B dX3_meanFineness_36 (fun i6 => ?_)
    refine kw_i2d (pc := 37) B dX3_meanFineness_37 ?_
    refine kw_ddiv (pc := 38) B dX3_meanFineness_38 (fun d7 => ?_)
    exact kw_dret B dX3_meanFineness_39 rfl
  · refine kw_dconst0 (pc := 24) B dX3_meanFineness_24 ?_
    refine kw_goto (pc := 25) (tgt := 39) B dX3_meanFineness_25 rfl ?_
    exact kw_dret B dX3_meanFineness_39 rfl
theorem ct_X3_meanFineness (a0 : Option Nat) (l : Launch) : kw_Met l yX3_meanFineness (ws_ yX3_meanFineness cX3_meanFineness 2 (some .double)) 3 46 [kA a0] kw_eD (pm_X3_meanFineness a0) := kw_met (plainFor_of_name rfl) (Nat.le_of_ble_eq_true rfl) (fun E B => wm_X3_meanFineness B a0) l

/-! RosaryCarvers spoilt ()F -/
theorem fl_X0_325 : kw_flN RX0 325 "RosaryCarvers$Shop" "RosaryCarvers" [(1, 11)] := (kw_flN_c (C := RX1) (T := TX1) (N := 17) rfl (by decide) in_X1 q236 (Or.inl rfl) kw_flN_nil)
theorem wm_X0_spoilt {E : kw_E} (B : kw_ok E cX0_spoilt RX0 "spoilt" 2 (some .float) 1 0 []) (a0 : Option Nat) : kw_W E kw_eF 0 [(0, kA a0)] [] (pm_X0_spoilt a0) := by
  unfold pm_X0_spoilt
  refine kw_aload_n (pc := 0) B dX0_spoilt_0 rfl 0 rfl ?_
  refine kw_gR (pc := 1) B dX0_spoilt_1 fl_X0_17 (fun r1 => ?_)
  refine kw_gIN (pc := 4) B dX0_spoilt_4 fl_X0_319 (fun i2 => ?_)
  refine kw_aload_n (pc := 7) B dX0_spoilt_7 rfl 0 rfl ?_
  refine kw_gR (pc := 8) B dX0_spoilt_8 fl_X0_17 (fun r3 => ?_)
  refine kw_gIN (pc := 11) B dX0_spoilt_11 fl_X0_325 (fun i4 => ?_)
  refine kw_iadd (pc := 14) B dX0_spoilt_14 ?_
  refine kw_istore_n (pc := 15) B dX0_spoilt_15 rfl (by decide) (L2 := [(1, kI (i2 + i4)), (0, kA a0)]) rfl ?_
  refine kw_iload_n (pc := 16) B dX0_spoilt_16 rfl 0 rfl ?_
  refine kw_if_ne (pc := 17) (tgt := 24) B dX0_spoilt_17 rfl ?_ ?_
  · refine kw_aload_n (pc := 24) B dX0_spoilt_24 rfl 1 rfl ?_
    refine kw_gR (pc := 25) B dX0_spoilt_25 fl_X0_17 (fun r5 => ?_)
    refine kw_gIN (pc := 28) B dX0_spoilt_28 fl_X0_325 (fun i6 => ?_)
    refine kw_i2f (pc := 31) B dX0_spoilt_31 ?_
    refine kw_iload_n (pc := 32) B dX0_spoilt_32 rfl 0 rfl ?_
    refine kw_i2f (pc := 33) B dX0_spoilt_33 ?_
    refine kw_fdiv (pc := 34) B dX0_spoilt_34 (fun f7 => ?_)
    exact kw_fret B dX0_spoilt_35 rfl
  · refine kw_fconst0 (pc := 20) B dX0_spoilt_20 ?_
    refine kw_goto (pc := 21) (tgt := 35) B dX0_spoilt_21 rfl ?_
    exact kw_fret B dX0_spoilt_35 rfl
theorem ct_X0_spoilt (a0 : Option Nat) (l : Launch) : kw_Met l yX0_spoilt (ws_ yX0_spoilt cX0_spoilt 2 (some .float)) 1 0 [kA a0] kw_eF (pm_X0_spoilt a0) := kw_met (plainFor_of_name rfl) (Nat.le_of_ble_eq_true rfl) (fun E B => wm_X0_spoilt B a0) l

/-! RosaryCarversModel spoilt ()F -/

theorem wm_X3_spoilt {E : kw_E} (B : kw_ok E cX3_spoilt RX3 "spoilt" 2 (some .float) 1 0 []) (a0 : Option Nat) : kw_W E kw_eF 0 [(0, kA a0)] [] (pm_X3_spoilt a0) := by
  unfold pm_X3_spoilt
  refine kw_aload_n (pc := 0) B dX3_spoilt_0 rfl 0 rfl ?_
  refine kw_gR (pc := 1) B dX3_spoilt_1 fl_X3_9 (fun r1 => ?_)
  refine kw_iconst (pc := 4) B dX3_spoilt_4 (v := (2 : Int32)) rfl ?_
  refine kw_iald (pc := 5) B dX3_spoilt_5 (fun i2 => ?_)
  refine kw_aload_n (pc := 6) B dX3_spoilt_6 rfl 0 rfl ?_
  refine kw_gR (pc := 7) B dX3_spoilt_7 fl_X3_9 (fun r3 => ?_)
  refine kw_iconst (pc := 10) B dX3_spoilt_10 (v := (3 : Int32)) rfl ?_
  refine kw_iald (pc := 11) B dX3_spoilt_11 (fun i4 => ?_)
  refine kw_iadd (pc := 12) B dX3_spoilt_12 ?_
  refine kw_istore_n (pc := 13) B dX3_spoilt_13 rfl (by decide) (L2 := [(1, kI (i2 + i4)), (0, kA a0)]) rfl ?_
  refine kw_iload_n (pc := 14) B dX3_spoilt_14 rfl 0 rfl ?_
  refine kw_if_ne (pc := 15) (tgt := 22) B dX3_spoilt_15 rfl ?_ ?_
  · refine kw_aload_n (pc := 22) B dX3_spoilt_22 rfl 1 rfl ?_
    refine kw_gR (pc := 23) B dX3_spoilt_23 fl_X3_9 (fun r5 => ?_)
    refine kw_iconst (pc := 26) B dX3_spoilt_26 (v := (3 : Int32)) rfl ?_
    refine kw_iald (pc := 27) B dX3_spoilt_27 (fun i6 => ?_)
    refine kw_i2f (pc := 28) B dX3_spoilt_28 ?_
    refine kw_iload_n (pc := 29) B dX3_spoilt_29 rfl 0 rfl ?_
    refine kw_i2f (pc := 30) B dX3_spoilt_30 ?_
    refine kw_fdiv (pc := 31) B dX3_spoilt_31 (fun f7 => ?_)
    exact kw_fret B dX3_spoilt_32 rfl
  · refine kw_fconst0 (pc := 18) B dX3_spoilt_18 ?_
    refine kw_goto (pc := 19) (tgt := 32) B dX3_spoilt_19 rfl ?_
    exact kw_fret B dX3_spoilt_32 rfl
theorem ct_X3_spoilt (a0 : Option Nat) (l : Launch) : kw_Met l yX3_spoilt (ws_ yX3_spoilt cX3_spoilt 2 (some .float)) 1 0 [kA a0] kw_eF (pm_X3_spoilt a0) := kw_met (plainFor_of_name rfl) (Nat.le_of_ble_eq_true rfl) (fun E B => wm_X3_spoilt B a0) l
