set_option maxRecDepth 100000
/-! RosaryCarversModel passes (I)I -/

theorem wb_X3_passes_17 {E : kw_E} (B : kw_ok E cX3_passes RX3 "passes" 4 (some .int) 8 157 [])  : ∀ (n : Nat) (x0 : Option Nat) (x1 : Int32) (x2 : Int32) (x3 : Int32), kw_W E kw_eI 17 [(0, kA x0), (1, kI x1), (2, kI x2), (3, kI x3)] [] (pb_X3_passes_17  n x0 x1 x2 x3) := by
  intro n
  induction n with
  | zero =>
    intro x0 x1 x2 x3
    exact kw_fail_ok
  | succ n ih =>
    intro x0 x1 x2 x3
    show kw_W E kw_eI 17 [(0, kA x0), (1, kI x1), (2, kI x2), (3, kI x3)] [] (
if x1 ≤ x3 then
(km_pure x2)
else
(km_bind (km_is 3 x0) fun _ => km_bind (pm_X3_dayGoes x0) fun i1 =>
pb_X3_passes_17 n x0 x1 (x2 + i1) (x3 + (1 : Int32))))
    refine kw_iload_n (pc := 17) B dX3_passes_17 rfl 3 rfl ?_
    refine kw_iload_n (pc := 18) B dX3_passes_18 rfl 1 rfl ?_
    refine kw_icmp_ge (pc := 19) (tgt := 35) B dX3_passes_19 rfl ?_ ?_
    · refine kw_iload_n (pc := 35) B dX3_passes_35 rfl 2 rfl ?_
      exact kw_iret B dX3_passes_36 rfl
    · refine kw_iload_n (pc := 22) B dX3_passes_22 rfl 2 rfl ?_
      refine kw_aload_n (pc := 23) B dX3_passes_23 rfl 0 rfl ?_
      refine kw_callV (pc := 24) B dX3_passes_24 (ci := 3) rfl (ct_X3_dayGoes x0) q2616 q2618 qs53 q81 q2619 ⟨by decide, by decide, rfl⟩ (As := []) rfl (st := [kI x2]) rfl (Nat.le_of_ble_eq_true rfl) (by decide) (by decide) kw_qI (fun i1 => ?_)
      refine kw_iadd (pc := 27) B dX3_passes_27 ?_
      refine kw_istore_n (pc := 28) B dX3_passes_28 rfl (by decide) (L2 := [(2, kI (x2 + i1)), (0, kA x0), (1, kI x1), (3, kI x3)]) rfl ?_
      refine kw_iinc (pc := 29) B dX3_passes_29 3 rfl (w := x3 + (1 : Int32)) rfl (by decide) (L2 := [(3, kI (x3 + (1 : Int32))), (2, kI (x2 + i1)), (0, kA x0), (1, kI x1)]) rfl ?_
      refine kw_goto (pc := 32) (tgt := 17) B dX3_passes_32 rfl ?_
      exact kw_pick [2, 3, 1, 0] rfl (ih x0 x1 (x2 + i1) (x3 + (1 : Int32)))
theorem wm_X3_passes {E : kw_E} (B : kw_ok E cX3_passes RX3 "passes" 4 (some .int) 8 157 []) (a0 : Option Nat) (a1 : Int32) : kw_W E kw_eI 0 [(0, kA a0), (1, kI a1)] [] (pm_X3_passes a0 a1) := by
  unfold pm_X3_passes
  refine kw_iload_n (pc := 0) B dX3_passes_0 rfl 1 rfl ?_
  refine kw_iconst (pc := 1) B dX3_passes_1 (v := (1 : Int32)) rfl ?_
  refine kw_bipush (pc := 2) B dX3_passes_2 (v := (60 : Int32)) rfl ?_
  refine kw_callS (pc := 4) B dX3_passes_4 (ct_X3_isIn a1 (1 : Int32) (60 : Int32)) q2415 q2416 q81 q2417 ⟨by decide, by decide, rfl⟩ (As := [kI a1, kI (1 : Int32), kI (60 : Int32)]) rfl (st := []) rfl (Nat.le_of_ble_eq_true rfl) (by decide) (by decide) kw_qI (fun i1 => ?_)
  refine kw_if_ne (pc := 7) (tgt := 13) B dX3_passes_7 rfl ?_ ?_
  · refine kw_iconst (pc := 13) B dX3_passes_13 (v := (0 : Int32)) rfl ?_
    refine kw_istore_n (pc := 14) B dX3_passes_14 rfl (by decide) (L2 := [(2, kI (0 : Int32)), (0, kA a0), (1, kI a1)]) rfl ?_
    refine kw_iconst (pc := 15) B dX3_passes_15 (v := (0 : Int32)) rfl ?_
    refine kw_istore_n (pc := 16) B dX3_passes_16 rfl (by decide) (L2 := [(3, kI (0 : Int32)), (2, kI (0 : Int32)), (0, kA a0), (1, kI a1)]) rfl ?_
    exact kw_pick [2, 3, 1, 0] rfl (wb_X3_passes_17 B km_fuel a0 a1 (0 : Int32) (0 : Int32))
  · refine kw_bipush (pc := 10) B dX3_passes_10 (v := (-2 : Int32)) rfl ?_
    exact kw_iret B dX3_passes_12 rfl
theorem ct_X3_passes (a0 : Option Nat) (a1 : Int32) (l : Launch) : kw_Met l yX3_passes (ws_ yX3_passes cX3_passes 4 (some .int)) 8 157 [kA a0, kI a1] kw_eI (pm_X3_passes a0 a1) := kw_met (plainFor_of_name rfl) (Nat.le_of_ble_eq_true rfl) (fun E B => wm_X3_passes B a0 a1) l

/-! RosaryCarversModel pass (I)I -/

theorem wm_X3_pass {E : kw_E} (B : kw_ok E cX3_pass RX3 "pass" 2 (some .int) 9 180 []) (a0 : Option Nat) (a1 : Int32) : kw_W E kw_eI 0 [(0, kA a0), (1, kI a1)] [] (pm_X3_pass a0 a1) := by
  unfold pm_X3_pass
  refine kw_aload_n (pc := 0) B dX3_pass_0 rfl 0 rfl ?_
  refine kw_callV (pc := 1) B dX3_pass_1 (ci := 3) rfl (ct_X3_keeps a0) q2418 q2420 qs25 q81 q2421 ⟨by decide, by decide, rfl⟩ (As := []) rfl (st := []) rfl (Nat.le_of_ble_eq_true rfl) (by decide) (by decide) kw_qV (fun _ => ?_)
  refine kw_aload_n (pc := 4) B dX3_pass_4 rfl 0 rfl ?_
  refine kw_aload_n (pc := 5) B dX3_pass_5 rfl 0 rfl ?_
  refine kw_iload_n (pc := 6) B dX3_pass_6 rfl 1 rfl ?_
  refine kw_callV (pc := 7) B dX3_pass_7 (ci := 3) rfl (ct_X3_passes a0 a1) q2612 q2614 qs52 q81 q2615 ⟨by decide, by decide, rfl⟩ (As := [kI a1]) rfl (st := [kA a0]) rfl (Nat.le_of_ble_eq_true rfl) (by decide) (by decide) kw_qI (fun i1 => ?_)
  refine kw_callV (pc := 10) B dX3_pass_10 (ci := 3) rfl (ct_X3_ends a0 i1) q2428 q2430 qs26 q81 q2431 ⟨by decide, by decide, rfl⟩ (As := [kI i1]) rfl (st := []) rfl (Nat.le_of_ble_eq_true rfl) (by decide) (by decide) kw_qI (fun i2 => ?_)
  exact kw_iret B dX3_pass_13 rfl
theorem ct_X3_pass (a0 : Option Nat) (a1 : Int32) (l : Launch) : kw_Met l yX3_pass (ws_ yX3_pass cX3_pass 2 (some .int)) 9 180 [kA a0, kI a1] kw_eI (pm_X3_pass a0 a1) := kw_met (plainFor_of_name rfl) (Nat.le_of_ble_eq_true rfl) (fun E B => wm_X3_pass B a0 a1) l

/-! RosaryCarvers carverOf (II)I -/
theorem fl_X0_127 : kw_flN RX0 127 "RosaryCarvers$Shop" "RosaryCarvers" [(1, 0)] := (kw_flN_c (C := RX1) (T := TX1) (N := 17) rfl (by decide) in_X1 q214 (Or.inl rfl) kw_flN_nil)
theorem fl_X0_139 : kw_flN RX0 139 "RosaryCarvers$Carver" "RosaryCarvers" [(5, 0)] := (kw_flN_c (C := RX6) (T := TX6) (N := 4) rfl (by decide) in_X6 q553 (Or.inl rfl) kw_flN_nil)
theorem fl_X0_142 : kw_flN RX0 142 "RosaryCarvers$Carver" "RosaryCarvers" [(5, 1)] := (kw_flN_c (C := RX6) (T := TX6) (N := 4) rfl (by decide) in_X6 q556 (Or.inl rfl) kw_flN_nil)
theorem fl_X0_152 : kw_flN RX0 152 "RosaryCarvers$Carver" "RosaryCarvers" [(5, 2)] := (kw_flN_c (C := RX6) (T := TX6) (N := 4) rfl (by decide) in_X6 q559 (Or.inl rfl) kw_flN_nil)
theorem fl_X0_155 : kw_flN RX0 155 "RosaryCarvers$Carver" "RosaryCarvers" [(5, 3)] := (kw_flN_c (C := RX6) (T := TX6) (N := 4) rfl (by decide) in_X6 q562 (Or.inl rfl) kw_flN_nil)
theorem wm_X0_carverOf {E : kw_E} (B : kw_ok E cX0_carverOf RX0 "carverOf" 4 (some .int) 6 109 []) (a0 : Option Nat) (a1 : Int32) (a2 : Int32) : kw_W E kw_eI 0 [(0, kA a0), (1, kI a1), (2, kI a2)] [] (pm_X0_carverOf a0 a1 a2) := by
  unfold pm_X0_carverOf
  refine kw_aload_n (pc := 0) B dX0_carverOf_0 rfl 0 rfl ?_
  refine kw_gR (pc := 1) B dX0_carverOf_1 fl_X0_17 (fun r1 => ?_)
  refine kw_iload_n (pc := 4) B dX0_carverOf_4 rfl 1 rfl ?_
  refine kw_callV (pc := 5) B dX0_carverOf_5 (ci := 1) rfl (ct_X1_isCarver r1 a1) q1360 q1361 q1362 q74 q1363 ⟨by decide, by decide, rfl⟩ (As := [kI a1]) rfl (st := []) rfl (Nat.le_of_ble_eq_true rfl) (by decide) (by decide) kw_qI (fun i2 => ?_)
  refine kw_if_ne (pc := 8) (tgt := 13) B dX0_carverOf_8 rfl ?_ ?_
  · refine kw_aload_n (pc := 13) B dX0_carverOf_13 rfl 0 rfl ?_
    refine kw_gR (pc := 14) B dX0_carverOf_14 fl_X0_17 (fun r3 => ?_)
    refine kw_gRN (pc := 17) B dX0_carverOf_17 fl_X0_127 (fun r4 => ?_)
    refine kw_iload_n (pc := 20) B dX0_carverOf_20 rfl 1 rfl ?_
    refine kw_callV (pc := 21) B dX0_carverOf_21 (ci := 30) rfl (ct_J2_get r4 a1) q1820 q503 q504 q77 q505 ⟨by decide, by decide, rfl⟩ (As := [kI a1]) rfl (st := []) rfl (Nat.le_of_ble_eq_true rfl) (by decide) (by decide) kw_qA (fun r5 => ?_)
    refine kw_cast_ok (pc := 24) B dX0_carverOf_24 q1821 cs_RosaryCarvers_Carver ?_
    refine kw_astore_n (pc := 27) B dX0_carverOf_27 rfl (by decide) (L2 := [(3, kA r5), (0, kA a0), (1, kI a1), (2, kI a2)]) rfl ?_
    refine kw_iload_n (pc := 28) B dX0_carverOf_28 rfl 3 rfl ?_
    refine kw_tsw (pc := 29) (tgt := 106) B dX0_carverOf_29 rfl rfl ⟨⟨68, rfl, ?_⟩, ⟨73, rfl, ?_⟩, ⟨78, rfl, ?_⟩, ⟨87, rfl, ?_⟩, ⟨96, rfl, ?_⟩, ⟨101, rfl, ?_⟩, trivial⟩ ?_
    · refine kw_aload_n (pc := 68) B dX0_carverOf_68 rfl 0 rfl ?_
      refine kw_gIN (pc := 69) B dX0_carverOf_69 fl_X0_139 (fun i6 => ?_)
      exact kw_iret B dX0_carverOf_72 rfl
    · refine kw_aload_n (pc := 73) B dX0_carverOf_73 rfl 0 rfl ?_
      refine kw_gIN (pc := 74) B dX0_carverOf_74 fl_X0_142 (fun i7 => ?_)
      exact kw_iret B dX0_carverOf_77 rfl
    · refine kw_aload_n (pc := 78) B dX0_carverOf_78 rfl 1 rfl ?_
      refine kw_gR (pc := 79) B dX0_carverOf_79 fl_X0_17 (fun r8 => ?_)
      refine kw_iload_n (pc := 82) B dX0_carverOf_82 rfl 2 rfl ?_
      refine kw_callV (pc := 83) B dX0_carverOf_83 (ci := 1) rfl (ct_X1_lensOf r8 a1) q1822 q1399 q1400 q74 q1401 ⟨by decide, by decide, rfl⟩ (As := [kI a1]) rfl (st := []) rfl (Nat.le_of_ble_eq_true rfl) (by decide) (by decide) kw_qI (fun i9 => ?_)
      exact kw_iret B dX0_carverOf_86 rfl
    · refine kw_aload_n (pc := 87) B dX0_carverOf_87 rfl 1 rfl ?_
      refine kw_gR (pc := 88) B dX0_carverOf_88 fl_X0_17 (fun r10 => ?_)
      refine kw_iload_n (pc := 91) B dX0_carverOf_91 rfl 2 rfl ?_
      refine kw_callV (pc := 92) B dX0_carverOf_92 (ci := 1) rfl (ct_X1_sight r10 a1) q1823 q1395 q1396 q74 q1397 ⟨by decide, by decide, rfl⟩ (As := [kI a1]) rfl (st := []) rfl (Nat.le_of_ble_eq_true rfl) (by decide) (by decide) kw_qI (fun i11 => ?_)
      exact kw_iret B dX0_carverOf_95 rfl
    · refine kw_aload_n (pc := 96) B dX0_carverOf_96 rfl 0 rfl ?_
      refine kw_gIN (pc := 97) B dX0_carverOf_97 fl_X0_152 (fun i12 => ?_)
      exact kw_iret B dX0_carverOf_100 rfl
    · refine kw_aload_n (pc := 101) B dX0_carverOf_101 rfl 0 rfl ?_
      refine kw_gIN (pc := 102) B dX0_carverOf_102 fl_X0_155 (fun i13 => ?_)
      exact kw_iret B dX0_carverOf_105 rfl
    · refine kw_bipush (pc := 106) B dX0_carverOf_106 (v := (-2 : Int32)) rfl ?_
      exact kw_iret B dX0_carverOf_108 rfl
  · refine kw_iconst (pc := 11) B dX0_carverOf_11 (v := (-1 : Int32)) rfl ?_
    exact kw_iret B dX0_carverOf_12 rfl
theorem ct_X0_carverOf (a0 : Option Nat) (a1 : Int32) (a2 : Int32) (l : Launch) : kw_Met l yX0_carverOf (ws_ yX0_carverOf cX0_carverOf 4 (some .int)) 6 109 [kA a0, kI a1, kI a2] kw_eI (pm_X0_carverOf a0 a1 a2) := kw_met (plainFor_of_name rfl) (Nat.le_of_ble_eq_true rfl) (fun E B => wm_X0_carverOf B a0 a1 a2) l

/-! RosaryCarversModel carverOf (II)I -/

theorem wb_X3_carverOf_48 {E : kw_E} (B : kw_ok E cX3_carverOf RX3 "carverOf" 3 (some .int) 3 43 [])  (x0 : Option Nat) (x1 : Int32) (x2 : Int32) : kw_W E kw_eI 48 [(0, kA x0), (1, kI x1), (2, kI x2)] [] (pb_X3_carverOf_48  x0 x1 x2) := by
  unfold pb_X3_carverOf_48
  refine kw_aload_n (pc := 48) B dX3_carverOf_48 rfl 0 rfl ?_
  refine kw_gR (pc := 49) B dX3_carverOf_49 fl_X3_9 (fun r1 => ?_)
  refine kw_iload_n (pc := 52) B dX3_carverOf_52 rfl 1 rfl ?_
  refine kw_iload_n (pc := 53) B dX3_carverOf_53 rfl 2 rfl ?_
  refine kw_callS (pc := 54) B dX3_carverOf_54 (ct_X3_carverAt x1 x2) q2451 q2452 q81 q2453 ⟨by decide, by decide, rfl⟩ (As := [kI x1, kI x2]) rfl (st := [kA r1]) rfl (Nat.le_of_ble_eq_true rfl) (by decide) (by decide) kw_qI (fun i2 => ?_)
  refine kw_iald (pc := 57) B dX3_carverOf_57 (fun i3 => ?_)
  exact kw_iret B dX3_carverOf_58 rfl
theorem wb_X3_carverOf_65 {E : kw_E} (B : kw_ok E cX3_carverOf RX3 "carverOf" 3 (some .int) 3 43 [])  (x0 : Option Nat) (x1 : Int32) (x2 : Int32) : kw_W E kw_eI 65 [(0, kA x0), (1, kI x1), (2, kI x2)] [] (pb_X3_carverOf_65  x0 x1 x2) := by
  unfold pb_X3_carverOf_65
  refine kw_aload_n (pc := 65) B dX3_carverOf_65 rfl 0 rfl ?_
  refine kw_gR (pc := 66) B dX3_carverOf_66 fl_X3_9 (fun r1 => ?_)
  refine kw_iload_n (pc := 69) B dX3_carverOf_69 rfl 1 rfl ?_
  refine kw_iload_n (pc := 70) B dX3_carverOf_70 rfl 2 rfl ?_
  refine kw_iconst (pc := 71) B dX3_carverOf_71 (v := (1 : Int32)) rfl ?_
  refine kw_isub (pc := 72) B dX3_carverOf_72 ?_
  refine kw_callS (pc := 73) B dX3_carverOf_73 (ct_X3_carverAt x1 (x2 - (1 : Int32))) q2451 q2452 q81 q2453 ⟨by decide, by decide, rfl⟩ (As := [kI x1, kI (x2 - (1 : Int32))]) rfl (st := [kA r1]) rfl (Nat.le_of_ble_eq_true rfl) (by decide) (by decide) kw_qI (fun i2 => ?_)
  refine kw_iald (pc := 76) B dX3_carverOf_76 (fun i3 => ?_)
  exact kw_iret B dX3_carverOf_77 rfl
theorem wm_X3_carverOf {E : kw_E} (B : kw_ok E cX3_carverOf RX3 "carverOf" 3 (some .int) 3 43 []) (a0 : Option Nat) (a1 : Int32) (a2 : Int32) : kw_W E kw_eI 0 [(0, kA a0), (1, kI a1), (2, kI a2)] [] (pm_X3_carverOf a0 a1 a2) := by
  unfold pm_X3_carverOf
  refine kw_aload_n (pc := 0) B dX3_carverOf_0 rfl 0 rfl ?_
  refine kw_iload_n (pc := 1) B dX3_carverOf_1 rfl 1 rfl ?_
  refine kw_callV (pc := 2) B dX3_carverOf_2 (ci := 3) rfl (ct_X3_isCarver a0 a1) q2469 q2471 qs31 q81 q2472 ⟨by decide, by decide, rfl⟩ (As := [kI a1]) rfl (st := []) rfl (Nat.le_of_ble_eq_true rfl) (by decide) (by decide) kw_qI (fun i1 => ?_)
  refine kw_if_ne (pc := 5) (tgt := 10) B dX3_carverOf_5 rfl ?_ ?_
  · refine kw_iload_n (pc := 10) B dX3_carverOf_10 rfl 2 rfl ?_
    refine kw_tsw (pc := 11) (tgt := 78) B dX3_carverOf_11 rfl rfl ⟨⟨48, rfl, ?_⟩, ⟨48, rfl, ?_⟩, ⟨48, rfl, ?_⟩, ⟨59, rfl, ?_⟩, ⟨65, rfl, ?_⟩, ⟨65, rfl, ?_⟩, trivial⟩ ?_
    · exact kw_pick [0, 1, 2] rfl (wb_X3_carverOf_48 B a0 a1 a2)
    · exact kw_pick [0, 1, 2] rfl (wb_X3_carverOf_48 B a0 a1 a2)
    · exact kw_pick [0, 1, 2] rfl (wb_X3_carverOf_48 B a0 a1 a2)
    · refine kw_aload_n (pc := 59) B dX3_carverOf_59 rfl 0 rfl ?_
      refine kw_iload_n (pc := 60) B dX3_carverOf_60 rfl 1 rfl ?_
      refine kw_callV (pc := 61) B dX3_carverOf_61 (ci := 3) rfl (ct_X3_sight a0 a1) q2485 q2487 qs34 q81 q2488 ⟨by decide, by decide, rfl⟩ (As := [kI a1]) rfl (st := []) rfl (Nat.le_of_ble_eq_true rfl) (by decide) (by decide) kw_qI (fun i2 => ?_)
      exact kw_iret B dX3_carverOf_64 rfl
    · exact kw_pick [0, 1, 2] rfl (wb_X3_carverOf_65 B a0 a1 a2)
    · exact kw_pick [0, 1, 2] rfl (wb_X3_carverOf_65 B a0 a1 a2)
    · refine kw_bipush (pc := 78) B dX3_carverOf_78 (v := (-2 : Int32)) rfl ?_
      exact kw_iret B dX3_carverOf_80 rfl
  · refine kw_iconst (pc := 8) B dX3_carverOf_8 (v := (-1 : Int32)) rfl ?_
    exact kw_iret B dX3_carverOf_9 rfl
theorem ct_X3_carverOf (a0 : Option Nat) (a1 : Int32) (a2 : Int32) (l : Launch) : kw_Met l yX3_carverOf (ws_ yX3_carverOf cX3_carverOf 3 (some .int)) 3 43 [kA a0, kI a1, kI a2] kw_eI (pm_X3_carverOf a0 a1 a2) := kw_met (plainFor_of_name rfl) (Nat.le_of_ble_eq_true rfl) (fun E B => wm_X3_carverOf B a0 a1 a2) l

/-! RosaryCarvers lensOf (IZ)I -/
theorem fl_X0_158 : kw_flN RX0 158 "RosaryCarvers$Shop" "RosaryCarvers" [(1, 1)] := (kw_flN_c (C := RX1) (T := TX1) (N := 17) rfl (by decide) in_X1 q216 (Or.inl rfl) kw_flN_nil)
theorem fl_X0_166 : kw_flN RX0 166 "RosaryCarvers$Lens" "RosaryCarvers" [(6, 1)] := (kw_flN_c (C := RX7) (T := TX7) (N := 2) rfl (by decide) in_X7 q673 (Or.inl rfl) kw_flN_nil)
theorem fl_X0_163 : kw_flN RX0 163 "RosaryCarvers$Lens" "RosaryCarvers" [(6, 0)] := (kw_flN_c (C := RX7) (T := TX7) (N := 2) rfl (by decide) in_X7 q670 (Or.inl rfl) kw_flN_nil)
theorem wm_X0_lensOf {E : kw_E} (B : kw_ok E cX0_lensOf RX0 "lensOf" 4 (some .int) 4 64 []) (a0 : Option Nat) (a1 : Int32) (a2 : Int32) : kw_W E kw_eI 0 [(0, kA a0), (1, kI a1), (2, kI a2)] [] (pm_X0_lensOf a0 a1 a2) := by
  unfold pm_X0_lensOf
  refine kw_aload_n (pc := 0) B dX0_lensOf_0 rfl 0 rfl ?_
  refine kw_gR (pc := 1) B dX0_lensOf_1 fl_X0_17 (fun r1 => ?_)
  refine kw_iload_n (pc := 4) B dX0_lensOf_4 rfl 1 rfl ?_
  refine kw_callV (pc := 5) B dX0_lensOf_5 (ci := 1) rfl (ct_X1_isLens r1 a1) q1609 q1610 q1611 q74 q1612 ⟨by decide, by decide, rfl⟩ (As := [kI a1]) rfl (st := []) rfl (Nat.le_of_ble_eq_true rfl) (by decide) (by decide) kw_qI (fun i2 => ?_)
  refine kw_if_ne (pc := 8) (tgt := 13) B dX0_lensOf_8 rfl ?_ ?_
  · refine kw_aload_n (pc := 13) B dX0_lensOf_13 rfl 0 rfl ?_
    refine kw_gR (pc := 14) B dX0_lensOf_14 fl_X0_17 (fun r3 => ?_)
    refine kw_gRN (pc := 17) B dX0_lensOf_17 fl_X0_158 (fun r4 => ?_)
    refine kw_iload_n (pc := 20) B dX0_lensOf_20 rfl 1 rfl ?_
    refine kw_callV (pc := 21) B dX0_lensOf_21 (ci := 30) rfl (ct_J2_get r4 a1) q1820 q503 q504 q77 q505 ⟨by decide, by decide, rfl⟩ (As := [kI a1]) rfl (st := []) rfl (Nat.le_of_ble_eq_true rfl) (by decide) (by decide) kw_qA (fun r5 => ?_)
    refine kw_cast_ok (pc := 24) B dX0_lensOf_24 q1828 cs_RosaryCarvers_Lens ?_
    refine kw_astore_n (pc := 27) B dX0_lensOf_27 rfl (by decide) (L2 := [(3, kA r5), (0, kA a0), (1, kI a1), (2, kI a2)]) rfl ?_
    refine kw_iload_n (pc := 28) B dX0_lensOf_28 rfl 3 rfl ?_
    refine kw_if_eq (pc := 29) (tgt := 37) B dX0_lensOf_29 rfl ?_ ?_
    · refine kw_aload_n (pc := 37) B dX0_lensOf_37 rfl 0 rfl ?_
      refine kw_gIN (pc := 38) B dX0_lensOf_38 fl_X0_166 (fun i6 => ?_)
      refine kw_iconst (pc := 41) B dX0_lensOf_41 (v := (-1 : Int32)) rfl ?_
      refine kw_icmp_ne (pc := 42) (tgt := 50) B dX0_lensOf_42 rfl ?_ ?_
      · refine kw_aload_n (pc := 50) B dX0_lensOf_50 rfl 0 rfl ?_
        refine kw_gIN (pc := 51) B dX0_lensOf_51 fl_X0_166 (fun i7 => ?_)
        exact kw_iret B dX0_lensOf_54 rfl
      · refine kw_bipush (pc := 45) B dX0_lensOf_45 (v := (-6 : Int32)) rfl ?_
        refine kw_goto (pc := 47) (tgt := 54) B dX0_lensOf_47 rfl ?_
        exact kw_iret B dX0_lensOf_54 rfl
    · refine kw_aload_n (pc := 32) B dX0_lensOf_32 rfl 0 rfl ?_
      refine kw_gIN (pc := 33) B dX0_lensOf_33 fl_X0_163 (fun i8 => ?_)
      exact kw_iret B dX0_lensOf_36 rfl
  · refine kw_iconst (pc := 11) B dX0_lensOf_11 (v := (-1 : Int32)) rfl ?_
    exact kw_iret B dX0_lensOf_12 rfl
theorem ct_X0_lensOf (a0 : Option Nat) (a1 : Int32) (a2 : Int32) (l : Launch) : kw_Met l yX0_lensOf (ws_ yX0_lensOf cX0_lensOf 4 (some .int)) 4 64 [kA a0, kI a1, kI a2] kw_eI (pm_X0_lensOf a0 a1 a2) := kw_met (plainFor_of_name rfl) (Nat.le_of_ble_eq_true rfl) (fun E B => wm_X0_lensOf B a0 a1 a2) l

/-! RosaryCarversModel lensOf (IZ)I -/

theorem wb_X3_lensOf_22 {E : kw_E} (B : kw_ok E cX3_lensOf RX3 "lensOf" 3 (some .int) 3 43 [])  (s0 : Int32) (s1 : Int32) (s2 : Option Nat) : kw_W E kw_eI 22 [] [kI s0, kI s1, kA s2] (pb_X3_lensOf_22  s0 s1 s2) := by
  unfold pb_X3_lensOf_22
  refine kw_callS (pc := 22) B dX3_lensOf_22 (ct_X3_lensAt s1 s0) q2458 q2459 q81 q2460 ⟨by decide, by decide, rfl⟩ (As := [kI s1, kI s0]) rfl (st := [kA s2]) rfl (Nat.le_of_ble_eq_true rfl) (by decide) (by decide) kw_qI (fun i1 => ?_)
  refine kw_iald (pc := 25) B dX3_lensOf_25 (fun i2 => ?_)
  refine kw_goto (pc := 26) (tgt := 30) B dX3_lensOf_26 rfl ?_
  exact kw_iret B dX3_lensOf_30 rfl
theorem wm_X3_lensOf {E : kw_E} (B : kw_ok E cX3_lensOf RX3 "lensOf" 3 (some .int) 3 43 []) (a0 : Option Nat) (a1 : Int32) (a2 : Int32) : kw_W E kw_eI 0 [(0, kA a0), (1, kI a1), (2, kI a2)] [] (pm_X3_lensOf a0 a1 a2) := by
  unfold pm_X3_lensOf
  refine kw_aload_n (pc := 0) B dX3_lensOf_0 rfl 0 rfl ?_
  refine kw_iload_n (pc := 1) B dX3_lensOf_1 rfl 1 rfl ?_
  refine kw_callV (pc := 2) B dX3_lensOf_2 (ci := 3) rfl (ct_X3_isLens a0 a1) q2465 q2467 qs30 q81 q2468 ⟨by decide, by decide, rfl⟩ (As := [kI a1]) rfl (st := []) rfl (Nat.le_of_ble_eq_true rfl) (by decide) (by decide) kw_qI (fun i1 => ?_)
  refine kw_if_eq (pc := 5) (tgt := 29) B dX3_lensOf_5 rfl ?_ ?_
  · refine kw_iconst (pc := 29) B dX3_lensOf_29 (v := (-1 : Int32)) rfl ?_
    exact kw_iret B dX3_lensOf_30 rfl
  · refine kw_aload_n (pc := 8) B dX3_lensOf_8 rfl 0 rfl ?_
    refine kw_gR (pc := 9) B dX3_lensOf_9 fl_X3_9 (fun r2 => ?_)
    refine kw_iload_n (pc := 12) B dX3_lensOf_12 rfl 1 rfl ?_
    refine kw_iload_n (pc := 13) B dX3_lensOf_13 rfl 2 rfl ?_
    refine kw_if_eq (pc := 14) (tgt := 21) B dX3_lensOf_14 rfl ?_ ?_
    · refine kw_iconst (pc := 21) B dX3_lensOf_21 (v := (1 : Int32)) rfl ?_
      exact kw_pick [] rfl (wb_X3_lensOf_22 B (1 : Int32) a1 r2)
    · refine kw_iconst (pc := 17) B dX3_lensOf_17 (v := (0 : Int32)) rfl ?_
      refine kw_goto (pc := 18) (tgt := 22) B dX3_lensOf_18 rfl ?_
      exact kw_pick [] rfl (wb_X3_lensOf_22 B (0 : Int32) a1 r2)
theorem ct_X3_lensOf (a0 : Option Nat) (a1 : Int32) (a2 : Int32) (l : Launch) : kw_Met l yX3_lensOf (ws_ yX3_lensOf cX3_lensOf 3 (some .int)) 3 43 [kA a0, kI a1, kI a2] kw_eI (pm_X3_lensOf a0 a1 a2) := kw_met (plainFor_of_name rfl) (Nat.le_of_ble_eq_true rfl) (fun E B => wm_X3_lensOf B a0 a1 a2) l

/-! RosaryCarvers box (ZZ)I -/
theorem fl_X0_169 : kw_flN RX0 169 "RosaryCarvers$Shop" "RosaryCarvers" [(1, 2)] := (kw_flN_c (C := RX1) (T := TX1) (N := 17) rfl (by decide) in_X1 q218 (Or.inl rfl) kw_flN_nil)
theorem wm_X0_box {E : kw_E} (B : kw_ok E cX0_box RX0 "box" 3 (some .int) 8 152 []) (a0 : Option Nat) (a1 : Int32) (a2 : Int32) : kw_W E kw_eI 0 [(0, kA a0), (1, kI a1), (2, kI a2)] [] (pm_X0_box a0 a1 a2) := by
  unfold pm_X0_box
  refine kw_iload_n (pc := 0) B dX0_box_0 rfl 2 rfl ?_
  refine kw_if_eq (pc := 1) (tgt := 21) B dX0_box_1 rfl ?_ ?_
  · refine kw_aload_n (pc := 21) B dX0_box_21 rfl 0 rfl ?_
    refine kw_gR (pc := 22) B dX0_box_22 fl_X0_17 (fun r1 => ?_)
    refine kw_gRN (pc := 25) B dX0_box_25 fl_X0_169 (fun r2 => ?_)
    refine kw_iload_n (pc := 28) B dX0_box_28 rfl 1 rfl ?_
    refine kw_disp (pc := 29) (pc' := 32) (st := []) kw_hI (fun i3 => ?_) ?_
    · exact kw_iret B dX0_box_32 rfl
    · intro q hq hk
      simp only [List.mem_cons, List.not_mem_nil, or_false] at hq
      rcases hq with rfl | rfl | rfl
      · exact kw_callV (pc := 29) B dX0_box_29 (ci := 2) rfl (ct_X2_many r2 a1) q1835 q1021 q2792 q78 q1022 ⟨by decide, by decide, rfl⟩ (As := [kI a1]) rfl (st := []) rfl (Nat.le_of_ble_eq_true rfl) (by decide) (by decide) kw_qI hk
      · exact kw_callV (pc := 29) B dX0_box_29 (ci := 7) rfl (ct_X2_many r2 a1) q1835 q1021 q2793 q78 q1022 ⟨by decide, by decide, rfl⟩ (As := [kI a1]) rfl (st := []) rfl (Nat.le_of_ble_eq_true rfl) (by decide) (by decide) kw_qI hk
      · exact kw_callV (pc := 29) B dX0_box_29 (ci := 12) rfl (ct_X2_many r2 a1) q1835 q1021 q2794 q78 q1022 ⟨by decide, by decide, rfl⟩ (As := [kI a1]) rfl (st := []) rfl (Nat.le_of_ble_eq_true rfl) (by decide) (by decide) kw_qI hk
  · refine kw_aload_n (pc := 4) B dX0_box_4 rfl 0 rfl ?_
    refine kw_gR (pc := 5) B dX0_box_5 fl_X0_17 (fun r4 => ?_)
    refine kw_gRN (pc := 8) B dX0_box_8 fl_X0_169 (fun r5 => ?_)
    refine kw_iload_n (pc := 11) B dX0_box_11 rfl 1 rfl ?_
    refine kw_disp (pc := 12) (pc' := 15) (st := []) kw_hA (fun r6 => ?_) ?_
    · refine kw_callS (pc := 15) B dX0_box_15 (ct_X13_sum r6) q1834 q1146 q105 q1147 ⟨by decide, by decide, rfl⟩ (As := [kA r6]) rfl (st := []) rfl (Nat.le_of_ble_eq_true rfl) (by decide) (by decide) kw_qI (fun i7 => ?_)
      refine kw_goto (pc := 18) (tgt := 32) B dX0_box_18 rfl ?_
      exact kw_iret B dX0_box_32 rfl
    · intro q hq hk
      simp only [List.mem_cons, List.not_mem_nil, or_false] at hq
      rcases hq with rfl | rfl | rfl
      · exact kw_callV (pc := 12) B dX0_box_12 (ci := 2) rfl (ct_X2_of r5 a1) q1833 q882 q883 q78 q887 ⟨by decide, by decide, rfl⟩ (As := [kI a1]) rfl (st := []) rfl (Nat.le_of_ble_eq_true rfl) (by decide) (by decide) kw_qA hk
      · exact kw_callV (pc := 12) B dX0_box_12 (ci := 7) rfl (ct_X2_of r5 a1) q1833 q882 q885 q78 q887 ⟨by decide, by decide, rfl⟩ (As := [kI a1]) rfl (st := []) rfl (Nat.le_of_ble_eq_true rfl) (by decide) (by decide) kw_qA hk
      · exact kw_callV (pc := 12) B dX0_box_12 (ci := 12) rfl (ct_X2_of r5 a1) q1833 q882 q886 q78 q887 ⟨by decide, by decide, rfl⟩ (As := [kI a1]) rfl (st := []) rfl (Nat.le_of_ble_eq_true rfl) (by decide) (by decide) kw_qA hk
theorem ct_X0_box (a0 : Option Nat) (a1 : Int32) (a2 : Int32) (l : Launch) : kw_Met l yX0_box (ws_ yX0_box cX0_box 3 (some .int)) 8 152 [kA a0, kI a1, kI a2] kw_eI (pm_X0_box a0 a1 a2) := kw_met (plainFor_of_name rfl) (Nat.le_of_ble_eq_true rfl) (fun E B => wm_X0_box B a0 a1 a2) l

/-! RosaryCarversModel box (ZZ)I -/

theorem wb_X3_box_76 {E : kw_E} (B : kw_ok E cX3_box RX3 "box" 6 (some .int) 2 21 []) {k5 : Option Nat → Int32 → Int32 → Int32 → Int32 → km_M Int32} (h5 : ∀ (y0 : Option Nat) (y1 : Int32) (y2 : Int32) (y3 : Int32) (y4 : Int32), kw_W E kw_eI 5 [(0, kA y0), (1, kI y1), (2, kI y2), (3, kI y3), (4, kI y4)] [] (k5 y0 y1 y2 y3 y4)) (x0 : Option Nat) (x1 : Int32) (x2 : Int32) (x4 : Int32) (s0 : Int32) (s1 : Int32) : kw_W E kw_eI 76 [(0, kA x0), (1, kI x1), (2, kI x2), (4, kI x4)] [kI s0, kI s1] (pb_X3_box_76 k5 x0 x1 x2 x4 s0 s1) := by
  unfold pb_X3_box_76
  refine kw_iadd (pc := 76) B dX3_box_76 ?_
  refine kw_istore_n (pc := 77) B dX3_box_77 rfl (by decide) (L2 := [(3, kI (s1 + s0)), (0, kA x0), (1, kI x1), (2, kI x2), (4, kI x4)]) rfl ?_
  refine kw_iinc (pc := 78) B dX3_box_78 4 rfl (w := x4 + (1 : Int32)) rfl (by decide) (L2 := [(4, kI (x4 + (1 : Int32))), (3, kI (s1 + s0)), (0, kA x0), (1, kI x1), (2, kI x2)]) rfl ?_
  refine kw_goto (pc := 81) (tgt := 5) B dX3_box_81 rfl ?_
  exact kw_pick [2, 3, 4, 1, 0] rfl (h5 x0 x1 x2 (s1 + s0) (x4 + (1 : Int32)))
theorem wb_X3_box_45 {E : kw_E} (B : kw_ok E cX3_box RX3 "box" 6 (some .int) 2 21 []) {k5 : Option Nat → Int32 → Int32 → Int32 → Int32 → km_M Int32} (h5 : ∀ (y0 : Option Nat) (y1 : Int32) (y2 : Int32) (y3 : Int32) (y4 : Int32), kw_W E kw_eI 5 [(0, kA y0), (1, kI y1), (2, kI y2), (3, kI y3), (4, kI y4)] [] (k5 y0 y1 y2 y3 y4)) (x0 : Option Nat) (x1 : Int32) (x2 : Int32) (x3 : Int32) (x4 : Int32) (s0 : Int32) : kw_W E kw_eI 45 [(0, kA x0), (1, kI x1), (2, kI x2), (3, kI x3), (4, kI x4)] [kI s0] (pb_X3_box_45 k5 x0 x1 x2 x3 x4 s0) := by
  unfold pb_X3_box_45
  refine kw_istore (pc := 45) B dX3_box_45 (by decide) (L2 := [(5, kI s0), (0, kA x0), (1, kI x1), (2, kI x2), (3, kI x3), (4, kI x4)]) rfl ?_
  refine kw_iload_n (pc := 47) B dX3_box_47 rfl 4 rfl ?_
  refine kw_iload (pc := 48) B dX3_box_48 0 rfl ?_
  refine kw_if_ne (pc := 50) (tgt := 57) B dX3_box_50 rfl ?_ ?_
  · refine kw_iload_n (pc := 57) B dX3_box_57 rfl 3 rfl ?_
    refine kw_if_eq (pc := 58) (tgt := 75) B dX3_box_58 rfl ?_ ?_
    · refine kw_iconst (pc := 75) B dX3_box_75 (v := (1 : Int32)) rfl ?_
      exact kw_pick [1, 2, 3, 5] rfl (wb_X3_box_76 B h5 x0 x1 x2 x4 (1 : Int32) x3)
    · refine kw_aload_n (pc := 61) B dX3_box_61 rfl 1 rfl ?_
      refine kw_gR (pc := 62) B dX3_box_62 fl_X3_9 (fun r1 => ?_)
      refine kw_iload (pc := 65) B dX3_box_65 5 rfl ?_
      refine kw_iconst (pc := 67) B dX3_box_67 (v := (2 : Int32)) rfl ?_
      refine kw_callS (pc := 68) B dX3_box_68 (ct_X3_boxAt x4 (2 : Int32)) q2493 q2494 q81 q2495 ⟨by decide, by decide, rfl⟩ (As := [kI x4, kI (2 : Int32)]) rfl (st := [kA r1, kI x3]) rfl (Nat.le_of_ble_eq_true rfl) (by decide) (by decide) kw_qI (fun i2 => ?_)
      refine kw_iald (pc := 71) B dX3_box_71 (fun i3 => ?_)
      refine kw_goto (pc := 72) (tgt := 76) B dX3_box_72 rfl ?_
      exact kw_pick [1, 2, 3, 5] rfl (wb_X3_box_76 B h5 x0 x1 x2 x4 i3 x3)
  · refine kw_iconst (pc := 53) B dX3_box_53 (v := (0 : Int32)) rfl ?_
    refine kw_goto (pc := 54) (tgt := 76) B dX3_box_54 rfl ?_
    exact kw_pick [1, 2, 3, 5] rfl (wb_X3_box_76 B h5 x0 x1 x2 x4 (0 : Int32) x3)
theorem wb_X3_box_37 {E : kw_E} (B : kw_ok E cX3_box RX3 "box" 6 (some .int) 2 21 []) {k5 : Option Nat → Int32 → Int32 → Int32 → Int32 → km_M Int32} (h5 : ∀ (y0 : Option Nat) (y1 : Int32) (y2 : Int32) (y3 : Int32) (y4 : Int32), kw_W E kw_eI 5 [(0, kA y0), (1, kI y1), (2, kI y2), (3, kI y3), (4, kI y4)] [] (k5 y0 y1 y2 y3 y4)) (x0 : Option Nat) (x1 : Int32) (x2 : Int32) (x3 : Int32) (x4 : Int32) (s0 : Int32) (s1 : Int32) : kw_W E kw_eI 37 [(0, kA x0), (1, kI x1), (2, kI x2), (3, kI x3), (4, kI x4)] [kI s0, kI s1] (pb_X3_box_37 k5 x0 x1 x2 x3 x4 s0 s1) := by
  unfold pb_X3_box_37
  refine kw_icmp_ne (pc := 37) (tgt := 44) B dX3_box_37 rfl ?_ ?_
  · refine kw_iconst (pc := 44) B dX3_box_44 (v := (0 : Int32)) rfl ?_
    exact kw_pick [0, 1, 2, 3, 4] rfl (wb_X3_box_45 B h5 x0 x1 x2 x3 x4 (0 : Int32))
  · refine kw_iconst (pc := 40) B dX3_box_40 (v := (1 : Int32)) rfl ?_
    refine kw_goto (pc := 41) (tgt := 45) B dX3_box_41 rfl ?_
    exact kw_pick [0, 1, 2, 3, 4] rfl (wb_X3_box_45 B h5 x0 x1 x2 x3 x4 (1 : Int32))
theorem wb_X3_box_5 {E : kw_E} (B : kw_ok E cX3_box RX3 "box" 6 (some .int) 2 21 [])  : ∀ (n : Nat) (x0 : Option Nat) (x1 : Int32) (x2 : Int32) (x3 : Int32) (x4 : Int32), kw_W E kw_eI 5 [(0, kA x0), (1, kI x1), (2, kI x2), (3, kI x3), (4, kI x4)] [] (pb_X3_box_5  n x0 x1 x2 x3 x4) := by
  intro n
  induction n with
  | zero =>
    intro x0 x1 x2 x3 x4
    exact kw_fail_ok
  | succ n ih =>
    intro x0 x1 x2 x3 x4
    show kw_W E kw_eI 5 [(0, kA x0), (1, kI x1), (2, kI x2), (3, kI x3), (4, kI x4)] [] (
km_bind (km_gR [(3, 0)] x0) fun r1 =>
km_bind (km_ldI 0 r1 (11 : Int32)) fun i2 =>
if i2 ≤ x4 then
(km_pure x3)
else
(km_bind (km_gR [(3, 0)] x0) fun r3 =>
km_bind (pm_X3_boxAt x4 (1 : Int32)) fun i4 =>
km_bind (km_ldI 0 r3 i4) fun i5 =>
if x1 = 0 then
(pb_X3_box_37 (pb_X3_box_5 n) x0 x1 x2 x3 x4 (0 : Int32) i5)
else
(pb_X3_box_37 (pb_X3_box_5 n) x0 x1 x2 x3 x4 (1 : Int32) i5)))
    refine kw_iload (pc := 5) B dX3_box_5 4 rfl ?_
    refine kw_aload_n (pc := 7) B dX3_box_7 rfl 0 rfl ?_
    refine kw_gR (pc := 8) B dX3_box_8 fl_X3_9 (fun r1 => ?_)
    refine kw_bipush (pc := 11) B dX3_box_11 (v := (11 : Int32)) rfl ?_
    refine kw_iald (pc := 13) B dX3_box_13 (fun i2 => ?_)
    refine kw_icmp_ge (pc := 14) (tgt := 84) B dX3_box_14 rfl ?_ ?_
    · refine kw_iload_n (pc := 84) B dX3_box_84 rfl 3 rfl ?_
      exact kw_iret B dX3_box_85 rfl
    · refine kw_aload_n (pc := 17) B dX3_box_17 rfl 0 rfl ?_
      refine kw_gR (pc := 18) B dX3_box_18 fl_X3_9 (fun r3 => ?_)
      refine kw_iload (pc := 21) B dX3_box_21 4 rfl ?_
      refine kw_iconst (pc := 23) B dX3_box_23 (v := (1 : Int32)) rfl ?_
      refine kw_callS (pc := 24) B dX3_box_24 (ct_X3_boxAt x4 (1 : Int32)) q2493 q2494 q81 q2495 ⟨by decide, by decide, rfl⟩ (As := [kI x4, kI (1 : Int32)]) rfl (st := [kA r3]) rfl (Nat.le_of_ble_eq_true rfl) (by decide) (by decide) kw_qI (fun i4 => ?_)
      refine kw_iald (pc := 27) B dX3_box_27 (fun i5 => ?_)
      refine kw_iload_n (pc := 28) B dX3_box_28 rfl 1 rfl ?_
      refine kw_if_eq (pc := 29) (tgt := 36) B dX3_box_29 rfl ?_ ?_
      · refine kw_iconst (pc := 36) B dX3_box_36 (v := (0 : Int32)) rfl ?_
        exact kw_pick [0, 1, 2, 3, 4] rfl (wb_X3_box_37 B ih x0 x1 x2 x3 x4 (0 : Int32) i5)
      · refine kw_iconst (pc := 32) B dX3_box_32 (v := (1 : Int32)) rfl ?_
        refine kw_goto (pc := 33) (tgt := 37) B dX3_box_33 rfl ?_
        exact kw_pick [0, 1, 2, 3, 4] rfl (wb_X3_box_37 B ih x0 x1 x2 x3 x4 (1 : Int32) i5)
theorem wm_X3_box {E : kw_E} (B : kw_ok E cX3_box RX3 "box" 6 (some .int) 2 21 []) (a0 : Option Nat) (a1 : Int32) (a2 : Int32) : kw_W E kw_eI 0 [(0, kA a0), (1, kI a1), (2, kI a2)] [] (pm_X3_box a0 a1 a2) := by
  unfold pm_X3_box
  refine kw_iconst (pc := 0) B dX3_box_0 (v := (0 : Int32)) rfl ?_
  refine kw_istore_n (pc := 1) B dX3_box_1 rfl (by decide) (L2 := [(3, kI (0 : Int32)), (0, kA a0), (1, kI a1), (2, kI a2)]) rfl ?_
  refine kw_iconst (pc := 2) B dX3_box_2 (v := (0 : Int32)) rfl ?_
  refine kw_istore (pc := 3) B dX3_box_3 (by decide) (L2 := [(4, kI (0 : Int32)), (3, kI (0 : Int32)), (0, kA a0), (1, kI a1), (2, kI a2)]) rfl ?_
  exact kw_pick [2, 3, 4, 1, 0] rfl (wb_X3_box_5 B km_fuel a0 a1 a2 (0 : Int32) (0 : Int32))
theorem ct_X3_box (a0 : Option Nat) (a1 : Int32) (a2 : Int32) (l : Launch) : kw_Met l yX3_box (ws_ yX3_box cX3_box 6 (some .int)) 2 21 [kA a0, kI a1, kI a2] kw_eI (pm_X3_box a0 a1 a2) := kw_met (plainFor_of_name rfl) (Nat.le_of_ble_eq_true rfl) (fun E B => wm_X3_box B a0 a1 a2) l

/-! RosaryCarvers finest (Z)I -/
theorem fl_X0_193 : kw_flN RX0 193 "RosaryCarvers$Bead" "RosaryCarvers" [(14, 0)] := (kw_flN_c (C := RX16) (T := TX16) (N := 3) rfl (by decide) in_X16 q1409 (Or.inl rfl) kw_flN_nil)
theorem wm_X0_finest {E : kw_E} (B : kw_ok E cX0_finest RX0 "finest" 3 (some .int) 8 152 []) (a0 : Option Nat) (a1 : Int32) : kw_W E kw_eI 0 [(0, kA a0), (1, kI a1)] [] (pm_X0_finest a0 a1) := by
  unfold pm_X0_finest
  refine kw_aload_n (pc := 0) B dX0_finest_0 rfl 0 rfl ?_
  refine kw_gR (pc := 1) B dX0_finest_1 fl_X0_17 (fun r1 => ?_)
  refine kw_gRN (pc := 4) B dX0_finest_4 fl_X0_169 (fun r2 => ?_)
  refine kw_iload_n (pc := 7) B dX0_finest_7 rfl 1 rfl ?_
  refine kw_disp (pc := 8) (pc' := 11) (st := []) kw_hA (fun r3 => ?_) ?_
  · refine kw_astore_n (pc := 11) B dX0_finest_11 rfl (by decide) (L2 := [(2, kA r3), (0, kA a0), (1, kI a1)]) rfl ?_
    refine kw_aload_n (pc := 12) B dX0_finest_12 rfl 0 rfl ?_
    refine kw_ifnonnull (pc := 13) (tgt := 21) B dX0_finest_13 rfl ?_ ?_
    · refine kw_aload_n (pc := 21) B dX0_finest_21 rfl 0 rfl ?_
      refine kw_gIN (pc := 22) B dX0_finest_22 fl_X0_193 (fun i4 => ?_)
      exact kw_iret B dX0_finest_25 rfl
    · refine kw_bipush (pc := 16) B dX0_finest_16 (v := (-6 : Int32)) rfl ?_
      refine kw_goto (pc := 18) (tgt := 25) B dX0_finest_18 rfl ?_
      exact kw_iret B dX0_finest_25 rfl
  · intro q hq hk
    simp only [List.mem_cons, List.not_mem_nil, or_false] at hq
    rcases hq with rfl | rfl | rfl
    · exact kw_callV (pc := 8) B dX0_finest_8 (ci := 2) rfl (ct_X2_finest r2 a1) q1840 q875 q876 q78 q880 ⟨by decide, by decide, rfl⟩ (As := [kI a1]) rfl (st := []) rfl (Nat.le_of_ble_eq_true rfl) (by decide) (by decide) kw_qA hk
    · exact kw_callV (pc := 8) B dX0_finest_8 (ci := 7) rfl (ct_X2_finest r2 a1) q1840 q875 q878 q78 q880 ⟨by decide, by decide, rfl⟩ (As := [kI a1]) rfl (st := []) rfl (Nat.le_of_ble_eq_true rfl) (by decide) (by decide) kw_qA hk
    · exact kw_callV (pc := 8) B dX0_finest_8 (ci := 12) rfl (ct_X2_finest r2 a1) q1840 q875 q879 q78 q880 ⟨by decide, by decide, rfl⟩ (As := [kI a1]) rfl (st := []) rfl (Nat.le_of_ble_eq_true rfl) (by decide) (by decide) kw_qA hk
theorem ct_X0_finest (a0 : Option Nat) (a1 : Int32) (l : Launch) : kw_Met l yX0_finest (ws_ yX0_finest cX0_finest 3 (some .int)) 8 152 [kA a0, kI a1] kw_eI (pm_X0_finest a0 a1) := kw_met (plainFor_of_name rfl) (Nat.le_of_ble_eq_true rfl) (fun E B => wm_X0_finest B a0 a1) l

/-! RosaryCarversModel finest (Z)I -/

theorem wm_X3_finest {E : kw_E} (B : kw_ok E cX3_finest RX3 "finest" 3 (some .int) 3 45 []) (a0 : Option Nat) (a1 : Int32) : kw_W E kw_eI 0 [(0, kA a0), (1, kI a1)] [] (pm_X3_finest a0 a1) := by
  unfold pm_X3_finest
  refine kw_aload_n (pc := 0) B dX3_finest_0 rfl 0 rfl ?_
  refine kw_iload_n (pc := 1) B dX3_finest_1 rfl 1 rfl ?_
  refine kw_callV (pc := 2) B dX3_finest_2 (ci := 3) rfl (ct_X3_finestPlace a0 a1) q2500 q2502 qs36 q81 q2503 ⟨by decide, by decide, rfl⟩ (As := [kI a1]) rfl (st := []) rfl (Nat.le_of_ble_eq_true rfl) (by decide) (by decide) kw_qI (fun i1 => ?_)
  refine kw_istore_n (pc := 5) B dX3_finest_5 rfl (by decide) (L2 := [(2, kI i1), (0, kA a0), (1, kI a1)]) rfl ?_
  refine kw_iload_n (pc := 6) B dX3_finest_6 rfl 0 rfl ?_
  refine kw_if_ge (pc := 7) (tgt := 15) B dX3_finest_7 rfl ?_ ?_
  · refine kw_aload_n (pc := 15) B dX3_finest_15 rfl 1 rfl ?_
    refine kw_gR (pc := 16) B dX3_finest_16 fl_X3_9 (fun r2 => ?_)
    refine kw_iload_n (pc := 19) B dX3_finest_19 rfl 0 rfl ?_
    refine kw_iconst (pc := 20) B dX3_finest_20 (v := (0 : Int32)) rfl ?_
    refine kw_callS (pc := 21) B dX3_finest_21 (ct_X3_boxAt i1 (0 : Int32)) q2493 q2494 q81 q2495 ⟨by decide, by decide, rfl⟩ (As := [kI i1, kI (0 : Int32)]) rfl (st := [kA r2]) rfl (Nat.le_of_ble_eq_true rfl) (by decide) (by decide) kw_qI (fun i3 => ?_)
    refine kw_iald (pc := 24) B dX3_finest_24 (fun i4 => ?_)
    exact kw_iret B dX3_finest_25 rfl
  · refine kw_bipush (pc := 10) B dX3_finest_10 (v := (-6 : Int32)) rfl ?_
    refine kw_goto (pc := 12) (tgt := 25) B dX3_finest_12 rfl ?_
    exact kw_iret B dX3_finest_25 rfl
theorem ct_X3_finest (a0 : Option Nat) (a1 : Int32) (l : Launch) : kw_Met l yX3_finest (ws_ yX3_finest cX3_finest 3 (some .int)) 3 45 [kA a0, kI a1] kw_eI (pm_X3_finest a0 a1) := kw_met (plainFor_of_name rfl) (Nat.le_of_ble_eq_true rfl) (fun E B => wm_X3_finest B a0 a1) l

/-! RosaryCarvers finestAgain (Z)I -/
theorem fl_X0_214 : kw_flN RX0 214 "RosaryCarvers$Bead" "RosaryCarvers" [(14, 2)] := (kw_flN_c (C := RX16) (T := TX16) (N := 3) rfl (by decide) in_X16 q1416 (Or.inl rfl) kw_flN_nil)
theorem wb_X0_finestAgain_74 {E : kw_E} (B : kw_ok E cX0_finestAgain RX0 "finestAgain" 6 (some .int) 7 128 []) {k3 : Option Nat → Int32 → Int32 → km_M Int32} {k28 : Option Nat → Int32 → Int32 → Int32 → Option Nat → km_M Int32} (h3 : ∀ (y0 : Option Nat) (y1 : Int32) (y2 : Int32), kw_W E kw_eI 3 [(0, kA y0), (1, kI y1), (2, kI y2)] [] (k3 y0 y1 y2)) (h28 : ∀ (y0 : Option Nat) (y1 : Int32) (y2 : Int32) (y3 : Int32) (y4 : Option Nat), kw_W E kw_eI 28 [(0, kA y0), (1, kI y1), (2, kI y2), (3, kI y3), (4, kA y4)] [] (k28 y0 y1 y2 y3 y4)) (x0 : Option Nat) (x1 : Int32) (x2 : Int32) (x4 : Option Nat) (x5 : Option Nat) : kw_W E kw_eI 74 [(0, kA x0), (1, kI x1), (2, kI x2), (4, kA x4), (5, kA x5)] [] (pb_X0_finestAgain_74 k3 k28 x0 x1 x2 x4 x5) := by
  unfold pb_X0_finestAgain_74
  refine kw_aload (pc := 74) B dX0_finestAgain_74 4 rfl ?_
  refine kw_gIN (pc := 76) B dX0_finestAgain_76 fl_X0_193 (fun i1 => ?_)
  refine kw_istore_n (pc := 79) B dX0_finestAgain_79 rfl (by decide) (L2 := [(3, kI i1), (0, kA x0), (1, kI x1), (2, kI x2), (4, kA x4), (5, kA x5)]) rfl ?_
  refine kw_goto (pc := 80) (tgt := 28) B dX0_finestAgain_80 rfl ?_
  exact kw_pick [1, 2, 3, 0, 4] rfl (h28 x0 x1 x2 i1 x4)
theorem wb_X0_finestAgain_28 {E : kw_E} (B : kw_ok E cX0_finestAgain RX0 "finestAgain" 6 (some .int) 7 128 []) {k3 : Option Nat → Int32 → Int32 → km_M Int32} (h3 : ∀ (y0 : Option Nat) (y1 : Int32) (y2 : Int32), kw_W E kw_eI 3 [(0, kA y0), (1, kI y1), (2, kI y2)] [] (k3 y0 y1 y2)) : ∀ (n : Nat) (x0 : Option Nat) (x1 : Int32) (x2 : Int32) (x3 : Int32) (x4 : Option Nat), kw_W E kw_eI 28 [(0, kA x0), (1, kI x1), (2, kI x2), (3, kI x3), (4, kA x4)] [] (pb_X0_finestAgain_28 k3 n x0 x1 x2 x3 x4) := by
  intro n
  induction n with
  | zero =>
    intro x0 x1 x2 x3 x4
    exact kw_fail_ok
  | succ n ih =>
    intro x0 x1 x2 x3 x4
    show kw_W E kw_eI 28 [(0, kA x0), (1, kI x1), (2, kI x2), (3, kI x3), (4, kA x4)] [] (
km_bind (km_disp x4 [(11, pm_X12_hasNext x4), (33, pm_J5_hasNext x4), (34, pm_J15_hasNext x4)]) fun i1 =>
if i1 = 0 then
(if x3 = (-6 : Int32) then
(k3 x0 x1 (x2 + (-1 : Int32)))
else
(km_pure x3))
else
(km_bind (km_disp x4 [(11, pm_X12_next x4), (33, pm_J5_next x4), (34, pm_J15_next x4)]) fun r2 =>
km_bind (km_cast [14] r2) fun _ =>
km_bind (km_gI [(14, 2)] r2) fun i3 =>
if ¬ i3 = x2 then
((pb_X0_finestAgain_28 k3 n) x0 x1 x2 x3 x4)
else
(if x3 = (-6 : Int32) then
(pb_X0_finestAgain_74 k3 (pb_X0_finestAgain_28 k3 n) x0 x1 x2 x4 r2)
else
(km_bind (km_gI [(14, 0)] r2) fun i4 =>
if x3 ≤ i4 then
((pb_X0_finestAgain_28 k3 n) x0 x1 x2 x3 x4)
else
(pb_X0_finestAgain_74 k3 (pb_X0_finestAgain_28 k3 n) x0 x1 x2 x4 r2)))))
    refine kw_aload (pc := 28) B dX0_finestAgain_28 4 rfl ?_
    refine kw_disp (pc := 30) (pc' := 35) (st := []) kw_hI (fun i1 => ?_) ?_
    · refine kw_if_eq (pc := 35) (tgt := 83) B dX0_finestAgain_35 rfl ?_ ?_
      · refine kw_iload_n (pc := 83) B dX0_finestAgain_83 rfl 3 rfl ?_
        refine kw_bipush (pc := 84) B dX0_finestAgain_84 (v := (-6 : Int32)) rfl ?_
        refine kw_icmp_eq (pc := 86) (tgt := 91) B dX0_finestAgain_86 rfl ?_ ?_
        · refine kw_iinc (pc := 91) B dX0_finestAgain_91 2 rfl (w := x2 + (-1 : Int32)) rfl (by decide) (L2 := [(2, kI (x2 + (-1 : Int32))), (0, kA x0), (1, kI x1), (3, kI x3), (4, kA x4)]) rfl ?_
          refine kw_goto (pc := 94) (tgt := 3) B dX0_finestAgain_94 rfl ?_
          exact kw_pick [1, 2, 0] rfl (h3 x0 x1 (x2 + (-1 : Int32)))
        · refine kw_iload_n (pc := 89) B dX0_finestAgain_89 rfl 3 rfl ?_
          exact kw_iret B dX0_finestAgain_90 rfl
      · refine kw_aload (pc := 38) B dX0_finestAgain_38 4 rfl ?_
        refine kw_disp (pc := 40) (pc' := 45) (st := []) kw_hA (fun r2 => ?_) ?_
        · refine kw_cast_ok (pc := 45) B dX0_finestAgain_45 q1847 cs_RosaryCarvers_Bead ?_
          refine kw_astore (pc := 48) B dX0_finestAgain_48 (by decide) (L2 := [(5, kA r2), (0, kA x0), (1, kI x1), (2, kI x2), (3, kI x3), (4, kA x4)]) rfl ?_
          refine kw_aload (pc := 50) B dX0_finestAgain_50 0 rfl ?_
          refine kw_gIN (pc := 52) B dX0_finestAgain_52 fl_X0_214 (fun i3 => ?_)
          refine kw_iload_n (pc := 55) B dX0_finestAgain_55 rfl 3 rfl ?_
          refine kw_icmp_ne (pc := 56) (tgt := 80) B dX0_finestAgain_56 rfl ?_ ?_
          · refine kw_goto (pc := 80) (tgt := 28) B dX0_finestAgain_80 rfl ?_
            exact kw_pick [1, 2, 3, 4, 5] rfl (ih x0 x1 x2 x3 x4)
          · refine kw_iload_n (pc := 59) B dX0_finestAgain_59 rfl 4 rfl ?_
            refine kw_bipush (pc := 60) B dX0_finestAgain_60 (v := (-6 : Int32)) rfl ?_
            refine kw_icmp_eq (pc := 62) (tgt := 74) B dX0_finestAgain_62 rfl ?_ ?_
            · exact kw_pick [1, 2, 3, 5, 0] rfl (wb_X0_finestAgain_74 B h3 ih x0 x1 x2 x4 r2)
            · refine kw_aload (pc := 65) B dX0_finestAgain_65 0 rfl ?_
              refine kw_gIN (pc := 67) B dX0_finestAgain_67 fl_X0_193 (fun i4 => ?_)
              refine kw_iload_n (pc := 70) B dX0_finestAgain_70 rfl 4 rfl ?_
              refine kw_icmp_ge (pc := 71) (tgt := 80) B dX0_finestAgain_71 rfl ?_ ?_
              · refine kw_goto (pc := 80) (tgt := 28) B dX0_finestAgain_80 rfl ?_
                exact kw_pick [1, 2, 3, 4, 5] rfl (ih x0 x1 x2 x3 x4)
              · exact kw_pick [1, 2, 3, 5, 0] rfl (wb_X0_finestAgain_74 B h3 ih x0 x1 x2 x4 r2)
        · intro q hq hk
          simp only [List.mem_cons, List.not_mem_nil, or_false] at hq
          rcases hq with rfl | rfl | rfl
          · exact kw_callF (pc := 40) B dX0_finestAgain_40 (ci := 11) rfl (ct_X12_next x4) q1275 q425 q427 q101 q429 q424 q423 q428 q426 q399 ⟨by decide, by decide, rfl⟩ (As := []) rfl (st := []) rfl (Nat.le_of_ble_eq_true rfl) (by decide) (by decide) kw_qA hk
          · exact kw_callF (pc := 40) B dX0_finestAgain_40 (ci := 33) rfl (ct_J5_next x4) q1275 q533 q535 q84 q537 q424 q423 q536 q534 q415 ⟨by decide, by decide, rfl⟩ (As := []) rfl (st := []) rfl (Nat.le_of_ble_eq_true rfl) (by decide) (by decide) kw_qA hk
          · exact kw_callF (pc := 40) B dX0_finestAgain_40 (ci := 34) rfl (ct_J15_next x4) q1275 q522 q524 q102 q526 q424 q423 q525 q523 q409 ⟨by decide, by decide, rfl⟩ (As := []) rfl (st := []) rfl (Nat.le_of_ble_eq_true rfl) (by decide) (by decide) kw_qA hk
    · intro q hq hk
      simp only [List.mem_cons, List.not_mem_nil, or_false] at hq
      rcases hq with rfl | rfl | rfl
      · exact kw_callF (pc := 30) B dX0_finestAgain_30 (ci := 11) rfl (ct_X12_hasNext x4) q1273 q400 q402 q101 q404 q398 q397 q403 q401 q399 ⟨by decide, by decide, rfl⟩ (As := []) rfl (st := []) rfl (Nat.le_of_ble_eq_true rfl) (by decide) (by decide) kw_qI hk
      · exact kw_callF (pc := 30) B dX0_finestAgain_30 (ci := 33) rfl (ct_J5_hasNext x4) q1273 q416 q418 q84 q420 q398 q397 q419 q417 q415 ⟨by decide, by decide, rfl⟩ (As := []) rfl (st := []) rfl (Nat.le_of_ble_eq_true rfl) (by decide) (by decide) kw_qI hk
      · exact kw_callF (pc := 30) B dX0_finestAgain_30 (ci := 34) rfl (ct_J15_hasNext x4) q1273 q410 q412 q102 q414 q398 q397 q413 q411 q409 ⟨by decide, by decide, rfl⟩ (As := []) rfl (st := []) rfl (Nat.le_of_ble_eq_true rfl) (by decide) (by decide) kw_qI hk
theorem wb_X0_finestAgain_3 {E : kw_E} (B : kw_ok E cX0_finestAgain RX0 "finestAgain" 6 (some .int) 7 128 [])  : ∀ (n : Nat) (x0 : Option Nat) (x1 : Int32) (x2 : Int32), kw_W E kw_eI 3 [(0, kA x0), (1, kI x1), (2, kI x2)] [] (pb_X0_finestAgain_3  n x0 x1 x2) := by
  intro n
  induction n with
  | zero =>
    intro x0 x1 x2
    exact kw_fail_ok
  | succ n ih =>
    intro x0 x1 x2
    show kw_W E kw_eI 3 [(0, kA x0), (1, kI x1), (2, kI x2)] [] (
if x2 ≤ 0 then
(km_pure (-6 : Int32))
else
(km_bind (km_gR [(0, 0)] x0) fun r1 =>
km_bind (km_gR [(1, 2)] r1) fun r2 =>
km_bind (km_disp r2 [(2, pm_X2_of r2 x1), (7, pm_X2_of r2 x1), (12, pm_X2_of r2 x1)]) fun r3 =>
km_bind (km_disp r3 [(2, pm_X2_iterator r3), (7, pm_X2_iterator r3), (10, pm_X11_iterator r3), (12, pm_X2_iterator r3), (30, pm_J2_iterator r3), (32, pm_J4_iterator r3)]) fun r4 =>
pb_X0_finestAgain_28 (pb_X0_finestAgain_3 n) km_fuel x0 x1 x2 (-6 : Int32) r4))
    refine kw_iload_n (pc := 3) B dX0_finestAgain_3 rfl 2 rfl ?_
    refine kw_if_le (pc := 4) (tgt := 97) B dX0_finestAgain_4 rfl ?_ ?_
    · refine kw_bipush (pc := 97) B dX0_finestAgain_97 (v := (-6 : Int32)) rfl ?_
      exact kw_iret B dX0_finestAgain_99 rfl
    · refine kw_bipush (pc := 7) B dX0_finestAgain_7 (v := (-6 : Int32)) rfl ?_
      refine kw_istore_n (pc := 9) B dX0_finestAgain_9 rfl (by decide) (L2 := [(3, kI (-6 : Int32)), (0, kA x0), (1, kI x1), (2, kI x2)]) rfl ?_
      refine kw_aload_n (pc := 10) B dX0_finestAgain_10 rfl 1 rfl ?_
      refine kw_gR (pc := 11) B dX0_finestAgain_11 fl_X0_17 (fun r1 => ?_)
      refine kw_gRN (pc := 14) B dX0_finestAgain_14 fl_X0_169 (fun r2 => ?_)
      refine kw_iload_n (pc := 17) B dX0_finestAgain_17 rfl 2 rfl ?_
      refine kw_disp (pc := 18) (pc' := 21) (st := []) kw_hA (fun r3 => ?_) ?_
      · refine kw_disp (pc := 21) (pc' := 26) (st := []) kw_hA (fun r4 => ?_) ?_
        · refine kw_astore (pc := 26) B dX0_finestAgain_26 (by decide) (L2 := [(4, kA r4), (3, kI (-6 : Int32)), (0, kA x0), (1, kI x1), (2, kI x2)]) rfl ?_
          exact kw_pick [2, 3, 4, 1, 0] rfl (wb_X0_finestAgain_28 B ih km_fuel x0 x1 x2 (-6 : Int32) r4)
        · intro q hq hk
          simp only [List.mem_cons, List.not_mem_nil, or_false] at hq
          rcases hq with rfl | rfl | rfl | rfl | rfl | rfl
          · exact kw_callF (pc := 21) B dX0_finestAgain_21 (ci := 2) rfl (ct_X2_iterator r3) q1846 q906 q908 q78 q910 q904 q903 q909 q907 q905 ⟨by decide, by decide, rfl⟩ (As := []) rfl (st := []) rfl (Nat.le_of_ble_eq_true rfl) (by decide) (by decide) kw_qA hk
          · exact kw_callF (pc := 21) B dX0_finestAgain_21 (ci := 7) rfl (ct_X2_iterator r3) q1846 q934 q908 q78 q910 q904 q903 q909 q935 q933 ⟨by decide, by decide, rfl⟩ (As := []) rfl (st := []) rfl (Nat.le_of_ble_eq_true rfl) (by decide) (by decide) kw_qA hk
          · exact kw_callF (pc := 21) B dX0_finestAgain_21 (ci := 10) rfl (ct_X11_iterator r3) q1846 q913 q915 q100 q917 q904 q903 q916 q914 q912 ⟨by decide, by decide, rfl⟩ (As := []) rfl (st := []) rfl (Nat.le_of_ble_eq_true rfl) (by decide) (by decide) kw_qA hk
          · exact kw_callF (pc := 21) B dX0_finestAgain_21 (ci := 12) rfl (ct_X2_iterator r3) q1846 q937 q908 q78 q910 q904 q903 q909 q938 q936 ⟨by decide, by decide, rfl⟩ (As := []) rfl (st := []) rfl (Nat.le_of_ble_eq_true rfl) (by decide) (by decide) kw_qA hk
          · exact kw_callF (pc := 21) B dX0_finestAgain_21 (ci := 30) rfl (ct_J2_iterator r3) q1846 q972 q373 q77 q375 q904 q903 q974 q973 q971 ⟨by decide, by decide, rfl⟩ (As := []) rfl (st := []) rfl (Nat.le_of_ble_eq_true rfl) (by decide) (by decide) kw_qA hk
          · exact kw_callF (pc := 21) B dX0_finestAgain_21 (ci := 32) rfl (ct_J4_iterator r3) q1846 q940 q942 q80 q944 q904 q903 q943 q941 q939 ⟨by decide, by decide, rfl⟩ (As := []) rfl (st := []) rfl (Nat.le_of_ble_eq_true rfl) (by decide) (by decide) kw_qA hk
      · intro q hq hk
        simp only [List.mem_cons, List.not_mem_nil, or_false] at hq
        rcases hq with rfl | rfl | rfl
        · exact kw_callV (pc := 18) B dX0_finestAgain_18 (ci := 2) rfl (ct_X2_of r2 x1) q1833 q882 q883 q78 q887 ⟨by decide, by decide, rfl⟩ (As := [kI x1]) rfl (st := []) rfl (Nat.le_of_ble_eq_true rfl) (by decide) (by decide) kw_qA hk
        · exact kw_callV (pc := 18) B dX0_finestAgain_18 (ci := 7) rfl (ct_X2_of r2 x1) q1833 q882 q885 q78 q887 ⟨by decide, by decide, rfl⟩ (As := [kI x1]) rfl (st := []) rfl (Nat.le_of_ble_eq_true rfl) (by decide) (by decide) kw_qA hk
        · exact kw_callV (pc := 18) B dX0_finestAgain_18 (ci := 12) rfl (ct_X2_of r2 x1) q1833 q882 q886 q78 q887 ⟨by decide, by decide, rfl⟩ (As := [kI x1]) rfl (st := []) rfl (Nat.le_of_ble_eq_true rfl) (by decide) (by decide) kw_qA hk
theorem wm_X0_finestAgain {E : kw_E} (B : kw_ok E cX0_finestAgain RX0 "finestAgain" 6 (some .int) 7 128 []) (a0 : Option Nat) (a1 : Int32) : kw_W E kw_eI 0 [(0, kA a0), (1, kI a1)] [] (pm_X0_finestAgain a0 a1) := by
  unfold pm_X0_finestAgain
  refine kw_bipush (pc := 0) B dX0_finestAgain_0 (v := (9 : Int32)) rfl ?_
  refine kw_istore_n (pc := 2) B dX0_finestAgain_2 rfl (by decide) (L2 := [(2, kI (9 : Int32)), (0, kA a0), (1, kI a1)]) rfl ?_
  exact kw_pick [1, 2, 0] rfl (wb_X0_finestAgain_3 B km_fuel a0 a1 (9 : Int32))
theorem ct_X0_finestAgain (a0 : Option Nat) (a1 : Int32) (l : Launch) : kw_Met l yX0_finestAgain (ws_ yX0_finestAgain cX0_finestAgain 6 (some .int)) 7 128 [kA a0, kI a1] kw_eI (pm_X0_finestAgain a0 a1) := kw_met (plainFor_of_name rfl) (Nat.le_of_ble_eq_true rfl) (fun E B => wm_X0_finestAgain B a0 a1) l

/-! RosaryCarversModel finestAgain (Z)I -/

theorem wb_X3_finestAgain_111 {E : kw_E} (B : kw_ok E cX3_finestAgain RX3 "finestAgain" 6 (some .int) 2 21 []) {k3 : Option Nat → Int32 → Int32 → km_M Int32} {k13 : Option Nat → Int32 → Int32 → Int32 → Int32 → km_M Int32} (h3 : ∀ (y0 : Option Nat) (y1 : Int32) (y2 : Int32), kw_W E kw_eI 3 [(0, kA y0), (1, kI y1), (2, kI y2)] [] (k3 y0 y1 y2)) (h13 : ∀ (y0 : Option Nat) (y1 : Int32) (y2 : Int32) (y3 : Int32) (y4 : Int32), kw_W E kw_eI 13 [(0, kA y0), (1, kI y1), (2, kI y2), (3, kI y3), (4, kI y4)] [] (k13 y0 y1 y2 y3 y4)) (x0 : Option Nat) (x1 : Int32) (x2 : Int32) (x4 : Int32) (s0 : Int32) : kw_W E kw_eI 111 [(0, kA x0), (1, kI x1), (2, kI x2), (4, kI x4)] [kI s0] (pb_X3_finestAgain_111 k3 k13 x0 x1 x2 x4 s0) := by
  unfold pb_X3_finestAgain_111
  refine kw_istore_n (pc := 111) B dX3_finestAgain_111 rfl (by decide) (L2 := [(3, kI s0), (0, kA x0), (1, kI x1), (2, kI x2), (4, kI x4)]) rfl ?_
  refine kw_iinc (pc := 112) B dX3_finestAgain_112 4 rfl (w := x4 + (1 : Int32)) rfl (by decide) (L2 := [(4, kI (x4 + (1 : Int32))), (3, kI s0), (0, kA x0), (1, kI x1), (2, kI x2)]) rfl ?_
  refine kw_goto (pc := 115) (tgt := 13) B dX3_finestAgain_115 rfl ?_
  exact kw_pick [2, 3, 4, 1, 0] rfl (h13 x0 x1 x2 s0 (x4 + (1 : Int32)))
theorem wb_X3_finestAgain_96 {E : kw_E} (B : kw_ok E cX3_finestAgain RX3 "finestAgain" 6 (some .int) 2 21 []) {k3 : Option Nat → Int32 → Int32 → km_M Int32} {k13 : Option Nat → Int32 → Int32 → Int32 → Int32 → km_M Int32} (h3 : ∀ (y0 : Option Nat) (y1 : Int32) (y2 : Int32), kw_W E kw_eI 3 [(0, kA y0), (1, kI y1), (2, kI y2)] [] (k3 y0 y1 y2)) (h13 : ∀ (y0 : Option Nat) (y1 : Int32) (y2 : Int32) (y3 : Int32) (y4 : Int32), kw_W E kw_eI 13 [(0, kA y0), (1, kI y1), (2, kI y2), (3, kI y3), (4, kI y4)] [] (k13 y0 y1 y2 y3 y4)) (x0 : Option Nat) (x1 : Int32) (x2 : Int32) (x4 : Int32) : kw_W E kw_eI 96 [(0, kA x0), (1, kI x1), (2, kI x2), (4, kI x4)] [] (pb_X3_finestAgain_96 k3 k13 x0 x1 x2 x4) := by
  unfold pb_X3_finestAgain_96
  refine kw_aload_n (pc := 96) B dX3_finestAgain_96 rfl 0 rfl ?_
  refine kw_gR (pc := 97) B dX3_finestAgain_97 fl_X3_9 (fun r1 => ?_)
  refine kw_iload (pc := 100) B dX3_finestAgain_100 3 rfl ?_
  refine kw_iconst (pc := 102) B dX3_finestAgain_102 (v := (0 : Int32)) rfl ?_
  refine kw_callS (pc := 103) B dX3_finestAgain_103 (ct_X3_boxAt x4 (0 : Int32)) q2493 q2494 q81 q2495 ⟨by decide, by decide, rfl⟩ (As := [kI x4, kI (0 : Int32)]) rfl (st := [kA r1]) rfl (Nat.le_of_ble_eq_true rfl) (by decide) (by decide) kw_qI (fun i2 => ?_)
  refine kw_iald (pc := 106) B dX3_finestAgain_106 (fun i3 => ?_)
  refine kw_goto (pc := 107) (tgt := 111) B dX3_finestAgain_107 rfl ?_
  exact kw_pick [0, 1, 2, 3] rfl (wb_X3_finestAgain_111 B h3 h13 x0 x1 x2 x4 i3)
theorem wb_X3_finestAgain_110 {E : kw_E} (B : kw_ok E cX3_finestAgain RX3 "finestAgain" 6 (some .int) 2 21 []) {k3 : Option Nat → Int32 → Int32 → km_M Int32} {k13 : Option Nat → Int32 → Int32 → Int32 → Int32 → km_M Int32} (h3 : ∀ (y0 : Option Nat) (y1 : Int32) (y2 : Int32), kw_W E kw_eI 3 [(0, kA y0), (1, kI y1), (2, kI y2)] [] (k3 y0 y1 y2)) (h13 : ∀ (y0 : Option Nat) (y1 : Int32) (y2 : Int32) (y3 : Int32) (y4 : Int32), kw_W E kw_eI 13 [(0, kA y0), (1, kI y1), (2, kI y2), (3, kI y3), (4, kI y4)] [] (k13 y0 y1 y2 y3 y4)) (x0 : Option Nat) (x1 : Int32) (x2 : Int32) (x3 : Int32) (x4 : Int32) : kw_W E kw_eI 110 [(0, kA x0), (1, kI x1), (2, kI x2), (3, kI x3), (4, kI x4)] [] (pb_X3_finestAgain_110 k3 k13 x0 x1 x2 x3 x4) := by
  unfold pb_X3_finestAgain_110
  refine kw_iload_n (pc := 110) B dX3_finestAgain_110 rfl 3 rfl ?_
  exact kw_pick [0, 1, 2, 4] rfl (wb_X3_finestAgain_111 B h3 h13 x0 x1 x2 x4 x3)
theorem wb_X3_finestAgain_68 {E : kw_E} (B : kw_ok E cX3_finestAgain RX3 "finestAgain" 6 (some .int) 2 21 []) {k3 : Option Nat → Int32 → Int32 → km_M Int32} {k13 : Option Nat → Int32 → Int32 → Int32 → Int32 → km_M Int32} (h3 : ∀ (y0 : Option Nat) (y1 : Int32) (y2 : Int32), kw_W E kw_eI 3 [(0, kA y0), (1, kI y1), (2, kI y2)] [] (k3 y0 y1 y2)) (h13 : ∀ (y0 : Option Nat) (y1 : Int32) (y2 : Int32) (y3 : Int32) (y4 : Int32), kw_W E kw_eI 13 [(0, kA y0), (1, kI y1), (2, kI y2), (3, kI y3), (4, kI y4)] [] (k13 y0 y1 y2 y3 y4)) (x0 : Option Nat) (x1 : Int32) (x2 : Int32) (x3 : Int32) (x4 : Int32) (s0 : Int32) : kw_W E kw_eI 68 [(0, kA x0), (1, kI x1), (2, kI x2), (3, kI x3), (4, kI x4)] [kI s0] (pb_X3_finestAgain_68 k3 k13 x0 x1 x2 x3 x4 s0) := by
  unfold pb_X3_finestAgain_68
  refine kw_istore (pc := 68) B dX3_finestAgain_68 (by decide) (L2 := [(5, kI s0), (0, kA x0), (1, kI x1), (2, kI x2), (3, kI x3), (4, kI x4)]) rfl ?_
  refine kw_iload (pc := 70) B dX3_finestAgain_70 0 rfl ?_
  refine kw_if_eq (pc := 72) (tgt := 110) B dX3_finestAgain_72 rfl ?_ ?_
  · exact kw_pick [1, 2, 3, 4, 5] rfl (wb_X3_finestAgain_110 B h3 h13 x0 x1 x2 x3 x4)
  · refine kw_iload_n (pc := 75) B dX3_finestAgain_75 rfl 4 rfl ?_
    refine kw_bipush (pc := 76) B dX3_finestAgain_76 (v := (-6 : Int32)) rfl ?_
    refine kw_icmp_eq (pc := 78) (tgt := 96) B dX3_finestAgain_78 rfl ?_ ?_
    · exact kw_pick [1, 2, 3, 5] rfl (wb_X3_finestAgain_96 B h3 h13 x0 x1 x2 x4)
    · refine kw_aload_n (pc := 81) B dX3_finestAgain_81 rfl 1 rfl ?_
      refine kw_gR (pc := 82) B dX3_finestAgain_82 fl_X3_9 (fun r1 => ?_)
      refine kw_iload (pc := 85) B dX3_finestAgain_85 5 rfl ?_
      refine kw_iconst (pc := 87) B dX3_finestAgain_87 (v := (0 : Int32)) rfl ?_
      refine kw_callS (pc := 88) B dX3_finestAgain_88 (ct_X3_boxAt x4 (0 : Int32)) q2493 q2494 q81 q2495 ⟨by decide, by decide, rfl⟩ (As := [kI x4, kI (0 : Int32)]) rfl (st := [kA r1]) rfl (Nat.le_of_ble_eq_true rfl) (by decide) (by decide) kw_qI (fun i2 => ?_)
      refine kw_iald (pc := 91) B dX3_finestAgain_91 (fun i3 => ?_)
      refine kw_iload_n (pc := 92) B dX3_finestAgain_92 rfl 4 rfl ?_
      refine kw_icmp_ge (pc := 93) (tgt := 110) B dX3_finestAgain_93 rfl ?_ ?_
      · exact kw_pick [1, 2, 3, 4, 5] rfl (wb_X3_finestAgain_110 B h3 h13 x0 x1 x2 x3 x4)
      · exact kw_pick [1, 2, 3, 5] rfl (wb_X3_finestAgain_96 B h3 h13 x0 x1 x2 x4)
theorem wb_X3_finestAgain_67 {E : kw_E} (B : kw_ok E cX3_finestAgain RX3 "finestAgain" 6 (some .int) 2 21 []) {k3 : Option Nat → Int32 → Int32 → km_M Int32} {k13 : Option Nat → Int32 → Int32 → Int32 → Int32 → km_M Int32} (h3 : ∀ (y0 : Option Nat) (y1 : Int32) (y2 : Int32), kw_W E kw_eI 3 [(0, kA y0), (1, kI y1), (2, kI y2)] [] (k3 y0 y1 y2)) (h13 : ∀ (y0 : Option Nat) (y1 : Int32) (y2 : Int32) (y3 : Int32) (y4 : Int32), kw_W E kw_eI 13 [(0, kA y0), (1, kI y1), (2, kI y2), (3, kI y3), (4, kI y4)] [] (k13 y0 y1 y2 y3 y4)) (x0 : Option Nat) (x1 : Int32) (x2 : Int32) (x3 : Int32) (x4 : Int32) : kw_W E kw_eI 67 [(0, kA x0), (1, kI x1), (2, kI x2), (3, kI x3), (4, kI x4)] [] (pb_X3_finestAgain_67 k3 k13 x0 x1 x2 x3 x4) := by
  unfold pb_X3_finestAgain_67
  refine kw_iconst (pc := 67) B dX3_finestAgain_67 (v := (0 : Int32)) rfl ?_
  exact kw_pick [0, 1, 2, 3, 4] rfl (wb_X3_finestAgain_68 B h3 h13 x0 x1 x2 x3 x4 (0 : Int32))
theorem wb_X3_finestAgain_45 {E : kw_E} (B : kw_ok E cX3_finestAgain RX3 "finestAgain" 6 (some .int) 2 21 []) {k3 : Option Nat → Int32 → Int32 → km_M Int32} {k13 : Option Nat → Int32 → Int32 → Int32 → Int32 → km_M Int32} (h3 : ∀ (y0 : Option Nat) (y1 : Int32) (y2 : Int32), kw_W E kw_eI 3 [(0, kA y0), (1, kI y1), (2, kI y2)] [] (k3 y0 y1 y2)) (h13 : ∀ (y0 : Option Nat) (y1 : Int32) (y2 : Int32) (y3 : Int32) (y4 : Int32), kw_W E kw_eI 13 [(0, kA y0), (1, kI y1), (2, kI y2), (3, kI y3), (4, kI y4)] [] (k13 y0 y1 y2 y3 y4)) (x0 : Option Nat) (x1 : Int32) (x2 : Int32) (x3 : Int32) (x4 : Int32) (s0 : Int32) (s1 : Int32) : kw_W E kw_eI 45 [(0, kA x0), (1, kI x1), (2, kI x2), (3, kI x3), (4, kI x4)] [kI s0, kI s1] (pb_X3_finestAgain_45 k3 k13 x0 x1 x2 x3 x4 s0 s1) := by
  unfold pb_X3_finestAgain_45
  refine kw_icmp_ne (pc := 45) (tgt := 67) B dX3_finestAgain_45 rfl ?_ ?_
  · exact kw_pick [0, 1, 2, 3, 4] rfl (wb_X3_finestAgain_67 B h3 h13 x0 x1 x2 x3 x4)
  · refine kw_aload_n (pc := 48) B dX3_finestAgain_48 rfl 0 rfl ?_
    refine kw_gR (pc := 49) B dX3_finestAgain_49 fl_X3_9 (fun r1 => ?_)
    refine kw_iload (pc := 52) B dX3_finestAgain_52 4 rfl ?_
    refine kw_iconst (pc := 54) B dX3_finestAgain_54 (v := (2 : Int32)) rfl ?_
    refine kw_callS (pc := 55) B dX3_finestAgain_55 (ct_X3_boxAt x4 (2 : Int32)) q2493 q2494 q81 q2495 ⟨by decide, by decide, rfl⟩ (As := [kI x4, kI (2 : Int32)]) rfl (st := [kA r1]) rfl (Nat.le_of_ble_eq_true rfl) (by decide) (by decide) kw_qI (fun i2 => ?_)
    refine kw_iald (pc := 58) B dX3_finestAgain_58 (fun i3 => ?_)
    refine kw_iload_n (pc := 59) B dX3_finestAgain_59 rfl 2 rfl ?_
    refine kw_icmp_ne (pc := 60) (tgt := 67) B dX3_finestAgain_60 rfl ?_ ?_
    · exact kw_pick [0, 1, 2, 3, 4] rfl (wb_X3_finestAgain_67 B h3 h13 x0 x1 x2 x3 x4)
    · refine kw_iconst (pc := 63) B dX3_finestAgain_63 (v := (1 : Int32)) rfl ?_
      refine kw_goto (pc := 64) (tgt := 68) B dX3_finestAgain_64 rfl ?_
      exact kw_pick [0, 1, 2, 3, 4] rfl (wb_X3_finestAgain_68 B h3 h13 x0 x1 x2 x3 x4 (1 : Int32))
theorem wb_X3_finestAgain_13 {E : kw_E} (B : kw_ok E cX3_finestAgain RX3 "finestAgain" 6 (some .int) 2 21 []) {k3 : Option Nat → Int32 → Int32 → km_M Int32} (h3 : ∀ (y0 : Option Nat) (y1 : Int32) (y2 : Int32), kw_W E kw_eI 3 [(0, kA y0), (1, kI y1), (2, kI y2)] [] (k3 y0 y1 y2)) : ∀ (n : Nat) (x0 : Option Nat) (x1 : Int32) (x2 : Int32) (x3 : Int32) (x4 : Int32), kw_W E kw_eI 13 [(0, kA x0), (1, kI x1), (2, kI x2), (3, kI x3), (4, kI x4)] [] (pb_X3_finestAgain_13 k3 n x0 x1 x2 x3 x4) := by
  intro n
  induction n with
  | zero =>
    intro x0 x1 x2 x3 x4
    exact kw_fail_ok
  | succ n ih =>
    intro x0 x1 x2 x3 x4
    show kw_W E kw_eI 13 [(0, kA x0), (1, kI x1), (2, kI x2), (3, kI x3), (4, kI x4)] [] (
km_bind (km_gR [(3, 0)] x0) fun r1 =>
km_bind (km_ldI 0 r1 (11 : Int32)) fun i2 =>
if i2 ≤ x4 then
(if x3 = (-6 : Int32) then
(k3 x0 x1 (x2 + (-1 : Int32)))
else
(km_pure x3))
else
(km_bind (km_gR [(3, 0)] x0) fun r3 =>
km_bind (pm_X3_boxAt x4 (1 : Int32)) fun i4 =>
km_bind (km_ldI 0 r3 i4) fun i5 =>
if x1 = 0 then
(pb_X3_finestAgain_45 k3 (pb_X3_finestAgain_13 k3 n) x0 x1 x2 x3 x4 (0 : Int32) i5)
else
(pb_X3_finestAgain_45 k3 (pb_X3_finestAgain_13 k3 n) x0 x1 x2 x3 x4 (1 : Int32) i5)))
    refine kw_iload (pc := 13) B dX3_finestAgain_13 4 rfl ?_
    refine kw_aload_n (pc := 15) B dX3_finestAgain_15 rfl 0 rfl ?_
    refine kw_gR (pc := 16) B dX3_finestAgain_16 fl_X3_9 (fun r1 => ?_)
    refine kw_bipush (pc := 19) B dX3_finestAgain_19 (v := (11 : Int32)) rfl ?_
    refine kw_iald (pc := 21) B dX3_finestAgain_21 (fun i2 => ?_)
    refine kw_icmp_ge (pc := 22) (tgt := 118) B dX3_finestAgain_22 rfl ?_ ?_
    · refine kw_iload_n (pc := 118) B dX3_finestAgain_118 rfl 3 rfl ?_
      refine kw_bipush (pc := 119) B dX3_finestAgain_119 (v := (-6 : Int32)) rfl ?_
      refine kw_icmp_eq (pc := 121) (tgt := 126) B dX3_finestAgain_121 rfl ?_ ?_
      · refine kw_iinc (pc := 126) B dX3_finestAgain_126 2 rfl (w := x2 + (-1 : Int32)) rfl (by decide) (L2 := [(2, kI (x2 + (-1 : Int32))), (0, kA x0), (1, kI x1), (3, kI x3), (4, kI x4)]) rfl ?_
        refine kw_goto (pc := 129) (tgt := 3) B dX3_finestAgain_129 rfl ?_
        exact kw_pick [1, 2, 0] rfl (h3 x0 x1 (x2 + (-1 : Int32)))
      · refine kw_iload_n (pc := 124) B dX3_finestAgain_124 rfl 3 rfl ?_
        exact kw_iret B dX3_finestAgain_125 rfl
    · refine kw_aload_n (pc := 25) B dX3_finestAgain_25 rfl 0 rfl ?_
      refine kw_gR (pc := 26) B dX3_finestAgain_26 fl_X3_9 (fun r3 => ?_)
      refine kw_iload (pc := 29) B dX3_finestAgain_29 4 rfl ?_
      refine kw_iconst (pc := 31) B dX3_finestAgain_31 (v := (1 : Int32)) rfl ?_
      refine kw_callS (pc := 32) B dX3_finestAgain_32 (ct_X3_boxAt x4 (1 : Int32)) q2493 q2494 q81 q2495 ⟨by decide, by decide, rfl⟩ (As := [kI x4, kI (1 : Int32)]) rfl (st := [kA r3]) rfl (Nat.le_of_ble_eq_true rfl) (by decide) (by decide) kw_qI (fun i4 => ?_)
      refine kw_iald (pc := 35) B dX3_finestAgain_35 (fun i5 => ?_)
      refine kw_iload_n (pc := 36) B dX3_finestAgain_36 rfl 1 rfl ?_
      refine kw_if_eq (pc := 37) (tgt := 44) B dX3_finestAgain_37 rfl ?_ ?_
      · refine kw_iconst (pc := 44) B dX3_finestAgain_44 (v := (0 : Int32)) rfl ?_
        exact kw_pick [0, 1, 2, 3, 4] rfl (wb_X3_finestAgain_45 B h3 ih x0 x1 x2 x3 x4 (0 : Int32) i5)
      · refine kw_iconst (pc := 40) B dX3_finestAgain_40 (v := (1 : Int32)) rfl ?_
        refine kw_goto (pc := 41) (tgt := 45) B dX3_finestAgain_41 rfl ?_
        exact kw_pick [0, 1, 2, 3, 4] rfl (wb_X3_finestAgain_45 B h3 ih x0 x1 x2 x3 x4 (1 : Int32) i5)
theorem wb_X3_finestAgain_3 {E : kw_E} (B : kw_ok E cX3_finestAgain RX3 "finestAgain" 6 (some .int) 2 21 [])  : ∀ (n : Nat) (x0 : Option Nat) (x1 : Int32) (x2 : Int32), kw_W E kw_eI 3 [(0, kA x0), (1, kI x1), (2, kI x2)] [] (pb_X3_finestAgain_3  n x0 x1 x2) := by
  intro n
  induction n with
  | zero =>
    intro x0 x1 x2
    exact kw_fail_ok
  | succ n ih =>
    intro x0 x1 x2
    show kw_W E kw_eI 3 [(0, kA x0), (1, kI x1), (2, kI x2)] [] (
if x2 ≤ 0 then
(km_pure (-6 : Int32))
else
(pb_X3_finestAgain_13 (pb_X3_finestAgain_3 n) km_fuel x0 x1 x2 (-6 : Int32) (0 : Int32)))
    refine kw_iload_n (pc := 3) B dX3_finestAgain_3 rfl 2 rfl ?_
    refine kw_if_le (pc := 4) (tgt := 132) B dX3_finestAgain_4 rfl ?_ ?_
    · refine kw_bipush (pc := 132) B dX3_finestAgain_132 (v := (-6 : Int32)) rfl ?_
      exact kw_iret B dX3_finestAgain_134 rfl
    · refine kw_bipush (pc := 7) B dX3_finestAgain_7 (v := (-6 : Int32)) rfl ?_
      refine kw_istore_n (pc := 9) B dX3_finestAgain_9 rfl (by decide) (L2 := [(3, kI (-6 : Int32)), (0, kA x0), (1, kI x1), (2, kI x2)]) rfl ?_
      refine kw_iconst (pc := 10) B dX3_finestAgain_10 (v := (0 : Int32)) rfl ?_
      refine kw_istore (pc := 11) B dX3_finestAgain_11 (by decide) (L2 := [(4, kI (0 : Int32)), (3, kI (-6 : Int32)), (0, kA x0), (1, kI x1), (2, kI x2)]) rfl ?_
      exact kw_pick [2, 3, 4, 1, 0] rfl (wb_X3_finestAgain_13 B ih km_fuel x0 x1 x2 (-6 : Int32) (0 : Int32))
theorem wm_X3_finestAgain {E : kw_E} (B : kw_ok E cX3_finestAgain RX3 "finestAgain" 6 (some .int) 2 21 []) (a0 : Option Nat) (a1 : Int32) : kw_W E kw_eI 0 [(0, kA a0), (1, kI a1)] [] (pm_X3_finestAgain a0 a1) := by
  unfold pm_X3_finestAgain
  refine kw_bipush (pc := 0) B dX3_finestAgain_0 (v := (9 : Int32)) rfl ?_
  refine kw_istore_n (pc := 2) B dX3_finestAgain_2 rfl (by decide) (L2 := [(2, kI (9 : Int32)), (0, kA a0), (1, kI a1)]) rfl ?_
  exact kw_pick [1, 2, 0] rfl (wb_X3_finestAgain_3 B km_fuel a0 a1 (9 : Int32))
theorem ct_X3_finestAgain (a0 : Option Nat) (a1 : Int32) (l : Launch) : kw_Met l yX3_finestAgain (ws_ yX3_finestAgain cX3_finestAgain 6 (some .int)) 2 21 [kA a0, kI a1] kw_eI (pm_X3_finestAgain a0 a1) := kw_met (plainFor_of_name rfl) (Nat.le_of_ble_eq_true rfl) (fun E B => wm_X3_finestAgain B a0 a1) l

/-! RosaryCarvers$Rosary wants ()I -/

theorem wm_X8_wants {E : kw_E} (B : kw_ok E cX8_wants RX8 "wants" 1 (some .int) 5 80 []) (a0 : Option Nat) : kw_W E kw_eI 0 [(0, kA a0)] [] (pm_X8_wants a0) := by
  unfold pm_X8_wants
  refine kw_aload_n (pc := 0) B dX8_wants_0 rfl 0 rfl ?_
  refine kw_callV (pc := 1) B dX8_wants_1 (ci := 7) rfl (ct_X8_isDone a0) q1861 q1014 q1015 q97 q1016 ⟨by decide, by decide, rfl⟩ (As := []) rfl (st := []) rfl (Nat.le_of_ble_eq_true rfl) (by decide) (by decide) kw_qI (fun i1 => ?_)
  refine kw_if_eq (pc := 4) (tgt := 9) B dX8_wants_4 rfl ?_ ?_
  · refine kw_aload_n (pc := 9) B dX8_wants_9 rfl 0 rfl ?_
    refine kw_callV (pc := 10) B dX8_wants_10 (ci := 7) rfl (ct_X8_isWhole a0) q1862 q1452 q1453 q97 q1454 ⟨by decide, by decide, rfl⟩ (As := []) rfl (st := []) rfl (Nat.le_of_ble_eq_true rfl) (by decide) (by decide) kw_qI (fun i2 => ?_)
    refine kw_if_eq (pc := 13) (tgt := 20) B dX8_wants_13 rfl ?_ ?_
    · refine kw_aload_n (pc := 20) B dX8_wants_20 rfl 0 rfl ?_
      refine kw_callV (pc := 21) B dX8_wants_21 (ci := 7) rfl (ct_X8_wantsLarge a0) q1863 q1463 q1464 q97 q1465 ⟨by decide, by decide, rfl⟩ (As := []) rfl (st := []) rfl (Nat.le_of_ble_eq_true rfl) (by decide) (by decide) kw_qI (fun i3 => ?_)
      refine kw_callSN (pc := 24) B dX8_wants_24 (ct_X0_bit i3) q1864 q1007 q73 q1008 ⟨by decide, by decide, rfl⟩ (As := [kI i3]) rfl (st := []) rfl (Nat.le_of_ble_eq_true rfl) (by decide) (by decide) kw_qI (fun i4 => ?_)
      exact kw_iret B dX8_wants_27 rfl
    · refine kw_iconst (pc := 16) B dX8_wants_16 (v := (2 : Int32)) rfl ?_
      refine kw_goto (pc := 17) (tgt := 27) B dX8_wants_17 rfl ?_
      exact kw_iret B dX8_wants_27 rfl
  · refine kw_iconst (pc := 7) B dX8_wants_7 (v := (3 : Int32)) rfl ?_
    exact kw_iret B dX8_wants_8 rfl
theorem ct_X8_wants (a0 : Option Nat) (l : Launch) : kw_Met l yX8_wants (ws_ yX8_wants cX8_wants 1 (some .int)) 5 80 [kA a0] kw_eI (pm_X8_wants a0) := kw_met (plainFor_of_name rfl) (Nat.le_of_ble_eq_true rfl) (fun E B => wm_X8_wants B a0) l

/-! RosaryCarvers stringOf (II)I -/
theorem fl_X0_217 : kw_flN RX0 217 "RosaryCarvers$Shop" "RosaryCarvers" [(1, 3)] := (kw_flN_c (C := RX1) (T := TX1) (N := 17) rfl (by decide) in_X1 q220 (Or.inl rfl) kw_flN_nil)
theorem fl_X0_222 : kw_flN RX0 222 "RosaryCarvers$Rosary" "RosaryCarvers" [(7, 1)] := (kw_flN_c (C := RX8) (T := TX8) (N := 4) rfl (by decide) in_X8 q727 (Or.inl rfl) kw_flN_nil)
theorem fl_X0_225 : kw_flN RX0 225 "RosaryCarvers$Rosary" "RosaryCarvers" [(7, 2)] := (kw_flN_c (C := RX8) (T := TX8) (N := 4) rfl (by decide) in_X8 q730 (Or.inl rfl) kw_flN_nil)
theorem fl_X0_231 : kw_flN RX0 231 "RosaryCarvers$Rosary" "RosaryCarvers" [(7, 3)] := (kw_flN_c (C := RX8) (T := TX8) (N := 4) rfl (by decide) in_X8 q733 (Or.inl rfl) kw_flN_nil)
theorem wm_X0_stringOf {E : kw_E} (B : kw_ok E cX0_stringOf RX0 "stringOf" 4 (some .int) 10 191 []) (a0 : Option Nat) (a1 : Int32) (a2 : Int32) : kw_W E kw_eI 0 [(0, kA a0), (1, kI a1), (2, kI a2)] [] (pm_X0_stringOf a0 a1 a2) := by
  unfold pm_X0_stringOf
  refine kw_aload_n (pc := 0) B dX0_stringOf_0 rfl 0 rfl ?_
  refine kw_gR (pc := 1) B dX0_stringOf_1 fl_X0_17 (fun r1 => ?_)
  refine kw_iload_n (pc := 4) B dX0_stringOf_4 rfl 1 rfl ?_
  refine kw_callV (pc := 5) B dX0_stringOf_5 (ci := 1) rfl (ct_X1_isString r1 a1) q1439 q1440 q1441 q74 q1442 ⟨by decide, by decide, rfl⟩ (As := [kI a1]) rfl (st := []) rfl (Nat.le_of_ble_eq_true rfl) (by decide) (by decide) kw_qI (fun i2 => ?_)
  refine kw_if_ne (pc := 8) (tgt := 13) B dX0_stringOf_8 rfl ?_ ?_
  · refine kw_aload_n (pc := 13) B dX0_stringOf_13 rfl 0 rfl ?_
    refine kw_gR (pc := 14) B dX0_stringOf_14 fl_X0_17 (fun r3 => ?_)
    refine kw_gRN (pc := 17) B dX0_stringOf_17 fl_X0_217 (fun r4 => ?_)
    refine kw_iload_n (pc := 20) B dX0_stringOf_20 rfl 1 rfl ?_
    refine kw_callV (pc := 21) B dX0_stringOf_21 (ci := 30) rfl (ct_J2_get r4 a1) q1820 q503 q504 q77 q505 ⟨by decide, by decide, rfl⟩ (As := [kI a1]) rfl (st := []) rfl (Nat.le_of_ble_eq_true rfl) (by decide) (by decide) kw_qA (fun r5 => ?_)
    refine kw_cast_ok (pc := 24) B dX0_stringOf_24 q1852 cs_RosaryCarvers_Rosary ?_
    refine kw_astore_n (pc := 27) B dX0_stringOf_27 rfl (by decide) (L2 := [(3, kA r5), (0, kA a0), (1, kI a1), (2, kI a2)]) rfl ?_
    refine kw_iload_n (pc := 28) B dX0_stringOf_28 rfl 3 rfl ?_
    refine kw_tsw (pc := 29) (tgt := 110) B dX0_stringOf_29 rfl rfl ⟨⟨72, rfl, ?_⟩, ⟨77, rfl, ?_⟩, ⟨82, rfl, ?_⟩, ⟨87, rfl, ?_⟩, ⟨92, rfl, ?_⟩, ⟨97, rfl, ?_⟩, ⟨105, rfl, ?_⟩, trivial⟩ ?_
    · refine kw_aload_n (pc := 72) B dX0_stringOf_72 rfl 0 rfl ?_
      refine kw_gIN (pc := 73) B dX0_stringOf_73 fl_X0_222 (fun i6 => ?_)
      exact kw_iret B dX0_stringOf_76 rfl
    · refine kw_aload_n (pc := 77) B dX0_stringOf_77 rfl 0 rfl ?_
      refine kw_gIN (pc := 78) B dX0_stringOf_78 fl_X0_225 (fun i7 => ?_)
      exact kw_iret B dX0_stringOf_81 rfl
    · refine kw_aload_n (pc := 82) B dX0_stringOf_82 rfl 0 rfl ?_
      refine kw_callU (pc := 83) B dX0_stringOf_83 (x0 := ⟨"RosaryCarvers$Rosary", "size", "()I"⟩) (owner := "RosaryCarvers$Beads") (ci := 7) rfl (ct_X2_size r5) q1853 q1460 q1461 q1108 q78 q1109 rfl ⟨by decide, by decide, rfl⟩ (As := []) rfl (st := []) rfl (Nat.le_of_ble_eq_true rfl) (by decide) (by decide) kw_qI (fun i8 => ?_)
      exact kw_iret B dX0_stringOf_86 rfl
    · refine kw_aload_n (pc := 87) B dX0_stringOf_87 rfl 0 rfl ?_
      refine kw_gIN (pc := 88) B dX0_stringOf_88 fl_X0_231 (fun i9 => ?_)
      exact kw_iret B dX0_stringOf_91 rfl
    · refine kw_aload_n (pc := 92) B dX0_stringOf_92 rfl 0 rfl ?_
      refine kw_callU (pc := 93) B dX0_stringOf_93 (x0 := ⟨"RosaryCarvers$Rosary", "fineness", "()I"⟩) (owner := "RosaryCarvers$Beads") (ci := 7) rfl (ct_X2_fineness r5) q1854 q1259 q1260 q1135 q78 q1136 rfl ⟨by decide, by decide, rfl⟩ (As := []) rfl (st := []) rfl (Nat.le_of_ble_eq_true rfl) (by decide) (by decide) kw_qI (fun i10 => ?_)
      exact kw_iret B dX0_stringOf_96 rfl
    · refine kw_aload_n (pc := 97) B dX0_stringOf_97 rfl 0 rfl ?_
      refine kw_callV (pc := 98) B dX0_stringOf_98 (ci := 7) rfl (ct_X8_isDone r5) q1855 q1014 q1015 q97 q1016 ⟨by decide, by decide, rfl⟩ (As := []) rfl (st := []) rfl (Nat.le_of_ble_eq_true rfl) (by decide) (by decide) kw_qI (fun i11 => ?_)
      refine kw_callS (pc := 101) B dX0_stringOf_101 (ct_X0_bit i11) q1856 q1007 q73 q1008 ⟨by decide, by decide, rfl⟩ (As := [kI i11]) rfl (st := []) rfl (Nat.le_of_ble_eq_true rfl) (by decide) (by decide) kw_qI (fun i12 => ?_)
      exact kw_iret B dX0_stringOf_104 rfl
    · refine kw_aload_n (pc := 105) B dX0_stringOf_105 rfl 0 rfl ?_
      refine kw_callV (pc := 106) B dX0_stringOf_106 (ci := 7) rfl (ct_X8_wants r5) q1857 q1858 q1859 q97 q1860 ⟨by decide, by decide, rfl⟩ (As := []) rfl (st := []) rfl (Nat.le_of_ble_eq_true rfl) (by decide) (by decide) kw_qI (fun i13 => ?_)
      exact kw_iret B dX0_stringOf_109 rfl
    · refine kw_bipush (pc := 110) B dX0_stringOf_110 (v := (-2 : Int32)) rfl ?_
      exact kw_iret B dX0_stringOf_112 rfl
  · refine kw_iconst (pc := 11) B dX0_stringOf_11 (v := (-1 : Int32)) rfl ?_
    exact kw_iret B dX0_stringOf_12 rfl
theorem ct_X0_stringOf (a0 : Option Nat) (a1 : Int32) (a2 : Int32) (l : Launch) : kw_Met l yX0_stringOf (ws_ yX0_stringOf cX0_stringOf 4 (some .int)) 10 191 [kA a0, kI a1, kI a2] kw_eI (pm_X0_stringOf a0 a1 a2) := kw_met (plainFor_of_name rfl) (Nat.le_of_ble_eq_true rfl) (fun E B => wm_X0_stringOf B a0 a1 a2) l

/-! RosaryCarversModel stringOf (II)I -/

theorem wm_X3_stringOf {E : kw_E} (B : kw_ok E cX3_stringOf RX3 "stringOf" 3 (some .int) 6 106 []) (a0 : Option Nat) (a1 : Int32) (a2 : Int32) : kw_W E kw_eI 0 [(0, kA a0), (1, kI a1), (2, kI a2)] [] (pm_X3_stringOf a0 a1 a2) := by
  unfold pm_X3_stringOf
  refine kw_aload_n (pc := 0) B dX3_stringOf_0 rfl 0 rfl ?_
  refine kw_iload_n (pc := 1) B dX3_stringOf_1 rfl 1 rfl ?_
  refine kw_callV (pc := 2) B dX3_stringOf_2 (ci := 3) rfl (ct_X3_isString a0 a1) q2531 q2533 qs39 q81 q2534 ⟨by decide, by decide, rfl⟩ (As := [kI a1]) rfl (st := []) rfl (Nat.le_of_ble_eq_true rfl) (by decide) (by decide) kw_qI (fun i1 => ?_)
  refine kw_if_ne (pc := 5) (tgt := 10) B dX3_stringOf_5 rfl ?_ ?_
  · refine kw_iload_n (pc := 10) B dX3_stringOf_10 rfl 2 rfl ?_
    refine kw_tsw (pc := 11) (tgt := 106) B dX3_stringOf_11 rfl rfl ⟨⟨52, rfl, ?_⟩, ⟨59, rfl, ?_⟩, ⟨66, rfl, ?_⟩, ⟨73, rfl, ?_⟩, ⟨80, rfl, ?_⟩, ⟨86, rfl, ?_⟩, ⟨100, rfl, ?_⟩, trivial⟩ ?_
    · refine kw_aload_n (pc := 52) B dX3_stringOf_52 rfl 0 rfl ?_
      refine kw_iload_n (pc := 53) B dX3_stringOf_53 rfl 1 rfl ?_
      refine kw_iconst (pc := 54) B dX3_stringOf_54 (v := (0 : Int32)) rfl ?_
      refine kw_callV (pc := 55) B dX3_stringOf_55 (ci := 3) rfl (ct_X3_ofString a0 a1 (0 : Int32)) q2543 q2545 qs42 q81 q2546 ⟨by decide, by decide, rfl⟩ (As := [kI a1, kI (0 : Int32)]) rfl (st := []) rfl (Nat.le_of_ble_eq_true rfl) (by decide) (by decide) kw_qI (fun i2 => ?_)
      exact kw_iret B dX3_stringOf_58 rfl
    · refine kw_aload_n (pc := 59) B dX3_stringOf_59 rfl 0 rfl ?_
      refine kw_iload_n (pc := 60) B dX3_stringOf_60 rfl 1 rfl ?_
      refine kw_iconst (pc := 61) B dX3_stringOf_61 (v := (1 : Int32)) rfl ?_
      refine kw_callV (pc := 62) B dX3_stringOf_62 (ci := 3) rfl (ct_X3_ofString a0 a1 (1 : Int32)) q2543 q2545 qs42 q81 q2546 ⟨by decide, by decide, rfl⟩ (As := [kI a1, kI (1 : Int32)]) rfl (st := []) rfl (Nat.le_of_ble_eq_true rfl) (by decide) (by decide) kw_qI (fun i3 => ?_)
      exact kw_iret B dX3_stringOf_65 rfl
    · refine kw_aload_n (pc := 66) B dX3_stringOf_66 rfl 0 rfl ?_
      refine kw_iload_n (pc := 67) B dX3_stringOf_67 rfl 1 rfl ?_
      refine kw_iconst (pc := 68) B dX3_stringOf_68 (v := (3 : Int32)) rfl ?_
      refine kw_callV (pc := 69) B dX3_stringOf_69 (ci := 3) rfl (ct_X3_ofString a0 a1 (3 : Int32)) q2543 q2545 qs42 q81 q2546 ⟨by decide, by decide, rfl⟩ (As := [kI a1, kI (3 : Int32)]) rfl (st := []) rfl (Nat.le_of_ble_eq_true rfl) (by decide) (by decide) kw_qI (fun i4 => ?_)
      exact kw_iret B dX3_stringOf_72 rfl
    · refine kw_aload_n (pc := 73) B dX3_stringOf_73 rfl 0 rfl ?_
      refine kw_iload_n (pc := 74) B dX3_stringOf_74 rfl 1 rfl ?_
      refine kw_iconst (pc := 75) B dX3_stringOf_75 (v := (2 : Int32)) rfl ?_
      refine kw_callV (pc := 76) B dX3_stringOf_76 (ci := 3) rfl (ct_X3_ofString a0 a1 (2 : Int32)) q2543 q2545 qs42 q81 q2546 ⟨by decide, by decide, rfl⟩ (As := [kI a1, kI (2 : Int32)]) rfl (st := []) rfl (Nat.le_of_ble_eq_true rfl) (by decide) (by decide) kw_qI (fun i5 => ?_)
      exact kw_iret B dX3_stringOf_79 rfl
    · refine kw_aload_n (pc := 80) B dX3_stringOf_80 rfl 0 rfl ?_
      refine kw_iload_n (pc := 81) B dX3_stringOf_81 rfl 1 rfl ?_
      refine kw_callV (pc := 82) B dX3_stringOf_82 (ci := 3) rfl (ct_X3_fineness a0 a1) q2635 q2637 qs57 q81 q2638 ⟨by decide, by decide, rfl⟩ (As := [kI a1]) rfl (st := []) rfl (Nat.le_of_ble_eq_true rfl) (by decide) (by decide) kw_qI (fun i6 => ?_)
      exact kw_iret B dX3_stringOf_85 rfl
    · refine kw_aload_n (pc := 86) B dX3_stringOf_86 rfl 0 rfl ?_
      refine kw_iload_n (pc := 87) B dX3_stringOf_87 rfl 1 rfl ?_
      refine kw_callV (pc := 88) B dX3_stringOf_88 (ci := 3) rfl (ct_X3_isDone a0 a1) q2539 q2541 qs41 q81 q2542 ⟨by decide, by decide, rfl⟩ (As := [kI a1]) rfl (st := []) rfl (Nat.le_of_ble_eq_true rfl) (by decide) (by decide) kw_qI (fun i7 => ?_)
      refine kw_if_eq (pc := 91) (tgt := 98) B dX3_stringOf_91 rfl ?_ ?_
      · refine kw_iconst (pc := 98) B dX3_stringOf_98 (v := (0 : Int32)) rfl ?_
        exact kw_iret B dX3_stringOf_99 rfl
      · refine kw_iconst (pc := 94) B dX3_stringOf_94 (v := (1 : Int32)) rfl ?_
        refine kw_goto (pc := 95) (tgt := 99) B dX3_stringOf_95 rfl ?_
        exact kw_iret B dX3_stringOf_99 rfl
    · refine kw_aload_n (pc := 100) B dX3_stringOf_100 rfl 0 rfl ?_
      refine kw_iload_n (pc := 101) B dX3_stringOf_101 rfl 1 rfl ?_
      refine kw_callV (pc := 102) B dX3_stringOf_102 (ci := 3) rfl (ct_X3_wants a0 a1) q2535 q2537 qs40 q81 q2538 ⟨by decide, by decide, rfl⟩ (As := [kI a1]) rfl (st := []) rfl (Nat.le_of_ble_eq_true rfl) (by decide) (by decide) kw_qI (fun i8 => ?_)
      exact kw_iret B dX3_stringOf_105 rfl
    · refine kw_bipush (pc := 106) B dX3_stringOf_106 (v := (-2 : Int32)) rfl ?_
      exact kw_iret B dX3_stringOf_108 rfl
  · refine kw_iconst (pc := 8) B dX3_stringOf_8 (v := (-1 : Int32)) rfl ?_
    exact kw_iret B dX3_stringOf_9 rfl
theorem ct_X3_stringOf (a0 : Option Nat) (a1 : Int32) (a2 : Int32) (l : Launch) : kw_Met l yX3_stringOf (ws_ yX3_stringOf cX3_stringOf 3 (some .int)) 6 106 [kA a0, kI a1, kI a2] kw_eI (pm_X3_stringOf a0 a1 a2) := kw_met (plainFor_of_name rfl) (Nat.le_of_ble_eq_true rfl) (fun E B => wm_X3_stringOf B a0 a1 a2) l

/-! RosaryCarvers bead (IIZ)I -/

theorem wb_X0_bead_39 {E : kw_E} (B : kw_ok E cX0_bead RX0 "bead" 7 (some .int) 7 127 [])  : ∀ (n : Nat) (x2 : Int32) (x3 : Int32) (x4 : Int32) (x5 : Option Nat), kw_W E kw_eI 39 [(2, kI x2), (3, kI x3), (4, kI x4), (5, kA x5)] [] (pb_X0_bead_39  n x2 x3 x4 x5) := by
  intro n
  induction n with
  | zero =>
    intro x2 x3 x4 x5
    exact kw_fail_ok
  | succ n ih =>
    intro x2 x3 x4 x5
    show kw_W E kw_eI 39 [(2, kI x2), (3, kI x3), (4, kI x4), (5, kA x5)] [] (
km_bind (km_disp x5 [(11, pm_X12_hasNext x5), (33, pm_J5_hasNext x5), (34, pm_J15_hasNext x5)]) fun i1 =>
if i1 = 0 then
(km_pure (-1 : Int32))
else
(km_bind (km_disp x5 [(11, pm_X12_next x5), (33, pm_J5_next x5), (34, pm_J15_next x5)]) fun r2 =>
km_bind (km_cast [14] r2) fun _ =>
if ¬ x4 = x2 then
(pb_X0_bead_39 n x2 x3 (x4 + (1 : Int32)) x5)
else
(if x3 = 0 then
(km_bind (km_gI [(14, 0)] r2) fun i3 =>
km_pure i3)
else
(km_bind (km_gI [(14, 2)] r2) fun i4 =>
km_pure i4))))
    refine kw_aload (pc := 39) B dX0_bead_39 3 rfl ?_
    refine kw_disp (pc := 41) (pc' := 46) (st := []) kw_hI (fun i1 => ?_) ?_
    · refine kw_if_eq (pc := 46) (tgt := 91) B dX0_bead_46 rfl ?_ ?_
      · refine kw_iconst (pc := 91) B dX0_bead_91 (v := (-1 : Int32)) rfl ?_
        exact kw_iret B dX0_bead_92 rfl
      · refine kw_aload (pc := 49) B dX0_bead_49 3 rfl ?_
        refine kw_disp (pc := 51) (pc' := 56) (st := []) kw_hA (fun r2 => ?_) ?_
        · refine kw_cast_ok (pc := 56) B dX0_bead_56 q1847 cs_RosaryCarvers_Bead ?_
          refine kw_astore (pc := 59) B dX0_bead_59 (by decide) (L2 := [(6, kA r2), (2, kI x2), (3, kI x3), (4, kI x4), (5, kA x5)]) rfl ?_
          refine kw_iload (pc := 61) B dX0_bead_61 3 rfl ?_
          refine kw_iload_n (pc := 63) B dX0_bead_63 rfl 1 rfl ?_
          refine kw_icmp_ne (pc := 64) (tgt := 85) B dX0_bead_64 rfl ?_ ?_
          · refine kw_iinc (pc := 85) B dX0_bead_85 3 rfl (w := x4 + (1 : Int32)) rfl (by decide) (L2 := [(4, kI (x4 + (1 : Int32))), (6, kA r2), (2, kI x2), (3, kI x3), (5, kA x5)]) rfl ?_
            refine kw_goto (pc := 88) (tgt := 39) B dX0_bead_88 rfl ?_
            exact kw_pick [2, 3, 0, 4] rfl (ih x2 x3 (x4 + (1 : Int32)) x5)
          · refine kw_iload_n (pc := 67) B dX0_bead_67 rfl 2 rfl ?_
            refine kw_if_eq (pc := 68) (tgt := 79) B dX0_bead_68 rfl ?_ ?_
            · refine kw_aload (pc := 79) B dX0_bead_79 0 rfl ?_
              refine kw_gIN (pc := 81) B dX0_bead_81 fl_X0_193 (fun i3 => ?_)
              exact kw_iret B dX0_bead_84 rfl
            · refine kw_aload (pc := 71) B dX0_bead_71 0 rfl ?_
              refine kw_gIN (pc := 73) B dX0_bead_73 fl_X0_214 (fun i4 => ?_)
              refine kw_goto (pc := 76) (tgt := 84) B dX0_bead_76 rfl ?_
              exact kw_iret B dX0_bead_84 rfl
        · intro q hq hk
          simp only [List.mem_cons, List.not_mem_nil, or_false] at hq
          rcases hq with rfl | rfl | rfl
          · exact kw_callF (pc := 51) B dX0_bead_51 (ci := 11) rfl (ct_X12_next x5) q1275 q425 q427 q101 q429 q424 q423 q428 q426 q399 ⟨by decide, by decide, rfl⟩ (As := []) rfl (st := []) rfl (Nat.le_of_ble_eq_true rfl) (by decide) (by decide) kw_qA hk
          · exact kw_callF (pc := 51) B dX0_bead_51 (ci := 33) rfl (ct_J5_next x5) q1275 q533 q535 q84 q537 q424 q423 q536 q534 q415 ⟨by decide, by decide, rfl⟩ (As := []) rfl (st := []) rfl (Nat.le_of_ble_eq_true rfl) (by decide) (by decide) kw_qA hk
          · exact kw_callF (pc := 51) B dX0_bead_51 (ci := 34) rfl (ct_J15_next x5) q1275 q522 q524 q102 q526 q424 q423 q525 q523 q409 ⟨by decide, by decide, rfl⟩ (As := []) rfl (st := []) rfl (Nat.le_of_ble_eq_true rfl) (by decide) (by decide) kw_qA hk
    · intro q hq hk
      simp only [List.mem_cons, List.not_mem_nil, or_false] at hq
      rcases hq with rfl | rfl | rfl
      · exact kw_callF (pc := 41) B dX0_bead_41 (ci := 11) rfl (ct_X12_hasNext x5) q1273 q400 q402 q101 q404 q398 q397 q403 q401 q399 ⟨by decide, by decide, rfl⟩ (As := []) rfl (st := []) rfl (Nat.le_of_ble_eq_true rfl) (by decide) (by decide) kw_qI hk
      · exact kw_callF (pc := 41) B dX0_bead_41 (ci := 33) rfl (ct_J5_hasNext x5) q1273 q416 q418 q84 q420 q398 q397 q419 q417 q415 ⟨by decide, by decide, rfl⟩ (As := []) rfl (st := []) rfl (Nat.le_of_ble_eq_true rfl) (by decide) (by decide) kw_qI hk
      · exact kw_callF (pc := 41) B dX0_bead_41 (ci := 34) rfl (ct_J15_hasNext x5) q1273 q410 q412 q102 q414 q398 q397 q413 q411 q409 ⟨by decide, by decide, rfl⟩ (As := []) rfl (st := []) rfl (Nat.le_of_ble_eq_true rfl) (by decide) (by decide) kw_qI hk
theorem wm_X0_bead {E : kw_E} (B : kw_ok E cX0_bead RX0 "bead" 7 (some .int) 7 127 []) (a0 : Option Nat) (a1 : Int32) (a2 : Int32) (a3 : Int32) : kw_W E kw_eI 0 [(0, kA a0), (1, kI a1), (2, kI a2), (3, kI a3)] [] (pm_X0_bead a0 a1 a2 a3) := by
  unfold pm_X0_bead
  refine kw_aload_n (pc := 0) B dX0_bead_0 rfl 0 rfl ?_
  refine kw_gR (pc := 1) B dX0_bead_1 fl_X0_17 (fun r1 => ?_)
  refine kw_iload_n (pc := 4) B dX0_bead_4 rfl 1 rfl ?_
  refine kw_callV (pc := 5) B dX0_bead_5 (ci := 1) rfl (ct_X1_isString r1 a1) q1439 q1440 q1441 q74 q1442 ⟨by decide, by decide, rfl⟩ (As := [kI a1]) rfl (st := []) rfl (Nat.le_of_ble_eq_true rfl) (by decide) (by decide) kw_qI (fun i2 => ?_)
  refine kw_if_eq (pc := 8) (tgt := 15) B dX0_bead_8 rfl ?_ ?_
  · refine kw_iconst (pc := 15) B dX0_bead_15 (v := (-1 : Int32)) rfl ?_
    exact kw_iret B dX0_bead_16 rfl
  · refine kw_iload_n (pc := 11) B dX0_bead_11 rfl 2 rfl ?_
    refine kw_if_ge (pc := 12) (tgt := 17) B dX0_bead_12 rfl ?_ ?_
    · refine kw_iconst (pc := 17) B dX0_bead_17 (v := (0 : Int32)) rfl ?_
      refine kw_istore (pc := 18) B dX0_bead_18 (by decide) (L2 := [(4, kI (0 : Int32)), (0, kA a0), (1, kI a1), (2, kI a2), (3, kI a3)]) rfl ?_
      refine kw_aload_n (pc := 20) B dX0_bead_20 rfl 1 rfl ?_
      refine kw_gR (pc := 21) B dX0_bead_21 fl_X0_17 (fun r3 => ?_)
      refine kw_gRN (pc := 24) B dX0_bead_24 fl_X0_217 (fun r4 => ?_)
      refine kw_iload_n (pc := 27) B dX0_bead_27 rfl 2 rfl ?_
      refine kw_callV (pc := 28) B dX0_bead_28 (ci := 30) rfl (ct_J2_get r4 a1) q1820 q503 q504 q77 q505 ⟨by decide, by decide, rfl⟩ (As := [kI a1]) rfl (st := []) rfl (Nat.le_of_ble_eq_true rfl) (by decide) (by decide) kw_qA (fun r5 => ?_)
      refine kw_cast_ok (pc := 31) B dX0_bead_31 q1852 cs_RosaryCarvers_Rosary ?_
      refine kw_callU (pc := 34) B dX0_bead_34 (x0 := ⟨"RosaryCarvers$Rosary", "iterator", "()Ljava/util/Iterator;"⟩) (owner := "RosaryCarvers$Beads") (ci := 7) rfl (ct_X2_iterator r5) q1869 q1870 q1871 q908 q78 q910 rfl ⟨by decide, by decide, rfl⟩ (As := []) rfl (st := []) rfl (Nat.le_of_ble_eq_true rfl) (by decide) (by decide) kw_qA (fun r6 => ?_)
      refine kw_astore (pc := 37) B dX0_bead_37 (by decide) (L2 := [(5, kA r6), (4, kI (0 : Int32)), (0, kA a0), (1, kI a1), (2, kI a2), (3, kI a3)]) rfl ?_
      exact kw_pick [4, 5, 1, 0] rfl (wb_X0_bead_39 B km_fuel a2 a3 (0 : Int32) r6)
    · refine kw_iconst (pc := 15) B dX0_bead_15 (v := (-1 : Int32)) rfl ?_
      exact kw_iret B dX0_bead_16 rfl
theorem ct_X0_bead (a0 : Option Nat) (a1 : Int32) (a2 : Int32) (a3 : Int32) (l : Launch) : kw_Met l yX0_bead (ws_ yX0_bead cX0_bead 7 (some .int)) 7 127 [kA a0, kI a1, kI a2, kI a3] kw_eI (pm_X0_bead a0 a1 a2 a3) := kw_met (plainFor_of_name rfl) (Nat.le_of_ble_eq_true rfl) (fun E B => wm_X0_bead B a0 a1 a2 a3) l

/-! RosaryCarversModel bead (IIZ)I -/

theorem wb_X3_bead_44 {E : kw_E} (B : kw_ok E cX3_bead RX3 "bead" 4 (some .int) 3 43 [])  (s0 : Int32) (s1 : Int32) (s2 : Option Nat) : kw_W E kw_eI 44 [] [kI s0, kI s1, kA s2] (pb_X3_bead_44  s0 s1 s2) := by
  unfold pb_X3_bead_44
  refine kw_iadd (pc := 44) B dX3_bead_44 ?_
  refine kw_iald (pc := 45) B dX3_bead_45 (fun i1 => ?_)
  exact kw_iret B dX3_bead_46 rfl
theorem wm_X3_bead {E : kw_E} (B : kw_ok E cX3_bead RX3 "bead" 4 (some .int) 3 43 []) (a0 : Option Nat) (a1 : Int32) (a2 : Int32) (a3 : Int32) : kw_W E kw_eI 0 [(0, kA a0), (1, kI a1), (2, kI a2), (3, kI a3)] [] (pm_X3_bead a0 a1 a2 a3) := by
  unfold pm_X3_bead
  refine kw_aload_n (pc := 0) B dX3_bead_0 rfl 0 rfl ?_
  refine kw_iload_n (pc := 1) B dX3_bead_1 rfl 1 rfl ?_
  refine kw_callV (pc := 2) B dX3_bead_2 (ci := 3) rfl (ct_X3_isString a0 a1) q2531 q2533 qs39 q81 q2534 ⟨by decide, by decide, rfl⟩ (As := [kI a1]) rfl (st := []) rfl (Nat.le_of_ble_eq_true rfl) (by decide) (by decide) kw_qI (fun i1 => ?_)
  refine kw_if_eq (pc := 5) (tgt := 24) B dX3_bead_5 rfl ?_ ?_
  · refine kw_iconst (pc := 24) B dX3_bead_24 (v := (-1 : Int32)) rfl ?_
    exact kw_iret B dX3_bead_25 rfl
  · refine kw_iload_n (pc := 8) B dX3_bead_8 rfl 2 rfl ?_
    refine kw_iconst (pc := 9) B dX3_bead_9 (v := (0 : Int32)) rfl ?_
    refine kw_aload_n (pc := 10) B dX3_bead_10 rfl 0 rfl ?_
    refine kw_iload_n (pc := 11) B dX3_bead_11 rfl 1 rfl ?_
    refine kw_iconst (pc := 12) B dX3_bead_12 (v := (3 : Int32)) rfl ?_
    refine kw_callV (pc := 13) B dX3_bead_13 (ci := 3) rfl (ct_X3_ofString a0 a1 (3 : Int32)) q2543 q2545 qs42 q81 q2546 ⟨by decide, by decide, rfl⟩ (As := [kI a1, kI (3 : Int32)]) rfl (st := [kI (0 : Int32), kI a2]) rfl (Nat.le_of_ble_eq_true rfl) (by decide) (by decide) kw_qI (fun i2 => ?_)
    refine kw_iconst (pc := 16) B dX3_bead_16 (v := (1 : Int32)) rfl ?_
    refine kw_isub (pc := 17) B dX3_bead_17 ?_
    refine kw_callS (pc := 18) B dX3_bead_18 (ct_X3_isIn a2 (0 : Int32) (i2 - (1 : Int32))) q2415 q2416 q81 q2417 ⟨by decide, by decide, rfl⟩ (As := [kI a2, kI (0 : Int32), kI (i2 - (1 : Int32))]) rfl (st := []) rfl (Nat.le_of_ble_eq_true rfl) (by decide) (by decide) kw_qI (fun i3 => ?_)
    refine kw_if_ne (pc := 21) (tgt := 26) B dX3_bead_21 rfl ?_ ?_
    · refine kw_aload_n (pc := 26) B dX3_bead_26 rfl 0 rfl ?_
      refine kw_gR (pc := 27) B dX3_bead_27 fl_X3_9 (fun r4 => ?_)
      refine kw_iload_n (pc := 30) B dX3_bead_30 rfl 1 rfl ?_
      refine kw_iload_n (pc := 31) B dX3_bead_31 rfl 2 rfl ?_
      refine kw_callS (pc := 32) B dX3_bead_32 (ct_X3_beadAt a1 a2) q2567 q2568 q81 q2569 ⟨by decide, by decide, rfl⟩ (As := [kI a1, kI a2]) rfl (st := [kA r4]) rfl (Nat.le_of_ble_eq_true rfl) (by decide) (by decide) kw_qI (fun i5 => ?_)
      refine kw_iload_n (pc := 35) B dX3_bead_35 rfl 3 rfl ?_
      refine kw_if_eq (pc := 36) (tgt := 43) B dX3_bead_36 rfl ?_ ?_
      · refine kw_iconst (pc := 43) B dX3_bead_43 (v := (0 : Int32)) rfl ?_
        exact kw_pick [] rfl (wb_X3_bead_44 B (0 : Int32) i5 r4)
      · refine kw_iconst (pc := 39) B dX3_bead_39 (v := (1 : Int32)) rfl ?_
        refine kw_goto (pc := 40) (tgt := 44) B dX3_bead_40 rfl ?_
        exact kw_pick [] rfl (wb_X3_bead_44 B (1 : Int32) i5 r4)
    · refine kw_iconst (pc := 24) B dX3_bead_24 (v := (-1 : Int32)) rfl ?_
      exact kw_iret B dX3_bead_25 rfl
theorem ct_X3_bead (a0 : Option Nat) (a1 : Int32) (a2 : Int32) (a3 : Int32) (l : Launch) : kw_Met l yX3_bead (ws_ yX3_bead cX3_bead 4 (some .int)) 3 43 [kA a0, kI a1, kI a2, kI a3] kw_eI (pm_X3_bead a0 a1 a2 a3) := kw_met (plainFor_of_name rfl) (Nat.le_of_ble_eq_true rfl) (fun E B => wm_X3_bead B a0 a1 a2 a3) l

/-! RosaryCarvers pilgrimOf (II)I -/
theorem fl_X0_246 : kw_flN RX0 246 "RosaryCarvers$Shop" "RosaryCarvers" [(1, 4)] := (kw_flN_c (C := RX1) (T := TX1) (N := 17) rfl (by decide) in_X1 q222 (Or.inl rfl) kw_flN_nil)
theorem fl_X0_252 : kw_flN RX0 252 "RosaryCarvers$Pilgrim" "RosaryCarvers" [(9, 0)] := (kw_flN_c (C := RX10) (T := TX10) (N := 4) rfl (by decide) in_X10 q838 (Or.inl rfl) kw_flN_nil)
theorem fl_X0_255 : kw_flN RX0 255 "RosaryCarvers$Shop" "RosaryCarvers" [(1, 8)] := (kw_flN_c (C := RX1) (T := TX1) (N := 17) rfl (by decide) in_X1 q230 (Or.inl rfl) kw_flN_nil)
theorem fl_X0_256 : kw_flN RX0 256 "RosaryCarvers$Pilgrim" "RosaryCarvers" [(9, 1)] := (kw_flN_c (C := RX10) (T := TX10) (N := 4) rfl (by decide) in_X10 q841 (Or.inl rfl) kw_flN_nil)
theorem fl_X0_257 : kw_flN RX0 257 "RosaryCarvers$Pilgrim" "RosaryCarvers" [(9, 2)] := (kw_flN_c (C := RX10) (T := TX10) (N := 4) rfl (by decide) in_X10 q844 (Or.inl rfl) kw_flN_nil)
theorem fl_X0_258 : kw_flN RX0 258 "RosaryCarvers$Pilgrim" "RosaryCarvers" [(9, 3)] := (kw_flN_c (C := RX10) (T := TX10) (N := 4) rfl (by decide) in_X10 q847 (Or.inl rfl) kw_flN_nil)
theorem wm_X0_pilgrimOf {E : kw_E} (B : kw_ok E cX0_pilgrimOf RX0 "pilgrimOf" 4 (some .int) 11 215 []) (a0 : Option Nat) (a1 : Int32) (a2 : Int32) : kw_W E kw_eI 0 [(0, kA a0), (1, kI a1), (2, kI a2)] [] (pm_X0_pilgrimOf a0 a1 a2) := by
  unfold pm_X0_pilgrimOf
  refine kw_iload_n (pc := 0) B dX0_pilgrimOf_0 rfl 1 rfl ?_
  refine kw_iconst (pc := 1) B dX0_pilgrimOf_1 (v := (0 : Int32)) rfl ?_
  refine kw_aload_n (pc := 2) B dX0_pilgrimOf_2 rfl 0 rfl ?_
  refine kw_gR (pc := 3) B dX0_pilgrimOf_3 fl_X0_17 (fun r1 => ?_)
  refine kw_gRN (pc := 6) B dX0_pilgrimOf_6 fl_X0_246 (fun r2 => ?_)
  refine kw_callV (pc := 9) B dX0_pilgrimOf_9 (ci := 30) rfl (ct_J2_size r2) q1876 q406 q407 q77 q408 ⟨by decide, by decide, rfl⟩ (As := []) rfl (st := [kI (0 : Int32), kI a1]) rfl (Nat.le_of_ble_eq_true rfl) (by decide) (by decide) kw_qI (fun i3 => ?_)
  refine kw_iconst (pc := 12) B dX0_pilgrimOf_12 (v := (1 : Int32)) rfl ?_
  refine kw_isub (pc := 13) B dX0_pilgrimOf_13 ?_
  refine kw_callS (pc := 14) B dX0_pilgrimOf_14 (ct_X0_in a1 (0 : Int32) (i3 - (1 : Int32))) q339 q340 q73 q341 ⟨by decide, by decide, rfl⟩ (As := [kI a1, kI (0 : Int32), kI (i3 - (1 : Int32))]) rfl (st := []) rfl (Nat.le_of_ble_eq_true rfl) (by decide) (by decide) kw_qI (fun i4 => ?_)
  refine kw_if_ne (pc := 17) (tgt := 22) B dX0_pilgrimOf_17 rfl ?_ ?_
  · refine kw_aload_n (pc := 22) B dX0_pilgrimOf_22 rfl 0 rfl ?_
    refine kw_gR (pc := 23) B dX0_pilgrimOf_23 fl_X0_17 (fun r5 => ?_)
    refine kw_gRN (pc := 26) B dX0_pilgrimOf_26 fl_X0_246 (fun r6 => ?_)
    refine kw_iload_n (pc := 29) B dX0_pilgrimOf_29 rfl 1 rfl ?_
    refine kw_callV (pc := 30) B dX0_pilgrimOf_30 (ci := 30) rfl (ct_J2_get r6 a1) q1820 q503 q504 q77 q505 ⟨by decide, by decide, rfl⟩ (As := [kI a1]) rfl (st := []) rfl (Nat.le_of_ble_eq_true rfl) (by decide) (by decide) kw_qA (fun r7 => ?_)
    refine kw_cast_ok (pc := 33) B dX0_pilgrimOf_33 q1877 cs_RosaryCarvers_Pilgrim ?_
    refine kw_astore_n (pc := 36) B dX0_pilgrimOf_36 rfl (by decide) (L2 := [(3, kA r7), (0, kA a0), (1, kI a1), (2, kI a2)]) rfl ?_
    refine kw_iload_n (pc := 37) B dX0_pilgrimOf_37 rfl 3 rfl ?_
    refine kw_tsw (pc := 38) (tgt := 109) B dX0_pilgrimOf_38 rfl rfl ⟨⟨72, rfl, ?_⟩, ⟨85, rfl, ?_⟩, ⟨90, rfl, ?_⟩, ⟨95, rfl, ?_⟩, ⟨100, rfl, ?_⟩, trivial⟩ ?_
    · refine kw_aload_n (pc := 72) B dX0_pilgrimOf_72 rfl 0 rfl ?_
      refine kw_gIN (pc := 73) B dX0_pilgrimOf_73 fl_X0_252 (fun i8 => ?_)
      refine kw_aload_n (pc := 76) B dX0_pilgrimOf_76 rfl 1 rfl ?_
      refine kw_gR (pc := 77) B dX0_pilgrimOf_77 fl_X0_17 (fun r9 => ?_)
      refine kw_gIN (pc := 80) B dX0_pilgrimOf_80 fl_X0_255 (fun i10 => ?_)
      refine kw_isub (pc := 83) B dX0_pilgrimOf_83 ?_
      exact kw_iret B dX0_pilgrimOf_84 rfl
    · refine kw_aload_n (pc := 85) B dX0_pilgrimOf_85 rfl 0 rfl ?_
      refine kw_gIN (pc := 86) B dX0_pilgrimOf_86 fl_X0_256 (fun i11 => ?_)
      exact kw_iret B dX0_pilgrimOf_89 rfl
    · refine kw_aload_n (pc := 90) B dX0_pilgrimOf_90 rfl 0 rfl ?_
      refine kw_gIN (pc := 91) B dX0_pilgrimOf_91 fl_X0_257 (fun i12 => ?_)
      exact kw_iret B dX0_pilgrimOf_94 rfl
    · refine kw_aload_n (pc := 95) B dX0_pilgrimOf_95 rfl 0 rfl ?_
      refine kw_gIN (pc := 96) B dX0_pilgrimOf_96 fl_X0_258 (fun i13 => ?_)
      exact kw_iret B dX0_pilgrimOf_99 rfl
    · refine kw_aload_n (pc := 100) B dX0_pilgrimOf_100 rfl 1 rfl ?_
      refine kw_gR (pc := 101) B dX0_pilgrimOf_101 fl_X0_17 (fun r14 => ?_)
      refine kw_aload_n (pc := 104) B dX0_pilgrimOf_104 rfl 0 rfl ?_
      refine kw_callV (pc := 105) B dX0_pilgrimOf_105 (ci := 1) rfl (ct_X1_wanted r14 r7) q1878 q1255 q1256 q74 q1257 ⟨by decide, by decide, rfl⟩ (As := [kA r7]) rfl (st := []) rfl (Nat.le_of_ble_eq_true rfl) (by decide) (by decide) kw_qI (fun i15 => ?_)
      exact kw_iret B dX0_pilgrimOf_108 rfl
    · refine kw_bipush (pc := 109) B dX0_pilgrimOf_109 (v := (-2 : Int32)) rfl ?_
      exact kw_iret B dX0_pilgrimOf_111 rfl
  · refine kw_iconst (pc := 20) B dX0_pilgrimOf_20 (v := (-1 : Int32)) rfl ?_
    exact kw_iret B dX0_pilgrimOf_21 rfl
theorem ct_X0_pilgrimOf (a0 : Option Nat) (a1 : Int32) (a2 : Int32) (l : Launch) : kw_Met l yX0_pilgrimOf (ws_ yX0_pilgrimOf cX0_pilgrimOf 4 (some .int)) 11 215 [kA a0, kI a1, kI a2] kw_eI (pm_X0_pilgrimOf a0 a1 a2) := kw_met (plainFor_of_name rfl) (Nat.le_of_ble_eq_true rfl) (fun E B => wm_X0_pilgrimOf B a0 a1 a2) l

/-! RosaryCarversModel pilgrimOf (II)I -/

theorem wb_X3_pilgrimOf_74 {E : kw_E} (B : kw_ok E cX3_pilgrimOf RX3 "pilgrimOf" 3 (some .int) 6 112 [])  (x0 : Option Nat) (x1 : Int32) (x2 : Int32) : kw_W E kw_eI 74 [(0, kA x0), (1, kI x1), (2, kI x2)] [] (pb_X3_pilgrimOf_74  x0 x1 x2) := by
  unfold pb_X3_pilgrimOf_74
  refine kw_aload_n (pc := 74) B dX3_pilgrimOf_74 rfl 0 rfl ?_
  refine kw_gR (pc := 75) B dX3_pilgrimOf_75 fl_X3_9 (fun r1 => ?_)
  refine kw_iload_n (pc := 78) B dX3_pilgrimOf_78 rfl 1 rfl ?_
  refine kw_iload_n (pc := 79) B dX3_pilgrimOf_79 rfl 2 rfl ?_
  refine kw_callS (pc := 80) B dX3_pilgrimOf_80 (ct_X3_pilgrimAt x1 x2) q2594 q2595 q81 q2596 ⟨by decide, by decide, rfl⟩ (As := [kI x1, kI x2]) rfl (st := [kA r1]) rfl (Nat.le_of_ble_eq_true rfl) (by decide) (by decide) kw_qI (fun i2 => ?_)
  refine kw_iald (pc := 83) B dX3_pilgrimOf_83 (fun i3 => ?_)
  exact kw_iret B dX3_pilgrimOf_84 rfl
theorem wm_X3_pilgrimOf {E : kw_E} (B : kw_ok E cX3_pilgrimOf RX3 "pilgrimOf" 3 (some .int) 6 112 []) (a0 : Option Nat) (a1 : Int32) (a2 : Int32) : kw_W E kw_eI 0 [(0, kA a0), (1, kI a1), (2, kI a2)] [] (pm_X3_pilgrimOf a0 a1 a2) := by
  unfold pm_X3_pilgrimOf
  refine kw_iload_n (pc := 0) B dX3_pilgrimOf_0 rfl 1 rfl ?_
  refine kw_iconst (pc := 1) B dX3_pilgrimOf_1 (v := (0 : Int32)) rfl ?_
  refine kw_aload_n (pc := 2) B dX3_pilgrimOf_2 rfl 0 rfl ?_
  refine kw_gR (pc := 3) B dX3_pilgrimOf_3 fl_X3_9 (fun r1 => ?_)
  refine kw_bipush (pc := 6) B dX3_pilgrimOf_6 (v := (13 : Int32)) rfl ?_
  refine kw_iald (pc := 8) B dX3_pilgrimOf_8 (fun i2 => ?_)
  refine kw_iconst (pc := 9) B dX3_pilgrimOf_9 (v := (1 : Int32)) rfl ?_
  refine kw_isub (pc := 10) B dX3_pilgrimOf_10 ?_
  refine kw_callS (pc := 11) B dX3_pilgrimOf_11 (ct_X3_isIn a1 (0 : Int32) (i2 - (1 : Int32))) q2415 q2416 q81 q2417 ⟨by decide, by decide, rfl⟩ (As := [kI a1, kI (0 : Int32), kI (i2 - (1 : Int32))]) rfl (st := []) rfl (Nat.le_of_ble_eq_true rfl) (by decide) (by decide) kw_qI (fun i3 => ?_)
  refine kw_if_ne (pc := 14) (tgt := 19) B dX3_pilgrimOf_14 rfl ?_ ?_
  · refine kw_iload_n (pc := 19) B dX3_pilgrimOf_19 rfl 2 rfl ?_
    refine kw_tsw (pc := 20) (tgt := 91) B dX3_pilgrimOf_20 rfl rfl ⟨⟨56, rfl, ?_⟩, ⟨74, rfl, ?_⟩, ⟨74, rfl, ?_⟩, ⟨74, rfl, ?_⟩, ⟨85, rfl, ?_⟩, trivial⟩ ?_
    · refine kw_aload_n (pc := 56) B dX3_pilgrimOf_56 rfl 0 rfl ?_
      refine kw_gR (pc := 57) B dX3_pilgrimOf_57 fl_X3_9 (fun r4 => ?_)
      refine kw_iload_n (pc := 60) B dX3_pilgrimOf_60 rfl 1 rfl ?_
      refine kw_iconst (pc := 61) B dX3_pilgrimOf_61 (v := (0 : Int32)) rfl ?_
      refine kw_callS (pc := 62) B dX3_pilgrimOf_62 (ct_X3_pilgrimAt a1 (0 : Int32)) q2594 q2595 q81 q2596 ⟨by decide, by decide, rfl⟩ (As := [kI a1, kI (0 : Int32)]) rfl (st := [kA r4]) rfl (Nat.le_of_ble_eq_true rfl) (by decide) (by decide) kw_qI (fun i5 => ?_)
      refine kw_iald (pc := 65) B dX3_pilgrimOf_65 (fun i6 => ?_)
      refine kw_aload_n (pc := 66) B dX3_pilgrimOf_66 rfl 0 rfl ?_
      refine kw_gR (pc := 67) B dX3_pilgrimOf_67 fl_X3_9 (fun r7 => ?_)
      refine kw_iconst (pc := 70) B dX3_pilgrimOf_70 (v := (0 : Int32)) rfl ?_
      refine kw_iald (pc := 71) B dX3_pilgrimOf_71 (fun i8 => ?_)
      refine kw_isub (pc := 72) B dX3_pilgrimOf_72 ?_
      exact kw_iret B dX3_pilgrimOf_73 rfl
    · exact kw_pick [0, 1, 2] rfl (wb_X3_pilgrimOf_74 B a0 a1 a2)
    · exact kw_pick [0, 1, 2] rfl (wb_X3_pilgrimOf_74 B a0 a1 a2)
    · exact kw_pick [0, 1, 2] rfl (wb_X3_pilgrimOf_74 B a0 a1 a2)
    · refine kw_aload_n (pc := 85) B dX3_pilgrimOf_85 rfl 0 rfl ?_
      refine kw_iload_n (pc := 86) B dX3_pilgrimOf_86 rfl 1 rfl ?_
      refine kw_callV (pc := 87) B dX3_pilgrimOf_87 (ci := 3) rfl (ct_X3_wouldBuy a0 a1) q2631 q2633 qs56 q81 q2634 ⟨by decide, by decide, rfl⟩ (As := [kI a1]) rfl (st := []) rfl (Nat.le_of_ble_eq_true rfl) (by decide) (by decide) kw_qI (fun i9 => ?_)
      exact kw_iret B dX3_pilgrimOf_90 rfl
    · refine kw_bipush (pc := 91) B dX3_pilgrimOf_91 (v := (-2 : Int32)) rfl ?_
      exact kw_iret B dX3_pilgrimOf_93 rfl
  · refine kw_iconst (pc := 17) B dX3_pilgrimOf_17 (v := (-1 : Int32)) rfl ?_
    exact kw_iret B dX3_pilgrimOf_18 rfl
theorem ct_X3_pilgrimOf (a0 : Option Nat) (a1 : Int32) (a2 : Int32) (l : Launch) : kw_Met l yX3_pilgrimOf (ws_ yX3_pilgrimOf cX3_pilgrimOf 3 (some .int)) 6 112 [kA a0, kI a1, kI a2] kw_eI (pm_X3_pilgrimOf a0 a1 a2) := kw_met (plainFor_of_name rfl) (Nat.le_of_ble_eq_true rfl) (fun E B => wm_X3_pilgrimOf B a0 a1 a2) l
