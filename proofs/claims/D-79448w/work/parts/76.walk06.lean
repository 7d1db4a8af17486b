set_option maxRecDepth 100000
/-! RosaryCarversModel carve (IZI)I -/

theorem wm_X3_carve {E : kw_E} (B : kw_ok E cX3_carve RX3 "carve" 4 (some .int) 5 95 []) (a0 : Option Nat) (a1 : Int32) (a2 : Int32) (a3 : Int32) : kw_W E kw_eI 0 [(0, kA a0), (1, kI a1), (2, kI a2), (3, kI a3)] [] (pm_X3_carve a0 a1 a2 a3) := by
  unfold pm_X3_carve
  refine kw_aload_n (pc := 0) B dX3_carve_0 rfl 0 rfl ?_
  refine kw_callV (pc := 1) B dX3_carve_1 (ci := 3) rfl (ct_X3_keeps a0) q2418 q2420 qs25 q81 q2421 ⟨by decide, by decide, rfl⟩ (As := []) rfl (st := []) rfl (Nat.le_of_ble_eq_true rfl) (by decide) (by decide) kw_qV (fun _ => ?_)
  refine kw_aload_n (pc := 4) B dX3_carve_4 rfl 0 rfl ?_
  refine kw_aload_n (pc := 5) B dX3_carve_5 rfl 0 rfl ?_
  refine kw_iload_n (pc := 6) B dX3_carve_6 rfl 1 rfl ?_
  refine kw_iload_n (pc := 7) B dX3_carve_7 rfl 2 rfl ?_
  refine kw_iload_n (pc := 8) B dX3_carve_8 rfl 3 rfl ?_
  refine kw_callV (pc := 9) B dX3_carve_9 (ci := 3) rfl (ct_X3_carves a0 a1 a2 a3) q2477 q2479 qs32 q81 q2480 ⟨by decide, by decide, rfl⟩ (As := [kI a1, kI a2, kI a3]) rfl (st := [kA a0]) rfl (Nat.le_of_ble_eq_true rfl) (by decide) (by decide) kw_qI (fun i1 => ?_)
  refine kw_callV (pc := 12) B dX3_carve_12 (ci := 3) rfl (ct_X3_ends a0 i1) q2428 q2430 qs26 q81 q2431 ⟨by decide, by decide, rfl⟩ (As := [kI i1]) rfl (st := []) rfl (Nat.le_of_ble_eq_true rfl) (by decide) (by decide) kw_qI (fun i2 => ?_)
  exact kw_iret B dX3_carve_15 rfl
theorem ct_X3_carve (a0 : Option Nat) (a1 : Int32) (a2 : Int32) (a3 : Int32) (l : Launch) : kw_Met l yX3_carve (ws_ yX3_carve cX3_carve 4 (some .int)) 5 95 [kA a0, kI a1, kI a2, kI a3] kw_eI (pm_X3_carve a0 a1 a2 a3) := kw_met (plainFor_of_name rfl) (Nat.le_of_ble_eq_true rfl) (fun E B => wm_X3_carve B a0 a1 a2 a3) l

/-! RosaryCarvers$6 <init> (LRosaryCarvers;II)V -/
theorem fl_X21_1 : kw_fl RX21 1 "RosaryCarvers$6" [(19, 3)] := (kw_fl_c (C := RX21) (T := TX21) (N := 4) rfl (by decide) in_X21 q1672 (Or.inl rfl) kw_fl_nil)
theorem fp_X21_1 : kw_fp RX21 (.object "RosaryCarvers") true [(19, 3)] := (kw_fp_d (C := RX21) (T := TX21) (N := 4) (ty0 := tyX21) rfl tyX21_ok (by unfold kw_ap; decide) rfl rfl (by decide) rfl kw_fp_nil)
theorem fp_X21_7 : kw_fp RX21 .int true [(19, 1)] := (kw_fp_d (C := RX21) (T := TX21) (N := 4) (ty0 := tyX21) rfl tyX21_ok (by unfold kw_ap; decide) rfl rfl (by decide) rfl kw_fp_nil)
theorem fp_X21_11 : kw_fp RX21 .int true [(19, 2)] := (kw_fp_d (C := RX21) (T := TX21) (N := 4) (ty0 := tyX21) rfl tyX21_ok (by unfold kw_ap; decide) rfl rfl (by decide) rfl kw_fp_nil)
theorem wm_X21_init {E : kw_E} (B : kw_ok E cX21_init RX21 "<init>" 4 none 2 45 []) (a0 : Option Nat) (a1 : Option Nat) (a2 : Int32) (a3 : Int32) : kw_W E kw_eV 0 [(0, kA a0), (1, kA a1), (2, kI a2), (3, kI a3)] [] (pm_X21_init a0 a1 a2 a3) := by
  unfold pm_X21_init
  refine kw_aload_n (pc := 0) B dX21_init_0 rfl 0 rfl ?_
  refine kw_aload_n (pc := 1) B dX21_init_1 rfl 1 rfl ?_
  refine kw_pR (pc := 2) B dX21_init_2 fl_X21_1 fp_X21_1 (fun _ => rfl) rfl ?_
  refine kw_aload_n (pc := 5) B dX21_init_5 rfl 0 rfl ?_
  refine kw_iload_n (pc := 6) B dX21_init_6 rfl 2 rfl ?_
  refine kw_pI (pc := 7) B dX21_init_7 fl_X21_7 fp_X21_7 (fun _ => rfl) ?_
  refine kw_aload_n (pc := 10) B dX21_init_10 rfl 0 rfl ?_
  refine kw_iload_n (pc := 11) B dX21_init_11 rfl 3 rfl ?_
  refine kw_pI (pc := 12) B dX21_init_12 fl_X21_11 fp_X21_11 (fun _ => rfl) ?_
  refine kw_aload_n (pc := 15) B dX21_init_15 rfl 0 rfl ?_
  refine kw_aload_n (pc := 16) B dX21_init_16 rfl 1 rfl ?_
  refine kw_callIN (pc := 17) B dX21_init_17 (ct_X4_init a0 a1) q1669 q348 q82 q349 rfl ⟨by decide, by decide, rfl⟩ (As := [kA a1]) rfl (st := []) rfl (Nat.le_of_ble_eq_true rfl) (by decide) (by decide) kw_qV (fun _ => ?_)
  exact kw_vret B dX21_init_20 rfl
theorem ct_X21_init (a0 : Option Nat) (a1 : Option Nat) (a2 : Int32) (a3 : Int32) (l : Launch) : kw_Met l yX21_init (ws_ yX21_init cX21_init 4 none) 2 45 [kA a0, kA a1, kI a2, kI a3] kw_eV (pm_X21_init a0 a1 a2 a3) := kw_met (plainFor_of_name rfl) (Nat.le_of_ble_eq_true rfl) (fun E B => wm_X21_init B a0 a1 a2 a3) l

/-! RosaryCarvers begin (II)I -/

theorem wm_X0_begin {E : kw_E} (B : kw_ok E cX0_begin RX0 "begin" 3 (some .int) 18 375 []) (a0 : Option Nat) (a1 : Int32) (a2 : Int32) : kw_W E kw_eI 0 [(0, kA a0), (1, kI a1), (2, kI a2)] [] (pm_X0_begin a0 a1 a2) := by
  unfold pm_X0_begin
  refine kw_iload_n (pc := 0) B dX0_begin_0 rfl 1 rfl ?_
  refine kw_iload_n (pc := 1) B dX0_begin_1 rfl 2 rfl ?_
  refine kw_callS (pc := 2) B dX0_begin_2 (ct_X0_isPattern a1 a2) q1431 q1432 q73 q1433 ⟨by decide, by decide, rfl⟩ (As := [kI a1, kI a2]) rfl (st := []) rfl (Nat.le_of_ble_eq_true rfl) (by decide) (by decide) kw_qI (fun i1 => ?_)
  refine kw_if_ne (pc := 5) (tgt := 11) B dX0_begin_5 rfl ?_ ?_
  · refine kw_new (pc := 11) B dX0_begin_11 (ci := 19) (N := 4) rfl in_X21 tyX21_ok kz_D6_ok q1664 q1665 q116 (fun r2 => ?_)
    refine kw_dup (pc := 14) B dX0_begin_14 rfl ?_
    refine kw_aload_n (pc := 15) B dX0_begin_15 rfl 0 rfl ?_
    refine kw_iload_n (pc := 16) B dX0_begin_16 rfl 1 rfl ?_
    refine kw_iload_n (pc := 17) B dX0_begin_17 rfl 2 rfl ?_
    refine kw_callI (pc := 18) B dX0_begin_18 (ct_X21_init r2 a0 a1 a2) q1666 q1667 q116 q1668 rfl ⟨by decide, by decide, rfl⟩ (As := [kA a0, kI a1, kI a2]) rfl (st := [kA r2]) rfl (Nat.le_of_ble_eq_true rfl) (by decide) (by decide) kw_qV (fun _ => ?_)
    refine kw_callUW (pc := 21) B dX0_begin_21 (x0 := ⟨"RosaryCarvers$6", "done", "()I"⟩) (owner := "RosaryCarvers$Deed") (ci := 19) rfl (ct_X4_done r2) q1681 q1682 q1683 q365 q365 q82 q366 rfl ⟨by decide, by decide, rfl⟩ (As := []) rfl (st := []) rfl (Nat.le_of_ble_eq_true rfl) (by decide) (by decide) kw_qI (fun i3 => ?_)
    exact kw_iret B dX0_begin_24 rfl
  · refine kw_bipush (pc := 8) B dX0_begin_8 (v := (-2 : Int32)) rfl ?_
    exact kw_iret B dX0_begin_10 rfl
theorem ct_X0_begin (a0 : Option Nat) (a1 : Int32) (a2 : Int32) (l : Launch) : kw_Met l yX0_begin (ws_ yX0_begin cX0_begin 3 (some .int)) 18 375 [kA a0, kI a1, kI a2] kw_eI (pm_X0_begin a0 a1 a2) := kw_met (plainFor_of_name rfl) (Nat.le_of_ble_eq_true rfl) (fun E B => wm_X0_begin B a0 a1 a2) l

/-! RosaryCarversModel stringAt (II)I -/

theorem wm_X3_stringAt {E : kw_E} (B : kw_ok E cX3_stringAt RX3 "stringAt" 2 (some .int) 1 0 []) (a0 : Int32) (a1 : Int32) : kw_W E kw_eI 0 [(0, kI a0), (1, kI a1)] [] (pm_X3_stringAt a0 a1) := by
  unfold pm_X3_stringAt
  refine kw_sipush (pc := 0) B dX3_stringAt_0 (v := (764 : Int32)) rfl ?_
  refine kw_bipush (pc := 3) B dX3_stringAt_3 (v := (60 : Int32)) rfl ?_
  refine kw_iload_n (pc := 5) B dX3_stringAt_5 rfl 0 rfl ?_
  refine kw_imul (pc := 6) B dX3_stringAt_6 ?_
  refine kw_iadd (pc := 7) B dX3_stringAt_7 ?_
  refine kw_iload_n (pc := 8) B dX3_stringAt_8 rfl 1 rfl ?_
  refine kw_iadd (pc := 9) B dX3_stringAt_9 ?_
  exact kw_iret B dX3_stringAt_10 rfl
theorem ct_X3_stringAt (a0 : Int32) (a1 : Int32) (l : Launch) : kw_Met l yX3_stringAt (ws_ yX3_stringAt cX3_stringAt 2 (some .int)) 1 0 [kI a0, kI a1] kw_eI (pm_X3_stringAt a0 a1) := kw_met (plainFor_of_name rfl) (Nat.le_of_ble_eq_true rfl) (fun E B => wm_X3_stringAt B a0 a1) l

/-! RosaryCarversModel begins (II)I -/

theorem wm_X3_begins {E : kw_E} (B : kw_ok E cX3_begins RX3 "begins" 4 (some .int) 3 48 []) (a0 : Option Nat) (a1 : Int32) (a2 : Int32) : kw_W E kw_eI 0 [(0, kA a0), (1, kI a1), (2, kI a2)] [] (pm_X3_begins a0 a1 a2) := by
  unfold pm_X3_begins
  refine kw_iload_n (pc := 0) B dX3_begins_0 rfl 1 rfl ?_
  refine kw_iconst (pc := 1) B dX3_begins_1 (v := (1 : Int32)) rfl ?_
  refine kw_iconst (pc := 2) B dX3_begins_2 (v := (4 : Int32)) rfl ?_
  refine kw_callS (pc := 3) B dX3_begins_3 (ct_X3_isIn a1 (1 : Int32) (4 : Int32)) q2415 q2416 q81 q2417 ⟨by decide, by decide, rfl⟩ (As := [kI a1, kI (1 : Int32), kI (4 : Int32)]) rfl (st := []) rfl (Nat.le_of_ble_eq_true rfl) (by decide) (by decide) kw_qI (fun i1 => ?_)
  refine kw_if_eq (pc := 6) (tgt := 19) B dX3_begins_6 rfl ?_ ?_
  · refine kw_bipush (pc := 19) B dX3_begins_19 (v := (-2 : Int32)) rfl ?_
    exact kw_iret B dX3_begins_21 rfl
  · refine kw_iload_n (pc := 9) B dX3_begins_9 rfl 2 rfl ?_
    refine kw_iconst (pc := 10) B dX3_begins_10 (v := (1 : Int32)) rfl ?_
    refine kw_bipush (pc := 11) B dX3_begins_11 (v := (6 : Int32)) rfl ?_
    refine kw_callS (pc := 13) B dX3_begins_13 (ct_X3_isIn a2 (1 : Int32) (6 : Int32)) q2415 q2416 q81 q2417 ⟨by decide, by decide, rfl⟩ (As := [kI a2, kI (1 : Int32), kI (6 : Int32)]) rfl (st := []) rfl (Nat.le_of_ble_eq_true rfl) (by decide) (by decide) kw_qI (fun i2 => ?_)
    refine kw_if_ne (pc := 16) (tgt := 22) B dX3_begins_16 rfl ?_ ?_
    · refine kw_aload_n (pc := 22) B dX3_begins_22 rfl 0 rfl ?_
      refine kw_bipush (pc := 23) B dX3_begins_23 (v := (12 : Int32)) rfl ?_
      refine kw_bipush (pc := 25) B dX3_begins_25 (v := (6 : Int32)) rfl ?_
      refine kw_sipush (pc := 27) B dX3_begins_27 (v := (764 : Int32)) rfl ?_
      refine kw_bipush (pc := 30) B dX3_begins_30 (v := (60 : Int32)) rfl ?_
      refine kw_callV (pc := 32) B dX3_begins_32 (ci := 3) rfl (ct_X3_adds a0 (12 : Int32) (6 : Int32) (764 : Int32) (60 : Int32)) q2443 q2445 qs28 q81 q2446 ⟨by decide, by decide, rfl⟩ (As := [kI (12 : Int32), kI (6 : Int32), kI (764 : Int32), kI (60 : Int32)]) rfl (st := []) rfl (Nat.le_of_ble_eq_true rfl) (by decide) (by decide) kw_qI (fun i3 => ?_)
      refine kw_istore_n (pc := 35) B dX3_begins_35 rfl (by decide) (L2 := [(3, kI i3), (0, kA a0), (1, kI a1), (2, kI a2)]) rfl ?_
      refine kw_iload_n (pc := 36) B dX3_begins_36 rfl 0 rfl ?_
      refine kw_if_lt (pc := 37) (tgt := 62) B dX3_begins_37 rfl ?_ ?_
      · refine kw_iload_n (pc := 62) B dX3_begins_62 rfl 0 rfl ?_
        exact kw_iret B dX3_begins_63 rfl
      · refine kw_aload_n (pc := 40) B dX3_begins_40 rfl 1 rfl ?_
        refine kw_gR (pc := 41) B dX3_begins_41 fl_X3_9 (fun r4 => ?_)
        refine kw_iload_n (pc := 44) B dX3_begins_44 rfl 0 rfl ?_
        refine kw_iconst (pc := 45) B dX3_begins_45 (v := (0 : Int32)) rfl ?_
        refine kw_callS (pc := 46) B dX3_begins_46 (ct_X3_stringAt i3 (0 : Int32)) q2520 q2521 q81 q2522 ⟨by decide, by decide, rfl⟩ (As := [kI i3, kI (0 : Int32)]) rfl (st := [kA r4]) rfl (Nat.le_of_ble_eq_true rfl) (by decide) (by decide) kw_qI (fun i5 => ?_)
        refine kw_iload_n (pc := 49) B dX3_begins_49 rfl 2 rfl ?_
        refine kw_iast (pc := 50) B dX3_begins_50 ?_
        refine kw_aload_n (pc := 51) B dX3_begins_51 rfl 1 rfl ?_
        refine kw_gR (pc := 52) B dX3_begins_52 fl_X3_9 (fun r7 => ?_)
        refine kw_iload_n (pc := 55) B dX3_begins_55 rfl 0 rfl ?_
        refine kw_iconst (pc := 56) B dX3_begins_56 (v := (1 : Int32)) rfl ?_
        refine kw_callS (pc := 57) B dX3_begins_57 (ct_X3_stringAt i3 (1 : Int32)) q2520 q2521 q81 q2522 ⟨by decide, by decide, rfl⟩ (As := [kI i3, kI (1 : Int32)]) rfl (st := [kA r7]) rfl (Nat.le_of_ble_eq_true rfl) (by decide) (by decide) kw_qI (fun i8 => ?_)
        refine kw_iload_n (pc := 60) B dX3_begins_60 rfl 3 rfl ?_
        refine kw_iast (pc := 61) B dX3_begins_61 ?_
        refine kw_iload_n (pc := 62) B dX3_begins_62 rfl 0 rfl ?_
        exact kw_iret B dX3_begins_63 rfl
    · refine kw_bipush (pc := 19) B dX3_begins_19 (v := (-2 : Int32)) rfl ?_
      exact kw_iret B dX3_begins_21 rfl
theorem ct_X3_begins (a0 : Option Nat) (a1 : Int32) (a2 : Int32) (l : Launch) : kw_Met l yX3_begins (ws_ yX3_begins cX3_begins 4 (some .int)) 3 48 [kA a0, kI a1, kI a2] kw_eI (pm_X3_begins a0 a1 a2) := kw_met (plainFor_of_name rfl) (Nat.le_of_ble_eq_true rfl) (fun E B => wm_X3_begins B a0 a1 a2) l

/-! RosaryCarversModel begin (II)I -/

theorem wm_X3_begin {E : kw_E} (B : kw_ok E cX3_begin RX3 "begin" 3 (some .int) 4 71 []) (a0 : Option Nat) (a1 : Int32) (a2 : Int32) : kw_W E kw_eI 0 [(0, kA a0), (1, kI a1), (2, kI a2)] [] (pm_X3_begin a0 a1 a2) := by
  unfold pm_X3_begin
  refine kw_aload_n (pc := 0) B dX3_begin_0 rfl 0 rfl ?_
  refine kw_callV (pc := 1) B dX3_begin_1 (ci := 3) rfl (ct_X3_keeps a0) q2418 q2420 qs25 q81 q2421 ⟨by decide, by decide, rfl⟩ (As := []) rfl (st := []) rfl (Nat.le_of_ble_eq_true rfl) (by decide) (by decide) kw_qV (fun _ => ?_)
  refine kw_aload_n (pc := 4) B dX3_begin_4 rfl 0 rfl ?_
  refine kw_aload_n (pc := 5) B dX3_begin_5 rfl 0 rfl ?_
  refine kw_iload_n (pc := 6) B dX3_begin_6 rfl 1 rfl ?_
  refine kw_iload_n (pc := 7) B dX3_begin_7 rfl 2 rfl ?_
  refine kw_callV (pc := 8) B dX3_begin_8 (ci := 3) rfl (ct_X3_begins a0 a1 a2) q2516 q2518 qs37 q81 q2519 ⟨by decide, by decide, rfl⟩ (As := [kI a1, kI a2]) rfl (st := [kA a0]) rfl (Nat.le_of_ble_eq_true rfl) (by decide) (by decide) kw_qI (fun i1 => ?_)
  refine kw_callV (pc := 11) B dX3_begin_11 (ci := 3) rfl (ct_X3_ends a0 i1) q2428 q2430 qs26 q81 q2431 ⟨by decide, by decide, rfl⟩ (As := [kI i1]) rfl (st := []) rfl (Nat.le_of_ble_eq_true rfl) (by decide) (by decide) kw_qI (fun i2 => ?_)
  exact kw_iret B dX3_begin_14 rfl
theorem ct_X3_begin (a0 : Option Nat) (a1 : Int32) (a2 : Int32) (l : Launch) : kw_Met l yX3_begin (ws_ yX3_begin cX3_begin 3 (some .int)) 4 71 [kA a0, kI a1, kI a2] kw_eI (pm_X3_begin a0 a1 a2) := kw_met (plainFor_of_name rfl) (Nat.le_of_ble_eq_true rfl) (fun E B => wm_X3_begin B a0 a1 a2) l

/-! RosaryCarvers$7 <init> (LRosaryCarvers;I)V -/
theorem fl_X22_1 : kw_fl RX22 1 "RosaryCarvers$7" [(20, 2)] := (kw_fl_c (C := RX22) (T := TX22) (N := 3) rfl (by decide) in_X22 q1695 (Or.inl rfl) kw_fl_nil)
theorem fp_X22_1 : kw_fp RX22 (.object "RosaryCarvers") true [(20, 2)] := (kw_fp_d (C := RX22) (T := TX22) (N := 3) (ty0 := tyX22) rfl tyX22_ok (by unfold kw_ap; decide) rfl rfl (by decide) rfl kw_fp_nil)
theorem fp_X22_7 : kw_fp RX22 .int true [(20, 1)] := (kw_fp_d (C := RX22) (T := TX22) (N := 3) (ty0 := tyX22) rfl tyX22_ok (by unfold kw_ap; decide) rfl rfl (by decide) rfl kw_fp_nil)
theorem wm_X22_init {E : kw_E} (B : kw_ok E cX22_init RX22 "<init>" 3 none 2 45 []) (a0 : Option Nat) (a1 : Option Nat) (a2 : Int32) : kw_W E kw_eV 0 [(0, kA a0), (1, kA a1), (2, kI a2)] [] (pm_X22_init a0 a1 a2) := by
  unfold pm_X22_init
  refine kw_aload_n (pc := 0) B dX22_init_0 rfl 0 rfl ?_
  refine kw_aload_n (pc := 1) B dX22_init_1 rfl 1 rfl ?_
  refine kw_pR (pc := 2) B dX22_init_2 fl_X22_1 fp_X22_1 (fun _ => rfl) rfl ?_
  refine kw_aload_n (pc := 5) B dX22_init_5 rfl 0 rfl ?_
  refine kw_iload_n (pc := 6) B dX22_init_6 rfl 2 rfl ?_
  refine kw_pI (pc := 7) B dX22_init_7 fl_X22_7 fp_X22_7 (fun _ => rfl) ?_
  refine kw_aload_n (pc := 10) B dX22_init_10 rfl 0 rfl ?_
  refine kw_aload_n (pc := 11) B dX22_init_11 rfl 1 rfl ?_
  refine kw_callIN (pc := 12) B dX22_init_12 (ct_X4_init a0 a1) q1693 q348 q82 q349 rfl ⟨by decide, by decide, rfl⟩ (As := [kA a1]) rfl (st := []) rfl (Nat.le_of_ble_eq_true rfl) (by decide) (by decide) kw_qV (fun _ => ?_)
  exact kw_vret B dX22_init_15 rfl
theorem ct_X22_init (a0 : Option Nat) (a1 : Option Nat) (a2 : Int32) (l : Launch) : kw_Met l yX22_init (ws_ yX22_init cX22_init 3 none) 2 45 [kA a0, kA a1, kI a2] kw_eV (pm_X22_init a0 a1 a2) := kw_met (plainFor_of_name rfl) (Nat.le_of_ble_eq_true rfl) (fun E B => wm_X22_init B a0 a1 a2) l

/-! RosaryCarvers thread (I)I -/

theorem wm_X0_thread {E : kw_E} (B : kw_ok E cX0_thread RX0 "thread" 2 (some .int) 18 375 []) (a0 : Option Nat) (a1 : Int32) : kw_W E kw_eI 0 [(0, kA a0), (1, kI a1)] [] (pm_X0_thread a0 a1) := by
  unfold pm_X0_thread
  refine kw_aload_n (pc := 0) B dX0_thread_0 rfl 0 rfl ?_
  refine kw_gR (pc := 1) B dX0_thread_1 fl_X0_17 (fun r1 => ?_)
  refine kw_iload_n (pc := 4) B dX0_thread_4 rfl 1 rfl ?_
  refine kw_callV (pc := 5) B dX0_thread_5 (ci := 1) rfl (ct_X1_isString r1 a1) q1439 q1440 q1441 q74 q1442 ⟨by decide, by decide, rfl⟩ (As := [kI a1]) rfl (st := []) rfl (Nat.le_of_ble_eq_true rfl) (by decide) (by decide) kw_qI (fun i2 => ?_)
  refine kw_if_ne (pc := 8) (tgt := 13) B dX0_thread_8 rfl ?_ ?_
  · refine kw_new (pc := 13) B dX0_thread_13 (ci := 20) (N := 3) rfl in_X22 tyX22_ok kz_D7_ok q1688 q1689 q117 (fun r3 => ?_)
    refine kw_dup (pc := 16) B dX0_thread_16 rfl ?_
    refine kw_aload_n (pc := 17) B dX0_thread_17 rfl 0 rfl ?_
    refine kw_iload_n (pc := 18) B dX0_thread_18 rfl 1 rfl ?_
    refine kw_callI (pc := 19) B dX0_thread_19 (ct_X22_init r3 a0 a1) q1690 q1691 q117 q1692 rfl ⟨by decide, by decide, rfl⟩ (As := [kA a0, kI a1]) rfl (st := [kA r3]) rfl (Nat.le_of_ble_eq_true rfl) (by decide) (by decide) kw_qV (fun _ => ?_)
    refine kw_callUW (pc := 22) B dX0_thread_22 (x0 := ⟨"RosaryCarvers$7", "done", "()I"⟩) (owner := "RosaryCarvers$Deed") (ci := 20) rfl (ct_X4_done r3) q1702 q1703 q1704 q365 q365 q82 q366 rfl ⟨by decide, by decide, rfl⟩ (As := []) rfl (st := []) rfl (Nat.le_of_ble_eq_true rfl) (by decide) (by decide) kw_qI (fun i4 => ?_)
    exact kw_iret B dX0_thread_25 rfl
  · refine kw_iconst (pc := 11) B dX0_thread_11 (v := (-1 : Int32)) rfl ?_
    exact kw_iret B dX0_thread_12 rfl
theorem ct_X0_thread (a0 : Option Nat) (a1 : Int32) (l : Launch) : kw_Met l yX0_thread (ws_ yX0_thread cX0_thread 2 (some .int)) 18 375 [kA a0, kI a1] kw_eI (pm_X0_thread a0 a1) := kw_met (plainFor_of_name rfl) (Nat.le_of_ble_eq_true rfl) (fun E B => wm_X0_thread B a0 a1) l

/-! RosaryCarversModel isString (I)Z -/

theorem wm_X3_isString {E : kw_E} (B : kw_ok E cX3_isString RX3 "isString" 2 (some .boolean) 2 22 []) (a0 : Option Nat) (a1 : Int32) : kw_W E kw_eI 0 [(0, kA a0), (1, kI a1)] [] (pm_X3_isString a0 a1) := by
  unfold pm_X3_isString
  refine kw_iload_n (pc := 0) B dX3_isString_0 rfl 1 rfl ?_
  refine kw_iconst (pc := 1) B dX3_isString_1 (v := (0 : Int32)) rfl ?_
  refine kw_aload_n (pc := 2) B dX3_isString_2 rfl 0 rfl ?_
  refine kw_gR (pc := 3) B dX3_isString_3 fl_X3_9 (fun r1 => ?_)
  refine kw_bipush (pc := 6) B dX3_isString_6 (v := (12 : Int32)) rfl ?_
  refine kw_iald (pc := 8) B dX3_isString_8 (fun i2 => ?_)
  refine kw_iconst (pc := 9) B dX3_isString_9 (v := (1 : Int32)) rfl ?_
  refine kw_isub (pc := 10) B dX3_isString_10 ?_
  refine kw_callS (pc := 11) B dX3_isString_11 (ct_X3_isIn a1 (0 : Int32) (i2 - (1 : Int32))) q2415 q2416 q81 q2417 ⟨by decide, by decide, rfl⟩ (As := [kI a1, kI (0 : Int32), kI (i2 - (1 : Int32))]) rfl (st := []) rfl (Nat.le_of_ble_eq_true rfl) (by decide) (by decide) kw_qI (fun i3 => ?_)
  exact kw_zret B dX3_isString_14 (g := fun v => v) (fun _ => rfl)
theorem ct_X3_isString (a0 : Option Nat) (a1 : Int32) (l : Launch) : kw_Met l yX3_isString (ws_ yX3_isString cX3_isString 2 (some .boolean)) 2 22 [kA a0, kI a1] kw_eI (pm_X3_isString a0 a1) := kw_met (plainFor_of_name rfl) (Nat.le_of_ble_eq_true rfl) (fun E B => wm_X3_isString B a0 a1) l

/-! RosaryCarversModel ofString (II)I -/

theorem wm_X3_ofString {E : kw_E} (B : kw_ok E cX3_ofString RX3 "ofString" 3 (some .int) 2 21 []) (a0 : Option Nat) (a1 : Int32) (a2 : Int32) : kw_W E kw_eI 0 [(0, kA a0), (1, kI a1), (2, kI a2)] [] (pm_X3_ofString a0 a1 a2) := by
  unfold pm_X3_ofString
  refine kw_aload_n (pc := 0) B dX3_ofString_0 rfl 0 rfl ?_
  refine kw_gR (pc := 1) B dX3_ofString_1 fl_X3_9 (fun r1 => ?_)
  refine kw_iload_n (pc := 4) B dX3_ofString_4 rfl 1 rfl ?_
  refine kw_iload_n (pc := 5) B dX3_ofString_5 rfl 2 rfl ?_
  refine kw_callS (pc := 6) B dX3_ofString_6 (ct_X3_stringAt a1 a2) q2520 q2521 q81 q2522 ⟨by decide, by decide, rfl⟩ (As := [kI a1, kI a2]) rfl (st := [kA r1]) rfl (Nat.le_of_ble_eq_true rfl) (by decide) (by decide) kw_qI (fun i2 => ?_)
  refine kw_iald (pc := 9) B dX3_ofString_9 (fun i3 => ?_)
  exact kw_iret B dX3_ofString_10 rfl
theorem ct_X3_ofString (a0 : Option Nat) (a1 : Int32) (a2 : Int32) (l : Launch) : kw_Met l yX3_ofString (ws_ yX3_ofString cX3_ofString 3 (some .int)) 2 21 [kA a0, kI a1, kI a2] kw_eI (pm_X3_ofString a0 a1 a2) := kw_met (plainFor_of_name rfl) (Nat.le_of_ble_eq_true rfl) (fun E B => wm_X3_ofString B a0 a1 a2) l

/-! RosaryCarversModel isDone (I)Z -/

theorem wm_X3_isDone {E : kw_E} (B : kw_ok E cX3_isDone RX3 "isDone" 2 (some .boolean) 3 43 []) (a0 : Option Nat) (a1 : Int32) : kw_W E kw_eI 0 [(0, kA a0), (1, kI a1)] [] (pm_X3_isDone a0 a1) := by
  unfold pm_X3_isDone
  refine kw_aload_n (pc := 0) B dX3_isDone_0 rfl 0 rfl ?_
  refine kw_iload_n (pc := 1) B dX3_isDone_1 rfl 1 rfl ?_
  refine kw_iconst (pc := 2) B dX3_isDone_2 (v := (2 : Int32)) rfl ?_
  refine kw_callV (pc := 3) B dX3_isDone_3 (ci := 3) rfl (ct_X3_ofString a0 a1 (2 : Int32)) q2543 q2545 qs42 q81 q2546 ⟨by decide, by decide, rfl⟩ (As := [kI a1, kI (2 : Int32)]) rfl (st := []) rfl (Nat.le_of_ble_eq_true rfl) (by decide) (by decide) kw_qI (fun i1 => ?_)
  refine kw_aload_n (pc := 6) B dX3_isDone_6 rfl 0 rfl ?_
  refine kw_iload_n (pc := 7) B dX3_isDone_7 rfl 1 rfl ?_
  refine kw_iconst (pc := 8) B dX3_isDone_8 (v := (0 : Int32)) rfl ?_
  refine kw_callV (pc := 9) B dX3_isDone_9 (ci := 3) rfl (ct_X3_ofString a0 a1 (0 : Int32)) q2543 q2545 qs42 q81 q2546 ⟨by decide, by decide, rfl⟩ (As := [kI a1, kI (0 : Int32)]) rfl (st := [kI i1]) rfl (Nat.le_of_ble_eq_true rfl) (by decide) (by decide) kw_qI (fun i2 => ?_)
  refine kw_icmp_ne (pc := 12) (tgt := 19) B dX3_isDone_12 rfl ?_ ?_
  · refine kw_iconst (pc := 19) B dX3_isDone_19 (v := (0 : Int32)) rfl ?_
    exact kw_zret B dX3_isDone_20 (g := fun v => v) (fun _ => rfl)
  · refine kw_iconst (pc := 15) B dX3_isDone_15 (v := (1 : Int32)) rfl ?_
    refine kw_goto (pc := 16) (tgt := 20) B dX3_isDone_16 rfl ?_
    exact kw_zret B dX3_isDone_20 (g := fun v => v) (fun _ => rfl)
theorem ct_X3_isDone (a0 : Option Nat) (a1 : Int32) (l : Launch) : kw_Met l yX3_isDone (ws_ yX3_isDone cX3_isDone 2 (some .boolean)) 3 43 [kA a0, kI a1] kw_eI (pm_X3_isDone a0 a1) := kw_met (plainFor_of_name rfl) (Nat.le_of_ble_eq_true rfl) (fun E B => wm_X3_isDone B a0 a1) l

/-! RosaryCarversModel knotted (I)I -/

theorem wm_X3_knotted {E : kw_E} (B : kw_ok E cX3_knotted RX3 "knotted" 2 (some .int) 3 43 []) (a0 : Option Nat) (a1 : Int32) : kw_W E kw_eI 0 [(0, kA a0), (1, kI a1)] [] (pm_X3_knotted a0 a1) := by
  unfold pm_X3_knotted
  refine kw_aload_n (pc := 0) B dX3_knotted_0 rfl 0 rfl ?_
  refine kw_iload_n (pc := 1) B dX3_knotted_1 rfl 1 rfl ?_
  refine kw_iconst (pc := 2) B dX3_knotted_2 (v := (2 : Int32)) rfl ?_
  refine kw_callV (pc := 3) B dX3_knotted_3 (ci := 3) rfl (ct_X3_ofString a0 a1 (2 : Int32)) q2543 q2545 qs42 q81 q2546 ⟨by decide, by decide, rfl⟩ (As := [kI a1, kI (2 : Int32)]) rfl (st := []) rfl (Nat.le_of_ble_eq_true rfl) (by decide) (by decide) kw_qI (fun i1 => ?_)
  refine kw_aload_n (pc := 6) B dX3_knotted_6 rfl 0 rfl ?_
  refine kw_iload_n (pc := 7) B dX3_knotted_7 rfl 1 rfl ?_
  refine kw_iconst (pc := 8) B dX3_knotted_8 (v := (1 : Int32)) rfl ?_
  refine kw_callV (pc := 9) B dX3_knotted_9 (ci := 3) rfl (ct_X3_ofString a0 a1 (1 : Int32)) q2543 q2545 qs42 q81 q2546 ⟨by decide, by decide, rfl⟩ (As := [kI a1, kI (1 : Int32)]) rfl (st := [kI i1]) rfl (Nat.le_of_ble_eq_true rfl) (by decide) (by decide) kw_qI (fun i2 => ?_)
  refine kw_iconst (pc := 12) B dX3_knotted_12 (v := (1 : Int32)) rfl ?_
  refine kw_iadd (pc := 13) B dX3_knotted_13 ?_
  refine kw_imul (pc := 14) B dX3_knotted_14 ?_
  exact kw_iret B dX3_knotted_15 rfl
theorem ct_X3_knotted (a0 : Option Nat) (a1 : Int32) (l : Launch) : kw_Met l yX3_knotted (ws_ yX3_knotted cX3_knotted 2 (some .int)) 3 43 [kA a0, kI a1] kw_eI (pm_X3_knotted a0 a1) := kw_met (plainFor_of_name rfl) (Nat.le_of_ble_eq_true rfl) (fun E B => wm_X3_knotted B a0 a1) l

/-! RosaryCarversModel lacks (I)I -/

theorem wm_X3_lacks {E : kw_E} (B : kw_ok E cX3_lacks RX3 "lacks" 2 (some .int) 4 64 []) (a0 : Option Nat) (a1 : Int32) : kw_W E kw_eI 0 [(0, kA a0), (1, kI a1)] [] (pm_X3_lacks a0 a1) := by
  unfold pm_X3_lacks
  refine kw_aload_n (pc := 0) B dX3_lacks_0 rfl 0 rfl ?_
  refine kw_iload_n (pc := 1) B dX3_lacks_1 rfl 1 rfl ?_
  refine kw_callV (pc := 2) B dX3_lacks_2 (ci := 3) rfl (ct_X3_knotted a0 a1) q2551 q2553 qs44 q81 q2554 ⟨by decide, by decide, rfl⟩ (As := [kI a1]) rfl (st := []) rfl (Nat.le_of_ble_eq_true rfl) (by decide) (by decide) kw_qI (fun i1 => ?_)
  refine kw_aload_n (pc := 5) B dX3_lacks_5 rfl 0 rfl ?_
  refine kw_iload_n (pc := 6) B dX3_lacks_6 rfl 1 rfl ?_
  refine kw_iconst (pc := 7) B dX3_lacks_7 (v := (1 : Int32)) rfl ?_
  refine kw_callV (pc := 8) B dX3_lacks_8 (ci := 3) rfl (ct_X3_ofString a0 a1 (1 : Int32)) q2543 q2545 qs42 q81 q2546 ⟨by decide, by decide, rfl⟩ (As := [kI a1, kI (1 : Int32)]) rfl (st := [kI i1]) rfl (Nat.le_of_ble_eq_true rfl) (by decide) (by decide) kw_qI (fun i2 => ?_)
  refine kw_iadd (pc := 11) B dX3_lacks_11 ?_
  refine kw_iconst (pc := 12) B dX3_lacks_12 (v := (1 : Int32)) rfl ?_
  refine kw_iadd (pc := 13) B dX3_lacks_13 ?_
  refine kw_aload_n (pc := 14) B dX3_lacks_14 rfl 0 rfl ?_
  refine kw_iload_n (pc := 15) B dX3_lacks_15 rfl 1 rfl ?_
  refine kw_iconst (pc := 16) B dX3_lacks_16 (v := (3 : Int32)) rfl ?_
  refine kw_callV (pc := 17) B dX3_lacks_17 (ci := 3) rfl (ct_X3_ofString a0 a1 (3 : Int32)) q2543 q2545 qs42 q81 q2546 ⟨by decide, by decide, rfl⟩ (As := [kI a1, kI (3 : Int32)]) rfl (st := [kI ((i1 + i2) + (1 : Int32))]) rfl (Nat.le_of_ble_eq_true rfl) (by decide) (by decide) kw_qI (fun i3 => ?_)
  refine kw_isub (pc := 20) B dX3_lacks_20 ?_
  exact kw_iret B dX3_lacks_21 rfl
theorem ct_X3_lacks (a0 : Option Nat) (a1 : Int32) (l : Launch) : kw_Met l yX3_lacks (ws_ yX3_lacks cX3_lacks 2 (some .int)) 4 64 [kA a0, kI a1] kw_eI (pm_X3_lacks a0 a1) := kw_met (plainFor_of_name rfl) (Nat.le_of_ble_eq_true rfl) (fun E B => wm_X3_lacks B a0 a1) l

/-! RosaryCarversModel isLargeAt (II)Z -/

theorem wm_X3_isLargeAt {E : kw_E} (B : kw_ok E cX3_isLargeAt RX3 "isLargeAt" 3 (some .boolean) 3 43 []) (a0 : Option Nat) (a1 : Int32) (a2 : Int32) : kw_W E kw_eI 0 [(0, kA a0), (1, kI a1), (2, kI a2)] [] (pm_X3_isLargeAt a0 a1 a2) := by
  unfold pm_X3_isLargeAt
  refine kw_iload_n (pc := 0) B dX3_isLargeAt_0 rfl 2 rfl ?_
  refine kw_aload_n (pc := 1) B dX3_isLargeAt_1 rfl 0 rfl ?_
  refine kw_iload_n (pc := 2) B dX3_isLargeAt_2 rfl 1 rfl ?_
  refine kw_iconst (pc := 3) B dX3_isLargeAt_3 (v := (1 : Int32)) rfl ?_
  refine kw_callV (pc := 4) B dX3_isLargeAt_4 (ci := 3) rfl (ct_X3_ofString a0 a1 (1 : Int32)) q2543 q2545 qs42 q81 q2546 ⟨by decide, by decide, rfl⟩ (As := [kI a1, kI (1 : Int32)]) rfl (st := [kI a2]) rfl (Nat.le_of_ble_eq_true rfl) (by decide) (by decide) kw_qI (fun i1 => ?_)
  refine kw_iconst (pc := 7) B dX3_isLargeAt_7 (v := (1 : Int32)) rfl ?_
  refine kw_iadd (pc := 8) B dX3_isLargeAt_8 ?_
  refine kw_irem (pc := 9) B dX3_isLargeAt_9 (fun i2 => ?_)
  refine kw_if_ne (pc := 10) (tgt := 17) B dX3_isLargeAt_10 rfl ?_ ?_
  · refine kw_iconst (pc := 17) B dX3_isLargeAt_17 (v := (0 : Int32)) rfl ?_
    exact kw_zret B dX3_isLargeAt_18 (g := fun v => v) (fun _ => rfl)
  · refine kw_iconst (pc := 13) B dX3_isLargeAt_13 (v := (1 : Int32)) rfl ?_
    refine kw_goto (pc := 14) (tgt := 18) B dX3_isLargeAt_14 rfl ?_
    exact kw_zret B dX3_isLargeAt_18 (g := fun v => v) (fun _ => rfl)
theorem ct_X3_isLargeAt (a0 : Option Nat) (a1 : Int32) (a2 : Int32) (l : Launch) : kw_Met l yX3_isLargeAt (ws_ yX3_isLargeAt cX3_isLargeAt 3 (some .boolean)) 3 43 [kA a0, kI a1, kI a2] kw_eI (pm_X3_isLargeAt a0 a1 a2) := kw_met (plainFor_of_name rfl) (Nat.le_of_ble_eq_true rfl) (fun E B => wm_X3_isLargeAt B a0 a1 a2) l

/-! RosaryCarversModel wants (I)I -/

theorem wm_X3_wants {E : kw_E} (B : kw_ok E cX3_wants RX3 "wants" 2 (some .int) 5 85 []) (a0 : Option Nat) (a1 : Int32) : kw_W E kw_eI 0 [(0, kA a0), (1, kI a1)] [] (pm_X3_wants a0 a1) := by
  unfold pm_X3_wants
  refine kw_aload_n (pc := 0) B dX3_wants_0 rfl 0 rfl ?_
  refine kw_iload_n (pc := 1) B dX3_wants_1 rfl 1 rfl ?_
  refine kw_callV (pc := 2) B dX3_wants_2 (ci := 3) rfl (ct_X3_isDone a0 a1) q2539 q2541 qs41 q81 q2542 ⟨by decide, by decide, rfl⟩ (As := [kI a1]) rfl (st := []) rfl (Nat.le_of_ble_eq_true rfl) (by decide) (by decide) kw_qI (fun i1 => ?_)
  refine kw_if_eq (pc := 5) (tgt := 12) B dX3_wants_5 rfl ?_ ?_
  · refine kw_aload_n (pc := 12) B dX3_wants_12 rfl 0 rfl ?_
    refine kw_iload_n (pc := 13) B dX3_wants_13 rfl 1 rfl ?_
    refine kw_callV (pc := 14) B dX3_wants_14 (ci := 3) rfl (ct_X3_lacks a0 a1) q2547 q2549 qs43 q81 q2550 ⟨by decide, by decide, rfl⟩ (As := [kI a1]) rfl (st := []) rfl (Nat.le_of_ble_eq_true rfl) (by decide) (by decide) kw_qI (fun i2 => ?_)
    refine kw_if_ne (pc := 17) (tgt := 24) B dX3_wants_17 rfl ?_ ?_
    · refine kw_aload_n (pc := 24) B dX3_wants_24 rfl 0 rfl ?_
      refine kw_iload_n (pc := 25) B dX3_wants_25 rfl 1 rfl ?_
      refine kw_aload_n (pc := 26) B dX3_wants_26 rfl 0 rfl ?_
      refine kw_iload_n (pc := 27) B dX3_wants_27 rfl 1 rfl ?_
      refine kw_iconst (pc := 28) B dX3_wants_28 (v := (3 : Int32)) rfl ?_
      refine kw_callV (pc := 29) B dX3_wants_29 (ci := 3) rfl (ct_X3_ofString a0 a1 (3 : Int32)) q2543 q2545 qs42 q81 q2546 ⟨by decide, by decide, rfl⟩ (As := [kI a1, kI (3 : Int32)]) rfl (st := [kI a1, kA a0]) rfl (Nat.le_of_ble_eq_true rfl) (by decide) (by decide) kw_qI (fun i3 => ?_)
      refine kw_callV (pc := 32) B dX3_wants_32 (ci := 3) rfl (ct_X3_isLargeAt a0 a1 i3) q2555 q2557 qs45 q81 q2558 ⟨by decide, by decide, rfl⟩ (As := [kI a1, kI i3]) rfl (st := []) rfl (Nat.le_of_ble_eq_true rfl) (by decide) (by decide) kw_qI (fun i4 => ?_)
      refine kw_if_eq (pc := 35) (tgt := 42) B dX3_wants_35 rfl ?_ ?_
      · refine kw_iconst (pc := 42) B dX3_wants_42 (v := (0 : Int32)) rfl ?_
        exact kw_iret B dX3_wants_43 rfl
      · refine kw_iconst (pc := 38) B dX3_wants_38 (v := (1 : Int32)) rfl ?_
        refine kw_goto (pc := 39) (tgt := 43) B dX3_wants_39 rfl ?_
        exact kw_iret B dX3_wants_43 rfl
    · refine kw_iconst (pc := 20) B dX3_wants_20 (v := (2 : Int32)) rfl ?_
      refine kw_goto (pc := 21) (tgt := 43) B dX3_wants_21 rfl ?_
      exact kw_iret B dX3_wants_43 rfl
  · refine kw_iconst (pc := 8) B dX3_wants_8 (v := (3 : Int32)) rfl ?_
    refine kw_goto (pc := 9) (tgt := 43) B dX3_wants_9 rfl ?_
    exact kw_iret B dX3_wants_43 rfl
theorem ct_X3_wants (a0 : Option Nat) (a1 : Int32) (l : Launch) : kw_Met l yX3_wants (ws_ yX3_wants cX3_wants 2 (some .int)) 5 85 [kA a0, kI a1] kw_eI (pm_X3_wants a0 a1) := kw_met (plainFor_of_name rfl) (Nat.le_of_ble_eq_true rfl) (fun E B => wm_X3_wants B a0 a1) l

/-! RosaryCarversModel finestPlace (Z)I -/

theorem wb_X3_finestPlace_110 {E : kw_E} (B : kw_ok E cX3_finestPlace RX3 "finestPlace" 5 (some .int) 2 21 []) {k4 : Option Nat → Int32 → Int32 → Int32 → km_M Int32} (h4 : ∀ (y0 : Option Nat) (y1 : Int32) (y2 : Int32) (y3 : Int32), kw_W E kw_eI 4 [(0, kA y0), (1, kI y1), (2, kI y2), (3, kI y3)] [] (k4 y0 y1 y2 y3)) (x0 : Option Nat) (x1 : Int32) (x2 : Int32) (x3 : Int32) : kw_W E kw_eI 110 [(0, kA x0), (1, kI x1), (2, kI x2), (3, kI x3)] [] (pb_X3_finestPlace_110 k4 x0 x1 x2 x3) := by
  unfold pb_X3_finestPlace_110
  refine kw_iinc (pc := 110) B dX3_finestPlace_110 3 rfl (w := x3 + (1 : Int32)) rfl (by decide) (L2 := [(3, kI (x3 + (1 : Int32))), (0, kA x0), (1, kI x1), (2, kI x2)]) rfl ?_
  refine kw_goto (pc := 113) (tgt := 4) B dX3_finestPlace_113 rfl ?_
  exact kw_pick [1, 2, 3, 0] rfl (h4 x0 x1 x2 (x3 + (1 : Int32)))
theorem wb_X3_finestPlace_109 {E : kw_E} (B : kw_ok E cX3_finestPlace RX3 "finestPlace" 5 (some .int) 2 21 []) {k4 : Option Nat → Int32 → Int32 → Int32 → km_M Int32} (h4 : ∀ (y0 : Option Nat) (y1 : Int32) (y2 : Int32) (y3 : Int32), kw_W E kw_eI 4 [(0, kA y0), (1, kI y1), (2, kI y2), (3, kI y3)] [] (k4 y0 y1 y2 y3)) (x0 : Option Nat) (x1 : Int32) (x3 : Int32) (s0 : Int32) : kw_W E kw_eI 109 [(0, kA x0), (1, kI x1), (3, kI x3)] [kI s0] (pb_X3_finestPlace_109 k4 x0 x1 x3 s0) := by
  unfold pb_X3_finestPlace_109
  refine kw_istore_n (pc := 109) B dX3_finestPlace_109 rfl (by decide) (L2 := [(2, kI s0), (0, kA x0), (1, kI x1), (3, kI x3)]) rfl ?_
  exact kw_pick [1, 2, 0, 3] rfl (wb_X3_finestPlace_110 B h4 x0 x1 s0 x3)
theorem wb_X3_finestPlace_108 {E : kw_E} (B : kw_ok E cX3_finestPlace RX3 "finestPlace" 5 (some .int) 2 21 []) {k4 : Option Nat → Int32 → Int32 → Int32 → km_M Int32} (h4 : ∀ (y0 : Option Nat) (y1 : Int32) (y2 : Int32) (y3 : Int32), kw_W E kw_eI 4 [(0, kA y0), (1, kI y1), (2, kI y2), (3, kI y3)] [] (k4 y0 y1 y2 y3)) (x0 : Option Nat) (x1 : Int32) (x2 : Int32) (x3 : Int32) : kw_W E kw_eI 108 [(0, kA x0), (1, kI x1), (2, kI x2), (3, kI x3)] [] (pb_X3_finestPlace_108 k4 x0 x1 x2 x3) := by
  unfold pb_X3_finestPlace_108
  refine kw_iload_n (pc := 108) B dX3_finestPlace_108 rfl 2 rfl ?_
  exact kw_pick [0, 1, 3] rfl (wb_X3_finestPlace_109 B h4 x0 x1 x3 x2)
theorem wb_X3_finestPlace_69 {E : kw_E} (B : kw_ok E cX3_finestPlace RX3 "finestPlace" 5 (some .int) 2 21 []) {k4 : Option Nat → Int32 → Int32 → Int32 → km_M Int32} (h4 : ∀ (y0 : Option Nat) (y1 : Int32) (y2 : Int32) (y3 : Int32), kw_W E kw_eI 4 [(0, kA y0), (1, kI y1), (2, kI y2), (3, kI y3)] [] (k4 y0 y1 y2 y3)) (x0 : Option Nat) (x1 : Int32) (x2 : Int32) (x3 : Int32) (s0 : Int32) : kw_W E kw_eI 69 [(0, kA x0), (1, kI x1), (2, kI x2), (3, kI x3)] [kI s0] (pb_X3_finestPlace_69 k4 x0 x1 x2 x3 s0) := by
  unfold pb_X3_finestPlace_69
  refine kw_istore (pc := 69) B dX3_finestPlace_69 (by decide) (L2 := [(4, kI s0), (0, kA x0), (1, kI x1), (2, kI x2), (3, kI x3)]) rfl ?_
  refine kw_iload (pc := 71) B dX3_finestPlace_71 0 rfl ?_
  refine kw_if_gt (pc := 73) (tgt := 104) B dX3_finestPlace_73 rfl ?_ ?_
  · refine kw_iload_n (pc := 104) B dX3_finestPlace_104 rfl 4 rfl ?_
    refine kw_goto (pc := 105) (tgt := 109) B dX3_finestPlace_105 rfl ?_
    exact kw_pick [1, 2, 4] rfl (wb_X3_finestPlace_109 B h4 x0 x1 x3 x3)
  · refine kw_iload (pc := 76) B dX3_finestPlace_76 0 rfl ?_
    refine kw_if_ne (pc := 78) (tgt := 108) B dX3_finestPlace_78 rfl ?_ ?_
    · exact kw_pick [1, 2, 3, 4] rfl (wb_X3_finestPlace_108 B h4 x0 x1 x2 x3)
    · refine kw_aload_n (pc := 81) B dX3_finestPlace_81 rfl 1 rfl ?_
      refine kw_gR (pc := 82) B dX3_finestPlace_82 fl_X3_9 (fun r1 => ?_)
      refine kw_iload_n (pc := 85) B dX3_finestPlace_85 rfl 4 rfl ?_
      refine kw_iconst (pc := 86) B dX3_finestPlace_86 (v := (0 : Int32)) rfl ?_
      refine kw_callS (pc := 87) B dX3_finestPlace_87 (ct_X3_boxAt x3 (0 : Int32)) q2493 q2494 q81 q2495 ⟨by decide, by decide, rfl⟩ (As := [kI x3, kI (0 : Int32)]) rfl (st := [kA r1]) rfl (Nat.le_of_ble_eq_true rfl) (by decide) (by decide) kw_qI (fun i2 => ?_)
      refine kw_iald (pc := 90) B dX3_finestPlace_90 (fun i3 => ?_)
      refine kw_aload_n (pc := 91) B dX3_finestPlace_91 rfl 1 rfl ?_
      refine kw_gR (pc := 92) B dX3_finestPlace_92 fl_X3_9 (fun r4 => ?_)
      refine kw_iload_n (pc := 95) B dX3_finestPlace_95 rfl 3 rfl ?_
      refine kw_iconst (pc := 96) B dX3_finestPlace_96 (v := (0 : Int32)) rfl ?_
      refine kw_callS (pc := 97) B dX3_finestPlace_97 (ct_X3_boxAt x2 (0 : Int32)) q2493 q2494 q81 q2495 ⟨by decide, by decide, rfl⟩ (As := [kI x2, kI (0 : Int32)]) rfl (st := [kA r4, kI i3]) rfl (Nat.le_of_ble_eq_true rfl) (by decide) (by decide) kw_qI (fun i5 => ?_)
      refine kw_iald (pc := 100) B dX3_finestPlace_100 (fun i6 => ?_)
      refine kw_icmp_ge (pc := 101) (tgt := 108) B dX3_finestPlace_101 rfl ?_ ?_
      · exact kw_pick [1, 2, 3, 4] rfl (wb_X3_finestPlace_108 B h4 x0 x1 x2 x3)
      · refine kw_iload_n (pc := 104) B dX3_finestPlace_104 rfl 4 rfl ?_
        refine kw_goto (pc := 105) (tgt := 109) B dX3_finestPlace_105 rfl ?_
        exact kw_pick [1, 2, 4] rfl (wb_X3_finestPlace_109 B h4 x0 x1 x3 x3)
theorem wb_X3_finestPlace_34 {E : kw_E} (B : kw_ok E cX3_finestPlace RX3 "finestPlace" 5 (some .int) 2 21 []) {k4 : Option Nat → Int32 → Int32 → Int32 → km_M Int32} (h4 : ∀ (y0 : Option Nat) (y1 : Int32) (y2 : Int32) (y3 : Int32), kw_W E kw_eI 4 [(0, kA y0), (1, kI y1), (2, kI y2), (3, kI y3)] [] (k4 y0 y1 y2 y3)) (x0 : Option Nat) (x1 : Int32) (x2 : Int32) (x3 : Int32) (s0 : Int32) (s1 : Int32) : kw_W E kw_eI 34 [(0, kA x0), (1, kI x1), (2, kI x2), (3, kI x3)] [kI s0, kI s1] (pb_X3_finestPlace_34 k4 x0 x1 x2 x3 s0 s1) := by
  unfold pb_X3_finestPlace_34
  refine kw_icmp_eq (pc := 34) (tgt := 40) B dX3_finestPlace_34 rfl ?_ ?_
  · refine kw_iload_n (pc := 40) B dX3_finestPlace_40 rfl 2 rfl ?_
    refine kw_if_ge (pc := 41) (tgt := 48) B dX3_finestPlace_41 rfl ?_ ?_
    · refine kw_aload_n (pc := 48) B dX3_finestPlace_48 rfl 0 rfl ?_
      refine kw_gR (pc := 49) B dX3_finestPlace_49 fl_X3_9 (fun r1 => ?_)
      refine kw_iload_n (pc := 52) B dX3_finestPlace_52 rfl 3 rfl ?_
      refine kw_iconst (pc := 53) B dX3_finestPlace_53 (v := (2 : Int32)) rfl ?_
      refine kw_callS (pc := 54) B dX3_finestPlace_54 (ct_X3_boxAt x3 (2 : Int32)) q2493 q2494 q81 q2495 ⟨by decide, by decide, rfl⟩ (As := [kI x3, kI (2 : Int32)]) rfl (st := [kA r1]) rfl (Nat.le_of_ble_eq_true rfl) (by decide) (by decide) kw_qI (fun i2 => ?_)
      refine kw_iald (pc := 57) B dX3_finestPlace_57 (fun i3 => ?_)
      refine kw_aload_n (pc := 58) B dX3_finestPlace_58 rfl 0 rfl ?_
      refine kw_gR (pc := 59) B dX3_finestPlace_59 fl_X3_9 (fun r4 => ?_)
      refine kw_iload_n (pc := 62) B dX3_finestPlace_62 rfl 2 rfl ?_
      refine kw_iconst (pc := 63) B dX3_finestPlace_63 (v := (2 : Int32)) rfl ?_
      refine kw_callS (pc := 64) B dX3_finestPlace_64 (ct_X3_boxAt x2 (2 : Int32)) q2493 q2494 q81 q2495 ⟨by decide, by decide, rfl⟩ (As := [kI x2, kI (2 : Int32)]) rfl (st := [kA r4, kI i3]) rfl (Nat.le_of_ble_eq_true rfl) (by decide) (by decide) kw_qI (fun i5 => ?_)
      refine kw_iald (pc := 67) B dX3_finestPlace_67 (fun i6 => ?_)
      refine kw_isub (pc := 68) B dX3_finestPlace_68 ?_
      exact kw_pick [0, 1, 2, 3] rfl (wb_X3_finestPlace_69 B h4 x0 x1 x2 x3 (i3 - i6))
    · refine kw_iconst (pc := 44) B dX3_finestPlace_44 (v := (1 : Int32)) rfl ?_
      refine kw_goto (pc := 45) (tgt := 69) B dX3_finestPlace_45 rfl ?_
      exact kw_pick [0, 1, 2, 3] rfl (wb_X3_finestPlace_69 B h4 x0 x1 x2 x3 (1 : Int32))
  · refine kw_goto (pc := 37) (tgt := 110) B dX3_finestPlace_37 rfl ?_
    exact kw_pick [0, 1, 2, 3] rfl (wb_X3_finestPlace_110 B h4 x0 x1 x2 x3)
theorem wb_X3_finestPlace_4 {E : kw_E} (B : kw_ok E cX3_finestPlace RX3 "finestPlace" 5 (some .int) 2 21 [])  : ∀ (n : Nat) (x0 : Option Nat) (x1 : Int32) (x2 : Int32) (x3 : Int32), kw_W E kw_eI 4 [(0, kA x0), (1, kI x1), (2, kI x2), (3, kI x3)] [] (pb_X3_finestPlace_4  n x0 x1 x2 x3) := by
  intro n
  induction n with
  | zero =>
    intro x0 x1 x2 x3
    exact kw_fail_ok
  | succ n ih =>
    intro x0 x1 x2 x3
    show kw_W E kw_eI 4 [(0, kA x0), (1, kI x1), (2, kI x2), (3, kI x3)] [] (
km_bind (km_gR [(3, 0)] x0) fun r1 =>
km_bind (km_ldI 0 r1 (11 : Int32)) fun i2 =>
if i2 ≤ x3 then
(km_pure x2)
else
(km_bind (km_gR [(3, 0)] x0) fun r3 =>
km_bind (pm_X3_boxAt x3 (1 : Int32)) fun i4 =>
km_bind (km_ldI 0 r3 i4) fun i5 =>
if x1 = 0 then
(pb_X3_finestPlace_34 (pb_X3_finestPlace_4 n) x0 x1 x2 x3 (0 : Int32) i5)
else
(pb_X3_finestPlace_34 (pb_X3_finestPlace_4 n) x0 x1 x2 x3 (1 : Int32) i5)))
    refine kw_iload_n (pc := 4) B dX3_finestPlace_4 rfl 3 rfl ?_
    refine kw_aload_n (pc := 5) B dX3_finestPlace_5 rfl 0 rfl ?_
    refine kw_gR (pc := 6) B dX3_finestPlace_6 fl_X3_9 (fun r1 => ?_)
    refine kw_bipush (pc := 9) B dX3_finestPlace_9 (v := (11 : Int32)) rfl ?_
    refine kw_iald (pc := 11) B dX3_finestPlace_11 (fun i2 => ?_)
    refine kw_icmp_ge (pc := 12) (tgt := 116) B dX3_finestPlace_12 rfl ?_ ?_
    · refine kw_iload_n (pc := 116) B dX3_finestPlace_116 rfl 2 rfl ?_
      exact kw_iret B dX3_finestPlace_117 rfl
    · refine kw_aload_n (pc := 15) B dX3_finestPlace_15 rfl 0 rfl ?_
      refine kw_gR (pc := 16) B dX3_finestPlace_16 fl_X3_9 (fun r3 => ?_)
      refine kw_iload_n (pc := 19) B dX3_finestPlace_19 rfl 3 rfl ?_
      refine kw_iconst (pc := 20) B dX3_finestPlace_20 (v := (1 : Int32)) rfl ?_
      refine kw_callS (pc := 21) B dX3_finestPlace_21 (ct_X3_boxAt x3 (1 : Int32)) q2493 q2494 q81 q2495 ⟨by decide, by decide, rfl⟩ (As := [kI x3, kI (1 : Int32)]) rfl (st := [kA r3]) rfl (Nat.le_of_ble_eq_true rfl) (by decide) (by decide) kw_qI (fun i4 => ?_)
      refine kw_iald (pc := 24) B dX3_finestPlace_24 (fun i5 => ?_)
      refine kw_iload_n (pc := 25) B dX3_finestPlace_25 rfl 1 rfl ?_
      refine kw_if_eq (pc := 26) (tgt := 33) B dX3_finestPlace_26 rfl ?_ ?_
      · refine kw_iconst (pc := 33) B dX3_finestPlace_33 (v := (0 : Int32)) rfl ?_
        exact kw_pick [0, 1, 2, 3] rfl (wb_X3_finestPlace_34 B ih x0 x1 x2 x3 (0 : Int32) i5)
      · refine kw_iconst (pc := 29) B dX3_finestPlace_29 (v := (1 : Int32)) rfl ?_
        refine kw_goto (pc := 30) (tgt := 34) B dX3_finestPlace_30 rfl ?_
        exact kw_pick [0, 1, 2, 3] rfl (wb_X3_finestPlace_34 B ih x0 x1 x2 x3 (1 : Int32) i5)
theorem wm_X3_finestPlace {E : kw_E} (B : kw_ok E cX3_finestPlace RX3 "finestPlace" 5 (some .int) 2 21 []) (a0 : Option Nat) (a1 : Int32) : kw_W E kw_eI 0 [(0, kA a0), (1, kI a1)] [] (pm_X3_finestPlace a0 a1) := by
  unfold pm_X3_finestPlace
  refine kw_iconst (pc := 0) B dX3_finestPlace_0 (v := (-1 : Int32)) rfl ?_
  refine kw_istore_n (pc := 1) B dX3_finestPlace_1 rfl (by decide) (L2 := [(2, kI (-1 : Int32)), (0, kA a0), (1, kI a1)]) rfl ?_
  refine kw_iconst (pc := 2) B dX3_finestPlace_2 (v := (0 : Int32)) rfl ?_
  refine kw_istore_n (pc := 3) B dX3_finestPlace_3 rfl (by decide) (L2 := [(3, kI (0 : Int32)), (2, kI (-1 : Int32)), (0, kA a0), (1, kI a1)]) rfl ?_
  exact kw_pick [2, 3, 1, 0] rfl (wb_X3_finestPlace_4 B km_fuel a0 a1 (-1 : Int32) (0 : Int32))
theorem ct_X3_finestPlace (a0 : Option Nat) (a1 : Int32) (l : Launch) : kw_Met l yX3_finestPlace (ws_ yX3_finestPlace cX3_finestPlace 5 (some .int)) 2 21 [kA a0, kI a1] kw_eI (pm_X3_finestPlace a0 a1) := kw_met (plainFor_of_name rfl) (Nat.le_of_ble_eq_true rfl) (fun E B => wm_X3_finestPlace B a0 a1) l

/-! RosaryCarversModel onOthers (Z)I -/

theorem wb_X3_onOthers_54 {E : kw_E} (B : kw_ok E cX3_onOthers RX3 "onOthers" 5 (some .int) 4 65 []) {k4 : Option Nat → Int32 → Int32 → Int32 → km_M Int32} {k18 : Option Nat → Int32 → Int32 → Int32 → Int32 → km_M Int32} (h4 : ∀ (y0 : Option Nat) (y1 : Int32) (y2 : Int32) (y3 : Int32), kw_W E kw_eI 4 [(0, kA y0), (1, kI y1), (2, kI y2), (3, kI y3)] [] (k4 y0 y1 y2 y3)) (h18 : ∀ (y0 : Option Nat) (y1 : Int32) (y2 : Int32) (y3 : Int32) (y4 : Int32), kw_W E kw_eI 18 [(0, kA y0), (1, kI y1), (2, kI y2), (3, kI y3), (4, kI y4)] [] (k18 y0 y1 y2 y3 y4)) (x0 : Option Nat) (x1 : Int32) (x3 : Int32) (x4 : Int32) (s0 : Int32) (s1 : Int32) : kw_W E kw_eI 54 [(0, kA x0), (1, kI x1), (3, kI x3), (4, kI x4)] [kI s0, kI s1] (pb_X3_onOthers_54 k4 k18 x0 x1 x3 x4 s0 s1) := by
  unfold pb_X3_onOthers_54
  refine kw_iadd (pc := 54) B dX3_onOthers_54 ?_
  refine kw_istore_n (pc := 55) B dX3_onOthers_55 rfl (by decide) (L2 := [(2, kI (s1 + s0)), (0, kA x0), (1, kI x1), (3, kI x3), (4, kI x4)]) rfl ?_
  refine kw_iinc (pc := 56) B dX3_onOthers_56 4 rfl (w := x4 + (1 : Int32)) rfl (by decide) (L2 := [(4, kI (x4 + (1 : Int32))), (2, kI (s1 + s0)), (0, kA x0), (1, kI x1), (3, kI x3)]) rfl ?_
  refine kw_goto (pc := 59) (tgt := 18) B dX3_onOthers_59 rfl ?_
  exact kw_pick [2, 3, 1, 4, 0] rfl (h18 x0 x1 (s1 + s0) x3 (x4 + (1 : Int32)))
theorem wb_X3_onOthers_62 {E : kw_E} (B : kw_ok E cX3_onOthers RX3 "onOthers" 5 (some .int) 4 65 []) {k4 : Option Nat → Int32 → Int32 → Int32 → km_M Int32} (h4 : ∀ (y0 : Option Nat) (y1 : Int32) (y2 : Int32) (y3 : Int32), kw_W E kw_eI 4 [(0, kA y0), (1, kI y1), (2, kI y2), (3, kI y3)] [] (k4 y0 y1 y2 y3)) (x0 : Option Nat) (x1 : Int32) (x2 : Int32) (x3 : Int32) : kw_W E kw_eI 62 [(0, kA x0), (1, kI x1), (2, kI x2), (3, kI x3)] [] (pb_X3_onOthers_62 k4 x0 x1 x2 x3) := by
  unfold pb_X3_onOthers_62
  refine kw_iinc (pc := 62) B dX3_onOthers_62 3 rfl (w := x3 + (1 : Int32)) rfl (by decide) (L2 := [(3, kI (x3 + (1 : Int32))), (0, kA x0), (1, kI x1), (2, kI x2)]) rfl ?_
  refine kw_goto (pc := 65) (tgt := 4) B dX3_onOthers_65 rfl ?_
  exact kw_pick [1, 2, 3, 0] rfl (h4 x0 x1 x2 (x3 + (1 : Int32)))
theorem wb_X3_onOthers_18 {E : kw_E} (B : kw_ok E cX3_onOthers RX3 "onOthers" 5 (some .int) 4 65 []) {k4 : Option Nat → Int32 → Int32 → Int32 → km_M Int32} (h4 : ∀ (y0 : Option Nat) (y1 : Int32) (y2 : Int32) (y3 : Int32), kw_W E kw_eI 4 [(0, kA y0), (1, kI y1), (2, kI y2), (3, kI y3)] [] (k4 y0 y1 y2 y3)) : ∀ (n : Nat) (x0 : Option Nat) (x1 : Int32) (x2 : Int32) (x3 : Int32) (x4 : Int32), kw_W E kw_eI 18 [(0, kA x0), (1, kI x1), (2, kI x2), (3, kI x3), (4, kI x4)] [] (pb_X3_onOthers_18 k4 n x0 x1 x2 x3 x4) := by
  intro n
  induction n with
  | zero =>
    intro x0 x1 x2 x3 x4
    exact kw_fail_ok
  | succ n ih =>
    intro x0 x1 x2 x3 x4
    show kw_W E kw_eI 18 [(0, kA x0), (1, kI x1), (2, kI x2), (3, kI x3), (4, kI x4)] [] (
km_bind (km_is 3 x0) fun _ => km_bind (pm_X3_ofString x0 x3 (3 : Int32)) fun i1 =>
if i1 ≤ x4 then
(pb_X3_onOthers_62 k4 x0 x1 x2 x3)
else
(km_bind (km_is 3 x0) fun _ => km_bind (pm_X3_isDone x0 x3) fun i2 =>
if ¬ i2 = 0 then
(pb_X3_onOthers_62 k4 x0 x1 x2 x3)
else
(km_bind (km_is 3 x0) fun _ => km_bind (pm_X3_isLargeAt x0 x3 x4) fun i3 =>
if ¬ i3 = x1 then
(pb_X3_onOthers_54 k4 (pb_X3_onOthers_18 k4 n) x0 x1 x3 x4 (0 : Int32) x2)
else
(pb_X3_onOthers_54 k4 (pb_X3_onOthers_18 k4 n) x0 x1 x3 x4 (1 : Int32) x2))))
    refine kw_iload (pc := 18) B dX3_onOthers_18 4 rfl ?_
    refine kw_aload_n (pc := 20) B dX3_onOthers_20 rfl 0 rfl ?_
    refine kw_iload_n (pc := 21) B dX3_onOthers_21 rfl 3 rfl ?_
    refine kw_iconst (pc := 22) B dX3_onOthers_22 (v := (3 : Int32)) rfl ?_
    refine kw_callV (pc := 23) B dX3_onOthers_23 (ci := 3) rfl (ct_X3_ofString x0 x3 (3 : Int32)) q2543 q2545 qs42 q81 q2546 ⟨by decide, by decide, rfl⟩ (As := [kI x3, kI (3 : Int32)]) rfl (st := [kI x4]) rfl (Nat.le_of_ble_eq_true rfl) (by decide) (by decide) kw_qI (fun i1 => ?_)
    refine kw_icmp_ge (pc := 26) (tgt := 62) B dX3_onOthers_26 rfl ?_ ?_
    · exact kw_pick [0, 1, 2, 3] rfl (wb_X3_onOthers_62 B h4 x0 x1 x2 x3)
    · refine kw_aload_n (pc := 29) B dX3_onOthers_29 rfl 0 rfl ?_
      refine kw_iload_n (pc := 30) B dX3_onOthers_30 rfl 3 rfl ?_
      refine kw_callV (pc := 31) B dX3_onOthers_31 (ci := 3) rfl (ct_X3_isDone x0 x3) q2539 q2541 qs41 q81 q2542 ⟨by decide, by decide, rfl⟩ (As := [kI x3]) rfl (st := []) rfl (Nat.le_of_ble_eq_true rfl) (by decide) (by decide) kw_qI (fun i2 => ?_)
      refine kw_if_ne (pc := 34) (tgt := 62) B dX3_onOthers_34 rfl ?_ ?_
      · exact kw_pick [0, 1, 2, 3] rfl (wb_X3_onOthers_62 B h4 x0 x1 x2 x3)
      · refine kw_iload_n (pc := 37) B dX3_onOthers_37 rfl 2 rfl ?_
        refine kw_aload_n (pc := 38) B dX3_onOthers_38 rfl 0 rfl ?_
        refine kw_iload_n (pc := 39) B dX3_onOthers_39 rfl 3 rfl ?_
        refine kw_iload (pc := 40) B dX3_onOthers_40 4 rfl ?_
        refine kw_callV (pc := 42) B dX3_onOthers_42 (ci := 3) rfl (ct_X3_isLargeAt x0 x3 x4) q2555 q2557 qs45 q81 q2558 ⟨by decide, by decide, rfl⟩ (As := [kI x3, kI x4]) rfl (st := [kI x2]) rfl (Nat.le_of_ble_eq_true rfl) (by decide) (by decide) kw_qI (fun i3 => ?_)
        refine kw_iload_n (pc := 45) B dX3_onOthers_45 rfl 1 rfl ?_
        refine kw_icmp_ne (pc := 46) (tgt := 53) B dX3_onOthers_46 rfl ?_ ?_
        · refine kw_iconst (pc := 53) B dX3_onOthers_53 (v := (0 : Int32)) rfl ?_
          exact kw_pick [0, 1, 3, 4] rfl (wb_X3_onOthers_54 B h4 ih x0 x1 x3 x4 (0 : Int32) x2)
        · refine kw_iconst (pc := 49) B dX3_onOthers_49 (v := (1 : Int32)) rfl ?_
          refine kw_goto (pc := 50) (tgt := 54) B dX3_onOthers_50 rfl ?_
          exact kw_pick [0, 1, 3, 4] rfl (wb_X3_onOthers_54 B h4 ih x0 x1 x3 x4 (1 : Int32) x2)
theorem wb_X3_onOthers_4 {E : kw_E} (B : kw_ok E cX3_onOthers RX3 "onOthers" 5 (some .int) 4 65 [])  : ∀ (n : Nat) (x0 : Option Nat) (x1 : Int32) (x2 : Int32) (x3 : Int32), kw_W E kw_eI 4 [(0, kA x0), (1, kI x1), (2, kI x2), (3, kI x3)] [] (pb_X3_onOthers_4  n x0 x1 x2 x3) := by
  intro n
  induction n with
  | zero =>
    intro x0 x1 x2 x3
    exact kw_fail_ok
  | succ n ih =>
    intro x0 x1 x2 x3
    show kw_W E kw_eI 4 [(0, kA x0), (1, kI x1), (2, kI x2), (3, kI x3)] [] (
km_bind (km_gR [(3, 0)] x0) fun r1 =>
km_bind (km_ldI 0 r1 (12 : Int32)) fun i2 =>
if i2 ≤ x3 then
(km_pure x2)
else
(pb_X3_onOthers_18 (pb_X3_onOthers_4 n) km_fuel x0 x1 x2 x3 (0 : Int32)))
    refine kw_iload_n (pc := 4) B dX3_onOthers_4 rfl 3 rfl ?_
    refine kw_aload_n (pc := 5) B dX3_onOthers_5 rfl 0 rfl ?_
    refine kw_gR (pc := 6) B dX3_onOthers_6 fl_X3_9 (fun r1 => ?_)
    refine kw_bipush (pc := 9) B dX3_onOthers_9 (v := (12 : Int32)) rfl ?_
    refine kw_iald (pc := 11) B dX3_onOthers_11 (fun i2 => ?_)
    refine kw_icmp_ge (pc := 12) (tgt := 68) B dX3_onOthers_12 rfl ?_ ?_
    · refine kw_iload_n (pc := 68) B dX3_onOthers_68 rfl 2 rfl ?_
      exact kw_iret B dX3_onOthers_69 rfl
    · refine kw_iconst (pc := 15) B dX3_onOthers_15 (v := (0 : Int32)) rfl ?_
      refine kw_istore (pc := 16) B dX3_onOthers_16 (by decide) (L2 := [(4, kI (0 : Int32)), (0, kA x0), (1, kI x1), (2, kI x2), (3, kI x3)]) rfl ?_
      exact kw_pick [1, 2, 3, 4, 0] rfl (wb_X3_onOthers_18 B ih km_fuel x0 x1 x2 x3 (0 : Int32))
theorem wm_X3_onOthers {E : kw_E} (B : kw_ok E cX3_onOthers RX3 "onOthers" 5 (some .int) 4 65 []) (a0 : Option Nat) (a1 : Int32) : kw_W E kw_eI 0 [(0, kA a0), (1, kI a1)] [] (pm_X3_onOthers a0 a1) := by
  unfold pm_X3_onOthers
  refine kw_iconst (pc := 0) B dX3_onOthers_0 (v := (0 : Int32)) rfl ?_
  refine kw_istore_n (pc := 1) B dX3_onOthers_1 rfl (by decide) (L2 := [(2, kI (0 : Int32)), (0, kA a0), (1, kI a1)]) rfl ?_
  refine kw_iconst (pc := 2) B dX3_onOthers_2 (v := (0 : Int32)) rfl ?_
  refine kw_istore_n (pc := 3) B dX3_onOthers_3 rfl (by decide) (L2 := [(3, kI (0 : Int32)), (2, kI (0 : Int32)), (0, kA a0), (1, kI a1)]) rfl ?_
  exact kw_pick [2, 3, 1, 0] rfl (wb_X3_onOthers_4 B km_fuel a0 a1 (0 : Int32) (0 : Int32))
theorem ct_X3_onOthers (a0 : Option Nat) (a1 : Int32) (l : Launch) : kw_Met l yX3_onOthers (ws_ yX3_onOthers cX3_onOthers 5 (some .int)) 4 65 [kA a0, kI a1] kw_eI (pm_X3_onOthers a0 a1) := kw_met (plainFor_of_name rfl) (Nat.le_of_ble_eq_true rfl) (fun E B => wm_X3_onOthers B a0 a1) l

/-! RosaryCarversModel refusesBead (Z)I -/

theorem wb_X3_refusesBead_12 {E : kw_E} (B : kw_ok E cX3_refusesBead RX3 "refusesBead" 3 (some .int) 5 89 [])  (x0 : Option Nat) (x1 : Int32) (s0 : Int32) (s1 : Int32) (s2 : Option Nat) : kw_W E kw_eI 12 [(0, kA x0), (1, kI x1)] [kI s0, kI s1, kA s2] (pb_X3_refusesBead_12  x0 x1 s0 s1 s2) := by
  unfold pb_X3_refusesBead_12
  refine kw_callV (pc := 12) B dX3_refusesBead_12 (ci := 3) rfl (ct_X3_refuses s2 s1 s0) q2447 q2449 qs29 q81 q2450 ⟨by decide, by decide, rfl⟩ (As := [kI s1, kI s0]) rfl (st := []) rfl (Nat.le_of_ble_eq_true rfl) (by decide) (by decide) kw_qI (fun i1 => ?_)
  refine kw_istore_n (pc := 15) B dX3_refusesBead_15 rfl (by decide) (L2 := [(2, kI i1), (0, kA x0), (1, kI x1)]) rfl ?_
  refine kw_aload_n (pc := 16) B dX3_refusesBead_16 rfl 1 rfl ?_
  refine kw_gR (pc := 17) B dX3_refusesBead_17 fl_X3_22 (fun r2 => ?_)
  refine kw_iconst (pc := 20) B dX3_refusesBead_20 (v := (1 : Int32)) rfl ?_
  refine kw_bipush (pc := 21) B dX3_refusesBead_21 (v := (10 : Int32)) rfl ?_
  refine kw_iast (pc := 23) B dX3_refusesBead_23 ?_
  refine kw_aload_n (pc := 24) B dX3_refusesBead_24 rfl 1 rfl ?_
  refine kw_gR (pc := 25) B dX3_refusesBead_25 fl_X3_25 (fun r4 => ?_)
  refine kw_iconst (pc := 28) B dX3_refusesBead_28 (v := (1 : Int32)) rfl ?_
  refine kw_aload_n (pc := 29) B dX3_refusesBead_29 rfl 1 rfl ?_
  refine kw_iload_n (pc := 30) B dX3_refusesBead_30 rfl 2 rfl ?_
  refine kw_callV (pc := 31) B dX3_refusesBead_31 (ci := 3) rfl (ct_X3_onOthers x0 x1) q2563 q2565 qs47 q81 q2566 ⟨by decide, by decide, rfl⟩ (As := [kI x1]) rfl (st := [kI (1 : Int32), kA r4]) rfl (Nat.le_of_ble_eq_true rfl) (by decide) (by decide) kw_qI (fun i5 => ?_)
  refine kw_iast (pc := 34) B dX3_refusesBead_34 ?_
  refine kw_iload_n (pc := 35) B dX3_refusesBead_35 rfl 0 rfl ?_
  exact kw_iret B dX3_refusesBead_36 rfl
theorem wm_X3_refusesBead {E : kw_E} (B : kw_ok E cX3_refusesBead RX3 "refusesBead" 3 (some .int) 5 89 []) (a0 : Option Nat) (a1 : Int32) : kw_W E kw_eI 0 [(0, kA a0), (1, kI a1)] [] (pm_X3_refusesBead a0 a1) := by
  unfold pm_X3_refusesBead
  refine kw_aload_n (pc := 0) B dX3_refusesBead_0 rfl 0 rfl ?_
  refine kw_bipush (pc := 1) B dX3_refusesBead_1 (v := (6 : Int32)) rfl ?_
  refine kw_iload_n (pc := 3) B dX3_refusesBead_3 rfl 1 rfl ?_
  refine kw_if_eq (pc := 4) (tgt := 11) B dX3_refusesBead_4 rfl ?_ ?_
  · refine kw_iconst (pc := 11) B dX3_refusesBead_11 (v := (0 : Int32)) rfl ?_
    exact kw_pick [0, 1] rfl (wb_X3_refusesBead_12 B a0 a1 (0 : Int32) (6 : Int32) a0)
  · refine kw_iconst (pc := 7) B dX3_refusesBead_7 (v := (1 : Int32)) rfl ?_
    refine kw_goto (pc := 8) (tgt := 12) B dX3_refusesBead_8 rfl ?_
    exact kw_pick [0, 1] rfl (wb_X3_refusesBead_12 B a0 a1 (1 : Int32) (6 : Int32) a0)
theorem ct_X3_refusesBead (a0 : Option Nat) (a1 : Int32) (l : Launch) : kw_Met l yX3_refusesBead (ws_ yX3_refusesBead cX3_refusesBead 3 (some .int)) 5 89 [kA a0, kI a1] kw_eI (pm_X3_refusesBead a0 a1) := kw_met (plainFor_of_name rfl) (Nat.le_of_ble_eq_true rfl) (fun E B => wm_X3_refusesBead B a0 a1) l

/-! RosaryCarversModel beadAt (II)I -/

theorem wm_X3_beadAt {E : kw_E} (B : kw_ok E cX3_beadAt RX3 "beadAt" 2 (some .int) 2 21 []) (a0 : Int32) (a1 : Int32) : kw_W E kw_eI 0 [(0, kI a0), (1, kI a1)] [] (pm_X3_beadAt a0 a1) := by
  unfold pm_X3_beadAt
  refine kw_iload_n (pc := 0) B dX3_beadAt_0 rfl 0 rfl ?_
  refine kw_iconst (pc := 1) B dX3_beadAt_1 (v := (4 : Int32)) rfl ?_
  refine kw_iconst (pc := 2) B dX3_beadAt_2 (v := (2 : Int32)) rfl ?_
  refine kw_iload_n (pc := 3) B dX3_beadAt_3 rfl 1 rfl ?_
  refine kw_imul (pc := 4) B dX3_beadAt_4 ?_
  refine kw_iadd (pc := 5) B dX3_beadAt_5 ?_
  refine kw_callS (pc := 6) B dX3_beadAt_6 (ct_X3_stringAt a0 ((4 : Int32) + ((2 : Int32) * a1))) q2520 q2521 q81 q2522 ⟨by decide, by decide, rfl⟩ (As := [kI a0, kI ((4 : Int32) + ((2 : Int32) * a1))]) rfl (st := []) rfl (Nat.le_of_ble_eq_true rfl) (by decide) (by decide) kw_qI (fun i1 => ?_)
  exact kw_iret B dX3_beadAt_9 rfl
theorem ct_X3_beadAt (a0 : Int32) (a1 : Int32) (l : Launch) : kw_Met l yX3_beadAt (ws_ yX3_beadAt cX3_beadAt 2 (some .int)) 2 21 [kI a0, kI a1] kw_eI (pm_X3_beadAt a0 a1) := kw_met (plainFor_of_name rfl) (Nat.le_of_ble_eq_true rfl) (fun E B => wm_X3_beadAt B a0 a1) l

/-! RosaryCarversModel goes (IIII)V -/

theorem wb_X3_goes_8 {E : kw_E} (B : kw_ok E cX3_goes RX3 "goes" 6 none 1 0 [])  : ∀ (n : Nat) (x0 : Option Nat) (x1 : Int32) (x2 : Int32) (x3 : Int32) (x5 : Int32), kw_W E kw_eV 8 [(0, kA x0), (1, kI x1), (2, kI x2), (3, kI x3), (5, kI x5)] [] (pb_X3_goes_8  n x0 x1 x2 x3 x5) := by
  intro n
  induction n with
  | zero =>
    intro x0 x1 x2 x3 x5
    exact kw_fail_ok
  | succ n ih =>
    intro x0 x1 x2 x3 x5
    show kw_W E kw_eV 8 [(0, kA x0), (1, kI x1), (2, kI x2), (3, kI x3), (5, kI x5)] [] (
km_bind (km_gR [(3, 0)] x0) fun r1 =>
km_bind (km_ldI 0 r1 x1) fun i2 =>
if (x2 + (x3 * (i2 - (1 : Int32)))) ≤ x5 then
(km_bind (km_gR [(3, 0)] x0) fun r3 =>
km_bind (km_ldI 0 r3 x1) fun i4 =>
km_bind (km_stI 0 r3 x1 (i4 - (1 : Int32))) fun _ =>
km_pure ())
else
(km_bind (km_gR [(3, 0)] x0) fun r6 =>
km_bind (km_gR [(3, 0)] x0) fun r7 =>
km_bind (km_ldI 0 r7 (x5 + x3)) fun i8 =>
km_bind (km_stI 0 r6 x5 i8) fun _ =>
pb_X3_goes_8 n x0 x1 x2 x3 (x5 + (1 : Int32))))
    refine kw_iload (pc := 8) B dX3_goes_8 4 rfl ?_
    refine kw_iload_n (pc := 10) B dX3_goes_10 rfl 2 rfl ?_
    refine kw_iload_n (pc := 11) B dX3_goes_11 rfl 3 rfl ?_
    refine kw_aload_n (pc := 12) B dX3_goes_12 rfl 0 rfl ?_
    refine kw_gR (pc := 13) B dX3_goes_13 fl_X3_9 (fun r1 => ?_)
    refine kw_iload_n (pc := 16) B dX3_goes_16 rfl 1 rfl ?_
    refine kw_iald (pc := 17) B dX3_goes_17 (fun i2 => ?_)
    refine kw_iconst (pc := 18) B dX3_goes_18 (v := (1 : Int32)) rfl ?_
    refine kw_isub (pc := 19) B dX3_goes_19 ?_
    refine kw_imul (pc := 20) B dX3_goes_20 ?_
    refine kw_iadd (pc := 21) B dX3_goes_21 ?_
    refine kw_icmp_ge (pc := 22) (tgt := 47) B dX3_goes_22 rfl ?_ ?_
    · refine kw_aload_n (pc := 47) B dX3_goes_47 rfl 0 rfl ?_
      refine kw_gR (pc := 48) B dX3_goes_48 fl_X3_9 (fun r3 => ?_)
      refine kw_iload_n (pc := 51) B dX3_goes_51 rfl 1 rfl ?_
      refine kw_dup2 (pc := 52) B dX3_goes_52 rfl rfl ?_
      refine kw_iald (pc := 53) B dX3_goes_53 (fun i4 => ?_)
      refine kw_iconst (pc := 54) B dX3_goes_54 (v := (1 : Int32)) rfl ?_
      refine kw_isub (pc := 55) B dX3_goes_55 ?_
      refine kw_iast (pc := 56) B dX3_goes_56 ?_
      exact kw_vret B dX3_goes_57 rfl
    · refine kw_aload_n (pc := 25) B dX3_goes_25 rfl 0 rfl ?_
      refine kw_gR (pc := 26) B dX3_goes_26 fl_X3_9 (fun r6 => ?_)
      refine kw_iload (pc := 29) B dX3_goes_29 4 rfl ?_
      refine kw_aload_n (pc := 31) B dX3_goes_31 rfl 0 rfl ?_
      refine kw_gR (pc := 32) B dX3_goes_32 fl_X3_9 (fun r7 => ?_)
      refine kw_iload (pc := 35) B dX3_goes_35 4 rfl ?_
      refine kw_iload_n (pc := 37) B dX3_goes_37 rfl 3 rfl ?_
      refine kw_iadd (pc := 38) B dX3_goes_38 ?_
      refine kw_iald (pc := 39) B dX3_goes_39 (fun i8 => ?_)
      refine kw_iast (pc := 40) B dX3_goes_40 ?_
      refine kw_iinc (pc := 41) B dX3_goes_41 4 rfl (w := x5 + (1 : Int32)) rfl (by decide) (L2 := [(5, kI (x5 + (1 : Int32))), (0, kA x0), (1, kI x1), (2, kI x2), (3, kI x3)]) rfl ?_
      refine kw_goto (pc := 44) (tgt := 8) B dX3_goes_44 rfl ?_
      exact kw_pick [1, 2, 3, 4, 0] rfl (ih x0 x1 x2 x3 (x5 + (1 : Int32)))
theorem wm_X3_goes {E : kw_E} (B : kw_ok E cX3_goes RX3 "goes" 6 none 1 0 []) (a0 : Option Nat) (a1 : Int32) (a2 : Int32) (a3 : Int32) (a4 : Int32) : kw_W E kw_eV 0 [(0, kA a0), (1, kI a1), (2, kI a2), (3, kI a3), (4, kI a4)] [] (pm_X3_goes a0 a1 a2 a3 a4) := by
  unfold pm_X3_goes
  refine kw_iload_n (pc := 0) B dX3_goes_0 rfl 2 rfl ?_
  refine kw_iload_n (pc := 1) B dX3_goes_1 rfl 3 rfl ?_
  refine kw_iload (pc := 2) B dX3_goes_2 4 rfl ?_
  refine kw_imul (pc := 4) B dX3_goes_4 ?_
  refine kw_iadd (pc := 5) B dX3_goes_5 ?_
  refine kw_istore (pc := 6) B dX3_goes_6 (by decide) (L2 := [(5, kI (a2 + (a3 * a4))), (0, kA a0), (1, kI a1), (2, kI a2), (3, kI a3), (4, kI a4)]) rfl ?_
  exact kw_pick [1, 2, 3, 4, 0] rfl (wb_X3_goes_8 B km_fuel a0 a1 a2 a3 (a2 + (a3 * a4)))
theorem ct_X3_goes (a0 : Option Nat) (a1 : Int32) (a2 : Int32) (a3 : Int32) (a4 : Int32) (l : Launch) : kw_Met l yX3_goes (ws_ yX3_goes cX3_goes 6 none) 1 0 [kA a0, kI a1, kI a2, kI a3, kI a4] kw_eV (pm_X3_goes a0 a1 a2 a3 a4) := kw_met (plainFor_of_name rfl) (Nat.le_of_ble_eq_true rfl) (fun E B => wm_X3_goes B a0 a1 a2 a3 a4) l

/-! RosaryCarversModel threads (I)I -/

theorem wb_X3_threads_75 {E : kw_E} (B : kw_ok E cX3_threads RX3 "threads" 6 (some .int) 6 111 [])  (s0 : Int32) (s1 : Option Nat) : kw_W E kw_eI 75 [] [kI s0, kA s1] (pb_X3_threads_75  s0 s1) := by
  unfold pb_X3_threads_75
  refine kw_callV (pc := 75) B dX3_threads_75 (ci := 3) rfl (ct_X3_refusesBead s1 s0) q2559 q2561 qs46 q81 q2562 ⟨by decide, by decide, rfl⟩ (As := [kI s0]) rfl (st := []) rfl (Nat.le_of_ble_eq_true rfl) (by decide) (by decide) kw_qI (fun i1 => ?_)
  exact kw_iret B dX3_threads_78 rfl
theorem wb_X3_threads_56 {E : kw_E} (B : kw_ok E cX3_threads RX3 "threads" 6 (some .int) 6 111 [])  (x0 : Option Nat) (x1 : Int32) (x2 : Int32) (s0 : Int32) (s1 : Option Nat) : kw_W E kw_eI 56 [(0, kA x0), (1, kI x1), (2, kI x2)] [kI s0, kA s1] (pb_X3_threads_56  x0 x1 x2 s0 s1) := by
  unfold pb_X3_threads_56
  refine kw_callV (pc := 56) B dX3_threads_56 (ci := 3) rfl (ct_X3_finestPlace s1 s0) q2500 q2502 qs36 q81 q2503 ⟨by decide, by decide, rfl⟩ (As := [kI s0]) rfl (st := []) rfl (Nat.le_of_ble_eq_true rfl) (by decide) (by decide) kw_qI (fun i1 => ?_)
  refine kw_istore_n (pc := 59) B dX3_threads_59 rfl (by decide) (L2 := [(3, kI i1), (0, kA x0), (1, kI x1), (2, kI x2)]) rfl ?_
  refine kw_iload_n (pc := 60) B dX3_threads_60 rfl 0 rfl ?_
  refine kw_if_ge (pc := 61) (tgt := 79) B dX3_threads_61 rfl ?_ ?_
  · refine kw_iload_n (pc := 79) B dX3_threads_79 rfl 2 rfl ?_
    refine kw_aload_n (pc := 80) B dX3_threads_80 rfl 1 rfl ?_
    refine kw_iload_n (pc := 81) B dX3_threads_81 rfl 2 rfl ?_
    refine kw_iconst (pc := 82) B dX3_threads_82 (v := (3 : Int32)) rfl ?_
    refine kw_callV (pc := 83) B dX3_threads_83 (ci := 3) rfl (ct_X3_ofString x0 x1 (3 : Int32)) q2543 q2545 qs42 q81 q2546 ⟨by decide, by decide, rfl⟩ (As := [kI x1, kI (3 : Int32)]) rfl (st := [kI x1]) rfl (Nat.le_of_ble_eq_true rfl) (by decide) (by decide) kw_qI (fun i2 => ?_)
    refine kw_callS (pc := 86) B dX3_threads_86 (ct_X3_beadAt x1 i2) q2567 q2568 q81 q2569 ⟨by decide, by decide, rfl⟩ (As := [kI x1, kI i2]) rfl (st := []) rfl (Nat.le_of_ble_eq_true rfl) (by decide) (by decide) kw_qI (fun i3 => ?_)
    refine kw_istore (pc := 89) B dX3_threads_89 (by decide) (L2 := [(4, kI i3), (3, kI i1), (0, kA x0), (1, kI x1), (2, kI x2)]) rfl ?_
    refine kw_aload_n (pc := 91) B dX3_threads_91 rfl 2 rfl ?_
    refine kw_gR (pc := 92) B dX3_threads_92 fl_X3_9 (fun r4 => ?_)
    refine kw_iload_n (pc := 95) B dX3_threads_95 rfl 1 rfl ?_
    refine kw_iconst (pc := 96) B dX3_threads_96 (v := (0 : Int32)) rfl ?_
    refine kw_callS (pc := 97) B dX3_threads_97 (ct_X3_boxAt i1 (0 : Int32)) q2493 q2494 q81 q2495 ⟨by decide, by decide, rfl⟩ (As := [kI i1, kI (0 : Int32)]) rfl (st := [kA r4]) rfl (Nat.le_of_ble_eq_true rfl) (by decide) (by decide) kw_qI (fun i5 => ?_)
    refine kw_iald (pc := 100) B dX3_threads_100 (fun i6 => ?_)
    refine kw_istore (pc := 101) B dX3_threads_101 (by decide) (L2 := [(5, kI i6), (4, kI i3), (3, kI i1), (0, kA x0), (1, kI x1), (2, kI x2)]) rfl ?_
    refine kw_aload_n (pc := 103) B dX3_threads_103 rfl 3 rfl ?_
    refine kw_gR (pc := 104) B dX3_threads_104 fl_X3_9 (fun r7 => ?_)
    refine kw_iload (pc := 107) B dX3_threads_107 1 rfl ?_
    refine kw_iload (pc := 109) B dX3_threads_109 0 rfl ?_
    refine kw_iast (pc := 111) B dX3_threads_111 ?_
    refine kw_aload_n (pc := 112) B dX3_threads_112 rfl 3 rfl ?_
    refine kw_gR (pc := 113) B dX3_threads_113 fl_X3_9 (fun r9 => ?_)
    refine kw_iload (pc := 116) B dX3_threads_116 1 rfl ?_
    refine kw_iconst (pc := 118) B dX3_threads_118 (v := (1 : Int32)) rfl ?_
    refine kw_iadd (pc := 119) B dX3_threads_119 ?_
    refine kw_aload_n (pc := 120) B dX3_threads_120 rfl 3 rfl ?_
    refine kw_gR (pc := 121) B dX3_threads_121 fl_X3_9 (fun r10 => ?_)
    refine kw_iload_n (pc := 124) B dX3_threads_124 rfl 2 rfl ?_
    refine kw_iconst (pc := 125) B dX3_threads_125 (v := (2 : Int32)) rfl ?_
    refine kw_callS (pc := 126) B dX3_threads_126 (ct_X3_boxAt i1 (2 : Int32)) q2493 q2494 q81 q2495 ⟨by decide, by decide, rfl⟩ (As := [kI i1, kI (2 : Int32)]) rfl (st := [kA r10, kI (i3 + (1 : Int32)), kA r9]) rfl (Nat.le_of_ble_eq_true rfl) (by decide) (by decide) kw_qI (fun i11 => ?_)
    refine kw_iald (pc := 129) B dX3_threads_129 (fun i12 => ?_)
    refine kw_iast (pc := 130) B dX3_threads_130 ?_
    refine kw_aload_n (pc := 131) B dX3_threads_131 rfl 3 rfl ?_
    refine kw_gR (pc := 132) B dX3_threads_132 fl_X3_9 (fun r14 => ?_)
    refine kw_iload_n (pc := 135) B dX3_threads_135 rfl 4 rfl ?_
    refine kw_iconst (pc := 136) B dX3_threads_136 (v := (3 : Int32)) rfl ?_
    refine kw_callS (pc := 137) B dX3_threads_137 (ct_X3_stringAt x1 (3 : Int32)) q2520 q2521 q81 q2522 ⟨by decide, by decide, rfl⟩ (As := [kI x1, kI (3 : Int32)]) rfl (st := [kA r14]) rfl (Nat.le_of_ble_eq_true rfl) (by decide) (by decide) kw_qI (fun i15 => ?_)
    refine kw_dup2 (pc := 140) B dX3_threads_140 rfl rfl ?_
    refine kw_iald (pc := 141) B dX3_threads_141 (fun i16 => ?_)
    refine kw_iconst (pc := 142) B dX3_threads_142 (v := (1 : Int32)) rfl ?_
    refine kw_iadd (pc := 143) B dX3_threads_143 ?_
    refine kw_iast (pc := 144) B dX3_threads_144 ?_
    refine kw_aload_n (pc := 145) B dX3_threads_145 rfl 3 rfl ?_
    refine kw_bipush (pc := 146) B dX3_threads_146 (v := (11 : Int32)) rfl ?_
    refine kw_bipush (pc := 148) B dX3_threads_148 (v := (44 : Int32)) rfl ?_
    refine kw_iconst (pc := 150) B dX3_threads_150 (v := (3 : Int32)) rfl ?_
    refine kw_iload_n (pc := 151) B dX3_threads_151 rfl 2 rfl ?_
    refine kw_callV (pc := 152) B dX3_threads_152 (ci := 3) rfl (ct_X3_goes x0 (11 : Int32) (44 : Int32) (3 : Int32) i1) q2570 q2572 qs48 q81 q2573 ⟨by decide, by decide, rfl⟩ (As := [kI (11 : Int32), kI (44 : Int32), kI (3 : Int32), kI i1]) rfl (st := []) rfl (Nat.le_of_ble_eq_true rfl) (by decide) (by decide) kw_qV (fun _ => ?_)
    refine kw_iload (pc := 155) B dX3_threads_155 0 rfl ?_
    exact kw_iret B dX3_threads_157 rfl
  · refine kw_aload_n (pc := 64) B dX3_threads_64 rfl 1 rfl ?_
    refine kw_iload_n (pc := 65) B dX3_threads_65 rfl 3 rfl ?_
    refine kw_iconst (pc := 66) B dX3_threads_66 (v := (1 : Int32)) rfl ?_
    refine kw_icmp_ne (pc := 67) (tgt := 74) B dX3_threads_67 rfl ?_ ?_
    · refine kw_iconst (pc := 74) B dX3_threads_74 (v := (0 : Int32)) rfl ?_
      exact kw_pick [] rfl (wb_X3_threads_75 B (0 : Int32) x0)
    · refine kw_iconst (pc := 70) B dX3_threads_70 (v := (1 : Int32)) rfl ?_
      refine kw_goto (pc := 71) (tgt := 75) B dX3_threads_71 rfl ?_
      exact kw_pick [] rfl (wb_X3_threads_75 B (1 : Int32) x0)
theorem wm_X3_threads {E : kw_E} (B : kw_ok E cX3_threads RX3 "threads" 6 (some .int) 6 111 []) (a0 : Option Nat) (a1 : Int32) : kw_W E kw_eI 0 [(0, kA a0), (1, kI a1)] [] (pm_X3_threads a0 a1) := by
  unfold pm_X3_threads
  refine kw_aload_n (pc := 0) B dX3_threads_0 rfl 0 rfl ?_
  refine kw_iload_n (pc := 1) B dX3_threads_1 rfl 1 rfl ?_
  refine kw_callV (pc := 2) B dX3_threads_2 (ci := 3) rfl (ct_X3_isString a0 a1) q2531 q2533 qs39 q81 q2534 ⟨by decide, by decide, rfl⟩ (As := [kI a1]) rfl (st := []) rfl (Nat.le_of_ble_eq_true rfl) (by decide) (by decide) kw_qI (fun i1 => ?_)
  refine kw_if_ne (pc := 5) (tgt := 10) B dX3_threads_5 rfl ?_ ?_
  · refine kw_aload_n (pc := 10) B dX3_threads_10 rfl 0 rfl ?_
    refine kw_iload_n (pc := 11) B dX3_threads_11 rfl 1 rfl ?_
    refine kw_callV (pc := 12) B dX3_threads_12 (ci := 3) rfl (ct_X3_wants a0 a1) q2535 q2537 qs40 q81 q2538 ⟨by decide, by decide, rfl⟩ (As := [kI a1]) rfl (st := []) rfl (Nat.le_of_ble_eq_true rfl) (by decide) (by decide) kw_qI (fun i2 => ?_)
    refine kw_istore_n (pc := 15) B dX3_threads_15 rfl (by decide) (L2 := [(2, kI i2), (0, kA a0), (1, kI a1)]) rfl ?_
    refine kw_iload_n (pc := 16) B dX3_threads_16 rfl 0 rfl ?_
    refine kw_iconst (pc := 17) B dX3_threads_17 (v := (3 : Int32)) rfl ?_
    refine kw_icmp_ne (pc := 18) (tgt := 28) B dX3_threads_18 rfl ?_ ?_
    · refine kw_iload_n (pc := 28) B dX3_threads_28 rfl 0 rfl ?_
      refine kw_iconst (pc := 29) B dX3_threads_29 (v := (2 : Int32)) rfl ?_
      refine kw_icmp_ne (pc := 30) (tgt := 45) B dX3_threads_30 rfl ?_ ?_
      · refine kw_aload_n (pc := 45) B dX3_threads_45 rfl 1 rfl ?_
        refine kw_iload_n (pc := 46) B dX3_threads_46 rfl 0 rfl ?_
        refine kw_iconst (pc := 47) B dX3_threads_47 (v := (1 : Int32)) rfl ?_
        refine kw_icmp_ne (pc := 48) (tgt := 55) B dX3_threads_48 rfl ?_ ?_
        · refine kw_iconst (pc := 55) B dX3_threads_55 (v := (0 : Int32)) rfl ?_
          exact kw_pick [1, 2, 0] rfl (wb_X3_threads_56 B a0 a1 i2 (0 : Int32) a0)
        · refine kw_iconst (pc := 51) B dX3_threads_51 (v := (1 : Int32)) rfl ?_
          refine kw_goto (pc := 52) (tgt := 56) B dX3_threads_52 rfl ?_
          exact kw_pick [1, 2, 0] rfl (wb_X3_threads_56 B a0 a1 i2 (1 : Int32) a0)
      · refine kw_aload_n (pc := 33) B dX3_threads_33 rfl 1 rfl ?_
        refine kw_iconst (pc := 34) B dX3_threads_34 (v := (5 : Int32)) rfl ?_
        refine kw_aload_n (pc := 35) B dX3_threads_35 rfl 1 rfl ?_
        refine kw_iload_n (pc := 36) B dX3_threads_36 rfl 2 rfl ?_
        refine kw_iconst (pc := 37) B dX3_threads_37 (v := (2 : Int32)) rfl ?_
        refine kw_callV (pc := 38) B dX3_threads_38 (ci := 3) rfl (ct_X3_ofString a0 a1 (2 : Int32)) q2543 q2545 qs42 q81 q2546 ⟨by decide, by decide, rfl⟩ (As := [kI a1, kI (2 : Int32)]) rfl (st := [kI (5 : Int32), kA a0]) rfl (Nat.le_of_ble_eq_true rfl) (by decide) (by decide) kw_qI (fun i3 => ?_)
        refine kw_callV (pc := 41) B dX3_threads_41 (ci := 3) rfl (ct_X3_refuses a0 (5 : Int32) i3) q2447 q2449 qs29 q81 q2450 ⟨by decide, by decide, rfl⟩ (As := [kI (5 : Int32), kI i3]) rfl (st := []) rfl (Nat.le_of_ble_eq_true rfl) (by decide) (by decide) kw_qI (fun i4 => ?_)
        exact kw_iret B dX3_threads_44 rfl
    · refine kw_aload_n (pc := 21) B dX3_threads_21 rfl 1 rfl ?_
      refine kw_iconst (pc := 22) B dX3_threads_22 (v := (4 : Int32)) rfl ?_
      refine kw_iload_n (pc := 23) B dX3_threads_23 rfl 2 rfl ?_
      refine kw_callV (pc := 24) B dX3_threads_24 (ci := 3) rfl (ct_X3_refuses a0 (4 : Int32) a1) q2447 q2449 qs29 q81 q2450 ⟨by decide, by decide, rfl⟩ (As := [kI (4 : Int32), kI a1]) rfl (st := []) rfl (Nat.le_of_ble_eq_true rfl) (by decide) (by decide) kw_qI (fun i5 => ?_)
      exact kw_iret B dX3_threads_27 rfl
  · refine kw_iconst (pc := 8) B dX3_threads_8 (v := (-1 : Int32)) rfl ?_
    exact kw_iret B dX3_threads_9 rfl
theorem ct_X3_threads (a0 : Option Nat) (a1 : Int32) (l : Launch) : kw_Met l yX3_threads (ws_ yX3_threads cX3_threads 6 (some .int)) 6 111 [kA a0, kI a1] kw_eI (pm_X3_threads a0 a1) := kw_met (plainFor_of_name rfl) (Nat.le_of_ble_eq_true rfl) (fun E B => wm_X3_threads B a0 a1) l

/-! RosaryCarversModel thread (I)I -/

theorem wm_X3_thread {E : kw_E} (B : kw_ok E cX3_thread RX3 "thread" 2 (some .int) 7 136 []) (a0 : Option Nat) (a1 : Int32) : kw_W E kw_eI 0 [(0, kA a0), (1, kI a1)] [] (pm_X3_thread a0 a1) := by
  unfold pm_X3_thread
  refine kw_aload_n (pc := 0) B dX3_thread_0 rfl 0 rfl ?_
  refine kw_callV (pc := 1) B dX3_thread_1 (ci := 3) rfl (ct_X3_keeps a0) q2418 q2420 qs25 q81 q2421 ⟨by decide, by decide, rfl⟩ (As := []) rfl (st := []) rfl (Nat.le_of_ble_eq_true rfl) (by decide) (by decide) kw_qV (fun _ => ?_)
  refine kw_aload_n (pc := 4) B dX3_thread_4 rfl 0 rfl ?_
  refine kw_aload_n (pc := 5) B dX3_thread_5 rfl 0 rfl ?_
  refine kw_iload_n (pc := 6) B dX3_thread_6 rfl 1 rfl ?_
  refine kw_callV (pc := 7) B dX3_thread_7 (ci := 3) rfl (ct_X3_threads a0 a1) q2527 q2529 qs38 q81 q2530 ⟨by decide, by decide, rfl⟩ (As := [kI a1]) rfl (st := [kA a0]) rfl (Nat.le_of_ble_eq_true rfl) (by decide) (by decide) kw_qI (fun i1 => ?_)
  refine kw_callV (pc := 10) B dX3_thread_10 (ci := 3) rfl (ct_X3_ends a0 i1) q2428 q2430 qs26 q81 q2431 ⟨by decide, by decide, rfl⟩ (As := [kI i1]) rfl (st := []) rfl (Nat.le_of_ble_eq_true rfl) (by decide) (by decide) kw_qI (fun i2 => ?_)
  exact kw_iret B dX3_thread_13 rfl
theorem ct_X3_thread (a0 : Option Nat) (a1 : Int32) (l : Launch) : kw_Met l yX3_thread (ws_ yX3_thread cX3_thread 2 (some .int)) 7 136 [kA a0, kI a1] kw_eI (pm_X3_thread a0 a1) := kw_met (plainFor_of_name rfl) (Nat.le_of_ble_eq_true rfl) (fun E B => wm_X3_thread B a0 a1) l

/-! RosaryCarvers$8 <init> (LRosaryCarvers;I)V -/
theorem fl_X23_1 : kw_fl RX23 1 "RosaryCarvers$8" [(21, 2)] := (kw_fl_c (C := RX23) (T := TX23) (N := 3) rfl (by decide) in_X23 q1716 (Or.inl rfl) kw_fl_nil)
theorem fp_X23_1 : kw_fp RX23 (.object "RosaryCarvers") true [(21, 2)] := (kw_fp_d (C := RX23) (T := TX23) (N := 3) (ty0 := tyX23) rfl tyX23_ok (by unfold kw_ap; decide) rfl rfl (by decide) rfl kw_fp_nil)
theorem fp_X23_7 : kw_fp RX23 .int true [(21, 1)] := (kw_fp_d (C := RX23) (T := TX23) (N := 3) (ty0 := tyX23) rfl tyX23_ok (by unfold kw_ap; decide) rfl rfl (by decide) rfl kw_fp_nil)
theorem wm_X23_init {E : kw_E} (B : kw_ok E cX23_init RX23 "<init>" 3 none 2 45 []) (a0 : Option Nat) (a1 : Option Nat) (a2 : Int32) : kw_W E kw_eV 0 [(0, kA a0), (1, kA a1), (2, kI a2)] [] (pm_X23_init a0 a1 a2) := by
  unfold pm_X23_init
  refine kw_aload_n (pc := 0) B dX23_init_0 rfl 0 rfl ?_
  refine kw_aload_n (pc := 1) B dX23_init_1 rfl 1 rfl ?_
  refine kw_pR (pc := 2) B dX23_init_2 fl_X23_1 fp_X23_1 (fun _ => rfl) rfl ?_
  refine kw_aload_n (pc := 5) B dX23_init_5 rfl 0 rfl ?_
  refine kw_iload_n (pc := 6) B dX23_init_6 rfl 2 rfl ?_
  refine kw_pI (pc := 7) B dX23_init_7 fl_X23_7 fp_X23_7 (fun _ => rfl) ?_
  refine kw_aload_n (pc := 10) B dX23_init_10 rfl 0 rfl ?_
  refine kw_aload_n (pc := 11) B dX23_init_11 rfl 1 rfl ?_
  refine kw_callIN (pc := 12) B dX23_init_12 (ct_X4_init a0 a1) q1714 q348 q82 q349 rfl ⟨by decide, by decide, rfl⟩ (As := [kA a1]) rfl (st := []) rfl (Nat.le_of_ble_eq_true rfl) (by decide) (by decide) kw_qV (fun _ => ?_)
  exact kw_vret B dX23_init_15 rfl
theorem ct_X23_init (a0 : Option Nat) (a1 : Option Nat) (a2 : Int32) (l : Launch) : kw_Met l yX23_init (ws_ yX23_init cX23_init 3 none) 2 45 [kA a0, kA a1, kI a2] kw_eV (pm_X23_init a0 a1 a2) := kw_met (plainFor_of_name rfl) (Nat.le_of_ble_eq_true rfl) (fun E B => wm_X23_init B a0 a1 a2) l

/-! RosaryCarvers knot (I)I -/

theorem wm_X0_knot {E : kw_E} (B : kw_ok E cX0_knot RX0 "knot" 2 (some .int) 18 375 []) (a0 : Option Nat) (a1 : Int32) : kw_W E kw_eI 0 [(0, kA a0), (1, kI a1)] [] (pm_X0_knot a0 a1) := by
  unfold pm_X0_knot
  refine kw_aload_n (pc := 0) B dX0_knot_0 rfl 0 rfl ?_
  refine kw_gR (pc := 1) B dX0_knot_1 fl_X0_17 (fun r1 => ?_)
  refine kw_iload_n (pc := 4) B dX0_knot_4 rfl 1 rfl ?_
  refine kw_callV (pc := 5) B dX0_knot_5 (ci := 1) rfl (ct_X1_isString r1 a1) q1439 q1440 q1441 q74 q1442 ⟨by decide, by decide, rfl⟩ (As := [kI a1]) rfl (st := []) rfl (Nat.le_of_ble_eq_true rfl) (by decide) (by decide) kw_qI (fun i2 => ?_)
  refine kw_if_ne (pc := 8) (tgt := 13) B dX0_knot_8 rfl ?_ ?_
  · refine kw_new (pc := 13) B dX0_knot_13 (ci := 21) (N := 3) rfl in_X23 tyX23_ok kz_D8_ok q1709 q1710 q118 (fun r3 => ?_)
    refine kw_dup (pc := 16) B dX0_knot_16 rfl ?_
    refine kw_aload_n (pc := 17) B dX0_knot_17 rfl 0 rfl ?_
    refine kw_iload_n (pc := 18) B dX0_knot_18 rfl 1 rfl ?_
    refine kw_callI (pc := 19) B dX0_knot_19 (ct_X23_init r3 a0 a1) q1711 q1712 q118 q1713 rfl ⟨by decide, by decide, rfl⟩ (As := [kA a0, kI a1]) rfl (st := [kA r3]) rfl (Nat.le_of_ble_eq_true rfl) (by decide) (by decide) kw_qV (fun _ => ?_)
    refine kw_callUW (pc := 22) B dX0_knot_22 (x0 := ⟨"RosaryCarvers$8", "done", "()I"⟩) (owner := "RosaryCarvers$Deed") (ci := 21) rfl (ct_X4_done r3) q1723 q1724 q1725 q365 q365 q82 q366 rfl ⟨by decide, by decide, rfl⟩ (As := []) rfl (st := []) rfl (Nat.le_of_ble_eq_true rfl) (by decide) (by decide) kw_qI (fun i4 => ?_)
    exact kw_iret B dX0_knot_25 rfl
  · refine kw_iconst (pc := 11) B dX0_knot_11 (v := (-1 : Int32)) rfl ?_
    exact kw_iret B dX0_knot_12 rfl
theorem ct_X0_knot (a0 : Option Nat) (a1 : Int32) (l : Launch) : kw_Met l yX0_knot (ws_ yX0_knot cX0_knot 2 (some .int)) 18 375 [kA a0, kI a1] kw_eI (pm_X0_knot a0 a1) := kw_met (plainFor_of_name rfl) (Nat.le_of_ble_eq_true rfl) (fun E B => wm_X0_knot B a0 a1) l

/-! RosaryCarversModel knots (I)I -/

theorem wm_X3_knots {E : kw_E} (B : kw_ok E cX3_knots RX3 "knots" 2 (some .int) 5 85 []) (a0 : Option Nat) (a1 : Int32) : kw_W E kw_eI 0 [(0, kA a0), (1, kI a1)] [] (pm_X3_knots a0 a1) := by
  unfold pm_X3_knots
  refine kw_aload_n (pc := 0) B dX3_knots_0 rfl 0 rfl ?_
  refine kw_iload_n (pc := 1) B dX3_knots_1 rfl 1 rfl ?_
  refine kw_callV (pc := 2) B dX3_knots_2 (ci := 3) rfl (ct_X3_isString a0 a1) q2531 q2533 qs39 q81 q2534 ⟨by decide, by decide, rfl⟩ (As := [kI a1]) rfl (st := []) rfl (Nat.le_of_ble_eq_true rfl) (by decide) (by decide) kw_qI (fun i1 => ?_)
  refine kw_if_ne (pc := 5) (tgt := 10) B dX3_knots_5 rfl ?_ ?_
  · refine kw_aload_n (pc := 10) B dX3_knots_10 rfl 0 rfl ?_
    refine kw_iload_n (pc := 11) B dX3_knots_11 rfl 1 rfl ?_
    refine kw_callV (pc := 12) B dX3_knots_12 (ci := 3) rfl (ct_X3_isDone a0 a1) q2539 q2541 qs41 q81 q2542 ⟨by decide, by decide, rfl⟩ (As := [kI a1]) rfl (st := []) rfl (Nat.le_of_ble_eq_true rfl) (by decide) (by decide) kw_qI (fun i2 => ?_)
    refine kw_if_eq (pc := 15) (tgt := 25) B dX3_knots_15 rfl ?_ ?_
    · refine kw_aload_n (pc := 25) B dX3_knots_25 rfl 0 rfl ?_
      refine kw_iload_n (pc := 26) B dX3_knots_26 rfl 1 rfl ?_
      refine kw_callV (pc := 27) B dX3_knots_27 (ci := 3) rfl (ct_X3_lacks a0 a1) q2547 q2549 qs43 q81 q2550 ⟨by decide, by decide, rfl⟩ (As := [kI a1]) rfl (st := []) rfl (Nat.le_of_ble_eq_true rfl) (by decide) (by decide) kw_qI (fun i3 => ?_)
      refine kw_if_le (pc := 30) (tgt := 45) B dX3_knots_30 rfl ?_ ?_
      · refine kw_aload_n (pc := 45) B dX3_knots_45 rfl 0 rfl ?_
        refine kw_gR (pc := 46) B dX3_knots_46 fl_X3_9 (fun r4 => ?_)
        refine kw_iload_n (pc := 49) B dX3_knots_49 rfl 1 rfl ?_
        refine kw_iconst (pc := 50) B dX3_knots_50 (v := (2 : Int32)) rfl ?_
        refine kw_callS (pc := 51) B dX3_knots_51 (ct_X3_stringAt a1 (2 : Int32)) q2520 q2521 q81 q2522 ⟨by decide, by decide, rfl⟩ (As := [kI a1, kI (2 : Int32)]) rfl (st := [kA r4]) rfl (Nat.le_of_ble_eq_true rfl) (by decide) (by decide) kw_qI (fun i5 => ?_)
        refine kw_dup2 (pc := 54) B dX3_knots_54 rfl rfl ?_
        refine kw_iald (pc := 55) B dX3_knots_55 (fun i6 => ?_)
        refine kw_iconst (pc := 56) B dX3_knots_56 (v := (1 : Int32)) rfl ?_
        refine kw_iadd (pc := 57) B dX3_knots_57 ?_
        refine kw_iast (pc := 58) B dX3_knots_58 ?_
        refine kw_aload_n (pc := 59) B dX3_knots_59 rfl 0 rfl ?_
        refine kw_iload_n (pc := 60) B dX3_knots_60 rfl 1 rfl ?_
        refine kw_iconst (pc := 61) B dX3_knots_61 (v := (2 : Int32)) rfl ?_
        refine kw_callV (pc := 62) B dX3_knots_62 (ci := 3) rfl (ct_X3_ofString a0 a1 (2 : Int32)) q2543 q2545 qs42 q81 q2546 ⟨by decide, by decide, rfl⟩ (As := [kI a1, kI (2 : Int32)]) rfl (st := []) rfl (Nat.le_of_ble_eq_true rfl) (by decide) (by decide) kw_qI (fun i8 => ?_)
        exact kw_iret B dX3_knots_65 rfl
      · refine kw_aload_n (pc := 33) B dX3_knots_33 rfl 0 rfl ?_
        refine kw_bipush (pc := 34) B dX3_knots_34 (v := (7 : Int32)) rfl ?_
        refine kw_aload_n (pc := 36) B dX3_knots_36 rfl 0 rfl ?_
        refine kw_iload_n (pc := 37) B dX3_knots_37 rfl 1 rfl ?_
        refine kw_callV (pc := 38) B dX3_knots_38 (ci := 3) rfl (ct_X3_lacks a0 a1) q2547 q2549 qs43 q81 q2550 ⟨by decide, by decide, rfl⟩ (As := [kI a1]) rfl (st := [kI (7 : Int32), kA a0]) rfl (Nat.le_of_ble_eq_true rfl) (by decide) (by decide) kw_qI (fun i9 => ?_)
        refine kw_callV (pc := 41) B dX3_knots_41 (ci := 3) rfl (ct_X3_refuses a0 (7 : Int32) i9) q2447 q2449 qs29 q81 q2450 ⟨by decide, by decide, rfl⟩ (As := [kI (7 : Int32), kI i9]) rfl (st := []) rfl (Nat.le_of_ble_eq_true rfl) (by decide) (by decide) kw_qI (fun i10 => ?_)
        exact kw_iret B dX3_knots_44 rfl
    · refine kw_aload_n (pc := 18) B dX3_knots_18 rfl 0 rfl ?_
      refine kw_iconst (pc := 19) B dX3_knots_19 (v := (4 : Int32)) rfl ?_
      refine kw_iload_n (pc := 20) B dX3_knots_20 rfl 1 rfl ?_
      refine kw_callV (pc := 21) B dX3_knots_21 (ci := 3) rfl (ct_X3_refuses a0 (4 : Int32) a1) q2447 q2449 qs29 q81 q2450 ⟨by decide, by decide, rfl⟩ (As := [kI (4 : Int32), kI a1]) rfl (st := []) rfl (Nat.le_of_ble_eq_true rfl) (by decide) (by decide) kw_qI (fun i11 => ?_)
      exact kw_iret B dX3_knots_24 rfl
  · refine kw_iconst (pc := 8) B dX3_knots_8 (v := (-1 : Int32)) rfl ?_
    exact kw_iret B dX3_knots_9 rfl
theorem ct_X3_knots (a0 : Option Nat) (a1 : Int32) (l : Launch) : kw_Met l yX3_knots (ws_ yX3_knots cX3_knots 2 (some .int)) 5 85 [kA a0, kI a1] kw_eI (pm_X3_knots a0 a1) := kw_met (plainFor_of_name rfl) (Nat.le_of_ble_eq_true rfl) (fun E B => wm_X3_knots B a0 a1) l

/-! RosaryCarversModel knot (I)I -/

theorem wm_X3_knot {E : kw_E} (B : kw_ok E cX3_knot RX3 "knot" 2 (some .int) 6 106 []) (a0 : Option Nat) (a1 : Int32) : kw_W E kw_eI 0 [(0, kA a0), (1, kI a1)] [] (pm_X3_knot a0 a1) := by
  unfold pm_X3_knot
  refine kw_aload_n (pc := 0) B dX3_knot_0 rfl 0 rfl ?_
  refine kw_callV (pc := 1) B dX3_knot_1 (ci := 3) rfl (ct_X3_keeps a0) q2418 q2420 qs25 q81 q2421 ⟨by decide, by decide, rfl⟩ (As := []) rfl (st := []) rfl (Nat.le_of_ble_eq_true rfl) (by decide) (by decide) kw_qV (fun _ => ?_)
  refine kw_aload_n (pc := 4) B dX3_knot_4 rfl 0 rfl ?_
  refine kw_aload_n (pc := 5) B dX3_knot_5 rfl 0 rfl ?_
  refine kw_iload_n (pc := 6) B dX3_knot_6 rfl 1 rfl ?_
  refine kw_callV (pc := 7) B dX3_knot_7 (ci := 3) rfl (ct_X3_knots a0 a1) q2578 q2580 qs49 q81 q2581 ⟨by decide, by decide, rfl⟩ (As := [kI a1]) rfl (st := [kA a0]) rfl (Nat.le_of_ble_eq_true rfl) (by decide) (by decide) kw_qI (fun i1 => ?_)
  refine kw_callV (pc := 10) B dX3_knot_10 (ci := 3) rfl (ct_X3_ends a0 i1) q2428 q2430 qs26 q81 q2431 ⟨by decide, by decide, rfl⟩ (As := [kI i1]) rfl (st := []) rfl (Nat.le_of_ble_eq_true rfl) (by decide) (by decide) kw_qI (fun i2 => ?_)
  exact kw_iret B dX3_knot_13 rfl
theorem ct_X3_knot (a0 : Option Nat) (a1 : Int32) (l : Launch) : kw_Met l yX3_knot (ws_ yX3_knot cX3_knot 2 (some .int)) 6 106 [kA a0, kI a1] kw_eI (pm_X3_knot a0 a1) := kw_met (plainFor_of_name rfl) (Nat.le_of_ble_eq_true rfl) (fun E B => wm_X3_knot B a0 a1) l

/-! RosaryCarvers$9 <init> (LRosaryCarvers;I)V -/
theorem fl_X24_1 : kw_fl RX24 1 "RosaryCarvers$9" [(22, 2)] := (kw_fl_c (C := RX24) (T := TX24) (N := 3) rfl (by decide) in_X24 q1737 (Or.inl rfl) kw_fl_nil)
theorem fp_X24_1 : kw_fp RX24 (.object "RosaryCarvers") true [(22, 2)] := (kw_fp_d (C := RX24) (T := TX24) (N := 3) (ty0 := tyX24) rfl tyX24_ok (by unfold kw_ap; decide) rfl rfl (by decide) rfl kw_fp_nil)
theorem fp_X24_7 : kw_fp RX24 .int true [(22, 1)] := (kw_fp_d (C := RX24) (T := TX24) (N := 3) (ty0 := tyX24) rfl tyX24_ok (by unfold kw_ap; decide) rfl rfl (by decide) rfl kw_fp_nil)
theorem wm_X24_init {E : kw_E} (B : kw_ok E cX24_init RX24 "<init>" 3 none 2 45 []) (a0 : Option Nat) (a1 : Option Nat) (a2 : Int32) : kw_W E kw_eV 0 [(0, kA a0), (1, kA a1), (2, kI a2)] [] (pm_X24_init a0 a1 a2) := by
  unfold pm_X24_init
  refine kw_aload_n (pc := 0) B dX24_init_0 rfl 0 rfl ?_
  refine kw_aload_n (pc := 1) B dX24_init_1 rfl 1 rfl ?_
  refine kw_pR (pc := 2) B dX24_init_2 fl_X24_1 fp_X24_1 (fun _ => rfl) rfl ?_
  refine kw_aload_n (pc := 5) B dX24_init_5 rfl 0 rfl ?_
  refine kw_iload_n (pc := 6) B dX24_init_6 rfl 2 rfl ?_
  refine kw_pI (pc := 7) B dX24_init_7 fl_X24_7 fp_X24_7 (fun _ => rfl) ?_
  refine kw_aload_n (pc := 10) B dX24_init_10 rfl 0 rfl ?_
  refine kw_aload_n (pc := 11) B dX24_init_11 rfl 1 rfl ?_
  refine kw_callIN (pc := 12) B dX24_init_12 (ct_X4_init a0 a1) q1735 q348 q82 q349 rfl ⟨by decide, by decide, rfl⟩ (As := [kA a1]) rfl (st := []) rfl (Nat.le_of_ble_eq_true rfl) (by decide) (by decide) kw_qV (fun _ => ?_)
  exact kw_vret B dX24_init_15 rfl
theorem ct_X24_init (a0 : Option Nat) (a1 : Option Nat) (a2 : Int32) (l : Launch) : kw_Met l yX24_init (ws_ yX24_init cX24_init 3 none) 2 45 [kA a0, kA a1, kI a2] kw_eV (pm_X24_init a0 a1 a2) := kw_met (plainFor_of_name rfl) (Nat.le_of_ble_eq_true rfl) (fun E B => wm_X24_init B a0 a1 a2) l

/-! RosaryCarvers drop (I)I -/

theorem wm_X0_drop {E : kw_E} (B : kw_ok E cX0_drop RX0 "drop" 2 (some .int) 18 375 []) (a0 : Option Nat) (a1 : Int32) : kw_W E kw_eI 0 [(0, kA a0), (1, kI a1)] [] (pm_X0_drop a0 a1) := by
  unfold pm_X0_drop
  refine kw_aload_n (pc := 0) B dX0_drop_0 rfl 0 rfl ?_
  refine kw_gR (pc := 1) B dX0_drop_1 fl_X0_17 (fun r1 => ?_)
  refine kw_iload_n (pc := 4) B dX0_drop_4 rfl 1 rfl ?_
  refine kw_callV (pc := 5) B dX0_drop_5 (ci := 1) rfl (ct_X1_isString r1 a1) q1439 q1440 q1441 q74 q1442 ⟨by decide, by decide, rfl⟩ (As := [kI a1]) rfl (st := []) rfl (Nat.le_of_ble_eq_true rfl) (by decide) (by decide) kw_qI (fun i2 => ?_)
  refine kw_if_ne (pc := 8) (tgt := 13) B dX0_drop_8 rfl ?_ ?_
  · refine kw_new (pc := 13) B dX0_drop_13 (ci := 22) (N := 3) rfl in_X24 tyX24_ok kz_D9_ok q1730 q1731 q119 (fun r3 => ?_)
    refine kw_dup (pc := 16) B dX0_drop_16 rfl ?_
    refine kw_aload_n (pc := 17) B dX0_drop_17 rfl 0 rfl ?_
    refine kw_iload_n (pc := 18) B dX0_drop_18 rfl 1 rfl ?_
    refine kw_callI (pc := 19) B dX0_drop_19 (ct_X24_init r3 a0 a1) q1732 q1733 q119 q1734 rfl ⟨by decide, by decide, rfl⟩ (As := [kA a0, kI a1]) rfl (st := [kA r3]) rfl (Nat.le_of_ble_eq_true rfl) (by decide) (by decide) kw_qV (fun _ => ?_)
    refine kw_callUW (pc := 22) B dX0_drop_22 (x0 := ⟨"RosaryCarvers$9", "done", "()I"⟩) (owner := "RosaryCarvers$Deed") (ci := 22) rfl (ct_X4_done r3) q1744 q1745 q1746 q365 q365 q82 q366 rfl ⟨by decide, by decide, rfl⟩ (As := []) rfl (st := []) rfl (Nat.le_of_ble_eq_true rfl) (by decide) (by decide) kw_qI (fun i4 => ?_)
    exact kw_iret B dX0_drop_25 rfl
  · refine kw_iconst (pc := 11) B dX0_drop_11 (v := (-1 : Int32)) rfl ?_
    exact kw_iret B dX0_drop_12 rfl
theorem ct_X0_drop (a0 : Option Nat) (a1 : Int32) (l : Launch) : kw_Met l yX0_drop (ws_ yX0_drop cX0_drop 2 (some .int)) 18 375 [kA a0, kI a1] kw_eI (pm_X0_drop a0 a1) := kw_met (plainFor_of_name rfl) (Nat.le_of_ble_eq_true rfl) (fun E B => wm_X0_drop B a0 a1) l

/-! RosaryCarversModel drops (I)I -/

theorem wb_X3_drops_26 {E : kw_E} (B : kw_ok E cX3_drops RX3 "drops" 5 (some .int) 4 65 [])  : ∀ (n : Nat) (x0 : Option Nat) (x1 : Int32) (x2 : Int32) (x3 : Int32) (x4 : Int32), kw_W E kw_eI 26 [(0, kA x0), (1, kI x1), (2, kI x2), (3, kI x3), (4, kI x4)] [] (pb_X3_drops_26  n x0 x1 x2 x3 x4) := by
  intro n
  induction n with
  | zero =>
    intro x0 x1 x2 x3 x4
    exact kw_fail_ok
  | succ n ih =>
    intro x0 x1 x2 x3 x4
    show kw_W E kw_eI 26 [(0, kA x0), (1, kI x1), (2, kI x2), (3, kI x3), (4, kI x4)] [] (
if x3 ≤ x4 then
(km_bind (km_gR [(3, 0)] x0) fun r1 =>
km_bind (pm_X3_stringAt x1 (3 : Int32)) fun i2 =>
km_bind (km_stI 0 r1 i2 x2) fun _ =>
km_pure (x3 - x2))
else
(km_bind (km_gR [(3, 0)] x0) fun r4 =>
km_bind (pm_X3_beadAt x1 x4) fun i5 =>
km_bind (km_ldI 0 r4 i5) fun i6 =>
km_bind (km_is 3 x0) fun _ => km_bind (pm_X3_isLargeAt x0 x1 x4) fun i7 =>
km_bind (km_gR [(3, 0)] x0) fun r8 =>
km_bind (pm_X3_beadAt x1 x4) fun i9 =>
km_bind (km_ldI 0 r8 (i9 + (1 : Int32))) fun i10 =>
km_bind (km_is 3 x0) fun _ => km_bind (pm_X3_comesToBox x0 i6 i7 i10) fun _ =>
pb_X3_drops_26 n x0 x1 x2 x3 (x4 + (1 : Int32))))
    refine kw_iload (pc := 26) B dX3_drops_26 4 rfl ?_
    refine kw_iload_n (pc := 28) B dX3_drops_28 rfl 3 rfl ?_
    refine kw_icmp_ge (pc := 29) (tgt := 73) B dX3_drops_29 rfl ?_ ?_
    · refine kw_aload_n (pc := 73) B dX3_drops_73 rfl 0 rfl ?_
      refine kw_gR (pc := 74) B dX3_drops_74 fl_X3_9 (fun r1 => ?_)
      refine kw_iload_n (pc := 77) B dX3_drops_77 rfl 1 rfl ?_
      refine kw_iconst (pc := 78) B dX3_drops_78 (v := (3 : Int32)) rfl ?_
      refine kw_callS (pc := 79) B dX3_drops_79 (ct_X3_stringAt x1 (3 : Int32)) q2520 q2521 q81 q2522 ⟨by decide, by decide, rfl⟩ (As := [kI x1, kI (3 : Int32)]) rfl (st := [kA r1]) rfl (Nat.le_of_ble_eq_true rfl) (by decide) (by decide) kw_qI (fun i2 => ?_)
      refine kw_iload_n (pc := 82) B dX3_drops_82 rfl 2 rfl ?_
      refine kw_iast (pc := 83) B dX3_drops_83 ?_
      refine kw_iload_n (pc := 84) B dX3_drops_84 rfl 3 rfl ?_
      refine kw_iload_n (pc := 85) B dX3_drops_85 rfl 2 rfl ?_
      refine kw_isub (pc := 86) B dX3_drops_86 ?_
      exact kw_iret B dX3_drops_87 rfl
    · refine kw_aload_n (pc := 32) B dX3_drops_32 rfl 0 rfl ?_
      refine kw_aload_n (pc := 33) B dX3_drops_33 rfl 0 rfl ?_
      refine kw_gR (pc := 34) B dX3_drops_34 fl_X3_9 (fun r4 => ?_)
      refine kw_iload_n (pc := 37) B dX3_drops_37 rfl 1 rfl ?_
      refine kw_iload (pc := 38) B dX3_drops_38 4 rfl ?_
      refine kw_callS (pc := 40) B dX3_drops_40 (ct_X3_beadAt x1 x4) q2567 q2568 q81 q2569 ⟨by decide, by decide, rfl⟩ (As := [kI x1, kI x4]) rfl (st := [kA r4, kA x0]) rfl (Nat.le_of_ble_eq_true rfl) (by decide) (by decide) kw_qI (fun i5 => ?_)
      refine kw_iald (pc := 43) B dX3_drops_43 (fun i6 => ?_)
      refine kw_aload_n (pc := 44) B dX3_drops_44 rfl 0 rfl ?_
      refine kw_iload_n (pc := 45) B dX3_drops_45 rfl 1 rfl ?_
      refine kw_iload (pc := 46) B dX3_drops_46 4 rfl ?_
      refine kw_callV (pc := 48) B dX3_drops_48 (ci := 3) rfl (ct_X3_isLargeAt x0 x1 x4) q2555 q2557 qs45 q81 q2558 ⟨by decide, by decide, rfl⟩ (As := [kI x1, kI x4]) rfl (st := [kI i6, kA x0]) rfl (Nat.le_of_ble_eq_true rfl) (by decide) (by decide) kw_qI (fun i7 => ?_)
      refine kw_aload_n (pc := 51) B dX3_drops_51 rfl 0 rfl ?_
      refine kw_gR (pc := 52) B dX3_drops_52 fl_X3_9 (fun r8 => ?_)
      refine kw_iload_n (pc := 55) B dX3_drops_55 rfl 1 rfl ?_
      refine kw_iload (pc := 56) B dX3_drops_56 4 rfl ?_
      refine kw_callS (pc := 58) B dX3_drops_58 (ct_X3_beadAt x1 x4) q2567 q2568 q81 q2569 ⟨by decide, by decide, rfl⟩ (As := [kI x1, kI x4]) rfl (st := [kA r8, kI i7, kI i6, kA x0]) rfl (Nat.le_of_ble_eq_true rfl) (by decide) (by decide) kw_qI (fun i9 => ?_)
      refine kw_iconst (pc := 61) B dX3_drops_61 (v := (1 : Int32)) rfl ?_
      refine kw_iadd (pc := 62) B dX3_drops_62 ?_
      refine kw_iald (pc := 63) B dX3_drops_63 (fun i10 => ?_)
      refine kw_callV (pc := 64) B dX3_drops_64 (ci := 3) rfl (ct_X3_comesToBox x0 i6 i7 i10) q2489 q2491 qs35 q81 q2492 ⟨by decide, by decide, rfl⟩ (As := [kI i6, kI i7, kI i10]) rfl (st := []) rfl (Nat.le_of_ble_eq_true rfl) (by decide) (by decide) kw_qV (fun _ => ?_)
      refine kw_iinc (pc := 67) B dX3_drops_67 4 rfl (w := x4 + (1 : Int32)) rfl (by decide) (L2 := [(4, kI (x4 + (1 : Int32))), (0, kA x0), (1, kI x1), (2, kI x2), (3, kI x3)]) rfl ?_
      refine kw_goto (pc := 70) (tgt := 26) B dX3_drops_70 rfl ?_
      exact kw_pick [1, 2, 3, 4, 0] rfl (ih x0 x1 x2 x3 (x4 + (1 : Int32)))
theorem wm_X3_drops {E : kw_E} (B : kw_ok E cX3_drops RX3 "drops" 5 (some .int) 4 65 []) (a0 : Option Nat) (a1 : Int32) : kw_W E kw_eI 0 [(0, kA a0), (1, kI a1)] [] (pm_X3_drops a0 a1) := by
  unfold pm_X3_drops
  refine kw_aload_n (pc := 0) B dX3_drops_0 rfl 0 rfl ?_
  refine kw_iload_n (pc := 1) B dX3_drops_1 rfl 1 rfl ?_
  refine kw_callV (pc := 2) B dX3_drops_2 (ci := 3) rfl (ct_X3_isString a0 a1) q2531 q2533 qs39 q81 q2534 ⟨by decide, by decide, rfl⟩ (As := [kI a1]) rfl (st := []) rfl (Nat.le_of_ble_eq_true rfl) (by decide) (by decide) kw_qI (fun i1 => ?_)
  refine kw_if_ne (pc := 5) (tgt := 10) B dX3_drops_5 rfl ?_ ?_
  · refine kw_aload_n (pc := 10) B dX3_drops_10 rfl 0 rfl ?_
    refine kw_iload_n (pc := 11) B dX3_drops_11 rfl 1 rfl ?_
    refine kw_callV (pc := 12) B dX3_drops_12 (ci := 3) rfl (ct_X3_knotted a0 a1) q2551 q2553 qs44 q81 q2554 ⟨by decide, by decide, rfl⟩ (As := [kI a1]) rfl (st := []) rfl (Nat.le_of_ble_eq_true rfl) (by decide) (by decide) kw_qI (fun i2 => ?_)
    refine kw_istore_n (pc := 15) B dX3_drops_15 rfl (by decide) (L2 := [(2, kI i2), (0, kA a0), (1, kI a1)]) rfl ?_
    refine kw_aload_n (pc := 16) B dX3_drops_16 rfl 1 rfl ?_
    refine kw_iload_n (pc := 17) B dX3_drops_17 rfl 2 rfl ?_
    refine kw_iconst (pc := 18) B dX3_drops_18 (v := (3 : Int32)) rfl ?_
    refine kw_callV (pc := 19) B dX3_drops_19 (ci := 3) rfl (ct_X3_ofString a0 a1 (3 : Int32)) q2543 q2545 qs42 q81 q2546 ⟨by decide, by decide, rfl⟩ (As := [kI a1, kI (3 : Int32)]) rfl (st := []) rfl (Nat.le_of_ble_eq_true rfl) (by decide) (by decide) kw_qI (fun i3 => ?_)
    refine kw_istore_n (pc := 22) B dX3_drops_22 rfl (by decide) (L2 := [(3, kI i3), (2, kI i2), (0, kA a0), (1, kI a1)]) rfl ?_
    refine kw_iload_n (pc := 23) B dX3_drops_23 rfl 1 rfl ?_
    refine kw_istore (pc := 24) B dX3_drops_24 (by decide) (L2 := [(4, kI i2), (3, kI i3), (2, kI i2), (0, kA a0), (1, kI a1)]) rfl ?_
    exact kw_pick [3, 4, 2, 1, 0] rfl (wb_X3_drops_26 B km_fuel a0 a1 i2 i3 i2)
  · refine kw_iconst (pc := 8) B dX3_drops_8 (v := (-1 : Int32)) rfl ?_
    exact kw_iret B dX3_drops_9 rfl
theorem ct_X3_drops (a0 : Option Nat) (a1 : Int32) (l : Launch) : kw_Met l yX3_drops (ws_ yX3_drops cX3_drops 5 (some .int)) 4 65 [kA a0, kI a1] kw_eI (pm_X3_drops a0 a1) := kw_met (plainFor_of_name rfl) (Nat.le_of_ble_eq_true rfl) (fun E B => wm_X3_drops B a0 a1) l

/-! RosaryCarversModel drop (I)I -/

theorem wm_X3_drop {E : kw_E} (B : kw_ok E cX3_drop RX3 "drop" 2 (some .int) 5 89 []) (a0 : Option Nat) (a1 : Int32) : kw_W E kw_eI 0 [(0, kA a0), (1, kI a1)] [] (pm_X3_drop a0 a1) := by
  unfold pm_X3_drop
  refine kw_aload_n (pc := 0) B dX3_drop_0 rfl 0 rfl ?_
  refine kw_callV (pc := 1) B dX3_drop_1 (ci := 3) rfl (ct_X3_keeps a0) q2418 q2420 qs25 q81 q2421 ⟨by decide, by decide, rfl⟩ (As := []) rfl (st := []) rfl (Nat.le_of_ble_eq_true rfl) (by decide) (by decide) kw_qV (fun _ => ?_)
  refine kw_aload_n (pc := 4) B dX3_drop_4 rfl 0 rfl ?_
  refine kw_aload_n (pc := 5) B dX3_drop_5 rfl 0 rfl ?_
  refine kw_iload_n (pc := 6) B dX3_drop_6 rfl 1 rfl ?_
  refine kw_callV (pc := 7) B dX3_drop_7 (ci := 3) rfl (ct_X3_drops a0 a1) q2586 q2588 qs50 q81 q2589 ⟨by decide, by decide, rfl⟩ (As := [kI a1]) rfl (st := [kA a0]) rfl (Nat.le_of_ble_eq_true rfl) (by decide) (by decide) kw_qI (fun i1 => ?_)
  refine kw_callV (pc := 10) B dX3_drop_10 (ci := 3) rfl (ct_X3_ends a0 i1) q2428 q2430 qs26 q81 q2431 ⟨by decide, by decide, rfl⟩ (As := [kI i1]) rfl (st := []) rfl (Nat.le_of_ble_eq_true rfl) (by decide) (by decide) kw_qI (fun i2 => ?_)
  exact kw_iret B dX3_drop_13 rfl
theorem ct_X3_drop (a0 : Option Nat) (a1 : Int32) (l : Launch) : kw_Met l yX3_drop (ws_ yX3_drop cX3_drop 2 (some .int)) 5 89 [kA a0, kI a1] kw_eI (pm_X3_drop a0 a1) := kw_met (plainFor_of_name rfl) (Nat.le_of_ble_eq_true rfl) (fun E B => wm_X3_drop B a0 a1) l

/-! RosaryCarvers$10 <init> (LRosaryCarvers;IIII)V -/
theorem fl_X25_1 : kw_fl RX25 1 "RosaryCarvers$10" [(23, 5)] := (kw_fl_c (C := RX25) (T := TX25) (N := 6) rfl (by decide) in_X25 q1761 (Or.inl rfl) kw_fl_nil)
theorem fp_X25_1 : kw_fp RX25 (.object "RosaryCarvers") true [(23, 5)] := (kw_fp_d (C := RX25) (T := TX25) (N := 6) (ty0 := tyX25) rfl tyX25_ok (by unfold kw_ap; decide) rfl rfl (by decide) rfl kw_fp_nil)
theorem fp_X25_7 : kw_fp RX25 .int true [(23, 1)] := (kw_fp_d (C := RX25) (T := TX25) (N := 6) (ty0 := tyX25) rfl tyX25_ok (by unfold kw_ap; decide) rfl rfl (by decide) rfl kw_fp_nil)
theorem fp_X25_11 : kw_fp RX25 .int true [(23, 2)] := (kw_fp_d (C := RX25) (T := TX25) (N := 6) (ty0 := tyX25) rfl tyX25_ok (by unfold kw_ap; decide) rfl rfl (by decide) rfl kw_fp_nil)
theorem fp_X25_14 : kw_fp RX25 .int true [(23, 3)] := (kw_fp_d (C := RX25) (T := TX25) (N := 6) (ty0 := tyX25) rfl tyX25_ok (by unfold kw_ap; decide) rfl rfl (by decide) rfl kw_fp_nil)
theorem fp_X25_17 : kw_fp RX25 .int true [(23, 4)] := (kw_fp_d (C := RX25) (T := TX25) (N := 6) (ty0 := tyX25) rfl tyX25_ok (by unfold kw_ap; decide) rfl rfl (by decide) rfl kw_fp_nil)
theorem wm_X25_init {E : kw_E} (B : kw_ok E cX25_init RX25 "<init>" 6 none 2 45 []) (a0 : Option Nat) (a1 : Option Nat) (a2 : Int32) (a3 : Int32) (a4 : Int32) (a5 : Int32) : kw_W E kw_eV 0 [(0, kA a0), (1, kA a1), (2, kI a2), (3, kI a3), (4, kI a4), (5, kI a5)] [] (pm_X25_init a0 a1 a2 a3 a4 a5) := by
  unfold pm_X25_init
  refine kw_aload_n (pc := 0) B dX25_init_0 rfl 0 rfl ?_
  refine kw_aload_n (pc := 1) B dX25_init_1 rfl 1 rfl ?_
  refine kw_pR (pc := 2) B dX25_init_2 fl_X25_1 fp_X25_1 (fun _ => rfl) rfl ?_
  refine kw_aload_n (pc := 5) B dX25_init_5 rfl 0 rfl ?_
  refine kw_iload_n (pc := 6) B dX25_init_6 rfl 2 rfl ?_
  refine kw_pI (pc := 7) B dX25_init_7 fl_X25_7 fp_X25_7 (fun _ => rfl) ?_
  refine kw_aload_n (pc := 10) B dX25_init_10 rfl 0 rfl ?_
  refine kw_iload_n (pc := 11) B dX25_init_11 rfl 3 rfl ?_
  refine kw_pI (pc := 12) B dX25_init_12 fl_X25_11 fp_X25_11 (fun _ => rfl) ?_
  refine kw_aload_n (pc := 15) B dX25_init_15 rfl 0 rfl ?_
  refine kw_iload (pc := 16) B dX25_init_16 4 rfl ?_
  refine kw_pI (pc := 18) B dX25_init_18 fl_X25_14 fp_X25_14 (fun _ => rfl) ?_
  refine kw_aload_n (pc := 21) B dX25_init_21 rfl 0 rfl ?_
  refine kw_iload (pc := 22) B dX25_init_22 5 rfl ?_
  refine kw_pI (pc := 24) B dX25_init_24 fl_X25_17 fp_X25_17 (fun _ => rfl) ?_
  refine kw_aload_n (pc := 27) B dX25_init_27 rfl 0 rfl ?_
  refine kw_aload_n (pc := 28) B dX25_init_28 rfl 1 rfl ?_
  refine kw_callIN (pc := 29) B dX25_init_29 (ct_X4_init a0 a1) q1756 q348 q82 q349 rfl ⟨by decide, by decide, rfl⟩ (As := [kA a1]) rfl (st := []) rfl (Nat.le_of_ble_eq_true rfl) (by decide) (by decide) kw_qV (fun _ => ?_)
  exact kw_vret B dX25_init_32 rfl
theorem ct_X25_init (a0 : Option Nat) (a1 : Option Nat) (a2 : Int32) (a3 : Int32) (a4 : Int32) (a5 : Int32) (l : Launch) : kw_Met l yX25_init (ws_ yX25_init cX25_init 6 none) 2 45 [kA a0, kA a1, kI a2, kI a3, kI a4, kI a5] kw_eV (pm_X25_init a0 a1 a2 a3 a4 a5) := kw_met (plainFor_of_name rfl) (Nat.le_of_ble_eq_true rfl) (fun E B => wm_X25_init B a0 a1 a2 a3 a4 a5) l
