set_option maxRecDepth 100000
/-! RosaryCarvers stones (I)I -/

theorem wm_X0_stones {E : kw_E} (B : kw_ok E cX0_stones RX0 "stones" 2 (some .int) 18 375 []) (a0 : Option Nat) (a1 : Int32) : kw_W E kw_eI 0 [(0, kA a0), (1, kI a1)] [] (pm_X0_stones a0 a1) := by
  unfold pm_X0_stones
  refine kw_iload_n (pc := 0) B dX0_stones_0 rfl 1 rfl ?_
  refine kw_iconst (pc := 1) B dX0_stones_1 (v := (1 : Int32)) rfl ?_
  refine kw_sipush (pc := 2) B dX0_stones_2 (v := (200 : Int32)) rfl ?_
  refine kw_callS (pc := 5) B dX0_stones_5 (ct_X0_in a1 (1 : Int32) (200 : Int32)) q339 q340 q73 q341 ⟨by decide, by decide, rfl⟩ (As := [kI a1, kI (1 : Int32), kI (200 : Int32)]) rfl (st := []) rfl (Nat.le_of_ble_eq_true rfl) (by decide) (by decide) kw_qI (fun i1 => ?_)
  refine kw_if_ne (pc := 8) (tgt := 14) B dX0_stones_8 rfl ?_ ?_
  · refine kw_new (pc := 14) B dX0_stones_14 (ci := 4) (N := 3) rfl in_X5 tyX5_ok kz_D1_ok q342 q343 q83 (fun r2 => ?_)
    refine kw_dup (pc := 17) B dX0_stones_17 rfl ?_
    refine kw_aload_n (pc := 18) B dX0_stones_18 rfl 0 rfl ?_
    refine kw_iload_n (pc := 19) B dX0_stones_19 rfl 1 rfl ?_
    refine kw_callI (pc := 20) B dX0_stones_20 (ct_X5_init r2 a0 a1) q344 q345 q83 q346 rfl ⟨by decide, by decide, rfl⟩ (As := [kA a0, kI a1]) rfl (st := [kA r2]) rfl (Nat.le_of_ble_eq_true rfl) (by decide) (by decide) kw_qV (fun _ => ?_)
    refine kw_callUW (pc := 23) B dX0_stones_23 (x0 := ⟨"RosaryCarvers$1", "done", "()I"⟩) (owner := "RosaryCarvers$Deed") (ci := 4) rfl (ct_X4_done r2) q361 q362 q364 q365 q365 q82 q366 rfl ⟨by decide, by decide, rfl⟩ (As := []) rfl (st := []) rfl (Nat.le_of_ble_eq_true rfl) (by decide) (by decide) kw_qI (fun i3 => ?_)
    exact kw_iret B dX0_stones_26 rfl
  · refine kw_bipush (pc := 11) B dX0_stones_11 (v := (-2 : Int32)) rfl ?_
    exact kw_iret B dX0_stones_13 rfl
theorem ct_X0_stones (a0 : Option Nat) (a1 : Int32) (l : Launch) : kw_Met l yX0_stones (ws_ yX0_stones cX0_stones 2 (some .int)) 18 375 [kA a0, kI a1] kw_eI (pm_X0_stones a0 a1) := kw_met (plainFor_of_name rfl) (Nat.le_of_ble_eq_true rfl) (fun E B => wm_X0_stones B a0 a1) l

/-! RosaryCarversModel isIn (III)Z -/

theorem wm_X3_isIn {E : kw_E} (B : kw_ok E cX3_isIn RX3 "isIn" 3 (some .boolean) 1 0 []) (a0 : Int32) (a1 : Int32) (a2 : Int32) : kw_W E kw_eI 0 [(0, kI a0), (1, kI a1), (2, kI a2)] [] (pm_X3_isIn a0 a1 a2) := by
  unfold pm_X3_isIn
  refine kw_iload_n (pc := 0) B dX3_isIn_0 rfl 0 rfl ?_
  refine kw_iload_n (pc := 1) B dX3_isIn_1 rfl 1 rfl ?_
  refine kw_icmp_lt (pc := 2) (tgt := 14) B dX3_isIn_2 rfl ?_ ?_
  · refine kw_iconst (pc := 14) B dX3_isIn_14 (v := (0 : Int32)) rfl ?_
    exact kw_zret B dX3_isIn_15 (g := fun v => v) (fun _ => rfl)
  · refine kw_iload_n (pc := 5) B dX3_isIn_5 rfl 0 rfl ?_
    refine kw_iload_n (pc := 6) B dX3_isIn_6 rfl 2 rfl ?_
    refine kw_icmp_gt (pc := 7) (tgt := 14) B dX3_isIn_7 rfl ?_ ?_
    · refine kw_iconst (pc := 14) B dX3_isIn_14 (v := (0 : Int32)) rfl ?_
      exact kw_zret B dX3_isIn_15 (g := fun v => v) (fun _ => rfl)
    · refine kw_iconst (pc := 10) B dX3_isIn_10 (v := (1 : Int32)) rfl ?_
      refine kw_goto (pc := 11) (tgt := 15) B dX3_isIn_11 rfl ?_
      exact kw_zret B dX3_isIn_15 (g := fun v => v) (fun _ => rfl)
theorem ct_X3_isIn (a0 : Int32) (a1 : Int32) (a2 : Int32) (l : Launch) : kw_Met l yX3_isIn (ws_ yX3_isIn cX3_isIn 3 (some .boolean)) 1 0 [kI a0, kI a1, kI a2] kw_eI (pm_X3_isIn a0 a1 a2) := kw_met (plainFor_of_name rfl) (Nat.le_of_ble_eq_true rfl) (fun E B => wm_X3_isIn B a0 a1 a2) l

/-! RosaryCarversModel copies ([II[III)V -/

theorem wb_X3_copies_3 {E : kw_E} (B : kw_ok E cX3_copies RX3 "copies" 6 none 1 0 [])  : ∀ (n : Nat) (x0 : Option Nat) (x1 : Int32) (x2 : Option Nat) (x3 : Int32) (x4 : Int32) (x5 : Int32), kw_W E kw_eV 3 [(0, kA x0), (1, kI x1), (2, kA x2), (3, kI x3), (4, kI x4), (5, kI x5)] [] (pb_X3_copies_3  n x0 x1 x2 x3 x4 x5) := by
  intro n
  induction n with
  | zero =>
    intro x0 x1 x2 x3 x4 x5
    exact kw_fail_ok
  | succ n ih =>
    intro x0 x1 x2 x3 x4 x5
    show kw_W E kw_eV 3 [(0, kA x0), (1, kI x1), (2, kA x2), (3, kI x3), (4, kI x4), (5, kI x5)] [] (
if x4 ≤ x5 then
(km_pure ())
else
(km_bind (km_ldI 0 x0 (x1 + x5)) fun i1 =>
km_bind (km_stI 0 x2 (x3 + x5) i1) fun _ =>
pb_X3_copies_3 n x0 x1 x2 x3 x4 (x5 + (1 : Int32))))
    refine kw_iload (pc := 3) B dX3_copies_3 5 rfl ?_
    refine kw_iload (pc := 5) B dX3_copies_5 4 rfl ?_
    refine kw_icmp_ge (pc := 7) (tgt := 28) B dX3_copies_7 rfl ?_ ?_
    · exact kw_vret B dX3_copies_28 rfl
    · refine kw_aload_n (pc := 10) B dX3_copies_10 rfl 2 rfl ?_
      refine kw_iload_n (pc := 11) B dX3_copies_11 rfl 3 rfl ?_
      refine kw_iload (pc := 12) B dX3_copies_12 5 rfl ?_
      refine kw_iadd (pc := 14) B dX3_copies_14 ?_
      refine kw_aload_n (pc := 15) B dX3_copies_15 rfl 0 rfl ?_
      refine kw_iload_n (pc := 16) B dX3_copies_16 rfl 1 rfl ?_
      refine kw_iload (pc := 17) B dX3_copies_17 5 rfl ?_
      refine kw_iadd (pc := 19) B dX3_copies_19 ?_
      refine kw_iald (pc := 20) B dX3_copies_20 (fun i1 => ?_)
      refine kw_iast (pc := 21) B dX3_copies_21 ?_
      refine kw_iinc (pc := 22) B dX3_copies_22 5 rfl (w := x5 + (1 : Int32)) rfl (by decide) (L2 := [(5, kI (x5 + (1 : Int32))), (0, kA x0), (1, kI x1), (2, kA x2), (3, kI x3), (4, kI x4)]) rfl ?_
      refine kw_goto (pc := 25) (tgt := 3) B dX3_copies_25 rfl ?_
      exact kw_pick [1, 2, 3, 4, 5, 0] rfl (ih x0 x1 x2 x3 x4 (x5 + (1 : Int32)))
theorem wm_X3_copies {E : kw_E} (B : kw_ok E cX3_copies RX3 "copies" 6 none 1 0 []) (a0 : Option Nat) (a1 : Int32) (a2 : Option Nat) (a3 : Int32) (a4 : Int32) : kw_W E kw_eV 0 [(0, kA a0), (1, kI a1), (2, kA a2), (3, kI a3), (4, kI a4)] [] (pm_X3_copies a0 a1 a2 a3 a4) := by
  unfold pm_X3_copies
  refine kw_iconst (pc := 0) B dX3_copies_0 (v := (0 : Int32)) rfl ?_
  refine kw_istore (pc := 1) B dX3_copies_1 (by decide) (L2 := [(5, kI (0 : Int32)), (0, kA a0), (1, kI a1), (2, kA a2), (3, kI a3), (4, kI a4)]) rfl ?_
  exact kw_pick [1, 2, 3, 4, 5, 0] rfl (wb_X3_copies_3 B km_fuel a0 a1 a2 a3 a4 (0 : Int32))
theorem ct_X3_copies (a0 : Option Nat) (a1 : Int32) (a2 : Option Nat) (a3 : Int32) (a4 : Int32) (l : Launch) : kw_Met l yX3_copies (ws_ yX3_copies cX3_copies 6 none) 1 0 [kA a0, kI a1, kA a2, kI a3, kI a4] kw_eV (pm_X3_copies a0 a1 a2 a3 a4) := kw_met (plainFor_of_name rfl) (Nat.le_of_ble_eq_true rfl) (fun E B => wm_X3_copies B a0 a1 a2 a3 a4) l

/-! RosaryCarversModel keeps ()V -/

theorem wm_X3_keeps {E : kw_E} (B : kw_ok E cX3_keeps RX3 "keeps" 1 none 2 25 []) (a0 : Option Nat) : kw_W E kw_eV 0 [(0, kA a0)] [] (pm_X3_keeps a0) := by
  unfold pm_X3_keeps
  refine kw_aload_n (pc := 0) B dX3_keeps_0 rfl 0 rfl ?_
  refine kw_gR (pc := 1) B dX3_keeps_1 fl_X3_9 (fun r1 => ?_)
  refine kw_iconst (pc := 4) B dX3_keeps_4 (v := (0 : Int32)) rfl ?_
  refine kw_aload_n (pc := 5) B dX3_keeps_5 rfl 0 rfl ?_
  refine kw_gR (pc := 6) B dX3_keeps_6 fl_X3_13 (fun r2 => ?_)
  refine kw_iconst (pc := 9) B dX3_keeps_9 (v := (0 : Int32)) rfl ?_
  refine kw_sipush (pc := 10) B dX3_keeps_10 (v := (2188 : Int32)) rfl ?_
  refine kw_callS (pc := 13) B dX3_keeps_13 (ct_X3_copies r1 (0 : Int32) r2 (0 : Int32) (2188 : Int32)) q2422 q2423 q81 q2424 ⟨by decide, by decide, rfl⟩ (As := [kA r1, kI (0 : Int32), kA r2, kI (0 : Int32), kI (2188 : Int32)]) rfl (st := []) rfl (Nat.le_of_ble_eq_true rfl) (by decide) (by decide) kw_qV (fun _ => ?_)
  exact kw_vret B dX3_keeps_16 rfl
theorem ct_X3_keeps (a0 : Option Nat) (l : Launch) : kw_Met l yX3_keeps (ws_ yX3_keeps cX3_keeps 1 none) 2 25 [kA a0] kw_eV (pm_X3_keeps a0) := kw_met (plainFor_of_name rfl) (Nat.le_of_ble_eq_true rfl) (fun E B => wm_X3_keeps B a0) l

/-! RosaryCarversModel lesser (II)I -/

theorem wm_X3_lesser {E : kw_E} (B : kw_ok E cX3_lesser RX3 "lesser" 2 (some .int) 1 0 []) (a0 : Int32) (a1 : Int32) : kw_W E kw_eI 0 [(0, kI a0), (1, kI a1)] [] (pm_X3_lesser a0 a1) := by
  unfold pm_X3_lesser
  refine kw_iload_n (pc := 0) B dX3_lesser_0 rfl 0 rfl ?_
  refine kw_iload_n (pc := 1) B dX3_lesser_1 rfl 1 rfl ?_
  refine kw_icmp_ge (pc := 2) (tgt := 9) B dX3_lesser_2 rfl ?_ ?_
  · refine kw_iload_n (pc := 9) B dX3_lesser_9 rfl 1 rfl ?_
    exact kw_iret B dX3_lesser_10 rfl
  · refine kw_iload_n (pc := 5) B dX3_lesser_5 rfl 0 rfl ?_
    refine kw_goto (pc := 6) (tgt := 10) B dX3_lesser_6 rfl ?_
    exact kw_iret B dX3_lesser_10 rfl
theorem ct_X3_lesser (a0 : Int32) (a1 : Int32) (l : Launch) : kw_Met l yX3_lesser (ws_ yX3_lesser cX3_lesser 2 (some .int)) 1 0 [kI a0, kI a1] kw_eI (pm_X3_lesser a0 a1) := kw_met (plainFor_of_name rfl) (Nat.le_of_ble_eq_true rfl) (fun E B => wm_X3_lesser B a0 a1) l

/-! RosaryCarversModel isError (I)Z -/

theorem wm_X3_isError {E : kw_E} (B : kw_ok E cX3_isError RX3 "isError" 1 (some .boolean) 1 0 []) (a0 : Int32) : kw_W E kw_eI 0 [(0, kI a0)] [] (pm_X3_isError a0) := by
  unfold pm_X3_isError
  refine kw_iload_n (pc := 0) B dX3_isError_0 rfl 0 rfl ?_
  refine kw_if_ge (pc := 1) (tgt := 14) B dX3_isError_1 rfl ?_ ?_
  · refine kw_iconst (pc := 14) B dX3_isError_14 (v := (0 : Int32)) rfl ?_
    exact kw_zret B dX3_isError_15 (g := fun v => v) (fun _ => rfl)
  · refine kw_iload_n (pc := 4) B dX3_isError_4 rfl 0 rfl ?_
    refine kw_bipush (pc := 5) B dX3_isError_5 (v := (-6 : Int32)) rfl ?_
    refine kw_icmp_eq (pc := 7) (tgt := 14) B dX3_isError_7 rfl ?_ ?_
    · refine kw_iconst (pc := 14) B dX3_isError_14 (v := (0 : Int32)) rfl ?_
      exact kw_zret B dX3_isError_15 (g := fun v => v) (fun _ => rfl)
    · refine kw_iconst (pc := 10) B dX3_isError_10 (v := (1 : Int32)) rfl ?_
      refine kw_goto (pc := 11) (tgt := 15) B dX3_isError_11 rfl ?_
      exact kw_zret B dX3_isError_15 (g := fun v => v) (fun _ => rfl)
theorem ct_X3_isError (a0 : Int32) (l : Launch) : kw_Met l yX3_isError (ws_ yX3_isError cX3_isError 1 (some .boolean)) 1 0 [kI a0] kw_eI (pm_X3_isError a0) := kw_met (plainFor_of_name rfl) (Nat.le_of_ble_eq_true rfl) (fun E B => wm_X3_isError B a0) l

/-! RosaryCarversModel changed ()V -/
theorem fl_X3_67 : kw_fl RX3 67 "RosaryCarversModel" [(3, 4)] := (kw_fl_c (C := RX3) (T := TX3) (N := 18) rfl (by decide) in_X3 q2360 (Or.inl rfl) kw_fl_nil)
theorem fp_X3_67 : kw_fp RX3 .int false [(3, 4)] := (kw_fp_c (C := RX3) (T := TX3) (N := 18) (ty0 := tyX3) rfl tyX3_ok nmX3 rfl (fun h => by cases h) (by decide) rfl kw_fp_nil)
theorem wb_X3_changed_59 {E : kw_E} (B : kw_ok E cX3_changed RX3 "changed" 2 none 2 25 [])  (x0 : Option Nat) : kw_W E kw_eV 59 [(0, kA x0)] [] (pb_X3_changed_59  x0) := by
  unfold pb_X3_changed_59
  refine kw_aload_n (pc := 59) B dX3_changed_59 rfl 0 rfl ?_
  refine kw_gR (pc := 60) B dX3_changed_60 fl_X3_13 (fun r1 => ?_)
  refine kw_iconst (pc := 63) B dX3_changed_63 (v := (0 : Int32)) rfl ?_
  refine kw_aload_n (pc := 64) B dX3_changed_64 rfl 0 rfl ?_
  refine kw_gR (pc := 65) B dX3_changed_65 fl_X3_19 (fun r2 => ?_)
  refine kw_sipush (pc := 68) B dX3_changed_68 (v := (2188 : Int32)) rfl ?_
  refine kw_aload_n (pc := 71) B dX3_changed_71 rfl 0 rfl ?_
  refine kw_gI (pc := 72) B dX3_changed_72 fl_X3_67 (fun i3 => ?_)
  refine kw_imul (pc := 75) B dX3_changed_75 ?_
  refine kw_sipush (pc := 76) B dX3_changed_76 (v := (2188 : Int32)) rfl ?_
  refine kw_callS (pc := 79) B dX3_changed_79 (ct_X3_copies r1 (0 : Int32) r2 ((2188 : Int32) * i3) (2188 : Int32)) q2422 q2423 q81 q2424 ⟨by decide, by decide, rfl⟩ (As := [kA r1, kI (0 : Int32), kA r2, kI ((2188 : Int32) * i3), kI (2188 : Int32)]) rfl (st := []) rfl (Nat.le_of_ble_eq_true rfl) (by decide) (by decide) kw_qV (fun _ => ?_)
  refine kw_aload_n (pc := 82) B dX3_changed_82 rfl 0 rfl ?_
  refine kw_dup (pc := 83) B dX3_changed_83 rfl ?_
  refine kw_gI (pc := 84) B dX3_changed_84 fl_X3_67 (fun i4 => ?_)
  refine kw_iconst (pc := 87) B dX3_changed_87 (v := (1 : Int32)) rfl ?_
  refine kw_iadd (pc := 88) B dX3_changed_88 ?_
  refine kw_pI (pc := 89) B dX3_changed_89 fl_X3_67 fp_X3_67 (fun h => by cases h) ?_
  exact kw_vret B dX3_changed_92 rfl
theorem wb_X3_changed_11 {E : kw_E} (B : kw_ok E cX3_changed RX3 "changed" 2 none 2 25 [])  : ∀ (n : Nat) (x0 : Option Nat) (x1 : Int32), kw_W E kw_eV 11 [(0, kA x0), (1, kI x1)] [] (pb_X3_changed_11  n x0 x1) := by
  intro n
  induction n with
  | zero =>
    intro x0 x1
    exact kw_fail_ok
  | succ n ih =>
    intro x0 x1
    show kw_W E kw_eV 11 [(0, kA x0), (1, kI x1)] [] (
if (8 : Int32) ≤ x1 then
(km_bind (km_gI [(3, 4)] x0) fun i1 =>
km_bind (km_pI .int [(3, 4)] x0 (i1 - (1 : Int32))) fun _ =>
pb_X3_changed_59 x0)
else
(km_bind (km_gR [(3, 3)] x0) fun r3 =>
km_bind (km_gR [(3, 3)] x0) fun r4 =>
km_bind (pm_X3_copies r3 ((2188 : Int32) * x1) r4 ((2188 : Int32) * (x1 - (1 : Int32))) (2188 : Int32)) fun _ =>
pb_X3_changed_11 n x0 (x1 + (1 : Int32))))
    refine kw_iload_n (pc := 11) B dX3_changed_11 rfl 1 rfl ?_
    refine kw_bipush (pc := 12) B dX3_changed_12 (v := (8 : Int32)) rfl ?_
    refine kw_icmp_ge (pc := 14) (tgt := 49) B dX3_changed_14 rfl ?_ ?_
    · refine kw_aload_n (pc := 49) B dX3_changed_49 rfl 0 rfl ?_
      refine kw_dup (pc := 50) B dX3_changed_50 rfl ?_
      refine kw_gI (pc := 51) B dX3_changed_51 fl_X3_67 (fun i1 => ?_)
      refine kw_iconst (pc := 54) B dX3_changed_54 (v := (1 : Int32)) rfl ?_
      refine kw_isub (pc := 55) B dX3_changed_55 ?_
      refine kw_pI (pc := 56) B dX3_changed_56 fl_X3_67 fp_X3_67 (fun h => by cases h) ?_
      exact kw_pick [0] rfl (wb_X3_changed_59 B x0)
    · refine kw_aload_n (pc := 17) B dX3_changed_17 rfl 0 rfl ?_
      refine kw_gR (pc := 18) B dX3_changed_18 fl_X3_19 (fun r3 => ?_)
      refine kw_sipush (pc := 21) B dX3_changed_21 (v := (2188 : Int32)) rfl ?_
      refine kw_iload_n (pc := 24) B dX3_changed_24 rfl 1 rfl ?_
      refine kw_imul (pc := 25) B dX3_changed_25 ?_
      refine kw_aload_n (pc := 26) B dX3_changed_26 rfl 0 rfl ?_
      refine kw_gR (pc := 27) B dX3_changed_27 fl_X3_19 (fun r4 => ?_)
      refine kw_sipush (pc := 30) B dX3_changed_30 (v := (2188 : Int32)) rfl ?_
      refine kw_iload_n (pc := 33) B dX3_changed_33 rfl 1 rfl ?_
      refine kw_iconst (pc := 34) B dX3_changed_34 (v := (1 : Int32)) rfl ?_
      refine kw_isub (pc := 35) B dX3_changed_35 ?_
      refine kw_imul (pc := 36) B dX3_changed_36 ?_
      refine kw_sipush (pc := 37) B dX3_changed_37 (v := (2188 : Int32)) rfl ?_
      refine kw_callS (pc := 40) B dX3_changed_40 (ct_X3_copies r3 ((2188 : Int32) * x1) r4 ((2188 : Int32) * (x1 - (1 : Int32))) (2188 : Int32)) q2422 q2423 q81 q2424 ⟨by decide, by decide, rfl⟩ (As := [kA r3, kI ((2188 : Int32) * x1), kA r4, kI ((2188 : Int32) * (x1 - (1 : Int32))), kI (2188 : Int32)]) rfl (st := []) rfl (Nat.le_of_ble_eq_true rfl) (by decide) (by decide) kw_qV (fun _ => ?_)
      refine kw_iinc (pc := 43) B dX3_changed_43 1 rfl (w := x1 + (1 : Int32)) rfl (by decide) (L2 := [(1, kI (x1 + (1 : Int32))), (0, kA x0)]) rfl ?_
      refine kw_goto (pc := 46) (tgt := 11) B dX3_changed_46 rfl ?_
      exact kw_pick [1, 0] rfl (ih x0 (x1 + (1 : Int32)))
theorem wm_X3_changed {E : kw_E} (B : kw_ok E cX3_changed RX3 "changed" 2 none 2 25 []) (a0 : Option Nat) : kw_W E kw_eV 0 [(0, kA a0)] [] (pm_X3_changed a0) := by
  unfold pm_X3_changed
  refine kw_aload_n (pc := 0) B dX3_changed_0 rfl 0 rfl ?_
  refine kw_gI (pc := 1) B dX3_changed_1 fl_X3_67 (fun i1 => ?_)
  refine kw_bipush (pc := 4) B dX3_changed_4 (v := (8 : Int32)) rfl ?_
  refine kw_icmp_ne (pc := 6) (tgt := 59) B dX3_changed_6 rfl ?_ ?_
  · exact kw_pick [0] rfl (wb_X3_changed_59 B a0)
  · refine kw_iconst (pc := 9) B dX3_changed_9 (v := (1 : Int32)) rfl ?_
    refine kw_istore_n (pc := 10) B dX3_changed_10 rfl (by decide) (L2 := [(1, kI (1 : Int32)), (0, kA a0)]) rfl ?_
    exact kw_pick [1, 0] rfl (wb_X3_changed_11 B km_fuel a0 (1 : Int32))
theorem ct_X3_changed (a0 : Option Nat) (l : Launch) : kw_Met l yX3_changed (ws_ yX3_changed cX3_changed 2 none) 2 25 [kA a0] kw_eV (pm_X3_changed a0) := kw_met (plainFor_of_name rfl) (Nat.le_of_ble_eq_true rfl) (fun E B => wm_X3_changed B a0) l

/-! RosaryCarversModel ends (I)I -/

theorem wm_X3_ends {E : kw_E} (B : kw_ok E cX3_ends RX3 "ends" 2 (some .int) 3 46 []) (a0 : Option Nat) (a1 : Int32) : kw_W E kw_eI 0 [(0, kA a0), (1, kI a1)] [] (pm_X3_ends a0 a1) := by
  unfold pm_X3_ends
  refine kw_iload_n (pc := 0) B dX3_ends_0 rfl 1 rfl ?_
  refine kw_callS (pc := 1) B dX3_ends_1 (ct_X3_isError a1) q2432 q2433 q81 q2434 ⟨by decide, by decide, rfl⟩ (As := [kI a1]) rfl (st := []) rfl (Nat.le_of_ble_eq_true rfl) (by decide) (by decide) kw_qI (fun i1 => ?_)
  refine kw_if_ne (pc := 4) (tgt := 11) B dX3_ends_4 rfl ?_ ?_
  · refine kw_iload_n (pc := 11) B dX3_ends_11 rfl 1 rfl ?_
    exact kw_iret B dX3_ends_12 rfl
  · refine kw_aload_n (pc := 7) B dX3_ends_7 rfl 0 rfl ?_
    refine kw_callV (pc := 8) B dX3_ends_8 (ci := 3) rfl (ct_X3_changed a0) q2435 q2437 qs27 q81 q2438 ⟨by decide, by decide, rfl⟩ (As := []) rfl (st := []) rfl (Nat.le_of_ble_eq_true rfl) (by decide) (by decide) kw_qV (fun _ => ?_)
    refine kw_iload_n (pc := 11) B dX3_ends_11 rfl 1 rfl ?_
    exact kw_iret B dX3_ends_12 rfl
theorem ct_X3_ends (a0 : Option Nat) (a1 : Int32) (l : Launch) : kw_Met l yX3_ends (ws_ yX3_ends cX3_ends 2 (some .int)) 3 46 [kA a0, kI a1] kw_eI (pm_X3_ends a0 a1) := kw_met (plainFor_of_name rfl) (Nat.le_of_ble_eq_true rfl) (fun E B => wm_X3_ends B a0 a1) l

/-! RosaryCarversModel stones (I)I -/

theorem wm_X3_stones {E : kw_E} (B : kw_ok E cX3_stones RX3 "stones" 2 (some .int) 4 67 []) (a0 : Option Nat) (a1 : Int32) : kw_W E kw_eI 0 [(0, kA a0), (1, kI a1)] [] (pm_X3_stones a0 a1) := by
  unfold pm_X3_stones
  refine kw_iload_n (pc := 0) B dX3_stones_0 rfl 1 rfl ?_
  refine kw_iconst (pc := 1) B dX3_stones_1 (v := (1 : Int32)) rfl ?_
  refine kw_sipush (pc := 2) B dX3_stones_2 (v := (200 : Int32)) rfl ?_
  refine kw_callS (pc := 5) B dX3_stones_5 (ct_X3_isIn a1 (1 : Int32) (200 : Int32)) q2415 q2416 q81 q2417 ⟨by decide, by decide, rfl⟩ (As := [kI a1, kI (1 : Int32), kI (200 : Int32)]) rfl (st := []) rfl (Nat.le_of_ble_eq_true rfl) (by decide) (by decide) kw_qI (fun i1 => ?_)
  refine kw_if_ne (pc := 8) (tgt := 14) B dX3_stones_8 rfl ?_ ?_
  · refine kw_aload_n (pc := 14) B dX3_stones_14 rfl 0 rfl ?_
    refine kw_callV (pc := 15) B dX3_stones_15 (ci := 3) rfl (ct_X3_keeps a0) q2418 q2420 qs25 q81 q2421 ⟨by decide, by decide, rfl⟩ (As := []) rfl (st := []) rfl (Nat.le_of_ble_eq_true rfl) (by decide) (by decide) kw_qV (fun _ => ?_)
    refine kw_aload_n (pc := 18) B dX3_stones_18 rfl 0 rfl ?_
    refine kw_gR (pc := 19) B dX3_stones_19 fl_X3_9 (fun r2 => ?_)
    refine kw_iconst (pc := 22) B dX3_stones_22 (v := (1 : Int32)) rfl ?_
    refine kw_sipush (pc := 23) B dX3_stones_23 (v := (999 : Int32)) rfl ?_
    refine kw_aload_n (pc := 26) B dX3_stones_26 rfl 0 rfl ?_
    refine kw_gR (pc := 27) B dX3_stones_27 fl_X3_9 (fun r3 => ?_)
    refine kw_iconst (pc := 30) B dX3_stones_30 (v := (1 : Int32)) rfl ?_
    refine kw_iald (pc := 31) B dX3_stones_31 (fun i4 => ?_)
    refine kw_iload_n (pc := 32) B dX3_stones_32 rfl 1 rfl ?_
    refine kw_iadd (pc := 33) B dX3_stones_33 ?_
    refine kw_callS (pc := 34) B dX3_stones_34 (ct_X3_lesser (999 : Int32) (i4 + a1)) q2425 q2426 q81 q2427 ⟨by decide, by decide, rfl⟩ (As := [kI (999 : Int32), kI (i4 + a1)]) rfl (st := [kI (1 : Int32), kA r2]) rfl (Nat.le_of_ble_eq_true rfl) (by decide) (by decide) kw_qI (fun i5 => ?_)
    refine kw_iast (pc := 37) B dX3_stones_37 ?_
    refine kw_aload_n (pc := 38) B dX3_stones_38 rfl 0 rfl ?_
    refine kw_aload_n (pc := 39) B dX3_stones_39 rfl 0 rfl ?_
    refine kw_gR (pc := 40) B dX3_stones_40 fl_X3_9 (fun r7 => ?_)
    refine kw_iconst (pc := 43) B dX3_stones_43 (v := (1 : Int32)) rfl ?_
    refine kw_iald (pc := 44) B dX3_stones_44 (fun i8 => ?_)
    refine kw_callV (pc := 45) B dX3_stones_45 (ci := 3) rfl (ct_X3_ends a0 i8) q2428 q2430 qs26 q81 q2431 ⟨by decide, by decide, rfl⟩ (As := [kI i8]) rfl (st := []) rfl (Nat.le_of_ble_eq_true rfl) (by decide) (by decide) kw_qI (fun i9 => ?_)
    exact kw_iret B dX3_stones_48 rfl
  · refine kw_bipush (pc := 11) B dX3_stones_11 (v := (-2 : Int32)) rfl ?_
    exact kw_iret B dX3_stones_13 rfl
theorem ct_X3_stones (a0 : Option Nat) (a1 : Int32) (l : Launch) : kw_Met l yX3_stones (ws_ yX3_stones cX3_stones 2 (some .int)) 4 67 [kA a0, kI a1] kw_eI (pm_X3_stones a0 a1) := kw_met (plainFor_of_name rfl) (Nat.le_of_ble_eq_true rfl) (fun E B => wm_X3_stones B a0 a1) l

/-! RosaryCarvers$2 <init> (LRosaryCarvers;I)V -/
theorem fl_X17_1 : kw_fl RX17 1 "RosaryCarvers$2" [(15, 2)] := (kw_fl_c (C := RX17) (T := TX17) (N := 3) rfl (by decide) in_X17 q1574 (Or.inl rfl) kw_fl_nil)
theorem fp_X17_1 : kw_fp RX17 (.object "RosaryCarvers") true [(15, 2)] := (kw_fp_d (C := RX17) (T := TX17) (N := 3) (ty0 := tyX17) rfl tyX17_ok (by unfold kw_ap; decide) rfl rfl (by decide) rfl kw_fp_nil)
theorem fp_X17_7 : kw_fp RX17 .int true [(15, 1)] := (kw_fp_d (C := RX17) (T := TX17) (N := 3) (ty0 := tyX17) rfl tyX17_ok (by unfold kw_ap; decide) rfl rfl (by decide) rfl kw_fp_nil)
theorem wm_X17_init {E : kw_E} (B : kw_ok E cX17_init RX17 "<init>" 3 none 2 45 []) (a0 : Option Nat) (a1 : Option Nat) (a2 : Int32) : kw_W E kw_eV 0 [(0, kA a0), (1, kA a1), (2, kI a2)] [] (pm_X17_init a0 a1 a2) := by
  unfold pm_X17_init
  refine kw_aload_n (pc := 0) B dX17_init_0 rfl 0 rfl ?_
  refine kw_aload_n (pc := 1) B dX17_init_1 rfl 1 rfl ?_
  refine kw_pR (pc := 2) B dX17_init_2 fl_X17_1 fp_X17_1 (fun _ => rfl) rfl ?_
  refine kw_aload_n (pc := 5) B dX17_init_5 rfl 0 rfl ?_
  refine kw_iload_n (pc := 6) B dX17_init_6 rfl 2 rfl ?_
  refine kw_pI (pc := 7) B dX17_init_7 fl_X17_7 fp_X17_7 (fun _ => rfl) ?_
  refine kw_aload_n (pc := 10) B dX17_init_10 rfl 0 rfl ?_
  refine kw_aload_n (pc := 11) B dX17_init_11 rfl 1 rfl ?_
  refine kw_callIN (pc := 12) B dX17_init_12 (ct_X4_init a0 a1) q1572 q348 q82 q349 rfl ⟨by decide, by decide, rfl⟩ (As := [kA a1]) rfl (st := []) rfl (Nat.le_of_ble_eq_true rfl) (by decide) (by decide) kw_qV (fun _ => ?_)
  exact kw_vret B dX17_init_15 rfl
theorem ct_X17_init (a0 : Option Nat) (a1 : Option Nat) (a2 : Int32) (l : Launch) : kw_Met l yX17_init (ws_ yX17_init cX17_init 3 none) 2 45 [kA a0, kA a1, kI a2] kw_eV (pm_X17_init a0 a1 a2) := kw_met (plainFor_of_name rfl) (Nat.le_of_ble_eq_true rfl) (fun E B => wm_X17_init B a0 a1 a2) l

/-! RosaryCarvers carver (I)I -/

theorem wm_X0_carver {E : kw_E} (B : kw_ok E cX0_carver RX0 "carver" 2 (some .int) 18 375 []) (a0 : Option Nat) (a1 : Int32) : kw_W E kw_eI 0 [(0, kA a0), (1, kI a1)] [] (pm_X0_carver a0 a1) := by
  unfold pm_X0_carver
  refine kw_iload_n (pc := 0) B dX0_carver_0 rfl 1 rfl ?_
  refine kw_iconst (pc := 1) B dX0_carver_1 (v := (1 : Int32)) rfl ?_
  refine kw_bipush (pc := 2) B dX0_carver_2 (v := (9 : Int32)) rfl ?_
  refine kw_callS (pc := 4) B dX0_carver_4 (ct_X0_in a1 (1 : Int32) (9 : Int32)) q339 q340 q73 q341 ⟨by decide, by decide, rfl⟩ (As := [kI a1, kI (1 : Int32), kI (9 : Int32)]) rfl (st := []) rfl (Nat.le_of_ble_eq_true rfl) (by decide) (by decide) kw_qI (fun i1 => ?_)
  refine kw_if_ne (pc := 7) (tgt := 13) B dX0_carver_7 rfl ?_ ?_
  · refine kw_new (pc := 13) B dX0_carver_13 (ci := 15) (N := 3) rfl in_X17 tyX17_ok kz_D2_ok q1567 q1568 q112 (fun r2 => ?_)
    refine kw_dup (pc := 16) B dX0_carver_16 rfl ?_
    refine kw_aload_n (pc := 17) B dX0_carver_17 rfl 0 rfl ?_
    refine kw_iload_n (pc := 18) B dX0_carver_18 rfl 1 rfl ?_
    refine kw_callI (pc := 19) B dX0_carver_19 (ct_X17_init r2 a0 a1) q1569 q1570 q112 q1571 rfl ⟨by decide, by decide, rfl⟩ (As := [kA a0, kI a1]) rfl (st := [kA r2]) rfl (Nat.le_of_ble_eq_true rfl) (by decide) (by decide) kw_qV (fun _ => ?_)
    refine kw_callUW (pc := 22) B dX0_carver_22 (x0 := ⟨"RosaryCarvers$2", "done", "()I"⟩) (owner := "RosaryCarvers$Deed") (ci := 15) rfl (ct_X4_done r2) q1581 q1582 q1583 q365 q365 q82 q366 rfl ⟨by decide, by decide, rfl⟩ (As := []) rfl (st := []) rfl (Nat.le_of_ble_eq_true rfl) (by decide) (by decide) kw_qI (fun i3 => ?_)
    exact kw_iret B dX0_carver_25 rfl
  · refine kw_bipush (pc := 10) B dX0_carver_10 (v := (-2 : Int32)) rfl ?_
    exact kw_iret B dX0_carver_12 rfl
theorem ct_X0_carver (a0 : Option Nat) (a1 : Int32) (l : Launch) : kw_Met l yX0_carver (ws_ yX0_carver cX0_carver 2 (some .int)) 18 375 [kA a0, kI a1] kw_eI (pm_X0_carver a0 a1) := kw_met (plainFor_of_name rfl) (Nat.le_of_ble_eq_true rfl) (fun E B => wm_X0_carver B a0 a1) l

/-! RosaryCarversModel refuses (II)I -/

theorem wm_X3_refuses {E : kw_E} (B : kw_ok E cX3_refuses RX3 "refuses" 3 (some .int) 1 0 []) (a0 : Option Nat) (a1 : Int32) (a2 : Int32) : kw_W E kw_eI 0 [(0, kA a0), (1, kI a1), (2, kI a2)] [] (pm_X3_refuses a0 a1 a2) := by
  unfold pm_X3_refuses
  refine kw_aload_n (pc := 0) B dX3_refuses_0 rfl 0 rfl ?_
  refine kw_gR (pc := 1) B dX3_refuses_1 fl_X3_22 (fun r1 => ?_)
  refine kw_iconst (pc := 4) B dX3_refuses_4 (v := (0 : Int32)) rfl ?_
  refine kw_iload_n (pc := 5) B dX3_refuses_5 rfl 1 rfl ?_
  refine kw_iast (pc := 6) B dX3_refuses_6 ?_
  refine kw_aload_n (pc := 7) B dX3_refuses_7 rfl 0 rfl ?_
  refine kw_gR (pc := 8) B dX3_refuses_8 fl_X3_25 (fun r3 => ?_)
  refine kw_iconst (pc := 11) B dX3_refuses_11 (v := (0 : Int32)) rfl ?_
  refine kw_iload_n (pc := 12) B dX3_refuses_12 rfl 2 rfl ?_
  refine kw_iast (pc := 13) B dX3_refuses_13 ?_
  refine kw_aload_n (pc := 14) B dX3_refuses_14 rfl 0 rfl ?_
  refine kw_gR (pc := 15) B dX3_refuses_15 fl_X3_22 (fun r5 => ?_)
  refine kw_iconst (pc := 18) B dX3_refuses_18 (v := (1 : Int32)) rfl ?_
  refine kw_iconst (pc := 19) B dX3_refuses_19 (v := (0 : Int32)) rfl ?_
  refine kw_iast (pc := 20) B dX3_refuses_20 ?_
  refine kw_aload_n (pc := 21) B dX3_refuses_21 rfl 0 rfl ?_
  refine kw_gR (pc := 22) B dX3_refuses_22 fl_X3_22 (fun r7 => ?_)
  refine kw_iconst (pc := 25) B dX3_refuses_25 (v := (2 : Int32)) rfl ?_
  refine kw_iconst (pc := 26) B dX3_refuses_26 (v := (0 : Int32)) rfl ?_
  refine kw_iast (pc := 27) B dX3_refuses_27 ?_
  refine kw_bipush (pc := 28) B dX3_refuses_28 (v := (-5 : Int32)) rfl ?_
  exact kw_iret B dX3_refuses_30 rfl
theorem ct_X3_refuses (a0 : Option Nat) (a1 : Int32) (a2 : Int32) (l : Launch) : kw_Met l yX3_refuses (ws_ yX3_refuses cX3_refuses 3 (some .int)) 1 0 [kA a0, kI a1, kI a2] kw_eI (pm_X3_refuses a0 a1 a2) := kw_met (plainFor_of_name rfl) (Nat.le_of_ble_eq_true rfl) (fun E B => wm_X3_refuses B a0 a1 a2) l

/-! RosaryCarversModel adds (IIII)I -/

theorem wb_X3_adds_28 {E : kw_E} (B : kw_ok E cX3_adds RX3 "adds" 7 (some .int) 2 22 [])  : ∀ (n : Nat) (x0 : Option Nat) (x1 : Int32) (x3 : Int32) (x4 : Int32) (x5 : Int32) (x6 : Int32), kw_W E kw_eI 28 [(0, kA x0), (1, kI x1), (3, kI x3), (4, kI x4), (5, kI x5), (6, kI x6)] [] (pb_X3_adds_28  n x0 x1 x3 x4 x5 x6) := by
  intro n
  induction n with
  | zero =>
    intro x0 x1 x3 x4 x5 x6
    exact kw_fail_ok
  | succ n ih =>
    intro x0 x1 x3 x4 x5 x6
    show kw_W E kw_eI 28 [(0, kA x0), (1, kI x1), (3, kI x3), (4, kI x4), (5, kI x5), (6, kI x6)] [] (
if x4 ≤ x6 then
(km_bind (km_gR [(3, 0)] x0) fun r1 =>
km_bind (km_ldI 0 r1 x1) fun i2 =>
km_bind (km_stI 0 r1 x1 (i2 + (1 : Int32))) fun _ =>
km_pure x5)
else
(km_bind (km_gR [(3, 0)] x0) fun r4 =>
km_bind (km_stI 0 r4 ((x3 + (x4 * x5)) + x6) (0 : Int32)) fun _ =>
pb_X3_adds_28 n x0 x1 x3 x4 x5 (x6 + (1 : Int32))))
    refine kw_iload (pc := 28) B dX3_adds_28 5 rfl ?_
    refine kw_iload (pc := 30) B dX3_adds_30 3 rfl ?_
    refine kw_icmp_ge (pc := 32) (tgt := 57) B dX3_adds_32 rfl ?_ ?_
    · refine kw_aload_n (pc := 57) B dX3_adds_57 rfl 0 rfl ?_
      refine kw_gR (pc := 58) B dX3_adds_58 fl_X3_9 (fun r1 => ?_)
      refine kw_iload_n (pc := 61) B dX3_adds_61 rfl 1 rfl ?_
      refine kw_dup2 (pc := 62) B dX3_adds_62 rfl rfl ?_
      refine kw_iald (pc := 63) B dX3_adds_63 (fun i2 => ?_)
      refine kw_iconst (pc := 64) B dX3_adds_64 (v := (1 : Int32)) rfl ?_
      refine kw_iadd (pc := 65) B dX3_adds_65 ?_
      refine kw_iast (pc := 66) B dX3_adds_66 ?_
      refine kw_iload (pc := 67) B dX3_adds_67 4 rfl ?_
      exact kw_iret B dX3_adds_69 rfl
    · refine kw_aload_n (pc := 35) B dX3_adds_35 rfl 0 rfl ?_
      refine kw_gR (pc := 36) B dX3_adds_36 fl_X3_9 (fun r4 => ?_)
      refine kw_iload_n (pc := 39) B dX3_adds_39 rfl 2 rfl ?_
      refine kw_iload (pc := 40) B dX3_adds_40 3 rfl ?_
      refine kw_iload (pc := 42) B dX3_adds_42 4 rfl ?_
      refine kw_imul (pc := 44) B dX3_adds_44 ?_
      refine kw_iadd (pc := 45) B dX3_adds_45 ?_
      refine kw_iload (pc := 46) B dX3_adds_46 5 rfl ?_
      refine kw_iadd (pc := 48) B dX3_adds_48 ?_
      refine kw_iconst (pc := 49) B dX3_adds_49 (v := (0 : Int32)) rfl ?_
      refine kw_iast (pc := 50) B dX3_adds_50 ?_
      refine kw_iinc (pc := 51) B dX3_adds_51 5 rfl (w := x6 + (1 : Int32)) rfl (by decide) (L2 := [(6, kI (x6 + (1 : Int32))), (0, kA x0), (1, kI x1), (3, kI x3), (4, kI x4), (5, kI x5)]) rfl ?_
      refine kw_goto (pc := 54) (tgt := 28) B dX3_adds_54 rfl ?_
      exact kw_pick [1, 2, 3, 4, 5, 0] rfl (ih x0 x1 x3 x4 x5 (x6 + (1 : Int32)))
theorem wm_X3_adds {E : kw_E} (B : kw_ok E cX3_adds RX3 "adds" 7 (some .int) 2 22 []) (a0 : Option Nat) (a1 : Int32) (a2 : Int32) (a3 : Int32) (a4 : Int32) : kw_W E kw_eI 0 [(0, kA a0), (1, kI a1), (2, kI a2), (3, kI a3), (4, kI a4)] [] (pm_X3_adds a0 a1 a2 a3 a4) := by
  unfold pm_X3_adds
  refine kw_aload_n (pc := 0) B dX3_adds_0 rfl 0 rfl ?_
  refine kw_gR (pc := 1) B dX3_adds_1 fl_X3_9 (fun r1 => ?_)
  refine kw_iload_n (pc := 4) B dX3_adds_4 rfl 1 rfl ?_
  refine kw_iald (pc := 5) B dX3_adds_5 (fun i2 => ?_)
  refine kw_iload_n (pc := 6) B dX3_adds_6 rfl 2 rfl ?_
  refine kw_icmp_ne (pc := 7) (tgt := 17) B dX3_adds_7 rfl ?_ ?_
  · refine kw_aload_n (pc := 17) B dX3_adds_17 rfl 0 rfl ?_
    refine kw_gR (pc := 18) B dX3_adds_18 fl_X3_9 (fun r3 => ?_)
    refine kw_iload_n (pc := 21) B dX3_adds_21 rfl 1 rfl ?_
    refine kw_iald (pc := 22) B dX3_adds_22 (fun i4 => ?_)
    refine kw_istore (pc := 23) B dX3_adds_23 (by decide) (L2 := [(5, kI i4), (0, kA a0), (1, kI a1), (2, kI a2), (3, kI a3), (4, kI a4)]) rfl ?_
    refine kw_iconst (pc := 25) B dX3_adds_25 (v := (0 : Int32)) rfl ?_
    refine kw_istore (pc := 26) B dX3_adds_26 (by decide) (L2 := [(6, kI (0 : Int32)), (5, kI i4), (0, kA a0), (1, kI a1), (2, kI a2), (3, kI a3), (4, kI a4)]) rfl ?_
    exact kw_pick [2, 3, 5, 6, 1, 0] rfl (wb_X3_adds_28 B km_fuel a0 a1 a3 a4 i4 (0 : Int32))
  · refine kw_aload_n (pc := 10) B dX3_adds_10 rfl 0 rfl ?_
    refine kw_iconst (pc := 11) B dX3_adds_11 (v := (1 : Int32)) rfl ?_
    refine kw_iload_n (pc := 12) B dX3_adds_12 rfl 2 rfl ?_
    refine kw_callV (pc := 13) B dX3_adds_13 (ci := 3) rfl (ct_X3_refuses a0 (1 : Int32) a2) q2447 q2449 qs29 q81 q2450 ⟨by decide, by decide, rfl⟩ (As := [kI (1 : Int32), kI a2]) rfl (st := []) rfl (Nat.le_of_ble_eq_true rfl) (by decide) (by decide) kw_qI (fun i5 => ?_)
    exact kw_iret B dX3_adds_16 rfl
theorem ct_X3_adds (a0 : Option Nat) (a1 : Int32) (a2 : Int32) (a3 : Int32) (a4 : Int32) (l : Launch) : kw_Met l yX3_adds (ws_ yX3_adds cX3_adds 7 (some .int)) 2 22 [kA a0, kI a1, kI a2, kI a3, kI a4] kw_eI (pm_X3_adds a0 a1 a2 a3 a4) := kw_met (plainFor_of_name rfl) (Nat.le_of_ble_eq_true rfl) (fun E B => wm_X3_adds B a0 a1 a2 a3 a4) l

/-! RosaryCarversModel carverAt (II)I -/

theorem wm_X3_carverAt {E : kw_E} (B : kw_ok E cX3_carverAt RX3 "carverAt" 2 (some .int) 1 0 []) (a0 : Int32) (a1 : Int32) : kw_W E kw_eI 0 [(0, kI a0), (1, kI a1)] [] (pm_X3_carverAt a0 a1) := by
  unfold pm_X3_carverAt
  refine kw_bipush (pc := 0) B dX3_carverAt_0 (v := (16 : Int32)) rfl ?_
  refine kw_iconst (pc := 2) B dX3_carverAt_2 (v := (5 : Int32)) rfl ?_
  refine kw_iload_n (pc := 3) B dX3_carverAt_3 rfl 0 rfl ?_
  refine kw_imul (pc := 4) B dX3_carverAt_4 ?_
  refine kw_iadd (pc := 5) B dX3_carverAt_5 ?_
  refine kw_iload_n (pc := 6) B dX3_carverAt_6 rfl 1 rfl ?_
  refine kw_iadd (pc := 7) B dX3_carverAt_7 ?_
  exact kw_iret B dX3_carverAt_8 rfl
theorem ct_X3_carverAt (a0 : Int32) (a1 : Int32) (l : Launch) : kw_Met l yX3_carverAt (ws_ yX3_carverAt cX3_carverAt 2 (some .int)) 1 0 [kI a0, kI a1] kw_eI (pm_X3_carverAt a0 a1) := kw_met (plainFor_of_name rfl) (Nat.le_of_ble_eq_true rfl) (fun E B => wm_X3_carverAt B a0 a1) l

/-! RosaryCarversModel carver (I)I -/

theorem wb_X3_carver_55 {E : kw_E} (B : kw_ok E cX3_carver RX3 "carver" 3 (some .int) 4 67 [])  (x0 : Option Nat) (x2 : Int32) : kw_W E kw_eI 55 [(0, kA x0), (2, kI x2)] [] (pb_X3_carver_55  x0 x2) := by
  unfold pb_X3_carver_55
  refine kw_aload_n (pc := 55) B dX3_carver_55 rfl 0 rfl ?_
  refine kw_iload_n (pc := 56) B dX3_carver_56 rfl 1 rfl ?_
  refine kw_callV (pc := 57) B dX3_carver_57 (ci := 3) rfl (ct_X3_ends x0 x2) q2428 q2430 qs26 q81 q2431 ⟨by decide, by decide, rfl⟩ (As := [kI x2]) rfl (st := []) rfl (Nat.le_of_ble_eq_true rfl) (by decide) (by decide) kw_qI (fun i1 => ?_)
  exact kw_iret B dX3_carver_60 rfl
theorem wm_X3_carver {E : kw_E} (B : kw_ok E cX3_carver RX3 "carver" 3 (some .int) 4 67 []) (a0 : Option Nat) (a1 : Int32) : kw_W E kw_eI 0 [(0, kA a0), (1, kI a1)] [] (pm_X3_carver a0 a1) := by
  unfold pm_X3_carver
  refine kw_iload_n (pc := 0) B dX3_carver_0 rfl 1 rfl ?_
  refine kw_iconst (pc := 1) B dX3_carver_1 (v := (1 : Int32)) rfl ?_
  refine kw_bipush (pc := 2) B dX3_carver_2 (v := (9 : Int32)) rfl ?_
  refine kw_callS (pc := 4) B dX3_carver_4 (ct_X3_isIn a1 (1 : Int32) (9 : Int32)) q2415 q2416 q81 q2417 ⟨by decide, by decide, rfl⟩ (As := [kI a1, kI (1 : Int32), kI (9 : Int32)]) rfl (st := []) rfl (Nat.le_of_ble_eq_true rfl) (by decide) (by decide) kw_qI (fun i1 => ?_)
  refine kw_if_ne (pc := 7) (tgt := 13) B dX3_carver_7 rfl ?_ ?_
  · refine kw_aload_n (pc := 13) B dX3_carver_13 rfl 0 rfl ?_
    refine kw_callV (pc := 14) B dX3_carver_14 (ci := 3) rfl (ct_X3_keeps a0) q2418 q2420 qs25 q81 q2421 ⟨by decide, by decide, rfl⟩ (As := []) rfl (st := []) rfl (Nat.le_of_ble_eq_true rfl) (by decide) (by decide) kw_qV (fun _ => ?_)
    refine kw_aload_n (pc := 17) B dX3_carver_17 rfl 0 rfl ?_
    refine kw_bipush (pc := 18) B dX3_carver_18 (v := (9 : Int32)) rfl ?_
    refine kw_iconst (pc := 20) B dX3_carver_20 (v := (4 : Int32)) rfl ?_
    refine kw_bipush (pc := 21) B dX3_carver_21 (v := (16 : Int32)) rfl ?_
    refine kw_iconst (pc := 23) B dX3_carver_23 (v := (5 : Int32)) rfl ?_
    refine kw_callV (pc := 24) B dX3_carver_24 (ci := 3) rfl (ct_X3_adds a0 (9 : Int32) (4 : Int32) (16 : Int32) (5 : Int32)) q2443 q2445 qs28 q81 q2446 ⟨by decide, by decide, rfl⟩ (As := [kI (9 : Int32), kI (4 : Int32), kI (16 : Int32), kI (5 : Int32)]) rfl (st := []) rfl (Nat.le_of_ble_eq_true rfl) (by decide) (by decide) kw_qI (fun i2 => ?_)
    refine kw_istore_n (pc := 27) B dX3_carver_27 rfl (by decide) (L2 := [(2, kI i2), (0, kA a0), (1, kI a1)]) rfl ?_
    refine kw_iload_n (pc := 28) B dX3_carver_28 rfl 0 rfl ?_
    refine kw_if_lt (pc := 29) (tgt := 55) B dX3_carver_29 rfl ?_ ?_
    · exact kw_pick [1, 0] rfl (wb_X3_carver_55 B a0 i2)
    · refine kw_aload_n (pc := 32) B dX3_carver_32 rfl 1 rfl ?_
      refine kw_gR (pc := 33) B dX3_carver_33 fl_X3_9 (fun r3 => ?_)
      refine kw_iload_n (pc := 36) B dX3_carver_36 rfl 0 rfl ?_
      refine kw_iconst (pc := 37) B dX3_carver_37 (v := (0 : Int32)) rfl ?_
      refine kw_callS (pc := 38) B dX3_carver_38 (ct_X3_carverAt i2 (0 : Int32)) q2451 q2452 q81 q2453 ⟨by decide, by decide, rfl⟩ (As := [kI i2, kI (0 : Int32)]) rfl (st := [kA r3]) rfl (Nat.le_of_ble_eq_true rfl) (by decide) (by decide) kw_qI (fun i4 => ?_)
      refine kw_iload_n (pc := 41) B dX3_carver_41 rfl 2 rfl ?_
      refine kw_iast (pc := 42) B dX3_carver_42 ?_
      refine kw_aload_n (pc := 43) B dX3_carver_43 rfl 1 rfl ?_
      refine kw_gR (pc := 44) B dX3_carver_44 fl_X3_9 (fun r6 => ?_)
      refine kw_iload_n (pc := 47) B dX3_carver_47 rfl 0 rfl ?_
      refine kw_iconst (pc := 48) B dX3_carver_48 (v := (2 : Int32)) rfl ?_
      refine kw_callS (pc := 49) B dX3_carver_49 (ct_X3_carverAt i2 (2 : Int32)) q2451 q2452 q81 q2453 ⟨by decide, by decide, rfl⟩ (As := [kI i2, kI (2 : Int32)]) rfl (st := [kA r6]) rfl (Nat.le_of_ble_eq_true rfl) (by decide) (by decide) kw_qI (fun i7 => ?_)
      refine kw_bipush (pc := 52) B dX3_carver_52 (v := (-6 : Int32)) rfl ?_
      refine kw_iast (pc := 54) B dX3_carver_54 ?_
      exact kw_pick [1, 0] rfl (wb_X3_carver_55 B a0 i2)
  · refine kw_bipush (pc := 10) B dX3_carver_10 (v := (-2 : Int32)) rfl ?_
    exact kw_iret B dX3_carver_12 rfl
theorem ct_X3_carver (a0 : Option Nat) (a1 : Int32) (l : Launch) : kw_Met l yX3_carver (ws_ yX3_carver cX3_carver 3 (some .int)) 4 67 [kA a0, kI a1] kw_eI (pm_X3_carver a0 a1) := kw_met (plainFor_of_name rfl) (Nat.le_of_ble_eq_true rfl) (fun E B => wm_X3_carver B a0 a1) l

/-! RosaryCarvers$3 <init> (LRosaryCarvers;I)V -/
theorem fl_X18_1 : kw_fl RX18 1 "RosaryCarvers$3" [(16, 2)] := (kw_fl_c (C := RX18) (T := TX18) (N := 3) rfl (by decide) in_X18 q1595 (Or.inl rfl) kw_fl_nil)
theorem fp_X18_1 : kw_fp RX18 (.object "RosaryCarvers") true [(16, 2)] := (kw_fp_d (C := RX18) (T := TX18) (N := 3) (ty0 := tyX18) rfl tyX18_ok (by unfold kw_ap; decide) rfl rfl (by decide) rfl kw_fp_nil)
theorem fp_X18_7 : kw_fp RX18 .int true [(16, 1)] := (kw_fp_d (C := RX18) (T := TX18) (N := 3) (ty0 := tyX18) rfl tyX18_ok (by unfold kw_ap; decide) rfl rfl (by decide) rfl kw_fp_nil)
theorem wm_X18_init {E : kw_E} (B : kw_ok E cX18_init RX18 "<init>" 3 none 2 45 []) (a0 : Option Nat) (a1 : Option Nat) (a2 : Int32) : kw_W E kw_eV 0 [(0, kA a0), (1, kA a1), (2, kI a2)] [] (pm_X18_init a0 a1 a2) := by
  unfold pm_X18_init
  refine kw_aload_n (pc := 0) B dX18_init_0 rfl 0 rfl ?_
  refine kw_aload_n (pc := 1) B dX18_init_1 rfl 1 rfl ?_
  refine kw_pR (pc := 2) B dX18_init_2 fl_X18_1 fp_X18_1 (fun _ => rfl) rfl ?_
  refine kw_aload_n (pc := 5) B dX18_init_5 rfl 0 rfl ?_
  refine kw_iload_n (pc := 6) B dX18_init_6 rfl 2 rfl ?_
  refine kw_pI (pc := 7) B dX18_init_7 fl_X18_7 fp_X18_7 (fun _ => rfl) ?_
  refine kw_aload_n (pc := 10) B dX18_init_10 rfl 0 rfl ?_
  refine kw_aload_n (pc := 11) B dX18_init_11 rfl 1 rfl ?_
  refine kw_callIN (pc := 12) B dX18_init_12 (ct_X4_init a0 a1) q1593 q348 q82 q349 rfl ⟨by decide, by decide, rfl⟩ (As := [kA a1]) rfl (st := []) rfl (Nat.le_of_ble_eq_true rfl) (by decide) (by decide) kw_qV (fun _ => ?_)
  exact kw_vret B dX18_init_15 rfl
theorem ct_X18_init (a0 : Option Nat) (a1 : Option Nat) (a2 : Int32) (l : Launch) : kw_Met l yX18_init (ws_ yX18_init cX18_init 3 none) 2 45 [kA a0, kA a1, kI a2] kw_eV (pm_X18_init a0 a1 a2) := kw_met (plainFor_of_name rfl) (Nat.le_of_ble_eq_true rfl) (fun E B => wm_X18_init B a0 a1 a2) l

/-! RosaryCarvers lens (I)I -/

theorem wm_X0_lens {E : kw_E} (B : kw_ok E cX0_lens RX0 "lens" 2 (some .int) 18 375 []) (a0 : Option Nat) (a1 : Int32) : kw_W E kw_eI 0 [(0, kA a0), (1, kI a1)] [] (pm_X0_lens a0 a1) := by
  unfold pm_X0_lens
  refine kw_iload_n (pc := 0) B dX0_lens_0 rfl 1 rfl ?_
  refine kw_iconst (pc := 1) B dX0_lens_1 (v := (1 : Int32)) rfl ?_
  refine kw_bipush (pc := 2) B dX0_lens_2 (v := (9 : Int32)) rfl ?_
  refine kw_callS (pc := 4) B dX0_lens_4 (ct_X0_in a1 (1 : Int32) (9 : Int32)) q339 q340 q73 q341 ⟨by decide, by decide, rfl⟩ (As := [kI a1, kI (1 : Int32), kI (9 : Int32)]) rfl (st := []) rfl (Nat.le_of_ble_eq_true rfl) (by decide) (by decide) kw_qI (fun i1 => ?_)
  refine kw_if_ne (pc := 7) (tgt := 13) B dX0_lens_7 rfl ?_ ?_
  · refine kw_new (pc := 13) B dX0_lens_13 (ci := 16) (N := 3) rfl in_X18 tyX18_ok kz_D3_ok q1588 q1589 q113 (fun r2 => ?_)
    refine kw_dup (pc := 16) B dX0_lens_16 rfl ?_
    refine kw_aload_n (pc := 17) B dX0_lens_17 rfl 0 rfl ?_
    refine kw_iload_n (pc := 18) B dX0_lens_18 rfl 1 rfl ?_
    refine kw_callI (pc := 19) B dX0_lens_19 (ct_X18_init r2 a0 a1) q1590 q1591 q113 q1592 rfl ⟨by decide, by decide, rfl⟩ (As := [kA a0, kI a1]) rfl (st := [kA r2]) rfl (Nat.le_of_ble_eq_true rfl) (by decide) (by decide) kw_qV (fun _ => ?_)
    refine kw_callUW (pc := 22) B dX0_lens_22 (x0 := ⟨"RosaryCarvers$3", "done", "()I"⟩) (owner := "RosaryCarvers$Deed") (ci := 16) rfl (ct_X4_done r2) q1602 q1603 q1604 q365 q365 q82 q366 rfl ⟨by decide, by decide, rfl⟩ (As := []) rfl (st := []) rfl (Nat.le_of_ble_eq_true rfl) (by decide) (by decide) kw_qI (fun i3 => ?_)
    exact kw_iret B dX0_lens_25 rfl
  · refine kw_bipush (pc := 10) B dX0_lens_10 (v := (-2 : Int32)) rfl ?_
    exact kw_iret B dX0_lens_12 rfl
theorem ct_X0_lens (a0 : Option Nat) (a1 : Int32) (l : Launch) : kw_Met l yX0_lens (ws_ yX0_lens cX0_lens 2 (some .int)) 18 375 [kA a0, kI a1] kw_eI (pm_X0_lens a0 a1) := kw_met (plainFor_of_name rfl) (Nat.le_of_ble_eq_true rfl) (fun E B => wm_X0_lens B a0 a1) l

/-! RosaryCarversModel lensAt (II)I -/

theorem wm_X3_lensAt {E : kw_E} (B : kw_ok E cX3_lensAt RX3 "lensAt" 2 (some .int) 1 0 []) (a0 : Int32) (a1 : Int32) : kw_W E kw_eI 0 [(0, kI a0), (1, kI a1)] [] (pm_X3_lensAt a0 a1) := by
  unfold pm_X3_lensAt
  refine kw_bipush (pc := 0) B dX3_lensAt_0 (v := (36 : Int32)) rfl ?_
  refine kw_iconst (pc := 2) B dX3_lensAt_2 (v := (2 : Int32)) rfl ?_
  refine kw_iload_n (pc := 3) B dX3_lensAt_3 rfl 0 rfl ?_
  refine kw_imul (pc := 4) B dX3_lensAt_4 ?_
  refine kw_iadd (pc := 5) B dX3_lensAt_5 ?_
  refine kw_iload_n (pc := 6) B dX3_lensAt_6 rfl 1 rfl ?_
  refine kw_iadd (pc := 7) B dX3_lensAt_7 ?_
  exact kw_iret B dX3_lensAt_8 rfl
theorem ct_X3_lensAt (a0 : Int32) (a1 : Int32) (l : Launch) : kw_Met l yX3_lensAt (ws_ yX3_lensAt cX3_lensAt 2 (some .int)) 1 0 [kI a0, kI a1] kw_eI (pm_X3_lensAt a0 a1) := kw_met (plainFor_of_name rfl) (Nat.le_of_ble_eq_true rfl) (fun E B => wm_X3_lensAt B a0 a1) l

/-! RosaryCarversModel lens (I)I -/

theorem wb_X3_lens_55 {E : kw_E} (B : kw_ok E cX3_lens RX3 "lens" 3 (some .int) 4 67 [])  (x0 : Option Nat) (x2 : Int32) : kw_W E kw_eI 55 [(0, kA x0), (2, kI x2)] [] (pb_X3_lens_55  x0 x2) := by
  unfold pb_X3_lens_55
  refine kw_aload_n (pc := 55) B dX3_lens_55 rfl 0 rfl ?_
  refine kw_iload_n (pc := 56) B dX3_lens_56 rfl 1 rfl ?_
  refine kw_callV (pc := 57) B dX3_lens_57 (ci := 3) rfl (ct_X3_ends x0 x2) q2428 q2430 qs26 q81 q2431 ⟨by decide, by decide, rfl⟩ (As := [kI x2]) rfl (st := []) rfl (Nat.le_of_ble_eq_true rfl) (by decide) (by decide) kw_qI (fun i1 => ?_)
  exact kw_iret B dX3_lens_60 rfl
theorem wm_X3_lens {E : kw_E} (B : kw_ok E cX3_lens RX3 "lens" 3 (some .int) 4 67 []) (a0 : Option Nat) (a1 : Int32) : kw_W E kw_eI 0 [(0, kA a0), (1, kI a1)] [] (pm_X3_lens a0 a1) := by
  unfold pm_X3_lens
  refine kw_iload_n (pc := 0) B dX3_lens_0 rfl 1 rfl ?_
  refine kw_iconst (pc := 1) B dX3_lens_1 (v := (1 : Int32)) rfl ?_
  refine kw_bipush (pc := 2) B dX3_lens_2 (v := (9 : Int32)) rfl ?_
  refine kw_callS (pc := 4) B dX3_lens_4 (ct_X3_isIn a1 (1 : Int32) (9 : Int32)) q2415 q2416 q81 q2417 ⟨by decide, by decide, rfl⟩ (As := [kI a1, kI (1 : Int32), kI (9 : Int32)]) rfl (st := []) rfl (Nat.le_of_ble_eq_true rfl) (by decide) (by decide) kw_qI (fun i1 => ?_)
  refine kw_if_ne (pc := 7) (tgt := 13) B dX3_lens_7 rfl ?_ ?_
  · refine kw_aload_n (pc := 13) B dX3_lens_13 rfl 0 rfl ?_
    refine kw_callV (pc := 14) B dX3_lens_14 (ci := 3) rfl (ct_X3_keeps a0) q2418 q2420 qs25 q81 q2421 ⟨by decide, by decide, rfl⟩ (As := []) rfl (st := []) rfl (Nat.le_of_ble_eq_true rfl) (by decide) (by decide) kw_qV (fun _ => ?_)
    refine kw_aload_n (pc := 17) B dX3_lens_17 rfl 0 rfl ?_
    refine kw_bipush (pc := 18) B dX3_lens_18 (v := (10 : Int32)) rfl ?_
    refine kw_iconst (pc := 20) B dX3_lens_20 (v := (4 : Int32)) rfl ?_
    refine kw_bipush (pc := 21) B dX3_lens_21 (v := (36 : Int32)) rfl ?_
    refine kw_iconst (pc := 23) B dX3_lens_23 (v := (2 : Int32)) rfl ?_
    refine kw_callV (pc := 24) B dX3_lens_24 (ci := 3) rfl (ct_X3_adds a0 (10 : Int32) (4 : Int32) (36 : Int32) (2 : Int32)) q2443 q2445 qs28 q81 q2446 ⟨by decide, by decide, rfl⟩ (As := [kI (10 : Int32), kI (4 : Int32), kI (36 : Int32), kI (2 : Int32)]) rfl (st := []) rfl (Nat.le_of_ble_eq_true rfl) (by decide) (by decide) kw_qI (fun i2 => ?_)
    refine kw_istore_n (pc := 27) B dX3_lens_27 rfl (by decide) (L2 := [(2, kI i2), (0, kA a0), (1, kI a1)]) rfl ?_
    refine kw_iload_n (pc := 28) B dX3_lens_28 rfl 0 rfl ?_
    refine kw_if_lt (pc := 29) (tgt := 55) B dX3_lens_29 rfl ?_ ?_
    · exact kw_pick [1, 0] rfl (wb_X3_lens_55 B a0 i2)
    · refine kw_aload_n (pc := 32) B dX3_lens_32 rfl 1 rfl ?_
      refine kw_gR (pc := 33) B dX3_lens_33 fl_X3_9 (fun r3 => ?_)
      refine kw_iload_n (pc := 36) B dX3_lens_36 rfl 0 rfl ?_
      refine kw_iconst (pc := 37) B dX3_lens_37 (v := (0 : Int32)) rfl ?_
      refine kw_callS (pc := 38) B dX3_lens_38 (ct_X3_lensAt i2 (0 : Int32)) q2458 q2459 q81 q2460 ⟨by decide, by decide, rfl⟩ (As := [kI i2, kI (0 : Int32)]) rfl (st := [kA r3]) rfl (Nat.le_of_ble_eq_true rfl) (by decide) (by decide) kw_qI (fun i4 => ?_)
      refine kw_iload_n (pc := 41) B dX3_lens_41 rfl 2 rfl ?_
      refine kw_iast (pc := 42) B dX3_lens_42 ?_
      refine kw_aload_n (pc := 43) B dX3_lens_43 rfl 1 rfl ?_
      refine kw_gR (pc := 44) B dX3_lens_44 fl_X3_9 (fun r6 => ?_)
      refine kw_iload_n (pc := 47) B dX3_lens_47 rfl 0 rfl ?_
      refine kw_iconst (pc := 48) B dX3_lens_48 (v := (1 : Int32)) rfl ?_
      refine kw_callS (pc := 49) B dX3_lens_49 (ct_X3_lensAt i2 (1 : Int32)) q2458 q2459 q81 q2460 ⟨by decide, by decide, rfl⟩ (As := [kI i2, kI (1 : Int32)]) rfl (st := [kA r6]) rfl (Nat.le_of_ble_eq_true rfl) (by decide) (by decide) kw_qI (fun i7 => ?_)
      refine kw_bipush (pc := 52) B dX3_lens_52 (v := (-6 : Int32)) rfl ?_
      refine kw_iast (pc := 54) B dX3_lens_54 ?_
      exact kw_pick [1, 0] rfl (wb_X3_lens_55 B a0 i2)
  · refine kw_bipush (pc := 10) B dX3_lens_10 (v := (-2 : Int32)) rfl ?_
    exact kw_iret B dX3_lens_12 rfl
theorem ct_X3_lens (a0 : Option Nat) (a1 : Int32) (l : Launch) : kw_Met l yX3_lens (ws_ yX3_lens cX3_lens 3 (some .int)) 4 67 [kA a0, kI a1] kw_eI (pm_X3_lens a0 a1) := kw_met (plainFor_of_name rfl) (Nat.le_of_ble_eq_true rfl) (fun E B => wm_X3_lens B a0 a1) l

/-! RosaryCarvers$Shop isLens (I)Z -/

theorem wm_X1_isLens {E : kw_E} (B : kw_ok E cX1_isLens RX1 "isLens" 2 (some .boolean) 2 22 []) (a0 : Option Nat) (a1 : Int32) : kw_W E kw_eI 0 [(0, kA a0), (1, kI a1)] [] (pm_X1_isLens a0 a1) := by
  unfold pm_X1_isLens
  refine kw_iload_n (pc := 0) B dX1_isLens_0 rfl 1 rfl ?_
  refine kw_iconst (pc := 1) B dX1_isLens_1 (v := (0 : Int32)) rfl ?_
  refine kw_aload_n (pc := 2) B dX1_isLens_2 rfl 0 rfl ?_
  refine kw_gR (pc := 3) B dX1_isLens_3 fl_X1_18 (fun r1 => ?_)
  refine kw_callV (pc := 6) B dX1_isLens_6 (ci := 30) rfl (ct_J2_size r1) q792 q406 q407 q77 q408 ⟨by decide, by decide, rfl⟩ (As := []) rfl (st := [kI (0 : Int32), kI a1]) rfl (Nat.le_of_ble_eq_true rfl) (by decide) (by decide) kw_qI (fun i2 => ?_)
  refine kw_iconst (pc := 9) B dX1_isLens_9 (v := (1 : Int32)) rfl ?_
  refine kw_isub (pc := 10) B dX1_isLens_10 ?_
  refine kw_callSN (pc := 11) B dX1_isLens_11 (ct_X0_in a1 (0 : Int32) (i2 - (1 : Int32))) q1364 q340 q73 q341 ⟨by decide, by decide, rfl⟩ (As := [kI a1, kI (0 : Int32), kI (i2 - (1 : Int32))]) rfl (st := []) rfl (Nat.le_of_ble_eq_true rfl) (by decide) (by decide) kw_qI (fun i3 => ?_)
  exact kw_zret B dX1_isLens_14 (g := fun v => v) (fun _ => rfl)
theorem ct_X1_isLens (a0 : Option Nat) (a1 : Int32) (l : Launch) : kw_Met l yX1_isLens (ws_ yX1_isLens cX1_isLens 2 (some .boolean)) 2 22 [kA a0, kI a1] kw_eI (pm_X1_isLens a0 a1) := kw_met (plainFor_of_name rfl) (Nat.le_of_ble_eq_true rfl) (fun E B => wm_X1_isLens B a0 a1) l

/-! RosaryCarvers$4 <init> (LRosaryCarvers;II)V -/
theorem fl_X19_1 : kw_fl RX19 1 "RosaryCarvers$4" [(17, 3)] := (kw_fl_c (C := RX19) (T := TX19) (N := 4) rfl (by decide) in_X19 q1621 (Or.inl rfl) kw_fl_nil)
theorem fp_X19_1 : kw_fp RX19 (.object "RosaryCarvers") true [(17, 3)] := (kw_fp_d (C := RX19) (T := TX19) (N := 4) (ty0 := tyX19) rfl tyX19_ok (by unfold kw_ap; decide) rfl rfl (by decide) rfl kw_fp_nil)
theorem fp_X19_7 : kw_fp RX19 .int true [(17, 1)] := (kw_fp_d (C := RX19) (T := TX19) (N := 4) (ty0 := tyX19) rfl tyX19_ok (by unfold kw_ap; decide) rfl rfl (by decide) rfl kw_fp_nil)
theorem fp_X19_11 : kw_fp RX19 .int true [(17, 2)] := (kw_fp_d (C := RX19) (T := TX19) (N := 4) (ty0 := tyX19) rfl tyX19_ok (by unfold kw_ap; decide) rfl rfl (by decide) rfl kw_fp_nil)
theorem wm_X19_init {E : kw_E} (B : kw_ok E cX19_init RX19 "<init>" 4 none 2 45 []) (a0 : Option Nat) (a1 : Option Nat) (a2 : Int32) (a3 : Int32) : kw_W E kw_eV 0 [(0, kA a0), (1, kA a1), (2, kI a2), (3, kI a3)] [] (pm_X19_init a0 a1 a2 a3) := by
  unfold pm_X19_init
  refine kw_aload_n (pc := 0) B dX19_init_0 rfl 0 rfl ?_
  refine kw_aload_n (pc := 1) B dX19_init_1 rfl 1 rfl ?_
  refine kw_pR (pc := 2) B dX19_init_2 fl_X19_1 fp_X19_1 (fun _ => rfl) rfl ?_
  refine kw_aload_n (pc := 5) B dX19_init_5 rfl 0 rfl ?_
  refine kw_iload_n (pc := 6) B dX19_init_6 rfl 2 rfl ?_
  refine kw_pI (pc := 7) B dX19_init_7 fl_X19_7 fp_X19_7 (fun _ => rfl) ?_
  refine kw_aload_n (pc := 10) B dX19_init_10 rfl 0 rfl ?_
  refine kw_iload_n (pc := 11) B dX19_init_11 rfl 3 rfl ?_
  refine kw_pI (pc := 12) B dX19_init_12 fl_X19_11 fp_X19_11 (fun _ => rfl) ?_
  refine kw_aload_n (pc := 15) B dX19_init_15 rfl 0 rfl ?_
  refine kw_aload_n (pc := 16) B dX19_init_16 rfl 1 rfl ?_
  refine kw_callIN (pc := 17) B dX19_init_17 (ct_X4_init a0 a1) q1618 q348 q82 q349 rfl ⟨by decide, by decide, rfl⟩ (As := [kA a1]) rfl (st := []) rfl (Nat.le_of_ble_eq_true rfl) (by decide) (by decide) kw_qV (fun _ => ?_)
  exact kw_vret B dX19_init_20 rfl
theorem ct_X19_init (a0 : Option Nat) (a1 : Option Nat) (a2 : Int32) (a3 : Int32) (l : Launch) : kw_Met l yX19_init (ws_ yX19_init cX19_init 4 none) 2 45 [kA a0, kA a1, kI a2, kI a3] kw_eV (pm_X19_init a0 a1 a2 a3) := kw_met (plainFor_of_name rfl) (Nat.le_of_ble_eq_true rfl) (fun E B => wm_X19_init B a0 a1 a2 a3) l

/-! RosaryCarvers give (II)I -/

theorem wb_X0_give_29 {E : kw_E} (B : kw_ok E cX0_give RX0 "give" 3 (some .int) 18 375 [])  (x0 : Option Nat) (x1 : Int32) (x2 : Int32) : kw_W E kw_eI 29 [(0, kA x0), (1, kI x1), (2, kI x2)] [] (pb_X0_give_29  x0 x1 x2) := by
  unfold pb_X0_give_29
  refine kw_new (pc := 29) B dX0_give_29 (ci := 17) (N := 4) rfl in_X19 tyX19_ok kz_D4_ok q1613 q1614 q114 (fun r1 => ?_)
  refine kw_dup (pc := 32) B dX0_give_32 rfl ?_
  refine kw_aload_n (pc := 33) B dX0_give_33 rfl 0 rfl ?_
  refine kw_iload_n (pc := 34) B dX0_give_34 rfl 1 rfl ?_
  refine kw_iload_n (pc := 35) B dX0_give_35 rfl 2 rfl ?_
  refine kw_callI (pc := 36) B dX0_give_36 (ct_X19_init r1 x0 x1 x2) q1615 q1616 q114 q1617 rfl ⟨by decide, by decide, rfl⟩ (As := [kA x0, kI x1, kI x2]) rfl (st := [kA r1]) rfl (Nat.le_of_ble_eq_true rfl) (by decide) (by decide) kw_qV (fun _ => ?_)
  refine kw_callUW (pc := 39) B dX0_give_39 (x0 := ⟨"RosaryCarvers$4", "done", "()I"⟩) (owner := "RosaryCarvers$Deed") (ci := 17) rfl (ct_X4_done r1) q1630 q1631 q1632 q365 q365 q82 q366 rfl ⟨by decide, by decide, rfl⟩ (As := []) rfl (st := []) rfl (Nat.le_of_ble_eq_true rfl) (by decide) (by decide) kw_qI (fun i2 => ?_)
  exact kw_iret B dX0_give_42 rfl
theorem wm_X0_give {E : kw_E} (B : kw_ok E cX0_give RX0 "give" 3 (some .int) 18 375 []) (a0 : Option Nat) (a1 : Int32) (a2 : Int32) : kw_W E kw_eI 0 [(0, kA a0), (1, kI a1), (2, kI a2)] [] (pm_X0_give a0 a1 a2) := by
  unfold pm_X0_give
  refine kw_aload_n (pc := 0) B dX0_give_0 rfl 0 rfl ?_
  refine kw_gR (pc := 1) B dX0_give_1 fl_X0_17 (fun r1 => ?_)
  refine kw_iload_n (pc := 4) B dX0_give_4 rfl 1 rfl ?_
  refine kw_callV (pc := 5) B dX0_give_5 (ci := 1) rfl (ct_X1_isLens r1 a1) q1609 q1610 q1611 q74 q1612 ⟨by decide, by decide, rfl⟩ (As := [kI a1]) rfl (st := []) rfl (Nat.le_of_ble_eq_true rfl) (by decide) (by decide) kw_qI (fun i2 => ?_)
  refine kw_if_eq (pc := 8) (tgt := 27) B dX0_give_8 rfl ?_ ?_
  · refine kw_iconst (pc := 27) B dX0_give_27 (v := (-1 : Int32)) rfl ?_
    exact kw_iret B dX0_give_28 rfl
  · refine kw_iload_n (pc := 11) B dX0_give_11 rfl 2 rfl ?_
    refine kw_iconst (pc := 12) B dX0_give_12 (v := (-1 : Int32)) rfl ?_
    refine kw_icmp_eq (pc := 13) (tgt := 29) B dX0_give_13 rfl ?_ ?_
    · exact kw_pick [0, 1, 2] rfl (wb_X0_give_29 B a0 a1 a2)
    · refine kw_aload_n (pc := 16) B dX0_give_16 rfl 0 rfl ?_
      refine kw_gR (pc := 17) B dX0_give_17 fl_X0_17 (fun r3 => ?_)
      refine kw_iload_n (pc := 20) B dX0_give_20 rfl 2 rfl ?_
      refine kw_callV (pc := 21) B dX0_give_21 (ci := 1) rfl (ct_X1_isCarver r3 a2) q1360 q1361 q1362 q74 q1363 ⟨by decide, by decide, rfl⟩ (As := [kI a2]) rfl (st := []) rfl (Nat.le_of_ble_eq_true rfl) (by decide) (by decide) kw_qI (fun i4 => ?_)
      refine kw_if_ne (pc := 24) (tgt := 29) B dX0_give_24 rfl ?_ ?_
      · exact kw_pick [0, 1, 2] rfl (wb_X0_give_29 B a0 a1 a2)
      · refine kw_iconst (pc := 27) B dX0_give_27 (v := (-1 : Int32)) rfl ?_
        exact kw_iret B dX0_give_28 rfl
theorem ct_X0_give (a0 : Option Nat) (a1 : Int32) (a2 : Int32) (l : Launch) : kw_Met l yX0_give (ws_ yX0_give cX0_give 3 (some .int)) 18 375 [kA a0, kI a1, kI a2] kw_eI (pm_X0_give a0 a1 a2) := kw_met (plainFor_of_name rfl) (Nat.le_of_ble_eq_true rfl) (fun E B => wm_X0_give B a0 a1 a2) l

/-! RosaryCarversModel isLens (I)Z -/

theorem wm_X3_isLens {E : kw_E} (B : kw_ok E cX3_isLens RX3 "isLens" 2 (some .boolean) 2 22 []) (a0 : Option Nat) (a1 : Int32) : kw_W E kw_eI 0 [(0, kA a0), (1, kI a1)] [] (pm_X3_isLens a0 a1) := by
  unfold pm_X3_isLens
  refine kw_iload_n (pc := 0) B dX3_isLens_0 rfl 1 rfl ?_
  refine kw_iconst (pc := 1) B dX3_isLens_1 (v := (0 : Int32)) rfl ?_
  refine kw_aload_n (pc := 2) B dX3_isLens_2 rfl 0 rfl ?_
  refine kw_gR (pc := 3) B dX3_isLens_3 fl_X3_9 (fun r1 => ?_)
  refine kw_bipush (pc := 6) B dX3_isLens_6 (v := (10 : Int32)) rfl ?_
  refine kw_iald (pc := 8) B dX3_isLens_8 (fun i2 => ?_)
  refine kw_iconst (pc := 9) B dX3_isLens_9 (v := (1 : Int32)) rfl ?_
  refine kw_isub (pc := 10) B dX3_isLens_10 ?_
  refine kw_callS (pc := 11) B dX3_isLens_11 (ct_X3_isIn a1 (0 : Int32) (i2 - (1 : Int32))) q2415 q2416 q81 q2417 ⟨by decide, by decide, rfl⟩ (As := [kI a1, kI (0 : Int32), kI (i2 - (1 : Int32))]) rfl (st := []) rfl (Nat.le_of_ble_eq_true rfl) (by decide) (by decide) kw_qI (fun i3 => ?_)
  exact kw_zret B dX3_isLens_14 (g := fun v => v) (fun _ => rfl)
theorem ct_X3_isLens (a0 : Option Nat) (a1 : Int32) (l : Launch) : kw_Met l yX3_isLens (ws_ yX3_isLens cX3_isLens 2 (some .boolean)) 2 22 [kA a0, kI a1] kw_eI (pm_X3_isLens a0 a1) := kw_met (plainFor_of_name rfl) (Nat.le_of_ble_eq_true rfl) (fun E B => wm_X3_isLens B a0 a1) l

/-! RosaryCarversModel isCarver (I)Z -/

theorem wm_X3_isCarver {E : kw_E} (B : kw_ok E cX3_isCarver RX3 "isCarver" 2 (some .boolean) 2 22 []) (a0 : Option Nat) (a1 : Int32) : kw_W E kw_eI 0 [(0, kA a0), (1, kI a1)] [] (pm_X3_isCarver a0 a1) := by
  unfold pm_X3_isCarver
  refine kw_iload_n (pc := 0) B dX3_isCarver_0 rfl 1 rfl ?_
  refine kw_iconst (pc := 1) B dX3_isCarver_1 (v := (0 : Int32)) rfl ?_
  refine kw_aload_n (pc := 2) B dX3_isCarver_2 rfl 0 rfl ?_
  refine kw_gR (pc := 3) B dX3_isCarver_3 fl_X3_9 (fun r1 => ?_)
  refine kw_bipush (pc := 6) B dX3_isCarver_6 (v := (9 : Int32)) rfl ?_
  refine kw_iald (pc := 8) B dX3_isCarver_8 (fun i2 => ?_)
  refine kw_iconst (pc := 9) B dX3_isCarver_9 (v := (1 : Int32)) rfl ?_
  refine kw_isub (pc := 10) B dX3_isCarver_10 ?_
  refine kw_callS (pc := 11) B dX3_isCarver_11 (ct_X3_isIn a1 (0 : Int32) (i2 - (1 : Int32))) q2415 q2416 q81 q2417 ⟨by decide, by decide, rfl⟩ (As := [kI a1, kI (0 : Int32), kI (i2 - (1 : Int32))]) rfl (st := []) rfl (Nat.le_of_ble_eq_true rfl) (by decide) (by decide) kw_qI (fun i3 => ?_)
  exact kw_zret B dX3_isCarver_14 (g := fun v => v) (fun _ => rfl)
theorem ct_X3_isCarver (a0 : Option Nat) (a1 : Int32) (l : Launch) : kw_Met l yX3_isCarver (ws_ yX3_isCarver cX3_isCarver 2 (some .boolean)) 2 22 [kA a0, kI a1] kw_eI (pm_X3_isCarver a0 a1) := kw_met (plainFor_of_name rfl) (Nat.le_of_ble_eq_true rfl) (fun E B => wm_X3_isCarver B a0 a1) l

/-! RosaryCarversModel give (II)I -/

theorem wb_X3_give_122 {E : kw_E} (B : kw_ok E cX3_give RX3 "give" 5 (some .int) 4 67 [])  (x0 : Option Nat) (x3 : Int32) : kw_W E kw_eI 122 [(0, kA x0), (3, kI x3)] [] (pb_X3_give_122  x0 x3) := by
  unfold pb_X3_give_122
  refine kw_aload_n (pc := 122) B dX3_give_122 rfl 0 rfl ?_
  refine kw_iload_n (pc := 123) B dX3_give_123 rfl 1 rfl ?_
  refine kw_callV (pc := 124) B dX3_give_124 (ci := 3) rfl (ct_X3_ends x0 x3) q2428 q2430 qs26 q81 q2431 ⟨by decide, by decide, rfl⟩ (As := [kI x3]) rfl (st := []) rfl (Nat.le_of_ble_eq_true rfl) (by decide) (by decide) kw_qI (fun i1 => ?_)
  exact kw_iret B dX3_give_127 rfl
theorem wb_X3_give_100 {E : kw_E} (B : kw_ok E cX3_give RX3 "give" 5 (some .int) 4 67 [])  (x0 : Option Nat) (x1 : Int32) (x2 : Int32) (x3 : Int32) : kw_W E kw_eI 100 [(0, kA x0), (1, kI x1), (2, kI x2), (3, kI x3)] [] (pb_X3_give_100  x0 x1 x2 x3) := by
  unfold pb_X3_give_100
  refine kw_aload_n (pc := 100) B dX3_give_100 rfl 0 rfl ?_
  refine kw_gR (pc := 101) B dX3_give_101 fl_X3_9 (fun r1 => ?_)
  refine kw_iload_n (pc := 104) B dX3_give_104 rfl 2 rfl ?_
  refine kw_iconst (pc := 105) B dX3_give_105 (v := (2 : Int32)) rfl ?_
  refine kw_callS (pc := 106) B dX3_give_106 (ct_X3_carverAt x2 (2 : Int32)) q2451 q2452 q81 q2453 ⟨by decide, by decide, rfl⟩ (As := [kI x2, kI (2 : Int32)]) rfl (st := [kA r1]) rfl (Nat.le_of_ble_eq_true rfl) (by decide) (by decide) kw_qI (fun i2 => ?_)
  refine kw_iload_n (pc := 109) B dX3_give_109 rfl 1 rfl ?_
  refine kw_iast (pc := 110) B dX3_give_110 ?_
  refine kw_aload_n (pc := 111) B dX3_give_111 rfl 0 rfl ?_
  refine kw_gR (pc := 112) B dX3_give_112 fl_X3_9 (fun r4 => ?_)
  refine kw_iload_n (pc := 115) B dX3_give_115 rfl 1 rfl ?_
  refine kw_iconst (pc := 116) B dX3_give_116 (v := (1 : Int32)) rfl ?_
  refine kw_callS (pc := 117) B dX3_give_117 (ct_X3_lensAt x1 (1 : Int32)) q2458 q2459 q81 q2460 ⟨by decide, by decide, rfl⟩ (As := [kI x1, kI (1 : Int32)]) rfl (st := [kA r4]) rfl (Nat.le_of_ble_eq_true rfl) (by decide) (by decide) kw_qI (fun i5 => ?_)
  refine kw_iload_n (pc := 120) B dX3_give_120 rfl 2 rfl ?_
  refine kw_iast (pc := 121) B dX3_give_121 ?_
  exact kw_pick [0, 3] rfl (wb_X3_give_122 B x0 x3)
theorem wb_X3_give_54 {E : kw_E} (B : kw_ok E cX3_give RX3 "give" 5 (some .int) 4 67 [])  (x0 : Option Nat) (x1 : Int32) (x2 : Int32) (x3 : Int32) : kw_W E kw_eI 54 [(0, kA x0), (1, kI x1), (2, kI x2), (3, kI x3)] [] (pb_X3_give_54  x0 x1 x2 x3) := by
  unfold pb_X3_give_54
  refine kw_aload_n (pc := 54) B dX3_give_54 rfl 0 rfl ?_
  refine kw_gR (pc := 55) B dX3_give_55 fl_X3_9 (fun r1 => ?_)
  refine kw_iload_n (pc := 58) B dX3_give_58 rfl 1 rfl ?_
  refine kw_iconst (pc := 59) B dX3_give_59 (v := (1 : Int32)) rfl ?_
  refine kw_callS (pc := 60) B dX3_give_60 (ct_X3_lensAt x1 (1 : Int32)) q2458 q2459 q81 q2460 ⟨by decide, by decide, rfl⟩ (As := [kI x1, kI (1 : Int32)]) rfl (st := [kA r1]) rfl (Nat.le_of_ble_eq_true rfl) (by decide) (by decide) kw_qI (fun i2 => ?_)
  refine kw_bipush (pc := 63) B dX3_give_63 (v := (-6 : Int32)) rfl ?_
  refine kw_iast (pc := 65) B dX3_give_65 ?_
  refine kw_iload_n (pc := 66) B dX3_give_66 rfl 2 rfl ?_
  refine kw_if_lt (pc := 67) (tgt := 122) B dX3_give_67 rfl ?_ ?_
  · exact kw_pick [0, 3] rfl (wb_X3_give_122 B x0 x3)
  · refine kw_aload_n (pc := 70) B dX3_give_70 rfl 0 rfl ?_
    refine kw_gR (pc := 71) B dX3_give_71 fl_X3_9 (fun r4 => ?_)
    refine kw_iload_n (pc := 74) B dX3_give_74 rfl 2 rfl ?_
    refine kw_iconst (pc := 75) B dX3_give_75 (v := (2 : Int32)) rfl ?_
    refine kw_callS (pc := 76) B dX3_give_76 (ct_X3_carverAt x2 (2 : Int32)) q2451 q2452 q81 q2453 ⟨by decide, by decide, rfl⟩ (As := [kI x2, kI (2 : Int32)]) rfl (st := [kA r4]) rfl (Nat.le_of_ble_eq_true rfl) (by decide) (by decide) kw_qI (fun i5 => ?_)
    refine kw_iald (pc := 79) B dX3_give_79 (fun i6 => ?_)
    refine kw_istore (pc := 80) B dX3_give_80 (by decide) (L2 := [(4, kI i6), (0, kA x0), (1, kI x1), (2, kI x2), (3, kI x3)]) rfl ?_
    refine kw_iload (pc := 82) B dX3_give_82 0 rfl ?_
    refine kw_if_lt (pc := 84) (tgt := 100) B dX3_give_84 rfl ?_ ?_
    · exact kw_pick [1, 2, 3, 4] rfl (wb_X3_give_100 B x0 x1 x2 x3)
    · refine kw_aload_n (pc := 87) B dX3_give_87 rfl 1 rfl ?_
      refine kw_gR (pc := 88) B dX3_give_88 fl_X3_9 (fun r7 => ?_)
      refine kw_iload (pc := 91) B dX3_give_91 0 rfl ?_
      refine kw_iconst (pc := 93) B dX3_give_93 (v := (1 : Int32)) rfl ?_
      refine kw_callS (pc := 94) B dX3_give_94 (ct_X3_lensAt i6 (1 : Int32)) q2458 q2459 q81 q2460 ⟨by decide, by decide, rfl⟩ (As := [kI i6, kI (1 : Int32)]) rfl (st := [kA r7]) rfl (Nat.le_of_ble_eq_true rfl) (by decide) (by decide) kw_qI (fun i8 => ?_)
      refine kw_bipush (pc := 97) B dX3_give_97 (v := (-6 : Int32)) rfl ?_
      refine kw_iast (pc := 99) B dX3_give_99 ?_
      exact kw_pick [1, 2, 3, 4] rfl (wb_X3_give_100 B x0 x1 x2 x3)
theorem wb_X3_give_23 {E : kw_E} (B : kw_ok E cX3_give RX3 "give" 5 (some .int) 4 67 [])  (x0 : Option Nat) (x1 : Int32) (x2 : Int32) : kw_W E kw_eI 23 [(0, kA x0), (1, kI x1), (2, kI x2)] [] (pb_X3_give_23  x0 x1 x2) := by
  unfold pb_X3_give_23
  refine kw_aload_n (pc := 23) B dX3_give_23 rfl 0 rfl ?_
  refine kw_callV (pc := 24) B dX3_give_24 (ci := 3) rfl (ct_X3_keeps x0) q2418 q2420 qs25 q81 q2421 ⟨by decide, by decide, rfl⟩ (As := []) rfl (st := []) rfl (Nat.le_of_ble_eq_true rfl) (by decide) (by decide) kw_qV (fun _ => ?_)
  refine kw_aload_n (pc := 27) B dX3_give_27 rfl 0 rfl ?_
  refine kw_gR (pc := 28) B dX3_give_28 fl_X3_9 (fun r1 => ?_)
  refine kw_iload_n (pc := 31) B dX3_give_31 rfl 1 rfl ?_
  refine kw_iconst (pc := 32) B dX3_give_32 (v := (1 : Int32)) rfl ?_
  refine kw_callS (pc := 33) B dX3_give_33 (ct_X3_lensAt x1 (1 : Int32)) q2458 q2459 q81 q2460 ⟨by decide, by decide, rfl⟩ (As := [kI x1, kI (1 : Int32)]) rfl (st := [kA r1]) rfl (Nat.le_of_ble_eq_true rfl) (by decide) (by decide) kw_qI (fun i2 => ?_)
  refine kw_iald (pc := 36) B dX3_give_36 (fun i3 => ?_)
  refine kw_istore_n (pc := 37) B dX3_give_37 rfl (by decide) (L2 := [(3, kI i3), (0, kA x0), (1, kI x1), (2, kI x2)]) rfl ?_
  refine kw_iload_n (pc := 38) B dX3_give_38 rfl 0 rfl ?_
  refine kw_if_lt (pc := 39) (tgt := 54) B dX3_give_39 rfl ?_ ?_
  · exact kw_pick [1, 2, 3, 0] rfl (wb_X3_give_54 B x0 x1 x2 i3)
  · refine kw_aload_n (pc := 42) B dX3_give_42 rfl 1 rfl ?_
    refine kw_gR (pc := 43) B dX3_give_43 fl_X3_9 (fun r4 => ?_)
    refine kw_iload_n (pc := 46) B dX3_give_46 rfl 0 rfl ?_
    refine kw_iconst (pc := 47) B dX3_give_47 (v := (2 : Int32)) rfl ?_
    refine kw_callS (pc := 48) B dX3_give_48 (ct_X3_carverAt i3 (2 : Int32)) q2451 q2452 q81 q2453 ⟨by decide, by decide, rfl⟩ (As := [kI i3, kI (2 : Int32)]) rfl (st := [kA r4]) rfl (Nat.le_of_ble_eq_true rfl) (by decide) (by decide) kw_qI (fun i5 => ?_)
    refine kw_bipush (pc := 51) B dX3_give_51 (v := (-6 : Int32)) rfl ?_
    refine kw_iast (pc := 53) B dX3_give_53 ?_
    exact kw_pick [1, 2, 3, 0] rfl (wb_X3_give_54 B x0 x1 x2 i3)
theorem wm_X3_give {E : kw_E} (B : kw_ok E cX3_give RX3 "give" 5 (some .int) 4 67 []) (a0 : Option Nat) (a1 : Int32) (a2 : Int32) : kw_W E kw_eI 0 [(0, kA a0), (1, kI a1), (2, kI a2)] [] (pm_X3_give a0 a1 a2) := by
  unfold pm_X3_give
  refine kw_aload_n (pc := 0) B dX3_give_0 rfl 0 rfl ?_
  refine kw_iload_n (pc := 1) B dX3_give_1 rfl 1 rfl ?_
  refine kw_callV (pc := 2) B dX3_give_2 (ci := 3) rfl (ct_X3_isLens a0 a1) q2465 q2467 qs30 q81 q2468 ⟨by decide, by decide, rfl⟩ (As := [kI a1]) rfl (st := []) rfl (Nat.le_of_ble_eq_true rfl) (by decide) (by decide) kw_qI (fun i1 => ?_)
  refine kw_if_eq (pc := 5) (tgt := 21) B dX3_give_5 rfl ?_ ?_
  · refine kw_iconst (pc := 21) B dX3_give_21 (v := (-1 : Int32)) rfl ?_
    exact kw_iret B dX3_give_22 rfl
  · refine kw_iload_n (pc := 8) B dX3_give_8 rfl 2 rfl ?_
    refine kw_iconst (pc := 9) B dX3_give_9 (v := (-1 : Int32)) rfl ?_
    refine kw_icmp_eq (pc := 10) (tgt := 23) B dX3_give_10 rfl ?_ ?_
    · exact kw_pick [0, 1, 2] rfl (wb_X3_give_23 B a0 a1 a2)
    · refine kw_aload_n (pc := 13) B dX3_give_13 rfl 0 rfl ?_
      refine kw_iload_n (pc := 14) B dX3_give_14 rfl 2 rfl ?_
      refine kw_callV (pc := 15) B dX3_give_15 (ci := 3) rfl (ct_X3_isCarver a0 a2) q2469 q2471 qs31 q81 q2472 ⟨by decide, by decide, rfl⟩ (As := [kI a2]) rfl (st := []) rfl (Nat.le_of_ble_eq_true rfl) (by decide) (by decide) kw_qI (fun i2 => ?_)
      refine kw_if_ne (pc := 18) (tgt := 23) B dX3_give_18 rfl ?_ ?_
      · exact kw_pick [0, 1, 2] rfl (wb_X3_give_23 B a0 a1 a2)
      · refine kw_iconst (pc := 21) B dX3_give_21 (v := (-1 : Int32)) rfl ?_
        exact kw_iret B dX3_give_22 rfl
theorem ct_X3_give (a0 : Option Nat) (a1 : Int32) (a2 : Int32) (l : Launch) : kw_Met l yX3_give (ws_ yX3_give cX3_give 5 (some .int)) 4 67 [kA a0, kI a1, kI a2] kw_eI (pm_X3_give a0 a1 a2) := kw_met (plainFor_of_name rfl) (Nat.le_of_ble_eq_true rfl) (fun E B => wm_X3_give B a0 a1 a2) l

/-! RosaryCarvers$5 <init> (LRosaryCarvers;IZI)V -/
theorem fl_X20_1 : kw_fl RX20 1 "RosaryCarvers$5" [(18, 4)] := (kw_fl_c (C := RX20) (T := TX20) (N := 5) rfl (by decide) in_X20 q1646 (Or.inl rfl) kw_fl_nil)
theorem fp_X20_1 : kw_fp RX20 (.object "RosaryCarvers") true [(18, 4)] := (kw_fp_d (C := RX20) (T := TX20) (N := 5) (ty0 := tyX20) rfl tyX20_ok (by unfold kw_ap; decide) rfl rfl (by decide) rfl kw_fp_nil)
theorem fp_X20_7 : kw_fp RX20 .int true [(18, 1)] := (kw_fp_d (C := RX20) (T := TX20) (N := 5) (ty0 := tyX20) rfl tyX20_ok (by unfold kw_ap; decide) rfl rfl (by decide) rfl kw_fp_nil)
theorem fp_X20_11 : kw_fp RX20 .boolean true [(18, 2)] := (kw_fp_d (C := RX20) (T := TX20) (N := 5) (ty0 := tyX20) rfl tyX20_ok (by unfold kw_ap; decide) rfl rfl (by decide) rfl kw_fp_nil)
theorem fp_X20_15 : kw_fp RX20 .int true [(18, 3)] := (kw_fp_d (C := RX20) (T := TX20) (N := 5) (ty0 := tyX20) rfl tyX20_ok (by unfold kw_ap; decide) rfl rfl (by decide) rfl kw_fp_nil)
theorem wm_X20_init {E : kw_E} (B : kw_ok E cX20_init RX20 "<init>" 5 none 2 45 []) (a0 : Option Nat) (a1 : Option Nat) (a2 : Int32) (a3 : Int32) (a4 : Int32) : kw_W E kw_eV 0 [(0, kA a0), (1, kA a1), (2, kI a2), (3, kI a3), (4, kI a4)] [] (pm_X20_init a0 a1 a2 a3 a4) := by
  unfold pm_X20_init
  refine kw_aload_n (pc := 0) B dX20_init_0 rfl 0 rfl ?_
  refine kw_aload_n (pc := 1) B dX20_init_1 rfl 1 rfl ?_
  refine kw_pR (pc := 2) B dX20_init_2 fl_X20_1 fp_X20_1 (fun _ => rfl) rfl ?_
  refine kw_aload_n (pc := 5) B dX20_init_5 rfl 0 rfl ?_
  refine kw_iload_n (pc := 6) B dX20_init_6 rfl 2 rfl ?_
  refine kw_pI (pc := 7) B dX20_init_7 fl_X20_7 fp_X20_7 (fun _ => rfl) ?_
  refine kw_aload_n (pc := 10) B dX20_init_10 rfl 0 rfl ?_
  refine kw_iload_n (pc := 11) B dX20_init_11 rfl 3 rfl ?_
  refine kw_pI (pc := 12) B dX20_init_12 fl_X20_11 fp_X20_11 (fun _ => rfl) ?_
  refine kw_aload_n (pc := 15) B dX20_init_15 rfl 0 rfl ?_
  refine kw_iload (pc := 16) B dX20_init_16 4 rfl ?_
  refine kw_pI (pc := 18) B dX20_init_18 fl_X20_15 fp_X20_15 (fun _ => rfl) ?_
  refine kw_aload_n (pc := 21) B dX20_init_21 rfl 0 rfl ?_
  refine kw_aload_n (pc := 22) B dX20_init_22 rfl 1 rfl ?_
  refine kw_callIN (pc := 23) B dX20_init_23 (ct_X4_init a0 a1) q1642 q348 q82 q349 rfl ⟨by decide, by decide, rfl⟩ (As := [kA a1]) rfl (st := []) rfl (Nat.le_of_ble_eq_true rfl) (by decide) (by decide) kw_qV (fun _ => ?_)
  exact kw_vret B dX20_init_26 rfl
theorem ct_X20_init (a0 : Option Nat) (a1 : Option Nat) (a2 : Int32) (a3 : Int32) (a4 : Int32) (l : Launch) : kw_Met l yX20_init (ws_ yX20_init cX20_init 5 none) 2 45 [kA a0, kA a1, kI a2, kI a3, kI a4] kw_eV (pm_X20_init a0 a1 a2 a3 a4) := kw_met (plainFor_of_name rfl) (Nat.le_of_ble_eq_true rfl) (fun E B => wm_X20_init B a0 a1 a2 a3 a4) l

/-! RosaryCarvers carve (IZI)I -/

theorem wm_X0_carve {E : kw_E} (B : kw_ok E cX0_carve RX0 "carve" 4 (some .int) 18 375 []) (a0 : Option Nat) (a1 : Int32) (a2 : Int32) (a3 : Int32) : kw_W E kw_eI 0 [(0, kA a0), (1, kI a1), (2, kI a2), (3, kI a3)] [] (pm_X0_carve a0 a1 a2 a3) := by
  unfold pm_X0_carve
  refine kw_aload_n (pc := 0) B dX0_carve_0 rfl 0 rfl ?_
  refine kw_gR (pc := 1) B dX0_carve_1 fl_X0_17 (fun r1 => ?_)
  refine kw_iload_n (pc := 4) B dX0_carve_4 rfl 1 rfl ?_
  refine kw_callV (pc := 5) B dX0_carve_5 (ci := 1) rfl (ct_X1_isCarver r1 a1) q1360 q1361 q1362 q74 q1363 ⟨by decide, by decide, rfl⟩ (As := [kI a1]) rfl (st := []) rfl (Nat.le_of_ble_eq_true rfl) (by decide) (by decide) kw_qI (fun i2 => ?_)
  refine kw_if_ne (pc := 8) (tgt := 13) B dX0_carve_8 rfl ?_ ?_
  · refine kw_iload_n (pc := 13) B dX0_carve_13 rfl 3 rfl ?_
    refine kw_callS (pc := 14) B dX0_carve_14 (ct_X0_isCarved a3) q1365 q1366 q73 q1367 ⟨by decide, by decide, rfl⟩ (As := [kI a3]) rfl (st := []) rfl (Nat.le_of_ble_eq_true rfl) (by decide) (by decide) kw_qI (fun i3 => ?_)
    refine kw_if_ne (pc := 17) (tgt := 23) B dX0_carve_17 rfl ?_ ?_
    · refine kw_new (pc := 23) B dX0_carve_23 (ci := 18) (N := 5) rfl in_X20 tyX20_ok kz_D5_ok q1637 q1638 q115 (fun r4 => ?_)
      refine kw_dup (pc := 26) B dX0_carve_26 rfl ?_
      refine kw_aload_n (pc := 27) B dX0_carve_27 rfl 0 rfl ?_
      refine kw_iload_n (pc := 28) B dX0_carve_28 rfl 1 rfl ?_
      refine kw_iload_n (pc := 29) B dX0_carve_29 rfl 2 rfl ?_
      refine kw_iload_n (pc := 30) B dX0_carve_30 rfl 3 rfl ?_
      refine kw_callI (pc := 31) B dX0_carve_31 (ct_X20_init r4 a0 a1 a2 a3) q1639 q1640 q115 q1641 rfl ⟨by decide, by decide, rfl⟩ (As := [kA a0, kI a1, kI a2, kI a3]) rfl (st := [kA r4]) rfl (Nat.le_of_ble_eq_true rfl) (by decide) (by decide) kw_qV (fun _ => ?_)
      refine kw_callUW (pc := 34) B dX0_carve_34 (x0 := ⟨"RosaryCarvers$5", "done", "()I"⟩) (owner := "RosaryCarvers$Deed") (ci := 18) rfl (ct_X4_done r4) q1657 q1658 q1659 q365 q365 q82 q366 rfl ⟨by decide, by decide, rfl⟩ (As := []) rfl (st := []) rfl (Nat.le_of_ble_eq_true rfl) (by decide) (by decide) kw_qI (fun i5 => ?_)
      exact kw_iret B dX0_carve_37 rfl
    · refine kw_bipush (pc := 20) B dX0_carve_20 (v := (-2 : Int32)) rfl ?_
      exact kw_iret B dX0_carve_22 rfl
  · refine kw_iconst (pc := 11) B dX0_carve_11 (v := (-1 : Int32)) rfl ?_
    exact kw_iret B dX0_carve_12 rfl
theorem ct_X0_carve (a0 : Option Nat) (a1 : Int32) (a2 : Int32) (a3 : Int32) (l : Launch) : kw_Met l yX0_carve (ws_ yX0_carve cX0_carve 4 (some .int)) 18 375 [kA a0, kI a1, kI a2, kI a3] kw_eI (pm_X0_carve a0 a1 a2 a3) := kw_met (plainFor_of_name rfl) (Nat.le_of_ble_eq_true rfl) (fun E B => wm_X0_carve B a0 a1 a2 a3) l

/-! RosaryCarversModel sight (I)I -/

theorem wb_X3_sight_39 {E : kw_E} (B : kw_ok E cX3_sight RX3 "sight" 3 (some .int) 2 21 [])  (x0 : Option Nat) (x1 : Int32) (s0 : Int32) (s1 : Int32) : kw_W E kw_eI 39 [(0, kA x0), (1, kI x1)] [kI s0, kI s1] (pb_X3_sight_39  x0 x1 s0 s1) := by
  unfold pb_X3_sight_39
  refine kw_iadd (pc := 39) B dX3_sight_39 ?_
  refine kw_aload_n (pc := 40) B dX3_sight_40 rfl 0 rfl ?_
  refine kw_gR (pc := 41) B dX3_sight_41 fl_X3_9 (fun r1 => ?_)
  refine kw_iload_n (pc := 44) B dX3_sight_44 rfl 1 rfl ?_
  refine kw_iconst (pc := 45) B dX3_sight_45 (v := (1 : Int32)) rfl ?_
  refine kw_callS (pc := 46) B dX3_sight_46 (ct_X3_carverAt x1 (1 : Int32)) q2451 q2452 q81 q2453 ⟨by decide, by decide, rfl⟩ (As := [kI x1, kI (1 : Int32)]) rfl (st := [kA r1, kI (s1 + s0)]) rfl (Nat.le_of_ble_eq_true rfl) (by decide) (by decide) kw_qI (fun i2 => ?_)
  refine kw_iald (pc := 49) B dX3_sight_49 (fun i3 => ?_)
  refine kw_bipush (pc := 50) B dX3_sight_50 (v := (10 : Int32)) rfl ?_
  refine kw_idiv (pc := 52) B dX3_sight_52 (fun i4 => ?_)
  refine kw_isub (pc := 53) B dX3_sight_53 ?_
  exact kw_iret B dX3_sight_54 rfl
theorem wm_X3_sight {E : kw_E} (B : kw_ok E cX3_sight RX3 "sight" 3 (some .int) 2 21 []) (a0 : Option Nat) (a1 : Int32) : kw_W E kw_eI 0 [(0, kA a0), (1, kI a1)] [] (pm_X3_sight a0 a1) := by
  unfold pm_X3_sight
  refine kw_aload_n (pc := 0) B dX3_sight_0 rfl 0 rfl ?_
  refine kw_gR (pc := 1) B dX3_sight_1 fl_X3_9 (fun r1 => ?_)
  refine kw_iload_n (pc := 4) B dX3_sight_4 rfl 1 rfl ?_
  refine kw_iconst (pc := 5) B dX3_sight_5 (v := (2 : Int32)) rfl ?_
  refine kw_callS (pc := 6) B dX3_sight_6 (ct_X3_carverAt a1 (2 : Int32)) q2451 q2452 q81 q2453 ⟨by decide, by decide, rfl⟩ (As := [kI a1, kI (2 : Int32)]) rfl (st := [kA r1]) rfl (Nat.le_of_ble_eq_true rfl) (by decide) (by decide) kw_qI (fun i2 => ?_)
  refine kw_iald (pc := 9) B dX3_sight_9 (fun i3 => ?_)
  refine kw_istore_n (pc := 10) B dX3_sight_10 rfl (by decide) (L2 := [(2, kI i3), (0, kA a0), (1, kI a1)]) rfl ?_
  refine kw_aload_n (pc := 11) B dX3_sight_11 rfl 1 rfl ?_
  refine kw_gR (pc := 12) B dX3_sight_12 fl_X3_9 (fun r4 => ?_)
  refine kw_iload_n (pc := 15) B dX3_sight_15 rfl 2 rfl ?_
  refine kw_iconst (pc := 16) B dX3_sight_16 (v := (0 : Int32)) rfl ?_
  refine kw_callS (pc := 17) B dX3_sight_17 (ct_X3_carverAt a1 (0 : Int32)) q2451 q2452 q81 q2453 ⟨by decide, by decide, rfl⟩ (As := [kI a1, kI (0 : Int32)]) rfl (st := [kA r4]) rfl (Nat.le_of_ble_eq_true rfl) (by decide) (by decide) kw_qI (fun i5 => ?_)
  refine kw_iald (pc := 20) B dX3_sight_20 (fun i6 => ?_)
  refine kw_iload_n (pc := 21) B dX3_sight_21 rfl 0 rfl ?_
  refine kw_if_lt (pc := 22) (tgt := 38) B dX3_sight_22 rfl ?_ ?_
  · refine kw_iconst (pc := 38) B dX3_sight_38 (v := (0 : Int32)) rfl ?_
    exact kw_pick [1, 2] rfl (wb_X3_sight_39 B a0 a1 (0 : Int32) i6)
  · refine kw_aload_n (pc := 25) B dX3_sight_25 rfl 1 rfl ?_
    refine kw_gR (pc := 26) B dX3_sight_26 fl_X3_9 (fun r7 => ?_)
    refine kw_iload_n (pc := 29) B dX3_sight_29 rfl 0 rfl ?_
    refine kw_iconst (pc := 30) B dX3_sight_30 (v := (0 : Int32)) rfl ?_
    refine kw_callS (pc := 31) B dX3_sight_31 (ct_X3_lensAt i3 (0 : Int32)) q2458 q2459 q81 q2460 ⟨by decide, by decide, rfl⟩ (As := [kI i3, kI (0 : Int32)]) rfl (st := [kA r7, kI i6]) rfl (Nat.le_of_ble_eq_true rfl) (by decide) (by decide) kw_qI (fun i8 => ?_)
    refine kw_iald (pc := 34) B dX3_sight_34 (fun i9 => ?_)
    refine kw_goto (pc := 35) (tgt := 39) B dX3_sight_35 rfl ?_
    exact kw_pick [1, 2] rfl (wb_X3_sight_39 B a0 a1 i9 i6)
theorem ct_X3_sight (a0 : Option Nat) (a1 : Int32) (l : Launch) : kw_Met l yX3_sight (ws_ yX3_sight cX3_sight 3 (some .int)) 2 21 [kA a0, kI a1] kw_eI (pm_X3_sight a0 a1) := kw_met (plainFor_of_name rfl) (Nat.le_of_ble_eq_true rfl) (fun E B => wm_X3_sight B a0 a1) l

/-! RosaryCarversModel boxAt (II)I -/

theorem wm_X3_boxAt {E : kw_E} (B : kw_ok E cX3_boxAt RX3 "boxAt" 2 (some .int) 1 0 []) (a0 : Int32) (a1 : Int32) : kw_W E kw_eI 0 [(0, kI a0), (1, kI a1)] [] (pm_X3_boxAt a0 a1) := by
  unfold pm_X3_boxAt
  refine kw_bipush (pc := 0) B dX3_boxAt_0 (v := (44 : Int32)) rfl ?_
  refine kw_iconst (pc := 2) B dX3_boxAt_2 (v := (3 : Int32)) rfl ?_
  refine kw_iload_n (pc := 3) B dX3_boxAt_3 rfl 0 rfl ?_
  refine kw_imul (pc := 4) B dX3_boxAt_4 ?_
  refine kw_iadd (pc := 5) B dX3_boxAt_5 ?_
  refine kw_iload_n (pc := 6) B dX3_boxAt_6 rfl 1 rfl ?_
  refine kw_iadd (pc := 7) B dX3_boxAt_7 ?_
  exact kw_iret B dX3_boxAt_8 rfl
theorem ct_X3_boxAt (a0 : Int32) (a1 : Int32) (l : Launch) : kw_Met l yX3_boxAt (ws_ yX3_boxAt cX3_boxAt 2 (some .int)) 1 0 [kI a0, kI a1] kw_eI (pm_X3_boxAt a0 a1) := kw_met (plainFor_of_name rfl) (Nat.le_of_ble_eq_true rfl) (fun E B => wm_X3_boxAt B a0 a1) l

/-! RosaryCarversModel comesToBox (IZI)V -/

theorem wb_X3_comesToBox_40 {E : kw_E} (B : kw_ok E cX3_comesToBox RX3 "comesToBox" 5 none 2 21 [])  (x0 : Option Nat) (x3 : Int32) (x4 : Int32) (s0 : Int32) (s1 : Int32) (s2 : Option Nat) : kw_W E kw_eV 40 [(0, kA x0), (3, kI x3), (4, kI x4)] [kI s0, kI s1, kA s2] (pb_X3_comesToBox_40  x0 x3 x4 s0 s1 s2) := by
  unfold pb_X3_comesToBox_40
  refine kw_iast (pc := 40) B dX3_comesToBox_40 ?_
  refine kw_aload_n (pc := 41) B dX3_comesToBox_41 rfl 0 rfl ?_
  refine kw_gR (pc := 42) B dX3_comesToBox_42 fl_X3_9 (fun r2 => ?_)
  refine kw_iload (pc := 45) B dX3_comesToBox_45 2 rfl ?_
  refine kw_iconst (pc := 47) B dX3_comesToBox_47 (v := (2 : Int32)) rfl ?_
  refine kw_callS (pc := 48) B dX3_comesToBox_48 (ct_X3_boxAt x4 (2 : Int32)) q2493 q2494 q81 q2495 ⟨by decide, by decide, rfl⟩ (As := [kI x4, kI (2 : Int32)]) rfl (st := [kA r2]) rfl (Nat.le_of_ble_eq_true rfl) (by decide) (by decide) kw_qI (fun i3 => ?_)
  refine kw_iload_n (pc := 51) B dX3_comesToBox_51 rfl 1 rfl ?_
  refine kw_iast (pc := 52) B dX3_comesToBox_52 ?_
  refine kw_aload_n (pc := 53) B dX3_comesToBox_53 rfl 0 rfl ?_
  refine kw_gR (pc := 54) B dX3_comesToBox_54 fl_X3_9 (fun r5 => ?_)
  refine kw_bipush (pc := 57) B dX3_comesToBox_57 (v := (11 : Int32)) rfl ?_
  refine kw_dup2 (pc := 59) B dX3_comesToBox_59 rfl rfl ?_
  refine kw_iald (pc := 60) B dX3_comesToBox_60 (fun i6 => ?_)
  refine kw_iconst (pc := 61) B dX3_comesToBox_61 (v := (1 : Int32)) rfl ?_
  refine kw_iadd (pc := 62) B dX3_comesToBox_62 ?_
  refine kw_iast (pc := 63) B dX3_comesToBox_63 ?_
  exact kw_vret B dX3_comesToBox_64 rfl
theorem wm_X3_comesToBox {E : kw_E} (B : kw_ok E cX3_comesToBox RX3 "comesToBox" 5 none 2 21 []) (a0 : Option Nat) (a1 : Int32) (a2 : Int32) (a3 : Int32) : kw_W E kw_eV 0 [(0, kA a0), (1, kI a1), (2, kI a2), (3, kI a3)] [] (pm_X3_comesToBox a0 a1 a2 a3) := by
  unfold pm_X3_comesToBox
  refine kw_aload_n (pc := 0) B dX3_comesToBox_0 rfl 0 rfl ?_
  refine kw_gR (pc := 1) B dX3_comesToBox_1 fl_X3_9 (fun r1 => ?_)
  refine kw_bipush (pc := 4) B dX3_comesToBox_4 (v := (11 : Int32)) rfl ?_
  refine kw_iald (pc := 6) B dX3_comesToBox_6 (fun i2 => ?_)
  refine kw_istore (pc := 7) B dX3_comesToBox_7 (by decide) (L2 := [(4, kI i2), (0, kA a0), (1, kI a1), (2, kI a2), (3, kI a3)]) rfl ?_
  refine kw_aload_n (pc := 9) B dX3_comesToBox_9 rfl 1 rfl ?_
  refine kw_gR (pc := 10) B dX3_comesToBox_10 fl_X3_9 (fun r3 => ?_)
  refine kw_iload (pc := 13) B dX3_comesToBox_13 0 rfl ?_
  refine kw_iconst (pc := 15) B dX3_comesToBox_15 (v := (0 : Int32)) rfl ?_
  refine kw_callS (pc := 16) B dX3_comesToBox_16 (ct_X3_boxAt i2 (0 : Int32)) q2493 q2494 q81 q2495 ⟨by decide, by decide, rfl⟩ (As := [kI i2, kI (0 : Int32)]) rfl (st := [kA r3]) rfl (Nat.le_of_ble_eq_true rfl) (by decide) (by decide) kw_qI (fun i4 => ?_)
  refine kw_iload_n (pc := 19) B dX3_comesToBox_19 rfl 2 rfl ?_
  refine kw_iast (pc := 20) B dX3_comesToBox_20 ?_
  refine kw_aload_n (pc := 21) B dX3_comesToBox_21 rfl 1 rfl ?_
  refine kw_gR (pc := 22) B dX3_comesToBox_22 fl_X3_9 (fun r6 => ?_)
  refine kw_iload (pc := 25) B dX3_comesToBox_25 0 rfl ?_
  refine kw_iconst (pc := 27) B dX3_comesToBox_27 (v := (1 : Int32)) rfl ?_
  refine kw_callS (pc := 28) B dX3_comesToBox_28 (ct_X3_boxAt i2 (1 : Int32)) q2493 q2494 q81 q2495 ⟨by decide, by decide, rfl⟩ (As := [kI i2, kI (1 : Int32)]) rfl (st := [kA r6]) rfl (Nat.le_of_ble_eq_true rfl) (by decide) (by decide) kw_qI (fun i7 => ?_)
  refine kw_iload_n (pc := 31) B dX3_comesToBox_31 rfl 3 rfl ?_
  refine kw_if_eq (pc := 32) (tgt := 39) B dX3_comesToBox_32 rfl ?_ ?_
  · refine kw_iconst (pc := 39) B dX3_comesToBox_39 (v := (0 : Int32)) rfl ?_
    exact kw_pick [1, 4, 0] rfl (wb_X3_comesToBox_40 B a0 a3 i2 (0 : Int32) i7 r6)
  · refine kw_iconst (pc := 35) B dX3_comesToBox_35 (v := (1 : Int32)) rfl ?_
    refine kw_goto (pc := 36) (tgt := 40) B dX3_comesToBox_36 rfl ?_
    exact kw_pick [1, 4, 0] rfl (wb_X3_comesToBox_40 B a0 a3 i2 (1 : Int32) i7 r6)
theorem ct_X3_comesToBox (a0 : Option Nat) (a1 : Int32) (a2 : Int32) (a3 : Int32) (l : Launch) : kw_Met l yX3_comesToBox (ws_ yX3_comesToBox cX3_comesToBox 5 none) 2 21 [kA a0, kI a1, kI a2, kI a3] kw_eV (pm_X3_comesToBox a0 a1 a2 a3) := kw_met (plainFor_of_name rfl) (Nat.le_of_ble_eq_true rfl) (fun E B => wm_X3_comesToBox B a0 a1 a2 a3) l

/-! RosaryCarversModel carvesOne (IZ)V -/

theorem wb_X3_carvesOne_135 {E : kw_E} (B : kw_ok E cX3_carvesOne RX3 "carvesOne" 4 none 3 45 [])  (s0 : Int32) (s1 : Int32) (s2 : Int32) (s3 : Int32) (s4 : Option Nat) : kw_W E kw_eV 135 [] [kI s0, kI s1, kI s2, kI s3, kA s4] (pb_X3_carvesOne_135  s0 s1 s2 s3 s4) := by
  unfold pb_X3_carvesOne_135
  refine kw_iadd (pc := 135) B dX3_carvesOne_135 ?_
  refine kw_callS (pc := 136) B dX3_carvesOne_136 (ct_X3_lesser s2 (s1 + s0)) q2425 q2426 q81 q2427 ⟨by decide, by decide, rfl⟩ (As := [kI s2, kI (s1 + s0)]) rfl (st := [kI s3, kA s4]) rfl (Nat.le_of_ble_eq_true rfl) (by decide) (by decide) kw_qI (fun i1 => ?_)
  refine kw_iast (pc := 139) B dX3_carvesOne_139 ?_
  exact kw_vret B dX3_carvesOne_140 rfl
theorem wb_X3_carvesOne_105 {E : kw_E} (B : kw_ok E cX3_carvesOne RX3 "carvesOne" 4 none 3 45 [])  (x0 : Option Nat) (x1 : Int32) (x2 : Int32) : kw_W E kw_eV 105 [(0, kA x0), (1, kI x1), (2, kI x2)] [] (pb_X3_carvesOne_105  x0 x1 x2) := by
  unfold pb_X3_carvesOne_105
  refine kw_aload_n (pc := 105) B dX3_carvesOne_105 rfl 0 rfl ?_
  refine kw_gR (pc := 106) B dX3_carvesOne_106 fl_X3_9 (fun r1 => ?_)
  refine kw_iload_n (pc := 109) B dX3_carvesOne_109 rfl 1 rfl ?_
  refine kw_iconst (pc := 110) B dX3_carvesOne_110 (v := (1 : Int32)) rfl ?_
  refine kw_callS (pc := 111) B dX3_carvesOne_111 (ct_X3_carverAt x1 (1 : Int32)) q2451 q2452 q81 q2453 ⟨by decide, by decide, rfl⟩ (As := [kI x1, kI (1 : Int32)]) rfl (st := [kA r1]) rfl (Nat.le_of_ble_eq_true rfl) (by decide) (by decide) kw_qI (fun i2 => ?_)
  refine kw_bipush (pc := 114) B dX3_carvesOne_114 (v := (99 : Int32)) rfl ?_
  refine kw_aload_n (pc := 116) B dX3_carvesOne_116 rfl 0 rfl ?_
  refine kw_gR (pc := 117) B dX3_carvesOne_117 fl_X3_9 (fun r3 => ?_)
  refine kw_iload_n (pc := 120) B dX3_carvesOne_120 rfl 1 rfl ?_
  refine kw_iconst (pc := 121) B dX3_carvesOne_121 (v := (1 : Int32)) rfl ?_
  refine kw_callS (pc := 122) B dX3_carvesOne_122 (ct_X3_carverAt x1 (1 : Int32)) q2451 q2452 q81 q2453 ⟨by decide, by decide, rfl⟩ (As := [kI x1, kI (1 : Int32)]) rfl (st := [kA r3, kI (99 : Int32), kI i2, kA r1]) rfl (Nat.le_of_ble_eq_true rfl) (by decide) (by decide) kw_qI (fun i4 => ?_)
  refine kw_iald (pc := 125) B dX3_carvesOne_125 (fun i5 => ?_)
  refine kw_iload_n (pc := 126) B dX3_carvesOne_126 rfl 2 rfl ?_
  refine kw_if_eq (pc := 127) (tgt := 134) B dX3_carvesOne_127 rfl ?_ ?_
  · refine kw_iconst (pc := 134) B dX3_carvesOne_134 (v := (3 : Int32)) rfl ?_
    exact kw_pick [] rfl (wb_X3_carvesOne_135 B (3 : Int32) i5 (99 : Int32) i2 r1)
  · refine kw_iconst (pc := 130) B dX3_carvesOne_130 (v := (2 : Int32)) rfl ?_
    refine kw_goto (pc := 131) (tgt := 135) B dX3_carvesOne_131 rfl ?_
    exact kw_pick [] rfl (wb_X3_carvesOne_135 B (2 : Int32) i5 (99 : Int32) i2 r1)
theorem wb_X3_carvesOne_34 {E : kw_E} (B : kw_ok E cX3_carvesOne RX3 "carvesOne" 4 none 3 45 [])  (x0 : Option Nat) (x1 : Int32) (x2 : Int32) (x3 : Int32) (s0 : Int32) (s1 : Int32) : kw_W E kw_eV 34 [(0, kA x0), (1, kI x1), (2, kI x2), (3, kI x3)] [kI s0, kI s1] (pb_X3_carvesOne_34  x0 x1 x2 x3 s0 s1) := by
  unfold pb_X3_carvesOne_34
  refine kw_icmp_ge (pc := 34) (tgt := 64) B dX3_carvesOne_34 rfl ?_ ?_
  · refine kw_aload_n (pc := 64) B dX3_carvesOne_64 rfl 0 rfl ?_
    refine kw_aload_n (pc := 65) B dX3_carvesOne_65 rfl 0 rfl ?_
    refine kw_gR (pc := 66) B dX3_carvesOne_66 fl_X3_9 (fun r1 => ?_)
    refine kw_iconst (pc := 69) B dX3_carvesOne_69 (v := (2 : Int32)) rfl ?_
    refine kw_iald (pc := 70) B dX3_carvesOne_70 (fun i2 => ?_)
    refine kw_iload_n (pc := 71) B dX3_carvesOne_71 rfl 2 rfl ?_
    refine kw_bipush (pc := 72) B dX3_carvesOne_72 (v := (9 : Int32)) rfl ?_
    refine kw_iload_n (pc := 74) B dX3_carvesOne_74 rfl 3 rfl ?_
    refine kw_callS (pc := 75) B dX3_carvesOne_75 (ct_X3_lesser (9 : Int32) x3) q2425 q2426 q81 q2427 ⟨by decide, by decide, rfl⟩ (As := [kI (9 : Int32), kI x3]) rfl (st := [kI x2, kI i2, kA x0]) rfl (Nat.le_of_ble_eq_true rfl) (by decide) (by decide) kw_qI (fun i3 => ?_)
    refine kw_callV (pc := 78) B dX3_carvesOne_78 (ci := 3) rfl (ct_X3_comesToBox x0 i2 x2 i3) q2489 q2491 qs35 q81 q2492 ⟨by decide, by decide, rfl⟩ (As := [kI i2, kI x2, kI i3]) rfl (st := []) rfl (Nat.le_of_ble_eq_true rfl) (by decide) (by decide) kw_qV (fun _ => ?_)
    refine kw_aload_n (pc := 81) B dX3_carvesOne_81 rfl 0 rfl ?_
    refine kw_gR (pc := 82) B dX3_carvesOne_82 fl_X3_9 (fun r4 => ?_)
    refine kw_iconst (pc := 85) B dX3_carvesOne_85 (v := (2 : Int32)) rfl ?_
    refine kw_dup2 (pc := 86) B dX3_carvesOne_86 rfl rfl ?_
    refine kw_iald (pc := 87) B dX3_carvesOne_87 (fun i5 => ?_)
    refine kw_iconst (pc := 88) B dX3_carvesOne_88 (v := (1 : Int32)) rfl ?_
    refine kw_iadd (pc := 89) B dX3_carvesOne_89 ?_
    refine kw_iast (pc := 90) B dX3_carvesOne_90 ?_
    refine kw_aload_n (pc := 91) B dX3_carvesOne_91 rfl 0 rfl ?_
    refine kw_gR (pc := 92) B dX3_carvesOne_92 fl_X3_9 (fun r7 => ?_)
    refine kw_iload_n (pc := 95) B dX3_carvesOne_95 rfl 1 rfl ?_
    refine kw_iconst (pc := 96) B dX3_carvesOne_96 (v := (3 : Int32)) rfl ?_
    refine kw_callS (pc := 97) B dX3_carvesOne_97 (ct_X3_carverAt x1 (3 : Int32)) q2451 q2452 q81 q2453 ⟨by decide, by decide, rfl⟩ (As := [kI x1, kI (3 : Int32)]) rfl (st := [kA r7]) rfl (Nat.le_of_ble_eq_true rfl) (by decide) (by decide) kw_qI (fun i8 => ?_)
    refine kw_dup2 (pc := 100) B dX3_carvesOne_100 rfl rfl ?_
    refine kw_iald (pc := 101) B dX3_carvesOne_101 (fun i9 => ?_)
    refine kw_iconst (pc := 102) B dX3_carvesOne_102 (v := (1 : Int32)) rfl ?_
    refine kw_iadd (pc := 103) B dX3_carvesOne_103 ?_
    refine kw_iast (pc := 104) B dX3_carvesOne_104 ?_
    exact kw_pick [0, 1, 2] rfl (wb_X3_carvesOne_105 B x0 x1 x2)
  · refine kw_aload_n (pc := 37) B dX3_carvesOne_37 rfl 0 rfl ?_
    refine kw_gR (pc := 38) B dX3_carvesOne_38 fl_X3_9 (fun r11 => ?_)
    refine kw_iconst (pc := 41) B dX3_carvesOne_41 (v := (3 : Int32)) rfl ?_
    refine kw_dup2 (pc := 42) B dX3_carvesOne_42 rfl rfl ?_
    refine kw_iald (pc := 43) B dX3_carvesOne_43 (fun i12 => ?_)
    refine kw_iconst (pc := 44) B dX3_carvesOne_44 (v := (1 : Int32)) rfl ?_
    refine kw_iadd (pc := 45) B dX3_carvesOne_45 ?_
    refine kw_iast (pc := 46) B dX3_carvesOne_46 ?_
    refine kw_aload_n (pc := 47) B dX3_carvesOne_47 rfl 0 rfl ?_
    refine kw_gR (pc := 48) B dX3_carvesOne_48 fl_X3_9 (fun r14 => ?_)
    refine kw_iload_n (pc := 51) B dX3_carvesOne_51 rfl 1 rfl ?_
    refine kw_iconst (pc := 52) B dX3_carvesOne_52 (v := (4 : Int32)) rfl ?_
    refine kw_callS (pc := 53) B dX3_carvesOne_53 (ct_X3_carverAt x1 (4 : Int32)) q2451 q2452 q81 q2453 ⟨by decide, by decide, rfl⟩ (As := [kI x1, kI (4 : Int32)]) rfl (st := [kA r14]) rfl (Nat.le_of_ble_eq_true rfl) (by decide) (by decide) kw_qI (fun i15 => ?_)
    refine kw_dup2 (pc := 56) B dX3_carvesOne_56 rfl rfl ?_
    refine kw_iald (pc := 57) B dX3_carvesOne_57 (fun i16 => ?_)
    refine kw_iconst (pc := 58) B dX3_carvesOne_58 (v := (1 : Int32)) rfl ?_
    refine kw_iadd (pc := 59) B dX3_carvesOne_59 ?_
    refine kw_iast (pc := 60) B dX3_carvesOne_60 ?_
    refine kw_goto (pc := 61) (tgt := 105) B dX3_carvesOne_61 rfl ?_
    exact kw_pick [0, 1, 2] rfl (wb_X3_carvesOne_105 B x0 x1 x2)
theorem wb_X3_carvesOne_22 {E : kw_E} (B : kw_ok E cX3_carvesOne RX3 "carvesOne" 4 none 3 45 [])  (x0 : Option Nat) (x1 : Int32) (x2 : Int32) (x3 : Int32) (s0 : Int32) (s1 : Int32) (s2 : Int32) (s3 : Option Nat) : kw_W E kw_eV 22 [(0, kA x0), (1, kI x1), (2, kI x2), (3, kI x3)] [kI s0, kI s1, kI s2, kA s3] (pb_X3_carvesOne_22  x0 x1 x2 x3 s0 s1 s2 s3) := by
  unfold pb_X3_carvesOne_22
  refine kw_isub (pc := 22) B dX3_carvesOne_22 ?_
  refine kw_iast (pc := 23) B dX3_carvesOne_23 ?_
  refine kw_iload_n (pc := 24) B dX3_carvesOne_24 rfl 3 rfl ?_
  refine kw_iload_n (pc := 25) B dX3_carvesOne_25 rfl 2 rfl ?_
  refine kw_if_eq (pc := 26) (tgt := 33) B dX3_carvesOne_26 rfl ?_ ?_
  · refine kw_iconst (pc := 33) B dX3_carvesOne_33 (v := (4 : Int32)) rfl ?_
    exact kw_pick [0, 1, 2, 3] rfl (wb_X3_carvesOne_34 B x0 x1 x2 x3 (4 : Int32) x3)
  · refine kw_iconst (pc := 29) B dX3_carvesOne_29 (v := (2 : Int32)) rfl ?_
    refine kw_goto (pc := 30) (tgt := 34) B dX3_carvesOne_30 rfl ?_
    exact kw_pick [0, 1, 2, 3] rfl (wb_X3_carvesOne_34 B x0 x1 x2 x3 (2 : Int32) x3)
theorem wm_X3_carvesOne {E : kw_E} (B : kw_ok E cX3_carvesOne RX3 "carvesOne" 4 none 3 45 []) (a0 : Option Nat) (a1 : Int32) (a2 : Int32) : kw_W E kw_eV 0 [(0, kA a0), (1, kI a1), (2, kI a2)] [] (pm_X3_carvesOne a0 a1 a2) := by
  unfold pm_X3_carvesOne
  refine kw_aload_n (pc := 0) B dX3_carvesOne_0 rfl 0 rfl ?_
  refine kw_iload_n (pc := 1) B dX3_carvesOne_1 rfl 1 rfl ?_
  refine kw_callV (pc := 2) B dX3_carvesOne_2 (ci := 3) rfl (ct_X3_sight a0 a1) q2485 q2487 qs34 q81 q2488 ⟨by decide, by decide, rfl⟩ (As := [kI a1]) rfl (st := []) rfl (Nat.le_of_ble_eq_true rfl) (by decide) (by decide) kw_qI (fun i1 => ?_)
  refine kw_istore_n (pc := 5) B dX3_carvesOne_5 rfl (by decide) (L2 := [(3, kI i1), (0, kA a0), (1, kI a1), (2, kI a2)]) rfl ?_
  refine kw_aload_n (pc := 6) B dX3_carvesOne_6 rfl 1 rfl ?_
  refine kw_gR (pc := 7) B dX3_carvesOne_7 fl_X3_9 (fun r2 => ?_)
  refine kw_iconst (pc := 10) B dX3_carvesOne_10 (v := (1 : Int32)) rfl ?_
  refine kw_dup2 (pc := 11) B dX3_carvesOne_11 rfl rfl ?_
  refine kw_iald (pc := 12) B dX3_carvesOne_12 (fun i3 => ?_)
  refine kw_iload_n (pc := 13) B dX3_carvesOne_13 rfl 3 rfl ?_
  refine kw_if_eq (pc := 14) (tgt := 21) B dX3_carvesOne_14 rfl ?_ ?_
  · refine kw_iconst (pc := 21) B dX3_carvesOne_21 (v := (1 : Int32)) rfl ?_
    exact kw_pick [1, 2, 3, 0] rfl (wb_X3_carvesOne_22 B a0 a1 a2 i1 (1 : Int32) i3 (1 : Int32) r2)
  · refine kw_iconst (pc := 17) B dX3_carvesOne_17 (v := (2 : Int32)) rfl ?_
    refine kw_goto (pc := 18) (tgt := 22) B dX3_carvesOne_18 rfl ?_
    exact kw_pick [1, 2, 3, 0] rfl (wb_X3_carvesOne_22 B a0 a1 a2 i1 (2 : Int32) i3 (1 : Int32) r2)
theorem ct_X3_carvesOne (a0 : Option Nat) (a1 : Int32) (a2 : Int32) (l : Launch) : kw_Met l yX3_carvesOne (ws_ yX3_carvesOne cX3_carvesOne 4 none) 3 45 [kA a0, kI a1, kI a2] kw_eV (pm_X3_carvesOne a0 a1 a2) := kw_met (plainFor_of_name rfl) (Nat.le_of_ble_eq_true rfl) (fun E B => wm_X3_carvesOne B a0 a1 a2) l

/-! RosaryCarversModel carves (IZI)I -/

theorem wb_X3_carves_117 {E : kw_E} (B : kw_ok E cX3_carves RX3 "carves" 8 (some .int) 4 68 [])  : ∀ (n : Nat) (x0 : Option Nat) (x1 : Int32) (x2 : Int32) (x3 : Int32) (x6 : Int32) (x7 : Int32), kw_W E kw_eI 117 [(0, kA x0), (1, kI x1), (2, kI x2), (3, kI x3), (6, kI x6), (7, kI x7)] [] (pb_X3_carves_117  n x0 x1 x2 x3 x6 x7) := by
  intro n
  induction n with
  | zero =>
    intro x0 x1 x2 x3 x6 x7
    exact kw_fail_ok
  | succ n ih =>
    intro x0 x1 x2 x3 x6 x7
    show kw_W E kw_eI 117 [(0, kA x0), (1, kI x1), (2, kI x2), (3, kI x3), (6, kI x6), (7, kI x7)] [] (
if x3 ≤ x7 then
(km_bind (km_gR [(3, 0)] x0) fun r1 =>
km_bind (km_ldI 0 r1 (11 : Int32)) fun i2 =>
km_pure (i2 - x6))
else
(km_bind (km_is 3 x0) fun _ => km_bind (pm_X3_carvesOne x0 x1 x2) fun _ =>
pb_X3_carves_117 n x0 x1 x2 x3 x6 (x7 + (1 : Int32))))
    refine kw_iload (pc := 117) B dX3_carves_117 5 rfl ?_
    refine kw_iload_n (pc := 119) B dX3_carves_119 rfl 3 rfl ?_
    refine kw_icmp_ge (pc := 120) (tgt := 135) B dX3_carves_120 rfl ?_ ?_
    · refine kw_aload_n (pc := 135) B dX3_carves_135 rfl 0 rfl ?_
      refine kw_gR (pc := 136) B dX3_carves_136 fl_X3_9 (fun r1 => ?_)
      refine kw_bipush (pc := 139) B dX3_carves_139 (v := (11 : Int32)) rfl ?_
      refine kw_iald (pc := 141) B dX3_carves_141 (fun i2 => ?_)
      refine kw_iload (pc := 142) B dX3_carves_142 4 rfl ?_
      refine kw_isub (pc := 144) B dX3_carves_144 ?_
      exact kw_iret B dX3_carves_145 rfl
    · refine kw_aload_n (pc := 123) B dX3_carves_123 rfl 0 rfl ?_
      refine kw_iload_n (pc := 124) B dX3_carves_124 rfl 1 rfl ?_
      refine kw_iload_n (pc := 125) B dX3_carves_125 rfl 2 rfl ?_
      refine kw_callV (pc := 126) B dX3_carves_126 (ci := 3) rfl (ct_X3_carvesOne x0 x1 x2) q2481 q2483 qs33 q81 q2484 ⟨by decide, by decide, rfl⟩ (As := [kI x1, kI x2]) rfl (st := []) rfl (Nat.le_of_ble_eq_true rfl) (by decide) (by decide) kw_qV (fun _ => ?_)
      refine kw_iinc (pc := 129) B dX3_carves_129 5 rfl (w := x7 + (1 : Int32)) rfl (by decide) (L2 := [(7, kI (x7 + (1 : Int32))), (0, kA x0), (1, kI x1), (2, kI x2), (3, kI x3), (6, kI x6)]) rfl ?_
      refine kw_goto (pc := 132) (tgt := 117) B dX3_carves_132 rfl ?_
      exact kw_pick [1, 2, 3, 4, 5, 0] rfl (ih x0 x1 x2 x3 x6 (x7 + (1 : Int32)))
theorem wb_X3_carves_45 {E : kw_E} (B : kw_ok E cX3_carves RX3 "carves" 8 (some .int) 4 68 [])  (x0 : Option Nat) (x1 : Int32) (x2 : Int32) (x3 : Int32) (x4 : Int32) (s0 : Int32) (s1 : Int32) : kw_W E kw_eI 45 [(0, kA x0), (1, kI x1), (2, kI x2), (3, kI x3), (4, kI x4)] [kI s0, kI s1] (pb_X3_carves_45  x0 x1 x2 x3 x4 s0 s1) := by
  unfold pb_X3_carves_45
  refine kw_imul (pc := 45) B dX3_carves_45 ?_
  refine kw_aload_n (pc := 46) B dX3_carves_46 rfl 0 rfl ?_
  refine kw_gR (pc := 47) B dX3_carves_47 fl_X3_9 (fun r1 => ?_)
  refine kw_iconst (pc := 50) B dX3_carves_50 (v := (1 : Int32)) rfl ?_
  refine kw_iald (pc := 51) B dX3_carves_51 (fun i2 => ?_)
  refine kw_isub (pc := 52) B dX3_carves_52 ?_
  refine kw_istore (pc := 53) B dX3_carves_53 (by decide) (L2 := [(5, kI ((s1 * s0) - i2)), (0, kA x0), (1, kI x1), (2, kI x2), (3, kI x3), (4, kI x4)]) rfl ?_
  refine kw_iload (pc := 55) B dX3_carves_55 5 rfl ?_
  refine kw_bipush (pc := 57) B dX3_carves_57 (v := (60 : Int32)) rfl ?_
  refine kw_icmp_lt (pc := 59) (tgt := 70) B dX3_carves_59 rfl ?_ ?_
  · refine kw_iload (pc := 70) B dX3_carves_70 0 rfl ?_
    refine kw_if_le (pc := 72) (tgt := 83) B dX3_carves_72 rfl ?_ ?_
    · refine kw_aload_n (pc := 83) B dX3_carves_83 rfl 1 rfl ?_
      refine kw_gR (pc := 84) B dX3_carves_84 fl_X3_9 (fun r3 => ?_)
      refine kw_bipush (pc := 87) B dX3_carves_87 (v := (11 : Int32)) rfl ?_
      refine kw_iald (pc := 89) B dX3_carves_89 (fun i4 => ?_)
      refine kw_iload_n (pc := 90) B dX3_carves_90 rfl 4 rfl ?_
      refine kw_iadd (pc := 91) B dX3_carves_91 ?_
      refine kw_bipush (pc := 92) B dX3_carves_92 (v := (60 : Int32)) rfl ?_
      refine kw_icmp_le (pc := 94) (tgt := 105) B dX3_carves_94 rfl ?_ ?_
      · refine kw_aload_n (pc := 105) B dX3_carves_105 rfl 1 rfl ?_
        refine kw_gR (pc := 106) B dX3_carves_106 fl_X3_9 (fun r5 => ?_)
        refine kw_bipush (pc := 109) B dX3_carves_109 (v := (11 : Int32)) rfl ?_
        refine kw_iald (pc := 111) B dX3_carves_111 (fun i6 => ?_)
        refine kw_istore (pc := 112) B dX3_carves_112 (by decide) (L2 := [(6, kI i6), (5, kI ((s1 * s0) - i2)), (0, kA x0), (1, kI x1), (2, kI x2), (3, kI x3), (4, kI x4)]) rfl ?_
        refine kw_iconst (pc := 114) B dX3_carves_114 (v := (0 : Int32)) rfl ?_
        refine kw_istore (pc := 115) B dX3_carves_115 (by decide) (L2 := [(7, kI (0 : Int32)), (6, kI i6), (5, kI ((s1 * s0) - i2)), (0, kA x0), (1, kI x1), (2, kI x2), (3, kI x3), (4, kI x4)]) rfl ?_
        exact kw_pick [3, 4, 5, 6, 1, 0] rfl (wb_X3_carves_117 B km_fuel x0 x1 x2 x3 i6 (0 : Int32))
      · refine kw_aload_n (pc := 97) B dX3_carves_97 rfl 1 rfl ?_
        refine kw_iconst (pc := 98) B dX3_carves_98 (v := (1 : Int32)) rfl ?_
        refine kw_bipush (pc := 99) B dX3_carves_99 (v := (60 : Int32)) rfl ?_
        refine kw_callV (pc := 101) B dX3_carves_101 (ci := 3) rfl (ct_X3_refuses x0 (1 : Int32) (60 : Int32)) q2447 q2449 qs29 q81 q2450 ⟨by decide, by decide, rfl⟩ (As := [kI (1 : Int32), kI (60 : Int32)]) rfl (st := []) rfl (Nat.le_of_ble_eq_true rfl) (by decide) (by decide) kw_qI (fun i7 => ?_)
        exact kw_iret B dX3_carves_104 rfl
    · refine kw_aload_n (pc := 75) B dX3_carves_75 rfl 1 rfl ?_
      refine kw_iconst (pc := 76) B dX3_carves_76 (v := (3 : Int32)) rfl ?_
      refine kw_iload (pc := 77) B dX3_carves_77 0 rfl ?_
      refine kw_callV (pc := 79) B dX3_carves_79 (ci := 3) rfl (ct_X3_refuses x0 (3 : Int32) ((s1 * s0) - i2)) q2447 q2449 qs29 q81 q2450 ⟨by decide, by decide, rfl⟩ (As := [kI (3 : Int32), kI ((s1 * s0) - i2)]) rfl (st := []) rfl (Nat.le_of_ble_eq_true rfl) (by decide) (by decide) kw_qI (fun i8 => ?_)
      exact kw_iret B dX3_carves_82 rfl
  · refine kw_aload_n (pc := 62) B dX3_carves_62 rfl 1 rfl ?_
    refine kw_iconst (pc := 63) B dX3_carves_63 (v := (2 : Int32)) rfl ?_
    refine kw_iload (pc := 64) B dX3_carves_64 5 rfl ?_
    refine kw_callV (pc := 66) B dX3_carves_66 (ci := 3) rfl (ct_X3_refuses x0 (2 : Int32) x4) q2447 q2449 qs29 q81 q2450 ⟨by decide, by decide, rfl⟩ (As := [kI (2 : Int32), kI x4]) rfl (st := []) rfl (Nat.le_of_ble_eq_true rfl) (by decide) (by decide) kw_qI (fun i9 => ?_)
    exact kw_iret B dX3_carves_69 rfl
theorem wm_X3_carves {E : kw_E} (B : kw_ok E cX3_carves RX3 "carves" 8 (some .int) 4 68 []) (a0 : Option Nat) (a1 : Int32) (a2 : Int32) (a3 : Int32) : kw_W E kw_eI 0 [(0, kA a0), (1, kI a1), (2, kI a2), (3, kI a3)] [] (pm_X3_carves a0 a1 a2 a3) := by
  unfold pm_X3_carves
  refine kw_aload_n (pc := 0) B dX3_carves_0 rfl 0 rfl ?_
  refine kw_iload_n (pc := 1) B dX3_carves_1 rfl 1 rfl ?_
  refine kw_callV (pc := 2) B dX3_carves_2 (ci := 3) rfl (ct_X3_isCarver a0 a1) q2469 q2471 qs31 q81 q2472 ⟨by decide, by decide, rfl⟩ (As := [kI a1]) rfl (st := []) rfl (Nat.le_of_ble_eq_true rfl) (by decide) (by decide) kw_qI (fun i1 => ?_)
  refine kw_if_ne (pc := 5) (tgt := 10) B dX3_carves_5 rfl ?_ ?_
  · refine kw_iload_n (pc := 10) B dX3_carves_10 rfl 3 rfl ?_
    refine kw_iconst (pc := 11) B dX3_carves_11 (v := (1 : Int32)) rfl ?_
    refine kw_bipush (pc := 12) B dX3_carves_12 (v := (10 : Int32)) rfl ?_
    refine kw_callS (pc := 14) B dX3_carves_14 (ct_X3_isIn a3 (1 : Int32) (10 : Int32)) q2415 q2416 q81 q2417 ⟨by decide, by decide, rfl⟩ (As := [kI a3, kI (1 : Int32), kI (10 : Int32)]) rfl (st := []) rfl (Nat.le_of_ble_eq_true rfl) (by decide) (by decide) kw_qI (fun i2 => ?_)
    refine kw_if_ne (pc := 17) (tgt := 23) B dX3_carves_17 rfl ?_ ?_
    · refine kw_aload_n (pc := 23) B dX3_carves_23 rfl 0 rfl ?_
      refine kw_gR (pc := 24) B dX3_carves_24 fl_X3_9 (fun r3 => ?_)
      refine kw_iload_n (pc := 27) B dX3_carves_27 rfl 1 rfl ?_
      refine kw_iconst (pc := 28) B dX3_carves_28 (v := (1 : Int32)) rfl ?_
      refine kw_callS (pc := 29) B dX3_carves_29 (ct_X3_carverAt a1 (1 : Int32)) q2451 q2452 q81 q2453 ⟨by decide, by decide, rfl⟩ (As := [kI a1, kI (1 : Int32)]) rfl (st := [kA r3]) rfl (Nat.le_of_ble_eq_true rfl) (by decide) (by decide) kw_qI (fun i4 => ?_)
      refine kw_iald (pc := 32) B dX3_carves_32 (fun i5 => ?_)
      refine kw_istore (pc := 33) B dX3_carves_33 (by decide) (L2 := [(4, kI i5), (0, kA a0), (1, kI a1), (2, kI a2), (3, kI a3)]) rfl ?_
      refine kw_iload_n (pc := 35) B dX3_carves_35 rfl 4 rfl ?_
      refine kw_iload_n (pc := 36) B dX3_carves_36 rfl 3 rfl ?_
      refine kw_if_eq (pc := 37) (tgt := 44) B dX3_carves_37 rfl ?_ ?_
      · refine kw_iconst (pc := 44) B dX3_carves_44 (v := (1 : Int32)) rfl ?_
        exact kw_pick [1, 2, 3, 4, 0] rfl (wb_X3_carves_45 B a0 a1 a2 a3 i5 (1 : Int32) a3)
      · refine kw_iconst (pc := 40) B dX3_carves_40 (v := (2 : Int32)) rfl ?_
        refine kw_goto (pc := 41) (tgt := 45) B dX3_carves_41 rfl ?_
        exact kw_pick [1, 2, 3, 4, 0] rfl (wb_X3_carves_45 B a0 a1 a2 a3 i5 (2 : Int32) a3)
    · refine kw_bipush (pc := 20) B dX3_carves_20 (v := (-2 : Int32)) rfl ?_
      exact kw_iret B dX3_carves_22 rfl
  · refine kw_iconst (pc := 8) B dX3_carves_8 (v := (-1 : Int32)) rfl ?_
    exact kw_iret B dX3_carves_9 rfl
theorem ct_X3_carves (a0 : Option Nat) (a1 : Int32) (a2 : Int32) (a3 : Int32) (l : Launch) : kw_Met l yX3_carves (ws_ yX3_carves cX3_carves 8 (some .int)) 4 68 [kA a0, kI a1, kI a2, kI a3] kw_eI (pm_X3_carves a0 a1 a2 a3) := kw_met (plainFor_of_name rfl) (Nat.le_of_ble_eq_true rfl) (fun E B => wm_X3_carves B a0 a1 a2 a3) l
