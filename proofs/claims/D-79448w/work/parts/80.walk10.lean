set_option maxRecDepth 100000
/-! RosaryCarvers doneOnes ()I -/

theorem wb_X0_doneOnes_13 {E : kw_E} (B : kw_ok E cX0_doneOnes RX0 "doneOnes" 4 (some .int) 7 127 [])  : ∀ (n : Nat) (x1 : Int32) (x2 : Option Nat), kw_W E kw_eI 13 [(1, kI x1), (2, kA x2)] [] (pb_X0_doneOnes_13  n x1 x2) := by
  intro n
  induction n with
  | zero =>
    intro x1 x2
    exact kw_fail_ok
  | succ n ih =>
    intro x1 x2
    show kw_W E kw_eI 13 [(1, kI x1), (2, kA x2)] [] (
km_bind (km_disp x2 [(11, pm_X12_hasNext x2), (33, pm_J5_hasNext x2), (34, pm_J15_hasNext x2)]) fun i1 =>
if i1 = 0 then
(km_pure x1)
else
(km_bind (km_disp x2 [(11, pm_X12_next x2), (33, pm_J5_next x2), (34, pm_J15_next x2)]) fun r2 =>
km_bind (km_cast [7] r2) fun _ =>
km_bind (km_is 7 r2) fun _ => km_bind (pm_X8_isDone r2) fun i3 =>
km_bind (pm_X0_bit i3) fun i4 =>
pb_X0_doneOnes_13 n (x1 + i4) x2))
    refine kw_aload_n (pc := 13) B dX0_doneOnes_13 rfl 1 rfl ?_
    refine kw_disp (pc := 14) (pc' := 19) (st := []) kw_hI (fun i1 => ?_) ?_
    · refine kw_if_eq (pc := 19) (tgt := 45) B dX0_doneOnes_19 rfl ?_ ?_
      · refine kw_iload_n (pc := 45) B dX0_doneOnes_45 rfl 0 rfl ?_
        exact kw_iret B dX0_doneOnes_46 rfl
      · refine kw_aload_n (pc := 22) B dX0_doneOnes_22 rfl 1 rfl ?_
        refine kw_disp (pc := 23) (pc' := 28) (st := []) kw_hA (fun r2 => ?_) ?_
        · refine kw_cast_ok (pc := 28) B dX0_doneOnes_28 q1852 cs_RosaryCarvers_Rosary ?_
          refine kw_astore_n (pc := 31) B dX0_doneOnes_31 rfl (by decide) (L2 := [(3, kA r2), (1, kI x1), (2, kA x2)]) rfl ?_
          refine kw_iload_n (pc := 32) B dX0_doneOnes_32 rfl 1 rfl ?_
          refine kw_aload_n (pc := 33) B dX0_doneOnes_33 rfl 0 rfl ?_
          refine kw_callV (pc := 34) B dX0_doneOnes_34 (ci := 7) rfl (ct_X8_isDone r2) q1855 q1014 q1015 q97 q1016 ⟨by decide, by decide, rfl⟩ (As := []) rfl (st := [kI x1]) rfl (Nat.le_of_ble_eq_true rfl) (by decide) (by decide) kw_qI (fun i3 => ?_)
          refine kw_callS (pc := 37) B dX0_doneOnes_37 (ct_X0_bit i3) q1856 q1007 q73 q1008 ⟨by decide, by decide, rfl⟩ (As := [kI i3]) rfl (st := [kI x1]) rfl (Nat.le_of_ble_eq_true rfl) (by decide) (by decide) kw_qI (fun i4 => ?_)
          refine kw_iadd (pc := 40) B dX0_doneOnes_40 ?_
          refine kw_istore_n (pc := 41) B dX0_doneOnes_41 rfl (by decide) (L2 := [(1, kI (x1 + i4)), (3, kA r2), (2, kA x2)]) rfl ?_
          refine kw_goto (pc := 42) (tgt := 13) B dX0_doneOnes_42 rfl ?_
          exact kw_pick [0, 2] rfl (ih (x1 + i4) x2)
        · intro q hq hk
          simp only [List.mem_cons, List.not_mem_nil, or_false] at hq
          rcases hq with rfl | rfl | rfl
          · exact kw_callF (pc := 23) B dX0_doneOnes_23 (ci := 11) rfl (ct_X12_next x2) q1275 q425 q427 q101 q429 q424 q423 q428 q426 q399 ⟨by decide, by decide, rfl⟩ (As := []) rfl (st := []) rfl (Nat.le_of_ble_eq_true rfl) (by decide) (by decide) kw_qA hk
          · exact kw_callF (pc := 23) B dX0_doneOnes_23 (ci := 33) rfl (ct_J5_next x2) q1275 q533 q535 q84 q537 q424 q423 q536 q534 q415 ⟨by decide, by decide, rfl⟩ (As := []) rfl (st := []) rfl (Nat.le_of_ble_eq_true rfl) (by decide) (by decide) kw_qA hk
          · exact kw_callF (pc := 23) B dX0_doneOnes_23 (ci := 34) rfl (ct_J15_next x2) q1275 q522 q524 q102 q526 q424 q423 q525 q523 q409 ⟨by decide, by decide, rfl⟩ (As := []) rfl (st := []) rfl (Nat.le_of_ble_eq_true rfl) (by decide) (by decide) kw_qA hk
    · intro q hq hk
      simp only [List.mem_cons, List.not_mem_nil, or_false] at hq
      rcases hq with rfl | rfl | rfl
      · exact kw_callF (pc := 14) B dX0_doneOnes_14 (ci := 11) rfl (ct_X12_hasNext x2) q1273 q400 q402 q101 q404 q398 q397 q403 q401 q399 ⟨by decide, by decide, rfl⟩ (As := []) rfl (st := []) rfl (Nat.le_of_ble_eq_true rfl) (by decide) (by decide) kw_qI hk
      · exact kw_callF (pc := 14) B dX0_doneOnes_14 (ci := 33) rfl (ct_J5_hasNext x2) q1273 q416 q418 q84 q420 q398 q397 q419 q417 q415 ⟨by decide, by decide, rfl⟩ (As := []) rfl (st := []) rfl (Nat.le_of_ble_eq_true rfl) (by decide) (by decide) kw_qI hk
      · exact kw_callF (pc := 14) B dX0_doneOnes_14 (ci := 34) rfl (ct_J15_hasNext x2) q1273 q410 q412 q102 q414 q398 q397 q413 q411 q409 ⟨by decide, by decide, rfl⟩ (As := []) rfl (st := []) rfl (Nat.le_of_ble_eq_true rfl) (by decide) (by decide) kw_qI hk
theorem wm_X0_doneOnes {E : kw_E} (B : kw_ok E cX0_doneOnes RX0 "doneOnes" 4 (some .int) 7 127 []) (a0 : Option Nat) : kw_W E kw_eI 0 [(0, kA a0)] [] (pm_X0_doneOnes a0) := by
  unfold pm_X0_doneOnes
  refine kw_iconst (pc := 0) B dX0_doneOnes_0 (v := (0 : Int32)) rfl ?_
  refine kw_istore_n (pc := 1) B dX0_doneOnes_1 rfl (by decide) (L2 := [(1, kI (0 : Int32)), (0, kA a0)]) rfl ?_
  refine kw_aload_n (pc := 2) B dX0_doneOnes_2 rfl 1 rfl ?_
  refine kw_gR (pc := 3) B dX0_doneOnes_3 fl_X0_17 (fun r1 => ?_)
  refine kw_gRN (pc := 6) B dX0_doneOnes_6 fl_X0_217 (fun r2 => ?_)
  refine kw_callV (pc := 9) B dX0_doneOnes_9 (ci := 30) rfl (ct_J2_iterator r2) q1896 q373 q374 q77 q375 ⟨by decide, by decide, rfl⟩ (As := []) rfl (st := []) rfl (Nat.le_of_ble_eq_true rfl) (by decide) (by decide) kw_qA (fun r3 => ?_)
  refine kw_astore_n (pc := 12) B dX0_doneOnes_12 rfl (by decide) (L2 := [(2, kA r3), (1, kI (0 : Int32)), (0, kA a0)]) rfl ?_
  exact kw_pick [1, 0] rfl (wb_X0_doneOnes_13 B km_fuel (0 : Int32) r3)
theorem ct_X0_doneOnes (a0 : Option Nat) (l : Launch) : kw_Met l yX0_doneOnes (ws_ yX0_doneOnes cX0_doneOnes 4 (some .int)) 7 127 [kA a0] kw_eI (pm_X0_doneOnes a0) := kw_met (plainFor_of_name rfl) (Nat.le_of_ble_eq_true rfl) (fun E B => wm_X0_doneOnes B a0) l

/-! RosaryCarvers sizes (Ljava/lang/Iterable;)I -/

theorem wb_X0_sizes_9 {E : kw_E} (B : kw_ok E cX0_sizes RX0 "sizes" 4 (some .int) 7 128 [])  : ∀ (n : Nat) (x1 : Int32) (x2 : Option Nat), kw_W E kw_eI 9 [(1, kI x1), (2, kA x2)] [] (pb_X0_sizes_9  n x1 x2) := by
  intro n
  induction n with
  | zero =>
    intro x1 x2
    exact kw_fail_ok
  | succ n ih =>
    intro x1 x2
    show kw_W E kw_eI 9 [(1, kI x1), (2, kA x2)] [] (
km_bind (km_disp x2 [(11, pm_X12_hasNext x2), (33, pm_J5_hasNext x2), (34, pm_J15_hasNext x2)]) fun i1 =>
if i1 = 0 then
(km_pure x1)
else
(km_bind (km_disp x2 [(11, pm_X12_next x2), (33, pm_J5_next x2), (34, pm_J15_next x2)]) fun r2 =>
km_bind (km_cast [2, 7, 12] r2) fun _ =>
km_bind (km_disp r2 [(2, pm_X2_size r2), (7, pm_X2_size r2), (12, pm_X2_size r2)]) fun i3 =>
pb_X0_sizes_9 n (x1 + i3) x2))
    refine kw_aload_n (pc := 9) B dX0_sizes_9 rfl 1 rfl ?_
    refine kw_disp (pc := 10) (pc' := 15) (st := []) kw_hI (fun i1 => ?_) ?_
    · refine kw_if_eq (pc := 15) (tgt := 38) B dX0_sizes_15 rfl ?_ ?_
      · refine kw_iload_n (pc := 38) B dX0_sizes_38 rfl 0 rfl ?_
        exact kw_iret B dX0_sizes_39 rfl
      · refine kw_aload_n (pc := 18) B dX0_sizes_18 rfl 1 rfl ?_
        refine kw_disp (pc := 19) (pc' := 24) (st := []) kw_hA (fun r2 => ?_) ?_
        · refine kw_cast_ok (pc := 24) B dX0_sizes_24 q1906 cs_RosaryCarvers_Beads ?_
          refine kw_astore_n (pc := 27) B dX0_sizes_27 rfl (by decide) (L2 := [(3, kA r2), (1, kI x1), (2, kA x2)]) rfl ?_
          refine kw_iload_n (pc := 28) B dX0_sizes_28 rfl 1 rfl ?_
          refine kw_aload_n (pc := 29) B dX0_sizes_29 rfl 0 rfl ?_
          refine kw_disp (pc := 30) (pc' := 33) (st := [kI x1]) kw_hI (fun i3 => ?_) ?_
          · refine kw_iadd (pc := 33) B dX0_sizes_33 ?_
            refine kw_istore_n (pc := 34) B dX0_sizes_34 rfl (by decide) (L2 := [(1, kI (x1 + i3)), (3, kA r2), (2, kA x2)]) rfl ?_
            refine kw_goto (pc := 35) (tgt := 9) B dX0_sizes_35 rfl ?_
            exact kw_pick [0, 2] rfl (ih (x1 + i3) x2)
          · intro q hq hk
            simp only [List.mem_cons, List.not_mem_nil, or_false] at hq
            rcases hq with rfl | rfl | rfl
            · exact kw_callV (pc := 30) B dX0_sizes_30 (ci := 2) rfl (ct_X2_size r2) q1924 q1108 q2786 q78 q1109 ⟨by decide, by decide, rfl⟩ (As := []) rfl (st := [kI x1]) rfl (Nat.le_of_ble_eq_true rfl) (by decide) (by decide) kw_qI hk
            · exact kw_callV (pc := 30) B dX0_sizes_30 (ci := 7) rfl (ct_X2_size r2) q1924 q1108 q2787 q78 q1109 ⟨by decide, by decide, rfl⟩ (As := []) rfl (st := [kI x1]) rfl (Nat.le_of_ble_eq_true rfl) (by decide) (by decide) kw_qI hk
            · exact kw_callV (pc := 30) B dX0_sizes_30 (ci := 12) rfl (ct_X2_size r2) q1924 q1108 q2788 q78 q1109 ⟨by decide, by decide, rfl⟩ (As := []) rfl (st := [kI x1]) rfl (Nat.le_of_ble_eq_true rfl) (by decide) (by decide) kw_qI hk
        · intro q hq hk
          simp only [List.mem_cons, List.not_mem_nil, or_false] at hq
          rcases hq with rfl | rfl | rfl
          · exact kw_callF (pc := 19) B dX0_sizes_19 (ci := 11) rfl (ct_X12_next x2) q1275 q425 q427 q101 q429 q424 q423 q428 q426 q399 ⟨by decide, by decide, rfl⟩ (As := []) rfl (st := []) rfl (Nat.le_of_ble_eq_true rfl) (by decide) (by decide) kw_qA hk
          · exact kw_callF (pc := 19) B dX0_sizes_19 (ci := 33) rfl (ct_J5_next x2) q1275 q533 q535 q84 q537 q424 q423 q536 q534 q415 ⟨by decide, by decide, rfl⟩ (As := []) rfl (st := []) rfl (Nat.le_of_ble_eq_true rfl) (by decide) (by decide) kw_qA hk
          · exact kw_callF (pc := 19) B dX0_sizes_19 (ci := 34) rfl (ct_J15_next x2) q1275 q522 q524 q102 q526 q424 q423 q525 q523 q409 ⟨by decide, by decide, rfl⟩ (As := []) rfl (st := []) rfl (Nat.le_of_ble_eq_true rfl) (by decide) (by decide) kw_qA hk
    · intro q hq hk
      simp only [List.mem_cons, List.not_mem_nil, or_false] at hq
      rcases hq with rfl | rfl | rfl
      · exact kw_callF (pc := 10) B dX0_sizes_10 (ci := 11) rfl (ct_X12_hasNext x2) q1273 q400 q402 q101 q404 q398 q397 q403 q401 q399 ⟨by decide, by decide, rfl⟩ (As := []) rfl (st := []) rfl (Nat.le_of_ble_eq_true rfl) (by decide) (by decide) kw_qI hk
      · exact kw_callF (pc := 10) B dX0_sizes_10 (ci := 33) rfl (ct_J5_hasNext x2) q1273 q416 q418 q84 q420 q398 q397 q419 q417 q415 ⟨by decide, by decide, rfl⟩ (As := []) rfl (st := []) rfl (Nat.le_of_ble_eq_true rfl) (by decide) (by decide) kw_qI hk
      · exact kw_callF (pc := 10) B dX0_sizes_10 (ci := 34) rfl (ct_J15_hasNext x2) q1273 q410 q412 q102 q414 q398 q397 q413 q411 q409 ⟨by decide, by decide, rfl⟩ (As := []) rfl (st := []) rfl (Nat.le_of_ble_eq_true rfl) (by decide) (by decide) kw_qI hk
theorem wm_X0_sizes {E : kw_E} (B : kw_ok E cX0_sizes RX0 "sizes" 4 (some .int) 7 128 []) (a0 : Option Nat) : kw_W E kw_eI 0 [(0, kA a0)] [] (pm_X0_sizes a0) := by
  unfold pm_X0_sizes
  refine kw_iconst (pc := 0) B dX0_sizes_0 (v := (0 : Int32)) rfl ?_
  refine kw_istore_n (pc := 1) B dX0_sizes_1 rfl (by decide) (L2 := [(1, kI (0 : Int32)), (0, kA a0)]) rfl ?_
  refine kw_aload_n (pc := 2) B dX0_sizes_2 rfl 1 rfl ?_
  refine kw_disp (pc := 3) (pc' := 8) (st := []) kw_hA (fun r1 => ?_) ?_
  · refine kw_astore_n (pc := 8) B dX0_sizes_8 rfl (by decide) (L2 := [(2, kA r1), (1, kI (0 : Int32)), (0, kA a0)]) rfl ?_
    exact kw_pick [1, 0] rfl (wb_X0_sizes_9 B km_fuel (0 : Int32) r1)
  · intro q hq hk
    simp only [List.mem_cons, List.not_mem_nil, or_false] at hq
    rcases hq with rfl | rfl | rfl | rfl | rfl | rfl
    · exact kw_callF (pc := 3) B dX0_sizes_3 (ci := 2) rfl (ct_X2_iterator a0) q1846 q906 q908 q78 q910 q904 q903 q909 q907 q905 ⟨by decide, by decide, rfl⟩ (As := []) rfl (st := []) rfl (Nat.le_of_ble_eq_true rfl) (by decide) (by decide) kw_qA hk
    · exact kw_callF (pc := 3) B dX0_sizes_3 (ci := 7) rfl (ct_X2_iterator a0) q1846 q934 q908 q78 q910 q904 q903 q909 q935 q933 ⟨by decide, by decide, rfl⟩ (As := []) rfl (st := []) rfl (Nat.le_of_ble_eq_true rfl) (by decide) (by decide) kw_qA hk
    · exact kw_callF (pc := 3) B dX0_sizes_3 (ci := 10) rfl (ct_X11_iterator a0) q1846 q913 q915 q100 q917 q904 q903 q916 q914 q912 ⟨by decide, by decide, rfl⟩ (As := []) rfl (st := []) rfl (Nat.le_of_ble_eq_true rfl) (by decide) (by decide) kw_qA hk
    · exact kw_callF (pc := 3) B dX0_sizes_3 (ci := 12) rfl (ct_X2_iterator a0) q1846 q937 q908 q78 q910 q904 q903 q909 q938 q936 ⟨by decide, by decide, rfl⟩ (As := []) rfl (st := []) rfl (Nat.le_of_ble_eq_true rfl) (by decide) (by decide) kw_qA hk
    · exact kw_callF (pc := 3) B dX0_sizes_3 (ci := 30) rfl (ct_J2_iterator a0) q1846 q972 q373 q77 q375 q904 q903 q974 q973 q971 ⟨by decide, by decide, rfl⟩ (As := []) rfl (st := []) rfl (Nat.le_of_ble_eq_true rfl) (by decide) (by decide) kw_qA hk
    · exact kw_callF (pc := 3) B dX0_sizes_3 (ci := 32) rfl (ct_J4_iterator a0) q1846 q940 q942 q80 q944 q904 q903 q943 q941 q939 ⟨by decide, by decide, rfl⟩ (As := []) rfl (st := []) rfl (Nat.le_of_ble_eq_true rfl) (by decide) (by decide) kw_qA hk
theorem ct_X0_sizes (a0 : Option Nat) (l : Launch) : kw_Met l yX0_sizes (ws_ yX0_sizes cX0_sizes 4 (some .int)) 7 128 [kA a0] kw_eI (pm_X0_sizes a0) := kw_met (plainFor_of_name rfl) (Nat.le_of_ble_eq_true rfl) (fun E B => wm_X0_sizes B a0) l

/-! RosaryCarvers account (I)I -/
theorem fl_X0_329 : kw_flN RX0 329 "RosaryCarvers$Shop" "RosaryCarvers" [(1, 9)] := (kw_flN_c (C := RX1) (T := TX1) (N := 17) rfl (by decide) in_X1 q232 (Or.inl rfl) kw_flN_nil)
theorem fl_X0_338 : kw_flN RX0 338 "RosaryCarvers$Shop" "RosaryCarvers" [(1, 12)] := (kw_flN_c (C := RX1) (T := TX1) (N := 17) rfl (by decide) in_X1 q238 (Or.inl rfl) kw_flN_nil)
theorem fl_X0_341 : kw_flN RX0 341 "RosaryCarvers$Shop" "RosaryCarvers" [(1, 13)] := (kw_flN_c (C := RX1) (T := TX1) (N := 17) rfl (by decide) in_X1 q240 (Or.inl rfl) kw_flN_nil)
theorem fl_X0_344 : kw_flN RX0 344 "RosaryCarvers$Shop" "RosaryCarvers" [(1, 14)] := (kw_flN_c (C := RX1) (T := TX1) (N := 17) rfl (by decide) in_X1 q242 (Or.inl rfl) kw_flN_nil)
theorem fl_X0_345 : kw_fl RX0 345 "RosaryCarvers" [(0, 6)] := (kw_fl_c (C := RX0) (T := TX0) (N := 8) rfl (by decide) in_X0 q314 (Or.inl rfl) kw_fl_nil)
theorem wm_X0_account {E : kw_E} (B : kw_ok E cX0_account RX0 "account" 2 (some .int) 8 151 []) (a0 : Option Nat) (a1 : Int32) : kw_W E kw_eI 0 [(0, kA a0), (1, kI a1)] [] (pm_X0_account a0 a1) := by
  unfold pm_X0_account
  refine kw_iload_n (pc := 0) B dX0_account_0 rfl 1 rfl ?_
  refine kw_tsw (pc := 1) (tgt := 289) B dX0_account_1 rfl rfl ⟨⟨100, rfl, ?_⟩, ⟨108, rfl, ?_⟩, ⟨119, rfl, ?_⟩, ⟨127, rfl, ?_⟩, ⟨138, rfl, ?_⟩, ⟨149, rfl, ?_⟩, ⟨160, rfl, ?_⟩, ⟨168, rfl, ?_⟩, ⟨176, rfl, ?_⟩, ⟨187, rfl, ?_⟩, ⟨192, rfl, ?_⟩, ⟨203, rfl, ?_⟩, ⟨214, rfl, ?_⟩, ⟨222, rfl, ?_⟩, ⟨233, rfl, ?_⟩, ⟨244, rfl, ?_⟩, ⟨252, rfl, ?_⟩, ⟨260, rfl, ?_⟩, ⟨268, rfl, ?_⟩, ⟨276, rfl, ?_⟩, ⟨281, rfl, ?_⟩, trivial⟩ ?_
  · refine kw_aload_n (pc := 100) B dX0_account_100 rfl 0 rfl ?_
    refine kw_gR (pc := 101) B dX0_account_101 fl_X0_17 (fun r1 => ?_)
    refine kw_gIN (pc := 104) B dX0_account_104 fl_X0_255 (fun i2 => ?_)
    exact kw_iret B dX0_account_107 rfl
  · refine kw_aload_n (pc := 108) B dX0_account_108 rfl 0 rfl ?_
    refine kw_gR (pc := 109) B dX0_account_109 fl_X0_17 (fun r3 => ?_)
    refine kw_gIN (pc := 112) B dX0_account_112 fl_X0_255 (fun i4 => ?_)
    refine kw_callS (pc := 115) B dX0_account_115 (ct_X0_seasonOf i4) q1934 q828 q73 q829 ⟨by decide, by decide, rfl⟩ (As := [kI i4]) rfl (st := []) rfl (Nat.le_of_ble_eq_true rfl) (by decide) (by decide) kw_qI (fun i5 => ?_)
    exact kw_iret B dX0_account_118 rfl
  · refine kw_aload_n (pc := 119) B dX0_account_119 rfl 0 rfl ?_
    refine kw_gR (pc := 120) B dX0_account_120 fl_X0_17 (fun r6 => ?_)
    refine kw_gIN (pc := 123) B dX0_account_123 fl_X0_329 (fun i7 => ?_)
    exact kw_iret B dX0_account_126 rfl
  · refine kw_aload_n (pc := 127) B dX0_account_127 rfl 0 rfl ?_
    refine kw_gR (pc := 128) B dX0_account_128 fl_X0_17 (fun r8 => ?_)
    refine kw_gRN (pc := 131) B dX0_account_131 fl_X0_127 (fun r9 => ?_)
    refine kw_callV (pc := 134) B dX0_account_134 (ci := 30) rfl (ct_J2_size r9) q1876 q406 q407 q77 q408 ⟨by decide, by decide, rfl⟩ (As := []) rfl (st := []) rfl (Nat.le_of_ble_eq_true rfl) (by decide) (by decide) kw_qI (fun i10 => ?_)
    exact kw_iret B dX0_account_137 rfl
  · refine kw_aload_n (pc := 138) B dX0_account_138 rfl 0 rfl ?_
    refine kw_gR (pc := 139) B dX0_account_139 fl_X0_17 (fun r11 => ?_)
    refine kw_gRN (pc := 142) B dX0_account_142 fl_X0_158 (fun r12 => ?_)
    refine kw_callV (pc := 145) B dX0_account_145 (ci := 30) rfl (ct_J2_size r12) q1876 q406 q407 q77 q408 ⟨by decide, by decide, rfl⟩ (As := []) rfl (st := []) rfl (Nat.le_of_ble_eq_true rfl) (by decide) (by decide) kw_qI (fun i13 => ?_)
    exact kw_iret B dX0_account_148 rfl
  · refine kw_aload_n (pc := 149) B dX0_account_149 rfl 0 rfl ?_
    refine kw_gR (pc := 150) B dX0_account_150 fl_X0_17 (fun r14 => ?_)
    refine kw_gRN (pc := 153) B dX0_account_153 fl_X0_169 (fun r15 => ?_)
    refine kw_disp (pc := 156) (pc' := 159) (st := []) kw_hI (fun i16 => ?_) ?_
    · exact kw_iret B dX0_account_159 rfl
    · intro q hq hk
      simp only [List.mem_cons, List.not_mem_nil, or_false] at hq
      rcases hq with rfl | rfl | rfl
      · exact kw_callV (pc := 156) B dX0_account_156 (ci := 2) rfl (ct_X2_size r15) q1924 q1108 q2786 q78 q1109 ⟨by decide, by decide, rfl⟩ (As := []) rfl (st := []) rfl (Nat.le_of_ble_eq_true rfl) (by decide) (by decide) kw_qI hk
      · exact kw_callV (pc := 156) B dX0_account_156 (ci := 7) rfl (ct_X2_size r15) q1924 q1108 q2787 q78 q1109 ⟨by decide, by decide, rfl⟩ (As := []) rfl (st := []) rfl (Nat.le_of_ble_eq_true rfl) (by decide) (by decide) kw_qI hk
      · exact kw_callV (pc := 156) B dX0_account_156 (ci := 12) rfl (ct_X2_size r15) q1924 q1108 q2788 q78 q1109 ⟨by decide, by decide, rfl⟩ (As := []) rfl (st := []) rfl (Nat.le_of_ble_eq_true rfl) (by decide) (by decide) kw_qI hk
  · refine kw_aload_n (pc := 160) B dX0_account_160 rfl 0 rfl ?_
    refine kw_gR (pc := 161) B dX0_account_161 fl_X0_17 (fun r17 => ?_)
    refine kw_gIN (pc := 164) B dX0_account_164 fl_X0_319 (fun i18 => ?_)
    exact kw_iret B dX0_account_167 rfl
  · refine kw_aload_n (pc := 168) B dX0_account_168 rfl 0 rfl ?_
    refine kw_gR (pc := 169) B dX0_account_169 fl_X0_17 (fun r19 => ?_)
    refine kw_gIN (pc := 172) B dX0_account_172 fl_X0_325 (fun i20 => ?_)
    exact kw_iret B dX0_account_175 rfl
  · refine kw_aload_n (pc := 176) B dX0_account_176 rfl 0 rfl ?_
    refine kw_gR (pc := 177) B dX0_account_177 fl_X0_17 (fun r21 => ?_)
    refine kw_gRN (pc := 180) B dX0_account_180 fl_X0_217 (fun r22 => ?_)
    refine kw_callV (pc := 183) B dX0_account_183 (ci := 30) rfl (ct_J2_size r22) q1876 q406 q407 q77 q408 ⟨by decide, by decide, rfl⟩ (As := []) rfl (st := []) rfl (Nat.le_of_ble_eq_true rfl) (by decide) (by decide) kw_qI (fun i23 => ?_)
    exact kw_iret B dX0_account_186 rfl
  · refine kw_aload_n (pc := 187) B dX0_account_187 rfl 0 rfl ?_
    refine kw_callV (pc := 188) B dX0_account_188 (ci := 0) rfl (ct_X0_doneOnes a0) q1935 q1937 qs18 q73 q1938 ⟨by decide, by decide, rfl⟩ (As := []) rfl (st := []) rfl (Nat.le_of_ble_eq_true rfl) (by decide) (by decide) kw_qI (fun i24 => ?_)
    exact kw_iret B dX0_account_191 rfl
  · refine kw_aload_n (pc := 192) B dX0_account_192 rfl 0 rfl ?_
    refine kw_gR (pc := 193) B dX0_account_193 fl_X0_17 (fun r25 => ?_)
    refine kw_gRN (pc := 196) B dX0_account_196 fl_X0_217 (fun r26 => ?_)
    refine kw_callS (pc := 199) B dX0_account_199 (ct_X0_sizes r26) q1939 q1940 q73 q1941 ⟨by decide, by decide, rfl⟩ (As := [kA r26]) rfl (st := []) rfl (Nat.le_of_ble_eq_true rfl) (by decide) (by decide) kw_qI (fun i27 => ?_)
    exact kw_iret B dX0_account_202 rfl
  · refine kw_aload_n (pc := 203) B dX0_account_203 rfl 0 rfl ?_
    refine kw_gR (pc := 204) B dX0_account_204 fl_X0_17 (fun r28 => ?_)
    refine kw_gRN (pc := 207) B dX0_account_207 fl_X0_246 (fun r29 => ?_)
    refine kw_callV (pc := 210) B dX0_account_210 (ci := 30) rfl (ct_J2_size r29) q1876 q406 q407 q77 q408 ⟨by decide, by decide, rfl⟩ (As := []) rfl (st := []) rfl (Nat.le_of_ble_eq_true rfl) (by decide) (by decide) kw_qI (fun i30 => ?_)
    exact kw_iret B dX0_account_213 rfl
  · refine kw_aload_n (pc := 214) B dX0_account_214 rfl 0 rfl ?_
    refine kw_gR (pc := 215) B dX0_account_215 fl_X0_17 (fun r31 => ?_)
    refine kw_gIN (pc := 218) B dX0_account_218 fl_X0_338 (fun i32 => ?_)
    exact kw_iret B dX0_account_221 rfl
  · refine kw_aload_n (pc := 222) B dX0_account_222 rfl 0 rfl ?_
    refine kw_gR (pc := 223) B dX0_account_223 fl_X0_17 (fun r33 => ?_)
    refine kw_gRN (pc := 226) B dX0_account_226 fl_X0_268 (fun r34 => ?_)
    refine kw_callV (pc := 229) B dX0_account_229 (ci := 30) rfl (ct_J2_size r34) q1876 q406 q407 q77 q408 ⟨by decide, by decide, rfl⟩ (As := []) rfl (st := []) rfl (Nat.le_of_ble_eq_true rfl) (by decide) (by decide) kw_qI (fun i35 => ?_)
    exact kw_iret B dX0_account_232 rfl
  · refine kw_aload_n (pc := 233) B dX0_account_233 rfl 0 rfl ?_
    refine kw_gR (pc := 234) B dX0_account_234 fl_X0_17 (fun r36 => ?_)
    refine kw_gRN (pc := 237) B dX0_account_237 fl_X0_265 (fun r37 => ?_)
    refine kw_callV (pc := 240) B dX0_account_240 (ci := 30) rfl (ct_J2_size r37) q1876 q406 q407 q77 q408 ⟨by decide, by decide, rfl⟩ (As := []) rfl (st := []) rfl (Nat.le_of_ble_eq_true rfl) (by decide) (by decide) kw_qI (fun i38 => ?_)
    exact kw_iret B dX0_account_243 rfl
  · refine kw_aload_n (pc := 244) B dX0_account_244 rfl 0 rfl ?_
    refine kw_gR (pc := 245) B dX0_account_245 fl_X0_17 (fun r39 => ?_)
    refine kw_gIN (pc := 248) B dX0_account_248 fl_X0_341 (fun i40 => ?_)
    exact kw_iret B dX0_account_251 rfl
  · refine kw_aload_n (pc := 252) B dX0_account_252 rfl 0 rfl ?_
    refine kw_gR (pc := 253) B dX0_account_253 fl_X0_17 (fun r41 => ?_)
    refine kw_gIN (pc := 256) B dX0_account_256 fl_X0_344 (fun i42 => ?_)
    exact kw_iret B dX0_account_259 rfl
  · refine kw_aload_n (pc := 260) B dX0_account_260 rfl 0 rfl ?_
    refine kw_gR (pc := 261) B dX0_account_261 fl_X0_17 (fun r43 => ?_)
    refine kw_gIN (pc := 264) B dX0_account_264 fl_X0_314 (fun i44 => ?_)
    exact kw_iret B dX0_account_267 rfl
  · refine kw_aload_n (pc := 268) B dX0_account_268 rfl 0 rfl ?_
    refine kw_gR (pc := 269) B dX0_account_269 fl_X0_17 (fun r45 => ?_)
    refine kw_gIN (pc := 272) B dX0_account_272 fl_X0_316 (fun i46 => ?_)
    exact kw_iret B dX0_account_275 rfl
  · refine kw_aload_n (pc := 276) B dX0_account_276 rfl 0 rfl ?_
    refine kw_gI (pc := 277) B dX0_account_277 fl_X0_345 (fun i47 => ?_)
    exact kw_iret B dX0_account_280 rfl
  · refine kw_aload_n (pc := 281) B dX0_account_281 rfl 0 rfl ?_
    refine kw_gR (pc := 282) B dX0_account_282 fl_X0_24 (fun r48 => ?_)
    refine kw_callV (pc := 285) B dX0_account_285 (ci := 32) rfl (ct_J4_size r48) q1942 q952 q953 q80 q954 ⟨by decide, by decide, rfl⟩ (As := []) rfl (st := []) rfl (Nat.le_of_ble_eq_true rfl) (by decide) (by decide) kw_qI (fun i49 => ?_)
    exact kw_iret B dX0_account_288 rfl
  · refine kw_bipush (pc := 289) B dX0_account_289 (v := (-2 : Int32)) rfl ?_
    exact kw_iret B dX0_account_291 rfl
theorem ct_X0_account (a0 : Option Nat) (a1 : Int32) (l : Launch) : kw_Met l yX0_account (ws_ yX0_account cX0_account 2 (some .int)) 8 151 [kA a0, kI a1] kw_eI (pm_X0_account a0 a1) := kw_met (plainFor_of_name rfl) (Nat.le_of_ble_eq_true rfl) (fun E B => wm_X0_account B a0 a1) l

/-! RosaryCarversModel doneOnes ()I -/

theorem wb_X3_doneOnes_29 {E : kw_E} (B : kw_ok E cX3_doneOnes RX3 "doneOnes" 3 (some .int) 4 64 []) {k4 : Option Nat → Int32 → Int32 → km_M Int32} (h4 : ∀ (y0 : Option Nat) (y1 : Int32) (y2 : Int32), kw_W E kw_eI 4 [(0, kA y0), (1, kI y1), (2, kI y2)] [] (k4 y0 y1 y2)) (x0 : Option Nat) (x2 : Int32) (s0 : Int32) (s1 : Int32) : kw_W E kw_eI 29 [(0, kA x0), (2, kI x2)] [kI s0, kI s1] (pb_X3_doneOnes_29 k4 x0 x2 s0 s1) := by
  unfold pb_X3_doneOnes_29
  refine kw_iadd (pc := 29) B dX3_doneOnes_29 ?_
  refine kw_istore_n (pc := 30) B dX3_doneOnes_30 rfl (by decide) (L2 := [(1, kI (s1 + s0)), (0, kA x0), (2, kI x2)]) rfl ?_
  refine kw_iinc (pc := 31) B dX3_doneOnes_31 2 rfl (w := x2 + (1 : Int32)) rfl (by decide) (L2 := [(2, kI (x2 + (1 : Int32))), (1, kI (s1 + s0)), (0, kA x0)]) rfl ?_
  refine kw_goto (pc := 34) (tgt := 4) B dX3_doneOnes_34 rfl ?_
  exact kw_pick [2, 1, 0] rfl (h4 x0 (s1 + s0) (x2 + (1 : Int32)))
theorem wb_X3_doneOnes_4 {E : kw_E} (B : kw_ok E cX3_doneOnes RX3 "doneOnes" 3 (some .int) 4 64 [])  : ∀ (n : Nat) (x0 : Option Nat) (x1 : Int32) (x2 : Int32), kw_W E kw_eI 4 [(0, kA x0), (1, kI x1), (2, kI x2)] [] (pb_X3_doneOnes_4  n x0 x1 x2) := by
  intro n
  induction n with
  | zero =>
    intro x0 x1 x2
    exact kw_fail_ok
  | succ n ih =>
    intro x0 x1 x2
    show kw_W E kw_eI 4 [(0, kA x0), (1, kI x1), (2, kI x2)] [] (
km_bind (km_gR [(3, 0)] x0) fun r1 =>
km_bind (km_ldI 0 r1 (12 : Int32)) fun i2 =>
if i2 ≤ x2 then
(km_pure x1)
else
(km_bind (km_is 3 x0) fun _ => km_bind (pm_X3_isDone x0 x2) fun i3 =>
if i3 = 0 then
(pb_X3_doneOnes_29 (pb_X3_doneOnes_4 n) x0 x2 (0 : Int32) x1)
else
(pb_X3_doneOnes_29 (pb_X3_doneOnes_4 n) x0 x2 (1 : Int32) x1)))
    refine kw_iload_n (pc := 4) B dX3_doneOnes_4 rfl 2 rfl ?_
    refine kw_aload_n (pc := 5) B dX3_doneOnes_5 rfl 0 rfl ?_
    refine kw_gR (pc := 6) B dX3_doneOnes_6 fl_X3_9 (fun r1 => ?_)
    refine kw_bipush (pc := 9) B dX3_doneOnes_9 (v := (12 : Int32)) rfl ?_
    refine kw_iald (pc := 11) B dX3_doneOnes_11 (fun i2 => ?_)
    refine kw_icmp_ge (pc := 12) (tgt := 37) B dX3_doneOnes_12 rfl ?_ ?_
    · refine kw_iload_n (pc := 37) B dX3_doneOnes_37 rfl 1 rfl ?_
      exact kw_iret B dX3_doneOnes_38 rfl
    · refine kw_iload_n (pc := 15) B dX3_doneOnes_15 rfl 1 rfl ?_
      refine kw_aload_n (pc := 16) B dX3_doneOnes_16 rfl 0 rfl ?_
      refine kw_iload_n (pc := 17) B dX3_doneOnes_17 rfl 2 rfl ?_
      refine kw_callV (pc := 18) B dX3_doneOnes_18 (ci := 3) rfl (ct_X3_isDone x0 x2) q2539 q2541 qs41 q81 q2542 ⟨by decide, by decide, rfl⟩ (As := [kI x2]) rfl (st := [kI x1]) rfl (Nat.le_of_ble_eq_true rfl) (by decide) (by decide) kw_qI (fun i3 => ?_)
      refine kw_if_eq (pc := 21) (tgt := 28) B dX3_doneOnes_21 rfl ?_ ?_
      · refine kw_iconst (pc := 28) B dX3_doneOnes_28 (v := (0 : Int32)) rfl ?_
        exact kw_pick [0, 2] rfl (wb_X3_doneOnes_29 B ih x0 x2 (0 : Int32) x1)
      · refine kw_iconst (pc := 24) B dX3_doneOnes_24 (v := (1 : Int32)) rfl ?_
        refine kw_goto (pc := 25) (tgt := 29) B dX3_doneOnes_25 rfl ?_
        exact kw_pick [0, 2] rfl (wb_X3_doneOnes_29 B ih x0 x2 (1 : Int32) x1)
theorem wm_X3_doneOnes {E : kw_E} (B : kw_ok E cX3_doneOnes RX3 "doneOnes" 3 (some .int) 4 64 []) (a0 : Option Nat) : kw_W E kw_eI 0 [(0, kA a0)] [] (pm_X3_doneOnes a0) := by
  unfold pm_X3_doneOnes
  refine kw_iconst (pc := 0) B dX3_doneOnes_0 (v := (0 : Int32)) rfl ?_
  refine kw_istore_n (pc := 1) B dX3_doneOnes_1 rfl (by decide) (L2 := [(1, kI (0 : Int32)), (0, kA a0)]) rfl ?_
  refine kw_iconst (pc := 2) B dX3_doneOnes_2 (v := (0 : Int32)) rfl ?_
  refine kw_istore_n (pc := 3) B dX3_doneOnes_3 rfl (by decide) (L2 := [(2, kI (0 : Int32)), (1, kI (0 : Int32)), (0, kA a0)]) rfl ?_
  exact kw_pick [2, 1, 0] rfl (wb_X3_doneOnes_4 B km_fuel a0 (0 : Int32) (0 : Int32))
theorem ct_X3_doneOnes (a0 : Option Nat) (l : Launch) : kw_Met l yX3_doneOnes (ws_ yX3_doneOnes cX3_doneOnes 3 (some .int)) 4 64 [kA a0] kw_eI (pm_X3_doneOnes a0) := kw_met (plainFor_of_name rfl) (Nat.le_of_ble_eq_true rfl) (fun E B => wm_X3_doneOnes B a0) l

/-! RosaryCarversModel account (I)I -/
theorem fl_X3_234 : kw_fl RX3 234 "RosaryCarversModel" [(3, 13)] := (kw_fl_c (C := RX3) (T := TX3) (N := 18) rfl (by decide) in_X3 q2369 (Or.inl rfl) kw_fl_nil)
theorem wm_X3_account {E : kw_E} (B : kw_ok E cX3_account RX3 "account" 2 (some .int) 5 86 []) (a0 : Option Nat) (a1 : Int32) : kw_W E kw_eI 0 [(0, kA a0), (1, kI a1)] [] (pm_X3_account a0 a1) := by
  unfold pm_X3_account
  refine kw_iload_n (pc := 0) B dX3_account_0 rfl 1 rfl ?_
  refine kw_tsw (pc := 1) (tgt := 252) B dX3_account_1 rfl rfl ⟨⟨100, rfl, ?_⟩, ⟨107, rfl, ?_⟩, ⟨117, rfl, ?_⟩, ⟨124, rfl, ?_⟩, ⟨132, rfl, ?_⟩, ⟨140, rfl, ?_⟩, ⟨148, rfl, ?_⟩, ⟨155, rfl, ?_⟩, ⟨162, rfl, ?_⟩, ⟨170, rfl, ?_⟩, ⟨175, rfl, ?_⟩, ⟨180, rfl, ?_⟩, ⟨188, rfl, ?_⟩, ⟨195, rfl, ?_⟩, ⟨203, rfl, ?_⟩, ⟨211, rfl, ?_⟩, ⟨218, rfl, ?_⟩, ⟨226, rfl, ?_⟩, ⟨234, rfl, ?_⟩, ⟨242, rfl, ?_⟩, ⟨247, rfl, ?_⟩, trivial⟩ ?_
  · refine kw_aload_n (pc := 100) B dX3_account_100 rfl 0 rfl ?_
    refine kw_gR (pc := 101) B dX3_account_101 fl_X3_9 (fun r1 => ?_)
    refine kw_iconst (pc := 104) B dX3_account_104 (v := (0 : Int32)) rfl ?_
    refine kw_iald (pc := 105) B dX3_account_105 (fun i2 => ?_)
    exact kw_iret B dX3_account_106 rfl
  · refine kw_aload_n (pc := 107) B dX3_account_107 rfl 0 rfl ?_
    refine kw_gR (pc := 108) B dX3_account_108 fl_X3_9 (fun r3 => ?_)
    refine kw_iconst (pc := 111) B dX3_account_111 (v := (0 : Int32)) rfl ?_
    refine kw_iald (pc := 112) B dX3_account_112 (fun i4 => ?_)
    refine kw_callS (pc := 113) B dX3_account_113 (ct_X3_season i4) q2597 q2598 q81 q2599 ⟨by decide, by decide, rfl⟩ (As := [kI i4]) rfl (st := []) rfl (Nat.le_of_ble_eq_true rfl) (by decide) (by decide) kw_qI (fun i5 => ?_)
    exact kw_iret B dX3_account_116 rfl
  · refine kw_aload_n (pc := 117) B dX3_account_117 rfl 0 rfl ?_
    refine kw_gR (pc := 118) B dX3_account_118 fl_X3_9 (fun r6 => ?_)
    refine kw_iconst (pc := 121) B dX3_account_121 (v := (1 : Int32)) rfl ?_
    refine kw_iald (pc := 122) B dX3_account_122 (fun i7 => ?_)
    exact kw_iret B dX3_account_123 rfl
  · refine kw_aload_n (pc := 124) B dX3_account_124 rfl 0 rfl ?_
    refine kw_gR (pc := 125) B dX3_account_125 fl_X3_9 (fun r8 => ?_)
    refine kw_bipush (pc := 128) B dX3_account_128 (v := (9 : Int32)) rfl ?_
    refine kw_iald (pc := 130) B dX3_account_130 (fun i9 => ?_)
    exact kw_iret B dX3_account_131 rfl
  · refine kw_aload_n (pc := 132) B dX3_account_132 rfl 0 rfl ?_
    refine kw_gR (pc := 133) B dX3_account_133 fl_X3_9 (fun r10 => ?_)
    refine kw_bipush (pc := 136) B dX3_account_136 (v := (10 : Int32)) rfl ?_
    refine kw_iald (pc := 138) B dX3_account_138 (fun i11 => ?_)
    exact kw_iret B dX3_account_139 rfl
  · refine kw_aload_n (pc := 140) B dX3_account_140 rfl 0 rfl ?_
    refine kw_gR (pc := 141) B dX3_account_141 fl_X3_9 (fun r12 => ?_)
    refine kw_bipush (pc := 144) B dX3_account_144 (v := (11 : Int32)) rfl ?_
    refine kw_iald (pc := 146) B dX3_account_146 (fun i13 => ?_)
    exact kw_iret B dX3_account_147 rfl
  · refine kw_aload_n (pc := 148) B dX3_account_148 rfl 0 rfl ?_
    refine kw_gR (pc := 149) B dX3_account_149 fl_X3_9 (fun r14 => ?_)
    refine kw_iconst (pc := 152) B dX3_account_152 (v := (2 : Int32)) rfl ?_
    refine kw_iald (pc := 153) B dX3_account_153 (fun i15 => ?_)
    exact kw_iret B dX3_account_154 rfl
  · refine kw_aload_n (pc := 155) B dX3_account_155 rfl 0 rfl ?_
    refine kw_gR (pc := 156) B dX3_account_156 fl_X3_9 (fun r16 => ?_)
    refine kw_iconst (pc := 159) B dX3_account_159 (v := (3 : Int32)) rfl ?_
    refine kw_iald (pc := 160) B dX3_account_160 (fun i17 => ?_)
    exact kw_iret B dX3_account_161 rfl
  · refine kw_aload_n (pc := 162) B dX3_account_162 rfl 0 rfl ?_
    refine kw_gR (pc := 163) B dX3_account_163 fl_X3_9 (fun r18 => ?_)
    refine kw_bipush (pc := 166) B dX3_account_166 (v := (12 : Int32)) rfl ?_
    refine kw_iald (pc := 168) B dX3_account_168 (fun i19 => ?_)
    exact kw_iret B dX3_account_169 rfl
  · refine kw_aload_n (pc := 170) B dX3_account_170 rfl 0 rfl ?_
    refine kw_callV (pc := 171) B dX3_account_171 (ci := 3) rfl (ct_X3_doneOnes a0) q2704 q2706 qs62 q81 q2707 ⟨by decide, by decide, rfl⟩ (As := []) rfl (st := []) rfl (Nat.le_of_ble_eq_true rfl) (by decide) (by decide) kw_qI (fun i20 => ?_)
    exact kw_iret B dX3_account_174 rfl
  · refine kw_aload_n (pc := 175) B dX3_account_175 rfl 0 rfl ?_
    refine kw_callV (pc := 176) B dX3_account_176 (ci := 3) rfl (ct_X3_onStrings a0) q2684 q2686 qs60 q81 q2687 ⟨by decide, by decide, rfl⟩ (As := []) rfl (st := []) rfl (Nat.le_of_ble_eq_true rfl) (by decide) (by decide) kw_qI (fun i21 => ?_)
    exact kw_iret B dX3_account_179 rfl
  · refine kw_aload_n (pc := 180) B dX3_account_180 rfl 0 rfl ?_
    refine kw_gR (pc := 181) B dX3_account_181 fl_X3_9 (fun r22 => ?_)
    refine kw_bipush (pc := 184) B dX3_account_184 (v := (13 : Int32)) rfl ?_
    refine kw_iald (pc := 186) B dX3_account_186 (fun i23 => ?_)
    exact kw_iret B dX3_account_187 rfl
  · refine kw_aload_n (pc := 188) B dX3_account_188 rfl 0 rfl ?_
    refine kw_gR (pc := 189) B dX3_account_189 fl_X3_9 (fun r24 => ?_)
    refine kw_iconst (pc := 192) B dX3_account_192 (v := (4 : Int32)) rfl ?_
    refine kw_iald (pc := 193) B dX3_account_193 (fun i25 => ?_)
    exact kw_iret B dX3_account_194 rfl
  · refine kw_aload_n (pc := 195) B dX3_account_195 rfl 0 rfl ?_
    refine kw_gR (pc := 196) B dX3_account_196 fl_X3_9 (fun r26 => ?_)
    refine kw_bipush (pc := 199) B dX3_account_199 (v := (14 : Int32)) rfl ?_
    refine kw_iald (pc := 201) B dX3_account_201 (fun i27 => ?_)
    exact kw_iret B dX3_account_202 rfl
  · refine kw_aload_n (pc := 203) B dX3_account_203 rfl 0 rfl ?_
    refine kw_gR (pc := 204) B dX3_account_204 fl_X3_9 (fun r28 => ?_)
    refine kw_bipush (pc := 207) B dX3_account_207 (v := (15 : Int32)) rfl ?_
    refine kw_iald (pc := 209) B dX3_account_209 (fun i29 => ?_)
    exact kw_iret B dX3_account_210 rfl
  · refine kw_aload_n (pc := 211) B dX3_account_211 rfl 0 rfl ?_
    refine kw_gR (pc := 212) B dX3_account_212 fl_X3_9 (fun r30 => ?_)
    refine kw_iconst (pc := 215) B dX3_account_215 (v := (5 : Int32)) rfl ?_
    refine kw_iald (pc := 216) B dX3_account_216 (fun i31 => ?_)
    exact kw_iret B dX3_account_217 rfl
  · refine kw_aload_n (pc := 218) B dX3_account_218 rfl 0 rfl ?_
    refine kw_gR (pc := 219) B dX3_account_219 fl_X3_9 (fun r32 => ?_)
    refine kw_bipush (pc := 222) B dX3_account_222 (v := (6 : Int32)) rfl ?_
    refine kw_iald (pc := 224) B dX3_account_224 (fun i33 => ?_)
    exact kw_iret B dX3_account_225 rfl
  · refine kw_aload_n (pc := 226) B dX3_account_226 rfl 0 rfl ?_
    refine kw_gR (pc := 227) B dX3_account_227 fl_X3_9 (fun r34 => ?_)
    refine kw_bipush (pc := 230) B dX3_account_230 (v := (7 : Int32)) rfl ?_
    refine kw_iald (pc := 232) B dX3_account_232 (fun i35 => ?_)
    exact kw_iret B dX3_account_233 rfl
  · refine kw_aload_n (pc := 234) B dX3_account_234 rfl 0 rfl ?_
    refine kw_gR (pc := 235) B dX3_account_235 fl_X3_9 (fun r36 => ?_)
    refine kw_bipush (pc := 238) B dX3_account_238 (v := (8 : Int32)) rfl ?_
    refine kw_iald (pc := 240) B dX3_account_240 (fun i37 => ?_)
    exact kw_iret B dX3_account_241 rfl
  · refine kw_aload_n (pc := 242) B dX3_account_242 rfl 0 rfl ?_
    refine kw_gI (pc := 243) B dX3_account_243 fl_X3_234 (fun i38 => ?_)
    exact kw_iret B dX3_account_246 rfl
  · refine kw_aload_n (pc := 247) B dX3_account_247 rfl 0 rfl ?_
    refine kw_gI (pc := 248) B dX3_account_248 fl_X3_67 (fun i39 => ?_)
    exact kw_iret B dX3_account_251 rfl
  · refine kw_bipush (pc := 252) B dX3_account_252 (v := (-2 : Int32)) rfl ?_
    exact kw_iret B dX3_account_254 rfl
theorem ct_X3_account (a0 : Option Nat) (a1 : Int32) (l : Launch) : kw_Met l yX3_account (ws_ yX3_account cX3_account 2 (some .int)) 5 86 [kA a0, kI a1] kw_eI (pm_X3_account a0 a1) := kw_met (plainFor_of_name rfl) (Nat.le_of_ble_eq_true rfl) (fun E B => wm_X3_account B a0 a1) l

/-! java/lang/AbstractStringBuilder <init> (I)V -/
theorem fl_J22_15 : kw_fl RJ22 15 "java/lang/AbstractStringBuilder" [(36, 0)] := (kw_fl_c (C := RJ23) (T := TJ23) (N := 4) rfl (by decide) in_J23 q1964 (Or.inl rfl) kw_fl_nil)
theorem fp_J22_15 : kw_fp RJ22 (.array .byte) false [(36, 0)] := (kw_fp_c (C := RJ23) (T := TJ23) (N := 4) (ty0 := tyJ23) rfl tyJ23_ok nmJ23 rfl (fun h => by cases h) (by decide) rfl kw_fp_nil)
theorem fl_J22_22 : kw_fl RJ22 22 "java/lang/AbstractStringBuilder" [(36, 1)] := (kw_fl_c (C := RJ23) (T := TJ23) (N := 4) rfl (by decide) in_J23 q1965 (Or.inl rfl) kw_fl_nil)
theorem fp_J22_22 : kw_fp RJ22 .byte false [(36, 1)] := (kw_fp_c (C := RJ23) (T := TJ23) (N := 4) (ty0 := tyJ23) rfl tyJ23_ok nmJ23 rfl (fun h => by cases h) (by decide) rfl kw_fp_nil)
theorem wm_J22_init {E : kw_E} (B : kw_ok E cJ22_init RJ22 "<init>" 2 none 1 24 []) (a0 : Option Nat) (a1 : Int32) : kw_W E kw_eV 0 [(0, kA a0), (1, kI a1)] [] (pm_J22_init a0 a1) := by
  unfold pm_J22_init
  refine kw_aload_n (pc := 0) B dJ22_init_0 rfl 0 rfl ?_
  refine kw_objInit (pc := 1) B dJ22_init_1 q1955 q138 q139 (by decide) (Nat.le_of_ble_eq_true rfl) ?_
  refine kw_getsI (pc := 4) B dJ22_init_4 (v := (1 : Int32)) (C := "java/lang/String") (n := "COMPACT_STRINGS") (dd := "Z") (by decide) q1956 rfl ?_
  refine kw_if_eq (pc := 7) (tgt := 25) B dJ22_init_7 rfl ?_ ?_
  · exact kw_fail_ok
  · refine kw_aload_n (pc := 10) B dJ22_init_10 rfl 0 rfl ?_
    refine kw_iload_n (pc := 11) B dJ22_init_11 rfl 1 rfl ?_
    refine kw_newaB (pc := 12) B dJ22_init_12 q333 (fun r1 => ?_)
    refine kw_pR (pc := 14) B dJ22_init_14 fl_J22_15 fp_J22_15 (fun h => by cases h) rfl ?_
    refine kw_aload_n (pc := 17) B dJ22_init_17 rfl 0 rfl ?_
    refine kw_iconst (pc := 18) B dJ22_init_18 (v := (0 : Int32)) rfl ?_
    refine kw_pI (pc := 19) B dJ22_init_19 fl_J22_22 fp_J22_22 (fun h => by cases h) ?_
    refine kw_goto (pc := 22) (tgt := 38) B dJ22_init_22 rfl ?_
    exact kw_vret B dJ22_init_38 rfl
theorem ct_J22_init (a0 : Option Nat) (a1 : Int32) (l : Launch) : kw_Met l yJ22_init (ws_ yJ22_init cJ22_init 2 none) 1 24 [kA a0, kI a1] kw_eV (pm_J22_init a0 a1) := kw_met (plainFor_of_name rfl) (Nat.le_of_ble_eq_true rfl) (fun E B => wm_J22_init B a0 a1) l

/-! java/lang/StringBuilder <init> ()V -/

theorem wm_J23_init {E : kw_E} (B : kw_ok E cJ23_init RJ23 "<init>" 1 none 2 45 []) (a0 : Option Nat) : kw_W E kw_eV 0 [(0, kA a0)] [] (pm_J23_init a0) := by
  unfold pm_J23_init
  refine kw_aload_n (pc := 0) B dJ23_init_0 rfl 0 rfl ?_
  refine kw_bipush (pc := 1) B dJ23_init_1 (v := (16 : Int32)) rfl ?_
  refine kw_callI (pc := 3) B dJ23_init_3 (ct_J22_init a0 (16 : Int32)) q1952 q1953 q125 q1954 rfl ⟨by decide, by decide, rfl⟩ (As := [kI (16 : Int32)]) rfl (st := []) rfl (Nat.le_of_ble_eq_true rfl) (by decide) (by decide) kw_qV (fun _ => ?_)
  exact kw_vret B dJ23_init_6 rfl
theorem ct_J23_init (a0 : Option Nat) (l : Launch) : kw_Met l yJ23_init (ws_ yJ23_init cJ23_init 1 none) 2 45 [kA a0] kw_eV (pm_J23_init a0) := kw_met (plainFor_of_name rfl) (Nat.le_of_ble_eq_true rfl) (fun E B => wm_J23_init B a0) l

/-! RosaryCarvers$Bead sign ()C -/

theorem wm_X16_sign {E : kw_E} (B : kw_ok E cX16_sign RX16 "sign" 1 (some .char) 1 0 []) (a0 : Option Nat) : kw_W E kw_eI 0 [(0, kA a0)] [] (pm_X16_sign a0) := by
  unfold pm_X16_sign
  refine kw_aload_n (pc := 0) B dX16_sign_0 rfl 0 rfl ?_
  refine kw_gI (pc := 1) B dX16_sign_1 fl_X16_13 (fun i1 => ?_)
  refine kw_if_eq (pc := 4) (tgt := 12) B dX16_sign_4 rfl ?_ ?_
  · refine kw_bipush (pc := 12) B dX16_sign_12 (v := (111 : Int32)) rfl ?_
    exact kw_zret B dX16_sign_14 (g := fun v => v) (fun _ => rfl)
  · refine kw_bipush (pc := 7) B dX16_sign_7 (v := (79 : Int32)) rfl ?_
    refine kw_goto (pc := 9) (tgt := 14) B dX16_sign_9 rfl ?_
    exact kw_zret B dX16_sign_14 (g := fun v => v) (fun _ => rfl)
theorem ct_X16_sign (a0 : Option Nat) (l : Launch) : kw_Met l yX16_sign (ws_ yX16_sign cX16_sign 1 (some .char)) 1 0 [kA a0] kw_eI (pm_X16_sign a0) := kw_met (plainFor_of_name rfl) (Nat.le_of_ble_eq_true rfl) (fun E B => wm_X16_sign B a0) l

/-! java/lang/AbstractStringBuilder newCapacity (I)I -/

theorem wm_J22_newCapacity {E : kw_E} (B : kw_ok E cJ22_newCapacity RJ22 "newCapacity" 6 (some .int) 2 47 []) (a0 : Option Nat) (a1 : Int32) : kw_W E kw_eI 0 [(0, kA a0), (1, kI a1)] [] (pm_J22_newCapacity a0 a1) := by
  unfold pm_J22_newCapacity
  refine kw_aload_n (pc := 0) B dJ22_newCapacity_0 rfl 0 rfl ?_
  refine kw_gR (pc := 1) B dJ22_newCapacity_1 fl_J22_15 (fun r1 => ?_)
  refine kw_alen (pc := 4) B dJ22_newCapacity_4 (fun i2 => ?_)
  refine kw_istore_n (pc := 5) B dJ22_newCapacity_5 rfl (by decide) (L2 := [(2, kI i2), (0, kA a0), (1, kI a1)]) rfl ?_
  refine kw_iload_n (pc := 6) B dJ22_newCapacity_6 rfl 2 rfl ?_
  refine kw_aload_n (pc := 7) B dJ22_newCapacity_7 rfl 1 rfl ?_
  refine kw_gI (pc := 8) B dJ22_newCapacity_8 fl_J22_22 (fun i3 => ?_)
  refine kw_ishl (pc := 11) B dJ22_newCapacity_11 ?_
  refine kw_istore_n (pc := 12) B dJ22_newCapacity_12 rfl (by decide) (L2 := [(3, kI (a1 <<< (i3 &&& 31))), (2, kI i2), (0, kA a0), (1, kI a1)]) rfl ?_
  refine kw_iload_n (pc := 13) B dJ22_newCapacity_13 rfl 0 rfl ?_
  refine kw_iload_n (pc := 14) B dJ22_newCapacity_14 rfl 1 rfl ?_
  refine kw_isub (pc := 15) B dJ22_newCapacity_15 ?_
  refine kw_istore (pc := 16) B dJ22_newCapacity_16 (by decide) (L2 := [(4, kI ((a1 <<< (i3 &&& 31)) - i2)), (3, kI (a1 <<< (i3 &&& 31))), (2, kI i2), (0, kA a0), (1, kI a1)]) rfl ?_
  refine kw_iload_n (pc := 18) B dJ22_newCapacity_18 rfl 2 rfl ?_
  refine kw_iload (pc := 19) B dJ22_newCapacity_19 0 rfl ?_
  refine kw_iload_n (pc := 21) B dJ22_newCapacity_21 rfl 2 rfl ?_
  refine kw_iconst (pc := 22) B dJ22_newCapacity_22 (v := (2 : Int32)) rfl ?_
  refine kw_aload_n (pc := 23) B dJ22_newCapacity_23 rfl 3 rfl ?_
  refine kw_gI (pc := 24) B dJ22_newCapacity_24 fl_J22_22 (fun i4 => ?_)
  refine kw_ishl (pc := 27) B dJ22_newCapacity_27 ?_
  refine kw_iadd (pc := 28) B dJ22_newCapacity_28 ?_
  refine kw_callS (pc := 29) B dJ22_newCapacity_29 (ct_J12_newLength i2 ((a1 <<< (i3 &&& 31)) - i2) (i2 + ((2 : Int32) <<< (i4 &&& 31)))) q1996 q589 q92 q590 ⟨by decide, by decide, rfl⟩ (As := [kI i2, kI ((a1 <<< (i3 &&& 31)) - i2), kI (i2 + ((2 : Int32) <<< (i4 &&& 31)))]) rfl (st := []) rfl (Nat.le_of_ble_eq_true rfl) (by decide) (by decide) kw_qI (fun i5 => ?_)
  refine kw_istore (pc := 32) B dJ22_newCapacity_32 (by decide) (L2 := [(5, kI i5), (4, kI ((a1 <<< (i3 &&& 31)) - i2)), (3, kI (a1 <<< (i3 &&& 31))), (2, kI i2), (0, kA a0), (1, kI a1)]) rfl ?_
  refine kw_iload (pc := 34) B dJ22_newCapacity_34 0 rfl ?_
  refine kw_ldcI (pc := 36) B dJ22_newCapacity_36 q1997 ?_
  refine kw_icmp_ne (pc := 38) (tgt := 51) B dJ22_newCapacity_38 rfl ?_ ?_
  · refine kw_iload (pc := 51) B dJ22_newCapacity_51 0 rfl ?_
    refine kw_aload_n (pc := 53) B dJ22_newCapacity_53 rfl 4 rfl ?_
    refine kw_gI (pc := 54) B dJ22_newCapacity_54 fl_J22_22 (fun i6 => ?_)
    refine kw_ishr (pc := 57) B dJ22_newCapacity_57 ?_
    exact kw_iret B dJ22_newCapacity_58 rfl
  · exact kw_fail_ok
theorem ct_J22_newCapacity (a0 : Option Nat) (a1 : Int32) (l : Launch) : kw_Met l yJ22_newCapacity (ws_ yJ22_newCapacity cJ22_newCapacity 6 (some .int)) 2 47 [kA a0, kI a1] kw_eI (pm_J22_newCapacity a0 a1) := kw_met (plainFor_of_name rfl) (Nat.le_of_ble_eq_true rfl) (fun E B => wm_J22_newCapacity B a0 a1) l

/-! java/util/Arrays copyOf ([BI)[B -/

theorem wm_J14_copyOf_4 {E : kw_E} (B : kw_ok E cJ14_copyOf_4 RJ14 "copyOf" 3 (some (.array .byte)) 1 40 []) (a0 : Option Nat) (a1 : Int32) : kw_W E kw_eA 0 [(0, kA a0), (1, kI a1)] [] (pm_J14_copyOf_4 a0 a1) := by
  unfold pm_J14_copyOf_4
  refine kw_iload_n (pc := 0) B dJ14_copyOf_4_0 rfl 1 rfl ?_
  refine kw_aload_n (pc := 1) B dJ14_copyOf_4_1 rfl 0 rfl ?_
  refine kw_alen (pc := 2) B dJ14_copyOf_4_2 (fun i1 => ?_)
  refine kw_icmp_ne (pc := 3) (tgt := 14) B dJ14_copyOf_4_3 rfl ?_ ?_
  · refine kw_iload_n (pc := 14) B dJ14_copyOf_4_14 rfl 1 rfl ?_
    refine kw_newaB (pc := 15) B dJ14_copyOf_4_15 q333 (fun r2 => ?_)
    refine kw_astore_n (pc := 17) B dJ14_copyOf_4_17 rfl (by decide) (L2 := [(2, kA r2), (0, kA a0), (1, kI a1)]) rfl ?_
    refine kw_aload_n (pc := 18) B dJ14_copyOf_4_18 rfl 1 rfl ?_
    refine kw_iconst (pc := 19) B dJ14_copyOf_4_19 (v := (0 : Int32)) rfl ?_
    refine kw_aload_n (pc := 20) B dJ14_copyOf_4_20 rfl 0 rfl ?_
    refine kw_iconst (pc := 21) B dJ14_copyOf_4_21 (v := (0 : Int32)) rfl ?_
    refine kw_aload_n (pc := 22) B dJ14_copyOf_4_22 rfl 1 rfl ?_
    refine kw_alen (pc := 23) B dJ14_copyOf_4_23 (fun i3 => ?_)
    refine kw_iload_n (pc := 24) B dJ14_copyOf_4_24 rfl 2 rfl ?_
    refine kw_mmin (pc := 25) B dJ14_copyOf_4_25 q651 q652 q93 q653 (by decide) (Nat.le_of_ble_eq_true rfl) ?_
    refine kw_acopy (pc := 28) B dJ14_copyOf_4_28 q654 q656 q655 q95 (by decide) (Nat.le_of_ble_eq_true rfl) ?_
    refine kw_aload_n (pc := 31) B dJ14_copyOf_4_31 rfl 0 rfl ?_
    exact kw_aret rfl B dJ14_copyOf_4_32 rfl
  · refine kw_aload_n (pc := 6) B dJ14_copyOf_4_6 rfl 0 rfl ?_
    refine kw_cloneB (pc := 7) B dJ14_copyOf_4_7 q2001 q2002 q762 q763 q2003 q2004 (by decide) (Nat.le_of_ble_eq_true rfl) (fun r4 => ?_)
    refine kw_castAB (pc := 10) B dJ14_copyOf_4_10 q2005 ?_
    exact kw_aret rfl B dJ14_copyOf_4_13 rfl
theorem ct_J14_copyOf_4 (a0 : Option Nat) (a1 : Int32) (l : Launch) : kw_Met l yJ14_copyOf_4 (ws_ yJ14_copyOf_4 cJ14_copyOf_4 3 (some (.array .byte))) 1 40 [kA a0, kI a1] kw_eA (pm_J14_copyOf_4 a0 a1) := kw_met (plainFor_of_name rfl) (Nat.le_of_ble_eq_true rfl) (fun E B => wm_J14_copyOf_4 B a0 a1) l

/-! java/lang/AbstractStringBuilder ensureCapacityInternal (I)V -/

theorem wm_J22_ensureCapacityInternal {E : kw_E} (B : kw_ok E cJ22_ensureCapacityInternal RJ22 "ensureCapacityInternal" 3 none 3 72 []) (a0 : Option Nat) (a1 : Int32) : kw_W E kw_eV 0 [(0, kA a0), (1, kI a1)] [] (pm_J22_ensureCapacityInternal a0 a1) := by
  unfold pm_J22_ensureCapacityInternal
  refine kw_aload_n (pc := 0) B dJ22_ensureCapacityInternal_0 rfl 0 rfl ?_
  refine kw_gR (pc := 1) B dJ22_ensureCapacityInternal_1 fl_J22_15 (fun r1 => ?_)
  refine kw_alen (pc := 4) B dJ22_ensureCapacityInternal_4 (fun i2 => ?_)
  refine kw_aload_n (pc := 5) B dJ22_ensureCapacityInternal_5 rfl 0 rfl ?_
  refine kw_gI (pc := 6) B dJ22_ensureCapacityInternal_6 fl_J22_22 (fun i3 => ?_)
  refine kw_ishr (pc := 9) B dJ22_ensureCapacityInternal_9 ?_
  refine kw_istore_n (pc := 10) B dJ22_ensureCapacityInternal_10 rfl (by decide) (L2 := [(2, kI (i2 >>> (i3 &&& 31))), (0, kA a0), (1, kI a1)]) rfl ?_
  refine kw_iload_n (pc := 11) B dJ22_ensureCapacityInternal_11 rfl 2 rfl ?_
  refine kw_iload_n (pc := 12) B dJ22_ensureCapacityInternal_12 rfl 0 rfl ?_
  refine kw_isub (pc := 13) B dJ22_ensureCapacityInternal_13 ?_
  refine kw_if_le (pc := 14) (tgt := 38) B dJ22_ensureCapacityInternal_14 rfl ?_ ?_
  · exact kw_vret B dJ22_ensureCapacityInternal_38 rfl
  · refine kw_aload_n (pc := 17) B dJ22_ensureCapacityInternal_17 rfl 1 rfl ?_
    refine kw_aload_n (pc := 18) B dJ22_ensureCapacityInternal_18 rfl 1 rfl ?_
    refine kw_gR (pc := 19) B dJ22_ensureCapacityInternal_19 fl_J22_15 (fun r4 => ?_)
    refine kw_aload_n (pc := 22) B dJ22_ensureCapacityInternal_22 rfl 1 rfl ?_
    refine kw_iload_n (pc := 23) B dJ22_ensureCapacityInternal_23 rfl 2 rfl ?_
    refine kw_callP (pc := 24) B dJ22_ensureCapacityInternal_24 (x0 := ⟨"java/lang/AbstractStringBuilder", "newCapacity", "(I)I"⟩) (owner := "java/lang/AbstractStringBuilder") (ci := 36) rfl (ct_J22_newCapacity a0 a1) q1992 q2801 (kw_selP ⟨by decide, by decide⟩ (lw_all_tbl q2009) rfl q1993 (lw_all_tbl q1994)) q1994 q125 q1995 rfl ⟨by decide, by decide, rfl⟩ (As := [kI a1]) rfl (st := [kA r4, kA a0]) rfl (Nat.le_of_ble_eq_true rfl) (by decide) (by decide) kw_qI (fun i5 => ?_)
    refine kw_aload_n (pc := 27) B dJ22_ensureCapacityInternal_27 rfl 1 rfl ?_
    refine kw_gI (pc := 28) B dJ22_ensureCapacityInternal_28 fl_J22_22 (fun i6 => ?_)
    refine kw_ishl (pc := 31) B dJ22_ensureCapacityInternal_31 ?_
    refine kw_callS (pc := 32) B dJ22_ensureCapacityInternal_32 (ct_J14_copyOf_4 r4 (i5 <<< (i6 &&& 31))) q1998 q1999 q94 q2000 ⟨by decide, by decide, rfl⟩ (As := [kA r4, kI (i5 <<< (i6 &&& 31))]) rfl (st := [kA a0]) rfl (Nat.le_of_ble_eq_true rfl) (by decide) (by decide) kw_qA (fun r7 => ?_)
    refine kw_pR (pc := 35) B dJ22_ensureCapacityInternal_35 fl_J22_15 fp_J22_15 (fun h => by cases h) rfl ?_
    exact kw_vret B dJ22_ensureCapacityInternal_38 rfl
theorem ct_J22_ensureCapacityInternal (a0 : Option Nat) (a1 : Int32) (l : Launch) : kw_Met l yJ22_ensureCapacityInternal (ws_ yJ22_ensureCapacityInternal cJ22_ensureCapacityInternal 3 none) 3 72 [kA a0, kI a1] kw_eV (pm_J22_ensureCapacityInternal a0 a1) := kw_met (plainFor_of_name rfl) (Nat.le_of_ble_eq_true rfl) (fun E B => wm_J22_ensureCapacityInternal B a0 a1) l

/-! java/lang/AbstractStringBuilder isLatin1 ()Z -/

theorem wm_J22_isLatin1 {E : kw_E} (B : kw_ok E cJ22_isLatin1 RJ22 "isLatin1" 1 (some .boolean) 1 0 []) (a0 : Option Nat) : kw_W E kw_eI 0 [(0, kA a0)] [] (pm_J22_isLatin1 a0) := by
  unfold pm_J22_isLatin1
  refine kw_getsI (pc := 0) B dJ22_isLatin1_0 (v := (1 : Int32)) (C := "java/lang/String") (n := "COMPACT_STRINGS") (dd := "Z") (by decide) q1956 rfl ?_
  refine kw_if_eq (pc := 3) (tgt := 17) B dJ22_isLatin1_3 rfl ?_ ?_
  · exact kw_fail_ok
  · refine kw_aload_n (pc := 6) B dJ22_isLatin1_6 rfl 0 rfl ?_
    refine kw_gI (pc := 7) B dJ22_isLatin1_7 fl_J22_22 (fun i1 => ?_)
    refine kw_if_ne (pc := 10) (tgt := 17) B dJ22_isLatin1_10 rfl ?_ ?_
    · refine kw_iconst (pc := 17) B dJ22_isLatin1_17 (v := (0 : Int32)) rfl ?_
      exact kw_zret B dJ22_isLatin1_18 (g := fun v => v) (fun _ => rfl)
    · refine kw_iconst (pc := 13) B dJ22_isLatin1_13 (v := (1 : Int32)) rfl ?_
      refine kw_goto (pc := 14) (tgt := 18) B dJ22_isLatin1_14 rfl ?_
      exact kw_zret B dJ22_isLatin1_18 (g := fun v => v) (fun _ => rfl)
theorem ct_J22_isLatin1 (a0 : Option Nat) (l : Launch) : kw_Met l yJ22_isLatin1 (ws_ yJ22_isLatin1 cJ22_isLatin1 1 (some .boolean)) 1 0 [kA a0] kw_eI (pm_J22_isLatin1 a0) := kw_met (plainFor_of_name rfl) (Nat.le_of_ble_eq_true rfl) (fun E B => wm_J22_isLatin1 B a0) l

/-! java/lang/StringLatin1 canEncode (C)Z -/

theorem wm_J17_canEncode {E : kw_E} (B : kw_ok E cJ17_canEncode RJ17 "canEncode" 1 (some .boolean) 1 0 []) (a0 : Int32) : kw_W E kw_eI 0 [(0, kI a0)] [] (pm_J17_canEncode a0) := by
  unfold pm_J17_canEncode
  refine kw_iload_n (pc := 0) B dJ17_canEncode_0 rfl 0 rfl ?_
  refine kw_sipush (pc := 1) B dJ17_canEncode_1 (v := (255 : Int32)) rfl ?_
  refine kw_icmp_gt (pc := 4) (tgt := 11) B dJ17_canEncode_4 rfl ?_ ?_
  · refine kw_iconst (pc := 11) B dJ17_canEncode_11 (v := (0 : Int32)) rfl ?_
    exact kw_zret B dJ17_canEncode_12 (g := fun v => v) (fun _ => rfl)
  · refine kw_iconst (pc := 7) B dJ17_canEncode_7 (v := (1 : Int32)) rfl ?_
    refine kw_goto (pc := 8) (tgt := 12) B dJ17_canEncode_8 rfl ?_
    exact kw_zret B dJ17_canEncode_12 (g := fun v => v) (fun _ => rfl)
theorem ct_J17_canEncode (a0 : Int32) (l : Launch) : kw_Met l yJ17_canEncode (ws_ yJ17_canEncode cJ17_canEncode 1 (some .boolean)) 1 0 [kI a0] kw_eI (pm_J17_canEncode a0) := kw_met (plainFor_of_name rfl) (Nat.le_of_ble_eq_true rfl) (fun E B => wm_J17_canEncode B a0) l

/-! java/lang/AbstractStringBuilder append (C)Ljava/lang/AbstractStringBuilder; -/
theorem fl_J22_79 : kw_fl RJ22 79 "java/lang/AbstractStringBuilder" [(36, 3)] := (kw_fl_c (C := RJ23) (T := TJ23) (N := 4) rfl (by decide) in_J23 q1967 (Or.inl rfl) kw_fl_nil)
theorem fp_J22_79 : kw_fp RJ22 .int false [(36, 3)] := (kw_fp_c (C := RJ23) (T := TJ23) (N := 4) (ty0 := tyJ23) rfl tyJ23_ok nmJ23 rfl (fun h => by cases h) (by decide) rfl kw_fp_nil)
theorem wb_J22_append_45 {E : kw_E} (B : kw_ok E cJ22_append RJ22 "append" 2 (some (.object "java/lang/AbstractStringBuilder")) 4 94 [])  (x0 : Option Nat) (x1 : Int32) : kw_W E kw_eA 45 [(0, kA x0), (1, kI x1)] [] (pb_J22_append_45  x0 x1) := by
  unfold pb_J22_append_45
  refine kw_aload_n (pc := 45) B dJ22_append_45 rfl 0 rfl ?_
  refine kw_callV (pc := 46) B dJ22_append_46 (ci := 36) rfl (ct_J22_isLatin1 x0) q2006 q2007 q2009 q125 q2010 ⟨by decide, by decide, rfl⟩ (As := []) rfl (st := []) rfl (Nat.le_of_ble_eq_true rfl) (by decide) (by decide) kw_qI (fun i1 => ?_)
  refine kw_if_eq (pc := 49) (tgt := 56) B dJ22_append_49 rfl ?_ ?_
  · refine kw_aload_n (pc := 56) B dJ22_append_56 rfl 0 rfl ?_
    refine kw_gR (pc := 57) B dJ22_append_57 fl_J22_15 (fun r2 => ?_)
    refine kw_aload_n (pc := 60) B dJ22_append_60 rfl 0 rfl ?_
    refine kw_dup (pc := 61) B dJ22_append_61 rfl ?_
    refine kw_gI (pc := 62) B dJ22_append_62 fl_J22_79 (fun i3 => ?_)
    refine kw_dup_x1 (pc := 65) B dJ22_append_65 rfl rfl ?_
    refine kw_iconst (pc := 66) B dJ22_append_66 (v := (1 : Int32)) rfl ?_
    refine kw_iadd (pc := 67) B dJ22_append_67 ?_
    refine kw_pI (pc := 68) B dJ22_append_68 fl_J22_79 fp_J22_79 (fun h => by cases h) ?_
    refine kw_iload_n (pc := 71) B dJ22_append_71 rfl 1 rfl ?_
    exact kw_fail_ok
  · refine kw_aload_n (pc := 52) B dJ22_append_52 rfl 0 rfl ?_
    exact kw_fail_ok
theorem wm_J22_append {E : kw_E} (B : kw_ok E cJ22_append RJ22 "append" 2 (some (.object "java/lang/AbstractStringBuilder")) 4 94 []) (a0 : Option Nat) (a1 : Int32) : kw_W E kw_eA 0 [(0, kA a0), (1, kI a1)] [] (pm_J22_append a0 a1) := by
  unfold pm_J22_append
  refine kw_aload_n (pc := 0) B dJ22_append_0 rfl 0 rfl ?_
  refine kw_aload_n (pc := 1) B dJ22_append_1 rfl 0 rfl ?_
  refine kw_gI (pc := 2) B dJ22_append_2 fl_J22_79 (fun i1 => ?_)
  refine kw_iconst (pc := 5) B dJ22_append_5 (v := (1 : Int32)) rfl ?_
  refine kw_iadd (pc := 6) B dJ22_append_6 ?_
  refine kw_callP (pc := 7) B dJ22_append_7 (x0 := ⟨"java/lang/AbstractStringBuilder", "ensureCapacityInternal", "(I)V"⟩) (owner := "java/lang/AbstractStringBuilder") (ci := 36) rfl (ct_J22_ensureCapacityInternal a0 (i1 + (1 : Int32))) q1988 q2800 (kw_selP ⟨by decide, by decide⟩ (lw_all_tbl q2009) rfl q1989 (lw_all_tbl q1990)) q1990 q125 q1991 rfl ⟨by decide, by decide, rfl⟩ (As := [kI (i1 + (1 : Int32))]) rfl (st := []) rfl (Nat.le_of_ble_eq_true rfl) (by decide) (by decide) kw_qV (fun _ => ?_)
  refine kw_aload_n (pc := 10) B dJ22_append_10 rfl 0 rfl ?_
  refine kw_callV (pc := 11) B dJ22_append_11 (ci := 36) rfl (ct_J22_isLatin1 a0) q2006 q2007 q2009 q125 q2010 ⟨by decide, by decide, rfl⟩ (As := []) rfl (st := []) rfl (Nat.le_of_ble_eq_true rfl) (by decide) (by decide) kw_qI (fun i2 => ?_)
  refine kw_if_eq (pc := 14) (tgt := 45) B dJ22_append_14 rfl ?_ ?_
  · exact kw_pick [0, 1] rfl (wb_J22_append_45 B a0 a1)
  · refine kw_iload_n (pc := 17) B dJ22_append_17 rfl 1 rfl ?_
    refine kw_callS (pc := 18) B dJ22_append_18 (ct_J17_canEncode a1) q2011 q2012 q104 q2013 ⟨by decide, by decide, rfl⟩ (As := [kI a1]) rfl (st := []) rfl (Nat.le_of_ble_eq_true rfl) (by decide) (by decide) kw_qI (fun i3 => ?_)
    refine kw_if_eq (pc := 21) (tgt := 45) B dJ22_append_21 rfl ?_ ?_
    · exact kw_pick [0, 1] rfl (wb_J22_append_45 B a0 a1)
    · refine kw_aload_n (pc := 24) B dJ22_append_24 rfl 0 rfl ?_
      refine kw_gR (pc := 25) B dJ22_append_25 fl_J22_15 (fun r4 => ?_)
      refine kw_aload_n (pc := 28) B dJ22_append_28 rfl 0 rfl ?_
      refine kw_dup (pc := 29) B dJ22_append_29 rfl ?_
      refine kw_gI (pc := 30) B dJ22_append_30 fl_J22_79 (fun i5 => ?_)
      refine kw_dup_x1 (pc := 33) B dJ22_append_33 rfl rfl ?_
      refine kw_iconst (pc := 34) B dJ22_append_34 (v := (1 : Int32)) rfl ?_
      refine kw_iadd (pc := 35) B dJ22_append_35 ?_
      refine kw_pI (pc := 36) B dJ22_append_36 fl_J22_79 fp_J22_79 (fun h => by cases h) ?_
      refine kw_iload_n (pc := 39) B dJ22_append_39 rfl 1 rfl ?_
      refine kw_i2b (pc := 40) B dJ22_append_40 ?_
      refine kw_bast (pc := 41) B dJ22_append_41 ?_
      refine kw_goto (pc := 42) (tgt := 75) B dJ22_append_42 rfl ?_
      refine kw_aload_n (pc := 75) B dJ22_append_75 rfl 0 rfl ?_
      exact kw_aret rfl B dJ22_append_76 rfl
theorem ct_J22_append (a0 : Option Nat) (a1 : Int32) (l : Launch) : kw_Met l yJ22_append (ws_ yJ22_append cJ22_append 2 (some (.object "java/lang/AbstractStringBuilder"))) 4 94 [kA a0, kI a1] kw_eA (pm_J22_append a0 a1) := kw_met (plainFor_of_name rfl) (Nat.le_of_ble_eq_true rfl) (fun E B => wm_J22_append B a0 a1) l

/-! java/lang/StringBuilder append (C)Ljava/lang/StringBuilder; -/

theorem wm_J23_append {E : kw_E} (B : kw_ok E cJ23_append RJ23 "append" 2 (some (.object "java/lang/StringBuilder")) 5 115 []) (a0 : Option Nat) (a1 : Int32) : kw_W E kw_eA 0 [(0, kA a0), (1, kI a1)] [] (pm_J23_append a0 a1) := by
  unfold pm_J23_append
  refine kw_aload_n (pc := 0) B dJ23_append_0 rfl 0 rfl ?_
  refine kw_iload_n (pc := 1) B dJ23_append_1 rfl 1 rfl ?_
  refine kw_callSU (pc := 2) B dJ23_append_2 (ci := 36) rfl (ct_J22_append a0 a1) q1985 q2799 q1976 q1986 q125 q1987 ⟨by decide, rfl⟩ (As := [kI a1]) rfl (st := []) rfl (Nat.le_of_ble_eq_true rfl) (by decide) (by decide) kw_qA (fun r1 => ?_)
  refine kw_pop (pc := 5) B dJ23_append_5 rfl ?_
  refine kw_aload_n (pc := 6) B dJ23_append_6 rfl 0 rfl ?_
  exact kw_aret rfl B dJ23_append_7 rfl
theorem ct_J23_append (a0 : Option Nat) (a1 : Int32) (l : Launch) : kw_Met l yJ23_append (ws_ yJ23_append cJ23_append 2 (some (.object "java/lang/StringBuilder"))) 5 115 [kA a0, kI a1] kw_eA (pm_J23_append a0 a1) := kw_met (plainFor_of_name rfl) (Nat.le_of_ble_eq_true rfl) (fun E B => wm_J23_append B a0 a1) l

/-! java/lang/Integer stringSize (I)I -/

theorem wb_J24_stringSize_16 {E : kw_E} (B : kw_ok E cJ24_stringSize RJ24 "stringSize" 4 (some .int) 1 0 [])  : ∀ (n : Nat) (x0 : Int32) (x1 : Int32) (x2 : Int32) (x3 : Int32), kw_W E kw_eI 16 [(0, kI x0), (1, kI x1), (2, kI x2), (3, kI x3)] [] (pb_J24_stringSize_16  n x0 x1 x2 x3) := by
  intro n
  induction n with
  | zero =>
    intro x0 x1 x2 x3
    exact kw_fail_ok
  | succ n ih =>
    intro x0 x1 x2 x3
    show kw_W E kw_eI 16 [(0, kI x0), (1, kI x1), (2, kI x2), (3, kI x3)] [] (
if (10 : Int32) ≤ x3 then
(km_pure ((10 : Int32) + x1))
else
(if x0 ≤ x2 then
(pb_J24_stringSize_16 n x0 x1 ((10 : Int32) * x2) (x3 + (1 : Int32)))
else
(km_pure (x3 + x1))))
    refine kw_iload_n (pc := 16) B dJ24_stringSize_16 rfl 3 rfl ?_
    refine kw_bipush (pc := 17) B dJ24_stringSize_17 (v := (10 : Int32)) rfl ?_
    refine kw_icmp_ge (pc := 19) (tgt := 42) B dJ24_stringSize_19 rfl ?_ ?_
    · refine kw_bipush (pc := 42) B dJ24_stringSize_42 (v := (10 : Int32)) rfl ?_
      refine kw_iload_n (pc := 44) B dJ24_stringSize_44 rfl 1 rfl ?_
      refine kw_iadd (pc := 45) B dJ24_stringSize_45 ?_
      exact kw_iret B dJ24_stringSize_46 rfl
    · refine kw_iload_n (pc := 22) B dJ24_stringSize_22 rfl 0 rfl ?_
      refine kw_iload_n (pc := 23) B dJ24_stringSize_23 rfl 2 rfl ?_
      refine kw_icmp_le (pc := 24) (tgt := 31) B dJ24_stringSize_24 rfl ?_ ?_
      · refine kw_bipush (pc := 31) B dJ24_stringSize_31 (v := (10 : Int32)) rfl ?_
        refine kw_iload_n (pc := 33) B dJ24_stringSize_33 rfl 2 rfl ?_
        refine kw_imul (pc := 34) B dJ24_stringSize_34 ?_
        refine kw_istore_n (pc := 35) B dJ24_stringSize_35 rfl (by decide) (L2 := [(2, kI ((10 : Int32) * x2)), (0, kI x0), (1, kI x1), (3, kI x3)]) rfl ?_
        refine kw_iinc (pc := 36) B dJ24_stringSize_36 3 rfl (w := x3 + (1 : Int32)) rfl (by decide) (L2 := [(3, kI (x3 + (1 : Int32))), (2, kI ((10 : Int32) * x2)), (0, kI x0), (1, kI x1)]) rfl ?_
        refine kw_goto (pc := 39) (tgt := 16) B dJ24_stringSize_39 rfl ?_
        exact kw_pick [2, 3, 1, 0] rfl (ih x0 x1 ((10 : Int32) * x2) (x3 + (1 : Int32)))
      · refine kw_iload_n (pc := 27) B dJ24_stringSize_27 rfl 3 rfl ?_
        refine kw_iload_n (pc := 28) B dJ24_stringSize_28 rfl 1 rfl ?_
        refine kw_iadd (pc := 29) B dJ24_stringSize_29 ?_
        exact kw_iret B dJ24_stringSize_30 rfl
theorem wb_J24_stringSize_11 {E : kw_E} (B : kw_ok E cJ24_stringSize RJ24 "stringSize" 4 (some .int) 1 0 [])  (x0 : Int32) (x1 : Int32) : kw_W E kw_eI 11 [(0, kI x0), (1, kI x1)] [] (pb_J24_stringSize_11  x0 x1) := by
  unfold pb_J24_stringSize_11
  refine kw_bipush (pc := 11) B dJ24_stringSize_11 (v := (-10 : Int32)) rfl ?_
  refine kw_istore_n (pc := 13) B dJ24_stringSize_13 rfl (by decide) (L2 := [(2, kI (-10 : Int32)), (0, kI x0), (1, kI x1)]) rfl ?_
  refine kw_iconst (pc := 14) B dJ24_stringSize_14 (v := (1 : Int32)) rfl ?_
  refine kw_istore_n (pc := 15) B dJ24_stringSize_15 rfl (by decide) (L2 := [(3, kI (1 : Int32)), (2, kI (-10 : Int32)), (0, kI x0), (1, kI x1)]) rfl ?_
  exact kw_pick [2, 3, 1, 0] rfl (wb_J24_stringSize_16 B km_fuel x0 x1 (-10 : Int32) (1 : Int32))
theorem wm_J24_stringSize {E : kw_E} (B : kw_ok E cJ24_stringSize RJ24 "stringSize" 4 (some .int) 1 0 []) (a0 : Int32) : kw_W E kw_eI 0 [(0, kI a0)] [] (pm_J24_stringSize a0) := by
  unfold pm_J24_stringSize
  refine kw_iconst (pc := 0) B dJ24_stringSize_0 (v := (1 : Int32)) rfl ?_
  refine kw_istore_n (pc := 1) B dJ24_stringSize_1 rfl (by decide) (L2 := [(1, kI (1 : Int32)), (0, kI a0)]) rfl ?_
  refine kw_iload_n (pc := 2) B dJ24_stringSize_2 rfl 1 rfl ?_
  refine kw_if_lt (pc := 3) (tgt := 11) B dJ24_stringSize_3 rfl ?_ ?_
  · exact kw_pick [1, 0] rfl (wb_J24_stringSize_11 B a0 (1 : Int32))
  · refine kw_iconst (pc := 6) B dJ24_stringSize_6 (v := (0 : Int32)) rfl ?_
    refine kw_istore_n (pc := 7) B dJ24_stringSize_7 rfl (by decide) (L2 := [(1, kI (0 : Int32)), (0, kI a0)]) rfl ?_
    refine kw_iload_n (pc := 8) B dJ24_stringSize_8 rfl 1 rfl ?_
    refine kw_ineg (pc := 9) B dJ24_stringSize_9 ?_
    refine kw_istore_n (pc := 10) B dJ24_stringSize_10 rfl (by decide) (L2 := [(0, kI (-a0)), (1, kI (0 : Int32))]) rfl ?_
    exact kw_pick [0, 1] rfl (wb_J24_stringSize_11 B (-a0) (0 : Int32))
theorem ct_J24_stringSize (a0 : Int32) (l : Launch) : kw_Met l yJ24_stringSize (ws_ yJ24_stringSize cJ24_stringSize 4 (some .int)) 1 0 [kI a0] kw_eI (pm_J24_stringSize a0) := kw_met (plainFor_of_name rfl) (Nat.le_of_ble_eq_true rfl) (fun E B => wm_J24_stringSize B a0) l

/-! java/lang/Integer getChars (II[B)I -/

theorem wb_J24_getChars_104 {E : kw_E} (B : kw_ok E cJ24_getChars RJ24 "getChars" 7 (some .int) 1 0 [])  (x2 : Option Nat) (x5 : Int32) (x6 : Int32) : kw_W E kw_eI 104 [(2, kA x2), (5, kI x5), (6, kI x6)] [] (pb_J24_getChars_104  x2 x5 x6) := by
  unfold pb_J24_getChars_104
  refine kw_iload (pc := 104) B dJ24_getChars_104 2 rfl ?_
  refine kw_if_eq (pc := 106) (tgt := 118) B dJ24_getChars_106 rfl ?_ ?_
  · refine kw_iload (pc := 118) B dJ24_getChars_118 1 rfl ?_
    exact kw_iret B dJ24_getChars_120 rfl
  · refine kw_aload_n (pc := 109) B dJ24_getChars_109 rfl 0 rfl ?_
    refine kw_iinc (pc := 110) B dJ24_getChars_110 1 rfl (w := x5 + (-1 : Int32)) rfl (by decide) (L2 := [(5, kI (x5 + (-1 : Int32))), (2, kA x2), (6, kI x6)]) rfl ?_
    refine kw_iload (pc := 113) B dJ24_getChars_113 0 rfl ?_
    refine kw_bipush (pc := 115) B dJ24_getChars_115 (v := (45 : Int32)) rfl ?_
    refine kw_bast (pc := 117) B dJ24_getChars_117 ?_
    refine kw_iload (pc := 118) B dJ24_getChars_118 0 rfl ?_
    exact kw_iret B dJ24_getChars_120 rfl
theorem wb_J24_getChars_22 {E : kw_E} (B : kw_ok E cJ24_getChars RJ24 "getChars" 7 (some .int) 1 0 [])  : ∀ (n : Nat) (x0 : Int32) (x2 : Option Nat) (x5 : Int32) (x6 : Int32), kw_W E kw_eI 22 [(0, kI x0), (2, kA x2), (5, kI x5), (6, kI x6)] [] (pb_J24_getChars_22  n x0 x2 x5 x6) := by
  intro n
  induction n with
  | zero =>
    intro x0 x2 x5 x6
    exact kw_fail_ok
  | succ n ih =>
    intro x0 x2 x5 x6
    show kw_W E kw_eI 22 [(0, kI x0), (2, kA x2), (5, kI x5), (6, kI x6)] [] (
if (-100 : Int32) < x0 then
(km_bind (km_k 2) fun r1 =>
km_bind (km_ldI 2 r1 (-x0)) fun i2 =>
km_bind (km_stI 2 x2 (x5 + (-1 : Int32)) i2) fun _ =>
if (-9 : Int32) ≤ x0 then
(pb_J24_getChars_104 x2 (x5 + (-1 : Int32)) x6)
else
(km_bind (km_k 3) fun r4 =>
km_bind (km_ldI 2 r4 (-x0)) fun i5 =>
km_bind (km_stI 2 x2 ((x5 + (-1 : Int32)) + (-1 : Int32)) i5) fun _ =>
pb_J24_getChars_104 x2 ((x5 + (-1 : Int32)) + (-1 : Int32)) x6))
else
(km_bind (km_div x0 (100 : Int32)) fun i7 =>
km_bind (km_k 2) fun r8 =>
km_bind (km_ldI 2 r8 ((i7 * (100 : Int32)) - x0)) fun i9 =>
km_bind (km_stI 2 x2 (x5 + (-1 : Int32)) i9) fun _ =>
km_bind (km_k 3) fun r11 =>
km_bind (km_ldI 2 r11 ((i7 * (100 : Int32)) - x0)) fun i12 =>
km_bind (km_stI 2 x2 ((x5 + (-1 : Int32)) + (-1 : Int32)) i12) fun _ =>
pb_J24_getChars_22 n i7 x2 ((x5 + (-1 : Int32)) + (-1 : Int32)) x6))
    refine kw_iload_n (pc := 22) B dJ24_getChars_22 rfl 0 rfl ?_
    refine kw_bipush (pc := 23) B dJ24_getChars_23 (v := (-100 : Int32)) rfl ?_
    refine kw_icmp_gt (pc := 25) (tgt := 72) B dJ24_getChars_25 rfl ?_ ?_
    · refine kw_aload_n (pc := 72) B dJ24_getChars_72 rfl 1 rfl ?_
      refine kw_iinc (pc := 73) B dJ24_getChars_73 2 rfl (w := x5 + (-1 : Int32)) rfl (by decide) (L2 := [(5, kI (x5 + (-1 : Int32))), (0, kI x0), (2, kA x2), (6, kI x6)]) rfl ?_
      refine kw_iload (pc := 76) B dJ24_getChars_76 0 rfl ?_
      refine kw_getsR (pc := 78) B dJ24_getChars_78 (i := 2) (C := "java/lang/Integer") (n := "DigitOnes") (dd := "[B") (by decide) q2061 rfl (fun r1 => ?_)
      refine kw_iload_n (pc := 81) B dJ24_getChars_81 rfl 1 rfl ?_
      refine kw_ineg (pc := 82) B dJ24_getChars_82 ?_
      refine kw_bald (pc := 83) B dJ24_getChars_83 (fun i2 => ?_)
      refine kw_bast (pc := 84) B dJ24_getChars_84 ?_
      refine kw_iload_n (pc := 85) B dJ24_getChars_85 rfl 1 rfl ?_
      refine kw_bipush (pc := 86) B dJ24_getChars_86 (v := (-9 : Int32)) rfl ?_
      refine kw_icmp_ge (pc := 88) (tgt := 104) B dJ24_getChars_88 rfl ?_ ?_
      · exact kw_pick [2, 0, 3] rfl (wb_J24_getChars_104 B x2 (x5 + (-1 : Int32)) x6)
      · refine kw_aload_n (pc := 91) B dJ24_getChars_91 rfl 2 rfl ?_
        refine kw_iinc (pc := 92) B dJ24_getChars_92 0 rfl (w := (x5 + (-1 : Int32)) + (-1 : Int32)) rfl (by decide) (L2 := [(5, kI ((x5 + (-1 : Int32)) + (-1 : Int32))), (0, kI x0), (2, kA x2), (6, kI x6)]) rfl ?_
        refine kw_iload (pc := 95) B dJ24_getChars_95 0 rfl ?_
        refine kw_getsR (pc := 97) B dJ24_getChars_97 (i := 3) (C := "java/lang/Integer") (n := "DigitTens") (dd := "[B") (by decide) q2063 rfl (fun r4 => ?_)
        refine kw_iload_n (pc := 100) B dJ24_getChars_100 rfl 1 rfl ?_
        refine kw_ineg (pc := 101) B dJ24_getChars_101 ?_
        refine kw_bald (pc := 102) B dJ24_getChars_102 (fun i5 => ?_)
        refine kw_bast (pc := 103) B dJ24_getChars_103 ?_
        exact kw_pick [2, 0, 3] rfl (wb_J24_getChars_104 B x2 ((x5 + (-1 : Int32)) + (-1 : Int32)) x6)
    · refine kw_iload_n (pc := 28) B dJ24_getChars_28 rfl 0 rfl ?_
      refine kw_bipush (pc := 29) B dJ24_getChars_29 (v := (100 : Int32)) rfl ?_
      refine kw_idiv (pc := 31) B dJ24_getChars_31 (fun i7 => ?_)
      refine kw_istore_n (pc := 32) B dJ24_getChars_32 rfl (by decide) (L2 := [(3, kI i7), (0, kI x0), (2, kA x2), (5, kI x5), (6, kI x6)]) rfl ?_
      refine kw_iload_n (pc := 33) B dJ24_getChars_33 rfl 0 rfl ?_
      refine kw_bipush (pc := 34) B dJ24_getChars_34 (v := (100 : Int32)) rfl ?_
      refine kw_imul (pc := 36) B dJ24_getChars_36 ?_
      refine kw_iload_n (pc := 37) B dJ24_getChars_37 rfl 1 rfl ?_
      refine kw_isub (pc := 38) B dJ24_getChars_38 ?_
      refine kw_istore (pc := 39) B dJ24_getChars_39 (by decide) (L2 := [(4, kI ((i7 * (100 : Int32)) - x0)), (3, kI i7), (0, kI x0), (2, kA x2), (5, kI x5), (6, kI x6)]) rfl ?_
      refine kw_iload_n (pc := 41) B dJ24_getChars_41 rfl 1 rfl ?_
      refine kw_istore_n (pc := 42) B dJ24_getChars_42 rfl (by decide) (L2 := [(0, kI i7), (4, kI ((i7 * (100 : Int32)) - x0)), (3, kI i7), (2, kA x2), (5, kI x5), (6, kI x6)]) rfl ?_
      refine kw_aload_n (pc := 43) B dJ24_getChars_43 rfl 3 rfl ?_
      refine kw_iinc (pc := 44) B dJ24_getChars_44 4 rfl (w := x5 + (-1 : Int32)) rfl (by decide) (L2 := [(5, kI (x5 + (-1 : Int32))), (0, kI i7), (4, kI ((i7 * (100 : Int32)) - x0)), (3, kI i7), (2, kA x2), (6, kI x6)]) rfl ?_
      refine kw_iload (pc := 47) B dJ24_getChars_47 0 rfl ?_
      refine kw_getsR (pc := 49) B dJ24_getChars_49 (i := 2) (C := "java/lang/Integer") (n := "DigitOnes") (dd := "[B") (by decide) q2061 rfl (fun r8 => ?_)
      refine kw_iload (pc := 52) B dJ24_getChars_52 2 rfl ?_
      refine kw_bald (pc := 54) B dJ24_getChars_54 (fun i9 => ?_)
      refine kw_bast (pc := 55) B dJ24_getChars_55 ?_
      refine kw_aload_n (pc := 56) B dJ24_getChars_56 rfl 4 rfl ?_
      refine kw_iinc (pc := 57) B dJ24_getChars_57 0 rfl (w := (x5 + (-1 : Int32)) + (-1 : Int32)) rfl (by decide) (L2 := [(5, kI ((x5 + (-1 : Int32)) + (-1 : Int32))), (0, kI i7), (4, kI ((i7 * (100 : Int32)) - x0)), (3, kI i7), (2, kA x2), (6, kI x6)]) rfl ?_
      refine kw_iload (pc := 60) B dJ24_getChars_60 0 rfl ?_
      refine kw_getsR (pc := 62) B dJ24_getChars_62 (i := 3) (C := "java/lang/Integer") (n := "DigitTens") (dd := "[B") (by decide) q2063 rfl (fun r11 => ?_)
      refine kw_iload (pc := 65) B dJ24_getChars_65 2 rfl ?_
      refine kw_bald (pc := 67) B dJ24_getChars_67 (fun i12 => ?_)
      refine kw_bast (pc := 68) B dJ24_getChars_68 ?_
      refine kw_goto (pc := 69) (tgt := 22) B dJ24_getChars_69 rfl ?_
      exact kw_pick [1, 4, 0, 5] rfl (ih i7 x2 ((x5 + (-1 : Int32)) + (-1 : Int32)) x6)
theorem wb_J24_getChars_12 {E : kw_E} (B : kw_ok E cJ24_getChars RJ24 "getChars" 7 (some .int) 1 0 [])  (x0 : Int32) (x2 : Option Nat) (x5 : Int32) (s0 : Int32) : kw_W E kw_eI 12 [(0, kI x0), (2, kA x2), (5, kI x5)] [kI s0] (pb_J24_getChars_12  x0 x2 x5 s0) := by
  unfold pb_J24_getChars_12
  refine kw_istore (pc := 12) B dJ24_getChars_12 (by decide) (L2 := [(6, kI s0), (0, kI x0), (2, kA x2), (5, kI x5)]) rfl ?_
  refine kw_iload (pc := 14) B dJ24_getChars_14 0 rfl ?_
  refine kw_if_ne (pc := 16) (tgt := 22) B dJ24_getChars_16 rfl ?_ ?_
  · exact kw_pick [1, 2, 3, 0] rfl (wb_J24_getChars_22 B km_fuel x0 x2 x5 s0)
  · refine kw_iload_n (pc := 19) B dJ24_getChars_19 rfl 1 rfl ?_
    refine kw_ineg (pc := 20) B dJ24_getChars_20 ?_
    refine kw_istore_n (pc := 21) B dJ24_getChars_21 rfl (by decide) (L2 := [(0, kI (-x0)), (6, kI s0), (2, kA x2), (5, kI x5)]) rfl ?_
    exact kw_pick [0, 2, 3, 1] rfl (wb_J24_getChars_22 B km_fuel (-x0) x2 x5 s0)
theorem wm_J24_getChars {E : kw_E} (B : kw_ok E cJ24_getChars RJ24 "getChars" 7 (some .int) 1 0 []) (a0 : Int32) (a1 : Int32) (a2 : Option Nat) : kw_W E kw_eI 0 [(0, kI a0), (1, kI a1), (2, kA a2)] [] (pm_J24_getChars a0 a1 a2) := by
  unfold pm_J24_getChars
  refine kw_iload_n (pc := 0) B dJ24_getChars_0 rfl 1 rfl ?_
  refine kw_istore (pc := 1) B dJ24_getChars_1 (by decide) (L2 := [(5, kI a1), (0, kI a0), (1, kI a1), (2, kA a2)]) rfl ?_
  refine kw_iload_n (pc := 3) B dJ24_getChars_3 rfl 1 rfl ?_
  refine kw_if_ge (pc := 4) (tgt := 11) B dJ24_getChars_4 rfl ?_ ?_
  · refine kw_iconst (pc := 11) B dJ24_getChars_11 (v := (0 : Int32)) rfl ?_
    exact kw_pick [1, 3, 0] rfl (wb_J24_getChars_12 B a0 a2 a1 (0 : Int32))
  · refine kw_iconst (pc := 7) B dJ24_getChars_7 (v := (1 : Int32)) rfl ?_
    refine kw_goto (pc := 8) (tgt := 12) B dJ24_getChars_8 rfl ?_
    exact kw_pick [1, 3, 0] rfl (wb_J24_getChars_12 B a0 a2 a1 (1 : Int32))
theorem ct_J24_getChars (a0 : Int32) (a1 : Int32) (a2 : Option Nat) (l : Launch) : kw_Met l yJ24_getChars (ws_ yJ24_getChars cJ24_getChars 7 (some .int)) 1 0 [kI a0, kI a1, kA a2] kw_eI (pm_J24_getChars a0 a1 a2) := kw_met (plainFor_of_name rfl) (Nat.le_of_ble_eq_true rfl) (fun E B => wm_J24_getChars B a0 a1 a2) l

/-! java/lang/AbstractStringBuilder append (I)Ljava/lang/AbstractStringBuilder; -/

theorem wm_J22_append_2 {E : kw_E} (B : kw_ok E cJ22_append_2 RJ22 "append" 4 (some (.object "java/lang/AbstractStringBuilder")) 4 94 []) (a0 : Option Nat) (a1 : Int32) : kw_W E kw_eA 0 [(0, kA a0), (1, kI a1)] [] (pm_J22_append_2 a0 a1) := by
  unfold pm_J22_append_2
  refine kw_aload_n (pc := 0) B dJ22_append_2_0 rfl 0 rfl ?_
  refine kw_gI (pc := 1) B dJ22_append_2_1 fl_J22_79 (fun i1 => ?_)
  refine kw_istore_n (pc := 4) B dJ22_append_2_4 rfl (by decide) (L2 := [(2, kI i1), (0, kA a0), (1, kI a1)]) rfl ?_
  refine kw_iload_n (pc := 5) B dJ22_append_2_5 rfl 0 rfl ?_
  refine kw_iload_n (pc := 6) B dJ22_append_2_6 rfl 2 rfl ?_
  refine kw_callS (pc := 7) B dJ22_append_2_7 (ct_J24_stringSize a1) q2055 q2056 q127 q2057 ⟨by decide, by decide, rfl⟩ (As := [kI a1]) rfl (st := [kI i1]) rfl (Nat.le_of_ble_eq_true rfl) (by decide) (by decide) kw_qI (fun i2 => ?_)
  refine kw_iadd (pc := 10) B dJ22_append_2_10 ?_
  refine kw_istore_n (pc := 11) B dJ22_append_2_11 rfl (by decide) (L2 := [(3, kI (i1 + i2)), (2, kI i1), (0, kA a0), (1, kI a1)]) rfl ?_
  refine kw_aload_n (pc := 12) B dJ22_append_2_12 rfl 2 rfl ?_
  refine kw_iload_n (pc := 13) B dJ22_append_2_13 rfl 0 rfl ?_
  refine kw_callP (pc := 14) B dJ22_append_2_14 (x0 := ⟨"java/lang/AbstractStringBuilder", "ensureCapacityInternal", "(I)V"⟩) (owner := "java/lang/AbstractStringBuilder") (ci := 36) rfl (ct_J22_ensureCapacityInternal a0 (i1 + i2)) q1988 q2800 (kw_selP ⟨by decide, by decide⟩ (lw_all_tbl q2009) rfl q1989 (lw_all_tbl q1990)) q1990 q125 q1991 rfl ⟨by decide, by decide, rfl⟩ (As := [kI (i1 + i2)]) rfl (st := []) rfl (Nat.le_of_ble_eq_true rfl) (by decide) (by decide) kw_qV (fun _ => ?_)
  refine kw_aload_n (pc := 17) B dJ22_append_2_17 rfl 2 rfl ?_
  refine kw_callV (pc := 18) B dJ22_append_2_18 (ci := 36) rfl (ct_J22_isLatin1 a0) q2006 q2007 q2009 q125 q2010 ⟨by decide, by decide, rfl⟩ (As := []) rfl (st := []) rfl (Nat.le_of_ble_eq_true rfl) (by decide) (by decide) kw_qI (fun i3 => ?_)
  refine kw_if_eq (pc := 21) (tgt := 37) B dJ22_append_2_21 rfl ?_ ?_
  · refine kw_iload_n (pc := 37) B dJ22_append_2_37 rfl 3 rfl ?_
    refine kw_iload_n (pc := 38) B dJ22_append_2_38 rfl 1 rfl ?_
    refine kw_iload_n (pc := 39) B dJ22_append_2_39 rfl 0 rfl ?_
    refine kw_aload_n (pc := 40) B dJ22_append_2_40 rfl 2 rfl ?_
    refine kw_gR (pc := 41) B dJ22_append_2_41 fl_J22_15 (fun r4 => ?_)
    exact kw_fail_ok
  · refine kw_iload_n (pc := 24) B dJ22_append_2_24 rfl 3 rfl ?_
    refine kw_iload_n (pc := 25) B dJ22_append_2_25 rfl 0 rfl ?_
    refine kw_aload_n (pc := 26) B dJ22_append_2_26 rfl 2 rfl ?_
    refine kw_gR (pc := 27) B dJ22_append_2_27 fl_J22_15 (fun r5 => ?_)
    refine kw_callS (pc := 30) B dJ22_append_2_30 (ct_J24_getChars a1 (i1 + i2) r5) q2058 q2059 q127 q2060 ⟨by decide, by decide, rfl⟩ (As := [kI a1, kI (i1 + i2), kA r5]) rfl (st := []) rfl (Nat.le_of_ble_eq_true rfl) (by decide) (by decide) kw_qI (fun i6 => ?_)
    refine kw_pop (pc := 33) B dJ22_append_2_33 rfl ?_
    refine kw_goto (pc := 34) (tgt := 48) B dJ22_append_2_34 rfl ?_
    refine kw_aload_n (pc := 48) B dJ22_append_2_48 rfl 2 rfl ?_
    refine kw_iload_n (pc := 49) B dJ22_append_2_49 rfl 0 rfl ?_
    refine kw_pI (pc := 50) B dJ22_append_2_50 fl_J22_79 fp_J22_79 (fun h => by cases h) ?_
    refine kw_aload_n (pc := 53) B dJ22_append_2_53 rfl 2 rfl ?_
    exact kw_aret rfl B dJ22_append_2_54 rfl
theorem ct_J22_append_2 (a0 : Option Nat) (a1 : Int32) (l : Launch) : kw_Met l yJ22_append_2 (ws_ yJ22_append_2 cJ22_append_2 4 (some (.object "java/lang/AbstractStringBuilder"))) 4 94 [kA a0, kI a1] kw_eA (pm_J22_append_2 a0 a1) := kw_met (plainFor_of_name rfl) (Nat.le_of_ble_eq_true rfl) (fun E B => wm_J22_append_2 B a0 a1) l

/-! java/lang/StringBuilder append (I)Ljava/lang/StringBuilder; -/

theorem wm_J23_append_2 {E : kw_E} (B : kw_ok E cJ23_append_2 RJ23 "append" 2 (some (.object "java/lang/StringBuilder")) 5 117 []) (a0 : Option Nat) (a1 : Int32) : kw_W E kw_eA 0 [(0, kA a0), (1, kI a1)] [] (pm_J23_append_2 a0 a1) := by
  unfold pm_J23_append_2
  refine kw_aload_n (pc := 0) B dJ23_append_2_0 rfl 0 rfl ?_
  refine kw_iload_n (pc := 1) B dJ23_append_2_1 rfl 1 rfl ?_
  refine kw_callSU (pc := 2) B dJ23_append_2_2 (ci := 36) rfl (ct_J22_append_2 a0 a1) q2052 q2803 q1976 q2053 q125 q2054 ⟨by decide, rfl⟩ (As := [kI a1]) rfl (st := []) rfl (Nat.le_of_ble_eq_true rfl) (by decide) (by decide) kw_qA (fun r1 => ?_)
  refine kw_pop (pc := 5) B dJ23_append_2_5 rfl ?_
  refine kw_aload_n (pc := 6) B dJ23_append_2_6 rfl 0 rfl ?_
  exact kw_aret rfl B dJ23_append_2_7 rfl
theorem ct_J23_append_2 (a0 : Option Nat) (a1 : Int32) (l : Launch) : kw_Met l yJ23_append_2 (ws_ yJ23_append_2 cJ23_append_2 2 (some (.object "java/lang/StringBuilder"))) 5 117 [kA a0, kI a1] kw_eA (pm_J23_append_2 a0 a1) := kw_met (plainFor_of_name rfl) (Nat.le_of_ble_eq_true rfl) (fun E B => wm_J23_append_2 B a0 a1) l

/-! java/lang/AbstractStringBuilder getValue ()[B -/

theorem wm_J22_getValue {E : kw_E} (B : kw_ok E cJ22_getValue RJ22 "getValue" 1 (some (.array .byte)) 1 0 []) (a0 : Option Nat) : kw_W E kw_eA 0 [(0, kA a0)] [] (pm_J22_getValue a0) := by
  unfold pm_J22_getValue
  refine kw_aload_n (pc := 0) B dJ22_getValue_0 rfl 0 rfl ?_
  refine kw_gR (pc := 1) B dJ22_getValue_1 fl_J22_15 (fun r1 => ?_)
  exact kw_aret rfl B dJ22_getValue_4 rfl
theorem ct_J22_getValue (a0 : Option Nat) (l : Launch) : kw_Met l yJ22_getValue (ws_ yJ22_getValue cJ22_getValue 1 (some (.array .byte))) 1 0 [kA a0] kw_eA (pm_J22_getValue a0) := kw_met (plainFor_of_name rfl) (Nat.le_of_ble_eq_true rfl) (fun E B => wm_J22_getValue B a0) l

/-! java/lang/AbstractStringBuilder length ()I -/

theorem wm_J22_length {E : kw_E} (B : kw_ok E cJ22_length RJ22 "length" 1 (some .int) 1 0 []) (a0 : Option Nat) : kw_W E kw_eI 0 [(0, kA a0)] [] (pm_J22_length a0) := by
  unfold pm_J22_length
  refine kw_aload_n (pc := 0) B dJ22_length_0 rfl 0 rfl ?_
  refine kw_gI (pc := 1) B dJ22_length_1 fl_J22_79 (fun i1 => ?_)
  exact kw_iret B dJ22_length_4 rfl
theorem ct_J22_length (a0 : Option Nat) (l : Launch) : kw_Met l yJ22_length (ws_ yJ22_length cJ22_length 1 (some .int)) 1 0 [kA a0] kw_eI (pm_J22_length a0) := kw_met (plainFor_of_name rfl) (Nat.le_of_ble_eq_true rfl) (fun E B => wm_J22_length B a0) l

/-! java/lang/StringBuilder length ()I -/

theorem wm_J23_length {E : kw_E} (B : kw_ok E cJ23_length RJ23 "length" 1 (some .int) 2 20 []) (a0 : Option Nat) : kw_W E kw_eI 0 [(0, kA a0)] [] (pm_J23_length a0) := by
  unfold pm_J23_length
  refine kw_aload_n (pc := 0) B dJ23_length_0 rfl 0 rfl ?_
  refine kw_callSU (pc := 1) B dJ23_length_1 (ci := 36) rfl (ct_J22_length a0) q2107 q2103 q1976 q2102 q125 q2108 ⟨by decide, rfl⟩ (As := []) rfl (st := []) rfl (Nat.le_of_ble_eq_true rfl) (by decide) (by decide) kw_qI (fun i1 => ?_)
  exact kw_iret B dJ23_length_4 rfl
theorem ct_J23_length (a0 : Option Nat) (l : Launch) : kw_Met l yJ23_length (ws_ yJ23_length cJ23_length 1 (some .int)) 2 20 [kA a0] kw_eI (pm_J23_length a0) := kw_met (plainFor_of_name rfl) (Nat.le_of_ble_eq_true rfl) (fun E B => wm_J23_length B a0) l

/-! java/util/Arrays checkLength (II)V -/

theorem wm_J14_checkLength {E : kw_E} (B : kw_ok E cJ14_checkLength RJ14 "checkLength" 2 none 1 0 []) (a0 : Int32) (a1 : Int32) : kw_W E kw_eV 0 [(0, kI a0), (1, kI a1)] [] (pm_J14_checkLength a0 a1) := by
  unfold pm_J14_checkLength
  refine kw_iload_n (pc := 0) B dJ14_checkLength_0 rfl 1 rfl ?_
  refine kw_iload_n (pc := 1) B dJ14_checkLength_1 rfl 0 rfl ?_
  refine kw_icmp_ge (pc := 2) (tgt := 37) B dJ14_checkLength_2 rfl ?_ ?_
  · exact kw_vret B dJ14_checkLength_37 rfl
  · exact kw_fail_ok
theorem ct_J14_checkLength (a0 : Int32) (a1 : Int32) (l : Launch) : kw_Met l yJ14_checkLength (ws_ yJ14_checkLength cJ14_checkLength 2 none) 1 0 [kI a0, kI a1] kw_eV (pm_J14_checkLength a0 a1) := kw_met (plainFor_of_name rfl) (Nat.le_of_ble_eq_true rfl) (fun E B => wm_J14_checkLength B a0 a1) l

/-! java/util/Arrays copyOfRangeByte ([BII)[B -/

theorem wm_J14_copyOfRangeByte {E : kw_E} (B : kw_ok E cJ14_copyOfRangeByte RJ14 "copyOfRangeByte" 5 (some (.array .byte)) 2 40 []) (a0 : Option Nat) (a1 : Int32) (a2 : Int32) : kw_W E kw_eA 0 [(0, kA a0), (1, kI a1), (2, kI a2)] [] (pm_J14_copyOfRangeByte a0 a1 a2) := by
  unfold pm_J14_copyOfRangeByte
  refine kw_iload_n (pc := 0) B dJ14_copyOfRangeByte_0 rfl 1 rfl ?_
  refine kw_iload_n (pc := 1) B dJ14_copyOfRangeByte_1 rfl 2 rfl ?_
  refine kw_callS (pc := 2) B dJ14_copyOfRangeByte_2 (ct_J14_checkLength a1 a2) q2116 q2117 q94 q2118 ⟨by decide, by decide, rfl⟩ (As := [kI a1, kI a2]) rfl (st := []) rfl (Nat.le_of_ble_eq_true rfl) (by decide) (by decide) kw_qV (fun _ => ?_)
  refine kw_iload_n (pc := 5) B dJ14_copyOfRangeByte_5 rfl 2 rfl ?_
  refine kw_iload_n (pc := 6) B dJ14_copyOfRangeByte_6 rfl 1 rfl ?_
  refine kw_isub (pc := 7) B dJ14_copyOfRangeByte_7 ?_
  refine kw_istore_n (pc := 8) B dJ14_copyOfRangeByte_8 rfl (by decide) (L2 := [(3, kI (a2 - a1)), (0, kA a0), (1, kI a1), (2, kI a2)]) rfl ?_
  refine kw_iload_n (pc := 9) B dJ14_copyOfRangeByte_9 rfl 0 rfl ?_
  refine kw_newaB (pc := 10) B dJ14_copyOfRangeByte_10 q333 (fun r1 => ?_)
  refine kw_astore (pc := 12) B dJ14_copyOfRangeByte_12 (by decide) (L2 := [(4, kA r1), (3, kI (a2 - a1)), (0, kA a0), (1, kI a1), (2, kI a2)]) rfl ?_
  refine kw_aload_n (pc := 14) B dJ14_copyOfRangeByte_14 rfl 2 rfl ?_
  refine kw_iload_n (pc := 15) B dJ14_copyOfRangeByte_15 rfl 3 rfl ?_
  refine kw_aload (pc := 16) B dJ14_copyOfRangeByte_16 0 rfl ?_
  refine kw_iconst (pc := 18) B dJ14_copyOfRangeByte_18 (v := (0 : Int32)) rfl ?_
  refine kw_aload_n (pc := 19) B dJ14_copyOfRangeByte_19 rfl 2 rfl ?_
  refine kw_alen (pc := 20) B dJ14_copyOfRangeByte_20 (fun i2 => ?_)
  refine kw_iload_n (pc := 21) B dJ14_copyOfRangeByte_21 rfl 3 rfl ?_
  refine kw_isub (pc := 22) B dJ14_copyOfRangeByte_22 ?_
  refine kw_iload_n (pc := 23) B dJ14_copyOfRangeByte_23 rfl 1 rfl ?_
  refine kw_mmin (pc := 24) B dJ14_copyOfRangeByte_24 q651 q652 q93 q653 (by decide) (Nat.le_of_ble_eq_true rfl) ?_
  refine kw_acopy (pc := 27) B dJ14_copyOfRangeByte_27 q654 q656 q655 q95 (by decide) (Nat.le_of_ble_eq_true rfl) ?_
  refine kw_aload (pc := 30) B dJ14_copyOfRangeByte_30 0 rfl ?_
  exact kw_aret rfl B dJ14_copyOfRangeByte_32 rfl
theorem ct_J14_copyOfRangeByte (a0 : Option Nat) (a1 : Int32) (a2 : Int32) (l : Launch) : kw_Met l yJ14_copyOfRangeByte (ws_ yJ14_copyOfRangeByte cJ14_copyOfRangeByte 5 (some (.array .byte))) 2 40 [kA a0, kI a1, kI a2] kw_eA (pm_J14_copyOfRangeByte a0 a1 a2) := kw_met (plainFor_of_name rfl) (Nat.le_of_ble_eq_true rfl) (fun E B => wm_J14_copyOfRangeByte B a0 a1 a2) l

/-! java/util/Arrays copyOfRange ([BII)[B -/

theorem wb_J14_copyOfRange_2_10 {E : kw_E} (B : kw_ok E cJ14_copyOfRange_2 RJ14 "copyOfRange" 3 (some (.array .byte)) 3 64 [])  (x0 : Option Nat) (x1 : Int32) (x2 : Int32) : kw_W E kw_eA 10 [(0, kA x0), (1, kI x1), (2, kI x2)] [] (pb_J14_copyOfRange_2_10  x0 x1 x2) := by
  unfold pb_J14_copyOfRange_2_10
  refine kw_aload_n (pc := 10) B dJ14_copyOfRange_2_10 rfl 0 rfl ?_
  refine kw_iload_n (pc := 11) B dJ14_copyOfRange_2_11 rfl 1 rfl ?_
  refine kw_iload_n (pc := 12) B dJ14_copyOfRange_2_12 rfl 2 rfl ?_
  refine kw_callS (pc := 13) B dJ14_copyOfRange_2_13 (ct_J14_copyOfRangeByte x0 x1 x2) q2113 q2114 q94 q2115 ⟨by decide, by decide, rfl⟩ (As := [kA x0, kI x1, kI x2]) rfl (st := []) rfl (Nat.le_of_ble_eq_true rfl) (by decide) (by decide) kw_qA (fun r1 => ?_)
  exact kw_aret rfl B dJ14_copyOfRange_2_16 rfl
theorem wm_J14_copyOfRange_2 {E : kw_E} (B : kw_ok E cJ14_copyOfRange_2 RJ14 "copyOfRange" 3 (some (.array .byte)) 3 64 []) (a0 : Option Nat) (a1 : Int32) (a2 : Int32) : kw_W E kw_eA 0 [(0, kA a0), (1, kI a1), (2, kI a2)] [] (pm_J14_copyOfRange_2 a0 a1 a2) := by
  unfold pm_J14_copyOfRange_2
  refine kw_iload_n (pc := 0) B dJ14_copyOfRange_2_0 rfl 1 rfl ?_
  refine kw_if_ne (pc := 1) (tgt := 10) B dJ14_copyOfRange_2_1 rfl ?_ ?_
  · exact kw_pick [0, 1, 2] rfl (wb_J14_copyOfRange_2_10 B a0 a1 a2)
  · refine kw_iload_n (pc := 4) B dJ14_copyOfRange_2_4 rfl 2 rfl ?_
    refine kw_aload_n (pc := 5) B dJ14_copyOfRange_2_5 rfl 0 rfl ?_
    refine kw_alen (pc := 6) B dJ14_copyOfRange_2_6 (fun i1 => ?_)
    refine kw_icmp_eq (pc := 7) (tgt := 17) B dJ14_copyOfRange_2_7 rfl ?_ ?_
    · refine kw_aload_n (pc := 17) B dJ14_copyOfRange_2_17 rfl 0 rfl ?_
      refine kw_cloneB (pc := 18) B dJ14_copyOfRange_2_18 q2001 q2002 q762 q763 q2003 q2004 (by decide) (Nat.le_of_ble_eq_true rfl) (fun r2 => ?_)
      refine kw_castAB (pc := 21) B dJ14_copyOfRange_2_21 q2005 ?_
      exact kw_aret rfl B dJ14_copyOfRange_2_24 rfl
    · exact kw_pick [0, 1, 2] rfl (wb_J14_copyOfRange_2_10 B a0 a1 a2)
theorem ct_J14_copyOfRange_2 (a0 : Option Nat) (a1 : Int32) (a2 : Int32) (l : Launch) : kw_Met l yJ14_copyOfRange_2 (ws_ yJ14_copyOfRange_2 cJ14_copyOfRange_2 3 (some (.array .byte))) 3 64 [kA a0, kI a1, kI a2] kw_eA (pm_J14_copyOfRange_2 a0 a1 a2) := kw_met (plainFor_of_name rfl) (Nat.le_of_ble_eq_true rfl) (fun E B => wm_J14_copyOfRange_2 B a0 a1 a2) l

/-! java/lang/String <init> (Ljava/lang/AbstractStringBuilder;Ljava/lang/Void;)V -/
theorem fl_J16_1048 : kw_fl RJ16 1048 "java/lang/AbstractStringBuilder" [(36, 2)] := (kw_fl_c (C := RJ23) (T := TJ23) (N := 4) rfl (by decide) in_J23 q1966 (Or.inl rfl) kw_fl_nil)
theorem fp_J16_15 : kw_fp RJ16 .byte true [(35, 1)] := (kw_fp_c (C := RJ16) (T := TJ16) (N := 4) (ty0 := tyJ16) rfl tyJ16_ok nmJ16 rfl (fun _ => rfl) (by decide) rfl kw_fp_nil)
theorem fp_J16_9 : kw_fp RJ16 (.array .byte) true [(35, 0)] := (kw_fp_c (C := RJ16) (T := TJ16) (N := 4) (ty0 := tyJ16) rfl tyJ16_ok nmJ16 rfl (fun _ => rfl) (by decide) rfl kw_fp_nil)
theorem wb_J16_init_2_79 {E : kw_E} (B : kw_ok E cJ16_init_2 RJ16 "<init>" 5 none 4 86 [])  (x0 : Option Nat) (x3 : Option Nat) (x4 : Int32) : kw_W E kw_eV 79 [(0, kA x0), (3, kA x3), (4, kI x4)] [] (pb_J16_init_2_79  x0 x3 x4) := by
  unfold pb_J16_init_2_79
  refine kw_aload_n (pc := 79) B dJ16_init_2_79 rfl 0 rfl ?_
  refine kw_iconst (pc := 80) B dJ16_init_2_80 (v := (1 : Int32)) rfl ?_
  refine kw_pI (pc := 81) B dJ16_init_2_81 fl_J16_15 fp_J16_15 (fun _ => rfl) ?_
  refine kw_aload_n (pc := 84) B dJ16_init_2_84 rfl 0 rfl ?_
  refine kw_aload_n (pc := 85) B dJ16_init_2_85 rfl 1 rfl ?_
  refine kw_iconst (pc := 86) B dJ16_init_2_86 (v := (0 : Int32)) rfl ?_
  refine kw_iload (pc := 87) B dJ16_init_2_87 2 rfl ?_
  refine kw_iconst (pc := 89) B dJ16_init_2_89 (v := (1 : Int32)) rfl ?_
  refine kw_ishl (pc := 90) B dJ16_init_2_90 ?_
  refine kw_callS (pc := 91) B dJ16_init_2_91 (ct_J14_copyOfRange_2 x3 (0 : Int32) (x4 <<< ((1 : Int32) &&& 31))) q2110 q2111 q94 q2112 ⟨by decide, by decide, rfl⟩ (As := [kA x3, kI (0 : Int32), kI (x4 <<< ((1 : Int32) &&& 31))]) rfl (st := [kA x0]) rfl (Nat.le_of_ble_eq_true rfl) (by decide) (by decide) kw_qA (fun r2 => ?_)
  refine kw_pR (pc := 94) B dJ16_init_2_94 fl_J16_9 fp_J16_9 (fun _ => rfl) rfl ?_
  exact kw_vret B dJ16_init_2_97 rfl
theorem wm_J16_init_2 {E : kw_E} (B : kw_ok E cJ16_init_2 RJ16 "<init>" 5 none 4 86 []) (a0 : Option Nat) (a1 : Option Nat) (a2 : Option Nat) : kw_W E kw_eV 0 [(0, kA a0), (1, kA a1), (2, kA a2)] [] (pm_J16_init_2 a0 a1 a2) := by
  unfold pm_J16_init_2
  refine kw_aload_n (pc := 0) B dJ16_init_2_0 rfl 0 rfl ?_
  refine kw_objInit (pc := 1) B dJ16_init_2_1 q2095 q138 q139 (by decide) (Nat.le_of_ble_eq_true rfl) ?_
  refine kw_aload_n (pc := 4) B dJ16_init_2_4 rfl 1 rfl ?_
  refine kw_callV (pc := 5) B dJ16_init_2_5 (ci := 36) rfl (ct_J22_getValue a1) q2096 q2097 q2099 q125 q2100 ⟨by decide, by decide, rfl⟩ (As := []) rfl (st := []) rfl (Nat.le_of_ble_eq_true rfl) (by decide) (by decide) kw_qA (fun r1 => ?_)
  refine kw_astore_n (pc := 8) B dJ16_init_2_8 rfl (by decide) (L2 := [(3, kA r1), (0, kA a0), (1, kA a1), (2, kA a2)]) rfl ?_
  refine kw_aload_n (pc := 9) B dJ16_init_2_9 rfl 2 rfl ?_
  refine kw_callO (pc := 10) B dJ16_init_2_10 (x0 := ⟨"java/lang/AbstractStringBuilder", "length", "()I"⟩) (owner := "java/lang/AbstractStringBuilder") (ci := 36) rfl (ct_J23_length a1) q2101 q2103 q2104 q2105 q126 q2106 q2102 q2108 ⟨by decide, by decide, rfl⟩ (As := []) rfl (st := []) rfl (Nat.le_of_ble_eq_true rfl) (by decide) (by decide) kw_qI (fun i2 => ?_)
  refine kw_istore (pc := 13) B dJ16_init_2_13 (by decide) (L2 := [(4, kI i2), (3, kA r1), (0, kA a0), (1, kA a1), (2, kA a2)]) rfl ?_
  refine kw_aload_n (pc := 15) B dJ16_init_2_15 rfl 3 rfl ?_
  refine kw_callV (pc := 16) B dJ16_init_2_16 (ci := 36) rfl (ct_J22_isLatin1 a1) q2109 q2007 q2009 q125 q2010 ⟨by decide, by decide, rfl⟩ (As := []) rfl (st := []) rfl (Nat.le_of_ble_eq_true rfl) (by decide) (by decide) kw_qI (fun i3 => ?_)
  refine kw_if_eq (pc := 19) (tgt := 41) B dJ16_init_2_19 rfl ?_ ?_
  · refine kw_getsI (pc := 41) B dJ16_init_2_41 (v := (1 : Int32)) (C := "java/lang/String") (n := "COMPACT_STRINGS") (dd := "Z") (by decide) q1075 rfl ?_
    refine kw_if_eq (pc := 44) (tgt := 79) B dJ16_init_2_44 rfl ?_ ?_
    · exact kw_fail_ok
    · refine kw_aload_n (pc := 47) B dJ16_init_2_47 rfl 3 rfl ?_
      refine kw_gI (pc := 48) B dJ16_init_2_48 fl_J16_1048 (fun i4 => ?_)
      refine kw_if_eq (pc := 51) (tgt := 79) B dJ16_init_2_51 rfl ?_ ?_
      · exact kw_pick [2, 1, 0] rfl (wb_J16_init_2_79 B a0 r1 i2)
      · refine kw_aload_n (pc := 54) B dJ16_init_2_54 rfl 2 rfl ?_
        refine kw_aload_n (pc := 55) B dJ16_init_2_55 rfl 1 rfl ?_
        refine kw_iconst (pc := 56) B dJ16_init_2_56 (v := (0 : Int32)) rfl ?_
        refine kw_iload (pc := 57) B dJ16_init_2_57 0 rfl ?_
        exact kw_fail_ok
  · refine kw_aload_n (pc := 22) B dJ16_init_2_22 rfl 2 rfl ?_
    refine kw_iconst (pc := 23) B dJ16_init_2_23 (v := (0 : Int32)) rfl ?_
    refine kw_pI (pc := 24) B dJ16_init_2_24 fl_J16_15 fp_J16_15 (fun _ => rfl) ?_
    refine kw_aload_n (pc := 27) B dJ16_init_2_27 rfl 2 rfl ?_
    refine kw_aload_n (pc := 28) B dJ16_init_2_28 rfl 1 rfl ?_
    refine kw_iconst (pc := 29) B dJ16_init_2_29 (v := (0 : Int32)) rfl ?_
    refine kw_iload (pc := 30) B dJ16_init_2_30 0 rfl ?_
    refine kw_callS (pc := 32) B dJ16_init_2_32 (ct_J14_copyOfRange_2 r1 (0 : Int32) i2) q2110 q2111 q94 q2112 ⟨by decide, by decide, rfl⟩ (As := [kA r1, kI (0 : Int32), kI i2]) rfl (st := [kA a0]) rfl (Nat.le_of_ble_eq_true rfl) (by decide) (by decide) kw_qA (fun r6 => ?_)
    refine kw_pR (pc := 35) B dJ16_init_2_35 fl_J16_9 fp_J16_9 (fun _ => rfl) rfl ?_
    refine kw_goto (pc := 38) (tgt := 97) B dJ16_init_2_38 rfl ?_
    exact kw_vret B dJ16_init_2_97 rfl
theorem ct_J16_init_2 (a0 : Option Nat) (a1 : Option Nat) (a2 : Option Nat) (l : Launch) : kw_Met l yJ16_init_2 (ws_ yJ16_init_2 cJ16_init_2 5 none) 4 86 [kA a0, kA a1, kA a2] kw_eV (pm_J16_init_2 a0 a1 a2) := kw_met (plainFor_of_name rfl) (Nat.le_of_ble_eq_true rfl) (fun E B => wm_J16_init_2 B a0 a1 a2) l

/-! java/lang/String <init> (Ljava/lang/StringBuilder;)V -/

theorem wm_J16_init {E : kw_E} (B : kw_ok E cJ16_init RJ16 "<init>" 2 none 5 110 []) (a0 : Option Nat) (a1 : Option Nat) : kw_W E kw_eV 0 [(0, kA a0), (1, kA a1)] [] (pm_J16_init a0 a1) := by
  unfold pm_J16_init
  refine kw_aload_n (pc := 0) B dJ16_init_0 rfl 0 rfl ?_
  refine kw_aload_n (pc := 1) B dJ16_init_1 rfl 1 rfl ?_
  refine kw_null (pc := 2) B dJ16_init_2 ?_
  refine kw_callI (pc := 3) B dJ16_init_3 (ct_J16_init_2 a0 a1 none) q2092 q2093 q103 q2094 rfl ⟨by decide, by decide, rfl⟩ (As := [kA a1, kA none]) rfl (st := []) rfl (Nat.le_of_ble_eq_true rfl) (by decide) (by decide) kw_qV (fun _ => ?_)
  exact kw_vret B dJ16_init_6 rfl
theorem ct_J16_init (a0 : Option Nat) (a1 : Option Nat) (l : Launch) : kw_Met l yJ16_init (ws_ yJ16_init cJ16_init 2 none) 5 110 [kA a0, kA a1] kw_eV (pm_J16_init a0 a1) := kw_met (plainFor_of_name rfl) (Nat.le_of_ble_eq_true rfl) (fun E B => wm_J16_init B a0 a1) l
