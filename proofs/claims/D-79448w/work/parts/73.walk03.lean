set_option maxRecDepth 100000
/-! java/util/ArrayList remove (Ljava/lang/Object;)Z -/

theorem wb_J2_remove_67 {E : kw_E} (B : kw_ok E cJ2_remove RJ2 "remove" 5 (some .boolean) 3 63 [])  (x0 : Option Nat) (x2 : Option Nat) (x4 : Int32) : kw_W E kw_eI 67 [(0, kA x0), (2, kA x2), (4, kI x4)] [] (pb_J2_remove_67  x0 x2 x4) := by
  unfold pb_J2_remove_67
  refine kw_aload_n (pc := 67) B dJ2_remove_67 rfl 0 rfl ?_
  refine kw_aload_n (pc := 68) B dJ2_remove_68 rfl 1 rfl ?_
  refine kw_iload (pc := 69) B dJ2_remove_69 2 rfl ?_
  refine kw_callV (pc := 71) B dJ2_remove_71 (ci := 30) rfl (ct_J2_fastRemove x0 x2 x4) q1083 q1085 qs11 q77 q1086 ⟨by decide, by decide, rfl⟩ (As := [kA x2, kI x4]) rfl (st := []) rfl (Nat.le_of_ble_eq_true rfl) (by decide) (by decide) kw_qV (fun _ => ?_)
  refine kw_iconst (pc := 74) B dJ2_remove_74 (v := (1 : Int32)) rfl ?_
  exact kw_zret B dJ2_remove_75 (g := fun v => v) (fun _ => rfl)
theorem wb_J2_remove_17 {E : kw_E} (B : kw_ok E cJ2_remove RJ2 "remove" 5 (some .boolean) 3 63 [])  : ∀ (n : Nat) (x0 : Option Nat) (x2 : Option Nat) (x3 : Int32) (x4 : Int32), kw_W E kw_eI 17 [(0, kA x0), (2, kA x2), (3, kI x3), (4, kI x4)] [] (pb_J2_remove_17  n x0 x2 x3 x4) := by
  intro n
  induction n with
  | zero =>
    intro x0 x2 x3 x4
    exact kw_fail_ok
  | succ n ih =>
    intro x0 x2 x3 x4
    show kw_W E kw_eI 17 [(0, kA x0), (2, kA x2), (3, kI x3), (4, kI x4)] [] (
if x3 ≤ x4 then
(km_bind (km_ret .boolean (0 : Int32)) (fun v => km_pure v))
else
(km_bind (km_ldR x2 x4) fun r1 =>
if r1 = none then
(pb_J2_remove_67 x0 x2 x4)
else
(pb_J2_remove_17 n x0 x2 x3 (x4 + (1 : Int32)))))
    refine kw_iload (pc := 17) B dJ2_remove_17 3 rfl ?_
    refine kw_iload_n (pc := 19) B dJ2_remove_19 rfl 2 rfl ?_
    refine kw_icmp_ge (pc := 20) (tgt := 65) B dJ2_remove_20 rfl ?_ ?_
    · refine kw_iconst (pc := 65) B dJ2_remove_65 (v := (0 : Int32)) rfl ?_
      exact kw_zret B dJ2_remove_66 (g := fun v => v) (fun _ => rfl)
    · refine kw_aload_n (pc := 23) B dJ2_remove_23 rfl 1 rfl ?_
      refine kw_iload (pc := 24) B dJ2_remove_24 3 rfl ?_
      refine kw_aald (pc := 26) B dJ2_remove_26 (fun r1 => ?_)
      refine kw_ifnonnull (pc := 27) (tgt := 33) B dJ2_remove_27 rfl ?_ ?_
      · refine kw_iinc (pc := 33) B dJ2_remove_33 3 rfl (w := x4 + (1 : Int32)) rfl (by decide) (L2 := [(4, kI (x4 + (1 : Int32))), (0, kA x0), (2, kA x2), (3, kI x3)]) rfl ?_
        refine kw_goto (pc := 36) (tgt := 17) B dJ2_remove_36 rfl ?_
        exact kw_pick [1, 2, 3, 0] rfl (ih x0 x2 x3 (x4 + (1 : Int32)))
      · refine kw_goto (pc := 30) (tgt := 67) B dJ2_remove_30 rfl ?_
        exact kw_pick [0, 1, 3] rfl (wb_J2_remove_67 B x0 x2 x4)
theorem wb_J2_remove_39 {E : kw_E} (B : kw_ok E cJ2_remove RJ2 "remove" 5 (some .boolean) 3 63 [])  : ∀ (n : Nat) (x0 : Option Nat) (x1 : Option Nat) (x2 : Option Nat) (x3 : Int32) (x4 : Int32), kw_W E kw_eI 39 [(0, kA x0), (1, kA x1), (2, kA x2), (3, kI x3), (4, kI x4)] [] (pb_J2_remove_39  n x0 x1 x2 x3 x4) := by
  intro n
  induction n with
  | zero =>
    intro x0 x1 x2 x3 x4
    exact kw_fail_ok
  | succ n ih =>
    intro x0 x1 x2 x3 x4
    show kw_W E kw_eI 39 [(0, kA x0), (1, kA x1), (2, kA x2), (3, kI x3), (4, kI x4)] [] (
if x3 ≤ x4 then
(km_bind (km_ret .boolean (0 : Int32)) (fun v => km_pure v))
else
(km_bind (km_ldR x2 x4) fun r1 =>
km_bind (km_disp x1 [(0, pm_J25_equals x1 r1), (1, pm_J25_equals x1 r1), (2, pm_J25_equals x1 r1), (3, pm_J25_equals x1 r1), (4, pm_J25_equals x1 r1), (5, pm_J25_equals x1 r1), (6, pm_J25_equals x1 r1), (7, pm_J25_equals x1 r1), (8, pm_J25_equals x1 r1), (9, pm_J25_equals x1 r1), (10, pm_J25_equals x1 r1), (11, pm_J25_equals x1 r1), (12, pm_J25_equals x1 r1), (13, pm_J25_equals x1 r1), (14, pm_J25_equals x1 r1), (15, pm_J25_equals x1 r1), (16, pm_J25_equals x1 r1), (17, pm_J25_equals x1 r1), (18, pm_J25_equals x1 r1), (19, pm_J25_equals x1 r1), (20, pm_J25_equals x1 r1), (21, pm_J25_equals x1 r1), (22, pm_J25_equals x1 r1), (23, pm_J25_equals x1 r1), (24, pm_J25_equals x1 r1), (25, pm_J25_equals x1 r1), (26, pm_J25_equals x1 r1), (27, pm_J25_equals x1 r1), (28, pm_J25_equals x1 r1), (29, pm_J25_equals x1 r1), (35, pm_J16_equals x1 r1), (36, pm_J25_equals x1 r1)]) fun i2 =>
if i2 = 0 then
(pb_J2_remove_39 n x0 x1 x2 x3 (x4 + (1 : Int32)))
else
(pb_J2_remove_67 x0 x2 x4)))
    refine kw_iload (pc := 39) B dJ2_remove_39 4 rfl ?_
    refine kw_iload_n (pc := 41) B dJ2_remove_41 rfl 3 rfl ?_
    refine kw_icmp_ge (pc := 42) (tgt := 65) B dJ2_remove_42 rfl ?_ ?_
    · refine kw_iconst (pc := 65) B dJ2_remove_65 (v := (0 : Int32)) rfl ?_
      exact kw_zret B dJ2_remove_66 (g := fun v => v) (fun _ => rfl)
    · refine kw_aload_n (pc := 45) B dJ2_remove_45 rfl 1 rfl ?_
      refine kw_aload_n (pc := 46) B dJ2_remove_46 rfl 2 rfl ?_
      refine kw_iload (pc := 47) B dJ2_remove_47 4 rfl ?_
      refine kw_aald (pc := 49) B dJ2_remove_49 (fun r1 => ?_)
      refine kw_disp (pc := 50) (pc' := 53) (st := []) kw_hI (fun i2 => ?_) ?_
      · refine kw_if_eq (pc := 53) (tgt := 59) B dJ2_remove_53 rfl ?_ ?_
        · refine kw_iinc (pc := 59) B dJ2_remove_59 4 rfl (w := x4 + (1 : Int32)) rfl (by decide) (L2 := [(4, kI (x4 + (1 : Int32))), (0, kA x0), (1, kA x1), (2, kA x2), (3, kI x3)]) rfl ?_
          refine kw_goto (pc := 62) (tgt := 39) B dJ2_remove_62 rfl ?_
          exact kw_pick [1, 2, 3, 4, 0] rfl (ih x0 x1 x2 x3 (x4 + (1 : Int32)))
        · refine kw_goto (pc := 56) (tgt := 67) B dJ2_remove_56 rfl ?_
          exact kw_pick [0, 2, 4] rfl (wb_J2_remove_67 B x0 x2 x4)
      · intro q hq hk
        simp only [List.mem_cons, List.not_mem_nil, or_false] at hq
        rcases hq with rfl | rfl | rfl | rfl | rfl | rfl | rfl | rfl | rfl | rfl | rfl | rfl | rfl | rfl | rfl | rfl | rfl | rfl | rfl | rfl | rfl | rfl | rfl | rfl | rfl | rfl | rfl | rfl | rfl | rfl | rfl | rfl
        · exact kw_callV (pc := 50) B dJ2_remove_50 (ci := 0) rfl (ct_J25_equals x1 r1) q1037 q1038 q1040 q2804 q1082 ⟨by decide, by decide, rfl⟩ (As := [kA r1]) rfl (st := []) rfl (Nat.le_of_ble_eq_true rfl) (by decide) (by decide) kw_qI hk
        · exact kw_callV (pc := 50) B dJ2_remove_50 (ci := 1) rfl (ct_J25_equals x1 r1) q1037 q1038 q1067 q2804 q1082 ⟨by decide, by decide, rfl⟩ (As := [kA r1]) rfl (st := []) rfl (Nat.le_of_ble_eq_true rfl) (by decide) (by decide) kw_qI hk
        · exact kw_callV (pc := 50) B dJ2_remove_50 (ci := 2) rfl (ct_J25_equals x1 r1) q1037 q1038 q1056 q2804 q1082 ⟨by decide, by decide, rfl⟩ (As := [kA r1]) rfl (st := []) rfl (Nat.le_of_ble_eq_true rfl) (by decide) (by decide) kw_qI hk
        · exact kw_callV (pc := 50) B dJ2_remove_50 (ci := 3) rfl (ct_J25_equals x1 r1) q1037 q1038 q1069 q2804 q1082 ⟨by decide, by decide, rfl⟩ (As := [kA r1]) rfl (st := []) rfl (Nat.le_of_ble_eq_true rfl) (by decide) (by decide) kw_qI hk
        · exact kw_callV (pc := 50) B dJ2_remove_50 (ci := 4) rfl (ct_J25_equals x1 r1) q1037 q1038 q1041 q2804 q1082 ⟨by decide, by decide, rfl⟩ (As := [kA r1]) rfl (st := []) rfl (Nat.le_of_ble_eq_true rfl) (by decide) (by decide) kw_qI hk
        · exact kw_callV (pc := 50) B dJ2_remove_50 (ci := 5) rfl (ct_J25_equals x1 r1) q1037 q1038 q1059 q2804 q1082 ⟨by decide, by decide, rfl⟩ (As := [kA r1]) rfl (st := []) rfl (Nat.le_of_ble_eq_true rfl) (by decide) (by decide) kw_qI hk
        · exact kw_callV (pc := 50) B dJ2_remove_50 (ci := 6) rfl (ct_J25_equals x1 r1) q1037 q1038 q1061 q2804 q1082 ⟨by decide, by decide, rfl⟩ (As := [kA r1]) rfl (st := []) rfl (Nat.le_of_ble_eq_true rfl) (by decide) (by decide) kw_qI hk
        · exact kw_callV (pc := 50) B dJ2_remove_50 (ci := 7) rfl (ct_J25_equals x1 r1) q1037 q1038 q1066 q2804 q1082 ⟨by decide, by decide, rfl⟩ (As := [kA r1]) rfl (st := []) rfl (Nat.le_of_ble_eq_true rfl) (by decide) (by decide) kw_qI hk
        · exact kw_callV (pc := 50) B dJ2_remove_50 (ci := 8) rfl (ct_J25_equals x1 r1) q1037 q1038 q1065 q2804 q1082 ⟨by decide, by decide, rfl⟩ (As := [kA r1]) rfl (st := []) rfl (Nat.le_of_ble_eq_true rfl) (by decide) (by decide) kw_qI hk
        · exact kw_callV (pc := 50) B dJ2_remove_50 (ci := 9) rfl (ct_J25_equals x1 r1) q1037 q1038 q1063 q2804 q1082 ⟨by decide, by decide, rfl⟩ (As := [kA r1]) rfl (st := []) rfl (Nat.le_of_ble_eq_true rfl) (by decide) (by decide) kw_qI hk
        · exact kw_callV (pc := 50) B dJ2_remove_50 (ci := 10) rfl (ct_J25_equals x1 r1) q1037 q1038 q1057 q2804 q1082 ⟨by decide, by decide, rfl⟩ (As := [kA r1]) rfl (st := []) rfl (Nat.le_of_ble_eq_true rfl) (by decide) (by decide) kw_qI hk
        · exact kw_callV (pc := 50) B dJ2_remove_50 (ci := 11) rfl (ct_J25_equals x1 r1) q1037 q1038 q1058 q2804 q1082 ⟨by decide, by decide, rfl⟩ (As := [kA r1]) rfl (st := []) rfl (Nat.le_of_ble_eq_true rfl) (by decide) (by decide) kw_qI hk
        · exact kw_callV (pc := 50) B dJ2_remove_50 (ci := 12) rfl (ct_J25_equals x1 r1) q1037 q1038 q1068 q2804 q1082 ⟨by decide, by decide, rfl⟩ (As := [kA r1]) rfl (st := []) rfl (Nat.le_of_ble_eq_true rfl) (by decide) (by decide) kw_qI hk
        · exact kw_callV (pc := 50) B dJ2_remove_50 (ci := 13) rfl (ct_J25_equals x1 r1) q1037 q1038 q1062 q2804 q1082 ⟨by decide, by decide, rfl⟩ (As := [kA r1]) rfl (st := []) rfl (Nat.le_of_ble_eq_true rfl) (by decide) (by decide) kw_qI hk
        · exact kw_callV (pc := 50) B dJ2_remove_50 (ci := 14) rfl (ct_J25_equals x1 r1) q1037 q1038 q1055 q2804 q1082 ⟨by decide, by decide, rfl⟩ (As := [kA r1]) rfl (st := []) rfl (Nat.le_of_ble_eq_true rfl) (by decide) (by decide) kw_qI hk
        · exact kw_callV (pc := 50) B dJ2_remove_50 (ci := 15) rfl (ct_J25_equals x1 r1) q1037 q1038 q1046 q2804 q1082 ⟨by decide, by decide, rfl⟩ (As := [kA r1]) rfl (st := []) rfl (Nat.le_of_ble_eq_true rfl) (by decide) (by decide) kw_qI hk
        · exact kw_callV (pc := 50) B dJ2_remove_50 (ci := 16) rfl (ct_J25_equals x1 r1) q1037 q1038 q1047 q2804 q1082 ⟨by decide, by decide, rfl⟩ (As := [kA r1]) rfl (st := []) rfl (Nat.le_of_ble_eq_true rfl) (by decide) (by decide) kw_qI hk
        · exact kw_callV (pc := 50) B dJ2_remove_50 (ci := 17) rfl (ct_J25_equals x1 r1) q1037 q1038 q1048 q2804 q1082 ⟨by decide, by decide, rfl⟩ (As := [kA r1]) rfl (st := []) rfl (Nat.le_of_ble_eq_true rfl) (by decide) (by decide) kw_qI hk
        · exact kw_callV (pc := 50) B dJ2_remove_50 (ci := 18) rfl (ct_J25_equals x1 r1) q1037 q1038 q1049 q2804 q1082 ⟨by decide, by decide, rfl⟩ (As := [kA r1]) rfl (st := []) rfl (Nat.le_of_ble_eq_true rfl) (by decide) (by decide) kw_qI hk
        · exact kw_callV (pc := 50) B dJ2_remove_50 (ci := 19) rfl (ct_J25_equals x1 r1) q1037 q1038 q1050 q2804 q1082 ⟨by decide, by decide, rfl⟩ (As := [kA r1]) rfl (st := []) rfl (Nat.le_of_ble_eq_true rfl) (by decide) (by decide) kw_qI hk
        · exact kw_callV (pc := 50) B dJ2_remove_50 (ci := 20) rfl (ct_J25_equals x1 r1) q1037 q1038 q1051 q2804 q1082 ⟨by decide, by decide, rfl⟩ (As := [kA r1]) rfl (st := []) rfl (Nat.le_of_ble_eq_true rfl) (by decide) (by decide) kw_qI hk
        · exact kw_callV (pc := 50) B dJ2_remove_50 (ci := 21) rfl (ct_J25_equals x1 r1) q1037 q1038 q1052 q2804 q1082 ⟨by decide, by decide, rfl⟩ (As := [kA r1]) rfl (st := []) rfl (Nat.le_of_ble_eq_true rfl) (by decide) (by decide) kw_qI hk
        · exact kw_callV (pc := 50) B dJ2_remove_50 (ci := 22) rfl (ct_J25_equals x1 r1) q1037 q1038 q1053 q2804 q1082 ⟨by decide, by decide, rfl⟩ (As := [kA r1]) rfl (st := []) rfl (Nat.le_of_ble_eq_true rfl) (by decide) (by decide) kw_qI hk
        · exact kw_callV (pc := 50) B dJ2_remove_50 (ci := 23) rfl (ct_J25_equals x1 r1) q1037 q1038 q1042 q2804 q1082 ⟨by decide, by decide, rfl⟩ (As := [kA r1]) rfl (st := []) rfl (Nat.le_of_ble_eq_true rfl) (by decide) (by decide) kw_qI hk
        · exact kw_callV (pc := 50) B dJ2_remove_50 (ci := 24) rfl (ct_J25_equals x1 r1) q1037 q1038 q1043 q2804 q1082 ⟨by decide, by decide, rfl⟩ (As := [kA r1]) rfl (st := []) rfl (Nat.le_of_ble_eq_true rfl) (by decide) (by decide) kw_qI hk
        · exact kw_callV (pc := 50) B dJ2_remove_50 (ci := 25) rfl (ct_J25_equals x1 r1) q1037 q1038 q1044 q2804 q1082 ⟨by decide, by decide, rfl⟩ (As := [kA r1]) rfl (st := []) rfl (Nat.le_of_ble_eq_true rfl) (by decide) (by decide) kw_qI hk
        · exact kw_callV (pc := 50) B dJ2_remove_50 (ci := 26) rfl (ct_J25_equals x1 r1) q1037 q1038 q1064 q2804 q1082 ⟨by decide, by decide, rfl⟩ (As := [kA r1]) rfl (st := []) rfl (Nat.le_of_ble_eq_true rfl) (by decide) (by decide) kw_qI hk
        · exact kw_callV (pc := 50) B dJ2_remove_50 (ci := 27) rfl (ct_J25_equals x1 r1) q1037 q1038 q1054 q2804 q1082 ⟨by decide, by decide, rfl⟩ (As := [kA r1]) rfl (st := []) rfl (Nat.le_of_ble_eq_true rfl) (by decide) (by decide) kw_qI hk
        · exact kw_callV (pc := 50) B dJ2_remove_50 (ci := 28) rfl (ct_J25_equals x1 r1) q1037 q1038 q1060 q2804 q1082 ⟨by decide, by decide, rfl⟩ (As := [kA r1]) rfl (st := []) rfl (Nat.le_of_ble_eq_true rfl) (by decide) (by decide) kw_qI hk
        · exact kw_callV (pc := 50) B dJ2_remove_50 (ci := 29) rfl (ct_J25_equals x1 r1) q1037 q1038 q1045 q2804 q1082 ⟨by decide, by decide, rfl⟩ (As := [kA r1]) rfl (st := []) rfl (Nat.le_of_ble_eq_true rfl) (by decide) (by decide) kw_qI hk
        · exact kw_callA (pc := 50) B dJ2_remove_50 (x0 := ⟨"java/lang/Object", "equals", "(Ljava/lang/Object;)Z"⟩) (owner := "java/lang/Object") (ci := 35) rfl (ct_J16_equals x1 r1) q1037 q1039 q1071 q1072 q103 q1073 q1036 ⟨by decide, by decide, rfl⟩ (As := [kA r1]) rfl (st := []) rfl (Nat.le_of_ble_eq_true rfl) (by decide) (by decide) kw_qI hk
        · exact kw_callV (pc := 50) B dJ2_remove_50 (ci := 36) rfl (ct_J25_equals x1 r1) q1037 q1038 q1080 q2804 q1082 ⟨by decide, by decide, rfl⟩ (As := [kA r1]) rfl (st := []) rfl (Nat.le_of_ble_eq_true rfl) (by decide) (by decide) kw_qI hk
theorem wm_J2_remove {E : kw_E} (B : kw_ok E cJ2_remove RJ2 "remove" 5 (some .boolean) 3 63 []) (a0 : Option Nat) (a1 : Option Nat) : kw_W E kw_eI 0 [(0, kA a0), (1, kA a1)] [] (pm_J2_remove a0 a1) := by
  unfold pm_J2_remove
  refine kw_aload_n (pc := 0) B dJ2_remove_0 rfl 0 rfl ?_
  refine kw_gR (pc := 1) B dJ2_remove_1 fl_J2_9 (fun r1 => ?_)
  refine kw_astore_n (pc := 4) B dJ2_remove_4 rfl (by decide) (L2 := [(2, kA r1), (0, kA a0), (1, kA a1)]) rfl ?_
  refine kw_aload_n (pc := 5) B dJ2_remove_5 rfl 1 rfl ?_
  refine kw_gI (pc := 6) B dJ2_remove_6 fl_J2_48 (fun i2 => ?_)
  refine kw_istore_n (pc := 9) B dJ2_remove_9 rfl (by decide) (L2 := [(3, kI i2), (2, kA r1), (0, kA a0), (1, kA a1)]) rfl ?_
  refine kw_iconst (pc := 10) B dJ2_remove_10 (v := (0 : Int32)) rfl ?_
  refine kw_istore (pc := 11) B dJ2_remove_11 (by decide) (L2 := [(4, kI (0 : Int32)), (3, kI i2), (2, kA r1), (0, kA a0), (1, kA a1)]) rfl ?_
  refine kw_aload_n (pc := 13) B dJ2_remove_13 rfl 4 rfl ?_
  refine kw_ifnonnull (pc := 14) (tgt := 39) B dJ2_remove_14 rfl ?_ ?_
  · exact kw_pick [3, 4, 2, 1, 0] rfl (wb_J2_remove_39 B km_fuel a0 a1 r1 i2 (0 : Int32))
  · exact kw_pick [3, 2, 1, 0] rfl (wb_J2_remove_17 B km_fuel a0 r1 i2 (0 : Int32))
theorem ct_J2_remove (a0 : Option Nat) (a1 : Option Nat) (l : Launch) : kw_Met l yJ2_remove (ws_ yJ2_remove cJ2_remove 5 (some .boolean)) 3 63 [kA a0, kA a1] kw_eI (pm_J2_remove a0 a1) := kw_met (plainFor_of_name rfl) (Nat.le_of_ble_eq_true rfl) (fun E B => wm_J2_remove B a0 a1) l

/-! RosaryCarvers$Beads loses (LRosaryCarvers$Bead;)V -/

theorem wm_X2_loses {E : kw_E} (B : kw_ok E cX2_loses RX2 "loses" 3 none 4 87 []) (a0 : Option Nat) (a1 : Option Nat) : kw_W E kw_eV 0 [(0, kA a0), (1, kA a1)] [] (pm_X2_loses a0 a1) := by
  unfold pm_X2_loses
  refine kw_aload_n (pc := 0) B dX2_loses_0 rfl 0 rfl ?_
  refine kw_gR (pc := 1) B dX2_loses_1 fl_X2_10 (fun r1 => ?_)
  refine kw_aload_n (pc := 4) B dX2_loses_4 rfl 1 rfl ?_
  refine kw_callV (pc := 5) B dX2_loses_5 (ci := 30) rfl (ct_J2_remove r1 a1) q1032 q1033 q1034 q77 q1035 ⟨by decide, by decide, rfl⟩ (As := [kA a1]) rfl (st := []) rfl (Nat.le_of_ble_eq_true rfl) (by decide) (by decide) kw_qI (fun i2 => ?_)
  refine kw_istore_n (pc := 8) B dX2_loses_8 rfl (by decide) (L2 := [(2, kI i2), (0, kA a0), (1, kA a1)]) rfl ?_
  exact kw_vret B dX2_loses_9 rfl
theorem ct_X2_loses (a0 : Option Nat) (a1 : Option Nat) (l : Launch) : kw_Met l yX2_loses (ws_ yX2_loses cX2_loses 3 none) 4 87 [kA a0, kA a1] kw_eV (pm_X2_loses a0 a1) := kw_met (plainFor_of_name rfl) (Nat.le_of_ble_eq_true rfl) (fun E B => wm_X2_loses B a0 a1) l

/-! RosaryCarvers$Shop takes (Z)LRosaryCarvers$Bead; -/

theorem wm_X1_takes {E : kw_E} (B : kw_ok E cX1_takes RX1 "takes" 3 (some (.object "RosaryCarvers$Bead")) 9 176 []) (a0 : Option Nat) (a1 : Int32) : kw_W E (kw_x kw_eA) 0 [(0, kA a0), (1, kI a1)] [] (pm_X1_takes a0 a1) := by
  unfold pm_X1_takes
  refine kw_aload_n (pc := 0) B dX1_takes_0 rfl 0 rfl ?_
  refine kw_gR (pc := 1) B dX1_takes_1 fl_X1_24 (fun r1 => ?_)
  refine kw_iload_n (pc := 4) B dX1_takes_4 rfl 1 rfl ?_
  refine kw_disp (pc := 5) (pc' := 8) (st := []) kw_hA (fun r2 => ?_) ?_
  · refine kw_astore_n (pc := 8) B dX1_takes_8 rfl (by decide) (L2 := [(2, kA r2), (0, kA a0), (1, kI a1)]) rfl ?_
    refine kw_aload_n (pc := 9) B dX1_takes_9 rfl 0 rfl ?_
    refine kw_ifnonnull (pc := 10) (tgt := 41) B dX1_takes_10 rfl ?_ ?_
    · refine kw_aload_n (pc := 41) B dX1_takes_41 rfl 1 rfl ?_
      refine kw_gR (pc := 42) B dX1_takes_42 fl_X1_24 (fun r3 => ?_)
      refine kw_aload_n (pc := 45) B dX1_takes_45 rfl 0 rfl ?_
      refine kw_disp (pc := 46) (pc' := 49) (st := []) kw_hV (fun _ => ?_) ?_
      · refine kw_aload_n (pc := 49) B dX1_takes_49 rfl 0 rfl ?_
        exact kw_aret rfl B dX1_takes_50 rfl
      · intro q hq hk
        simp only [List.mem_cons, List.not_mem_nil, or_false] at hq
        rcases hq with rfl | rfl | rfl
        · exact kw_callV (pc := 46) B dX1_takes_46 (ci := 2) rfl (ct_X2_loses r3 r2) q1025 q1026 q1027 q78 q1031 ⟨by decide, by decide, rfl⟩ (As := [kA r2]) rfl (st := []) rfl (Nat.le_of_ble_eq_true rfl) (by decide) (by decide) kw_qV hk
        · exact kw_callV (pc := 46) B dX1_takes_46 (ci := 7) rfl (ct_X2_loses r3 r2) q1025 q1026 q1029 q78 q1031 ⟨by decide, by decide, rfl⟩ (As := [kA r2]) rfl (st := []) rfl (Nat.le_of_ble_eq_true rfl) (by decide) (by decide) kw_qV hk
        · exact kw_callV (pc := 46) B dX1_takes_46 (ci := 12) rfl (ct_X2_loses r3 r2) q1025 q1026 q1030 q78 q1031 ⟨by decide, by decide, rfl⟩ (As := [kA r2]) rfl (st := []) rfl (Nat.le_of_ble_eq_true rfl) (by decide) (by decide) kw_qV hk
    · refine kw_new (pc := 13) B dX1_takes_13 (ci := 8) (N := 8) rfl in_X9 tyX9_ok kz_Refused_ok q1005 q797 q98 (fun r4 => ?_)
      refine kw_dup (pc := 16) B dX1_takes_16 rfl ?_
      refine kw_bipush (pc := 17) B dX1_takes_17 (v := (6 : Int32)) rfl ?_
      refine kw_iload_n (pc := 19) B dX1_takes_19 rfl 2 rfl ?_
      refine kw_callSN (pc := 20) B dX1_takes_20 (ct_X0_bit a1) q1006 q1007 q73 q1008 ⟨by decide, by decide, rfl⟩ (As := [kI a1]) rfl (st := [kI (6 : Int32), kA r4, kA r4]) rfl (Nat.le_of_ble_eq_true rfl) (by decide) (by decide) kw_qI (fun i5 => ?_)
      refine kw_new (pc := 23) B dX1_takes_23 (ci := 8) (N := 8) rfl in_X9 tyX9_ok kz_Refused_ok q1005 q797 q98 (fun r6 => ?_)
      refine kw_dup (pc := 26) B dX1_takes_26 rfl ?_
      refine kw_bipush (pc := 27) B dX1_takes_27 (v := (10 : Int32)) rfl ?_
      refine kw_aload_n (pc := 29) B dX1_takes_29 rfl 1 rfl ?_
      refine kw_iload_n (pc := 30) B dX1_takes_30 rfl 2 rfl ?_
      refine kw_callV (pc := 31) B dX1_takes_31 (ci := 1) rfl (ct_X1_onOthers a0 a1) q1009 q1011 qs10 q74 q1012 ⟨by decide, by decide, rfl⟩ (As := [kI a1]) rfl (st := [kI (10 : Int32), kA r6, kA r6, kI i5, kI (6 : Int32), kA r4, kA r4]) rfl (Nat.le_of_ble_eq_true rfl) (by decide) (by decide) kw_qI (fun i7 => ?_)
      refine kw_callI (pc := 34) B dX1_takes_34 (ct_X9_init r6 (10 : Int32) i7) q1023 q806 q98 q807 rfl ⟨by decide, by decide, rfl⟩ (As := [kI (10 : Int32), kI i7]) rfl (st := [kA r6, kI i5, kI (6 : Int32), kA r4, kA r4]) rfl (Nat.le_of_ble_eq_true rfl) (by decide) (by decide) kw_qV (fun _ => ?_)
      refine kw_callI (pc := 37) B dX1_takes_37 (ct_X9_init_2 r4 (6 : Int32) i5 r6) q1024 q809 q98 q810 rfl ⟨by decide, by decide, rfl⟩ (As := [kI (6 : Int32), kI i5, kA r6]) rfl (st := [kA r4]) rfl (Nat.le_of_ble_eq_true rfl) (by decide) (by decide) kw_qV (fun _ => ?_)
      exact kw_athrow B dX1_takes_40 kw_noh
  · intro q hq hk
    simp only [List.mem_cons, List.not_mem_nil, or_false] at hq
    rcases hq with rfl | rfl | rfl
    · exact kw_callV (pc := 5) B dX1_takes_5 (ci := 2) rfl (ct_X2_finest r1 a1) q874 q875 q876 q78 q880 ⟨by decide, by decide, rfl⟩ (As := [kI a1]) rfl (st := []) rfl (Nat.le_of_ble_eq_true rfl) (by decide) (by decide) kw_qA hk
    · exact kw_callV (pc := 5) B dX1_takes_5 (ci := 7) rfl (ct_X2_finest r1 a1) q874 q875 q878 q78 q880 ⟨by decide, by decide, rfl⟩ (As := [kI a1]) rfl (st := []) rfl (Nat.le_of_ble_eq_true rfl) (by decide) (by decide) kw_qA hk
    · exact kw_callV (pc := 5) B dX1_takes_5 (ci := 12) rfl (ct_X2_finest r1 a1) q874 q875 q879 q78 q880 ⟨by decide, by decide, rfl⟩ (As := [kI a1]) rfl (st := []) rfl (Nat.le_of_ble_eq_true rfl) (by decide) (by decide) kw_qA hk
theorem ct_X1_takes (a0 : Option Nat) (a1 : Int32) (l : Launch) : kw_Met l yX1_takes (ws_ yX1_takes cX1_takes 3 (some (.object "RosaryCarvers$Bead"))) 9 176 [kA a0, kI a1] (kw_x kw_eA) (pm_X1_takes a0 a1) := kw_met (plainFor_of_name rfl) (Nat.le_of_ble_eq_true rfl) (fun E B => wm_X1_takes B a0 a1) l

/-! RosaryCarvers$Shop threads (I)I -/
theorem fl_X1_209 : kw_flN RX1 209 "RosaryCarvers$Rosary" "RosaryCarvers" [(7, 3)] := (kw_flN_c (C := RX8) (T := TX8) (N := 4) rfl (by decide) in_X8 q732 (Or.inl rfl) kw_flN_nil)
theorem fl_X1_219 : kw_flN RX1 219 "RosaryCarvers$Bead" "RosaryCarvers" [(14, 0)] := (kw_flN_c (C := RX16) (T := TX16) (N := 3) rfl (by decide) in_X16 q1408 (Or.inl rfl) kw_flN_nil)
theorem wb_X1_threads_2_41 {E : kw_E} (B : kw_ok E cX1_threads_2 RX1 "threads" 4 (some .int) 10 198 [])  (x0 : Option Nat) (x2 : Option Nat) (s0 : Int32) : kw_W E (kw_x kw_eI) 41 [(0, kA x0), (2, kA x2)] [kI s0] (pb_X1_threads_2_41  x0 x2 s0) := by
  unfold pb_X1_threads_2_41
  refine kw_iconst (pc := 41) B dX1_threads_2_41 (v := (5 : Int32)) rfl ?_
  refine kw_aload_n (pc := 42) B dX1_threads_2_42 rfl 1 rfl ?_
  refine kw_gIN (pc := 43) B dX1_threads_2_43 fl_X1_209 (fun i1 => ?_)
  refine kw_callSNX (pc := 46) B dX1_threads_2_46 (xq := Sum.inl) (fun _ => rfl) kw_noh (ct_X0_needs s0 (5 : Int32) i1) q793 q794 q73 q795 ⟨by decide, by decide, rfl⟩ (As := [kI s0, kI (5 : Int32), kI i1]) rfl (st := []) rfl (Nat.le_of_ble_eq_true rfl) (by decide) (by decide) kw_qV (fun _ => ?_)
  refine kw_aload_n (pc := 49) B dX1_threads_2_49 rfl 0 rfl ?_
  refine kw_aload_n (pc := 50) B dX1_threads_2_50 rfl 1 rfl ?_
  refine kw_callV (pc := 51) B dX1_threads_2_51 (ci := 7) rfl (ct_X8_wantsLarge x2) q1462 q1463 q1464 q97 q1465 ⟨by decide, by decide, rfl⟩ (As := []) rfl (st := [kA x0]) rfl (Nat.le_of_ble_eq_true rfl) (by decide) (by decide) kw_qI (fun i2 => ?_)
  refine kw_callVX (pc := 54) B dX1_threads_2_54 (ci := 1) rfl (xq := Sum.inl) (fun _ => rfl) kw_noh (ct_X1_takes x0 i2) q870 q872 qs9 q74 q873 ⟨by decide, by decide, rfl⟩ (As := [kI i2]) rfl (st := []) rfl (Nat.le_of_ble_eq_true rfl) (by decide) (by decide) kw_qA (fun r3 => ?_)
  refine kw_astore_n (pc := 57) B dX1_threads_2_57 rfl (by decide) (L2 := [(3, kA r3), (0, kA x0), (2, kA x2)]) rfl ?_
  refine kw_aload_n (pc := 58) B dX1_threads_2_58 rfl 2 rfl ?_
  refine kw_aload_n (pc := 59) B dX1_threads_2_59 rfl 0 rfl ?_
  refine kw_callU (pc := 60) B dX1_threads_2_60 (x0 := ⟨"RosaryCarvers$Rosary", "adds", "(LRosaryCarvers$Bead;)V"⟩) (owner := "RosaryCarvers$Beads") (ci := 7) rfl (ct_X2_adds x2 r3) q1466 q1467 q1469 q1424 q78 q1429 rfl ⟨by decide, by decide, rfl⟩ (As := [kA r3]) rfl (st := []) rfl (Nat.le_of_ble_eq_true rfl) (by decide) (by decide) kw_qV (fun _ => ?_)
  refine kw_aload_n (pc := 63) B dX1_threads_2_63 rfl 0 rfl ?_
  refine kw_gIN (pc := 64) B dX1_threads_2_64 fl_X1_219 (fun i4 => ?_)
  exact kw_iret B dX1_threads_2_67 rfl
theorem wb_X1_threads_2_24 {E : kw_E} (B : kw_ok E cX1_threads_2 RX1 "threads" 4 (some .int) 10 198 [])  (x0 : Option Nat) (x1 : Int32) (x2 : Option Nat) (s0 : Int32) : kw_W E (kw_x kw_eI) 24 [(0, kA x0), (1, kI x1), (2, kA x2)] [kI s0] (pb_X1_threads_2_24  x0 x1 x2 s0) := by
  unfold pb_X1_threads_2_24
  refine kw_iconst (pc := 24) B dX1_threads_2_24 (v := (4 : Int32)) rfl ?_
  refine kw_iload_n (pc := 25) B dX1_threads_2_25 rfl 1 rfl ?_
  refine kw_callSNX (pc := 26) B dX1_threads_2_26 (xq := Sum.inl) (fun _ => rfl) kw_noh (ct_X0_needs s0 (4 : Int32) x1) q793 q794 q73 q795 ⟨by decide, by decide, rfl⟩ (As := [kI s0, kI (4 : Int32), kI x1]) rfl (st := []) rfl (Nat.le_of_ble_eq_true rfl) (by decide) (by decide) kw_qV (fun _ => ?_)
  refine kw_aload_n (pc := 29) B dX1_threads_2_29 rfl 2 rfl ?_
  refine kw_callV (pc := 30) B dX1_threads_2_30 (ci := 7) rfl (ct_X8_isWhole x2) q1451 q1452 q1453 q97 q1454 ⟨by decide, by decide, rfl⟩ (As := []) rfl (st := []) rfl (Nat.le_of_ble_eq_true rfl) (by decide) (by decide) kw_qI (fun i1 => ?_)
  refine kw_if_ne (pc := 33) (tgt := 40) B dX1_threads_2_33 rfl ?_ ?_
  · refine kw_iconst (pc := 40) B dX1_threads_2_40 (v := (0 : Int32)) rfl ?_
    exact kw_pick [0, 2] rfl (wb_X1_threads_2_41 B x0 x2 (0 : Int32))
  · refine kw_iconst (pc := 36) B dX1_threads_2_36 (v := (1 : Int32)) rfl ?_
    refine kw_goto (pc := 37) (tgt := 41) B dX1_threads_2_37 rfl ?_
    exact kw_pick [0, 2] rfl (wb_X1_threads_2_41 B x0 x2 (1 : Int32))
theorem wm_X1_threads_2 {E : kw_E} (B : kw_ok E cX1_threads_2 RX1 "threads" 4 (some .int) 10 198 []) (a0 : Option Nat) (a1 : Int32) : kw_W E (kw_x kw_eI) 0 [(0, kA a0), (1, kI a1)] [] (pm_X1_threads_2 a0 a1) := by
  unfold pm_X1_threads_2
  refine kw_aload_n (pc := 0) B dX1_threads_2_0 rfl 0 rfl ?_
  refine kw_gR (pc := 1) B dX1_threads_2_1 fl_X1_28 (fun r1 => ?_)
  refine kw_iload_n (pc := 4) B dX1_threads_2_4 rfl 1 rfl ?_
  refine kw_callV (pc := 5) B dX1_threads_2_5 (ci := 30) rfl (ct_J2_get r1 a1) q868 q503 q504 q77 q505 ⟨by decide, by decide, rfl⟩ (As := [kI a1]) rfl (st := []) rfl (Nat.le_of_ble_eq_true rfl) (by decide) (by decide) kw_qA (fun r2 => ?_)
  refine kw_cast_ok (pc := 8) B dX1_threads_2_8 q716 cs_RosaryCarvers_Rosary ?_
  refine kw_astore_n (pc := 11) B dX1_threads_2_11 rfl (by decide) (L2 := [(2, kA r2), (0, kA a0), (1, kI a1)]) rfl ?_
  refine kw_aload_n (pc := 12) B dX1_threads_2_12 rfl 0 rfl ?_
  refine kw_callV (pc := 13) B dX1_threads_2_13 (ci := 7) rfl (ct_X8_isDone r2) q1013 q1014 q1015 q97 q1016 ⟨by decide, by decide, rfl⟩ (As := []) rfl (st := []) rfl (Nat.le_of_ble_eq_true rfl) (by decide) (by decide) kw_qI (fun i3 => ?_)
  refine kw_if_ne (pc := 16) (tgt := 23) B dX1_threads_2_16 rfl ?_ ?_
  · refine kw_iconst (pc := 23) B dX1_threads_2_23 (v := (0 : Int32)) rfl ?_
    exact kw_pick [1, 2, 0] rfl (wb_X1_threads_2_24 B a0 a1 r2 (0 : Int32))
  · refine kw_iconst (pc := 19) B dX1_threads_2_19 (v := (1 : Int32)) rfl ?_
    refine kw_goto (pc := 20) (tgt := 24) B dX1_threads_2_20 rfl ?_
    exact kw_pick [1, 2, 0] rfl (wb_X1_threads_2_24 B a0 a1 r2 (1 : Int32))
theorem ct_X1_threads_2 (a0 : Option Nat) (a1 : Int32) (l : Launch) : kw_Met l yX1_threads_2 (ws_ yX1_threads_2 cX1_threads_2 4 (some .int)) 10 198 [kA a0, kI a1] (kw_x kw_eI) (pm_X1_threads_2 a0 a1) := kw_met (plainFor_of_name rfl) (Nat.le_of_ble_eq_true rfl) (fun E B => wm_X1_threads_2 B a0 a1) l

/-! RosaryCarvers$7 does (LRosaryCarvers$Shop;)I -/
theorem fl_X22_7 : kw_fl RX22 7 "RosaryCarvers$7" [(20, 1)] := (kw_fl_c (C := RX22) (T := TX22) (N := 3) rfl (by decide) in_X22 q1694 (Or.inl rfl) kw_fl_nil)
theorem wm_X22_does {E : kw_E} (B : kw_ok E cX22_does RX22 "does" 2 (some .int) 11 221 []) (a0 : Option Nat) (a1 : Option Nat) : kw_W E (kw_x kw_eI) 0 [(0, kA a0), (1, kA a1)] [] (pm_X22_does a0 a1) := by
  unfold pm_X22_does
  refine kw_aload_n (pc := 0) B dX22_does_0 rfl 1 rfl ?_
  refine kw_aload_n (pc := 1) B dX22_does_1 rfl 0 rfl ?_
  refine kw_gI (pc := 2) B dX22_does_2 fl_X22_7 (fun i1 => ?_)
  refine kw_callVX (pc := 5) B dX22_does_5 (ci := 1) rfl (xq := Sum.inl) (fun _ => rfl) kw_noh (ct_X1_threads_2 a1 i1) q1527 q1448 q1449 q74 q1450 ⟨by decide, by decide, rfl⟩ (As := [kI i1]) rfl (st := []) rfl (Nat.le_of_ble_eq_true rfl) (by decide) (by decide) kw_qI (fun i2 => ?_)
  exact kw_iret B dX22_does_8 rfl
theorem ct_X22_does (a0 : Option Nat) (a1 : Option Nat) (l : Launch) : kw_Met l yX22_does (ws_ yX22_does cX22_does 2 (some .int)) 11 221 [kA a0, kA a1] (kw_x kw_eI) (pm_X22_does a0 a1) := kw_met (plainFor_of_name rfl) (Nat.le_of_ble_eq_true rfl) (fun E B => wm_X22_does B a0 a1) l

/-! RosaryCarvers$Shop ties (I)I -/
theorem fl_X1_225 : kw_flN RX1 225 "RosaryCarvers$Rosary" "RosaryCarvers" [(7, 2)] := (kw_flN_c (C := RX8) (T := TX8) (N := 4) rfl (by decide) in_X8 q729 (Or.inl rfl) kw_flN_nil)
theorem fp_X1_209 : kw_fp RX1 .int false [(7, 3)] := (kw_fp_c (C := RX8) (T := TX8) (N := 4) (ty0 := tyX8) rfl tyX8_ok nmX8 rfl (fun h => by cases h) (by decide) rfl kw_fp_nil)
theorem wb_X1_ties_24 {E : kw_E} (B : kw_ok E cX1_ties RX1 "ties" 3 (some .int) 6 139 [])  (x1 : Int32) (x2 : Option Nat) (s0 : Int32) : kw_W E (kw_x kw_eI) 24 [(1, kI x1), (2, kA x2)] [kI s0] (pb_X1_ties_24  x1 x2 s0) := by
  unfold pb_X1_ties_24
  refine kw_iconst (pc := 24) B dX1_ties_24 (v := (4 : Int32)) rfl ?_
  refine kw_iload_n (pc := 25) B dX1_ties_25 rfl 0 rfl ?_
  refine kw_callSNX (pc := 26) B dX1_ties_26 (xq := Sum.inl) (fun _ => rfl) kw_noh (ct_X0_needs s0 (4 : Int32) x1) q793 q794 q73 q795 ⟨by decide, by decide, rfl⟩ (As := [kI s0, kI (4 : Int32), kI x1]) rfl (st := []) rfl (Nat.le_of_ble_eq_true rfl) (by decide) (by decide) kw_qV (fun _ => ?_)
  refine kw_aload_n (pc := 29) B dX1_ties_29 rfl 1 rfl ?_
  refine kw_callV (pc := 30) B dX1_ties_30 (ci := 7) rfl (ct_X8_isWhole x2) q1451 q1452 q1453 q97 q1454 ⟨by decide, by decide, rfl⟩ (As := []) rfl (st := []) rfl (Nat.le_of_ble_eq_true rfl) (by decide) (by decide) kw_qI (fun i1 => ?_)
  refine kw_bipush (pc := 33) B dX1_ties_33 (v := (7 : Int32)) rfl ?_
  refine kw_aload_n (pc := 35) B dX1_ties_35 rfl 1 rfl ?_
  refine kw_gIN (pc := 36) B dX1_ties_36 fl_X1_225 (fun i2 => ?_)
  refine kw_iconst (pc := 39) B dX1_ties_39 (v := (1 : Int32)) rfl ?_
  refine kw_iadd (pc := 40) B dX1_ties_40 ?_
  refine kw_aload_n (pc := 41) B dX1_ties_41 rfl 1 rfl ?_
  refine kw_callV (pc := 42) B dX1_ties_42 (ci := 7) rfl (ct_X8_loose x2) q1474 q1456 q1457 q97 q1458 ⟨by decide, by decide, rfl⟩ (As := []) rfl (st := [kI (i2 + (1 : Int32)), kI (7 : Int32), kI i1]) rfl (Nat.le_of_ble_eq_true rfl) (by decide) (by decide) kw_qI (fun i3 => ?_)
  refine kw_isub (pc := 45) B dX1_ties_45 ?_
  refine kw_callSNX (pc := 46) B dX1_ties_46 (xq := Sum.inl) (fun _ => rfl) kw_noh (ct_X0_needs i1 (7 : Int32) ((i2 + (1 : Int32)) - i3)) q793 q794 q73 q795 ⟨by decide, by decide, rfl⟩ (As := [kI i1, kI (7 : Int32), kI ((i2 + (1 : Int32)) - i3)]) rfl (st := []) rfl (Nat.le_of_ble_eq_true rfl) (by decide) (by decide) kw_qV (fun _ => ?_)
  refine kw_aload_n (pc := 49) B dX1_ties_49 rfl 1 rfl ?_
  refine kw_dup (pc := 50) B dX1_ties_50 rfl ?_
  refine kw_gIN (pc := 51) B dX1_ties_51 fl_X1_209 (fun i4 => ?_)
  refine kw_iconst (pc := 54) B dX1_ties_54 (v := (1 : Int32)) rfl ?_
  refine kw_iadd (pc := 55) B dX1_ties_55 ?_
  refine kw_pIN (pc := 56) B dX1_ties_56 fl_X1_209 fp_X1_209 ?_
  refine kw_aload_n (pc := 59) B dX1_ties_59 rfl 1 rfl ?_
  refine kw_gIN (pc := 60) B dX1_ties_60 fl_X1_209 (fun i6 => ?_)
  exact kw_iret B dX1_ties_63 rfl
theorem wm_X1_ties {E : kw_E} (B : kw_ok E cX1_ties RX1 "ties" 3 (some .int) 6 139 []) (a0 : Option Nat) (a1 : Int32) : kw_W E (kw_x kw_eI) 0 [(0, kA a0), (1, kI a1)] [] (pm_X1_ties a0 a1) := by
  unfold pm_X1_ties
  refine kw_aload_n (pc := 0) B dX1_ties_0 rfl 0 rfl ?_
  refine kw_gR (pc := 1) B dX1_ties_1 fl_X1_28 (fun r1 => ?_)
  refine kw_iload_n (pc := 4) B dX1_ties_4 rfl 1 rfl ?_
  refine kw_callV (pc := 5) B dX1_ties_5 (ci := 30) rfl (ct_J2_get r1 a1) q868 q503 q504 q77 q505 ⟨by decide, by decide, rfl⟩ (As := [kI a1]) rfl (st := []) rfl (Nat.le_of_ble_eq_true rfl) (by decide) (by decide) kw_qA (fun r2 => ?_)
  refine kw_cast_ok (pc := 8) B dX1_ties_8 q716 cs_RosaryCarvers_Rosary ?_
  refine kw_astore_n (pc := 11) B dX1_ties_11 rfl (by decide) (L2 := [(2, kA r2), (0, kA a0), (1, kI a1)]) rfl ?_
  refine kw_aload_n (pc := 12) B dX1_ties_12 rfl 0 rfl ?_
  refine kw_callV (pc := 13) B dX1_ties_13 (ci := 7) rfl (ct_X8_isDone r2) q1013 q1014 q1015 q97 q1016 ⟨by decide, by decide, rfl⟩ (As := []) rfl (st := []) rfl (Nat.le_of_ble_eq_true rfl) (by decide) (by decide) kw_qI (fun i3 => ?_)
  refine kw_if_ne (pc := 16) (tgt := 23) B dX1_ties_16 rfl ?_ ?_
  · refine kw_iconst (pc := 23) B dX1_ties_23 (v := (0 : Int32)) rfl ?_
    exact kw_pick [2, 0] rfl (wb_X1_ties_24 B a1 r2 (0 : Int32))
  · refine kw_iconst (pc := 19) B dX1_ties_19 (v := (1 : Int32)) rfl ?_
    refine kw_goto (pc := 20) (tgt := 24) B dX1_ties_20 rfl ?_
    exact kw_pick [2, 0] rfl (wb_X1_ties_24 B a1 r2 (1 : Int32))
theorem ct_X1_ties (a0 : Option Nat) (a1 : Int32) (l : Launch) : kw_Met l yX1_ties (ws_ yX1_ties cX1_ties 3 (some .int)) 6 139 [kA a0, kI a1] (kw_x kw_eI) (pm_X1_ties a0 a1) := kw_met (plainFor_of_name rfl) (Nat.le_of_ble_eq_true rfl) (fun E B => wm_X1_ties B a0 a1) l

/-! RosaryCarvers$8 does (LRosaryCarvers$Shop;)I -/
theorem fl_X23_7 : kw_fl RX23 7 "RosaryCarvers$8" [(21, 1)] := (kw_fl_c (C := RX23) (T := TX23) (N := 3) rfl (by decide) in_X23 q1715 (Or.inl rfl) kw_fl_nil)
theorem wm_X23_does {E : kw_E} (B : kw_ok E cX23_does RX23 "does" 2 (some .int) 7 161 []) (a0 : Option Nat) (a1 : Option Nat) : kw_W E (kw_x kw_eI) 0 [(0, kA a0), (1, kA a1)] [] (pm_X23_does a0 a1) := by
  unfold pm_X23_does
  refine kw_aload_n (pc := 0) B dX23_does_0 rfl 1 rfl ?_
  refine kw_aload_n (pc := 1) B dX23_does_1 rfl 0 rfl ?_
  refine kw_gI (pc := 2) B dX23_does_2 fl_X23_7 (fun i1 => ?_)
  refine kw_callVX (pc := 5) B dX23_does_5 (ci := 1) rfl (xq := Sum.inl) (fun _ => rfl) kw_noh (ct_X1_ties a1 i1) q1531 q1471 q1472 q74 q1473 ⟨by decide, by decide, rfl⟩ (As := [kI i1]) rfl (st := []) rfl (Nat.le_of_ble_eq_true rfl) (by decide) (by decide) kw_qI (fun i2 => ?_)
  exact kw_iret B dX23_does_8 rfl
theorem ct_X23_does (a0 : Option Nat) (a1 : Option Nat) (l : Launch) : kw_Met l yX23_does (ws_ yX23_does cX23_does 2 (some .int)) 7 161 [kA a0, kA a1] (kw_x kw_eI) (pm_X23_does a0 a1) := kw_met (plainFor_of_name rfl) (Nat.le_of_ble_eq_true rfl) (fun E B => wm_X23_does B a0 a1) l

/-! java/util/ArrayList remove (I)Ljava/lang/Object; -/

theorem wm_J2_remove_2 {E : kw_E} (B : kw_ok E cJ2_remove_2 RJ2 "remove" 4 (some (.object "java/lang/Object")) 3 63 []) (a0 : Option Nat) (a1 : Int32) : kw_W E kw_eA 0 [(0, kA a0), (1, kI a1)] [] (pm_J2_remove_2 a0 a1) := by
  unfold pm_J2_remove_2
  refine kw_iload_n (pc := 0) B dJ2_remove_2_0 rfl 1 rfl ?_
  refine kw_aload_n (pc := 1) B dJ2_remove_2_1 rfl 0 rfl ?_
  refine kw_gI (pc := 2) B dJ2_remove_2_2 fl_J2_48 (fun i1 => ?_)
  refine kw_callS (pc := 5) B dJ2_remove_2_5 (ct_J10_checkIndex a1 i1) q506 q507 q89 q508 ⟨by decide, by decide, rfl⟩ (As := [kI a1, kI i1]) rfl (st := []) rfl (Nat.le_of_ble_eq_true rfl) (by decide) (by decide) kw_qI (fun i2 => ?_)
  refine kw_pop (pc := 8) B dJ2_remove_2_8 rfl ?_
  refine kw_aload_n (pc := 9) B dJ2_remove_2_9 rfl 0 rfl ?_
  refine kw_gR (pc := 10) B dJ2_remove_2_10 fl_J2_9 (fun r3 => ?_)
  refine kw_astore_n (pc := 13) B dJ2_remove_2_13 rfl (by decide) (L2 := [(2, kA r3), (0, kA a0), (1, kI a1)]) rfl ?_
  refine kw_aload_n (pc := 14) B dJ2_remove_2_14 rfl 0 rfl ?_
  refine kw_iload_n (pc := 15) B dJ2_remove_2_15 rfl 2 rfl ?_
  refine kw_aald (pc := 16) B dJ2_remove_2_16 (fun r4 => ?_)
  refine kw_astore_n (pc := 17) B dJ2_remove_2_17 rfl (by decide) (L2 := [(3, kA r4), (2, kA r3), (0, kA a0), (1, kI a1)]) rfl ?_
  refine kw_aload_n (pc := 18) B dJ2_remove_2_18 rfl 2 rfl ?_
  refine kw_aload_n (pc := 19) B dJ2_remove_2_19 rfl 1 rfl ?_
  refine kw_iload_n (pc := 20) B dJ2_remove_2_20 rfl 3 rfl ?_
  refine kw_callV (pc := 21) B dJ2_remove_2_21 (ci := 30) rfl (ct_J2_fastRemove a0 r3 a1) q1083 q1085 qs11 q77 q1086 ⟨by decide, by decide, rfl⟩ (As := [kA r3, kI a1]) rfl (st := []) rfl (Nat.le_of_ble_eq_true rfl) (by decide) (by decide) kw_qV (fun _ => ?_)
  refine kw_aload_n (pc := 24) B dJ2_remove_2_24 rfl 0 rfl ?_
  exact kw_aret rfl B dJ2_remove_2_25 rfl
theorem ct_J2_remove_2 (a0 : Option Nat) (a1 : Int32) (l : Launch) : kw_Met l yJ2_remove_2 (ws_ yJ2_remove_2 cJ2_remove_2 4 (some (.object "java/lang/Object"))) 3 63 [kA a0, kI a1] kw_eA (pm_J2_remove_2 a0 a1) := kw_met (plainFor_of_name rfl) (Nat.le_of_ble_eq_true rfl) (fun E B => wm_J2_remove_2 B a0 a1) l

/-! RosaryCarvers$Rosary drops ()LRosaryCarvers$Bead; -/
theorem fl_X8_49 : kw_flN RX8 49 "RosaryCarvers$Beads" "RosaryCarvers" [(2, 0), (7, 0), (12, 0)] := (kw_flN_c (C := RX2) (T := TX2) (N := 1) rfl (by decide) in_X2 q185 (Or.inl rfl) (kw_flN_c (C := RX8) (T := TX8) (N := 4) rfl (by decide) in_X8 q185 (Or.inl rfl) (kw_flN_c (C := RX14) (T := TX14) (N := 3) rfl (by decide) in_X14 q185 (Or.inl rfl) kw_flN_nil)))
theorem wm_X8_drops {E : kw_E} (B : kw_ok E cX8_drops RX8 "drops" 1 (some (.object "RosaryCarvers$Bead")) 4 86 []) (a0 : Option Nat) : kw_W E kw_eA 0 [(0, kA a0)] [] (pm_X8_drops a0) := by
  unfold pm_X8_drops
  refine kw_aload_n (pc := 0) B dX8_drops_0 rfl 0 rfl ?_
  refine kw_gRN (pc := 1) B dX8_drops_1 fl_X8_49 (fun r1 => ?_)
  refine kw_aload_n (pc := 4) B dX8_drops_4 rfl 0 rfl ?_
  refine kw_callU (pc := 5) B dX8_drops_5 (x0 := ⟨"RosaryCarvers$Rosary", "size", "()I"⟩) (owner := "RosaryCarvers$Beads") (ci := 7) rfl (ct_X2_size a0) q1459 q1460 q1461 q1108 q78 q1109 rfl ⟨by decide, by decide, rfl⟩ (As := []) rfl (st := [kA r1]) rfl (Nat.le_of_ble_eq_true rfl) (by decide) (by decide) kw_qI (fun i2 => ?_)
  refine kw_iconst (pc := 8) B dX8_drops_8 (v := (1 : Int32)) rfl ?_
  refine kw_isub (pc := 9) B dX8_drops_9 ?_
  refine kw_callV (pc := 10) B dX8_drops_10 (ci := 30) rfl (ct_J2_remove_2 r1 (i2 - (1 : Int32))) q1483 q1088 q1089 q77 q1090 ⟨by decide, by decide, rfl⟩ (As := [kI (i2 - (1 : Int32))]) rfl (st := []) rfl (Nat.le_of_ble_eq_true rfl) (by decide) (by decide) kw_qA (fun r3 => ?_)
  refine kw_cast_ok (pc := 13) B dX8_drops_13 q1484 cs_RosaryCarvers_Bead ?_
  exact kw_aret rfl B dX8_drops_16 rfl
theorem ct_X8_drops (a0 : Option Nat) (l : Launch) : kw_Met l yX8_drops (ws_ yX8_drops cX8_drops 1 (some (.object "RosaryCarvers$Bead"))) 4 86 [kA a0] kw_eA (pm_X8_drops a0) := kw_met (plainFor_of_name rfl) (Nat.le_of_ble_eq_true rfl) (fun E B => wm_X8_drops B a0) l

/-! RosaryCarvers$Shop drops (I)I -/

theorem wb_X1_drops_20 {E : kw_E} (B : kw_ok E cX1_drops RX1 "drops" 5 (some .int) 8 192 [])  : ∀ (n : Nat) (x0 : Option Nat) (x2 : Option Nat) (x3 : Int32) (x4 : Int32), kw_W E kw_eI 20 [(0, kA x0), (2, kA x2), (3, kI x3), (4, kI x4)] [] (pb_X1_drops_20  n x0 x2 x3 x4) := by
  intro n
  induction n with
  | zero =>
    intro x0 x2 x3 x4
    exact kw_fail_ok
  | succ n ih =>
    intro x0 x2 x3 x4
    show kw_W E kw_eI 20 [(0, kA x0), (2, kA x2), (3, kI x3), (4, kI x4)] [] (
if x3 ≤ x4 then
(km_pure x3)
else
(km_bind (km_gR [(1, 2)] x0) fun r1 =>
km_bind (km_is 7 x2) fun _ => km_bind (pm_X8_drops x2) fun r2 =>
km_bind (km_disp r1 [(2, pm_X2_adds r1 r2), (7, pm_X2_adds r1 r2), (12, pm_X2_adds r1 r2)]) fun _ =>
pb_X1_drops_20 n x0 x2 x3 (x4 + (1 : Int32))))
    refine kw_iload (pc := 20) B dX1_drops_20 3 rfl ?_
    refine kw_iload_n (pc := 22) B dX1_drops_22 rfl 2 rfl ?_
    refine kw_icmp_ge (pc := 23) (tgt := 43) B dX1_drops_23 rfl ?_ ?_
    · refine kw_iload_n (pc := 43) B dX1_drops_43 rfl 2 rfl ?_
      exact kw_iret B dX1_drops_44 rfl
    · refine kw_aload_n (pc := 26) B dX1_drops_26 rfl 0 rfl ?_
      refine kw_gR (pc := 27) B dX1_drops_27 fl_X1_24 (fun r1 => ?_)
      refine kw_aload_n (pc := 30) B dX1_drops_30 rfl 1 rfl ?_
      refine kw_callV (pc := 31) B dX1_drops_31 (ci := 7) rfl (ct_X8_drops x2) q1479 q1480 q1481 q97 q1482 ⟨by decide, by decide, rfl⟩ (As := []) rfl (st := [kA r1]) rfl (Nat.le_of_ble_eq_true rfl) (by decide) (by decide) kw_qA (fun r2 => ?_)
      refine kw_disp (pc := 34) (pc' := 37) (st := []) kw_hV (fun _ => ?_) ?_
      · refine kw_iinc (pc := 37) B dX1_drops_37 3 rfl (w := x4 + (1 : Int32)) rfl (by decide) (L2 := [(4, kI (x4 + (1 : Int32))), (0, kA x0), (2, kA x2), (3, kI x3)]) rfl ?_
        refine kw_goto (pc := 40) (tgt := 20) B dX1_drops_40 rfl ?_
        exact kw_pick [1, 2, 3, 0] rfl (ih x0 x2 x3 (x4 + (1 : Int32)))
      · intro q hq hk
        simp only [List.mem_cons, List.not_mem_nil, or_false] at hq
        rcases hq with rfl | rfl | rfl
        · exact kw_callV (pc := 34) B dX1_drops_34 (ci := 2) rfl (ct_X2_adds r1 r2) q1423 q1424 q1425 q78 q1429 ⟨by decide, by decide, rfl⟩ (As := [kA r2]) rfl (st := []) rfl (Nat.le_of_ble_eq_true rfl) (by decide) (by decide) kw_qV hk
        · exact kw_callV (pc := 34) B dX1_drops_34 (ci := 7) rfl (ct_X2_adds r1 r2) q1423 q1424 q1427 q78 q1429 ⟨by decide, by decide, rfl⟩ (As := [kA r2]) rfl (st := []) rfl (Nat.le_of_ble_eq_true rfl) (by decide) (by decide) kw_qV hk
        · exact kw_callV (pc := 34) B dX1_drops_34 (ci := 12) rfl (ct_X2_adds r1 r2) q1423 q1424 q1428 q78 q1429 ⟨by decide, by decide, rfl⟩ (As := [kA r2]) rfl (st := []) rfl (Nat.le_of_ble_eq_true rfl) (by decide) (by decide) kw_qV hk
theorem wm_X1_drops {E : kw_E} (B : kw_ok E cX1_drops RX1 "drops" 5 (some .int) 8 192 []) (a0 : Option Nat) (a1 : Int32) : kw_W E kw_eI 0 [(0, kA a0), (1, kI a1)] [] (pm_X1_drops a0 a1) := by
  unfold pm_X1_drops
  refine kw_aload_n (pc := 0) B dX1_drops_0 rfl 0 rfl ?_
  refine kw_gR (pc := 1) B dX1_drops_1 fl_X1_28 (fun r1 => ?_)
  refine kw_iload_n (pc := 4) B dX1_drops_4 rfl 1 rfl ?_
  refine kw_callV (pc := 5) B dX1_drops_5 (ci := 30) rfl (ct_J2_get r1 a1) q868 q503 q504 q77 q505 ⟨by decide, by decide, rfl⟩ (As := [kI a1]) rfl (st := []) rfl (Nat.le_of_ble_eq_true rfl) (by decide) (by decide) kw_qA (fun r2 => ?_)
  refine kw_cast_ok (pc := 8) B dX1_drops_8 q716 cs_RosaryCarvers_Rosary ?_
  refine kw_astore_n (pc := 11) B dX1_drops_11 rfl (by decide) (L2 := [(2, kA r2), (0, kA a0), (1, kI a1)]) rfl ?_
  refine kw_aload_n (pc := 12) B dX1_drops_12 rfl 0 rfl ?_
  refine kw_callV (pc := 13) B dX1_drops_13 (ci := 7) rfl (ct_X8_loose r2) q1474 q1456 q1457 q97 q1458 ⟨by decide, by decide, rfl⟩ (As := []) rfl (st := []) rfl (Nat.le_of_ble_eq_true rfl) (by decide) (by decide) kw_qI (fun i3 => ?_)
  refine kw_istore_n (pc := 16) B dX1_drops_16 rfl (by decide) (L2 := [(3, kI i3), (2, kA r2), (0, kA a0), (1, kI a1)]) rfl ?_
  refine kw_iconst (pc := 17) B dX1_drops_17 (v := (0 : Int32)) rfl ?_
  refine kw_istore (pc := 18) B dX1_drops_18 (by decide) (L2 := [(4, kI (0 : Int32)), (3, kI i3), (2, kA r2), (0, kA a0), (1, kI a1)]) rfl ?_
  exact kw_pick [3, 2, 1, 0] rfl (wb_X1_drops_20 B km_fuel a0 r2 i3 (0 : Int32))
theorem ct_X1_drops (a0 : Option Nat) (a1 : Int32) (l : Launch) : kw_Met l yX1_drops (ws_ yX1_drops cX1_drops 5 (some .int)) 8 192 [kA a0, kI a1] kw_eI (pm_X1_drops a0 a1) := kw_met (plainFor_of_name rfl) (Nat.le_of_ble_eq_true rfl) (fun E B => wm_X1_drops B a0 a1) l

/-! RosaryCarvers$9 does (LRosaryCarvers$Shop;)I -/
theorem fl_X24_7 : kw_fl RX24 7 "RosaryCarvers$9" [(22, 1)] := (kw_fl_c (C := RX24) (T := TX24) (N := 3) rfl (by decide) in_X24 q1736 (Or.inl rfl) kw_fl_nil)
theorem wm_X24_does {E : kw_E} (B : kw_ok E cX24_does RX24 "does" 2 (some .int) 9 216 []) (a0 : Option Nat) (a1 : Option Nat) : kw_W E (kw_x kw_eI) 0 [(0, kA a0), (1, kA a1)] [] (pm_X24_does a0 a1) := by
  unfold pm_X24_does
  refine kw_aload_n (pc := 0) B dX24_does_0 rfl 1 rfl ?_
  refine kw_aload_n (pc := 1) B dX24_does_1 rfl 0 rfl ?_
  refine kw_gI (pc := 2) B dX24_does_2 fl_X24_7 (fun i1 => ?_)
  refine kw_callV (pc := 5) B dX24_does_5 (ci := 1) rfl (ct_X1_drops a1 i1) q1535 q1476 q1477 q74 q1478 ⟨by decide, by decide, rfl⟩ (As := [kI i1]) rfl (st := []) rfl (Nat.le_of_ble_eq_true rfl) (by decide) (by decide) kw_qI (fun i2 => ?_)
  exact kw_iret B dX24_does_8 rfl
theorem ct_X24_does (a0 : Option Nat) (a1 : Option Nat) (l : Launch) : kw_Met l yX24_does (ws_ yX24_does cX24_does 2 (some .int)) 9 216 [kA a0, kA a1] (kw_x kw_eI) (pm_X24_does a0 a1) := kw_met (plainFor_of_name rfl) (Nat.le_of_ble_eq_true rfl) (fun E B => wm_X24_does B a0 a1) l

/-! RosaryCarvers seasonOf (I)I -/

theorem wm_X0_seasonOf {E : kw_E} (B : kw_ok E cX0_seasonOf RX0 "seasonOf" 1 (some .int) 1 0 []) (a0 : Int32) : kw_W E kw_eI 0 [(0, kI a0)] [] (pm_X0_seasonOf a0) := by
  unfold pm_X0_seasonOf
  refine kw_iload_n (pc := 0) B dX0_seasonOf_0 rfl 0 rfl ?_
  refine kw_bipush (pc := 1) B dX0_seasonOf_1 (v := (30 : Int32)) rfl ?_
  refine kw_idiv (pc := 3) B dX0_seasonOf_3 (fun i1 => ?_)
  refine kw_iconst (pc := 4) B dX0_seasonOf_4 (v := (4 : Int32)) rfl ?_
  refine kw_irem (pc := 5) B dX0_seasonOf_5 (fun i2 => ?_)
  exact kw_iret B dX0_seasonOf_6 rfl
theorem ct_X0_seasonOf (a0 : Int32) (l : Launch) : kw_Met l yX0_seasonOf (ws_ yX0_seasonOf cX0_seasonOf 1 (some .int)) 1 0 [kI a0] kw_eI (pm_X0_seasonOf a0) := kw_met (plainFor_of_name rfl) (Nat.le_of_ble_eq_true rfl) (fun E B => wm_X0_seasonOf B a0) l

/-! RosaryCarvers$Pilgrim <init> (IIII)V -/
theorem fl_X10_7 : kw_fl RX10 7 "RosaryCarvers$Pilgrim" [(9, 0)] := (kw_fl_c (C := RX10) (T := TX10) (N := 4) rfl (by decide) in_X10 q836 (Or.inl rfl) kw_fl_nil)
theorem fp_X10_7 : kw_fp RX10 .int true [(9, 0)] := (kw_fp_c (C := RX10) (T := TX10) (N := 4) (ty0 := tyX10) rfl tyX10_ok nmX10 rfl (fun _ => rfl) (by decide) rfl kw_fp_nil)
theorem fl_X10_13 : kw_fl RX10 13 "RosaryCarvers$Pilgrim" [(9, 1)] := (kw_fl_c (C := RX10) (T := TX10) (N := 4) rfl (by decide) in_X10 q839 (Or.inl rfl) kw_fl_nil)
theorem fp_X10_13 : kw_fp RX10 .int true [(9, 1)] := (kw_fp_c (C := RX10) (T := TX10) (N := 4) (ty0 := tyX10) rfl tyX10_ok nmX10 rfl (fun _ => rfl) (by decide) rfl kw_fp_nil)
theorem fl_X10_16 : kw_fl RX10 16 "RosaryCarvers$Pilgrim" [(9, 2)] := (kw_fl_c (C := RX10) (T := TX10) (N := 4) rfl (by decide) in_X10 q842 (Or.inl rfl) kw_fl_nil)
theorem fp_X10_16 : kw_fp RX10 .int true [(9, 2)] := (kw_fp_c (C := RX10) (T := TX10) (N := 4) (ty0 := tyX10) rfl tyX10_ok nmX10 rfl (fun _ => rfl) (by decide) rfl kw_fp_nil)
theorem fl_X10_19 : kw_fl RX10 19 "RosaryCarvers$Pilgrim" [(9, 3)] := (kw_fl_c (C := RX10) (T := TX10) (N := 4) rfl (by decide) in_X10 q845 (Or.inl rfl) kw_fl_nil)
theorem fp_X10_19 : kw_fp RX10 .int true [(9, 3)] := (kw_fp_c (C := RX10) (T := TX10) (N := 4) (ty0 := tyX10) rfl tyX10_ok nmX10 rfl (fun _ => rfl) (by decide) rfl kw_fp_nil)
theorem wm_X10_init {E : kw_E} (B : kw_ok E cX10_init RX10 "<init>" 5 none 1 24 []) (a0 : Option Nat) (a1 : Int32) (a2 : Int32) (a3 : Int32) (a4 : Int32) : kw_W E kw_eV 0 [(0, kA a0), (1, kI a1), (2, kI a2), (3, kI a3), (4, kI a4)] [] (pm_X10_init a0 a1 a2 a3 a4) := by
  unfold pm_X10_init
  refine kw_aload_n (pc := 0) B dX10_init_0 rfl 0 rfl ?_
  refine kw_objInit (pc := 1) B dX10_init_1 q835 q138 q139 (by decide) (Nat.le_of_ble_eq_true rfl) ?_
  refine kw_aload_n (pc := 4) B dX10_init_4 rfl 0 rfl ?_
  refine kw_iload_n (pc := 5) B dX10_init_5 rfl 1 rfl ?_
  refine kw_pI (pc := 6) B dX10_init_6 fl_X10_7 fp_X10_7 (fun _ => rfl) ?_
  refine kw_aload_n (pc := 9) B dX10_init_9 rfl 0 rfl ?_
  refine kw_iload_n (pc := 10) B dX10_init_10 rfl 2 rfl ?_
  refine kw_pI (pc := 11) B dX10_init_11 fl_X10_13 fp_X10_13 (fun _ => rfl) ?_
  refine kw_aload_n (pc := 14) B dX10_init_14 rfl 0 rfl ?_
  refine kw_iload_n (pc := 15) B dX10_init_15 rfl 3 rfl ?_
  refine kw_pI (pc := 16) B dX10_init_16 fl_X10_16 fp_X10_16 (fun _ => rfl) ?_
  refine kw_aload_n (pc := 19) B dX10_init_19 rfl 0 rfl ?_
  refine kw_iload (pc := 20) B dX10_init_20 4 rfl ?_
  refine kw_pI (pc := 22) B dX10_init_22 fl_X10_19 fp_X10_19 (fun _ => rfl) ?_
  exact kw_vret B dX10_init_25 rfl
theorem ct_X10_init (a0 : Option Nat) (a1 : Int32) (a2 : Int32) (a3 : Int32) (a4 : Int32) (l : Launch) : kw_Met l yX10_init (ws_ yX10_init cX10_init 5 none) 1 24 [kA a0, kI a1, kI a2, kI a3, kI a4] kw_eV (pm_X10_init a0 a1 a2 a3 a4) := kw_met (plainFor_of_name rfl) (Nat.le_of_ble_eq_true rfl) (fun E B => wm_X10_init B a0 a1 a2 a3 a4) l

/-! RosaryCarvers$Shop tells (IIII)I -/

theorem wb_X1_tells_55 {E : kw_E} (B : kw_ok E cX1_tells RX1 "tells" 7 (some .int) 7 171 [])  (x0 : Option Nat) (x2 : Int32) (x3 : Int32) (x4 : Int32) (s0 : Int32) : kw_W E (kw_x kw_eI) 55 [(0, kA x0), (2, kI x2), (3, kI x3), (4, kI x4)] [kI s0] (pb_X1_tells_55  x0 x2 x3 x4 s0) := by
  unfold pb_X1_tells_55
  refine kw_istore (pc := 55) B dX1_tells_55 (by decide) (L2 := [(6, kI s0), (0, kA x0), (2, kI x2), (3, kI x3), (4, kI x4)]) rfl ?_
  refine kw_aload_n (pc := 57) B dX1_tells_57 rfl 1 rfl ?_
  refine kw_gR (pc := 58) B dX1_tells_58 fl_X1_31 (fun r1 => ?_)
  refine kw_new (pc := 61) B dX1_tells_61 (ci := 9) (N := 4) rfl in_X10 tyX10_ok kz_Pilgrim_ok q830 q831 q99 (fun r2 => ?_)
  refine kw_dup (pc := 64) B dX1_tells_64 rfl ?_
  refine kw_iload (pc := 65) B dX1_tells_65 0 rfl ?_
  refine kw_iload_n (pc := 67) B dX1_tells_67 rfl 2 rfl ?_
  refine kw_iload_n (pc := 68) B dX1_tells_68 rfl 3 rfl ?_
  refine kw_iload (pc := 69) B dX1_tells_69 4 rfl ?_
  refine kw_callI (pc := 71) B dX1_tells_71 (ct_X10_init r2 s0 x2 x3 x4) q832 q833 q99 q834 rfl ⟨by decide, by decide, rfl⟩ (As := [kI s0, kI x2, kI x3, kI x4]) rfl (st := [kA r2, kA r1]) rfl (Nat.le_of_ble_eq_true rfl) (by decide) (by decide) kw_qV (fun _ => ?_)
  refine kw_callV (pc := 74) B dX1_tells_74 (ci := 30) rfl (ct_J2_add r1 r2) q572 q573 q574 q77 q575 ⟨by decide, by decide, rfl⟩ (As := [kA r2]) rfl (st := []) rfl (Nat.le_of_ble_eq_true rfl) (by decide) (by decide) kw_qI (fun i3 => ?_)
  refine kw_pop (pc := 77) B dX1_tells_77 rfl ?_
  refine kw_aload_n (pc := 78) B dX1_tells_78 rfl 1 rfl ?_
  refine kw_gR (pc := 79) B dX1_tells_79 fl_X1_31 (fun r4 => ?_)
  refine kw_callV (pc := 82) B dX1_tells_82 (ci := 30) rfl (ct_J2_size r4) q792 q406 q407 q77 q408 ⟨by decide, by decide, rfl⟩ (As := []) rfl (st := []) rfl (Nat.le_of_ble_eq_true rfl) (by decide) (by decide) kw_qI (fun i5 => ?_)
  exact kw_iret B dX1_tells_85 rfl
theorem wb_X1_tells_17 {E : kw_E} (B : kw_ok E cX1_tells RX1 "tells" 7 (some .int) 7 171 [])  (x0 : Option Nat) (x1 : Int32) (x2 : Int32) (x3 : Int32) (x4 : Int32) (s0 : Int32) : kw_W E (kw_x kw_eI) 17 [(0, kA x0), (1, kI x1), (2, kI x2), (3, kI x3), (4, kI x4)] [kI s0] (pb_X1_tells_17  x0 x1 x2 x3 x4 s0) := by
  unfold pb_X1_tells_17
  refine kw_iconst (pc := 17) B dX1_tells_17 (v := (1 : Int32)) rfl ?_
  refine kw_bipush (pc := 18) B dX1_tells_18 (v := (6 : Int32)) rfl ?_
  refine kw_callSNX (pc := 20) B dX1_tells_20 (xq := Sum.inl) (fun _ => rfl) kw_noh (ct_X0_needs s0 (1 : Int32) (6 : Int32)) q793 q794 q73 q795 ⟨by decide, by decide, rfl⟩ (As := [kI s0, kI (1 : Int32), kI (6 : Int32)]) rfl (st := []) rfl (Nat.le_of_ble_eq_true rfl) (by decide) (by decide) kw_qV (fun _ => ?_)
  refine kw_aload_n (pc := 23) B dX1_tells_23 rfl 0 rfl ?_
  refine kw_gI (pc := 24) B dX1_tells_24 fl_X1_92 (fun i1 => ?_)
  refine kw_iload_n (pc := 27) B dX1_tells_27 rfl 1 rfl ?_
  refine kw_iadd (pc := 28) B dX1_tells_28 ?_
  refine kw_istore (pc := 29) B dX1_tells_29 (by decide) (L2 := [(5, kI (i1 + x1)), (0, kA x0), (1, kI x1), (2, kI x2), (3, kI x3), (4, kI x4)]) rfl ?_
  refine kw_iload (pc := 31) B dX1_tells_31 0 rfl ?_
  refine kw_callSN (pc := 33) B dX1_tells_33 (ct_X0_seasonOf (i1 + x1)) q827 q828 q73 q829 ⟨by decide, by decide, rfl⟩ (As := [kI (i1 + x1)]) rfl (st := []) rfl (Nat.le_of_ble_eq_true rfl) (by decide) (by decide) kw_qI (fun i2 => ?_)
  refine kw_iconst (pc := 36) B dX1_tells_36 (v := (3 : Int32)) rfl ?_
  refine kw_icmp_ne (pc := 37) (tgt := 53) B dX1_tells_37 rfl ?_ ?_
  · refine kw_iload (pc := 53) B dX1_tells_53 0 rfl ?_
    exact kw_pick [1, 3, 4, 5] rfl (wb_X1_tells_55 B x0 x2 x3 x4 (i1 + x1))
  · refine kw_iload (pc := 40) B dX1_tells_40 0 rfl ?_
    refine kw_bipush (pc := 42) B dX1_tells_42 (v := (30 : Int32)) rfl ?_
    refine kw_idiv (pc := 44) B dX1_tells_44 (fun i3 => ?_)
    refine kw_iconst (pc := 45) B dX1_tells_45 (v := (1 : Int32)) rfl ?_
    refine kw_iadd (pc := 46) B dX1_tells_46 ?_
    refine kw_bipush (pc := 47) B dX1_tells_47 (v := (30 : Int32)) rfl ?_
    refine kw_imul (pc := 49) B dX1_tells_49 ?_
    refine kw_goto (pc := 50) (tgt := 55) B dX1_tells_50 rfl ?_
    exact kw_pick [1, 3, 4, 5] rfl (wb_X1_tells_55 B x0 x2 x3 x4 ((i3 + (1 : Int32)) * (30 : Int32)))
theorem wm_X1_tells {E : kw_E} (B : kw_ok E cX1_tells RX1 "tells" 7 (some .int) 7 171 []) (a0 : Option Nat) (a1 : Int32) (a2 : Int32) (a3 : Int32) (a4 : Int32) : kw_W E (kw_x kw_eI) 0 [(0, kA a0), (1, kI a1), (2, kI a2), (3, kI a3), (4, kI a4)] [] (pm_X1_tells a0 a1 a2 a3 a4) := by
  unfold pm_X1_tells
  refine kw_aload_n (pc := 0) B dX1_tells_0 rfl 0 rfl ?_
  refine kw_gR (pc := 1) B dX1_tells_1 fl_X1_31 (fun r1 => ?_)
  refine kw_callV (pc := 4) B dX1_tells_4 (ci := 30) rfl (ct_J2_size r1) q792 q406 q407 q77 q408 ⟨by decide, by decide, rfl⟩ (As := []) rfl (st := []) rfl (Nat.le_of_ble_eq_true rfl) (by decide) (by decide) kw_qI (fun i2 => ?_)
  refine kw_bipush (pc := 7) B dX1_tells_7 (v := (6 : Int32)) rfl ?_
  refine kw_icmp_ge (pc := 9) (tgt := 16) B dX1_tells_9 rfl ?_ ?_
  · refine kw_iconst (pc := 16) B dX1_tells_16 (v := (0 : Int32)) rfl ?_
    exact kw_pick [0, 1, 2, 3, 4] rfl (wb_X1_tells_17 B a0 a1 a2 a3 a4 (0 : Int32))
  · refine kw_iconst (pc := 12) B dX1_tells_12 (v := (1 : Int32)) rfl ?_
    refine kw_goto (pc := 13) (tgt := 17) B dX1_tells_13 rfl ?_
    exact kw_pick [0, 1, 2, 3, 4] rfl (wb_X1_tells_17 B a0 a1 a2 a3 a4 (1 : Int32))
theorem ct_X1_tells (a0 : Option Nat) (a1 : Int32) (a2 : Int32) (a3 : Int32) (a4 : Int32) (l : Launch) : kw_Met l yX1_tells (ws_ yX1_tells cX1_tells 7 (some .int)) 7 171 [kA a0, kI a1, kI a2, kI a3, kI a4] (kw_x kw_eI) (pm_X1_tells a0 a1 a2 a3 a4) := kw_met (plainFor_of_name rfl) (Nat.le_of_ble_eq_true rfl) (fun E B => wm_X1_tells B a0 a1 a2 a3 a4) l

/-! RosaryCarvers$10 does (LRosaryCarvers$Shop;)I -/
theorem fl_X25_7 : kw_fl RX25 7 "RosaryCarvers$10" [(23, 1)] := (kw_fl_c (C := RX25) (T := TX25) (N := 6) rfl (by decide) in_X25 q1757 (Or.inl rfl) kw_fl_nil)
theorem fl_X25_11 : kw_fl RX25 11 "RosaryCarvers$10" [(23, 2)] := (kw_fl_c (C := RX25) (T := TX25) (N := 6) rfl (by decide) in_X25 q1758 (Or.inl rfl) kw_fl_nil)
theorem fl_X25_14 : kw_fl RX25 14 "RosaryCarvers$10" [(23, 3)] := (kw_fl_c (C := RX25) (T := TX25) (N := 6) rfl (by decide) in_X25 q1759 (Or.inl rfl) kw_fl_nil)
theorem fl_X25_17 : kw_fl RX25 17 "RosaryCarvers$10" [(23, 4)] := (kw_fl_c (C := RX25) (T := TX25) (N := 6) rfl (by decide) in_X25 q1760 (Or.inl rfl) kw_fl_nil)
theorem wm_X25_does {E : kw_E} (B : kw_ok E cX25_does RX25 "does" 2 (some .int) 8 197 []) (a0 : Option Nat) (a1 : Option Nat) : kw_W E (kw_x kw_eI) 0 [(0, kA a0), (1, kA a1)] [] (pm_X25_does a0 a1) := by
  unfold pm_X25_does
  refine kw_aload_n (pc := 0) B dX25_does_0 rfl 1 rfl ?_
  refine kw_aload_n (pc := 1) B dX25_does_1 rfl 0 rfl ?_
  refine kw_gI (pc := 2) B dX25_does_2 fl_X25_7 (fun i1 => ?_)
  refine kw_aload_n (pc := 5) B dX25_does_5 rfl 0 rfl ?_
  refine kw_gI (pc := 6) B dX25_does_6 fl_X25_11 (fun i2 => ?_)
  refine kw_aload_n (pc := 9) B dX25_does_9 rfl 0 rfl ?_
  refine kw_gI (pc := 10) B dX25_does_10 fl_X25_14 (fun i3 => ?_)
  refine kw_aload_n (pc := 13) B dX25_does_13 rfl 0 rfl ?_
  refine kw_gI (pc := 14) B dX25_does_14 fl_X25_17 (fun i4 => ?_)
  refine kw_callVX (pc := 17) B dX25_does_17 (ci := 1) rfl (xq := Sum.inl) (fun _ => rfl) kw_noh (ct_X1_tells a1 i1 i2 i3 i4) q788 q789 q790 q74 q791 ⟨by decide, by decide, rfl⟩ (As := [kI i1, kI i2, kI i3, kI i4]) rfl (st := []) rfl (Nat.le_of_ble_eq_true rfl) (by decide) (by decide) kw_qI (fun i5 => ?_)
  exact kw_iret B dX25_does_20 rfl
theorem ct_X25_does (a0 : Option Nat) (a1 : Option Nat) (l : Launch) : kw_Met l yX25_does (ws_ yX25_does cX25_does 2 (some .int)) 8 197 [kA a0, kA a1] (kw_x kw_eI) (pm_X25_does a0 a1) := kw_met (plainFor_of_name rfl) (Nat.le_of_ble_eq_true rfl) (fun E B => wm_X25_does B a0 a1) l

/-! java/util/ArrayList isEmpty ()Z -/

theorem wm_J2_isEmpty {E : kw_E} (B : kw_ok E cJ2_isEmpty RJ2 "isEmpty" 1 (some .boolean) 1 0 []) (a0 : Option Nat) : kw_W E kw_eI 0 [(0, kA a0)] [] (pm_J2_isEmpty a0) := by
  unfold pm_J2_isEmpty
  refine kw_aload_n (pc := 0) B dJ2_isEmpty_0 rfl 0 rfl ?_
  refine kw_gI (pc := 1) B dJ2_isEmpty_1 fl_J2_48 (fun i1 => ?_)
  refine kw_if_ne (pc := 4) (tgt := 11) B dJ2_isEmpty_4 rfl ?_ ?_
  · refine kw_iconst (pc := 11) B dJ2_isEmpty_11 (v := (0 : Int32)) rfl ?_
    exact kw_zret B dJ2_isEmpty_12 (g := fun v => v) (fun _ => rfl)
  · refine kw_iconst (pc := 7) B dJ2_isEmpty_7 (v := (1 : Int32)) rfl ?_
    refine kw_goto (pc := 8) (tgt := 12) B dJ2_isEmpty_8 rfl ?_
    exact kw_zret B dJ2_isEmpty_12 (g := fun v => v) (fun _ => rfl)
theorem ct_J2_isEmpty (a0 : Option Nat) (l : Launch) : kw_Met l yJ2_isEmpty (ws_ yJ2_isEmpty cJ2_isEmpty 1 (some .boolean)) 1 0 [kA a0] kw_eI (pm_J2_isEmpty a0) := kw_met (plainFor_of_name rfl) (Nat.le_of_ble_eq_true rfl) (fun E B => wm_J2_isEmpty B a0) l

/-! java/util/BitSet expandTo (I)V -/

theorem wm_J3_expandTo {E : kw_E} (B : kw_ok E cJ3_expandTo RJ3 "expandTo" 3 none 3 84 []) (a0 : Option Nat) (a1 : Int32) : kw_W E kw_eV 0 [(0, kA a0), (1, kI a1)] [] (pm_J3_expandTo a0 a1) := by
  unfold pm_J3_expandTo
  refine kw_iload_n (pc := 0) B dJ3_expandTo_0 rfl 1 rfl ?_
  refine kw_iconst (pc := 1) B dJ3_expandTo_1 (v := (1 : Int32)) rfl ?_
  refine kw_iadd (pc := 2) B dJ3_expandTo_2 ?_
  refine kw_istore_n (pc := 3) B dJ3_expandTo_3 rfl (by decide) (L2 := [(2, kI (a1 + (1 : Int32))), (0, kA a0), (1, kI a1)]) rfl ?_
  refine kw_aload_n (pc := 4) B dJ3_expandTo_4 rfl 1 rfl ?_
  refine kw_gI (pc := 5) B dJ3_expandTo_5 fl_J3_7 (fun i1 => ?_)
  refine kw_iload_n (pc := 8) B dJ3_expandTo_8 rfl 0 rfl ?_
  refine kw_icmp_ge (pc := 9) (tgt := 22) B dJ3_expandTo_9 rfl ?_ ?_
  · exact kw_vret B dJ3_expandTo_22 rfl
  · refine kw_aload_n (pc := 12) B dJ3_expandTo_12 rfl 1 rfl ?_
    refine kw_iload_n (pc := 13) B dJ3_expandTo_13 rfl 0 rfl ?_
    refine kw_callV (pc := 14) B dJ3_expandTo_14 (ci := 31) rfl (ct_J3_ensureCapacity a0 (a1 + (1 : Int32))) q752 q754 qs7 q79 q755 ⟨by decide, by decide, rfl⟩ (As := [kI (a1 + (1 : Int32))]) rfl (st := []) rfl (Nat.le_of_ble_eq_true rfl) (by decide) (by decide) kw_qV (fun _ => ?_)
    refine kw_aload_n (pc := 17) B dJ3_expandTo_17 rfl 1 rfl ?_
    refine kw_iload_n (pc := 18) B dJ3_expandTo_18 rfl 0 rfl ?_
    refine kw_pI (pc := 19) B dJ3_expandTo_19 fl_J3_7 fp_J3_7 (fun h => by cases h) ?_
    exact kw_vret B dJ3_expandTo_22 rfl
theorem ct_J3_expandTo (a0 : Option Nat) (a1 : Int32) (l : Launch) : kw_Met l yJ3_expandTo (ws_ yJ3_expandTo cJ3_expandTo 3 none) 3 84 [kA a0, kI a1] kw_eV (pm_J3_expandTo a0 a1) := kw_met (plainFor_of_name rfl) (Nat.le_of_ble_eq_true rfl) (fun E B => wm_J3_expandTo B a0 a1) l

/-! java/util/BitSet set (I)V -/

theorem wm_J3_set {E : kw_E} (B : kw_ok E cJ3_set RJ3 "set" 3 none 4 106 []) (a0 : Option Nat) (a1 : Int32) : kw_W E kw_eV 0 [(0, kA a0), (1, kI a1)] [] (pm_J3_set a0 a1) := by
  unfold pm_J3_set
  refine kw_iload_n (pc := 0) B dJ3_set_0 rfl 1 rfl ?_
  refine kw_if_ge (pc := 1) (tgt := 31) B dJ3_set_1 rfl ?_ ?_
  · refine kw_iload_n (pc := 31) B dJ3_set_31 rfl 1 rfl ?_
    refine kw_callS (pc := 32) B dJ3_set_32 (ct_J3_wordIndex a1) q199 q200 q79 q201 ⟨by decide, by decide, rfl⟩ (As := [kI a1]) rfl (st := []) rfl (Nat.le_of_ble_eq_true rfl) (by decide) (by decide) kw_qI (fun i1 => ?_)
    refine kw_istore_n (pc := 35) B dJ3_set_35 rfl (by decide) (L2 := [(2, kI i1), (0, kA a0), (1, kI a1)]) rfl ?_
    refine kw_aload_n (pc := 36) B dJ3_set_36 rfl 1 rfl ?_
    refine kw_iload_n (pc := 37) B dJ3_set_37 rfl 0 rfl ?_
    refine kw_callV (pc := 38) B dJ3_set_38 (ci := 31) rfl (ct_J3_expandTo a0 i1) q1095 q1097 qs12 q79 q1098 ⟨by decide, by decide, rfl⟩ (As := [kI i1]) rfl (st := []) rfl (Nat.le_of_ble_eq_true rfl) (by decide) (by decide) kw_qV (fun _ => ?_)
    refine kw_aload_n (pc := 41) B dJ3_set_41 rfl 1 rfl ?_
    refine kw_gR (pc := 42) B dJ3_set_42 fl_J3_11 (fun r2 => ?_)
    refine kw_iload_n (pc := 45) B dJ3_set_45 rfl 0 rfl ?_
    refine kw_dup2 (pc := 46) B dJ3_set_46 rfl rfl ?_
    refine kw_lald (pc := 47) B dJ3_set_47 (fun j3 => ?_)
    refine kw_lconst (pc := 48) B dJ3_set_48 (v := (1 : Int64)) rfl ?_
    refine kw_iload_n (pc := 49) B dJ3_set_49 rfl 2 rfl ?_
    refine kw_lshl (pc := 50) B dJ3_set_50 ?_
    refine kw_lor (pc := 51) B dJ3_set_51 ?_
    refine kw_last (pc := 52) B dJ3_set_52 ?_
    refine kw_aload_n (pc := 53) B dJ3_set_53 rfl 1 rfl ?_
    refine kw_callV (pc := 54) B dJ3_set_54 (ci := 31) rfl (ct_J3_checkInvariants a0) q768 q770 qs8 q79 q771 ⟨by decide, by decide, rfl⟩ (As := []) rfl (st := []) rfl (Nat.le_of_ble_eq_true rfl) (by decide) (by decide) kw_qV (fun _ => ?_)
    exact kw_vret B dJ3_set_57 rfl
  · exact kw_fail_ok
theorem ct_J3_set (a0 : Option Nat) (a1 : Int32) (l : Launch) : kw_Met l yJ3_set (ws_ yJ3_set cJ3_set 3 none) 4 106 [kA a0, kI a1] kw_eV (pm_J3_set a0 a1) := kw_met (plainFor_of_name rfl) (Nat.le_of_ble_eq_true rfl) (fun E B => wm_J3_set B a0 a1) l

/-! RosaryCarvers$Shop mends ()I -/
theorem cs_RosaryCarvers_Sold : kw_cs "RosaryCarvers$Sold" [12] := by
  intro c hc
  simp only [List.mem_cons, List.not_mem_nil, or_false] at hc
  rcases hc with rfl
  · exact ⟨_, rfl, Or.inl rfl⟩
theorem fl_X1_283 : kw_flN RX1 283 "RosaryCarvers$Sold" "RosaryCarvers" [(12, 2)] := (kw_flN_c (C := RX14) (T := TX14) (N := 3) rfl (by decide) in_X14 q1242 (Or.inl rfl) kw_flN_nil)
theorem fl_X1_286 : kw_flN RX1 286 "RosaryCarvers$Bead" "RosaryCarvers" [(14, 1)] := (kw_flN_c (C := RX16) (T := TX16) (N := 3) rfl (by decide) in_X16 q1412 (Or.inl rfl) kw_flN_nil)
theorem wb_X1_mends_71 {E : kw_E} (B : kw_ok E cX1_mends RX1 "mends" 5 (some .int) 10 198 [])  : ∀ (n : Nat) (x0 : Option Nat) (x1 : Option Nat) (x2 : Option Nat) (x3 : Option Nat), kw_W E (kw_x kw_eI) 71 [(0, kA x0), (1, kA x1), (2, kA x2), (3, kA x3)] [] (pb_X1_mends_71  n x0 x1 x2 x3) := by
  intro n
  induction n with
  | zero =>
    intro x0 x1 x2 x3
    exact kw_fail_ok
  | succ n ih =>
    intro x0 x1 x2 x3
    show kw_W E (kw_x kw_eI) 71 [(0, kA x0), (1, kA x1), (2, kA x2), (3, kA x3)] [] (
km_bind (km_disp x3 [(11, pm_X12_hasNext x3), (33, pm_J5_hasNext x3), (34, pm_J15_hasNext x3)]) fun i1 =>
if i1 = 0 then
(km_bind (km_gI [(1, 16)] x0) fun i2 =>
km_bind (km_is 12 x2) fun _ => km_bind (pm_X2_size x2) fun i3 =>
km_bind (km_pI .int [(1, 16)] x0 (i2 + (i3 + (1 : Int32)))) fun _ =>
km_bind (km_gI [(1, 13)] x0) fun i5 =>
km_bind (km_pI .int [(1, 13)] x0 (i5 + (1 : Int32))) fun _ =>
km_bind (km_gI [(1, 14)] x0) fun i7 =>
km_bind (km_pI .int [(1, 14)] x0 (i7 + (3 : Int32))) fun _ =>
km_bind (km_gI [(14, 0)] x1) fun i9 =>
km_pure (Sum.inr i9))
else
(km_bind (km_disp x3 [(11, pm_X12_next x3), (33, pm_J5_next x3), (34, pm_J15_next x3)]) fun r10 =>
km_bind (km_cast [14] r10) fun _ =>
km_bind (km_gR [(1, 7)] x0) fun r11 =>
km_bind (km_gI [(14, 0)] r10) fun i12 =>
km_bind (km_is 31 r11) fun _ => km_bind (pm_J3_set r11 i12) fun _ =>
pb_X1_mends_71 n x0 x1 x2 x3))
    refine kw_aload_n (pc := 71) B dX1_mends_71 rfl 3 rfl ?_
    refine kw_disp (pc := 72) (pc' := 77) (st := []) kw_hI (fun i1 => ?_) ?_
    · refine kw_if_eq (pc := 77) (tgt := 106) B dX1_mends_77 rfl ?_ ?_
      · refine kw_aload_n (pc := 106) B dX1_mends_106 rfl 0 rfl ?_
        refine kw_dup (pc := 107) B dX1_mends_107 rfl ?_
        refine kw_gI (pc := 108) B dX1_mends_108 fl_X1_117 (fun i2 => ?_)
        refine kw_aload_n (pc := 111) B dX1_mends_111 rfl 2 rfl ?_
        refine kw_callU (pc := 112) B dX1_mends_112 (x0 := ⟨"RosaryCarvers$Sold", "size", "()I"⟩) (owner := "RosaryCarvers$Beads") (ci := 12) rfl (ct_X2_size x2) q1104 q1105 q1107 q1108 q78 q1109 rfl ⟨by decide, by decide, rfl⟩ (As := []) rfl (st := [kI i2, kA x0]) rfl (Nat.le_of_ble_eq_true rfl) (by decide) (by decide) kw_qI (fun i3 => ?_)
        refine kw_iconst (pc := 115) B dX1_mends_115 (v := (1 : Int32)) rfl ?_
        refine kw_iadd (pc := 116) B dX1_mends_116 ?_
        refine kw_iadd (pc := 117) B dX1_mends_117 ?_
        refine kw_pI (pc := 118) B dX1_mends_118 fl_X1_117 fp_X1_117 (fun h => by cases h) ?_
        refine kw_aload_n (pc := 121) B dX1_mends_121 rfl 0 rfl ?_
        refine kw_dup (pc := 122) B dX1_mends_122 rfl ?_
        refine kw_gI (pc := 123) B dX1_mends_123 fl_X1_108 (fun i5 => ?_)
        refine kw_iconst (pc := 126) B dX1_mends_126 (v := (1 : Int32)) rfl ?_
        refine kw_iadd (pc := 127) B dX1_mends_127 ?_
        refine kw_pI (pc := 128) B dX1_mends_128 fl_X1_108 fp_X1_108 (fun h => by cases h) ?_
        refine kw_aload_n (pc := 131) B dX1_mends_131 rfl 0 rfl ?_
        refine kw_dup (pc := 132) B dX1_mends_132 rfl ?_
        refine kw_gI (pc := 133) B dX1_mends_133 fl_X1_111 (fun i7 => ?_)
        refine kw_iconst (pc := 136) B dX1_mends_136 (v := (3 : Int32)) rfl ?_
        refine kw_iadd (pc := 137) B dX1_mends_137 ?_
        refine kw_pI (pc := 138) B dX1_mends_138 fl_X1_111 fp_X1_111 (fun h => by cases h) ?_
        refine kw_aload_n (pc := 141) B dX1_mends_141 rfl 1 rfl ?_
        refine kw_gIN (pc := 142) B dX1_mends_142 fl_X1_219 (fun i9 => ?_)
        exact kw_iret B dX1_mends_145 rfl
      · refine kw_aload_n (pc := 80) B dX1_mends_80 rfl 3 rfl ?_
        refine kw_disp (pc := 81) (pc' := 86) (st := []) kw_hA (fun r10 => ?_) ?_
        · refine kw_cast_ok (pc := 86) B dX1_mends_86 q1103 cs_RosaryCarvers_Bead ?_
          refine kw_astore (pc := 89) B dX1_mends_89 (by decide) (L2 := [(4, kA r10), (0, kA x0), (1, kA x1), (2, kA x2), (3, kA x3)]) rfl ?_
          refine kw_aload_n (pc := 91) B dX1_mends_91 rfl 1 rfl ?_
          refine kw_gR (pc := 92) B dX1_mends_92 fl_X1_43 (fun r11 => ?_)
          refine kw_aload (pc := 95) B dX1_mends_95 0 rfl ?_
          refine kw_gIN (pc := 97) B dX1_mends_97 fl_X1_219 (fun i12 => ?_)
          refine kw_callV (pc := 100) B dX1_mends_100 (ci := 31) rfl (ct_J3_set r11 i12) q1091 q1092 q1093 q79 q1094 ⟨by decide, by decide, rfl⟩ (As := [kI i12]) rfl (st := []) rfl (Nat.le_of_ble_eq_true rfl) (by decide) (by decide) kw_qV (fun _ => ?_)
          refine kw_goto (pc := 103) (tgt := 71) B dX1_mends_103 rfl ?_
          exact kw_pick [1, 2, 3, 4] rfl (ih x0 x1 x2 x3)
        · intro q hq hk
          simp only [List.mem_cons, List.not_mem_nil, or_false] at hq
          rcases hq with rfl | rfl | rfl
          · exact kw_callF (pc := 81) B dX1_mends_81 (ci := 11) rfl (ct_X12_next x3) q422 q425 q427 q101 q429 q424 q423 q428 q426 q399 ⟨by decide, by decide, rfl⟩ (As := []) rfl (st := []) rfl (Nat.le_of_ble_eq_true rfl) (by decide) (by decide) kw_qA hk
          · exact kw_callF (pc := 81) B dX1_mends_81 (ci := 33) rfl (ct_J5_next x3) q422 q533 q535 q84 q537 q424 q423 q536 q534 q415 ⟨by decide, by decide, rfl⟩ (As := []) rfl (st := []) rfl (Nat.le_of_ble_eq_true rfl) (by decide) (by decide) kw_qA hk
          · exact kw_callF (pc := 81) B dX1_mends_81 (ci := 34) rfl (ct_J15_next x3) q422 q522 q524 q102 q526 q424 q423 q525 q523 q409 ⟨by decide, by decide, rfl⟩ (As := []) rfl (st := []) rfl (Nat.le_of_ble_eq_true rfl) (by decide) (by decide) kw_qA hk
    · intro q hq hk
      simp only [List.mem_cons, List.not_mem_nil, or_false] at hq
      rcases hq with rfl | rfl | rfl
      · exact kw_callF (pc := 72) B dX1_mends_72 (ci := 11) rfl (ct_X12_hasNext x3) q396 q400 q402 q101 q404 q398 q397 q403 q401 q399 ⟨by decide, by decide, rfl⟩ (As := []) rfl (st := []) rfl (Nat.le_of_ble_eq_true rfl) (by decide) (by decide) kw_qI hk
      · exact kw_callF (pc := 72) B dX1_mends_72 (ci := 33) rfl (ct_J5_hasNext x3) q396 q416 q418 q84 q420 q398 q397 q419 q417 q415 ⟨by decide, by decide, rfl⟩ (As := []) rfl (st := []) rfl (Nat.le_of_ble_eq_true rfl) (by decide) (by decide) kw_qI hk
      · exact kw_callF (pc := 72) B dX1_mends_72 (ci := 34) rfl (ct_J15_hasNext x3) q396 q410 q412 q102 q414 q398 q397 q413 q411 q409 ⟨by decide, by decide, rfl⟩ (As := []) rfl (st := []) rfl (Nat.le_of_ble_eq_true rfl) (by decide) (by decide) kw_qI hk
theorem wb_X1_mends_15 {E : kw_E} (B : kw_ok E cX1_mends RX1 "mends" 5 (some .int) 10 198 [])  (x0 : Option Nat) (s0 : Int32) : kw_W E (kw_x kw_eI) 15 [(0, kA x0)] [kI s0] (pb_X1_mends_15  x0 s0) := by
  unfold pb_X1_mends_15
  refine kw_bipush (pc := 15) B dX1_mends_15 (v := (8 : Int32)) rfl ?_
  refine kw_iconst (pc := 17) B dX1_mends_17 (v := (0 : Int32)) rfl ?_
  refine kw_callSNX (pc := 18) B dX1_mends_18 (xq := Sum.inl) (fun _ => rfl) kw_noh (ct_X0_needs s0 (8 : Int32) (0 : Int32)) q793 q794 q73 q795 ⟨by decide, by decide, rfl⟩ (As := [kI s0, kI (8 : Int32), kI (0 : Int32)]) rfl (st := []) rfl (Nat.le_of_ble_eq_true rfl) (by decide) (by decide) kw_qV (fun _ => ?_)
  refine kw_aload_n (pc := 21) B dX1_mends_21 rfl 0 rfl ?_
  refine kw_aload_n (pc := 22) B dX1_mends_22 rfl 0 rfl ?_
  refine kw_gR (pc := 23) B dX1_mends_23 fl_X1_37 (fun r1 => ?_)
  refine kw_iconst (pc := 26) B dX1_mends_26 (v := (0 : Int32)) rfl ?_
  refine kw_callV (pc := 27) B dX1_mends_27 (ci := 30) rfl (ct_J2_get r1 (0 : Int32)) q868 q503 q504 q77 q505 ⟨by decide, by decide, rfl⟩ (As := [kI (0 : Int32)]) rfl (st := [kA x0]) rfl (Nat.le_of_ble_eq_true rfl) (by decide) (by decide) kw_qA (fun r2 => ?_)
  refine kw_cast_ok (pc := 30) B dX1_mends_30 q869 cs_RosaryCarvers_Sold ?_
  refine kw_gRN (pc := 33) B dX1_mends_33 fl_X1_283 (fun r3 => ?_)
  refine kw_gIN (pc := 36) B dX1_mends_36 fl_X1_286 (fun i4 => ?_)
  refine kw_callVX (pc := 39) B dX1_mends_39 (ci := 1) rfl (xq := Sum.inl) (fun _ => rfl) kw_noh (ct_X1_takes x0 i4) q870 q872 qs9 q74 q873 ⟨by decide, by decide, rfl⟩ (As := [kI i4]) rfl (st := []) rfl (Nat.le_of_ble_eq_true rfl) (by decide) (by decide) kw_qA (fun r5 => ?_)
  refine kw_astore_n (pc := 42) B dX1_mends_42 rfl (by decide) (L2 := [(1, kA r5), (0, kA x0)]) rfl ?_
  refine kw_aload_n (pc := 43) B dX1_mends_43 rfl 1 rfl ?_
  refine kw_gR (pc := 44) B dX1_mends_44 fl_X1_37 (fun r6 => ?_)
  refine kw_iconst (pc := 47) B dX1_mends_47 (v := (0 : Int32)) rfl ?_
  refine kw_callV (pc := 48) B dX1_mends_48 (ci := 30) rfl (ct_J2_remove_2 r6 (0 : Int32)) q1087 q1088 q1089 q77 q1090 ⟨by decide, by decide, rfl⟩ (As := [kI (0 : Int32)]) rfl (st := []) rfl (Nat.le_of_ble_eq_true rfl) (by decide) (by decide) kw_qA (fun r7 => ?_)
  refine kw_cast_ok (pc := 51) B dX1_mends_51 q869 cs_RosaryCarvers_Sold ?_
  refine kw_astore_n (pc := 54) B dX1_mends_54 rfl (by decide) (L2 := [(2, kA r7), (1, kA r5), (0, kA x0)]) rfl ?_
  refine kw_aload_n (pc := 55) B dX1_mends_55 rfl 2 rfl ?_
  refine kw_gR (pc := 56) B dX1_mends_56 fl_X1_43 (fun r8 => ?_)
  refine kw_aload_n (pc := 59) B dX1_mends_59 rfl 1 rfl ?_
  refine kw_gIN (pc := 60) B dX1_mends_60 fl_X1_219 (fun i9 => ?_)
  refine kw_callV (pc := 63) B dX1_mends_63 (ci := 31) rfl (ct_J3_set r8 i9) q1091 q1092 q1093 q79 q1094 ⟨by decide, by decide, rfl⟩ (As := [kI i9]) rfl (st := []) rfl (Nat.le_of_ble_eq_true rfl) (by decide) (by decide) kw_qV (fun _ => ?_)
  refine kw_aload_n (pc := 66) B dX1_mends_66 rfl 0 rfl ?_
  refine kw_callU (pc := 67) B dX1_mends_67 (x0 := ⟨"RosaryCarvers$Sold", "iterator", "()Ljava/util/Iterator;"⟩) (owner := "RosaryCarvers$Beads") (ci := 12) rfl (ct_X2_iterator r7) q1099 q1100 q1102 q908 q78 q910 rfl ⟨by decide, by decide, rfl⟩ (As := []) rfl (st := []) rfl (Nat.le_of_ble_eq_true rfl) (by decide) (by decide) kw_qA (fun r10 => ?_)
  refine kw_astore_n (pc := 70) B dX1_mends_70 rfl (by decide) (L2 := [(3, kA r10), (2, kA r7), (1, kA r5), (0, kA x0)]) rfl ?_
  exact kw_pick [3, 2, 1, 0] rfl (wb_X1_mends_71 B km_fuel x0 r5 r7 r10)
theorem wm_X1_mends {E : kw_E} (B : kw_ok E cX1_mends RX1 "mends" 5 (some .int) 10 198 []) (a0 : Option Nat) : kw_W E (kw_x kw_eI) 0 [(0, kA a0)] [] (pm_X1_mends a0) := by
  unfold pm_X1_mends
  refine kw_aload_n (pc := 0) B dX1_mends_0 rfl 0 rfl ?_
  refine kw_gR (pc := 1) B dX1_mends_1 fl_X1_37 (fun r1 => ?_)
  refine kw_callV (pc := 4) B dX1_mends_4 (ci := 30) rfl (ct_J2_isEmpty r1) q864 q865 q866 q77 q867 ⟨by decide, by decide, rfl⟩ (As := []) rfl (st := []) rfl (Nat.le_of_ble_eq_true rfl) (by decide) (by decide) kw_qI (fun i2 => ?_)
  refine kw_if_ne (pc := 7) (tgt := 14) B dX1_mends_7 rfl ?_ ?_
  · refine kw_iconst (pc := 14) B dX1_mends_14 (v := (0 : Int32)) rfl ?_
    exact kw_pick [0] rfl (wb_X1_mends_15 B a0 (0 : Int32))
  · refine kw_iconst (pc := 10) B dX1_mends_10 (v := (1 : Int32)) rfl ?_
    refine kw_goto (pc := 11) (tgt := 15) B dX1_mends_11 rfl ?_
    exact kw_pick [0] rfl (wb_X1_mends_15 B a0 (1 : Int32))
theorem ct_X1_mends (a0 : Option Nat) (l : Launch) : kw_Met l yX1_mends (ws_ yX1_mends cX1_mends 5 (some .int)) 10 198 [kA a0] (kw_x kw_eI) (pm_X1_mends a0) := kw_met (plainFor_of_name rfl) (Nat.le_of_ble_eq_true rfl) (fun E B => wm_X1_mends B a0) l

/-! RosaryCarvers$11 does (LRosaryCarvers$Shop;)I -/

theorem wm_X26_does {E : kw_E} (B : kw_ok E cX26_does RX26 "does" 2 (some .int) 11 222 []) (a0 : Option Nat) (a1 : Option Nat) : kw_W E (kw_x kw_eI) 0 [(0, kA a0), (1, kA a1)] [] (pm_X26_does a0 a1) := by
  unfold pm_X26_does
  refine kw_aload_n (pc := 0) B dX26_does_0 rfl 1 rfl ?_
  refine kw_callVX (pc := 1) B dX26_does_1 (ci := 1) rfl (xq := Sum.inl) (fun _ => rfl) kw_noh (ct_X1_mends a1) q860 q861 q862 q74 q863 ⟨by decide, by decide, rfl⟩ (As := []) rfl (st := []) rfl (Nat.le_of_ble_eq_true rfl) (by decide) (by decide) kw_qI (fun i1 => ?_)
  exact kw_iret B dX26_does_4 rfl
theorem ct_X26_does (a0 : Option Nat) (a1 : Option Nat) (l : Launch) : kw_Met l yX26_does (ws_ yX26_does cX26_does 2 (some .int)) 11 222 [kA a0, kA a1] (kw_x kw_eI) (pm_X26_does a0 a1) := kw_met (plainFor_of_name rfl) (Nat.le_of_ble_eq_true rfl) (fun E B => wm_X26_does B a0 a1) l

/-! RosaryCarvers$Fine sum (Ljava/lang/Iterable;)I -/
theorem cs_RosaryCarvers_Fine : kw_cs "RosaryCarvers$Fine" [14] := by
  intro c hc
  simp only [List.mem_cons, List.not_mem_nil, or_false] at hc
  rcases hc with rfl
  · exact ⟨_, rfl, Or.inr q990⟩
theorem wb_X13_sum_9 {E : kw_E} (B : kw_ok E cX13_sum RX13 "sum" 4 (some .int) 7 128 [])  : ∀ (n : Nat) (x1 : Int32) (x2 : Option Nat), kw_W E kw_eI 9 [(1, kI x1), (2, kA x2)] [] (pb_X13_sum_9  n x1 x2) := by
  intro n
  induction n with
  | zero =>
    intro x1 x2
    exact kw_fail_ok
  | succ n ih =>
    intro x1 x2
    show kw_W E kw_eI 9 [(1, kI x1), (2, kA x2)] [] (
km_bind (km_disp x2 [(11, pm_X12_hasNext x2), (33, pm_J5_hasNext x2), (34, pm_J15_hasNext x2)]) fun i1 =>
if i1 = 0 then
(km_pure x1)
else
(km_bind (km_disp x2 [(11, pm_X12_next x2), (33, pm_J5_next x2), (34, pm_J15_next x2)]) fun r2 =>
km_bind (km_cast [14] r2) fun _ =>
km_bind (km_is 14 r2) fun _ => km_bind (pm_X16_fineness r2) fun i3 =>
pb_X13_sum_9 n (x1 + i3) x2))
    refine kw_aload_n (pc := 9) B dX13_sum_9 rfl 1 rfl ?_
    refine kw_disp (pc := 10) (pc' := 15) (st := []) kw_hI (fun i1 => ?_) ?_
    · refine kw_if_eq (pc := 15) (tgt := 40) B dX13_sum_15 rfl ?_ ?_
      · refine kw_iload_n (pc := 40) B dX13_sum_40 rfl 0 rfl ?_
        exact kw_iret B dX13_sum_41 rfl
      · refine kw_aload_n (pc := 18) B dX13_sum_18 rfl 1 rfl ?_
        refine kw_disp (pc := 19) (pc' := 24) (st := []) kw_hA (fun r2 => ?_) ?_
        · refine kw_cast_ok (pc := 24) B dX13_sum_24 q1154 cs_RosaryCarvers_Fine ?_
          refine kw_astore_n (pc := 27) B dX13_sum_27 rfl (by decide) (L2 := [(3, kA r2), (1, kI x1), (2, kA x2)]) rfl ?_
          refine kw_iload_n (pc := 28) B dX13_sum_28 rfl 1 rfl ?_
          refine kw_aload_n (pc := 29) B dX13_sum_29 rfl 0 rfl ?_
          refine kw_callF (pc := 30) B dX13_sum_30 (ci := 14) rfl (ct_X16_fineness r2) q987 q991 q993 q111 q995 q989 q988 q994 q992 q990 ⟨by decide, by decide, rfl⟩ (As := []) rfl (st := [kI x1]) rfl (Nat.le_of_ble_eq_true rfl) (by decide) (by decide) kw_qI (fun i3 => ?_)
          refine kw_iadd (pc := 35) B dX13_sum_35 ?_
          refine kw_istore_n (pc := 36) B dX13_sum_36 rfl (by decide) (L2 := [(1, kI (x1 + i3)), (3, kA r2), (2, kA x2)]) rfl ?_
          refine kw_goto (pc := 37) (tgt := 9) B dX13_sum_37 rfl ?_
          exact kw_pick [0, 2] rfl (ih (x1 + i3) x2)
        · intro q hq hk
          simp only [List.mem_cons, List.not_mem_nil, or_false] at hq
          rcases hq with rfl | rfl | rfl
          · exact kw_callF (pc := 19) B dX13_sum_19 (ci := 11) rfl (ct_X12_next x2) q1153 q425 q427 q101 q429 q424 q423 q428 q426 q399 ⟨by decide, by decide, rfl⟩ (As := []) rfl (st := []) rfl (Nat.le_of_ble_eq_true rfl) (by decide) (by decide) kw_qA hk
          · exact kw_callF (pc := 19) B dX13_sum_19 (ci := 33) rfl (ct_J5_next x2) q1153 q533 q535 q84 q537 q424 q423 q536 q534 q415 ⟨by decide, by decide, rfl⟩ (As := []) rfl (st := []) rfl (Nat.le_of_ble_eq_true rfl) (by decide) (by decide) kw_qA hk
          · exact kw_callF (pc := 19) B dX13_sum_19 (ci := 34) rfl (ct_J15_next x2) q1153 q522 q524 q102 q526 q424 q423 q525 q523 q409 ⟨by decide, by decide, rfl⟩ (As := []) rfl (st := []) rfl (Nat.le_of_ble_eq_true rfl) (by decide) (by decide) kw_qA hk
    · intro q hq hk
      simp only [List.mem_cons, List.not_mem_nil, or_false] at hq
      rcases hq with rfl | rfl | rfl
      · exact kw_callF (pc := 10) B dX13_sum_10 (ci := 11) rfl (ct_X12_hasNext x2) q1151 q400 q402 q101 q404 q398 q397 q403 q401 q399 ⟨by decide, by decide, rfl⟩ (As := []) rfl (st := []) rfl (Nat.le_of_ble_eq_true rfl) (by decide) (by decide) kw_qI hk
      · exact kw_callF (pc := 10) B dX13_sum_10 (ci := 33) rfl (ct_J5_hasNext x2) q1151 q416 q418 q84 q420 q398 q397 q419 q417 q415 ⟨by decide, by decide, rfl⟩ (As := []) rfl (st := []) rfl (Nat.le_of_ble_eq_true rfl) (by decide) (by decide) kw_qI hk
      · exact kw_callF (pc := 10) B dX13_sum_10 (ci := 34) rfl (ct_J15_hasNext x2) q1151 q410 q412 q102 q414 q398 q397 q413 q411 q409 ⟨by decide, by decide, rfl⟩ (As := []) rfl (st := []) rfl (Nat.le_of_ble_eq_true rfl) (by decide) (by decide) kw_qI hk
theorem wm_X13_sum {E : kw_E} (B : kw_ok E cX13_sum RX13 "sum" 4 (some .int) 7 128 []) (a0 : Option Nat) : kw_W E kw_eI 0 [(0, kA a0)] [] (pm_X13_sum a0) := by
  unfold pm_X13_sum
  refine kw_iconst (pc := 0) B dX13_sum_0 (v := (0 : Int32)) rfl ?_
  refine kw_istore_n (pc := 1) B dX13_sum_1 rfl (by decide) (L2 := [(1, kI (0 : Int32)), (0, kA a0)]) rfl ?_
  refine kw_aload_n (pc := 2) B dX13_sum_2 rfl 1 rfl ?_
  refine kw_disp (pc := 3) (pc' := 8) (st := []) kw_hA (fun r1 => ?_) ?_
  · refine kw_astore_n (pc := 8) B dX13_sum_8 rfl (by decide) (L2 := [(2, kA r1), (1, kI (0 : Int32)), (0, kA a0)]) rfl ?_
    exact kw_pick [1, 0] rfl (wb_X13_sum_9 B km_fuel (0 : Int32) r1)
  · intro q hq hk
    simp only [List.mem_cons, List.not_mem_nil, or_false] at hq
    rcases hq with rfl | rfl | rfl | rfl | rfl | rfl
    · exact kw_callF (pc := 3) B dX13_sum_3 (ci := 2) rfl (ct_X2_iterator a0) q1149 q906 q908 q78 q910 q904 q903 q909 q907 q905 ⟨by decide, by decide, rfl⟩ (As := []) rfl (st := []) rfl (Nat.le_of_ble_eq_true rfl) (by decide) (by decide) kw_qA hk
    · exact kw_callF (pc := 3) B dX13_sum_3 (ci := 7) rfl (ct_X2_iterator a0) q1149 q934 q908 q78 q910 q904 q903 q909 q935 q933 ⟨by decide, by decide, rfl⟩ (As := []) rfl (st := []) rfl (Nat.le_of_ble_eq_true rfl) (by decide) (by decide) kw_qA hk
    · exact kw_callF (pc := 3) B dX13_sum_3 (ci := 10) rfl (ct_X11_iterator a0) q1149 q913 q915 q100 q917 q904 q903 q916 q914 q912 ⟨by decide, by decide, rfl⟩ (As := []) rfl (st := []) rfl (Nat.le_of_ble_eq_true rfl) (by decide) (by decide) kw_qA hk
    · exact kw_callF (pc := 3) B dX13_sum_3 (ci := 12) rfl (ct_X2_iterator a0) q1149 q937 q908 q78 q910 q904 q903 q909 q938 q936 ⟨by decide, by decide, rfl⟩ (As := []) rfl (st := []) rfl (Nat.le_of_ble_eq_true rfl) (by decide) (by decide) kw_qA hk
    · exact kw_callF (pc := 3) B dX13_sum_3 (ci := 30) rfl (ct_J2_iterator a0) q1149 q972 q373 q77 q375 q904 q903 q974 q973 q971 ⟨by decide, by decide, rfl⟩ (As := []) rfl (st := []) rfl (Nat.le_of_ble_eq_true rfl) (by decide) (by decide) kw_qA hk
    · exact kw_callF (pc := 3) B dX13_sum_3 (ci := 32) rfl (ct_J4_iterator a0) q1149 q940 q942 q80 q944 q904 q903 q943 q941 q939 ⟨by decide, by decide, rfl⟩ (As := []) rfl (st := []) rfl (Nat.le_of_ble_eq_true rfl) (by decide) (by decide) kw_qA hk
theorem ct_X13_sum (a0 : Option Nat) (l : Launch) : kw_Met l yX13_sum (ws_ yX13_sum cX13_sum 4 (some .int)) 7 128 [kA a0] kw_eI (pm_X13_sum a0) := kw_met (plainFor_of_name rfl) (Nat.le_of_ble_eq_true rfl) (fun E B => wm_X13_sum B a0) l

/-! RosaryCarvers$Beads sum ()I -/

theorem wm_X2_sum {E : kw_E} (B : kw_ok E cX2_sum RX2 "sum" 1 (some .int) 8 151 []) (a0 : Option Nat) : kw_W E kw_eI 0 [(0, kA a0)] [] (pm_X2_sum a0) := by
  unfold pm_X2_sum
  refine kw_aload_n (pc := 0) B dX2_sum_0 rfl 0 rfl ?_
  refine kw_callS (pc := 1) B dX2_sum_1 (ct_X13_sum a0) q1145 q1146 q105 q1147 ⟨by decide, by decide, rfl⟩ (As := [kA a0]) rfl (st := []) rfl (Nat.le_of_ble_eq_true rfl) (by decide) (by decide) kw_qI (fun i1 => ?_)
  exact kw_iret B dX2_sum_4 rfl
theorem ct_X2_sum (a0 : Option Nat) (l : Launch) : kw_Met l yX2_sum (ws_ yX2_sum cX2_sum 1 (some .int)) 8 151 [kA a0] kw_eI (pm_X2_sum a0) := kw_met (plainFor_of_name rfl) (Nat.le_of_ble_eq_true rfl) (fun E B => wm_X2_sum B a0) l

/-! RosaryCarvers$Beads fineness ()I -/

theorem wm_X2_fineness {E : kw_E} (B : kw_ok E cX2_fineness RX2 "fineness" 1 (some .int) 9 171 []) (a0 : Option Nat) : kw_W E kw_eI 0 [(0, kA a0)] [] (pm_X2_fineness a0) := by
  unfold pm_X2_fineness
  refine kw_aload_n (pc := 0) B dX2_fineness_0 rfl 0 rfl ?_
  refine kw_gR (pc := 1) B dX2_fineness_1 fl_X2_10 (fun r1 => ?_)
  refine kw_callV (pc := 4) B dX2_fineness_4 (ci := 30) rfl (ct_J2_isEmpty r1) q1137 q865 q866 q77 q867 ⟨by decide, by decide, rfl⟩ (As := []) rfl (st := []) rfl (Nat.le_of_ble_eq_true rfl) (by decide) (by decide) kw_qI (fun i2 => ?_)
  refine kw_if_eq (pc := 7) (tgt := 14) B dX2_fineness_7 rfl ?_ ?_
  · refine kw_aload_n (pc := 14) B dX2_fineness_14 rfl 0 rfl ?_
    refine kw_disp (pc := 15) (pc' := 18) (st := []) kw_hI (fun i3 => ?_) ?_
    · refine kw_aload_n (pc := 18) B dX2_fineness_18 rfl 0 rfl ?_
      refine kw_disp (pc := 19) (pc' := 22) (st := [kI i3]) kw_hI (fun i4 => ?_) ?_
      · refine kw_idiv (pc := 22) B dX2_fineness_22 (fun i5 => ?_)
        exact kw_iret B dX2_fineness_23 rfl
      · intro q hq hk
        simp only [List.mem_cons, List.not_mem_nil, or_false] at hq
        rcases hq with rfl | rfl | rfl
        · exact kw_callV (pc := 19) B dX2_fineness_19 (ci := 2) rfl (ct_X2_size a0) q1155 q1108 q2786 q78 q1109 ⟨by decide, by decide, rfl⟩ (As := []) rfl (st := [kI i3]) rfl (Nat.le_of_ble_eq_true rfl) (by decide) (by decide) kw_qI hk
        · exact kw_callV (pc := 19) B dX2_fineness_19 (ci := 7) rfl (ct_X2_size a0) q1155 q1108 q2787 q78 q1109 ⟨by decide, by decide, rfl⟩ (As := []) rfl (st := [kI i3]) rfl (Nat.le_of_ble_eq_true rfl) (by decide) (by decide) kw_qI hk
        · exact kw_callV (pc := 19) B dX2_fineness_19 (ci := 12) rfl (ct_X2_size a0) q1155 q1108 q2788 q78 q1109 ⟨by decide, by decide, rfl⟩ (As := []) rfl (st := [kI i3]) rfl (Nat.le_of_ble_eq_true rfl) (by decide) (by decide) kw_qI hk
    · intro q hq hk
      simp only [List.mem_cons, List.not_mem_nil, or_false] at hq
      rcases hq with rfl | rfl | rfl
      · exact kw_callV (pc := 15) B dX2_fineness_15 (ci := 2) rfl (ct_X2_sum a0) q1138 q1139 q1140 q78 q1144 ⟨by decide, by decide, rfl⟩ (As := []) rfl (st := []) rfl (Nat.le_of_ble_eq_true rfl) (by decide) (by decide) kw_qI hk
      · exact kw_callV (pc := 15) B dX2_fineness_15 (ci := 7) rfl (ct_X2_sum a0) q1138 q1139 q1142 q78 q1144 ⟨by decide, by decide, rfl⟩ (As := []) rfl (st := []) rfl (Nat.le_of_ble_eq_true rfl) (by decide) (by decide) kw_qI hk
      · exact kw_callV (pc := 15) B dX2_fineness_15 (ci := 12) rfl (ct_X2_sum a0) q1138 q1139 q1143 q78 q1144 ⟨by decide, by decide, rfl⟩ (As := []) rfl (st := []) rfl (Nat.le_of_ble_eq_true rfl) (by decide) (by decide) kw_qI hk
  · refine kw_iconst (pc := 10) B dX2_fineness_10 (v := (0 : Int32)) rfl ?_
    refine kw_goto (pc := 11) (tgt := 23) B dX2_fineness_11 rfl ?_
    exact kw_iret B dX2_fineness_23 rfl
theorem ct_X2_fineness (a0 : Option Nat) (l : Launch) : kw_Met l yX2_fineness (ws_ yX2_fineness cX2_fineness 1 (some .int)) 9 171 [kA a0] kw_eI (pm_X2_fineness a0) := kw_met (plainFor_of_name rfl) (Nat.le_of_ble_eq_true rfl) (fun E B => wm_X2_fineness B a0) l

/-! RosaryCarvers$Sold last ()I -/
theorem fl_X14_7 : kw_fl RX14 7 "RosaryCarvers$Sold" [(12, 1)] := (kw_fl_c (C := RX14) (T := TX14) (N := 3) rfl (by decide) in_X14 q1240 (Or.inl rfl) kw_fl_nil)
theorem wm_X14_last {E : kw_E} (B : kw_ok E cX14_last RX14 "last" 1 (some .int) 10 191 []) (a0 : Option Nat) : kw_W E kw_eI 0 [(0, kA a0)] [] (pm_X14_last a0) := by
  unfold pm_X14_last
  refine kw_aload_n (pc := 0) B dX14_last_0 rfl 0 rfl ?_
  refine kw_gI (pc := 1) B dX14_last_1 fl_X14_7 (fun i1 => ?_)
  refine kw_bipush (pc := 4) B dX14_last_4 (v := (10 : Int32)) rfl ?_
  refine kw_aload_n (pc := 6) B dX14_last_6 rfl 0 rfl ?_
  refine kw_callU (pc := 7) B dX14_last_7 (x0 := ⟨"RosaryCarvers$Sold", "fineness", "()I"⟩) (owner := "RosaryCarvers$Beads") (ci := 12) rfl (ct_X2_fineness a0) q1131 q1132 q1134 q1135 q78 q1136 rfl ⟨by decide, by decide, rfl⟩ (As := []) rfl (st := [kI (10 : Int32), kI i1]) rfl (Nat.le_of_ble_eq_true rfl) (by decide) (by decide) kw_qI (fun i2 => ?_)
  refine kw_imul (pc := 10) B dX14_last_10 ?_
  refine kw_iadd (pc := 11) B dX14_last_11 ?_
  exact kw_iret B dX14_last_12 rfl
theorem ct_X14_last (a0 : Option Nat) (l : Launch) : kw_Met l yX14_last (ws_ yX14_last cX14_last 1 (some .int)) 10 191 [kA a0] kw_eI (pm_X14_last a0) := kw_met (plainFor_of_name rfl) (Nat.le_of_ble_eq_true rfl) (fun E B => wm_X14_last B a0) l

/-! java/util/ArrayList$Itr remove ()V -/

theorem wm_J5_remove {E : kw_E} (B : kw_ok E cJ5_remove RJ5 "remove" 2 none 4 86 (tableOf [(19, 55, 58, 51)])) (a0 : Option Nat) : kw_W E kw_eV 0 [(0, kA a0)] [] (pm_J5_remove a0) := by
  unfold pm_J5_remove
  refine kw_aload_n (pc := 0) B dJ5_remove_0 rfl 0 rfl ?_
  refine kw_gI (pc := 1) B dJ5_remove_1 fl_J5_13 (fun i1 => ?_)
  refine kw_if_ge (pc := 4) (tgt := 15) B dJ5_remove_4 rfl ?_ ?_
  · refine kw_aload_n (pc := 15) B dJ5_remove_15 rfl 0 rfl ?_
    refine kw_callV (pc := 16) B dJ5_remove_16 (ci := 33) rfl (ct_J5_checkForComodification a0) q538 q539 q540 q84 q541 ⟨by decide, by decide, rfl⟩ (As := []) rfl (st := []) rfl (Nat.le_of_ble_eq_true rfl) (by decide) (by decide) kw_qV (fun _ => ?_)
    refine kw_aload_n (pc := 19) B dJ5_remove_19 rfl 0 rfl ?_
    refine kw_gR (pc := 20) B dJ5_remove_20 fl_J5_1 (fun r2 => ?_)
    refine kw_aload_n (pc := 23) B dJ5_remove_23 rfl 0 rfl ?_
    refine kw_gI (pc := 24) B dJ5_remove_24 fl_J5_13 (fun i3 => ?_)
    refine kw_callV (pc := 27) B dJ5_remove_27 (ci := 30) rfl (ct_J2_remove_2 r2 i3) q1202 q1088 q1089 q77 q1090 ⟨by decide, by decide, rfl⟩ (As := [kI i3]) rfl (st := []) rfl (Nat.le_of_ble_eq_true rfl) (by decide) (by decide) kw_qA (fun r4 => ?_)
    refine kw_pop (pc := 30) B dJ5_remove_30 rfl ?_
    refine kw_aload_n (pc := 31) B dJ5_remove_31 rfl 0 rfl ?_
    refine kw_aload_n (pc := 32) B dJ5_remove_32 rfl 0 rfl ?_
    refine kw_gI (pc := 33) B dJ5_remove_33 fl_J5_13 (fun i5 => ?_)
    refine kw_pI (pc := 36) B dJ5_remove_36 fl_J5_25 fp_J5_25 (fun h => by cases h) ?_
    refine kw_aload_n (pc := 39) B dJ5_remove_39 rfl 0 rfl ?_
    refine kw_iconst (pc := 40) B dJ5_remove_40 (v := (-1 : Int32)) rfl ?_
    refine kw_pI (pc := 41) B dJ5_remove_41 fl_J5_13 fp_J5_13 (fun h => by cases h) ?_
    refine kw_aload_n (pc := 44) B dJ5_remove_44 rfl 0 rfl ?_
    refine kw_aload_n (pc := 45) B dJ5_remove_45 rfl 0 rfl ?_
    refine kw_gR (pc := 46) B dJ5_remove_46 fl_J5_1 (fun r8 => ?_)
    refine kw_gI (pc := 49) B dJ5_remove_49 fl_J5_17 (fun i9 => ?_)
    refine kw_pI (pc := 52) B dJ5_remove_52 fl_J5_22 fp_J5_22 (fun h => by cases h) ?_
    refine kw_goto (pc := 55) (tgt := 67) B dJ5_remove_55 rfl ?_
    exact kw_vret B dJ5_remove_67 rfl
  · exact kw_fail_ok
theorem ct_J5_remove (a0 : Option Nat) (l : Launch) : kw_Met l yJ5_remove (wsW_ yJ5_remove cJ5_remove 2 none [(19, 55, 58, 51)]) 4 86 [kA a0] kw_eV (pm_J5_remove a0) := kw_metH rfl (Nat.le_of_ble_eq_true rfl) (fun E B => wm_J5_remove B a0) l

/-! RosaryCarvers$Sold weakest ()LRosaryCarvers$Bead; -/
theorem fl_X14_45 : kw_flN RX14 45 "RosaryCarvers$Bead" "RosaryCarvers" [(14, 2)] := (kw_flN_c (C := RX16) (T := TX16) (N := 3) rfl (by decide) in_X16 q1415 (Or.inl rfl) kw_flN_nil)
theorem wb_X14_weakest_7 {E : kw_E} (B : kw_ok E cX14_weakest RX14 "weakest" 4 (some (.object "RosaryCarvers$Bead")) 7 127 [])  : ∀ (n : Nat) (x1 : Option Nat) (x2 : Option Nat), kw_W E kw_eA 7 [(1, kA x1), (2, kA x2)] [] (pb_X14_weakest_7  n x1 x2) := by
  intro n
  induction n with
  | zero =>
    intro x1 x2
    exact kw_fail_ok
  | succ n ih =>
    intro x1 x2
    show kw_W E kw_eA 7 [(1, kA x1), (2, kA x2)] [] (
km_bind (km_disp x2 [(11, pm_X12_hasNext x2), (33, pm_J5_hasNext x2), (34, pm_J15_hasNext x2)]) fun i1 =>
if i1 = 0 then
(km_pure x1)
else
(km_bind (km_disp x2 [(11, pm_X12_next x2), (33, pm_J5_next x2), (34, pm_J15_next x2)]) fun r2 =>
km_bind (km_cast [14] r2) fun _ =>
if x1 = none then
(pb_X14_weakest_7 n r2 x2)
else
(km_bind (km_gI [(14, 2)] r2) fun i3 =>
km_bind (km_gI [(14, 2)] x1) fun i4 =>
if i4 ≤ i3 then
(pb_X14_weakest_7 n x1 x2)
else
(pb_X14_weakest_7 n r2 x2))))
    refine kw_aload_n (pc := 7) B dX14_weakest_7 rfl 1 rfl ?_
    refine kw_disp (pc := 8) (pc' := 13) (st := []) kw_hI (fun i1 => ?_) ?_
    · refine kw_if_eq (pc := 13) (tgt := 50) B dX14_weakest_13 rfl ?_ ?_
      · refine kw_aload_n (pc := 50) B dX14_weakest_50 rfl 0 rfl ?_
        exact kw_aret rfl B dX14_weakest_51 rfl
      · refine kw_aload_n (pc := 16) B dX14_weakest_16 rfl 1 rfl ?_
        refine kw_disp (pc := 17) (pc' := 22) (st := []) kw_hA (fun r2 => ?_) ?_
        · refine kw_cast_ok (pc := 22) B dX14_weakest_22 q1227 cs_RosaryCarvers_Bead ?_
          refine kw_astore_n (pc := 25) B dX14_weakest_25 rfl (by decide) (L2 := [(3, kA r2), (1, kA x1), (2, kA x2)]) rfl ?_
          refine kw_aload_n (pc := 26) B dX14_weakest_26 rfl 1 rfl ?_
          refine kw_ifnull (pc := 27) (tgt := 41) B dX14_weakest_27 rfl ?_ ?_
          · refine kw_aload_n (pc := 41) B dX14_weakest_41 rfl 0 rfl ?_
            refine kw_goto (pc := 42) (tgt := 46) B dX14_weakest_42 rfl ?_
            refine kw_astore_n (pc := 46) B dX14_weakest_46 rfl (by decide) (L2 := [(1, kA r2), (3, kA r2), (2, kA x2)]) rfl ?_
            refine kw_goto (pc := 47) (tgt := 7) B dX14_weakest_47 rfl ?_
            exact kw_pick [0, 2] rfl (ih r2 x2)
          · refine kw_aload_n (pc := 30) B dX14_weakest_30 rfl 0 rfl ?_
            refine kw_gIN (pc := 31) B dX14_weakest_31 fl_X14_45 (fun i3 => ?_)
            refine kw_aload_n (pc := 34) B dX14_weakest_34 rfl 1 rfl ?_
            refine kw_gIN (pc := 35) B dX14_weakest_35 fl_X14_45 (fun i4 => ?_)
            refine kw_icmp_ge (pc := 38) (tgt := 45) B dX14_weakest_38 rfl ?_ ?_
            · refine kw_aload_n (pc := 45) B dX14_weakest_45 rfl 1 rfl ?_
              refine kw_astore_n (pc := 46) B dX14_weakest_46 rfl (by decide) (L2 := [(1, kA x1), (3, kA r2), (2, kA x2)]) rfl ?_
              refine kw_goto (pc := 47) (tgt := 7) B dX14_weakest_47 rfl ?_
              exact kw_pick [0, 2] rfl (ih x1 x2)
            · refine kw_aload_n (pc := 41) B dX14_weakest_41 rfl 0 rfl ?_
              refine kw_goto (pc := 42) (tgt := 46) B dX14_weakest_42 rfl ?_
              refine kw_astore_n (pc := 46) B dX14_weakest_46 rfl (by decide) (L2 := [(1, kA r2), (3, kA r2), (2, kA x2)]) rfl ?_
              refine kw_goto (pc := 47) (tgt := 7) B dX14_weakest_47 rfl ?_
              exact kw_pick [0, 2] rfl (ih r2 x2)
        · intro q hq hk
          simp only [List.mem_cons, List.not_mem_nil, or_false] at hq
          rcases hq with rfl | rfl | rfl
          · exact kw_callF (pc := 17) B dX14_weakest_17 (ci := 11) rfl (ct_X12_next x2) q1226 q425 q427 q101 q429 q424 q423 q428 q426 q399 ⟨by decide, by decide, rfl⟩ (As := []) rfl (st := []) rfl (Nat.le_of_ble_eq_true rfl) (by decide) (by decide) kw_qA hk
          · exact kw_callF (pc := 17) B dX14_weakest_17 (ci := 33) rfl (ct_J5_next x2) q1226 q533 q535 q84 q537 q424 q423 q536 q534 q415 ⟨by decide, by decide, rfl⟩ (As := []) rfl (st := []) rfl (Nat.le_of_ble_eq_true rfl) (by decide) (by decide) kw_qA hk
          · exact kw_callF (pc := 17) B dX14_weakest_17 (ci := 34) rfl (ct_J15_next x2) q1226 q522 q524 q102 q526 q424 q423 q525 q523 q409 ⟨by decide, by decide, rfl⟩ (As := []) rfl (st := []) rfl (Nat.le_of_ble_eq_true rfl) (by decide) (by decide) kw_qA hk
    · intro q hq hk
      simp only [List.mem_cons, List.not_mem_nil, or_false] at hq
      rcases hq with rfl | rfl | rfl
      · exact kw_callF (pc := 8) B dX14_weakest_8 (ci := 11) rfl (ct_X12_hasNext x2) q1224 q400 q402 q101 q404 q398 q397 q403 q401 q399 ⟨by decide, by decide, rfl⟩ (As := []) rfl (st := []) rfl (Nat.le_of_ble_eq_true rfl) (by decide) (by decide) kw_qI hk
      · exact kw_callF (pc := 8) B dX14_weakest_8 (ci := 33) rfl (ct_J5_hasNext x2) q1224 q416 q418 q84 q420 q398 q397 q419 q417 q415 ⟨by decide, by decide, rfl⟩ (As := []) rfl (st := []) rfl (Nat.le_of_ble_eq_true rfl) (by decide) (by decide) kw_qI hk
      · exact kw_callF (pc := 8) B dX14_weakest_8 (ci := 34) rfl (ct_J15_hasNext x2) q1224 q410 q412 q102 q414 q398 q397 q413 q411 q409 ⟨by decide, by decide, rfl⟩ (As := []) rfl (st := []) rfl (Nat.le_of_ble_eq_true rfl) (by decide) (by decide) kw_qI hk
theorem wm_X14_weakest {E : kw_E} (B : kw_ok E cX14_weakest RX14 "weakest" 4 (some (.object "RosaryCarvers$Bead")) 7 127 []) (a0 : Option Nat) : kw_W E kw_eA 0 [(0, kA a0)] [] (pm_X14_weakest a0) := by
  unfold pm_X14_weakest
  refine kw_null (pc := 0) B dX14_weakest_0 ?_
  refine kw_astore_n (pc := 1) B dX14_weakest_1 rfl (by decide) (L2 := [(1, kA none), (0, kA a0)]) rfl ?_
  refine kw_aload_n (pc := 2) B dX14_weakest_2 rfl 1 rfl ?_
  refine kw_callU (pc := 3) B dX14_weakest_3 (x0 := ⟨"RosaryCarvers$Sold", "iterator", "()Ljava/util/Iterator;"⟩) (owner := "RosaryCarvers$Beads") (ci := 12) rfl (ct_X2_iterator a0) q1222 q1100 q1102 q908 q78 q910 rfl ⟨by decide, by decide, rfl⟩ (As := []) rfl (st := []) rfl (Nat.le_of_ble_eq_true rfl) (by decide) (by decide) kw_qA (fun r1 => ?_)
  refine kw_astore_n (pc := 6) B dX14_weakest_6 rfl (by decide) (L2 := [(2, kA r1), (1, kA none), (0, kA a0)]) rfl ?_
  exact kw_pick [1, 0] rfl (wb_X14_weakest_7 B km_fuel none r1)
theorem ct_X14_weakest (a0 : Option Nat) (l : Launch) : kw_Met l yX14_weakest (ws_ yX14_weakest cX14_weakest 4 (some (.object "RosaryCarvers$Bead"))) 7 127 [kA a0] kw_eA (pm_X14_weakest a0) := kw_met (plainFor_of_name rfl) (Nat.le_of_ble_eq_true rfl) (fun E B => wm_X14_weakest B a0) l

/-! RosaryCarvers$Sold <init> (LRosaryCarvers$Sold;LRosaryCarvers$Bead;)V -/
theorem fp_X14_7 : kw_fp RX14 .int true [(12, 1)] := (kw_fp_c (C := RX14) (T := TX14) (N := 3) (ty0 := tyX14) rfl tyX14_ok nmX14 rfl (fun _ => rfl) (by decide) rfl kw_fp_nil)
theorem fl_X14_13 : kw_fl RX14 13 "RosaryCarvers$Sold" [(12, 2)] := (kw_fl_c (C := RX14) (T := TX14) (N := 3) rfl (by decide) in_X14 q1241 (Or.inl rfl) kw_fl_nil)
theorem fp_X14_13 : kw_fp RX14 (.object "RosaryCarvers$Bead") true [(12, 2)] := (kw_fp_c (C := RX14) (T := TX14) (N := 3) (ty0 := tyX14) rfl tyX14_ok nmX14 rfl (fun _ => rfl) (by decide) rfl kw_fp_nil)
theorem wm_X14_init {E : kw_E} (B : kw_ok E cX14_init RX14 "<init>" 3 none 6 157 []) (a0 : Option Nat) (a1 : Option Nat) (a2 : Option Nat) : kw_W E kw_eV 0 [(0, kA a0), (1, kA a1), (2, kA a2)] [] (pm_X14_init a0 a1 a2) := by
  unfold pm_X14_init
  refine kw_aload_n (pc := 0) B dX14_init_0 rfl 0 rfl ?_
  refine kw_callIN (pc := 1) B dX14_init_1 (ct_X2_init a0) q1232 q178 q78 q179 rfl ⟨by decide, by decide, rfl⟩ (As := []) rfl (st := []) rfl (Nat.le_of_ble_eq_true rfl) (by decide) (by decide) kw_qV (fun _ => ?_)
  refine kw_aload_n (pc := 4) B dX14_init_4 rfl 0 rfl ?_
  refine kw_aload_n (pc := 5) B dX14_init_5 rfl 1 rfl ?_
  refine kw_gI (pc := 6) B dX14_init_6 fl_X14_7 (fun i1 => ?_)
  refine kw_pI (pc := 9) B dX14_init_9 fl_X14_7 fp_X14_7 (fun _ => rfl) ?_
  refine kw_aload_n (pc := 12) B dX14_init_12 rfl 0 rfl ?_
  refine kw_aload_n (pc := 13) B dX14_init_13 rfl 2 rfl ?_
  refine kw_pR (pc := 14) B dX14_init_14 fl_X14_13 fp_X14_13 (fun _ => rfl) rfl ?_
  refine kw_aload_n (pc := 17) B dX14_init_17 rfl 0 rfl ?_
  refine kw_aload_n (pc := 18) B dX14_init_18 rfl 1 rfl ?_
  refine kw_callU (pc := 19) B dX14_init_19 (x0 := ⟨"RosaryCarvers$Sold", "becomes", "(LRosaryCarvers$Beads;)V"⟩) (owner := "RosaryCarvers$Beads") (ci := 12) rfl (ct_X2_becomes a0 a1) q1233 q1234 q1235 q680 q78 q685 rfl ⟨by decide, by decide, rfl⟩ (As := [kA a1]) rfl (st := []) rfl (Nat.le_of_ble_eq_true rfl) (by decide) (by decide) kw_qV (fun _ => ?_)
  refine kw_aload_n (pc := 22) B dX14_init_22 rfl 0 rfl ?_
  refine kw_aload_n (pc := 23) B dX14_init_23 rfl 2 rfl ?_
  refine kw_callU (pc := 24) B dX14_init_24 (x0 := ⟨"RosaryCarvers$Sold", "loses", "(LRosaryCarvers$Bead;)V"⟩) (owner := "RosaryCarvers$Beads") (ci := 12) rfl (ct_X2_loses a0 a2) q1236 q1237 q1239 q1026 q78 q1031 rfl ⟨by decide, by decide, rfl⟩ (As := [kA a2]) rfl (st := []) rfl (Nat.le_of_ble_eq_true rfl) (by decide) (by decide) kw_qV (fun _ => ?_)
  exact kw_vret B dX14_init_27 rfl
theorem ct_X14_init (a0 : Option Nat) (a1 : Option Nat) (a2 : Option Nat) (l : Launch) : kw_Met l yX14_init (ws_ yX14_init cX14_init 3 none) 6 157 [kA a0, kA a1, kA a2] kw_eV (pm_X14_init a0 a1 a2) := kw_met (plainFor_of_name rfl) (Nat.le_of_ble_eq_true rfl) (fun E B => wm_X14_init B a0 a1 a2) l

/-! RosaryCarvers$Shop comeBack ()V -/

theorem wb_X1_comeBack_8 {E : kw_E} (B : kw_ok E cX1_comeBack RX1 "comeBack" 4 none 11 211 [])  : ∀ (n : Nat) (x0 : Option Nat) (x1 : Option Nat), kw_W E kw_eV 8 [(0, kA x0), (1, kA x1)] [] (pb_X1_comeBack_8  n x0 x1) := by
  intro n
  induction n with
  | zero =>
    intro x0 x1
    exact kw_fail_ok
  | succ n ih =>
    intro x0 x1
    show kw_W E kw_eV 8 [(0, kA x0), (1, kA x1)] [] (
km_bind (km_disp x1 [(11, pm_X12_hasNext x1), (33, pm_J5_hasNext x1), (34, pm_J15_hasNext x1)]) fun i1 =>
if i1 = 0 then
(km_pure ())
else
(km_bind (km_disp x1 [(11, pm_X12_next x1), (33, pm_J5_next x1), (34, pm_J15_next x1)]) fun r2 =>
km_bind (km_cast [12] r2) fun _ =>
km_bind (km_is 12 r2) fun _ => km_bind (pm_X14_last r2) fun i3 =>
km_bind (km_gI [(1, 8)] x0) fun i4 =>
if i4 < i3 then
(pb_X1_comeBack_8 n x0 x1)
else
(km_bind (km_is 33 x1) fun _ => km_bind (pm_J5_remove x1) fun _ =>
km_bind (km_is 12 r2) fun _ => km_bind (pm_X14_weakest r2) fun r5 =>
km_bind (km_gR [(1, 6)] x0) fun r6 =>
km_bind (km_new 12 3 kz_Sold) fun r7 =>
km_bind (km_nn r7) fun _ => km_bind (pm_X14_init r7 r2 r5) fun _ =>
km_bind (km_is 30 r6) fun _ => km_bind (pm_J2_add r6 r7) fun i8 =>
km_bind (km_gR [(1, 7)] x0) fun r9 =>
km_bind (km_gI [(14, 0)] r5) fun i10 =>
km_bind (km_is 31 r9) fun _ => km_bind (pm_J3_set r9 i10) fun _ =>
km_bind (km_gI [(1, 15)] x0) fun i11 =>
km_bind (km_pI .int [(1, 15)] x0 (i11 + (1 : Int32))) fun _ =>
pb_X1_comeBack_8 n x0 x1)))
    refine kw_aload_n (pc := 8) B dX1_comeBack_8 rfl 1 rfl ?_
    refine kw_disp (pc := 9) (pc' := 14) (st := []) kw_hI (fun i1 => ?_) ?_
    · refine kw_if_eq (pc := 14) (tgt := 90) B dX1_comeBack_14 rfl ?_ ?_
      · exact kw_vret B dX1_comeBack_90 rfl
      · refine kw_aload_n (pc := 17) B dX1_comeBack_17 rfl 1 rfl ?_
        refine kw_disp (pc := 18) (pc' := 23) (st := []) kw_hA (fun r2 => ?_) ?_
        · refine kw_cast_ok (pc := 23) B dX1_comeBack_23 q869 cs_RosaryCarvers_Sold ?_
          refine kw_astore_n (pc := 26) B dX1_comeBack_26 rfl (by decide) (L2 := [(2, kA r2), (0, kA x0), (1, kA x1)]) rfl ?_
          refine kw_aload_n (pc := 27) B dX1_comeBack_27 rfl 0 rfl ?_
          refine kw_callV (pc := 28) B dX1_comeBack_28 (ci := 12) rfl (ct_X14_last r2) q1127 q1128 q1129 q108 q1130 ⟨by decide, by decide, rfl⟩ (As := []) rfl (st := []) rfl (Nat.le_of_ble_eq_true rfl) (by decide) (by decide) kw_qI (fun i3 => ?_)
          refine kw_aload_n (pc := 31) B dX1_comeBack_31 rfl 1 rfl ?_
          refine kw_gI (pc := 32) B dX1_comeBack_32 fl_X1_92 (fun i4 => ?_)
          refine kw_icmp_gt (pc := 35) (tgt := 87) B dX1_comeBack_35 rfl ?_ ?_
          · refine kw_goto (pc := 87) (tgt := 8) B dX1_comeBack_87 rfl ?_
            exact kw_pick [1, 2] rfl (ih x0 x1)
          · refine kw_aload_n (pc := 38) B dX1_comeBack_38 rfl 2 rfl ?_
            refine kw_callFW (pc := 39) B dX1_comeBack_39 (ci := 33) rfl (ct_J5_remove x1) q1157 q1182 q1184 q84 q1186 q1159 q1158 q1185 q1183 q415 ⟨by decide, by decide, rfl⟩ (As := []) rfl (st := []) rfl (Nat.le_of_ble_eq_true rfl) (by decide) (by decide) kw_qV (fun _ => ?_)
            refine kw_aload_n (pc := 44) B dX1_comeBack_44 rfl 0 rfl ?_
            refine kw_callV (pc := 45) B dX1_comeBack_45 (ci := 12) rfl (ct_X14_weakest r2) q1218 q1219 q1220 q108 q1221 ⟨by decide, by decide, rfl⟩ (As := []) rfl (st := []) rfl (Nat.le_of_ble_eq_true rfl) (by decide) (by decide) kw_qA (fun r5 => ?_)
            refine kw_astore_n (pc := 48) B dX1_comeBack_48 rfl (by decide) (L2 := [(3, kA r5), (2, kA r2), (0, kA x0), (1, kA x1)]) rfl ?_
            refine kw_aload_n (pc := 49) B dX1_comeBack_49 rfl 2 rfl ?_
            refine kw_gR (pc := 50) B dX1_comeBack_50 fl_X1_37 (fun r6 => ?_)
            refine kw_new (pc := 53) B dX1_comeBack_53 (ci := 12) (N := 3) rfl in_X14 tyX14_ok kz_Sold_ok q869 q1228 q108 (fun r7 => ?_)
            refine kw_dup (pc := 56) B dX1_comeBack_56 rfl ?_
            refine kw_aload_n (pc := 57) B dX1_comeBack_57 rfl 1 rfl ?_
            refine kw_aload_n (pc := 58) B dX1_comeBack_58 rfl 0 rfl ?_
            refine kw_callI (pc := 59) B dX1_comeBack_59 (ct_X14_init r7 r2 r5) q1229 q1230 q108 q1231 rfl ⟨by decide, by decide, rfl⟩ (As := [kA r2, kA r5]) rfl (st := [kA r7, kA r6]) rfl (Nat.le_of_ble_eq_true rfl) (by decide) (by decide) kw_qV (fun _ => ?_)
            refine kw_callV (pc := 62) B dX1_comeBack_62 (ci := 30) rfl (ct_J2_add r6 r7) q572 q573 q574 q77 q575 ⟨by decide, by decide, rfl⟩ (As := [kA r7]) rfl (st := []) rfl (Nat.le_of_ble_eq_true rfl) (by decide) (by decide) kw_qI (fun i8 => ?_)
            refine kw_pop (pc := 65) B dX1_comeBack_65 rfl ?_
            refine kw_aload_n (pc := 66) B dX1_comeBack_66 rfl 2 rfl ?_
            refine kw_gR (pc := 67) B dX1_comeBack_67 fl_X1_43 (fun r9 => ?_)
            refine kw_aload_n (pc := 70) B dX1_comeBack_70 rfl 0 rfl ?_
            refine kw_gIN (pc := 71) B dX1_comeBack_71 fl_X1_219 (fun i10 => ?_)
            refine kw_callV (pc := 74) B dX1_comeBack_74 (ci := 31) rfl (ct_J3_set r9 i10) q1091 q1092 q1093 q79 q1094 ⟨by decide, by decide, rfl⟩ (As := [kI i10]) rfl (st := []) rfl (Nat.le_of_ble_eq_true rfl) (by decide) (by decide) kw_qV (fun _ => ?_)
            refine kw_aload_n (pc := 77) B dX1_comeBack_77 rfl 2 rfl ?_
            refine kw_dup (pc := 78) B dX1_comeBack_78 rfl ?_
            refine kw_gI (pc := 79) B dX1_comeBack_79 fl_X1_114 (fun i11 => ?_)
            refine kw_iconst (pc := 82) B dX1_comeBack_82 (v := (1 : Int32)) rfl ?_
            refine kw_iadd (pc := 83) B dX1_comeBack_83 ?_
            refine kw_pI (pc := 84) B dX1_comeBack_84 fl_X1_114 fp_X1_114 (fun h => by cases h) ?_
            refine kw_goto (pc := 87) (tgt := 8) B dX1_comeBack_87 rfl ?_
            exact kw_pick [2, 3] rfl (ih x0 x1)
        · intro q hq hk
          simp only [List.mem_cons, List.not_mem_nil, or_false] at hq
          rcases hq with rfl | rfl | rfl
          · exact kw_callF (pc := 18) B dX1_comeBack_18 (ci := 11) rfl (ct_X12_next x1) q422 q425 q427 q101 q429 q424 q423 q428 q426 q399 ⟨by decide, by decide, rfl⟩ (As := []) rfl (st := []) rfl (Nat.le_of_ble_eq_true rfl) (by decide) (by decide) kw_qA hk
          · exact kw_callF (pc := 18) B dX1_comeBack_18 (ci := 33) rfl (ct_J5_next x1) q422 q533 q535 q84 q537 q424 q423 q536 q534 q415 ⟨by decide, by decide, rfl⟩ (As := []) rfl (st := []) rfl (Nat.le_of_ble_eq_true rfl) (by decide) (by decide) kw_qA hk
          · exact kw_callF (pc := 18) B dX1_comeBack_18 (ci := 34) rfl (ct_J15_next x1) q422 q522 q524 q102 q526 q424 q423 q525 q523 q409 ⟨by decide, by decide, rfl⟩ (As := []) rfl (st := []) rfl (Nat.le_of_ble_eq_true rfl) (by decide) (by decide) kw_qA hk
    · intro q hq hk
      simp only [List.mem_cons, List.not_mem_nil, or_false] at hq
      rcases hq with rfl | rfl | rfl
      · exact kw_callF (pc := 9) B dX1_comeBack_9 (ci := 11) rfl (ct_X12_hasNext x1) q396 q400 q402 q101 q404 q398 q397 q403 q401 q399 ⟨by decide, by decide, rfl⟩ (As := []) rfl (st := []) rfl (Nat.le_of_ble_eq_true rfl) (by decide) (by decide) kw_qI hk
      · exact kw_callF (pc := 9) B dX1_comeBack_9 (ci := 33) rfl (ct_J5_hasNext x1) q396 q416 q418 q84 q420 q398 q397 q419 q417 q415 ⟨by decide, by decide, rfl⟩ (As := []) rfl (st := []) rfl (Nat.le_of_ble_eq_true rfl) (by decide) (by decide) kw_qI hk
      · exact kw_callF (pc := 9) B dX1_comeBack_9 (ci := 34) rfl (ct_J15_hasNext x1) q396 q410 q412 q102 q414 q398 q397 q413 q411 q409 ⟨by decide, by decide, rfl⟩ (As := []) rfl (st := []) rfl (Nat.le_of_ble_eq_true rfl) (by decide) (by decide) kw_qI hk
theorem wm_X1_comeBack {E : kw_E} (B : kw_ok E cX1_comeBack RX1 "comeBack" 4 none 11 211 []) (a0 : Option Nat) : kw_W E kw_eV 0 [(0, kA a0)] [] (pm_X1_comeBack a0) := by
  unfold pm_X1_comeBack
  refine kw_aload_n (pc := 0) B dX1_comeBack_0 rfl 0 rfl ?_
  refine kw_gR (pc := 1) B dX1_comeBack_1 fl_X1_34 (fun r1 => ?_)
  refine kw_callV (pc := 4) B dX1_comeBack_4 (ci := 30) rfl (ct_J2_iterator r1) q372 q373 q374 q77 q375 ⟨by decide, by decide, rfl⟩ (As := []) rfl (st := []) rfl (Nat.le_of_ble_eq_true rfl) (by decide) (by decide) kw_qA (fun r2 => ?_)
  refine kw_astore_n (pc := 7) B dX1_comeBack_7 rfl (by decide) (L2 := [(1, kA r2), (0, kA a0)]) rfl ?_
  exact kw_pick [1, 0] rfl (wb_X1_comeBack_8 B km_fuel a0 r2)
theorem ct_X1_comeBack (a0 : Option Nat) (l : Launch) : kw_Met l yX1_comeBack (ws_ yX1_comeBack cX1_comeBack 4 none) 11 211 [kA a0] kw_eV (pm_X1_comeBack a0) := kw_met (plainFor_of_name rfl) (Nat.le_of_ble_eq_true rfl) (fun E B => wm_X1_comeBack B a0) l
