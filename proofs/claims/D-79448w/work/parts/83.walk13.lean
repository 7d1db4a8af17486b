set_option maxRecDepth 100000
/-! RosaryCarversModel restore ()I -/

theorem wm_X3_restore {E : kw_E} (B : kw_ok E cX3_restore RX3 "restore" 1 (some .int) 2 25 []) (a0 : Option Nat) : kw_W E kw_eI 0 [(0, kA a0)] [] (pm_X3_restore a0) := by
  unfold pm_X3_restore
  refine kw_aload_n (pc := 0) B dX3_restore_0 rfl 0 rfl ?_
  refine kw_gI (pc := 1) B dX3_restore_1 fl_X3_289 (fun i1 => ?_)
  refine kw_if_ne (pc := 4) (tgt := 10) B dX3_restore_4 rfl ?_ ?_
  · refine kw_aload_n (pc := 10) B dX3_restore_10 rfl 0 rfl ?_
    refine kw_gR (pc := 11) B dX3_restore_11 fl_X3_16 (fun r2 => ?_)
    refine kw_iconst (pc := 14) B dX3_restore_14 (v := (0 : Int32)) rfl ?_
    refine kw_aload_n (pc := 15) B dX3_restore_15 rfl 0 rfl ?_
    refine kw_gR (pc := 16) B dX3_restore_16 fl_X3_9 (fun r3 => ?_)
    refine kw_iconst (pc := 19) B dX3_restore_19 (v := (0 : Int32)) rfl ?_
    refine kw_sipush (pc := 20) B dX3_restore_20 (v := (2188 : Int32)) rfl ?_
    refine kw_callS (pc := 23) B dX3_restore_23 (ct_X3_copies r2 (0 : Int32) r3 (0 : Int32) (2188 : Int32)) q2422 q2423 q81 q2424 ⟨by decide, by decide, rfl⟩ (As := [kA r2, kI (0 : Int32), kA r3, kI (0 : Int32), kI (2188 : Int32)]) rfl (st := []) rfl (Nat.le_of_ble_eq_true rfl) (by decide) (by decide) kw_qV (fun _ => ?_)
    refine kw_aload_n (pc := 26) B dX3_restore_26 rfl 0 rfl ?_
    refine kw_iconst (pc := 27) B dX3_restore_27 (v := (0 : Int32)) rfl ?_
    refine kw_pI (pc := 28) B dX3_restore_28 fl_X3_67 fp_X3_67 (fun h => by cases h) ?_
    refine kw_aload_n (pc := 31) B dX3_restore_31 rfl 0 rfl ?_
    refine kw_gR (pc := 32) B dX3_restore_32 fl_X3_9 (fun r5 => ?_)
    refine kw_bipush (pc := 35) B dX3_restore_35 (v := (9 : Int32)) rfl ?_
    refine kw_iald (pc := 37) B dX3_restore_37 (fun i6 => ?_)
    exact kw_iret B dX3_restore_38 rfl
  · refine kw_bipush (pc := 7) B dX3_restore_7 (v := (-3 : Int32)) rfl ?_
    exact kw_iret B dX3_restore_9 rfl
theorem ct_X3_restore (a0 : Option Nat) (l : Launch) : kw_Met l yX3_restore (ws_ yX3_restore cX3_restore 1 (some .int)) 2 25 [kA a0] kw_eI (pm_X3_restore a0) := kw_met (plainFor_of_name rfl) (Nat.le_of_ble_eq_true rfl) (fun E B => wm_X3_restore B a0) l

/-! RosaryCarversLaw law ([I)Z -/

theorem wb_L_law_1304 {E : kw_E} (B : kw_ok E cL_law R_law "law" 8 (some .boolean) 8192 100000 []) {k18 : Option Nat → Option Nat → Option Nat → Int32 → km_M Int32} (h18 : ∀ (y0 : Option Nat) (y1 : Option Nat) (y2 : Option Nat) (y3 : Int32), kw_W E kw_eI 18 [(0, kA y0), (1, kA y1), (2, kA y2), (3, kI y3)] [] (k18 y0 y1 y2 y3)) (x0 : Option Nat) (x1 : Option Nat) (x2 : Option Nat) (x3 : Int32) : kw_W E kw_eI 1304 [(0, kA x0), (1, kA x1), (2, kA x2), (3, kI x3)] [] (pb_L_law_1304 k18 x0 x1 x2 x3) := by
  unfold pb_L_law_1304
  refine kw_iinc (pc := 1304) B dL_law_1304 3 rfl (w := x3 + (5 : Int32)) rfl (by decide) (L2 := [(3, kI (x3 + (5 : Int32))), (0, kA x0), (1, kA x1), (2, kA x2)]) rfl ?_
  refine kw_goto (pc := 1307) (tgt := 18) B dL_law_1307 rfl ?_
  exact kw_pick [1, 2, 3, 0] rfl (h18 x0 x1 x2 (x3 + (5 : Int32)))
theorem wb_L_law_340 {E : kw_E} (B : kw_ok E cL_law R_law "law" 8 (some .boolean) 8192 100000 []) {k18 : Option Nat → Option Nat → Option Nat → Int32 → km_M Int32} (h18 : ∀ (y0 : Option Nat) (y1 : Option Nat) (y2 : Option Nat) (y3 : Int32), kw_W E kw_eI 18 [(0, kA y0), (1, kA y1), (2, kA y2), (3, kI y3)] [] (k18 y0 y1 y2 y3)) (x0 : Option Nat) (x1 : Option Nat) (x2 : Option Nat) (x3 : Int32) (s0 : Int32) (s1 : Int32) (s2 : Option Nat) (s3 : Int32) : kw_W E kw_eI 340 [(0, kA x0), (1, kA x1), (2, kA x2), (3, kI x3)] [kI s0, kI s1, kA s2, kI s3] (pb_L_law_340 k18 x0 x1 x2 x3 s0 s1 s2 s3) := by
  unfold pb_L_law_340
  refine kw_aload_n (pc := 340) B dL_law_340 rfl 0 rfl ?_
  refine kw_iload_n (pc := 341) B dL_law_341 rfl 3 rfl ?_
  refine kw_iconst (pc := 342) B dL_law_342 (v := (3 : Int32)) rfl ?_
  refine kw_iadd (pc := 343) B dL_law_343 ?_
  refine kw_iald (pc := 344) B dL_law_344 (fun i1 => ?_)
  refine kw_callV (pc := 345) B dL_law_345 (ci := 3) rfl (ct_X3_carve s2 s1 s0 i1) q2473 q2474 q2475 q81 q2476 ⟨by decide, by decide, rfl⟩ (As := [kI s1, kI s0, kI i1]) rfl (st := [kI s3]) rfl (Nat.le_of_ble_eq_true rfl) (by decide) (by decide) kw_qI (fun i2 => ?_)
  refine kw_icmp_eq (pc := 348) (tgt := 1304) B dL_law_348 rfl ?_ ?_
  · exact kw_pick [0, 1, 2, 3] rfl (wb_L_law_1304 B h18 x0 x1 x2 x3)
  · refine kw_iconst (pc := 351) B dL_law_351 (v := (0 : Int32)) rfl ?_
    exact kw_zret B dL_law_352 (g := fun v => v) (fun _ => rfl)
theorem wb_L_law_313 {E : kw_E} (B : kw_ok E cL_law R_law "law" 8 (some .boolean) 8192 100000 []) {k18 : Option Nat → Option Nat → Option Nat → Int32 → km_M Int32} (h18 : ∀ (y0 : Option Nat) (y1 : Option Nat) (y2 : Option Nat) (y3 : Int32), kw_W E kw_eI 18 [(0, kA y0), (1, kA y1), (2, kA y2), (3, kI y3)] [] (k18 y0 y1 y2 y3)) (x0 : Option Nat) (x1 : Option Nat) (x2 : Option Nat) (x3 : Int32) (s0 : Int32) (s1 : Int32) (s2 : Option Nat) : kw_W E kw_eI 313 [(0, kA x0), (1, kA x1), (2, kA x2), (3, kI x3)] [kI s0, kI s1, kA s2] (pb_L_law_313 k18 x0 x1 x2 x3 s0 s1 s2) := by
  unfold pb_L_law_313
  refine kw_aload_n (pc := 313) B dL_law_313 rfl 0 rfl ?_
  refine kw_iload_n (pc := 314) B dL_law_314 rfl 3 rfl ?_
  refine kw_iconst (pc := 315) B dL_law_315 (v := (3 : Int32)) rfl ?_
  refine kw_iadd (pc := 316) B dL_law_316 ?_
  refine kw_iald (pc := 317) B dL_law_317 (fun i1 => ?_)
  refine kw_callV (pc := 318) B dL_law_318 (ci := 0) rfl (ct_X0_carve s2 s1 s0 i1) q1633 q1634 q1635 q73 q1636 ⟨by decide, by decide, rfl⟩ (As := [kI s1, kI s0, kI i1]) rfl (st := []) rfl (Nat.le_of_ble_eq_true rfl) (by decide) (by decide) kw_qI (fun i2 => ?_)
  refine kw_aload_n (pc := 321) B dL_law_321 rfl 2 rfl ?_
  refine kw_aload_n (pc := 322) B dL_law_322 rfl 0 rfl ?_
  refine kw_iload_n (pc := 323) B dL_law_323 rfl 3 rfl ?_
  refine kw_iconst (pc := 324) B dL_law_324 (v := (1 : Int32)) rfl ?_
  refine kw_iadd (pc := 325) B dL_law_325 ?_
  refine kw_iald (pc := 326) B dL_law_326 (fun i3 => ?_)
  refine kw_aload_n (pc := 327) B dL_law_327 rfl 0 rfl ?_
  refine kw_iload_n (pc := 328) B dL_law_328 rfl 3 rfl ?_
  refine kw_iconst (pc := 329) B dL_law_329 (v := (2 : Int32)) rfl ?_
  refine kw_iadd (pc := 330) B dL_law_330 ?_
  refine kw_iald (pc := 331) B dL_law_331 (fun i4 => ?_)
  refine kw_if_eq (pc := 332) (tgt := 339) B dL_law_332 rfl ?_ ?_
  · refine kw_iconst (pc := 339) B dL_law_339 (v := (0 : Int32)) rfl ?_
    exact kw_pick [0, 1, 2, 3] rfl (wb_L_law_340 B h18 x0 x1 x2 x3 (0 : Int32) i3 x2 i2)
  · refine kw_iconst (pc := 335) B dL_law_335 (v := (1 : Int32)) rfl ?_
    refine kw_goto (pc := 336) (tgt := 340) B dL_law_336 rfl ?_
    exact kw_pick [0, 1, 2, 3] rfl (wb_L_law_340 B h18 x0 x1 x2 x3 (1 : Int32) i3 x2 i2)
theorem wb_L_law_618 {E : kw_E} (B : kw_ok E cL_law R_law "law" 8 (some .boolean) 8192 100000 []) {k18 : Option Nat → Option Nat → Option Nat → Int32 → km_M Int32} (h18 : ∀ (y0 : Option Nat) (y1 : Option Nat) (y2 : Option Nat) (y3 : Int32), kw_W E kw_eI 18 [(0, kA y0), (1, kA y1), (2, kA y2), (3, kI y3)] [] (k18 y0 y1 y2 y3)) (x0 : Option Nat) (x1 : Option Nat) (x2 : Option Nat) (x3 : Int32) (s0 : Int32) (s1 : Int32) (s2 : Option Nat) (s3 : Int32) : kw_W E kw_eI 618 [(0, kA x0), (1, kA x1), (2, kA x2), (3, kI x3)] [kI s0, kI s1, kA s2, kI s3] (pb_L_law_618 k18 x0 x1 x2 x3 s0 s1 s2 s3) := by
  unfold pb_L_law_618
  refine kw_callV (pc := 618) B dL_law_618 (ci := 3) rfl (ct_X3_lensOf s2 s1 s0) q2651 q2652 q2653 q81 q2654 ⟨by decide, by decide, rfl⟩ (As := [kI s1, kI s0]) rfl (st := [kI s3]) rfl (Nat.le_of_ble_eq_true rfl) (by decide) (by decide) kw_qI (fun i1 => ?_)
  refine kw_icmp_eq (pc := 621) (tgt := 1304) B dL_law_621 rfl ?_ ?_
  · exact kw_pick [0, 1, 2, 3] rfl (wb_L_law_1304 B h18 x0 x1 x2 x3)
  · refine kw_iconst (pc := 624) B dL_law_624 (v := (0 : Int32)) rfl ?_
    exact kw_zret B dL_law_625 (g := fun v => v) (fun _ => rfl)
theorem wb_L_law_596 {E : kw_E} (B : kw_ok E cL_law R_law "law" 8 (some .boolean) 8192 100000 []) {k18 : Option Nat → Option Nat → Option Nat → Int32 → km_M Int32} (h18 : ∀ (y0 : Option Nat) (y1 : Option Nat) (y2 : Option Nat) (y3 : Int32), kw_W E kw_eI 18 [(0, kA y0), (1, kA y1), (2, kA y2), (3, kI y3)] [] (k18 y0 y1 y2 y3)) (x0 : Option Nat) (x1 : Option Nat) (x2 : Option Nat) (x3 : Int32) (s0 : Int32) (s1 : Int32) (s2 : Option Nat) : kw_W E kw_eI 596 [(0, kA x0), (1, kA x1), (2, kA x2), (3, kI x3)] [kI s0, kI s1, kA s2] (pb_L_law_596 k18 x0 x1 x2 x3 s0 s1 s2) := by
  unfold pb_L_law_596
  refine kw_callV (pc := 596) B dL_law_596 (ci := 0) rfl (ct_X0_lensOf s2 s1 s0) q1824 q1825 q1826 q73 q1827 ⟨by decide, by decide, rfl⟩ (As := [kI s1, kI s0]) rfl (st := []) rfl (Nat.le_of_ble_eq_true rfl) (by decide) (by decide) kw_qI (fun i1 => ?_)
  refine kw_aload_n (pc := 599) B dL_law_599 rfl 2 rfl ?_
  refine kw_aload_n (pc := 600) B dL_law_600 rfl 0 rfl ?_
  refine kw_iload_n (pc := 601) B dL_law_601 rfl 3 rfl ?_
  refine kw_iconst (pc := 602) B dL_law_602 (v := (1 : Int32)) rfl ?_
  refine kw_iadd (pc := 603) B dL_law_603 ?_
  refine kw_iald (pc := 604) B dL_law_604 (fun i2 => ?_)
  refine kw_aload_n (pc := 605) B dL_law_605 rfl 0 rfl ?_
  refine kw_iload_n (pc := 606) B dL_law_606 rfl 3 rfl ?_
  refine kw_iconst (pc := 607) B dL_law_607 (v := (2 : Int32)) rfl ?_
  refine kw_iadd (pc := 608) B dL_law_608 ?_
  refine kw_iald (pc := 609) B dL_law_609 (fun i3 => ?_)
  refine kw_if_eq (pc := 610) (tgt := 617) B dL_law_610 rfl ?_ ?_
  · refine kw_iconst (pc := 617) B dL_law_617 (v := (0 : Int32)) rfl ?_
    exact kw_pick [0, 1, 2, 3] rfl (wb_L_law_618 B h18 x0 x1 x2 x3 (0 : Int32) i2 x2 i1)
  · refine kw_iconst (pc := 613) B dL_law_613 (v := (1 : Int32)) rfl ?_
    refine kw_goto (pc := 614) (tgt := 618) B dL_law_614 rfl ?_
    exact kw_pick [0, 1, 2, 3] rfl (wb_L_law_618 B h18 x0 x1 x2 x3 (1 : Int32) i2 x2 i1)
theorem wb_L_law_683 {E : kw_E} (B : kw_ok E cL_law R_law "law" 8 (some .boolean) 8192 100000 []) {k18 : Option Nat → Option Nat → Option Nat → Int32 → km_M Int32} (h18 : ∀ (y0 : Option Nat) (y1 : Option Nat) (y2 : Option Nat) (y3 : Int32), kw_W E kw_eI 18 [(0, kA y0), (1, kA y1), (2, kA y2), (3, kI y3)] [] (k18 y0 y1 y2 y3)) (x0 : Option Nat) (x1 : Option Nat) (x2 : Option Nat) (x3 : Int32) (s0 : Int32) (s1 : Int32) (s2 : Option Nat) (s3 : Int32) : kw_W E kw_eI 683 [(0, kA x0), (1, kA x1), (2, kA x2), (3, kI x3)] [kI s0, kI s1, kA s2, kI s3] (pb_L_law_683 k18 x0 x1 x2 x3 s0 s1 s2 s3) := by
  unfold pb_L_law_683
  refine kw_callV (pc := 683) B dL_law_683 (ci := 3) rfl (ct_X3_box s2 s1 s0) q2508 q2509 q2510 q81 q2511 ⟨by decide, by decide, rfl⟩ (As := [kI s1, kI s0]) rfl (st := [kI s3]) rfl (Nat.le_of_ble_eq_true rfl) (by decide) (by decide) kw_qI (fun i1 => ?_)
  refine kw_icmp_eq (pc := 686) (tgt := 1304) B dL_law_686 rfl ?_ ?_
  · exact kw_pick [0, 1, 2, 3] rfl (wb_L_law_1304 B h18 x0 x1 x2 x3)
  · refine kw_iconst (pc := 689) B dL_law_689 (v := (0 : Int32)) rfl ?_
    exact kw_zret B dL_law_690 (g := fun v => v) (fun _ => rfl)
theorem wb_L_law_670 {E : kw_E} (B : kw_ok E cL_law R_law "law" 8 (some .boolean) 8192 100000 []) {k18 : Option Nat → Option Nat → Option Nat → Int32 → km_M Int32} (h18 : ∀ (y0 : Option Nat) (y1 : Option Nat) (y2 : Option Nat) (y3 : Int32), kw_W E kw_eI 18 [(0, kA y0), (1, kA y1), (2, kA y2), (3, kI y3)] [] (k18 y0 y1 y2 y3)) (x0 : Option Nat) (x1 : Option Nat) (x2 : Option Nat) (x3 : Int32) (s0 : Int32) (s1 : Option Nat) (s2 : Int32) : kw_W E kw_eI 670 [(0, kA x0), (1, kA x1), (2, kA x2), (3, kI x3)] [kI s0, kA s1, kI s2] (pb_L_law_670 k18 x0 x1 x2 x3 s0 s1 s2) := by
  unfold pb_L_law_670
  refine kw_aload_n (pc := 670) B dL_law_670 rfl 0 rfl ?_
  refine kw_iload_n (pc := 671) B dL_law_671 rfl 3 rfl ?_
  refine kw_iconst (pc := 672) B dL_law_672 (v := (2 : Int32)) rfl ?_
  refine kw_iadd (pc := 673) B dL_law_673 ?_
  refine kw_iald (pc := 674) B dL_law_674 (fun i1 => ?_)
  refine kw_if_eq (pc := 675) (tgt := 682) B dL_law_675 rfl ?_ ?_
  · refine kw_iconst (pc := 682) B dL_law_682 (v := (0 : Int32)) rfl ?_
    exact kw_pick [0, 1, 2, 3] rfl (wb_L_law_683 B h18 x0 x1 x2 x3 (0 : Int32) s0 s1 s2)
  · refine kw_iconst (pc := 678) B dL_law_678 (v := (1 : Int32)) rfl ?_
    refine kw_goto (pc := 679) (tgt := 683) B dL_law_679 rfl ?_
    exact kw_pick [0, 1, 2, 3] rfl (wb_L_law_683 B h18 x0 x1 x2 x3 (1 : Int32) s0 s1 s2)
theorem wb_L_law_653 {E : kw_E} (B : kw_ok E cL_law R_law "law" 8 (some .boolean) 8192 100000 []) {k18 : Option Nat → Option Nat → Option Nat → Int32 → km_M Int32} (h18 : ∀ (y0 : Option Nat) (y1 : Option Nat) (y2 : Option Nat) (y3 : Int32), kw_W E kw_eI 18 [(0, kA y0), (1, kA y1), (2, kA y2), (3, kI y3)] [] (k18 y0 y1 y2 y3)) (x0 : Option Nat) (x1 : Option Nat) (x2 : Option Nat) (x3 : Int32) (s0 : Int32) (s1 : Int32) (s2 : Option Nat) : kw_W E kw_eI 653 [(0, kA x0), (1, kA x1), (2, kA x2), (3, kI x3)] [kI s0, kI s1, kA s2] (pb_L_law_653 k18 x0 x1 x2 x3 s0 s1 s2) := by
  unfold pb_L_law_653
  refine kw_callV (pc := 653) B dL_law_653 (ci := 0) rfl (ct_X0_box s2 s1 s0) q1829 q1830 q1831 q73 q1832 ⟨by decide, by decide, rfl⟩ (As := [kI s1, kI s0]) rfl (st := []) rfl (Nat.le_of_ble_eq_true rfl) (by decide) (by decide) kw_qI (fun i1 => ?_)
  refine kw_aload_n (pc := 656) B dL_law_656 rfl 2 rfl ?_
  refine kw_aload_n (pc := 657) B dL_law_657 rfl 0 rfl ?_
  refine kw_iload_n (pc := 658) B dL_law_658 rfl 3 rfl ?_
  refine kw_iconst (pc := 659) B dL_law_659 (v := (1 : Int32)) rfl ?_
  refine kw_iadd (pc := 660) B dL_law_660 ?_
  refine kw_iald (pc := 661) B dL_law_661 (fun i2 => ?_)
  refine kw_if_eq (pc := 662) (tgt := 669) B dL_law_662 rfl ?_ ?_
  · refine kw_iconst (pc := 669) B dL_law_669 (v := (0 : Int32)) rfl ?_
    exact kw_pick [0, 1, 2, 3] rfl (wb_L_law_670 B h18 x0 x1 x2 x3 (0 : Int32) x2 i1)
  · refine kw_iconst (pc := 665) B dL_law_665 (v := (1 : Int32)) rfl ?_
    refine kw_goto (pc := 666) (tgt := 670) B dL_law_666 rfl ?_
    exact kw_pick [0, 1, 2, 3] rfl (wb_L_law_670 B h18 x0 x1 x2 x3 (1 : Int32) x2 i1)
theorem wb_L_law_640 {E : kw_E} (B : kw_ok E cL_law R_law "law" 8 (some .boolean) 8192 100000 []) {k18 : Option Nat → Option Nat → Option Nat → Int32 → km_M Int32} (h18 : ∀ (y0 : Option Nat) (y1 : Option Nat) (y2 : Option Nat) (y3 : Int32), kw_W E kw_eI 18 [(0, kA y0), (1, kA y1), (2, kA y2), (3, kI y3)] [] (k18 y0 y1 y2 y3)) (x0 : Option Nat) (x1 : Option Nat) (x2 : Option Nat) (x3 : Int32) (s0 : Int32) (s1 : Option Nat) : kw_W E kw_eI 640 [(0, kA x0), (1, kA x1), (2, kA x2), (3, kI x3)] [kI s0, kA s1] (pb_L_law_640 k18 x0 x1 x2 x3 s0 s1) := by
  unfold pb_L_law_640
  refine kw_aload_n (pc := 640) B dL_law_640 rfl 0 rfl ?_
  refine kw_iload_n (pc := 641) B dL_law_641 rfl 3 rfl ?_
  refine kw_iconst (pc := 642) B dL_law_642 (v := (2 : Int32)) rfl ?_
  refine kw_iadd (pc := 643) B dL_law_643 ?_
  refine kw_iald (pc := 644) B dL_law_644 (fun i1 => ?_)
  refine kw_if_eq (pc := 645) (tgt := 652) B dL_law_645 rfl ?_ ?_
  · refine kw_iconst (pc := 652) B dL_law_652 (v := (0 : Int32)) rfl ?_
    exact kw_pick [0, 1, 2, 3] rfl (wb_L_law_653 B h18 x0 x1 x2 x3 (0 : Int32) s0 s1)
  · refine kw_iconst (pc := 648) B dL_law_648 (v := (1 : Int32)) rfl ?_
    refine kw_goto (pc := 649) (tgt := 653) B dL_law_649 rfl ?_
    exact kw_pick [0, 1, 2, 3] rfl (wb_L_law_653 B h18 x0 x1 x2 x3 (1 : Int32) s0 s1)
theorem wb_L_law_722 {E : kw_E} (B : kw_ok E cL_law R_law "law" 8 (some .boolean) 8192 100000 []) {k18 : Option Nat → Option Nat → Option Nat → Int32 → km_M Int32} (h18 : ∀ (y0 : Option Nat) (y1 : Option Nat) (y2 : Option Nat) (y3 : Int32), kw_W E kw_eI 18 [(0, kA y0), (1, kA y1), (2, kA y2), (3, kI y3)] [] (k18 y0 y1 y2 y3)) (x0 : Option Nat) (x1 : Option Nat) (x2 : Option Nat) (x3 : Int32) (s0 : Int32) (s1 : Option Nat) (s2 : Int32) : kw_W E kw_eI 722 [(0, kA x0), (1, kA x1), (2, kA x2), (3, kI x3)] [kI s0, kA s1, kI s2] (pb_L_law_722 k18 x0 x1 x2 x3 s0 s1 s2) := by
  unfold pb_L_law_722
  refine kw_callV (pc := 722) B dL_law_722 (ci := 3) rfl (ct_X3_finest s1 s0) q2496 q2497 q2498 q81 q2499 ⟨by decide, by decide, rfl⟩ (As := [kI s0]) rfl (st := [kI s2]) rfl (Nat.le_of_ble_eq_true rfl) (by decide) (by decide) kw_qI (fun i1 => ?_)
  refine kw_icmp_eq (pc := 725) (tgt := 1304) B dL_law_725 rfl ?_ ?_
  · exact kw_pick [0, 1, 2, 3] rfl (wb_L_law_1304 B h18 x0 x1 x2 x3)
  · refine kw_iconst (pc := 728) B dL_law_728 (v := (0 : Int32)) rfl ?_
    exact kw_zret B dL_law_729 (g := fun v => v) (fun _ => rfl)
theorem wb_L_law_705 {E : kw_E} (B : kw_ok E cL_law R_law "law" 8 (some .boolean) 8192 100000 []) {k18 : Option Nat → Option Nat → Option Nat → Int32 → km_M Int32} (h18 : ∀ (y0 : Option Nat) (y1 : Option Nat) (y2 : Option Nat) (y3 : Int32), kw_W E kw_eI 18 [(0, kA y0), (1, kA y1), (2, kA y2), (3, kI y3)] [] (k18 y0 y1 y2 y3)) (x0 : Option Nat) (x1 : Option Nat) (x2 : Option Nat) (x3 : Int32) (s0 : Int32) (s1 : Option Nat) : kw_W E kw_eI 705 [(0, kA x0), (1, kA x1), (2, kA x2), (3, kI x3)] [kI s0, kA s1] (pb_L_law_705 k18 x0 x1 x2 x3 s0 s1) := by
  unfold pb_L_law_705
  refine kw_callV (pc := 705) B dL_law_705 (ci := 0) rfl (ct_X0_finest s1 s0) q1836 q1837 q1838 q73 q1839 ⟨by decide, by decide, rfl⟩ (As := [kI s0]) rfl (st := []) rfl (Nat.le_of_ble_eq_true rfl) (by decide) (by decide) kw_qI (fun i1 => ?_)
  refine kw_aload_n (pc := 708) B dL_law_708 rfl 2 rfl ?_
  refine kw_aload_n (pc := 709) B dL_law_709 rfl 0 rfl ?_
  refine kw_iload_n (pc := 710) B dL_law_710 rfl 3 rfl ?_
  refine kw_iconst (pc := 711) B dL_law_711 (v := (1 : Int32)) rfl ?_
  refine kw_iadd (pc := 712) B dL_law_712 ?_
  refine kw_iald (pc := 713) B dL_law_713 (fun i2 => ?_)
  refine kw_if_eq (pc := 714) (tgt := 721) B dL_law_714 rfl ?_ ?_
  · refine kw_iconst (pc := 721) B dL_law_721 (v := (0 : Int32)) rfl ?_
    exact kw_pick [0, 1, 2, 3] rfl (wb_L_law_722 B h18 x0 x1 x2 x3 (0 : Int32) x2 i1)
  · refine kw_iconst (pc := 717) B dL_law_717 (v := (1 : Int32)) rfl ?_
    refine kw_goto (pc := 718) (tgt := 722) B dL_law_718 rfl ?_
    exact kw_pick [0, 1, 2, 3] rfl (wb_L_law_722 B h18 x0 x1 x2 x3 (1 : Int32) x2 i1)
theorem wb_L_law_761 {E : kw_E} (B : kw_ok E cL_law R_law "law" 8 (some .boolean) 8192 100000 []) {k18 : Option Nat → Option Nat → Option Nat → Int32 → km_M Int32} (h18 : ∀ (y0 : Option Nat) (y1 : Option Nat) (y2 : Option Nat) (y3 : Int32), kw_W E kw_eI 18 [(0, kA y0), (1, kA y1), (2, kA y2), (3, kI y3)] [] (k18 y0 y1 y2 y3)) (x0 : Option Nat) (x1 : Option Nat) (x2 : Option Nat) (x3 : Int32) (s0 : Int32) (s1 : Option Nat) (s2 : Int32) : kw_W E kw_eI 761 [(0, kA x0), (1, kA x1), (2, kA x2), (3, kI x3)] [kI s0, kA s1, kI s2] (pb_L_law_761 k18 x0 x1 x2 x3 s0 s1 s2) := by
  unfold pb_L_law_761
  refine kw_callV (pc := 761) B dL_law_761 (ci := 3) rfl (ct_X3_finestAgain s1 s0) q2504 q2505 q2506 q81 q2507 ⟨by decide, by decide, rfl⟩ (As := [kI s0]) rfl (st := [kI s2]) rfl (Nat.le_of_ble_eq_true rfl) (by decide) (by decide) kw_qI (fun i1 => ?_)
  refine kw_icmp_eq (pc := 764) (tgt := 1304) B dL_law_764 rfl ?_ ?_
  · exact kw_pick [0, 1, 2, 3] rfl (wb_L_law_1304 B h18 x0 x1 x2 x3)
  · refine kw_iconst (pc := 767) B dL_law_767 (v := (0 : Int32)) rfl ?_
    exact kw_zret B dL_law_768 (g := fun v => v) (fun _ => rfl)
theorem wb_L_law_744 {E : kw_E} (B : kw_ok E cL_law R_law "law" 8 (some .boolean) 8192 100000 []) {k18 : Option Nat → Option Nat → Option Nat → Int32 → km_M Int32} (h18 : ∀ (y0 : Option Nat) (y1 : Option Nat) (y2 : Option Nat) (y3 : Int32), kw_W E kw_eI 18 [(0, kA y0), (1, kA y1), (2, kA y2), (3, kI y3)] [] (k18 y0 y1 y2 y3)) (x0 : Option Nat) (x1 : Option Nat) (x2 : Option Nat) (x3 : Int32) (s0 : Int32) (s1 : Option Nat) : kw_W E kw_eI 744 [(0, kA x0), (1, kA x1), (2, kA x2), (3, kI x3)] [kI s0, kA s1] (pb_L_law_744 k18 x0 x1 x2 x3 s0 s1) := by
  unfold pb_L_law_744
  refine kw_callV (pc := 744) B dL_law_744 (ci := 0) rfl (ct_X0_finestAgain s1 s0) q1841 q1842 q1843 q73 q1844 ⟨by decide, by decide, rfl⟩ (As := [kI s0]) rfl (st := []) rfl (Nat.le_of_ble_eq_true rfl) (by decide) (by decide) kw_qI (fun i1 => ?_)
  refine kw_aload_n (pc := 747) B dL_law_747 rfl 2 rfl ?_
  refine kw_aload_n (pc := 748) B dL_law_748 rfl 0 rfl ?_
  refine kw_iload_n (pc := 749) B dL_law_749 rfl 3 rfl ?_
  refine kw_iconst (pc := 750) B dL_law_750 (v := (1 : Int32)) rfl ?_
  refine kw_iadd (pc := 751) B dL_law_751 ?_
  refine kw_iald (pc := 752) B dL_law_752 (fun i2 => ?_)
  refine kw_if_eq (pc := 753) (tgt := 760) B dL_law_753 rfl ?_ ?_
  · refine kw_iconst (pc := 760) B dL_law_760 (v := (0 : Int32)) rfl ?_
    exact kw_pick [0, 1, 2, 3] rfl (wb_L_law_761 B h18 x0 x1 x2 x3 (0 : Int32) x2 i1)
  · refine kw_iconst (pc := 756) B dL_law_756 (v := (1 : Int32)) rfl ?_
    refine kw_goto (pc := 757) (tgt := 761) B dL_law_757 rfl ?_
    exact kw_pick [0, 1, 2, 3] rfl (wb_L_law_761 B h18 x0 x1 x2 x3 (1 : Int32) x2 i1)
theorem wb_L_law_853 {E : kw_E} (B : kw_ok E cL_law R_law "law" 8 (some .boolean) 8192 100000 []) {k18 : Option Nat → Option Nat → Option Nat → Int32 → km_M Int32} (h18 : ∀ (y0 : Option Nat) (y1 : Option Nat) (y2 : Option Nat) (y3 : Int32), kw_W E kw_eI 18 [(0, kA y0), (1, kA y1), (2, kA y2), (3, kI y3)] [] (k18 y0 y1 y2 y3)) (x0 : Option Nat) (x1 : Option Nat) (x2 : Option Nat) (x3 : Int32) (s0 : Int32) (s1 : Int32) (s2 : Int32) (s3 : Option Nat) (s4 : Int32) : kw_W E kw_eI 853 [(0, kA x0), (1, kA x1), (2, kA x2), (3, kI x3)] [kI s0, kI s1, kI s2, kA s3, kI s4] (pb_L_law_853 k18 x0 x1 x2 x3 s0 s1 s2 s3 s4) := by
  unfold pb_L_law_853
  refine kw_callV (pc := 853) B dL_law_853 (ci := 3) rfl (ct_X3_bead s3 s2 s1 s0) q2659 q2660 q2661 q81 q2662 ⟨by decide, by decide, rfl⟩ (As := [kI s2, kI s1, kI s0]) rfl (st := [kI s4]) rfl (Nat.le_of_ble_eq_true rfl) (by decide) (by decide) kw_qI (fun i1 => ?_)
  refine kw_icmp_eq (pc := 856) (tgt := 1304) B dL_law_856 rfl ?_ ?_
  · exact kw_pick [0, 1, 2, 3] rfl (wb_L_law_1304 B h18 x0 x1 x2 x3)
  · refine kw_iconst (pc := 859) B dL_law_859 (v := (0 : Int32)) rfl ?_
    exact kw_zret B dL_law_860 (g := fun v => v) (fun _ => rfl)
theorem wb_L_law_826 {E : kw_E} (B : kw_ok E cL_law R_law "law" 8 (some .boolean) 8192 100000 []) {k18 : Option Nat → Option Nat → Option Nat → Int32 → km_M Int32} (h18 : ∀ (y0 : Option Nat) (y1 : Option Nat) (y2 : Option Nat) (y3 : Int32), kw_W E kw_eI 18 [(0, kA y0), (1, kA y1), (2, kA y2), (3, kI y3)] [] (k18 y0 y1 y2 y3)) (x0 : Option Nat) (x1 : Option Nat) (x2 : Option Nat) (x3 : Int32) (s0 : Int32) (s1 : Int32) (s2 : Int32) (s3 : Option Nat) : kw_W E kw_eI 826 [(0, kA x0), (1, kA x1), (2, kA x2), (3, kI x3)] [kI s0, kI s1, kI s2, kA s3] (pb_L_law_826 k18 x0 x1 x2 x3 s0 s1 s2 s3) := by
  unfold pb_L_law_826
  refine kw_callV (pc := 826) B dL_law_826 (ci := 0) rfl (ct_X0_bead s3 s2 s1 s0) q1865 q1866 q1867 q73 q1868 ⟨by decide, by decide, rfl⟩ (As := [kI s2, kI s1, kI s0]) rfl (st := []) rfl (Nat.le_of_ble_eq_true rfl) (by decide) (by decide) kw_qI (fun i1 => ?_)
  refine kw_aload_n (pc := 829) B dL_law_829 rfl 2 rfl ?_
  refine kw_aload_n (pc := 830) B dL_law_830 rfl 0 rfl ?_
  refine kw_iload_n (pc := 831) B dL_law_831 rfl 3 rfl ?_
  refine kw_iconst (pc := 832) B dL_law_832 (v := (1 : Int32)) rfl ?_
  refine kw_iadd (pc := 833) B dL_law_833 ?_
  refine kw_iald (pc := 834) B dL_law_834 (fun i2 => ?_)
  refine kw_aload_n (pc := 835) B dL_law_835 rfl 0 rfl ?_
  refine kw_iload_n (pc := 836) B dL_law_836 rfl 3 rfl ?_
  refine kw_iconst (pc := 837) B dL_law_837 (v := (2 : Int32)) rfl ?_
  refine kw_iadd (pc := 838) B dL_law_838 ?_
  refine kw_iald (pc := 839) B dL_law_839 (fun i3 => ?_)
  refine kw_aload_n (pc := 840) B dL_law_840 rfl 0 rfl ?_
  refine kw_iload_n (pc := 841) B dL_law_841 rfl 3 rfl ?_
  refine kw_iconst (pc := 842) B dL_law_842 (v := (3 : Int32)) rfl ?_
  refine kw_iadd (pc := 843) B dL_law_843 ?_
  refine kw_iald (pc := 844) B dL_law_844 (fun i4 => ?_)
  refine kw_if_eq (pc := 845) (tgt := 852) B dL_law_845 rfl ?_ ?_
  · refine kw_iconst (pc := 852) B dL_law_852 (v := (0 : Int32)) rfl ?_
    exact kw_pick [0, 1, 2, 3] rfl (wb_L_law_853 B h18 x0 x1 x2 x3 (0 : Int32) i3 i2 x2 i1)
  · refine kw_iconst (pc := 848) B dL_law_848 (v := (1 : Int32)) rfl ?_
    refine kw_goto (pc := 849) (tgt := 853) B dL_law_849 rfl ?_
    exact kw_pick [0, 1, 2, 3] rfl (wb_L_law_853 B h18 x0 x1 x2 x3 (1 : Int32) i3 i2 x2 i1)
theorem wb_L_law_935 {E : kw_E} (B : kw_ok E cL_law R_law "law" 8 (some .boolean) 8192 100000 []) {k18 : Option Nat → Option Nat → Option Nat → Int32 → km_M Int32} (h18 : ∀ (y0 : Option Nat) (y1 : Option Nat) (y2 : Option Nat) (y3 : Int32), kw_W E kw_eI 18 [(0, kA y0), (1, kA y1), (2, kA y2), (3, kI y3)] [] (k18 y0 y1 y2 y3)) (x0 : Option Nat) (x1 : Option Nat) (x2 : Option Nat) (x3 : Int32) (s0 : Int32) (s1 : Option Nat) (s2 : Int32) : kw_W E kw_eI 935 [(0, kA x0), (1, kA x1), (2, kA x2), (3, kI x3)] [kI s0, kA s1, kI s2] (pb_L_law_935 k18 x0 x1 x2 x3 s0 s1 s2) := by
  unfold pb_L_law_935
  refine kw_aload_n (pc := 935) B dL_law_935 rfl 0 rfl ?_
  refine kw_iload_n (pc := 936) B dL_law_936 rfl 3 rfl ?_
  refine kw_iconst (pc := 937) B dL_law_937 (v := (2 : Int32)) rfl ?_
  refine kw_iadd (pc := 938) B dL_law_938 ?_
  refine kw_iald (pc := 939) B dL_law_939 (fun i1 => ?_)
  refine kw_aload_n (pc := 940) B dL_law_940 rfl 0 rfl ?_
  refine kw_iload_n (pc := 941) B dL_law_941 rfl 3 rfl ?_
  refine kw_iconst (pc := 942) B dL_law_942 (v := (3 : Int32)) rfl ?_
  refine kw_iadd (pc := 943) B dL_law_943 ?_
  refine kw_iald (pc := 944) B dL_law_944 (fun i2 => ?_)
  refine kw_callV (pc := 945) B dL_law_945 (ci := 3) rfl (ct_X3_soldOf s1 s0 i1 i2) q2667 q2668 q2669 q81 q2670 ⟨by decide, by decide, rfl⟩ (As := [kI s0, kI i1, kI i2]) rfl (st := [kI s2]) rfl (Nat.le_of_ble_eq_true rfl) (by decide) (by decide) kw_qI (fun i3 => ?_)
  refine kw_icmp_eq (pc := 948) (tgt := 1304) B dL_law_948 rfl ?_ ?_
  · exact kw_pick [0, 1, 2, 3] rfl (wb_L_law_1304 B h18 x0 x1 x2 x3)
  · refine kw_iconst (pc := 951) B dL_law_951 (v := (0 : Int32)) rfl ?_
    exact kw_zret B dL_law_952 (g := fun v => v) (fun _ => rfl)
theorem wb_L_law_908 {E : kw_E} (B : kw_ok E cL_law R_law "law" 8 (some .boolean) 8192 100000 []) {k18 : Option Nat → Option Nat → Option Nat → Int32 → km_M Int32} (h18 : ∀ (y0 : Option Nat) (y1 : Option Nat) (y2 : Option Nat) (y3 : Int32), kw_W E kw_eI 18 [(0, kA y0), (1, kA y1), (2, kA y2), (3, kI y3)] [] (k18 y0 y1 y2 y3)) (x0 : Option Nat) (x1 : Option Nat) (x2 : Option Nat) (x3 : Int32) (s0 : Int32) (s1 : Option Nat) : kw_W E kw_eI 908 [(0, kA x0), (1, kA x1), (2, kA x2), (3, kI x3)] [kI s0, kA s1] (pb_L_law_908 k18 x0 x1 x2 x3 s0 s1) := by
  unfold pb_L_law_908
  refine kw_aload_n (pc := 908) B dL_law_908 rfl 0 rfl ?_
  refine kw_iload_n (pc := 909) B dL_law_909 rfl 3 rfl ?_
  refine kw_iconst (pc := 910) B dL_law_910 (v := (2 : Int32)) rfl ?_
  refine kw_iadd (pc := 911) B dL_law_911 ?_
  refine kw_iald (pc := 912) B dL_law_912 (fun i1 => ?_)
  refine kw_aload_n (pc := 913) B dL_law_913 rfl 0 rfl ?_
  refine kw_iload_n (pc := 914) B dL_law_914 rfl 3 rfl ?_
  refine kw_iconst (pc := 915) B dL_law_915 (v := (3 : Int32)) rfl ?_
  refine kw_iadd (pc := 916) B dL_law_916 ?_
  refine kw_iald (pc := 917) B dL_law_917 (fun i2 => ?_)
  refine kw_callV (pc := 918) B dL_law_918 (ci := 0) rfl (ct_X0_soldOf s1 s0 i1 i2) q1879 q1880 q1881 q73 q1882 ⟨by decide, by decide, rfl⟩ (As := [kI s0, kI i1, kI i2]) rfl (st := []) rfl (Nat.le_of_ble_eq_true rfl) (by decide) (by decide) kw_qI (fun i3 => ?_)
  refine kw_aload_n (pc := 921) B dL_law_921 rfl 2 rfl ?_
  refine kw_aload_n (pc := 922) B dL_law_922 rfl 0 rfl ?_
  refine kw_iload_n (pc := 923) B dL_law_923 rfl 3 rfl ?_
  refine kw_iconst (pc := 924) B dL_law_924 (v := (1 : Int32)) rfl ?_
  refine kw_iadd (pc := 925) B dL_law_925 ?_
  refine kw_iald (pc := 926) B dL_law_926 (fun i4 => ?_)
  refine kw_if_eq (pc := 927) (tgt := 934) B dL_law_927 rfl ?_ ?_
  · refine kw_iconst (pc := 934) B dL_law_934 (v := (0 : Int32)) rfl ?_
    exact kw_pick [0, 1, 2, 3] rfl (wb_L_law_935 B h18 x0 x1 x2 x3 (0 : Int32) x2 i3)
  · refine kw_iconst (pc := 930) B dL_law_930 (v := (1 : Int32)) rfl ?_
    refine kw_goto (pc := 931) (tgt := 935) B dL_law_931 rfl ?_
    exact kw_pick [0, 1, 2, 3] rfl (wb_L_law_935 B h18 x0 x1 x2 x3 (1 : Int32) x2 i3)
theorem wb_L_law_1257 {E : kw_E} (B : kw_ok E cL_law R_law "law" 8 (some .boolean) 8192 100000 []) {k18 : Option Nat → Option Nat → Option Nat → Int32 → km_M Int32} (h18 : ∀ (y0 : Option Nat) (y1 : Option Nat) (y2 : Option Nat) (y3 : Int32), kw_W E kw_eI 18 [(0, kA y0), (1, kA y1), (2, kA y2), (3, kI y3)] [] (k18 y0 y1 y2 y3)) (x0 : Option Nat) (x1 : Option Nat) (x2 : Option Nat) (x3 : Int32) (s0 : Int32) (s1 : Int32) (s2 : Option Nat) (s3 : Int32) : kw_W E kw_eI 1257 [(0, kA x0), (1, kA x1), (2, kA x2), (3, kI x3)] [kI s0, kI s1, kA s2, kI s3] (pb_L_law_1257 k18 x0 x1 x2 x3 s0 s1 s2 s3) := by
  unfold pb_L_law_1257
  refine kw_callV (pc := 1257) B dL_law_1257 (ci := 3) rfl (ct_X3_reason s2 s1 s0) q2767 q2768 q2769 q81 q2770 ⟨by decide, by decide, rfl⟩ (As := [kI s1, kI s0]) rfl (st := [kI s3]) rfl (Nat.le_of_ble_eq_true rfl) (by decide) (by decide) kw_qI (fun i1 => ?_)
  refine kw_icmp_eq (pc := 1260) (tgt := 1304) B dL_law_1260 rfl ?_ ?_
  · exact kw_pick [0, 1, 2, 3] rfl (wb_L_law_1304 B h18 x0 x1 x2 x3)
  · refine kw_iconst (pc := 1263) B dL_law_1263 (v := (0 : Int32)) rfl ?_
    exact kw_zret B dL_law_1264 (g := fun v => v) (fun _ => rfl)
theorem wb_L_law_1235 {E : kw_E} (B : kw_ok E cL_law R_law "law" 8 (some .boolean) 8192 100000 []) {k18 : Option Nat → Option Nat → Option Nat → Int32 → km_M Int32} (h18 : ∀ (y0 : Option Nat) (y1 : Option Nat) (y2 : Option Nat) (y3 : Int32), kw_W E kw_eI 18 [(0, kA y0), (1, kA y1), (2, kA y2), (3, kI y3)] [] (k18 y0 y1 y2 y3)) (x0 : Option Nat) (x1 : Option Nat) (x2 : Option Nat) (x3 : Int32) (s0 : Int32) (s1 : Int32) (s2 : Option Nat) : kw_W E kw_eI 1235 [(0, kA x0), (1, kA x1), (2, kA x2), (3, kI x3)] [kI s0, kI s1, kA s2] (pb_L_law_1235 k18 x0 x1 x2 x3 s0 s1 s2) := by
  unfold pb_L_law_1235
  refine kw_callV (pc := 1235) B dL_law_1235 (ci := 0) rfl (ct_X0_reason s2 s1 s0) q2293 q2294 q2295 q73 q2296 ⟨by decide, by decide, rfl⟩ (As := [kI s1, kI s0]) rfl (st := []) rfl (Nat.le_of_ble_eq_true rfl) (by decide) (by decide) kw_qI (fun i1 => ?_)
  refine kw_aload_n (pc := 1238) B dL_law_1238 rfl 2 rfl ?_
  refine kw_aload_n (pc := 1239) B dL_law_1239 rfl 0 rfl ?_
  refine kw_iload_n (pc := 1240) B dL_law_1240 rfl 3 rfl ?_
  refine kw_iconst (pc := 1241) B dL_law_1241 (v := (1 : Int32)) rfl ?_
  refine kw_iadd (pc := 1242) B dL_law_1242 ?_
  refine kw_iald (pc := 1243) B dL_law_1243 (fun i2 => ?_)
  refine kw_aload_n (pc := 1244) B dL_law_1244 rfl 0 rfl ?_
  refine kw_iload_n (pc := 1245) B dL_law_1245 rfl 3 rfl ?_
  refine kw_iconst (pc := 1246) B dL_law_1246 (v := (2 : Int32)) rfl ?_
  refine kw_iadd (pc := 1247) B dL_law_1247 ?_
  refine kw_iald (pc := 1248) B dL_law_1248 (fun i3 => ?_)
  refine kw_if_eq (pc := 1249) (tgt := 1256) B dL_law_1249 rfl ?_ ?_
  · refine kw_iconst (pc := 1256) B dL_law_1256 (v := (0 : Int32)) rfl ?_
    exact kw_pick [0, 1, 2, 3] rfl (wb_L_law_1257 B h18 x0 x1 x2 x3 (0 : Int32) i2 x2 i1)
  · refine kw_iconst (pc := 1252) B dL_law_1252 (v := (1 : Int32)) rfl ?_
    refine kw_goto (pc := 1253) (tgt := 1257) B dL_law_1253 rfl ?_
    exact kw_pick [0, 1, 2, 3] rfl (wb_L_law_1257 B h18 x0 x1 x2 x3 (1 : Int32) i2 x2 i1)
theorem wb_L_law_18 {E : kw_E} (B : kw_ok E cL_law R_law "law" 8 (some .boolean) 8192 100000 [])  : ∀ (n : Nat) (x0 : Option Nat) (x1 : Option Nat) (x2 : Option Nat) (x3 : Int32), kw_W E kw_eI 18 [(0, kA x0), (1, kA x1), (2, kA x2), (3, kI x3)] [] (pb_L_law_18  n x0 x1 x2 x3) := by
  intro n
  induction n with
  | zero =>
    intro x0 x1 x2 x3
    exact kw_fail_ok
  | succ n ih =>
    intro x0 x1 x2 x3
    show kw_W E kw_eI 18 [(0, kA x0), (1, kA x1), (2, kA x2), (3, kI x3)] [] (
km_bind (km_len x0) fun i1 =>
if (i1 - (5 : Int32)) < x3 then
(km_bind (km_ret .boolean (1 : Int32)) (fun v => km_pure v))
else
(km_bind (km_ldI 0 x0 x3) fun i2 =>
km_tsw (i2 &&& (63 : Int32)) 0 35 [(km_bind (km_ldI 0 x0 (x3 + (1 : Int32))) fun i3 =>
km_bind (km_is 0 x1) fun _ => km_bind (pm_X0_stones x1 i3) fun i4 =>
km_bind (km_ldI 0 x0 (x3 + (1 : Int32))) fun i5 =>
km_bind (km_is 3 x2) fun _ => km_bind (pm_X3_stones x2 i5) fun i6 =>
if i4 = i6 then
(pb_L_law_1304 (pb_L_law_18 n) x0 x1 x2 x3)
else
(km_bind (km_ret .boolean (0 : Int32)) (fun v => km_pure v))),
(km_bind (km_ldI 0 x0 (x3 + (1 : Int32))) fun i7 =>
km_bind (km_is 0 x1) fun _ => km_bind (pm_X0_carver x1 i7) fun i8 =>
km_bind (km_ldI 0 x0 (x3 + (1 : Int32))) fun i9 =>
km_bind (km_is 3 x2) fun _ => km_bind (pm_X3_carver x2 i9) fun i10 =>
if i8 = i10 then
(pb_L_law_1304 (pb_L_law_18 n) x0 x1 x2 x3)
else
(km_bind (km_ret .boolean (0 : Int32)) (fun v => km_pure v))),
(km_bind (km_ldI 0 x0 (x3 + (1 : Int32))) fun i11 =>
km_bind (km_is 0 x1) fun _ => km_bind (pm_X0_lens x1 i11) fun i12 =>
km_bind (km_ldI 0 x0 (x3 + (1 : Int32))) fun i13 =>
km_bind (km_is 3 x2) fun _ => km_bind (pm_X3_lens x2 i13) fun i14 =>
if i12 = i14 then
(pb_L_law_1304 (pb_L_law_18 n) x0 x1 x2 x3)
else
(km_bind (km_ret .boolean (0 : Int32)) (fun v => km_pure v))),
(km_bind (km_ldI 0 x0 (x3 + (1 : Int32))) fun i15 =>
km_bind (km_ldI 0 x0 (x3 + (2 : Int32))) fun i16 =>
km_bind (km_is 0 x1) fun _ => km_bind (pm_X0_give x1 i15 i16) fun i17 =>
km_bind (km_ldI 0 x0 (x3 + (1 : Int32))) fun i18 =>
km_bind (km_ldI 0 x0 (x3 + (2 : Int32))) fun i19 =>
km_bind (km_is 3 x2) fun _ => km_bind (pm_X3_give x2 i18 i19) fun i20 =>
if i17 = i20 then
(pb_L_law_1304 (pb_L_law_18 n) x0 x1 x2 x3)
else
(km_bind (km_ret .boolean (0 : Int32)) (fun v => km_pure v))),
(km_bind (km_ldI 0 x0 (x3 + (1 : Int32))) fun i21 =>
km_bind (km_ldI 0 x0 (x3 + (2 : Int32))) fun i22 =>
if i22 = 0 then
(pb_L_law_313 (pb_L_law_18 n) x0 x1 x2 x3 (0 : Int32) i21 x1)
else
(pb_L_law_313 (pb_L_law_18 n) x0 x1 x2 x3 (1 : Int32) i21 x1)),
(km_bind (km_ldI 0 x0 (x3 + (1 : Int32))) fun i23 =>
km_bind (km_ldI 0 x0 (x3 + (2 : Int32))) fun i24 =>
km_bind (km_is 0 x1) fun _ => km_bind (pm_X0_begin x1 i23 i24) fun i25 =>
km_bind (km_ldI 0 x0 (x3 + (1 : Int32))) fun i26 =>
km_bind (km_ldI 0 x0 (x3 + (2 : Int32))) fun i27 =>
km_bind (km_is 3 x2) fun _ => km_bind (pm_X3_begin x2 i26 i27) fun i28 =>
if i25 = i28 then
(pb_L_law_1304 (pb_L_law_18 n) x0 x1 x2 x3)
else
(km_bind (km_ret .boolean (0 : Int32)) (fun v => km_pure v))),
(km_bind (km_ldI 0 x0 (x3 + (1 : Int32))) fun i29 =>
km_bind (km_is 0 x1) fun _ => km_bind (pm_X0_thread x1 i29) fun i30 =>
km_bind (km_ldI 0 x0 (x3 + (1 : Int32))) fun i31 =>
km_bind (km_is 3 x2) fun _ => km_bind (pm_X3_thread x2 i31) fun i32 =>
if i30 = i32 then
(pb_L_law_1304 (pb_L_law_18 n) x0 x1 x2 x3)
else
(km_bind (km_ret .boolean (0 : Int32)) (fun v => km_pure v))),
(km_bind (km_ldI 0 x0 (x3 + (1 : Int32))) fun i33 =>
km_bind (km_is 0 x1) fun _ => km_bind (pm_X0_knot x1 i33) fun i34 =>
km_bind (km_ldI 0 x0 (x3 + (1 : Int32))) fun i35 =>
km_bind (km_is 3 x2) fun _ => km_bind (pm_X3_knot x2 i35) fun i36 =>
if i34 = i36 then
(pb_L_law_1304 (pb_L_law_18 n) x0 x1 x2 x3)
else
(km_bind (km_ret .boolean (0 : Int32)) (fun v => km_pure v))),
(km_bind (km_ldI 0 x0 (x3 + (1 : Int32))) fun i37 =>
km_bind (km_is 0 x1) fun _ => km_bind (pm_X0_drop x1 i37) fun i38 =>
km_bind (km_ldI 0 x0 (x3 + (1 : Int32))) fun i39 =>
km_bind (km_is 3 x2) fun _ => km_bind (pm_X3_drop x2 i39) fun i40 =>
if i38 = i40 then
(pb_L_law_1304 (pb_L_law_18 n) x0 x1 x2 x3)
else
(km_bind (km_ret .boolean (0 : Int32)) (fun v => km_pure v))),
(km_bind (km_ldI 0 x0 (x3 + (1 : Int32))) fun i41 =>
km_bind (km_ldI 0 x0 (x3 + (2 : Int32))) fun i42 =>
km_bind (km_ldI 0 x0 (x3 + (3 : Int32))) fun i43 =>
km_bind (km_ldI 0 x0 (x3 + (4 : Int32))) fun i44 =>
km_bind (km_is 0 x1) fun _ => km_bind (pm_X0_pilgrim x1 i41 i42 i43 i44) fun i45 =>
km_bind (km_ldI 0 x0 (x3 + (1 : Int32))) fun i46 =>
km_bind (km_ldI 0 x0 (x3 + (2 : Int32))) fun i47 =>
km_bind (km_ldI 0 x0 (x3 + (3 : Int32))) fun i48 =>
km_bind (km_ldI 0 x0 (x3 + (4 : Int32))) fun i49 =>
km_bind (km_is 3 x2) fun _ => km_bind (pm_X3_pilgrim x2 i46 i47 i48 i49) fun i50 =>
if i45 = i50 then
(pb_L_law_1304 (pb_L_law_18 n) x0 x1 x2 x3)
else
(km_bind (km_ret .boolean (0 : Int32)) (fun v => km_pure v))),
(km_bind (km_is 0 x1) fun _ => km_bind (pm_X0_mend x1) fun i51 =>
km_bind (km_is 3 x2) fun _ => km_bind (pm_X3_mend x2) fun i52 =>
if i51 = i52 then
(pb_L_law_1304 (pb_L_law_18 n) x0 x1 x2 x3)
else
(km_bind (km_ret .boolean (0 : Int32)) (fun v => km_pure v))),
(km_bind (km_ldI 0 x0 (x3 + (1 : Int32))) fun i53 =>
km_bind (km_is 0 x1) fun _ => km_bind (pm_X0_pass x1 i53) fun i54 =>
km_bind (km_ldI 0 x0 (x3 + (1 : Int32))) fun i55 =>
km_bind (km_is 3 x2) fun _ => km_bind (pm_X3_pass x2 i55) fun i56 =>
if i54 = i56 then
(pb_L_law_1304 (pb_L_law_18 n) x0 x1 x2 x3)
else
(km_bind (km_ret .boolean (0 : Int32)) (fun v => km_pure v))),
(km_bind (km_ldI 0 x0 (x3 + (1 : Int32))) fun i57 =>
km_bind (km_ldI 0 x0 (x3 + (2 : Int32))) fun i58 =>
km_bind (km_is 0 x1) fun _ => km_bind (pm_X0_carverOf x1 i57 i58) fun i59 =>
km_bind (km_ldI 0 x0 (x3 + (1 : Int32))) fun i60 =>
km_bind (km_ldI 0 x0 (x3 + (2 : Int32))) fun i61 =>
km_bind (km_is 3 x2) fun _ => km_bind (pm_X3_carverOf x2 i60 i61) fun i62 =>
if i59 = i62 then
(pb_L_law_1304 (pb_L_law_18 n) x0 x1 x2 x3)
else
(km_bind (km_ret .boolean (0 : Int32)) (fun v => km_pure v))),
(km_bind (km_ldI 0 x0 (x3 + (1 : Int32))) fun i63 =>
km_bind (km_ldI 0 x0 (x3 + (2 : Int32))) fun i64 =>
if i64 = 0 then
(pb_L_law_596 (pb_L_law_18 n) x0 x1 x2 x3 (0 : Int32) i63 x1)
else
(pb_L_law_596 (pb_L_law_18 n) x0 x1 x2 x3 (1 : Int32) i63 x1)),
(km_bind (km_ldI 0 x0 (x3 + (1 : Int32))) fun i65 =>
if i65 = 0 then
(pb_L_law_640 (pb_L_law_18 n) x0 x1 x2 x3 (0 : Int32) x1)
else
(pb_L_law_640 (pb_L_law_18 n) x0 x1 x2 x3 (1 : Int32) x1)),
(km_bind (km_ldI 0 x0 (x3 + (1 : Int32))) fun i66 =>
if i66 = 0 then
(pb_L_law_705 (pb_L_law_18 n) x0 x1 x2 x3 (0 : Int32) x1)
else
(pb_L_law_705 (pb_L_law_18 n) x0 x1 x2 x3 (1 : Int32) x1)),
(km_bind (km_ldI 0 x0 (x3 + (1 : Int32))) fun i67 =>
if i67 = 0 then
(pb_L_law_744 (pb_L_law_18 n) x0 x1 x2 x3 (0 : Int32) x1)
else
(pb_L_law_744 (pb_L_law_18 n) x0 x1 x2 x3 (1 : Int32) x1)),
(km_bind (km_ldI 0 x0 (x3 + (1 : Int32))) fun i68 =>
km_bind (km_ldI 0 x0 (x3 + (2 : Int32))) fun i69 =>
km_bind (km_is 0 x1) fun _ => km_bind (pm_X0_stringOf x1 i68 i69) fun i70 =>
km_bind (km_ldI 0 x0 (x3 + (1 : Int32))) fun i71 =>
km_bind (km_ldI 0 x0 (x3 + (2 : Int32))) fun i72 =>
km_bind (km_is 3 x2) fun _ => km_bind (pm_X3_stringOf x2 i71 i72) fun i73 =>
if i70 = i73 then
(pb_L_law_1304 (pb_L_law_18 n) x0 x1 x2 x3)
else
(km_bind (km_ret .boolean (0 : Int32)) (fun v => km_pure v))),
(km_bind (km_ldI 0 x0 (x3 + (1 : Int32))) fun i74 =>
km_bind (km_ldI 0 x0 (x3 + (2 : Int32))) fun i75 =>
km_bind (km_ldI 0 x0 (x3 + (3 : Int32))) fun i76 =>
if i76 = 0 then
(pb_L_law_826 (pb_L_law_18 n) x0 x1 x2 x3 (0 : Int32) i75 i74 x1)
else
(pb_L_law_826 (pb_L_law_18 n) x0 x1 x2 x3 (1 : Int32) i75 i74 x1)),
(km_bind (km_ldI 0 x0 (x3 + (1 : Int32))) fun i77 =>
km_bind (km_ldI 0 x0 (x3 + (2 : Int32))) fun i78 =>
km_bind (km_is 0 x1) fun _ => km_bind (pm_X0_pilgrimOf x1 i77 i78) fun i79 =>
km_bind (km_ldI 0 x0 (x3 + (1 : Int32))) fun i80 =>
km_bind (km_ldI 0 x0 (x3 + (2 : Int32))) fun i81 =>
km_bind (km_is 3 x2) fun _ => km_bind (pm_X3_pilgrimOf x2 i80 i81) fun i82 =>
if i79 = i82 then
(pb_L_law_1304 (pb_L_law_18 n) x0 x1 x2 x3)
else
(km_bind (km_ret .boolean (0 : Int32)) (fun v => km_pure v))),
(km_bind (km_ldI 0 x0 (x3 + (1 : Int32))) fun i83 =>
if i83 = 0 then
(pb_L_law_908 (pb_L_law_18 n) x0 x1 x2 x3 (0 : Int32) x1)
else
(pb_L_law_908 (pb_L_law_18 n) x0 x1 x2 x3 (1 : Int32) x1)),
(km_bind (km_ldI 0 x0 (x3 + (1 : Int32))) fun i84 =>
km_bind (km_ldI 0 x0 (x3 + (2 : Int32))) fun i85 =>
km_bind (km_is 0 x1) fun _ => km_bind (pm_X0_could x1 i84 i85) fun i86 =>
km_bind (km_ldI 0 x0 (x3 + (1 : Int32))) fun i87 =>
km_bind (km_ldI 0 x0 (x3 + (2 : Int32))) fun i88 =>
km_bind (km_is 3 x2) fun _ => km_bind (pm_X3_could x2 i87 i88) fun i89 =>
if i86 = i89 then
(pb_L_law_1304 (pb_L_law_18 n) x0 x1 x2 x3)
else
(km_bind (km_ret .boolean (0 : Int32)) (fun v => km_pure v))),
(km_bind (km_is 0 x1) fun _ => km_bind (pm_X0_nextBack x1) fun i90 =>
km_bind (km_is 3 x2) fun _ => km_bind (pm_X3_nextBack x2) fun i91 =>
if i90 = i91 then
(pb_L_law_1304 (pb_L_law_18 n) x0 x1 x2 x3)
else
(km_bind (km_ret .boolean (0 : Int32)) (fun v => km_pure v))),
(km_bind (km_is 0 x1) fun _ => km_bind (pm_X0_isCounted x1) fun i92 =>
km_bind (km_is 3 x2) fun _ => km_bind (pm_X3_isCounted x2) fun i93 =>
if i92 = i93 then
(pb_L_law_1304 (pb_L_law_18 n) x0 x1 x2 x3)
else
(km_bind (km_ret .boolean (0 : Int32)) (fun v => km_pure v))),
(km_bind (km_is 0 x1) fun _ => km_bind (pm_X0_meanFineness x1) fun d94 =>
km_bind (km_is 3 x2) fun _ => km_bind (pm_X3_meanFineness x2) fun d95 =>
if (Op.cmpValue (FP.dcmp d94 d95) .l) = 0 then
(pb_L_law_1304 (pb_L_law_18 n) x0 x1 x2 x3)
else
(if (Op.cmpValue (FP.dcmp d94 d94) .l) = 0 then
(km_bind (km_ret .boolean (0 : Int32)) (fun v => km_pure v))
else
(if ¬ (Op.cmpValue (FP.dcmp d95 d95) .l) = 0 then
(pb_L_law_1304 (pb_L_law_18 n) x0 x1 x2 x3)
else
(km_bind (km_ret .boolean (0 : Int32)) (fun v => km_pure v))))),
(km_bind (km_is 0 x1) fun _ => km_bind (pm_X0_spoilt x1) fun f96 =>
km_bind (km_f2d f96) fun d97 =>
km_bind (km_is 3 x2) fun _ => km_bind (pm_X3_spoilt x2) fun f98 =>
km_bind (km_f2d f98) fun d99 =>
if (Op.cmpValue (FP.dcmp d97 d99) .l) = 0 then
(pb_L_law_1304 (pb_L_law_18 n) x0 x1 x2 x3)
else
(if (Op.cmpValue (FP.dcmp d97 d97) .l) = 0 then
(km_bind (km_ret .boolean (0 : Int32)) (fun v => km_pure v))
else
(if ¬ (Op.cmpValue (FP.dcmp d99 d99) .l) = 0 then
(pb_L_law_1304 (pb_L_law_18 n) x0 x1 x2 x3)
else
(km_bind (km_ret .boolean (0 : Int32)) (fun v => km_pure v))))),
(km_bind (km_ldI 0 x0 (x3 + (1 : Int32))) fun i100 =>
km_bind (km_is 0 x1) fun _ => km_bind (pm_X0_account x1 i100) fun i101 =>
km_bind (km_ldI 0 x0 (x3 + (1 : Int32))) fun i102 =>
km_bind (km_is 3 x2) fun _ => km_bind (pm_X3_account x2 i102) fun i103 =>
if i101 = i103 then
(pb_L_law_1304 (pb_L_law_18 n) x0 x1 x2 x3)
else
(km_bind (km_ret .boolean (0 : Int32)) (fun v => km_pure v))),
(km_bind (km_ldI 0 x0 (x3 + (1 : Int32))) fun i104 =>
km_bind (km_is 0 x1) fun _ => km_bind (pm_X0_write x1 i104) fun i105 =>
km_bind (km_ldI 0 x0 (x3 + (1 : Int32))) fun i106 =>
km_bind (km_is 3 x2) fun _ => km_bind (pm_X3_write x2 i106) fun i107 =>
if i105 = i107 then
(pb_L_law_1304 (pb_L_law_18 n) x0 x1 x2 x3)
else
(km_bind (km_ret .boolean (0 : Int32)) (fun v => km_pure v))),
(km_bind (km_ldI 0 x0 (x3 + (1 : Int32))) fun i108 =>
km_bind (km_is 0 x1) fun _ => km_bind (pm_X0_written x1 i108) fun i109 =>
km_bind (km_ldI 0 x0 (x3 + (1 : Int32))) fun i110 =>
km_bind (km_is 3 x2) fun _ => km_bind (pm_X3_written x2 i110) fun i111 =>
if i109 = i111 then
(pb_L_law_1304 (pb_L_law_18 n) x0 x1 x2 x3)
else
(km_bind (km_ret .boolean (0 : Int32)) (fun v => km_pure v))),
(km_bind (km_ldI 0 x0 (x3 + (1 : Int32))) fun i112 =>
km_bind (km_is 0 x1) fun _ => km_bind (pm_X0_append x1 ((i112.toUInt32 % 65536).toInt32)) fun i113 =>
km_bind (km_ldI 0 x0 (x3 + (1 : Int32))) fun i114 =>
km_bind (km_is 3 x2) fun _ => km_bind (pm_X3_append x2 ((i114.toUInt32 % 65536).toInt32)) fun i115 =>
if i113 = i115 then
(pb_L_law_1304 (pb_L_law_18 n) x0 x1 x2 x3)
else
(km_bind (km_ret .boolean (0 : Int32)) (fun v => km_pure v))),
(km_bind (km_is 0 x1) fun _ => km_bind (pm_X0_read x1) fun i116 =>
km_bind (km_is 3 x2) fun _ => km_bind (pm_X3_read x2) fun i117 =>
if i116 = i117 then
(pb_L_law_1304 (pb_L_law_18 n) x0 x1 x2 x3)
else
(km_bind (km_ret .boolean (0 : Int32)) (fun v => km_pure v))),
(km_bind (km_is 0 x1) fun _ => km_bind (pm_X0_fault x1) fun i118 =>
km_bind (km_is 3 x2) fun _ => km_bind (pm_X3_fault x2) fun i119 =>
if i118 = i119 then
(pb_L_law_1304 (pb_L_law_18 n) x0 x1 x2 x3)
else
(km_bind (km_ret .boolean (0 : Int32)) (fun v => km_pure v))),
(km_bind (km_ldI 0 x0 (x3 + (1 : Int32))) fun i120 =>
km_bind (km_ldI 0 x0 (x3 + (2 : Int32))) fun i121 =>
if i121 = 0 then
(pb_L_law_1235 (pb_L_law_18 n) x0 x1 x2 x3 (0 : Int32) i120 x1)
else
(pb_L_law_1235 (pb_L_law_18 n) x0 x1 x2 x3 (1 : Int32) i120 x1)),
(km_bind (km_is 0 x1) fun _ => km_bind (pm_X0_undo x1) fun i122 =>
km_bind (km_is 3 x2) fun _ => km_bind (pm_X3_undo x2) fun i123 =>
if i122 = i123 then
(pb_L_law_1304 (pb_L_law_18 n) x0 x1 x2 x3)
else
(km_bind (km_ret .boolean (0 : Int32)) (fun v => km_pure v))),
(km_bind (km_is 0 x1) fun _ => km_bind (pm_X0_save x1) fun i124 =>
km_bind (km_is 3 x2) fun _ => km_bind (pm_X3_save x2) fun i125 =>
if i124 = i125 then
(pb_L_law_1304 (pb_L_law_18 n) x0 x1 x2 x3)
else
(km_bind (km_ret .boolean (0 : Int32)) (fun v => km_pure v))),
(km_bind (km_is 0 x1) fun _ => km_bind (pm_X0_restore x1) fun i126 =>
km_bind (km_is 3 x2) fun _ => km_bind (pm_X3_restore x2) fun i127 =>
if i126 = i127 then
(pb_L_law_1304 (pb_L_law_18 n) x0 x1 x2 x3)
else
(km_bind (km_ret .boolean (0 : Int32)) (fun v => km_pure v)))] (pb_L_law_1304 (pb_L_law_18 n) x0 x1 x2 x3)))
    refine kw_iload_n (pc := 18) B dL_law_18 rfl 3 rfl ?_
    refine kw_aload_n (pc := 19) B dL_law_19 rfl 0 rfl ?_
    refine kw_alen (pc := 20) B dL_law_20 (fun i1 => ?_)
    refine kw_iconst (pc := 21) B dL_law_21 (v := (5 : Int32)) rfl ?_
    refine kw_isub (pc := 22) B dL_law_22 ?_
    refine kw_icmp_gt (pc := 23) (tgt := 1310) B dL_law_23 rfl ?_ ?_
    · refine kw_iconst (pc := 1310) B dL_law_1310 (v := (1 : Int32)) rfl ?_
      exact kw_zret B dL_law_1311 (g := fun v => v) (fun _ => rfl)
    · refine kw_aload_n (pc := 26) B dL_law_26 rfl 0 rfl ?_
      refine kw_iload_n (pc := 27) B dL_law_27 rfl 3 rfl ?_
      refine kw_iald (pc := 28) B dL_law_28 (fun i2 => ?_)
      refine kw_bipush (pc := 29) B dL_law_29 (v := (63 : Int32)) rfl ?_
      refine kw_iand (pc := 31) B dL_law_31 ?_
      refine kw_tsw (pc := 32) (tgt := 1304) B dL_law_32 rfl rfl ⟨⟨192, rfl, ?_⟩, ⟨215, rfl, ?_⟩, ⟨238, rfl, ?_⟩, ⟨261, rfl, ?_⟩, ⟨294, rfl, ?_⟩, ⟨353, rfl, ?_⟩, ⟨386, rfl, ?_⟩, ⟨409, rfl, ?_⟩, ⟨432, rfl, ?_⟩, ⟨455, rfl, ?_⟩, ⟨508, rfl, ?_⟩, ⟨521, rfl, ?_⟩, ⟨544, rfl, ?_⟩, ⟨577, rfl, ?_⟩, ⟨626, rfl, ?_⟩, ⟨691, rfl, ?_⟩, ⟨730, rfl, ?_⟩, ⟨769, rfl, ?_⟩, ⟨802, rfl, ?_⟩, ⟨861, rfl, ?_⟩, ⟨894, rfl, ?_⟩, ⟨953, rfl, ?_⟩, ⟨986, rfl, ?_⟩, ⟨999, rfl, ?_⟩, ⟨1012, rfl, ?_⟩, ⟨1053, rfl, ?_⟩, ⟨1096, rfl, ?_⟩, ⟨1119, rfl, ?_⟩, ⟨1142, rfl, ?_⟩, ⟨1165, rfl, ?_⟩, ⟨1190, rfl, ?_⟩, ⟨1203, rfl, ?_⟩, ⟨1216, rfl, ?_⟩, ⟨1265, rfl, ?_⟩, ⟨1278, rfl, ?_⟩, ⟨1291, rfl, ?_⟩, trivial⟩ ?_
      · refine kw_aload_n (pc := 192) B dL_law_192 rfl 1 rfl ?_
        refine kw_aload_n (pc := 193) B dL_law_193 rfl 0 rfl ?_
        refine kw_iload_n (pc := 194) B dL_law_194 rfl 3 rfl ?_
        refine kw_iconst (pc := 195) B dL_law_195 (v := (1 : Int32)) rfl ?_
        refine kw_iadd (pc := 196) B dL_law_196 ?_
        refine kw_iald (pc := 197) B dL_law_197 (fun i3 => ?_)
        refine kw_callV (pc := 198) B dL_law_198 (ci := 0) rfl (ct_X0_stones x1 i3) q335 q336 q337 q73 q338 ⟨by decide, by decide, rfl⟩ (As := [kI i3]) rfl (st := []) rfl (Nat.le_of_ble_eq_true rfl) (by decide) (by decide) kw_qI (fun i4 => ?_)
        refine kw_aload_n (pc := 201) B dL_law_201 rfl 2 rfl ?_
        refine kw_aload_n (pc := 202) B dL_law_202 rfl 0 rfl ?_
        refine kw_iload_n (pc := 203) B dL_law_203 rfl 3 rfl ?_
        refine kw_iconst (pc := 204) B dL_law_204 (v := (1 : Int32)) rfl ?_
        refine kw_iadd (pc := 205) B dL_law_205 ?_
        refine kw_iald (pc := 206) B dL_law_206 (fun i5 => ?_)
        refine kw_callV (pc := 207) B dL_law_207 (ci := 3) rfl (ct_X3_stones x2 i5) q2411 q2412 q2413 q81 q2414 ⟨by decide, by decide, rfl⟩ (As := [kI i5]) rfl (st := [kI i4]) rfl (Nat.le_of_ble_eq_true rfl) (by decide) (by decide) kw_qI (fun i6 => ?_)
        refine kw_icmp_eq (pc := 210) (tgt := 1304) B dL_law_210 rfl ?_ ?_
        · exact kw_pick [0, 1, 2, 3] rfl (wb_L_law_1304 B ih x0 x1 x2 x3)
        · refine kw_iconst (pc := 213) B dL_law_213 (v := (0 : Int32)) rfl ?_
          exact kw_zret B dL_law_214 (g := fun v => v) (fun _ => rfl)
      · refine kw_aload_n (pc := 215) B dL_law_215 rfl 1 rfl ?_
        refine kw_aload_n (pc := 216) B dL_law_216 rfl 0 rfl ?_
        refine kw_iload_n (pc := 217) B dL_law_217 rfl 3 rfl ?_
        refine kw_iconst (pc := 218) B dL_law_218 (v := (1 : Int32)) rfl ?_
        refine kw_iadd (pc := 219) B dL_law_219 ?_
        refine kw_iald (pc := 220) B dL_law_220 (fun i7 => ?_)
        refine kw_callV (pc := 221) B dL_law_221 (ci := 0) rfl (ct_X0_carver x1 i7) q1563 q1564 q1565 q73 q1566 ⟨by decide, by decide, rfl⟩ (As := [kI i7]) rfl (st := []) rfl (Nat.le_of_ble_eq_true rfl) (by decide) (by decide) kw_qI (fun i8 => ?_)
        refine kw_aload_n (pc := 224) B dL_law_224 rfl 2 rfl ?_
        refine kw_aload_n (pc := 225) B dL_law_225 rfl 0 rfl ?_
        refine kw_iload_n (pc := 226) B dL_law_226 rfl 3 rfl ?_
        refine kw_iconst (pc := 227) B dL_law_227 (v := (1 : Int32)) rfl ?_
        refine kw_iadd (pc := 228) B dL_law_228 ?_
        refine kw_iald (pc := 229) B dL_law_229 (fun i9 => ?_)
        refine kw_callV (pc := 230) B dL_law_230 (ci := 3) rfl (ct_X3_carver x2 i9) q2439 q2440 q2441 q81 q2442 ⟨by decide, by decide, rfl⟩ (As := [kI i9]) rfl (st := [kI i8]) rfl (Nat.le_of_ble_eq_true rfl) (by decide) (by decide) kw_qI (fun i10 => ?_)
        refine kw_icmp_eq (pc := 233) (tgt := 1304) B dL_law_233 rfl ?_ ?_
        · exact kw_pick [0, 1, 2, 3] rfl (wb_L_law_1304 B ih x0 x1 x2 x3)
        · refine kw_iconst (pc := 236) B dL_law_236 (v := (0 : Int32)) rfl ?_
          exact kw_zret B dL_law_237 (g := fun v => v) (fun _ => rfl)
      · refine kw_aload_n (pc := 238) B dL_law_238 rfl 1 rfl ?_
        refine kw_aload_n (pc := 239) B dL_law_239 rfl 0 rfl ?_
        refine kw_iload_n (pc := 240) B dL_law_240 rfl 3 rfl ?_
        refine kw_iconst (pc := 241) B dL_law_241 (v := (1 : Int32)) rfl ?_
        refine kw_iadd (pc := 242) B dL_law_242 ?_
        refine kw_iald (pc := 243) B dL_law_243 (fun i11 => ?_)
        refine kw_callV (pc := 244) B dL_law_244 (ci := 0) rfl (ct_X0_lens x1 i11) q1584 q1585 q1586 q73 q1587 ⟨by decide, by decide, rfl⟩ (As := [kI i11]) rfl (st := []) rfl (Nat.le_of_ble_eq_true rfl) (by decide) (by decide) kw_qI (fun i12 => ?_)
        refine kw_aload_n (pc := 247) B dL_law_247 rfl 2 rfl ?_
        refine kw_aload_n (pc := 248) B dL_law_248 rfl 0 rfl ?_
        refine kw_iload_n (pc := 249) B dL_law_249 rfl 3 rfl ?_
        refine kw_iconst (pc := 250) B dL_law_250 (v := (1 : Int32)) rfl ?_
        refine kw_iadd (pc := 251) B dL_law_251 ?_
        refine kw_iald (pc := 252) B dL_law_252 (fun i13 => ?_)
        refine kw_callV (pc := 253) B dL_law_253 (ci := 3) rfl (ct_X3_lens x2 i13) q2454 q2455 q2456 q81 q2457 ⟨by decide, by decide, rfl⟩ (As := [kI i13]) rfl (st := [kI i12]) rfl (Nat.le_of_ble_eq_true rfl) (by decide) (by decide) kw_qI (fun i14 => ?_)
        refine kw_icmp_eq (pc := 256) (tgt := 1304) B dL_law_256 rfl ?_ ?_
        · exact kw_pick [0, 1, 2, 3] rfl (wb_L_law_1304 B ih x0 x1 x2 x3)
        · refine kw_iconst (pc := 259) B dL_law_259 (v := (0 : Int32)) rfl ?_
          exact kw_zret B dL_law_260 (g := fun v => v) (fun _ => rfl)
      · refine kw_aload_n (pc := 261) B dL_law_261 rfl 1 rfl ?_
        refine kw_aload_n (pc := 262) B dL_law_262 rfl 0 rfl ?_
        refine kw_iload_n (pc := 263) B dL_law_263 rfl 3 rfl ?_
        refine kw_iconst (pc := 264) B dL_law_264 (v := (1 : Int32)) rfl ?_
        refine kw_iadd (pc := 265) B dL_law_265 ?_
        refine kw_iald (pc := 266) B dL_law_266 (fun i15 => ?_)
        refine kw_aload_n (pc := 267) B dL_law_267 rfl 0 rfl ?_
        refine kw_iload_n (pc := 268) B dL_law_268 rfl 3 rfl ?_
        refine kw_iconst (pc := 269) B dL_law_269 (v := (2 : Int32)) rfl ?_
        refine kw_iadd (pc := 270) B dL_law_270 ?_
        refine kw_iald (pc := 271) B dL_law_271 (fun i16 => ?_)
        refine kw_callV (pc := 272) B dL_law_272 (ci := 0) rfl (ct_X0_give x1 i15 i16) q1605 q1606 q1607 q73 q1608 ⟨by decide, by decide, rfl⟩ (As := [kI i15, kI i16]) rfl (st := []) rfl (Nat.le_of_ble_eq_true rfl) (by decide) (by decide) kw_qI (fun i17 => ?_)
        refine kw_aload_n (pc := 275) B dL_law_275 rfl 2 rfl ?_
        refine kw_aload_n (pc := 276) B dL_law_276 rfl 0 rfl ?_
        refine kw_iload_n (pc := 277) B dL_law_277 rfl 3 rfl ?_
        refine kw_iconst (pc := 278) B dL_law_278 (v := (1 : Int32)) rfl ?_
        refine kw_iadd (pc := 279) B dL_law_279 ?_
        refine kw_iald (pc := 280) B dL_law_280 (fun i18 => ?_)
        refine kw_aload_n (pc := 281) B dL_law_281 rfl 0 rfl ?_
        refine kw_iload_n (pc := 282) B dL_law_282 rfl 3 rfl ?_
        refine kw_iconst (pc := 283) B dL_law_283 (v := (2 : Int32)) rfl ?_
        refine kw_iadd (pc := 284) B dL_law_284 ?_
        refine kw_iald (pc := 285) B dL_law_285 (fun i19 => ?_)
        refine kw_callV (pc := 286) B dL_law_286 (ci := 3) rfl (ct_X3_give x2 i18 i19) q2461 q2462 q2463 q81 q2464 ⟨by decide, by decide, rfl⟩ (As := [kI i18, kI i19]) rfl (st := [kI i17]) rfl (Nat.le_of_ble_eq_true rfl) (by decide) (by decide) kw_qI (fun i20 => ?_)
        refine kw_icmp_eq (pc := 289) (tgt := 1304) B dL_law_289 rfl ?_ ?_
        · exact kw_pick [0, 1, 2, 3] rfl (wb_L_law_1304 B ih x0 x1 x2 x3)
        · refine kw_iconst (pc := 292) B dL_law_292 (v := (0 : Int32)) rfl ?_
          exact kw_zret B dL_law_293 (g := fun v => v) (fun _ => rfl)
      · refine kw_aload_n (pc := 294) B dL_law_294 rfl 1 rfl ?_
        refine kw_aload_n (pc := 295) B dL_law_295 rfl 0 rfl ?_
        refine kw_iload_n (pc := 296) B dL_law_296 rfl 3 rfl ?_
        refine kw_iconst (pc := 297) B dL_law_297 (v := (1 : Int32)) rfl ?_
        refine kw_iadd (pc := 298) B dL_law_298 ?_
        refine kw_iald (pc := 299) B dL_law_299 (fun i21 => ?_)
        refine kw_aload_n (pc := 300) B dL_law_300 rfl 0 rfl ?_
        refine kw_iload_n (pc := 301) B dL_law_301 rfl 3 rfl ?_
        refine kw_iconst (pc := 302) B dL_law_302 (v := (2 : Int32)) rfl ?_
        refine kw_iadd (pc := 303) B dL_law_303 ?_
        refine kw_iald (pc := 304) B dL_law_304 (fun i22 => ?_)
        refine kw_if_eq (pc := 305) (tgt := 312) B dL_law_305 rfl ?_ ?_
        · refine kw_iconst (pc := 312) B dL_law_312 (v := (0 : Int32)) rfl ?_
          exact kw_pick [0, 1, 2, 3] rfl (wb_L_law_313 B ih x0 x1 x2 x3 (0 : Int32) i21 x1)
        · refine kw_iconst (pc := 308) B dL_law_308 (v := (1 : Int32)) rfl ?_
          refine kw_goto (pc := 309) (tgt := 313) B dL_law_309 rfl ?_
          exact kw_pick [0, 1, 2, 3] rfl (wb_L_law_313 B ih x0 x1 x2 x3 (1 : Int32) i21 x1)
      · refine kw_aload_n (pc := 353) B dL_law_353 rfl 1 rfl ?_
        refine kw_aload_n (pc := 354) B dL_law_354 rfl 0 rfl ?_
        refine kw_iload_n (pc := 355) B dL_law_355 rfl 3 rfl ?_
        refine kw_iconst (pc := 356) B dL_law_356 (v := (1 : Int32)) rfl ?_
        refine kw_iadd (pc := 357) B dL_law_357 ?_
        refine kw_iald (pc := 358) B dL_law_358 (fun i23 => ?_)
        refine kw_aload_n (pc := 359) B dL_law_359 rfl 0 rfl ?_
        refine kw_iload_n (pc := 360) B dL_law_360 rfl 3 rfl ?_
        refine kw_iconst (pc := 361) B dL_law_361 (v := (2 : Int32)) rfl ?_
        refine kw_iadd (pc := 362) B dL_law_362 ?_
        refine kw_iald (pc := 363) B dL_law_363 (fun i24 => ?_)
        refine kw_callV (pc := 364) B dL_law_364 (ci := 0) rfl (ct_X0_begin x1 i23 i24) q1660 q1661 q1662 q73 q1663 ⟨by decide, by decide, rfl⟩ (As := [kI i23, kI i24]) rfl (st := []) rfl (Nat.le_of_ble_eq_true rfl) (by decide) (by decide) kw_qI (fun i25 => ?_)
        refine kw_aload_n (pc := 367) B dL_law_367 rfl 2 rfl ?_
        refine kw_aload_n (pc := 368) B dL_law_368 rfl 0 rfl ?_
        refine kw_iload_n (pc := 369) B dL_law_369 rfl 3 rfl ?_
        refine kw_iconst (pc := 370) B dL_law_370 (v := (1 : Int32)) rfl ?_
        refine kw_iadd (pc := 371) B dL_law_371 ?_
        refine kw_iald (pc := 372) B dL_law_372 (fun i26 => ?_)
        refine kw_aload_n (pc := 373) B dL_law_373 rfl 0 rfl ?_
        refine kw_iload_n (pc := 374) B dL_law_374 rfl 3 rfl ?_
        refine kw_iconst (pc := 375) B dL_law_375 (v := (2 : Int32)) rfl ?_
        refine kw_iadd (pc := 376) B dL_law_376 ?_
        refine kw_iald (pc := 377) B dL_law_377 (fun i27 => ?_)
        refine kw_callV (pc := 378) B dL_law_378 (ci := 3) rfl (ct_X3_begin x2 i26 i27) q2512 q2513 q2514 q81 q2515 ⟨by decide, by decide, rfl⟩ (As := [kI i26, kI i27]) rfl (st := [kI i25]) rfl (Nat.le_of_ble_eq_true rfl) (by decide) (by decide) kw_qI (fun i28 => ?_)
        refine kw_icmp_eq (pc := 381) (tgt := 1304) B dL_law_381 rfl ?_ ?_
        · exact kw_pick [0, 1, 2, 3] rfl (wb_L_law_1304 B ih x0 x1 x2 x3)
        · refine kw_iconst (pc := 384) B dL_law_384 (v := (0 : Int32)) rfl ?_
          exact kw_zret B dL_law_385 (g := fun v => v) (fun _ => rfl)
      · refine kw_aload_n (pc := 386) B dL_law_386 rfl 1 rfl ?_
        refine kw_aload_n (pc := 387) B dL_law_387 rfl 0 rfl ?_
        refine kw_iload_n (pc := 388) B dL_law_388 rfl 3 rfl ?_
        refine kw_iconst (pc := 389) B dL_law_389 (v := (1 : Int32)) rfl ?_
        refine kw_iadd (pc := 390) B dL_law_390 ?_
        refine kw_iald (pc := 391) B dL_law_391 (fun i29 => ?_)
        refine kw_callV (pc := 392) B dL_law_392 (ci := 0) rfl (ct_X0_thread x1 i29) q1684 q1685 q1686 q73 q1687 ⟨by decide, by decide, rfl⟩ (As := [kI i29]) rfl (st := []) rfl (Nat.le_of_ble_eq_true rfl) (by decide) (by decide) kw_qI (fun i30 => ?_)
        refine kw_aload_n (pc := 395) B dL_law_395 rfl 2 rfl ?_
        refine kw_aload_n (pc := 396) B dL_law_396 rfl 0 rfl ?_
        refine kw_iload_n (pc := 397) B dL_law_397 rfl 3 rfl ?_
        refine kw_iconst (pc := 398) B dL_law_398 (v := (1 : Int32)) rfl ?_
        refine kw_iadd (pc := 399) B dL_law_399 ?_
        refine kw_iald (pc := 400) B dL_law_400 (fun i31 => ?_)
        refine kw_callV (pc := 401) B dL_law_401 (ci := 3) rfl (ct_X3_thread x2 i31) q2523 q2524 q2525 q81 q2526 ⟨by decide, by decide, rfl⟩ (As := [kI i31]) rfl (st := [kI i30]) rfl (Nat.le_of_ble_eq_true rfl) (by decide) (by decide) kw_qI (fun i32 => ?_)
        refine kw_icmp_eq (pc := 404) (tgt := 1304) B dL_law_404 rfl ?_ ?_
        · exact kw_pick [0, 1, 2, 3] rfl (wb_L_law_1304 B ih x0 x1 x2 x3)
        · refine kw_iconst (pc := 407) B dL_law_407 (v := (0 : Int32)) rfl ?_
          exact kw_zret B dL_law_408 (g := fun v => v) (fun _ => rfl)
      · refine kw_aload_n (pc := 409) B dL_law_409 rfl 1 rfl ?_
        refine kw_aload_n (pc := 410) B dL_law_410 rfl 0 rfl ?_
        refine kw_iload_n (pc := 411) B dL_law_411 rfl 3 rfl ?_
        refine kw_iconst (pc := 412) B dL_law_412 (v := (1 : Int32)) rfl ?_
        refine kw_iadd (pc := 413) B dL_law_413 ?_
        refine kw_iald (pc := 414) B dL_law_414 (fun i33 => ?_)
        refine kw_callV (pc := 415) B dL_law_415 (ci := 0) rfl (ct_X0_knot x1 i33) q1705 q1706 q1707 q73 q1708 ⟨by decide, by decide, rfl⟩ (As := [kI i33]) rfl (st := []) rfl (Nat.le_of_ble_eq_true rfl) (by decide) (by decide) kw_qI (fun i34 => ?_)
        refine kw_aload_n (pc := 418) B dL_law_418 rfl 2 rfl ?_
        refine kw_aload_n (pc := 419) B dL_law_419 rfl 0 rfl ?_
        refine kw_iload_n (pc := 420) B dL_law_420 rfl 3 rfl ?_
        refine kw_iconst (pc := 421) B dL_law_421 (v := (1 : Int32)) rfl ?_
        refine kw_iadd (pc := 422) B dL_law_422 ?_
        refine kw_iald (pc := 423) B dL_law_423 (fun i35 => ?_)
        refine kw_callV (pc := 424) B dL_law_424 (ci := 3) rfl (ct_X3_knot x2 i35) q2574 q2575 q2576 q81 q2577 ⟨by decide, by decide, rfl⟩ (As := [kI i35]) rfl (st := [kI i34]) rfl (Nat.le_of_ble_eq_true rfl) (by decide) (by decide) kw_qI (fun i36 => ?_)
        refine kw_icmp_eq (pc := 427) (tgt := 1304) B dL_law_427 rfl ?_ ?_
        · exact kw_pick [0, 1, 2, 3] rfl (wb_L_law_1304 B ih x0 x1 x2 x3)
        · refine kw_iconst (pc := 430) B dL_law_430 (v := (0 : Int32)) rfl ?_
          exact kw_zret B dL_law_431 (g := fun v => v) (fun _ => rfl)
      · refine kw_aload_n (pc := 432) B dL_law_432 rfl 1 rfl ?_
        refine kw_aload_n (pc := 433) B dL_law_433 rfl 0 rfl ?_
        refine kw_iload_n (pc := 434) B dL_law_434 rfl 3 rfl ?_
        refine kw_iconst (pc := 435) B dL_law_435 (v := (1 : Int32)) rfl ?_
        refine kw_iadd (pc := 436) B dL_law_436 ?_
        refine kw_iald (pc := 437) B dL_law_437 (fun i37 => ?_)
        refine kw_callV (pc := 438) B dL_law_438 (ci := 0) rfl (ct_X0_drop x1 i37) q1726 q1727 q1728 q73 q1729 ⟨by decide, by decide, rfl⟩ (As := [kI i37]) rfl (st := []) rfl (Nat.le_of_ble_eq_true rfl) (by decide) (by decide) kw_qI (fun i38 => ?_)
        refine kw_aload_n (pc := 441) B dL_law_441 rfl 2 rfl ?_
        refine kw_aload_n (pc := 442) B dL_law_442 rfl 0 rfl ?_
        refine kw_iload_n (pc := 443) B dL_law_443 rfl 3 rfl ?_
        refine kw_iconst (pc := 444) B dL_law_444 (v := (1 : Int32)) rfl ?_
        refine kw_iadd (pc := 445) B dL_law_445 ?_
        refine kw_iald (pc := 446) B dL_law_446 (fun i39 => ?_)
        refine kw_callV (pc := 447) B dL_law_447 (ci := 3) rfl (ct_X3_drop x2 i39) q2582 q2583 q2584 q81 q2585 ⟨by decide, by decide, rfl⟩ (As := [kI i39]) rfl (st := [kI i38]) rfl (Nat.le_of_ble_eq_true rfl) (by decide) (by decide) kw_qI (fun i40 => ?_)
        refine kw_icmp_eq (pc := 450) (tgt := 1304) B dL_law_450 rfl ?_ ?_
        · exact kw_pick [0, 1, 2, 3] rfl (wb_L_law_1304 B ih x0 x1 x2 x3)
        · refine kw_iconst (pc := 453) B dL_law_453 (v := (0 : Int32)) rfl ?_
          exact kw_zret B dL_law_454 (g := fun v => v) (fun _ => rfl)
      · refine kw_aload_n (pc := 455) B dL_law_455 rfl 1 rfl ?_
        refine kw_aload_n (pc := 456) B dL_law_456 rfl 0 rfl ?_
        refine kw_iload_n (pc := 457) B dL_law_457 rfl 3 rfl ?_
        refine kw_iconst (pc := 458) B dL_law_458 (v := (1 : Int32)) rfl ?_
        refine kw_iadd (pc := 459) B dL_law_459 ?_
        refine kw_iald (pc := 460) B dL_law_460 (fun i41 => ?_)
        refine kw_aload_n (pc := 461) B dL_law_461 rfl 0 rfl ?_
        refine kw_iload_n (pc := 462) B dL_law_462 rfl 3 rfl ?_
        refine kw_iconst (pc := 463) B dL_law_463 (v := (2 : Int32)) rfl ?_
        refine kw_iadd (pc := 464) B dL_law_464 ?_
        refine kw_iald (pc := 465) B dL_law_465 (fun i42 => ?_)
        refine kw_aload_n (pc := 466) B dL_law_466 rfl 0 rfl ?_
        refine kw_iload_n (pc := 467) B dL_law_467 rfl 3 rfl ?_
        refine kw_iconst (pc := 468) B dL_law_468 (v := (3 : Int32)) rfl ?_
        refine kw_iadd (pc := 469) B dL_law_469 ?_
        refine kw_iald (pc := 470) B dL_law_470 (fun i43 => ?_)
        refine kw_aload_n (pc := 471) B dL_law_471 rfl 0 rfl ?_
        refine kw_iload_n (pc := 472) B dL_law_472 rfl 3 rfl ?_
        refine kw_iconst (pc := 473) B dL_law_473 (v := (4 : Int32)) rfl ?_
        refine kw_iadd (pc := 474) B dL_law_474 ?_
        refine kw_iald (pc := 475) B dL_law_475 (fun i44 => ?_)
        refine kw_callV (pc := 476) B dL_law_476 (ci := 0) rfl (ct_X0_pilgrim x1 i41 i42 i43 i44) q1747 q1748 q1749 q73 q1750 ⟨by decide, by decide, rfl⟩ (As := [kI i41, kI i42, kI i43, kI i44]) rfl (st := []) rfl (Nat.le_of_ble_eq_true rfl) (by decide) (by decide) kw_qI (fun i45 => ?_)
        refine kw_aload_n (pc := 479) B dL_law_479 rfl 2 rfl ?_
        refine kw_aload_n (pc := 480) B dL_law_480 rfl 0 rfl ?_
        refine kw_iload_n (pc := 481) B dL_law_481 rfl 3 rfl ?_
        refine kw_iconst (pc := 482) B dL_law_482 (v := (1 : Int32)) rfl ?_
        refine kw_iadd (pc := 483) B dL_law_483 ?_
        refine kw_iald (pc := 484) B dL_law_484 (fun i46 => ?_)
        refine kw_aload_n (pc := 485) B dL_law_485 rfl 0 rfl ?_
        refine kw_iload_n (pc := 486) B dL_law_486 rfl 3 rfl ?_
        refine kw_iconst (pc := 487) B dL_law_487 (v := (2 : Int32)) rfl ?_
        refine kw_iadd (pc := 488) B dL_law_488 ?_
        refine kw_iald (pc := 489) B dL_law_489 (fun i47 => ?_)
        refine kw_aload_n (pc := 490) B dL_law_490 rfl 0 rfl ?_
        refine kw_iload_n (pc := 491) B dL_law_491 rfl 3 rfl ?_
        refine kw_iconst (pc := 492) B dL_law_492 (v := (3 : Int32)) rfl ?_
        refine kw_iadd (pc := 493) B dL_law_493 ?_
        refine kw_iald (pc := 494) B dL_law_494 (fun i48 => ?_)
        refine kw_aload_n (pc := 495) B dL_law_495 rfl 0 rfl ?_
        refine kw_iload_n (pc := 496) B dL_law_496 rfl 3 rfl ?_
        refine kw_iconst (pc := 497) B dL_law_497 (v := (4 : Int32)) rfl ?_
        refine kw_iadd (pc := 498) B dL_law_498 ?_
        refine kw_iald (pc := 499) B dL_law_499 (fun i49 => ?_)
        refine kw_callV (pc := 500) B dL_law_500 (ci := 3) rfl (ct_X3_pilgrim x2 i46 i47 i48 i49) q2590 q2591 q2592 q81 q2593 ⟨by decide, by decide, rfl⟩ (As := [kI i46, kI i47, kI i48, kI i49]) rfl (st := [kI i45]) rfl (Nat.le_of_ble_eq_true rfl) (by decide) (by decide) kw_qI (fun i50 => ?_)
        refine kw_icmp_eq (pc := 503) (tgt := 1304) B dL_law_503 rfl ?_ ?_
        · exact kw_pick [0, 1, 2, 3] rfl (wb_L_law_1304 B ih x0 x1 x2 x3)
        · refine kw_iconst (pc := 506) B dL_law_506 (v := (0 : Int32)) rfl ?_
          exact kw_zret B dL_law_507 (g := fun v => v) (fun _ => rfl)
      · refine kw_aload_n (pc := 508) B dL_law_508 rfl 1 rfl ?_
        refine kw_callV (pc := 509) B dL_law_509 (ci := 0) rfl (ct_X0_mend x1) q1777 q1778 q1779 q73 q1780 ⟨by decide, by decide, rfl⟩ (As := []) rfl (st := []) rfl (Nat.le_of_ble_eq_true rfl) (by decide) (by decide) kw_qI (fun i51 => ?_)
        refine kw_aload_n (pc := 512) B dL_law_512 rfl 2 rfl ?_
        refine kw_callV (pc := 513) B dL_law_513 (ci := 3) rfl (ct_X3_mend x2) q2600 q2601 q2602 q81 q2603 ⟨by decide, by decide, rfl⟩ (As := []) rfl (st := [kI i51]) rfl (Nat.le_of_ble_eq_true rfl) (by decide) (by decide) kw_qI (fun i52 => ?_)
        refine kw_icmp_eq (pc := 516) (tgt := 1304) B dL_law_516 rfl ?_ ?_
        · exact kw_pick [0, 1, 2, 3] rfl (wb_L_law_1304 B ih x0 x1 x2 x3)
        · refine kw_iconst (pc := 519) B dL_law_519 (v := (0 : Int32)) rfl ?_
          exact kw_zret B dL_law_520 (g := fun v => v) (fun _ => rfl)
      · refine kw_aload_n (pc := 521) B dL_law_521 rfl 1 rfl ?_
        refine kw_aload_n (pc := 522) B dL_law_522 rfl 0 rfl ?_
        refine kw_iload_n (pc := 523) B dL_law_523 rfl 3 rfl ?_
        refine kw_iconst (pc := 524) B dL_law_524 (v := (1 : Int32)) rfl ?_
        refine kw_iadd (pc := 525) B dL_law_525 ?_
        refine kw_iald (pc := 526) B dL_law_526 (fun i53 => ?_)
        refine kw_callV (pc := 527) B dL_law_527 (ci := 0) rfl (ct_X0_pass x1 i53) q1795 q1796 q1797 q73 q1798 ⟨by decide, by decide, rfl⟩ (As := [kI i53]) rfl (st := []) rfl (Nat.le_of_ble_eq_true rfl) (by decide) (by decide) kw_qI (fun i54 => ?_)
        refine kw_aload_n (pc := 530) B dL_law_530 rfl 2 rfl ?_
        refine kw_aload_n (pc := 531) B dL_law_531 rfl 0 rfl ?_
        refine kw_iload_n (pc := 532) B dL_law_532 rfl 3 rfl ?_
        refine kw_iconst (pc := 533) B dL_law_533 (v := (1 : Int32)) rfl ?_
        refine kw_iadd (pc := 534) B dL_law_534 ?_
        refine kw_iald (pc := 535) B dL_law_535 (fun i55 => ?_)
        refine kw_callV (pc := 536) B dL_law_536 (ci := 3) rfl (ct_X3_pass x2 i55) q2608 q2609 q2610 q81 q2611 ⟨by decide, by decide, rfl⟩ (As := [kI i55]) rfl (st := [kI i54]) rfl (Nat.le_of_ble_eq_true rfl) (by decide) (by decide) kw_qI (fun i56 => ?_)
        refine kw_icmp_eq (pc := 539) (tgt := 1304) B dL_law_539 rfl ?_ ?_
        · exact kw_pick [0, 1, 2, 3] rfl (wb_L_law_1304 B ih x0 x1 x2 x3)
        · refine kw_iconst (pc := 542) B dL_law_542 (v := (0 : Int32)) rfl ?_
          exact kw_zret B dL_law_543 (g := fun v => v) (fun _ => rfl)
      · refine kw_aload_n (pc := 544) B dL_law_544 rfl 1 rfl ?_
        refine kw_aload_n (pc := 545) B dL_law_545 rfl 0 rfl ?_
        refine kw_iload_n (pc := 546) B dL_law_546 rfl 3 rfl ?_
        refine kw_iconst (pc := 547) B dL_law_547 (v := (1 : Int32)) rfl ?_
        refine kw_iadd (pc := 548) B dL_law_548 ?_
        refine kw_iald (pc := 549) B dL_law_549 (fun i57 => ?_)
        refine kw_aload_n (pc := 550) B dL_law_550 rfl 0 rfl ?_
        refine kw_iload_n (pc := 551) B dL_law_551 rfl 3 rfl ?_
        refine kw_iconst (pc := 552) B dL_law_552 (v := (2 : Int32)) rfl ?_
        refine kw_iadd (pc := 553) B dL_law_553 ?_
        refine kw_iald (pc := 554) B dL_law_554 (fun i58 => ?_)
        refine kw_callV (pc := 555) B dL_law_555 (ci := 0) rfl (ct_X0_carverOf x1 i57 i58) q1816 q1817 q1818 q73 q1819 ⟨by decide, by decide, rfl⟩ (As := [kI i57, kI i58]) rfl (st := []) rfl (Nat.le_of_ble_eq_true rfl) (by decide) (by decide) kw_qI (fun i59 => ?_)
        refine kw_aload_n (pc := 558) B dL_law_558 rfl 2 rfl ?_
        refine kw_aload_n (pc := 559) B dL_law_559 rfl 0 rfl ?_
        refine kw_iload_n (pc := 560) B dL_law_560 rfl 3 rfl ?_
        refine kw_iconst (pc := 561) B dL_law_561 (v := (1 : Int32)) rfl ?_
        refine kw_iadd (pc := 562) B dL_law_562 ?_
        refine kw_iald (pc := 563) B dL_law_563 (fun i60 => ?_)
        refine kw_aload_n (pc := 564) B dL_law_564 rfl 0 rfl ?_
        refine kw_iload_n (pc := 565) B dL_law_565 rfl 3 rfl ?_
        refine kw_iconst (pc := 566) B dL_law_566 (v := (2 : Int32)) rfl ?_
        refine kw_iadd (pc := 567) B dL_law_567 ?_
        refine kw_iald (pc := 568) B dL_law_568 (fun i61 => ?_)
        refine kw_callV (pc := 569) B dL_law_569 (ci := 3) rfl (ct_X3_carverOf x2 i60 i61) q2647 q2648 q2649 q81 q2650 ⟨by decide, by decide, rfl⟩ (As := [kI i60, kI i61]) rfl (st := [kI i59]) rfl (Nat.le_of_ble_eq_true rfl) (by decide) (by decide) kw_qI (fun i62 => ?_)
        refine kw_icmp_eq (pc := 572) (tgt := 1304) B dL_law_572 rfl ?_ ?_
        · exact kw_pick [0, 1, 2, 3] rfl (wb_L_law_1304 B ih x0 x1 x2 x3)
        · refine kw_iconst (pc := 575) B dL_law_575 (v := (0 : Int32)) rfl ?_
          exact kw_zret B dL_law_576 (g := fun v => v) (fun _ => rfl)
      · refine kw_aload_n (pc := 577) B dL_law_577 rfl 1 rfl ?_
        refine kw_aload_n (pc := 578) B dL_law_578 rfl 0 rfl ?_
        refine kw_iload_n (pc := 579) B dL_law_579 rfl 3 rfl ?_
        refine kw_iconst (pc := 580) B dL_law_580 (v := (1 : Int32)) rfl ?_
        refine kw_iadd (pc := 581) B dL_law_581 ?_
        refine kw_iald (pc := 582) B dL_law_582 (fun i63 => ?_)
        refine kw_aload_n (pc := 583) B dL_law_583 rfl 0 rfl ?_
        refine kw_iload_n (pc := 584) B dL_law_584 rfl 3 rfl ?_
        refine kw_iconst (pc := 585) B dL_law_585 (v := (2 : Int32)) rfl ?_
        refine kw_iadd (pc := 586) B dL_law_586 ?_
        refine kw_iald (pc := 587) B dL_law_587 (fun i64 => ?_)
        refine kw_if_eq (pc := 588) (tgt := 595) B dL_law_588 rfl ?_ ?_
        · refine kw_iconst (pc := 595) B dL_law_595 (v := (0 : Int32)) rfl ?_
          exact kw_pick [0, 1, 2, 3] rfl (wb_L_law_596 B ih x0 x1 x2 x3 (0 : Int32) i63 x1)
        · refine kw_iconst (pc := 591) B dL_law_591 (v := (1 : Int32)) rfl ?_
          refine kw_goto (pc := 592) (tgt := 596) B dL_law_592 rfl ?_
          exact kw_pick [0, 1, 2, 3] rfl (wb_L_law_596 B ih x0 x1 x2 x3 (1 : Int32) i63 x1)
      · refine kw_aload_n (pc := 626) B dL_law_626 rfl 1 rfl ?_
        refine kw_aload_n (pc := 627) B dL_law_627 rfl 0 rfl ?_
        refine kw_iload_n (pc := 628) B dL_law_628 rfl 3 rfl ?_
        refine kw_iconst (pc := 629) B dL_law_629 (v := (1 : Int32)) rfl ?_
        refine kw_iadd (pc := 630) B dL_law_630 ?_
        refine kw_iald (pc := 631) B dL_law_631 (fun i65 => ?_)
        refine kw_if_eq (pc := 632) (tgt := 639) B dL_law_632 rfl ?_ ?_
        · refine kw_iconst (pc := 639) B dL_law_639 (v := (0 : Int32)) rfl ?_
          exact kw_pick [0, 1, 2, 3] rfl (wb_L_law_640 B ih x0 x1 x2 x3 (0 : Int32) x1)
        · refine kw_iconst (pc := 635) B dL_law_635 (v := (1 : Int32)) rfl ?_
          refine kw_goto (pc := 636) (tgt := 640) B dL_law_636 rfl ?_
          exact kw_pick [0, 1, 2, 3] rfl (wb_L_law_640 B ih x0 x1 x2 x3 (1 : Int32) x1)
      · refine kw_aload_n (pc := 691) B dL_law_691 rfl 1 rfl ?_
        refine kw_aload_n (pc := 692) B dL_law_692 rfl 0 rfl ?_
        refine kw_iload_n (pc := 693) B dL_law_693 rfl 3 rfl ?_
        refine kw_iconst (pc := 694) B dL_law_694 (v := (1 : Int32)) rfl ?_
        refine kw_iadd (pc := 695) B dL_law_695 ?_
        refine kw_iald (pc := 696) B dL_law_696 (fun i66 => ?_)
        refine kw_if_eq (pc := 697) (tgt := 704) B dL_law_697 rfl ?_ ?_
        · refine kw_iconst (pc := 704) B dL_law_704 (v := (0 : Int32)) rfl ?_
          exact kw_pick [0, 1, 2, 3] rfl (wb_L_law_705 B ih x0 x1 x2 x3 (0 : Int32) x1)
        · refine kw_iconst (pc := 700) B dL_law_700 (v := (1 : Int32)) rfl ?_
          refine kw_goto (pc := 701) (tgt := 705) B dL_law_701 rfl ?_
          exact kw_pick [0, 1, 2, 3] rfl (wb_L_law_705 B ih x0 x1 x2 x3 (1 : Int32) x1)
      · refine kw_aload_n (pc := 730) B dL_law_730 rfl 1 rfl ?_
        refine kw_aload_n (pc := 731) B dL_law_731 rfl 0 rfl ?_
        refine kw_iload_n (pc := 732) B dL_law_732 rfl 3 rfl ?_
        refine kw_iconst (pc := 733) B dL_law_733 (v := (1 : Int32)) rfl ?_
        refine kw_iadd (pc := 734) B dL_law_734 ?_
        refine kw_iald (pc := 735) B dL_law_735 (fun i67 => ?_)
        refine kw_if_eq (pc := 736) (tgt := 743) B dL_law_736 rfl ?_ ?_
        · refine kw_iconst (pc := 743) B dL_law_743 (v := (0 : Int32)) rfl ?_
          exact kw_pick [0, 1, 2, 3] rfl (wb_L_law_744 B ih x0 x1 x2 x3 (0 : Int32) x1)
        · refine kw_iconst (pc := 739) B dL_law_739 (v := (1 : Int32)) rfl ?_
          refine kw_goto (pc := 740) (tgt := 744) B dL_law_740 rfl ?_
          exact kw_pick [0, 1, 2, 3] rfl (wb_L_law_744 B ih x0 x1 x2 x3 (1 : Int32) x1)
      · refine kw_aload_n (pc := 769) B dL_law_769 rfl 1 rfl ?_
        refine kw_aload_n (pc := 770) B dL_law_770 rfl 0 rfl ?_
        refine kw_iload_n (pc := 771) B dL_law_771 rfl 3 rfl ?_
        refine kw_iconst (pc := 772) B dL_law_772 (v := (1 : Int32)) rfl ?_
        refine kw_iadd (pc := 773) B dL_law_773 ?_
        refine kw_iald (pc := 774) B dL_law_774 (fun i68 => ?_)
        refine kw_aload_n (pc := 775) B dL_law_775 rfl 0 rfl ?_
        refine kw_iload_n (pc := 776) B dL_law_776 rfl 3 rfl ?_
        refine kw_iconst (pc := 777) B dL_law_777 (v := (2 : Int32)) rfl ?_
        refine kw_iadd (pc := 778) B dL_law_778 ?_
        refine kw_iald (pc := 779) B dL_law_779 (fun i69 => ?_)
        refine kw_callV (pc := 780) B dL_law_780 (ci := 0) rfl (ct_X0_stringOf x1 i68 i69) q1848 q1849 q1850 q73 q1851 ⟨by decide, by decide, rfl⟩ (As := [kI i68, kI i69]) rfl (st := []) rfl (Nat.le_of_ble_eq_true rfl) (by decide) (by decide) kw_qI (fun i70 => ?_)
        refine kw_aload_n (pc := 783) B dL_law_783 rfl 2 rfl ?_
        refine kw_aload_n (pc := 784) B dL_law_784 rfl 0 rfl ?_
        refine kw_iload_n (pc := 785) B dL_law_785 rfl 3 rfl ?_
        refine kw_iconst (pc := 786) B dL_law_786 (v := (1 : Int32)) rfl ?_
        refine kw_iadd (pc := 787) B dL_law_787 ?_
        refine kw_iald (pc := 788) B dL_law_788 (fun i71 => ?_)
        refine kw_aload_n (pc := 789) B dL_law_789 rfl 0 rfl ?_
        refine kw_iload_n (pc := 790) B dL_law_790 rfl 3 rfl ?_
        refine kw_iconst (pc := 791) B dL_law_791 (v := (2 : Int32)) rfl ?_
        refine kw_iadd (pc := 792) B dL_law_792 ?_
        refine kw_iald (pc := 793) B dL_law_793 (fun i72 => ?_)
        refine kw_callV (pc := 794) B dL_law_794 (ci := 3) rfl (ct_X3_stringOf x2 i71 i72) q2655 q2656 q2657 q81 q2658 ⟨by decide, by decide, rfl⟩ (As := [kI i71, kI i72]) rfl (st := [kI i70]) rfl (Nat.le_of_ble_eq_true rfl) (by decide) (by decide) kw_qI (fun i73 => ?_)
        refine kw_icmp_eq (pc := 797) (tgt := 1304) B dL_law_797 rfl ?_ ?_
        · exact kw_pick [0, 1, 2, 3] rfl (wb_L_law_1304 B ih x0 x1 x2 x3)
        · refine kw_iconst (pc := 800) B dL_law_800 (v := (0 : Int32)) rfl ?_
          exact kw_zret B dL_law_801 (g := fun v => v) (fun _ => rfl)
      · refine kw_aload_n (pc := 802) B dL_law_802 rfl 1 rfl ?_
        refine kw_aload_n (pc := 803) B dL_law_803 rfl 0 rfl ?_
        refine kw_iload_n (pc := 804) B dL_law_804 rfl 3 rfl ?_
        refine kw_iconst (pc := 805) B dL_law_805 (v := (1 : Int32)) rfl ?_
        refine kw_iadd (pc := 806) B dL_law_806 ?_
        refine kw_iald (pc := 807) B dL_law_807 (fun i74 => ?_)
        refine kw_aload_n (pc := 808) B dL_law_808 rfl 0 rfl ?_
        refine kw_iload_n (pc := 809) B dL_law_809 rfl 3 rfl ?_
        refine kw_iconst (pc := 810) B dL_law_810 (v := (2 : Int32)) rfl ?_
        refine kw_iadd (pc := 811) B dL_law_811 ?_
        refine kw_iald (pc := 812) B dL_law_812 (fun i75 => ?_)
        refine kw_aload_n (pc := 813) B dL_law_813 rfl 0 rfl ?_
        refine kw_iload_n (pc := 814) B dL_law_814 rfl 3 rfl ?_
        refine kw_iconst (pc := 815) B dL_law_815 (v := (3 : Int32)) rfl ?_
        refine kw_iadd (pc := 816) B dL_law_816 ?_
        refine kw_iald (pc := 817) B dL_law_817 (fun i76 => ?_)
        refine kw_if_eq (pc := 818) (tgt := 825) B dL_law_818 rfl ?_ ?_
        · refine kw_iconst (pc := 825) B dL_law_825 (v := (0 : Int32)) rfl ?_
          exact kw_pick [0, 1, 2, 3] rfl (wb_L_law_826 B ih x0 x1 x2 x3 (0 : Int32) i75 i74 x1)
        · refine kw_iconst (pc := 821) B dL_law_821 (v := (1 : Int32)) rfl ?_
          refine kw_goto (pc := 822) (tgt := 826) B dL_law_822 rfl ?_
          exact kw_pick [0, 1, 2, 3] rfl (wb_L_law_826 B ih x0 x1 x2 x3 (1 : Int32) i75 i74 x1)
      · refine kw_aload_n (pc := 861) B dL_law_861 rfl 1 rfl ?_
        refine kw_aload_n (pc := 862) B dL_law_862 rfl 0 rfl ?_
        refine kw_iload_n (pc := 863) B dL_law_863 rfl 3 rfl ?_
        refine kw_iconst (pc := 864) B dL_law_864 (v := (1 : Int32)) rfl ?_
        refine kw_iadd (pc := 865) B dL_law_865 ?_
        refine kw_iald (pc := 866) B dL_law_866 (fun i77 => ?_)
        refine kw_aload_n (pc := 867) B dL_law_867 rfl 0 rfl ?_
        refine kw_iload_n (pc := 868) B dL_law_868 rfl 3 rfl ?_
        refine kw_iconst (pc := 869) B dL_law_869 (v := (2 : Int32)) rfl ?_
        refine kw_iadd (pc := 870) B dL_law_870 ?_
        refine kw_iald (pc := 871) B dL_law_871 (fun i78 => ?_)
        refine kw_callV (pc := 872) B dL_law_872 (ci := 0) rfl (ct_X0_pilgrimOf x1 i77 i78) q1872 q1873 q1874 q73 q1875 ⟨by decide, by decide, rfl⟩ (As := [kI i77, kI i78]) rfl (st := []) rfl (Nat.le_of_ble_eq_true rfl) (by decide) (by decide) kw_qI (fun i79 => ?_)
        refine kw_aload_n (pc := 875) B dL_law_875 rfl 2 rfl ?_
        refine kw_aload_n (pc := 876) B dL_law_876 rfl 0 rfl ?_
        refine kw_iload_n (pc := 877) B dL_law_877 rfl 3 rfl ?_
        refine kw_iconst (pc := 878) B dL_law_878 (v := (1 : Int32)) rfl ?_
        refine kw_iadd (pc := 879) B dL_law_879 ?_
        refine kw_iald (pc := 880) B dL_law_880 (fun i80 => ?_)
        refine kw_aload_n (pc := 881) B dL_law_881 rfl 0 rfl ?_
        refine kw_iload_n (pc := 882) B dL_law_882 rfl 3 rfl ?_
        refine kw_iconst (pc := 883) B dL_law_883 (v := (2 : Int32)) rfl ?_
        refine kw_iadd (pc := 884) B dL_law_884 ?_
        refine kw_iald (pc := 885) B dL_law_885 (fun i81 => ?_)
        refine kw_callV (pc := 886) B dL_law_886 (ci := 3) rfl (ct_X3_pilgrimOf x2 i80 i81) q2663 q2664 q2665 q81 q2666 ⟨by decide, by decide, rfl⟩ (As := [kI i80, kI i81]) rfl (st := [kI i79]) rfl (Nat.le_of_ble_eq_true rfl) (by decide) (by decide) kw_qI (fun i82 => ?_)
        refine kw_icmp_eq (pc := 889) (tgt := 1304) B dL_law_889 rfl ?_ ?_
        · exact kw_pick [0, 1, 2, 3] rfl (wb_L_law_1304 B ih x0 x1 x2 x3)
        · refine kw_iconst (pc := 892) B dL_law_892 (v := (0 : Int32)) rfl ?_
          exact kw_zret B dL_law_893 (g := fun v => v) (fun _ => rfl)
      · refine kw_aload_n (pc := 894) B dL_law_894 rfl 1 rfl ?_
        refine kw_aload_n (pc := 895) B dL_law_895 rfl 0 rfl ?_
        refine kw_iload_n (pc := 896) B dL_law_896 rfl 3 rfl ?_
        refine kw_iconst (pc := 897) B dL_law_897 (v := (1 : Int32)) rfl ?_
        refine kw_iadd (pc := 898) B dL_law_898 ?_
        refine kw_iald (pc := 899) B dL_law_899 (fun i83 => ?_)
        refine kw_if_eq (pc := 900) (tgt := 907) B dL_law_900 rfl ?_ ?_
        · refine kw_iconst (pc := 907) B dL_law_907 (v := (0 : Int32)) rfl ?_
          exact kw_pick [0, 1, 2, 3] rfl (wb_L_law_908 B ih x0 x1 x2 x3 (0 : Int32) x1)
        · refine kw_iconst (pc := 903) B dL_law_903 (v := (1 : Int32)) rfl ?_
          refine kw_goto (pc := 904) (tgt := 908) B dL_law_904 rfl ?_
          exact kw_pick [0, 1, 2, 3] rfl (wb_L_law_908 B ih x0 x1 x2 x3 (1 : Int32) x1)
      · refine kw_aload_n (pc := 953) B dL_law_953 rfl 1 rfl ?_
        refine kw_aload_n (pc := 954) B dL_law_954 rfl 0 rfl ?_
        refine kw_iload_n (pc := 955) B dL_law_955 rfl 3 rfl ?_
        refine kw_iconst (pc := 956) B dL_law_956 (v := (1 : Int32)) rfl ?_
        refine kw_iadd (pc := 957) B dL_law_957 ?_
        refine kw_iald (pc := 958) B dL_law_958 (fun i84 => ?_)
        refine kw_aload_n (pc := 959) B dL_law_959 rfl 0 rfl ?_
        refine kw_iload_n (pc := 960) B dL_law_960 rfl 3 rfl ?_
        refine kw_iconst (pc := 961) B dL_law_961 (v := (2 : Int32)) rfl ?_
        refine kw_iadd (pc := 962) B dL_law_962 ?_
        refine kw_iald (pc := 963) B dL_law_963 (fun i85 => ?_)
        refine kw_callV (pc := 964) B dL_law_964 (ci := 0) rfl (ct_X0_could x1 i84 i85) q1887 q1888 q1889 q73 q1890 ⟨by decide, by decide, rfl⟩ (As := [kI i84, kI i85]) rfl (st := []) rfl (Nat.le_of_ble_eq_true rfl) (by decide) (by decide) kw_qI (fun i86 => ?_)
        refine kw_aload_n (pc := 967) B dL_law_967 rfl 2 rfl ?_
        refine kw_aload_n (pc := 968) B dL_law_968 rfl 0 rfl ?_
        refine kw_iload_n (pc := 969) B dL_law_969 rfl 3 rfl ?_
        refine kw_iconst (pc := 970) B dL_law_970 (v := (1 : Int32)) rfl ?_
        refine kw_iadd (pc := 971) B dL_law_971 ?_
        refine kw_iald (pc := 972) B dL_law_972 (fun i87 => ?_)
        refine kw_aload_n (pc := 973) B dL_law_973 rfl 0 rfl ?_
        refine kw_iload_n (pc := 974) B dL_law_974 rfl 3 rfl ?_
        refine kw_iconst (pc := 975) B dL_law_975 (v := (2 : Int32)) rfl ?_
        refine kw_iadd (pc := 976) B dL_law_976 ?_
        refine kw_iald (pc := 977) B dL_law_977 (fun i88 => ?_)
        refine kw_callV (pc := 978) B dL_law_978 (ci := 3) rfl (ct_X3_could x2 i87 i88) q2671 q2672 q2673 q81 q2674 ⟨by decide, by decide, rfl⟩ (As := [kI i87, kI i88]) rfl (st := [kI i86]) rfl (Nat.le_of_ble_eq_true rfl) (by decide) (by decide) kw_qI (fun i89 => ?_)
        refine kw_icmp_eq (pc := 981) (tgt := 1304) B dL_law_981 rfl ?_ ?_
        · exact kw_pick [0, 1, 2, 3] rfl (wb_L_law_1304 B ih x0 x1 x2 x3)
        · refine kw_iconst (pc := 984) B dL_law_984 (v := (0 : Int32)) rfl ?_
          exact kw_zret B dL_law_985 (g := fun v => v) (fun _ => rfl)
      · refine kw_aload_n (pc := 986) B dL_law_986 rfl 1 rfl ?_
        refine kw_callV (pc := 987) B dL_law_987 (ci := 0) rfl (ct_X0_nextBack x1) q1892 q1893 q1894 q73 q1895 ⟨by decide, by decide, rfl⟩ (As := []) rfl (st := []) rfl (Nat.le_of_ble_eq_true rfl) (by decide) (by decide) kw_qI (fun i90 => ?_)
        refine kw_aload_n (pc := 990) B dL_law_990 rfl 2 rfl ?_
        refine kw_callV (pc := 991) B dL_law_991 (ci := 3) rfl (ct_X3_nextBack x2) q2676 q2677 q2678 q81 q2679 ⟨by decide, by decide, rfl⟩ (As := []) rfl (st := [kI i90]) rfl (Nat.le_of_ble_eq_true rfl) (by decide) (by decide) kw_qI (fun i91 => ?_)
        refine kw_icmp_eq (pc := 994) (tgt := 1304) B dL_law_994 rfl ?_ ?_
        · exact kw_pick [0, 1, 2, 3] rfl (wb_L_law_1304 B ih x0 x1 x2 x3)
        · refine kw_iconst (pc := 997) B dL_law_997 (v := (0 : Int32)) rfl ?_
          exact kw_zret B dL_law_998 (g := fun v => v) (fun _ => rfl)
      · refine kw_aload_n (pc := 999) B dL_law_999 rfl 1 rfl ?_
        refine kw_callV (pc := 1000) B dL_law_1000 (ci := 0) rfl (ct_X0_isCounted x1) q1897 q1898 q1899 q73 q1900 ⟨by decide, by decide, rfl⟩ (As := []) rfl (st := []) rfl (Nat.le_of_ble_eq_true rfl) (by decide) (by decide) kw_qI (fun i92 => ?_)
        refine kw_aload_n (pc := 1003) B dL_law_1003 rfl 2 rfl ?_
        refine kw_callV (pc := 1004) B dL_law_1004 (ci := 3) rfl (ct_X3_isCounted x2) q2680 q2681 q2682 q81 q2683 ⟨by decide, by decide, rfl⟩ (As := []) rfl (st := [kI i92]) rfl (Nat.le_of_ble_eq_true rfl) (by decide) (by decide) kw_qI (fun i93 => ?_)
        refine kw_icmp_eq (pc := 1007) (tgt := 1304) B dL_law_1007 rfl ?_ ?_
        · exact kw_pick [0, 1, 2, 3] rfl (wb_L_law_1304 B ih x0 x1 x2 x3)
        · refine kw_iconst (pc := 1010) B dL_law_1010 (v := (0 : Int32)) rfl ?_
          exact kw_zret B dL_law_1011 (g := fun v => v) (fun _ => rfl)
      · refine kw_aload_n (pc := 1012) B dL_law_1012 rfl 1 rfl ?_
        refine kw_callV (pc := 1013) B dL_law_1013 (ci := 0) rfl (ct_X0_meanFineness x1) q1920 q1921 q1922 q73 q1923 ⟨by decide, by decide, rfl⟩ (As := []) rfl (st := []) rfl (Nat.le_of_ble_eq_true rfl) (by decide) (by decide) kw_qD (fun d94 => ?_)
        refine kw_dstore (pc := 1016) B dL_law_1016 (by decide) (L2 := [(4, kD d94), (0, kA x0), (1, kA x1), (2, kA x2), (3, kI x3)]) rfl ?_
        refine kw_aload_n (pc := 1018) B dL_law_1018 rfl 3 rfl ?_
        refine kw_callV (pc := 1019) B dL_law_1019 (ci := 3) rfl (ct_X3_meanFineness x2) q2692 q2693 q2694 q81 q2695 ⟨by decide, by decide, rfl⟩ (As := []) rfl (st := []) rfl (Nat.le_of_ble_eq_true rfl) (by decide) (by decide) kw_qD (fun d95 => ?_)
        refine kw_dstore (pc := 1022) B dL_law_1022 (by decide) (L2 := [(6, kD d95), (4, kD d94), (0, kA x0), (1, kA x1), (2, kA x2), (3, kI x3)]) rfl ?_
        refine kw_dload (pc := 1024) B dL_law_1024 1 rfl ?_
        refine kw_dload (pc := 1026) B dL_law_1026 0 rfl ?_
        refine kw_dcmp (pc := 1028) B dL_law_1028 ?_
        refine kw_if_eq (pc := 1029) (tgt := 1050) B dL_law_1029 rfl ?_ ?_
        · refine kw_goto (pc := 1050) (tgt := 1304) B dL_law_1050 rfl ?_
          exact kw_pick [2, 3, 4, 5] rfl (wb_L_law_1304 B ih x0 x1 x2 x3)
        · refine kw_dload (pc := 1032) B dL_law_1032 1 rfl ?_
          refine kw_dload (pc := 1034) B dL_law_1034 1 rfl ?_
          refine kw_dcmp (pc := 1036) B dL_law_1036 ?_
          refine kw_if_eq (pc := 1037) (tgt := 1048) B dL_law_1037 rfl ?_ ?_
          · refine kw_iconst (pc := 1048) B dL_law_1048 (v := (0 : Int32)) rfl ?_
            exact kw_zret B dL_law_1049 (g := fun v => v) (fun _ => rfl)
          · refine kw_dload (pc := 1040) B dL_law_1040 0 rfl ?_
            refine kw_dload (pc := 1042) B dL_law_1042 0 rfl ?_
            refine kw_dcmp (pc := 1044) B dL_law_1044 ?_
            refine kw_if_ne (pc := 1045) (tgt := 1050) B dL_law_1045 rfl ?_ ?_
            · refine kw_goto (pc := 1050) (tgt := 1304) B dL_law_1050 rfl ?_
              exact kw_pick [2, 3, 4, 5] rfl (wb_L_law_1304 B ih x0 x1 x2 x3)
            · refine kw_iconst (pc := 1048) B dL_law_1048 (v := (0 : Int32)) rfl ?_
              exact kw_zret B dL_law_1049 (g := fun v => v) (fun _ => rfl)
      · refine kw_aload_n (pc := 1053) B dL_law_1053 rfl 1 rfl ?_
        refine kw_callV (pc := 1054) B dL_law_1054 (ci := 0) rfl (ct_X0_spoilt x1) q1926 q1927 q1928 q73 q1929 ⟨by decide, by decide, rfl⟩ (As := []) rfl (st := []) rfl (Nat.le_of_ble_eq_true rfl) (by decide) (by decide) kw_qF (fun f96 => ?_)
        refine kw_f2d (pc := 1057) B dL_law_1057 (fun d97 => ?_)
        refine kw_dstore (pc := 1058) B dL_law_1058 (by decide) (L2 := [(4, kD d97), (0, kA x0), (1, kA x1), (2, kA x2), (3, kI x3)]) rfl ?_
        refine kw_aload_n (pc := 1060) B dL_law_1060 rfl 3 rfl ?_
        refine kw_callV (pc := 1061) B dL_law_1061 (ci := 3) rfl (ct_X3_spoilt x2) q2696 q2697 q2698 q81 q2699 ⟨by decide, by decide, rfl⟩ (As := []) rfl (st := []) rfl (Nat.le_of_ble_eq_true rfl) (by decide) (by decide) kw_qF (fun f98 => ?_)
        refine kw_f2d (pc := 1064) B dL_law_1064 (fun d99 => ?_)
        refine kw_dstore (pc := 1065) B dL_law_1065 (by decide) (L2 := [(6, kD d99), (4, kD d97), (0, kA x0), (1, kA x1), (2, kA x2), (3, kI x3)]) rfl ?_
        refine kw_dload (pc := 1067) B dL_law_1067 1 rfl ?_
        refine kw_dload (pc := 1069) B dL_law_1069 0 rfl ?_
        refine kw_dcmp (pc := 1071) B dL_law_1071 ?_
        refine kw_if_eq (pc := 1072) (tgt := 1093) B dL_law_1072 rfl ?_ ?_
        · refine kw_goto (pc := 1093) (tgt := 1304) B dL_law_1093 rfl ?_
          exact kw_pick [2, 3, 4, 5] rfl (wb_L_law_1304 B ih x0 x1 x2 x3)
        · refine kw_dload (pc := 1075) B dL_law_1075 1 rfl ?_
          refine kw_dload (pc := 1077) B dL_law_1077 1 rfl ?_
          refine kw_dcmp (pc := 1079) B dL_law_1079 ?_
          refine kw_if_eq (pc := 1080) (tgt := 1091) B dL_law_1080 rfl ?_ ?_
          · refine kw_iconst (pc := 1091) B dL_law_1091 (v := (0 : Int32)) rfl ?_
            exact kw_zret B dL_law_1092 (g := fun v => v) (fun _ => rfl)
          · refine kw_dload (pc := 1083) B dL_law_1083 0 rfl ?_
            refine kw_dload (pc := 1085) B dL_law_1085 0 rfl ?_
            refine kw_dcmp (pc := 1087) B dL_law_1087 ?_
            refine kw_if_ne (pc := 1088) (tgt := 1093) B dL_law_1088 rfl ?_ ?_
            · refine kw_goto (pc := 1093) (tgt := 1304) B dL_law_1093 rfl ?_
              exact kw_pick [2, 3, 4, 5] rfl (wb_L_law_1304 B ih x0 x1 x2 x3)
            · refine kw_iconst (pc := 1091) B dL_law_1091 (v := (0 : Int32)) rfl ?_
              exact kw_zret B dL_law_1092 (g := fun v => v) (fun _ => rfl)
      · refine kw_aload_n (pc := 1096) B dL_law_1096 rfl 1 rfl ?_
        refine kw_aload_n (pc := 1097) B dL_law_1097 rfl 0 rfl ?_
        refine kw_iload_n (pc := 1098) B dL_law_1098 rfl 3 rfl ?_
        refine kw_iconst (pc := 1099) B dL_law_1099 (v := (1 : Int32)) rfl ?_
        refine kw_iadd (pc := 1100) B dL_law_1100 ?_
        refine kw_iald (pc := 1101) B dL_law_1101 (fun i100 => ?_)
        refine kw_callV (pc := 1102) B dL_law_1102 (ci := 0) rfl (ct_X0_account x1 i100) q1930 q1931 q1932 q73 q1933 ⟨by decide, by decide, rfl⟩ (As := [kI i100]) rfl (st := []) rfl (Nat.le_of_ble_eq_true rfl) (by decide) (by decide) kw_qI (fun i101 => ?_)
        refine kw_aload_n (pc := 1105) B dL_law_1105 rfl 2 rfl ?_
        refine kw_aload_n (pc := 1106) B dL_law_1106 rfl 0 rfl ?_
        refine kw_iload_n (pc := 1107) B dL_law_1107 rfl 3 rfl ?_
        refine kw_iconst (pc := 1108) B dL_law_1108 (v := (1 : Int32)) rfl ?_
        refine kw_iadd (pc := 1109) B dL_law_1109 ?_
        refine kw_iald (pc := 1110) B dL_law_1110 (fun i102 => ?_)
        refine kw_callV (pc := 1111) B dL_law_1111 (ci := 3) rfl (ct_X3_account x2 i102) q2700 q2701 q2702 q81 q2703 ⟨by decide, by decide, rfl⟩ (As := [kI i102]) rfl (st := [kI i101]) rfl (Nat.le_of_ble_eq_true rfl) (by decide) (by decide) kw_qI (fun i103 => ?_)
        refine kw_icmp_eq (pc := 1114) (tgt := 1304) B dL_law_1114 rfl ?_ ?_
        · exact kw_pick [0, 1, 2, 3] rfl (wb_L_law_1304 B ih x0 x1 x2 x3)
        · refine kw_iconst (pc := 1117) B dL_law_1117 (v := (0 : Int32)) rfl ?_
          exact kw_zret B dL_law_1118 (g := fun v => v) (fun _ => rfl)
      · refine kw_aload_n (pc := 1119) B dL_law_1119 rfl 1 rfl ?_
        refine kw_aload_n (pc := 1120) B dL_law_1120 rfl 0 rfl ?_
        refine kw_iload_n (pc := 1121) B dL_law_1121 rfl 3 rfl ?_
        refine kw_iconst (pc := 1122) B dL_law_1122 (v := (1 : Int32)) rfl ?_
        refine kw_iadd (pc := 1123) B dL_law_1123 ?_
        refine kw_iald (pc := 1124) B dL_law_1124 (fun i104 => ?_)
        refine kw_callV (pc := 1125) B dL_law_1125 (ci := 0) rfl (ct_X0_write x1 i104) q1943 q1944 q1945 q73 q1946 ⟨by decide, by decide, rfl⟩ (As := [kI i104]) rfl (st := []) rfl (Nat.le_of_ble_eq_true rfl) (by decide) (by decide) kw_qI (fun i105 => ?_)
        refine kw_aload_n (pc := 1128) B dL_law_1128 rfl 2 rfl ?_
        refine kw_aload_n (pc := 1129) B dL_law_1129 rfl 0 rfl ?_
        refine kw_iload_n (pc := 1130) B dL_law_1130 rfl 3 rfl ?_
        refine kw_iconst (pc := 1131) B dL_law_1131 (v := (1 : Int32)) rfl ?_
        refine kw_iadd (pc := 1132) B dL_law_1132 ?_
        refine kw_iald (pc := 1133) B dL_law_1133 (fun i106 => ?_)
        refine kw_callV (pc := 1134) B dL_law_1134 (ci := 3) rfl (ct_X3_write x2 i106) q2708 q2709 q2710 q81 q2711 ⟨by decide, by decide, rfl⟩ (As := [kI i106]) rfl (st := [kI i105]) rfl (Nat.le_of_ble_eq_true rfl) (by decide) (by decide) kw_qI (fun i107 => ?_)
        refine kw_icmp_eq (pc := 1137) (tgt := 1304) B dL_law_1137 rfl ?_ ?_
        · exact kw_pick [0, 1, 2, 3] rfl (wb_L_law_1304 B ih x0 x1 x2 x3)
        · refine kw_iconst (pc := 1140) B dL_law_1140 (v := (0 : Int32)) rfl ?_
          exact kw_zret B dL_law_1141 (g := fun v => v) (fun _ => rfl)
      · refine kw_aload_n (pc := 1142) B dL_law_1142 rfl 1 rfl ?_
        refine kw_aload_n (pc := 1143) B dL_law_1143 rfl 0 rfl ?_
        refine kw_iload_n (pc := 1144) B dL_law_1144 rfl 3 rfl ?_
        refine kw_iconst (pc := 1145) B dL_law_1145 (v := (1 : Int32)) rfl ?_
        refine kw_iadd (pc := 1146) B dL_law_1146 ?_
        refine kw_iald (pc := 1147) B dL_law_1147 (fun i108 => ?_)
        refine kw_callV (pc := 1148) B dL_law_1148 (ci := 0) rfl (ct_X0_written x1 i108) q2150 q2151 q2152 q73 q2153 ⟨by decide, by decide, rfl⟩ (As := [kI i108]) rfl (st := []) rfl (Nat.le_of_ble_eq_true rfl) (by decide) (by decide) kw_qI (fun i109 => ?_)
        refine kw_aload_n (pc := 1151) B dL_law_1151 rfl 2 rfl ?_
        refine kw_aload_n (pc := 1152) B dL_law_1152 rfl 0 rfl ?_
        refine kw_iload_n (pc := 1153) B dL_law_1153 rfl 3 rfl ?_
        refine kw_iconst (pc := 1154) B dL_law_1154 (v := (1 : Int32)) rfl ?_
        refine kw_iadd (pc := 1155) B dL_law_1155 ?_
        refine kw_iald (pc := 1156) B dL_law_1156 (fun i110 => ?_)
        refine kw_callV (pc := 1157) B dL_law_1157 (ci := 3) rfl (ct_X3_written x2 i110) q2718 q2719 q2720 q81 q2721 ⟨by decide, by decide, rfl⟩ (As := [kI i110]) rfl (st := [kI i109]) rfl (Nat.le_of_ble_eq_true rfl) (by decide) (by decide) kw_qI (fun i111 => ?_)
        refine kw_icmp_eq (pc := 1160) (tgt := 1304) B dL_law_1160 rfl ?_ ?_
        · exact kw_pick [0, 1, 2, 3] rfl (wb_L_law_1304 B ih x0 x1 x2 x3)
        · refine kw_iconst (pc := 1163) B dL_law_1163 (v := (0 : Int32)) rfl ?_
          exact kw_zret B dL_law_1164 (g := fun v => v) (fun _ => rfl)
      · refine kw_aload_n (pc := 1165) B dL_law_1165 rfl 1 rfl ?_
        refine kw_aload_n (pc := 1166) B dL_law_1166 rfl 0 rfl ?_
        refine kw_iload_n (pc := 1167) B dL_law_1167 rfl 3 rfl ?_
        refine kw_iconst (pc := 1168) B dL_law_1168 (v := (1 : Int32)) rfl ?_
        refine kw_iadd (pc := 1169) B dL_law_1169 ?_
        refine kw_iald (pc := 1170) B dL_law_1170 (fun i112 => ?_)
        refine kw_i2c (pc := 1171) B dL_law_1171 ?_
        refine kw_callV (pc := 1172) B dL_law_1172 (ci := 0) rfl (ct_X0_append x1 ((i112.toUInt32 % 65536).toInt32)) q2165 q2166 q2167 q73 q2168 ⟨by decide, by decide, rfl⟩ (As := [kI ((i112.toUInt32 % 65536).toInt32)]) rfl (st := []) rfl (Nat.le_of_ble_eq_true rfl) (by decide) (by decide) kw_qI (fun i113 => ?_)
        refine kw_aload_n (pc := 1175) B dL_law_1175 rfl 2 rfl ?_
        refine kw_aload_n (pc := 1176) B dL_law_1176 rfl 0 rfl ?_
        refine kw_iload_n (pc := 1177) B dL_law_1177 rfl 3 rfl ?_
        refine kw_iconst (pc := 1178) B dL_law_1178 (v := (1 : Int32)) rfl ?_
        refine kw_iadd (pc := 1179) B dL_law_1179 ?_
        refine kw_iald (pc := 1180) B dL_law_1180 (fun i114 => ?_)
        refine kw_i2c (pc := 1181) B dL_law_1181 ?_
        refine kw_callV (pc := 1182) B dL_law_1182 (ci := 3) rfl (ct_X3_append x2 ((i114.toUInt32 % 65536).toInt32)) q2722 q2723 q2724 q81 q2725 ⟨by decide, by decide, rfl⟩ (As := [kI ((i114.toUInt32 % 65536).toInt32)]) rfl (st := [kI i113]) rfl (Nat.le_of_ble_eq_true rfl) (by decide) (by decide) kw_qI (fun i115 => ?_)
        refine kw_icmp_eq (pc := 1185) (tgt := 1304) B dL_law_1185 rfl ?_ ?_
        · exact kw_pick [0, 1, 2, 3] rfl (wb_L_law_1304 B ih x0 x1 x2 x3)
        · refine kw_iconst (pc := 1188) B dL_law_1188 (v := (0 : Int32)) rfl ?_
          exact kw_zret B dL_law_1189 (g := fun v => v) (fun _ => rfl)
      · refine kw_aload_n (pc := 1190) B dL_law_1190 rfl 1 rfl ?_
        refine kw_callVW (pc := 1191) B dL_law_1191 (ci := 0) rfl (ct_X0_read x1) q2169 q2170 q2171 q73 q2172 ⟨by decide, by decide, rfl⟩ (As := []) rfl (st := []) rfl (Nat.le_of_ble_eq_true rfl) (by decide) (by decide) kw_qI (fun i116 => ?_)
        refine kw_aload_n (pc := 1194) B dL_law_1194 rfl 2 rfl ?_
        refine kw_callV (pc := 1195) B dL_law_1195 (ci := 3) rfl (ct_X3_read x2) q2726 q2727 q2728 q81 q2729 ⟨by decide, by decide, rfl⟩ (As := []) rfl (st := [kI i116]) rfl (Nat.le_of_ble_eq_true rfl) (by decide) (by decide) kw_qI (fun i117 => ?_)
        refine kw_icmp_eq (pc := 1198) (tgt := 1304) B dL_law_1198 rfl ?_ ?_
        · exact kw_pick [0, 1, 2, 3] rfl (wb_L_law_1304 B ih x0 x1 x2 x3)
        · refine kw_iconst (pc := 1201) B dL_law_1201 (v := (0 : Int32)) rfl ?_
          exact kw_zret B dL_law_1202 (g := fun v => v) (fun _ => rfl)
      · refine kw_aload_n (pc := 1203) B dL_law_1203 rfl 1 rfl ?_
        refine kw_callV (pc := 1204) B dL_law_1204 (ci := 0) rfl (ct_X0_fault x1) q2289 q2290 q2291 q73 q2292 ⟨by decide, by decide, rfl⟩ (As := []) rfl (st := []) rfl (Nat.le_of_ble_eq_true rfl) (by decide) (by decide) kw_qI (fun i118 => ?_)
        refine kw_aload_n (pc := 1207) B dL_law_1207 rfl 2 rfl ?_
        refine kw_callV (pc := 1208) B dL_law_1208 (ci := 3) rfl (ct_X3_fault x2) q2763 q2764 q2765 q81 q2766 ⟨by decide, by decide, rfl⟩ (As := []) rfl (st := [kI i118]) rfl (Nat.le_of_ble_eq_true rfl) (by decide) (by decide) kw_qI (fun i119 => ?_)
        refine kw_icmp_eq (pc := 1211) (tgt := 1304) B dL_law_1211 rfl ?_ ?_
        · exact kw_pick [0, 1, 2, 3] rfl (wb_L_law_1304 B ih x0 x1 x2 x3)
        · refine kw_iconst (pc := 1214) B dL_law_1214 (v := (0 : Int32)) rfl ?_
          exact kw_zret B dL_law_1215 (g := fun v => v) (fun _ => rfl)
      · refine kw_aload_n (pc := 1216) B dL_law_1216 rfl 1 rfl ?_
        refine kw_aload_n (pc := 1217) B dL_law_1217 rfl 0 rfl ?_
        refine kw_iload_n (pc := 1218) B dL_law_1218 rfl 3 rfl ?_
        refine kw_iconst (pc := 1219) B dL_law_1219 (v := (1 : Int32)) rfl ?_
        refine kw_iadd (pc := 1220) B dL_law_1220 ?_
        refine kw_iald (pc := 1221) B dL_law_1221 (fun i120 => ?_)
        refine kw_aload_n (pc := 1222) B dL_law_1222 rfl 0 rfl ?_
        refine kw_iload_n (pc := 1223) B dL_law_1223 rfl 3 rfl ?_
        refine kw_iconst (pc := 1224) B dL_law_1224 (v := (2 : Int32)) rfl ?_
        refine kw_iadd (pc := 1225) B dL_law_1225 ?_
        refine kw_iald (pc := 1226) B dL_law_1226 (fun i121 => ?_)
        refine kw_if_eq (pc := 1227) (tgt := 1234) B dL_law_1227 rfl ?_ ?_
        · refine kw_iconst (pc := 1234) B dL_law_1234 (v := (0 : Int32)) rfl ?_
          exact kw_pick [0, 1, 2, 3] rfl (wb_L_law_1235 B ih x0 x1 x2 x3 (0 : Int32) i120 x1)
        · refine kw_iconst (pc := 1230) B dL_law_1230 (v := (1 : Int32)) rfl ?_
          refine kw_goto (pc := 1231) (tgt := 1235) B dL_law_1231 rfl ?_
          exact kw_pick [0, 1, 2, 3] rfl (wb_L_law_1235 B ih x0 x1 x2 x3 (1 : Int32) i120 x1)
      · refine kw_aload_n (pc := 1265) B dL_law_1265 rfl 1 rfl ?_
        refine kw_callV (pc := 1266) B dL_law_1266 (ci := 0) rfl (ct_X0_undo x1) q2309 q2310 q2311 q73 q2312 ⟨by decide, by decide, rfl⟩ (As := []) rfl (st := []) rfl (Nat.le_of_ble_eq_true rfl) (by decide) (by decide) kw_qI (fun i122 => ?_)
        refine kw_aload_n (pc := 1269) B dL_law_1269 rfl 2 rfl ?_
        refine kw_callV (pc := 1270) B dL_law_1270 (ci := 3) rfl (ct_X3_undo x2) q2771 q2772 q2773 q81 q2774 ⟨by decide, by decide, rfl⟩ (As := []) rfl (st := [kI i122]) rfl (Nat.le_of_ble_eq_true rfl) (by decide) (by decide) kw_qI (fun i123 => ?_)
        refine kw_icmp_eq (pc := 1273) (tgt := 1304) B dL_law_1273 rfl ?_ ?_
        · exact kw_pick [0, 1, 2, 3] rfl (wb_L_law_1304 B ih x0 x1 x2 x3)
        · refine kw_iconst (pc := 1276) B dL_law_1276 (v := (0 : Int32)) rfl ?_
          exact kw_zret B dL_law_1277 (g := fun v => v) (fun _ => rfl)
      · refine kw_aload_n (pc := 1278) B dL_law_1278 rfl 1 rfl ?_
        refine kw_callV (pc := 1279) B dL_law_1279 (ci := 0) rfl (ct_X0_save x1) q2325 q2326 q2327 q73 q2328 ⟨by decide, by decide, rfl⟩ (As := []) rfl (st := []) rfl (Nat.le_of_ble_eq_true rfl) (by decide) (by decide) kw_qI (fun i124 => ?_)
        refine kw_aload_n (pc := 1282) B dL_law_1282 rfl 2 rfl ?_
        refine kw_callV (pc := 1283) B dL_law_1283 (ci := 3) rfl (ct_X3_save x2) q2775 q2776 q2777 q81 q2778 ⟨by decide, by decide, rfl⟩ (As := []) rfl (st := [kI i124]) rfl (Nat.le_of_ble_eq_true rfl) (by decide) (by decide) kw_qI (fun i125 => ?_)
        refine kw_icmp_eq (pc := 1286) (tgt := 1304) B dL_law_1286 rfl ?_ ?_
        · exact kw_pick [0, 1, 2, 3] rfl (wb_L_law_1304 B ih x0 x1 x2 x3)
        · refine kw_iconst (pc := 1289) B dL_law_1289 (v := (0 : Int32)) rfl ?_
          exact kw_zret B dL_law_1290 (g := fun v => v) (fun _ => rfl)
      · refine kw_aload_n (pc := 1291) B dL_law_1291 rfl 1 rfl ?_
        refine kw_callV (pc := 1292) B dL_law_1292 (ci := 0) rfl (ct_X0_restore x1) q2330 q2331 q2332 q73 q2333 ⟨by decide, by decide, rfl⟩ (As := []) rfl (st := []) rfl (Nat.le_of_ble_eq_true rfl) (by decide) (by decide) kw_qI (fun i126 => ?_)
        refine kw_aload_n (pc := 1295) B dL_law_1295 rfl 2 rfl ?_
        refine kw_callV (pc := 1296) B dL_law_1296 (ci := 3) rfl (ct_X3_restore x2) q2779 q2780 q2781 q81 q2782 ⟨by decide, by decide, rfl⟩ (As := []) rfl (st := [kI i126]) rfl (Nat.le_of_ble_eq_true rfl) (by decide) (by decide) kw_qI (fun i127 => ?_)
        refine kw_icmp_eq (pc := 1299) (tgt := 1304) B dL_law_1299 rfl ?_ ?_
        · exact kw_pick [0, 1, 2, 3] rfl (wb_L_law_1304 B ih x0 x1 x2 x3)
        · refine kw_iconst (pc := 1302) B dL_law_1302 (v := (0 : Int32)) rfl ?_
          exact kw_zret B dL_law_1303 (g := fun v => v) (fun _ => rfl)
      · exact kw_pick [0, 1, 2, 3] rfl (wb_L_law_1304 B ih x0 x1 x2 x3)
theorem wm_L_law {E : kw_E} (B : kw_ok E cL_law R_law "law" 8 (some .boolean) 8192 100000 []) (a0 : Option Nat) : kw_W E kw_eI 0 [(0, kA a0)] [] (pm_L_law a0) := by
  unfold pm_L_law
  refine kw_new (pc := 0) B dL_law_0 (ci := 0) (N := 8) rfl in_X0 tyX0_ok kz_RC_ok q132 q133 q73 (fun r1 => ?_)
  refine kw_dup (pc := 3) B dL_law_3 rfl ?_
  refine kw_callI (pc := 4) B dL_law_4 (ct_X0_init r1) q134 q135 q73 q136 rfl ⟨by decide, by decide, rfl⟩ (As := []) rfl (st := [kA r1]) rfl (Nat.le_of_ble_eq_true rfl) (by decide) (by decide) kw_qV (fun _ => ?_)
  refine kw_astore_n (pc := 7) B dL_law_7 rfl (by decide) (L2 := [(1, kA r1), (0, kA a0)]) rfl ?_
  refine kw_new (pc := 8) B dL_law_8 (ci := 3) (N := 18) rfl in_X3 tyX3_ok kz_Model_ok q2341 q2342 q81 (fun r2 => ?_)
  refine kw_dup (pc := 11) B dL_law_11 rfl ?_
  refine kw_callI (pc := 12) B dL_law_12 (ct_X3_init r2) q2343 q2344 q81 q2345 rfl ⟨by decide, by decide, rfl⟩ (As := []) rfl (st := [kA r2]) rfl (Nat.le_of_ble_eq_true rfl) (by decide) (by decide) kw_qV (fun _ => ?_)
  refine kw_astore_n (pc := 15) B dL_law_15 rfl (by decide) (L2 := [(2, kA r2), (1, kA r1), (0, kA a0)]) rfl ?_
  refine kw_iconst (pc := 16) B dL_law_16 (v := (0 : Int32)) rfl ?_
  refine kw_istore_n (pc := 17) B dL_law_17 rfl (by decide) (L2 := [(3, kI (0 : Int32)), (2, kA r2), (1, kA r1), (0, kA a0)]) rfl ?_
  exact kw_pick [3, 2, 1, 0] rfl (wb_L_law_18 B km_fuel a0 r1 r2 (0 : Int32))
