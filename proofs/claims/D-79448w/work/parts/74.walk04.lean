set_option maxRecDepth 100000
/-! RosaryCarvers$Shop wanted (LRosaryCarvers$Pilgrim;)I -/
theorem fl_X1_243 : kw_flN RX1 243 "RosaryCarvers$Rosary" "RosaryCarvers" [(7, 1)] := (kw_flN_c (C := RX8) (T := TX8) (N := 4) rfl (by decide) in_X8 q726 (Or.inl rfl) kw_flN_nil)
theorem fl_X1_246 : kw_flN RX1 246 "RosaryCarvers$Pilgrim" "RosaryCarvers" [(9, 1)] := (kw_flN_c (C := RX10) (T := TX10) (N := 4) rfl (by decide) in_X10 q840 (Or.inl rfl) kw_flN_nil)
theorem fl_X1_250 : kw_flN RX1 250 "RosaryCarvers$Pilgrim" "RosaryCarvers" [(9, 2)] := (kw_flN_c (C := RX10) (T := TX10) (N := 4) rfl (by decide) in_X10 q843 (Or.inl rfl) kw_flN_nil)
theorem wb_X1_wanted_103 {E : kw_E} (B : kw_ok E cX1_wanted RX1 "wanted" 5 (some .int) 10 191 []) {k5 : Option Nat → Option Nat → Int32 → Int32 → km_M Int32} (h5 : ∀ (y0 : Option Nat) (y1 : Option Nat) (y2 : Int32) (y3 : Int32), kw_W E kw_eI 5 [(0, kA y0), (1, kA y1), (2, kI y2), (3, kI y3)] [] (k5 y0 y1 y2 y3)) (x0 : Option Nat) (x1 : Option Nat) (x2 : Int32) (x3 : Int32) : kw_W E kw_eI 103 [(0, kA x0), (1, kA x1), (2, kI x2), (3, kI x3)] [] (pb_X1_wanted_103 k5 x0 x1 x2 x3) := by
  unfold pb_X1_wanted_103
  refine kw_iinc (pc := 103) B dX1_wanted_103 3 rfl (w := x3 + (1 : Int32)) rfl (by decide) (L2 := [(3, kI (x3 + (1 : Int32))), (0, kA x0), (1, kA x1), (2, kI x2)]) rfl ?_
  refine kw_goto (pc := 106) (tgt := 5) B dX1_wanted_106 rfl ?_
  exact kw_pick [1, 2, 3, 0] rfl (h5 x0 x1 x2 (x3 + (1 : Int32)))
theorem wb_X1_wanted_101 {E : kw_E} (B : kw_ok E cX1_wanted RX1 "wanted" 5 (some .int) 10 191 []) {k5 : Option Nat → Option Nat → Int32 → Int32 → km_M Int32} (h5 : ∀ (y0 : Option Nat) (y1 : Option Nat) (y2 : Int32) (y3 : Int32), kw_W E kw_eI 5 [(0, kA y0), (1, kA y1), (2, kI y2), (3, kI y3)] [] (k5 y0 y1 y2 y3)) (x0 : Option Nat) (x1 : Option Nat) (x3 : Int32) : kw_W E kw_eI 101 [(0, kA x0), (1, kA x1), (3, kI x3)] [] (pb_X1_wanted_101 k5 x0 x1 x3) := by
  unfold pb_X1_wanted_101
  refine kw_iload_n (pc := 101) B dX1_wanted_101 rfl 2 rfl ?_
  refine kw_istore_n (pc := 102) B dX1_wanted_102 rfl (by decide) (L2 := [(2, kI x3), (0, kA x0), (1, kA x1), (3, kI x3)]) rfl ?_
  exact kw_pick [1, 2, 0, 3] rfl (wb_X1_wanted_103 B h5 x0 x1 x3 x3)
theorem wb_X1_wanted_5 {E : kw_E} (B : kw_ok E cX1_wanted RX1 "wanted" 5 (some .int) 10 191 [])  : ∀ (n : Nat) (x0 : Option Nat) (x1 : Option Nat) (x2 : Int32) (x3 : Int32), kw_W E kw_eI 5 [(0, kA x0), (1, kA x1), (2, kI x2), (3, kI x3)] [] (pb_X1_wanted_5  n x0 x1 x2 x3) := by
  intro n
  induction n with
  | zero =>
    intro x0 x1 x2 x3
    exact kw_fail_ok
  | succ n ih =>
    intro x0 x1 x2 x3
    show kw_W E kw_eI 5 [(0, kA x0), (1, kA x1), (2, kI x2), (3, kI x3)] [] (
km_bind (km_gR [(1, 3)] x0) fun r1 =>
km_bind (km_is 30 r1) fun _ => km_bind (pm_J2_size r1) fun i2 =>
if i2 ≤ x3 then
(km_pure x2)
else
(km_bind (km_gR [(1, 5)] x0) fun r3 =>
km_bind (km_is 30 r3) fun _ => km_bind (pm_J2_size r3) fun i4 =>
if (8 : Int32) ≤ i4 then
(km_pure x2)
else
(km_bind (km_gR [(1, 3)] x0) fun r5 =>
km_bind (km_is 30 r5) fun _ => km_bind (pm_J2_get r5 x3) fun r6 =>
km_bind (km_cast [7] r6) fun _ =>
km_bind (km_is 7 r6) fun _ => km_bind (pm_X8_isDone r6) fun i7 =>
if i7 = 0 then
(pb_X1_wanted_103 (pb_X1_wanted_5 n) x0 x1 x2 x3)
else
(km_bind (km_gI [(7, 1)] r6) fun i8 =>
km_bind (km_gI [(9, 1)] x1) fun i9 =>
if ¬ i8 = i9 then
(pb_X1_wanted_103 (pb_X1_wanted_5 n) x0 x1 x2 x3)
else
(km_bind (km_is 7 r6) fun _ => km_bind (pm_X2_fineness r6) fun i10 =>
km_bind (km_gI [(9, 2)] x1) fun i11 =>
if i10 < i11 then
(pb_X1_wanted_103 (pb_X1_wanted_5 n) x0 x1 x2 x3)
else
(if x2 = (-6 : Int32) then
(pb_X1_wanted_101 (pb_X1_wanted_5 n) x0 x1 x3)
else
(km_bind (km_is 7 r6) fun _ => km_bind (pm_X2_fineness r6) fun i12 =>
km_bind (km_gR [(1, 3)] x0) fun r13 =>
km_bind (km_is 30 r13) fun _ => km_bind (pm_J2_get r13 x2) fun r14 =>
km_bind (km_cast [7] r14) fun _ =>
km_bind (km_is 7 r14) fun _ => km_bind (pm_X2_fineness r14) fun i15 =>
if i15 ≤ i12 then
(pb_X1_wanted_103 (pb_X1_wanted_5 n) x0 x1 x2 x3)
else
(pb_X1_wanted_101 (pb_X1_wanted_5 n) x0 x1 x3))))))))
    refine kw_iload_n (pc := 5) B dX1_wanted_5 rfl 3 rfl ?_
    refine kw_aload_n (pc := 6) B dX1_wanted_6 rfl 0 rfl ?_
    refine kw_gR (pc := 7) B dX1_wanted_7 fl_X1_28 (fun r1 => ?_)
    refine kw_callV (pc := 10) B dX1_wanted_10 (ci := 30) rfl (ct_J2_size r1) q792 q406 q407 q77 q408 ⟨by decide, by decide, rfl⟩ (As := []) rfl (st := [kI x3]) rfl (Nat.le_of_ble_eq_true rfl) (by decide) (by decide) kw_qI (fun i2 => ?_)
    refine kw_icmp_ge (pc := 13) (tgt := 109) B dX1_wanted_13 rfl ?_ ?_
    · refine kw_iload_n (pc := 109) B dX1_wanted_109 rfl 2 rfl ?_
      exact kw_iret B dX1_wanted_110 rfl
    · refine kw_aload_n (pc := 16) B dX1_wanted_16 rfl 0 rfl ?_
      refine kw_gR (pc := 17) B dX1_wanted_17 fl_X1_34 (fun r3 => ?_)
      refine kw_callV (pc := 20) B dX1_wanted_20 (ci := 30) rfl (ct_J2_size r3) q792 q406 q407 q77 q408 ⟨by decide, by decide, rfl⟩ (As := []) rfl (st := []) rfl (Nat.le_of_ble_eq_true rfl) (by decide) (by decide) kw_qI (fun i4 => ?_)
      refine kw_bipush (pc := 23) B dX1_wanted_23 (v := (8 : Int32)) rfl ?_
      refine kw_icmp_ge (pc := 25) (tgt := 109) B dX1_wanted_25 rfl ?_ ?_
      · refine kw_iload_n (pc := 109) B dX1_wanted_109 rfl 2 rfl ?_
        exact kw_iret B dX1_wanted_110 rfl
      · refine kw_aload_n (pc := 28) B dX1_wanted_28 rfl 0 rfl ?_
        refine kw_gR (pc := 29) B dX1_wanted_29 fl_X1_28 (fun r5 => ?_)
        refine kw_iload_n (pc := 32) B dX1_wanted_32 rfl 3 rfl ?_
        refine kw_callV (pc := 33) B dX1_wanted_33 (ci := 30) rfl (ct_J2_get r5 x3) q868 q503 q504 q77 q505 ⟨by decide, by decide, rfl⟩ (As := [kI x3]) rfl (st := []) rfl (Nat.le_of_ble_eq_true rfl) (by decide) (by decide) kw_qA (fun r6 => ?_)
        refine kw_cast_ok (pc := 36) B dX1_wanted_36 q716 cs_RosaryCarvers_Rosary ?_
        refine kw_astore (pc := 39) B dX1_wanted_39 (by decide) (L2 := [(4, kA r6), (0, kA x0), (1, kA x1), (2, kI x2), (3, kI x3)]) rfl ?_
        refine kw_aload (pc := 41) B dX1_wanted_41 0 rfl ?_
        refine kw_callV (pc := 43) B dX1_wanted_43 (ci := 7) rfl (ct_X8_isDone r6) q1013 q1014 q1015 q97 q1016 ⟨by decide, by decide, rfl⟩ (As := []) rfl (st := []) rfl (Nat.le_of_ble_eq_true rfl) (by decide) (by decide) kw_qI (fun i7 => ?_)
        refine kw_if_eq (pc := 46) (tgt := 103) B dX1_wanted_46 rfl ?_ ?_
        · exact kw_pick [1, 2, 3, 4] rfl (wb_X1_wanted_103 B ih x0 x1 x2 x3)
        · refine kw_aload (pc := 49) B dX1_wanted_49 0 rfl ?_
          refine kw_gIN (pc := 51) B dX1_wanted_51 fl_X1_243 (fun i8 => ?_)
          refine kw_aload_n (pc := 54) B dX1_wanted_54 rfl 2 rfl ?_
          refine kw_gIN (pc := 55) B dX1_wanted_55 fl_X1_246 (fun i9 => ?_)
          refine kw_icmp_ne (pc := 58) (tgt := 103) B dX1_wanted_58 rfl ?_ ?_
          · exact kw_pick [1, 2, 3, 4] rfl (wb_X1_wanted_103 B ih x0 x1 x2 x3)
          · refine kw_aload (pc := 61) B dX1_wanted_61 0 rfl ?_
            refine kw_callU (pc := 63) B dX1_wanted_63 (x0 := ⟨"RosaryCarvers$Rosary", "fineness", "()I"⟩) (owner := "RosaryCarvers$Beads") (ci := 7) rfl (ct_X2_fineness r6) q1258 q1259 q1260 q1135 q78 q1136 rfl ⟨by decide, by decide, rfl⟩ (As := []) rfl (st := []) rfl (Nat.le_of_ble_eq_true rfl) (by decide) (by decide) kw_qI (fun i10 => ?_)
            refine kw_aload_n (pc := 66) B dX1_wanted_66 rfl 2 rfl ?_
            refine kw_gIN (pc := 67) B dX1_wanted_67 fl_X1_250 (fun i11 => ?_)
            refine kw_icmp_lt (pc := 70) (tgt := 103) B dX1_wanted_70 rfl ?_ ?_
            · exact kw_pick [1, 2, 3, 4] rfl (wb_X1_wanted_103 B ih x0 x1 x2 x3)
            · refine kw_iload_n (pc := 73) B dX1_wanted_73 rfl 3 rfl ?_
              refine kw_bipush (pc := 74) B dX1_wanted_74 (v := (-6 : Int32)) rfl ?_
              refine kw_icmp_eq (pc := 76) (tgt := 101) B dX1_wanted_76 rfl ?_ ?_
              · exact kw_pick [1, 2, 4] rfl (wb_X1_wanted_101 B ih x0 x1 x3)
              · refine kw_aload (pc := 79) B dX1_wanted_79 0 rfl ?_
                refine kw_callU (pc := 81) B dX1_wanted_81 (x0 := ⟨"RosaryCarvers$Rosary", "fineness", "()I"⟩) (owner := "RosaryCarvers$Beads") (ci := 7) rfl (ct_X2_fineness r6) q1258 q1259 q1260 q1135 q78 q1136 rfl ⟨by decide, by decide, rfl⟩ (As := []) rfl (st := []) rfl (Nat.le_of_ble_eq_true rfl) (by decide) (by decide) kw_qI (fun i12 => ?_)
                refine kw_aload_n (pc := 84) B dX1_wanted_84 rfl 1 rfl ?_
                refine kw_gR (pc := 85) B dX1_wanted_85 fl_X1_28 (fun r13 => ?_)
                refine kw_iload_n (pc := 88) B dX1_wanted_88 rfl 3 rfl ?_
                refine kw_callV (pc := 89) B dX1_wanted_89 (ci := 30) rfl (ct_J2_get r13 x2) q868 q503 q504 q77 q505 ⟨by decide, by decide, rfl⟩ (As := [kI x2]) rfl (st := [kI i12]) rfl (Nat.le_of_ble_eq_true rfl) (by decide) (by decide) kw_qA (fun r14 => ?_)
                refine kw_cast_ok (pc := 92) B dX1_wanted_92 q716 cs_RosaryCarvers_Rosary ?_
                refine kw_callU (pc := 95) B dX1_wanted_95 (x0 := ⟨"RosaryCarvers$Rosary", "fineness", "()I"⟩) (owner := "RosaryCarvers$Beads") (ci := 7) rfl (ct_X2_fineness r14) q1258 q1259 q1260 q1135 q78 q1136 rfl ⟨by decide, by decide, rfl⟩ (As := []) rfl (st := [kI i12]) rfl (Nat.le_of_ble_eq_true rfl) (by decide) (by decide) kw_qI (fun i15 => ?_)
                refine kw_icmp_ge (pc := 98) (tgt := 103) B dX1_wanted_98 rfl ?_ ?_
                · exact kw_pick [1, 2, 3, 4] rfl (wb_X1_wanted_103 B ih x0 x1 x2 x3)
                · exact kw_pick [1, 2, 4] rfl (wb_X1_wanted_101 B ih x0 x1 x3)
theorem wm_X1_wanted {E : kw_E} (B : kw_ok E cX1_wanted RX1 "wanted" 5 (some .int) 10 191 []) (a0 : Option Nat) (a1 : Option Nat) : kw_W E kw_eI 0 [(0, kA a0), (1, kA a1)] [] (pm_X1_wanted a0 a1) := by
  unfold pm_X1_wanted
  refine kw_bipush (pc := 0) B dX1_wanted_0 (v := (-6 : Int32)) rfl ?_
  refine kw_istore_n (pc := 2) B dX1_wanted_2 rfl (by decide) (L2 := [(2, kI (-6 : Int32)), (0, kA a0), (1, kA a1)]) rfl ?_
  refine kw_iconst (pc := 3) B dX1_wanted_3 (v := (0 : Int32)) rfl ?_
  refine kw_istore_n (pc := 4) B dX1_wanted_4 rfl (by decide) (L2 := [(3, kI (0 : Int32)), (2, kI (-6 : Int32)), (0, kA a0), (1, kA a1)]) rfl ?_
  exact kw_pick [2, 3, 1, 0] rfl (wb_X1_wanted_5 B km_fuel a0 a1 (-6 : Int32) (0 : Int32))
theorem ct_X1_wanted (a0 : Option Nat) (a1 : Option Nat) (l : Launch) : kw_Met l yX1_wanted (ws_ yX1_wanted cX1_wanted 5 (some .int)) 10 191 [kA a0, kA a1] kw_eI (pm_X1_wanted a0 a1) := kw_met (plainFor_of_name rfl) (Nat.le_of_ble_eq_true rfl) (fun E B => wm_X1_wanted B a0 a1) l

/-! RosaryCarvers$Sold <init> (LRosaryCarvers$Beads;I)V -/

theorem wm_X14_init_2 {E : kw_E} (B : kw_ok E cX14_init_2 RX14 "<init>" 3 none 6 157 []) (a0 : Option Nat) (a1 : Option Nat) (a2 : Int32) : kw_W E kw_eV 0 [(0, kA a0), (1, kA a1), (2, kI a2)] [] (pm_X14_init_2 a0 a1 a2) := by
  unfold pm_X14_init_2
  refine kw_aload_n (pc := 0) B dX14_init_2_0 rfl 0 rfl ?_
  refine kw_callIN (pc := 1) B dX14_init_2_1 (ct_X2_init a0) q1232 q178 q78 q179 rfl ⟨by decide, by decide, rfl⟩ (As := []) rfl (st := []) rfl (Nat.le_of_ble_eq_true rfl) (by decide) (by decide) kw_qV (fun _ => ?_)
  refine kw_aload_n (pc := 4) B dX14_init_2_4 rfl 0 rfl ?_
  refine kw_iload_n (pc := 5) B dX14_init_2_5 rfl 2 rfl ?_
  refine kw_pI (pc := 6) B dX14_init_2_6 fl_X14_7 fp_X14_7 (fun _ => rfl) ?_
  refine kw_aload_n (pc := 9) B dX14_init_2_9 rfl 0 rfl ?_
  refine kw_null (pc := 10) B dX14_init_2_10 ?_
  refine kw_pR (pc := 11) B dX14_init_2_11 fl_X14_13 fp_X14_13 (fun _ => rfl) rfl ?_
  refine kw_aload_n (pc := 14) B dX14_init_2_14 rfl 0 rfl ?_
  refine kw_aload_n (pc := 15) B dX14_init_2_15 rfl 1 rfl ?_
  refine kw_callU (pc := 16) B dX14_init_2_16 (x0 := ⟨"RosaryCarvers$Sold", "becomes", "(LRosaryCarvers$Beads;)V"⟩) (owner := "RosaryCarvers$Beads") (ci := 12) rfl (ct_X2_becomes a0 a1) q1233 q1234 q1235 q680 q78 q685 rfl ⟨by decide, by decide, rfl⟩ (As := [kA a1]) rfl (st := []) rfl (Nat.le_of_ble_eq_true rfl) (by decide) (by decide) kw_qV (fun _ => ?_)
  exact kw_vret B dX14_init_2_19 rfl
theorem ct_X14_init_2 (a0 : Option Nat) (a1 : Option Nat) (a2 : Int32) (l : Launch) : kw_Met l yX14_init_2 (ws_ yX14_init_2 cX14_init_2 3 none) 6 157 [kA a0, kA a1, kI a2] kw_eV (pm_X14_init_2 a0 a1 a2) := kw_met (plainFor_of_name rfl) (Nat.le_of_ble_eq_true rfl) (fun E B => wm_X14_init_2 B a0 a1 a2) l

/-! RosaryCarvers$Shop buys (LRosaryCarvers$Pilgrim;)Z -/
theorem cs_RosaryCarvers_Beads : kw_cs "RosaryCarvers$Beads" [2, 7, 12] := by
  intro c hc
  simp only [List.mem_cons, List.not_mem_nil, or_false] at hc
  rcases hc with rfl | rfl | rfl
  · exact ⟨_, rfl, Or.inl rfl⟩
  · exact ⟨_, rfl, Or.inr q2805⟩
  · exact ⟨_, rfl, Or.inr q2806⟩
theorem fl_X1_264 : kw_flN RX1 264 "RosaryCarvers$Pilgrim" "RosaryCarvers" [(9, 3)] := (kw_flN_c (C := RX10) (T := TX10) (N := 4) rfl (by decide) in_X10 q846 (Or.inl rfl) kw_flN_nil)
theorem wm_X1_buys {E : kw_E} (B : kw_ok E cX1_buys RX1 "buys" 3 (some .boolean) 11 215 []) (a0 : Option Nat) (a1 : Option Nat) : kw_W E kw_eI 0 [(0, kA a0), (1, kA a1)] [] (pm_X1_buys a0 a1) := by
  unfold pm_X1_buys
  refine kw_aload_n (pc := 0) B dX1_buys_0 rfl 0 rfl ?_
  refine kw_aload_n (pc := 1) B dX1_buys_1 rfl 1 rfl ?_
  refine kw_callV (pc := 2) B dX1_buys_2 (ci := 1) rfl (ct_X1_wanted a0 a1) q1254 q1255 q1256 q74 q1257 ⟨by decide, by decide, rfl⟩ (As := [kA a1]) rfl (st := []) rfl (Nat.le_of_ble_eq_true rfl) (by decide) (by decide) kw_qI (fun i1 => ?_)
  refine kw_istore_n (pc := 5) B dX1_buys_5 rfl (by decide) (L2 := [(2, kI i1), (0, kA a0), (1, kA a1)]) rfl ?_
  refine kw_iload_n (pc := 6) B dX1_buys_6 rfl 0 rfl ?_
  refine kw_bipush (pc := 7) B dX1_buys_7 (v := (-6 : Int32)) rfl ?_
  refine kw_icmp_ne (pc := 9) (tgt := 14) B dX1_buys_9 rfl ?_ ?_
  · refine kw_aload_n (pc := 14) B dX1_buys_14 rfl 1 rfl ?_
    refine kw_gR (pc := 15) B dX1_buys_15 fl_X1_34 (fun r2 => ?_)
    refine kw_new (pc := 18) B dX1_buys_18 (ci := 12) (N := 3) rfl in_X14 tyX14_ok kz_Sold_ok q869 q1228 q108 (fun r3 => ?_)
    refine kw_dup (pc := 21) B dX1_buys_21 rfl ?_
    refine kw_aload_n (pc := 22) B dX1_buys_22 rfl 1 rfl ?_
    refine kw_gR (pc := 23) B dX1_buys_23 fl_X1_28 (fun r4 => ?_)
    refine kw_iload_n (pc := 26) B dX1_buys_26 rfl 0 rfl ?_
    refine kw_callV (pc := 27) B dX1_buys_27 (ci := 30) rfl (ct_J2_remove_2 r4 i1) q1087 q1088 q1089 q77 q1090 ⟨by decide, by decide, rfl⟩ (As := [kI i1]) rfl (st := [kA r3, kA r3, kA r2]) rfl (Nat.le_of_ble_eq_true rfl) (by decide) (by decide) kw_qA (fun r5 => ?_)
    refine kw_cast_ok (pc := 30) B dX1_buys_30 q175 cs_RosaryCarvers_Beads ?_
    refine kw_aload_n (pc := 33) B dX1_buys_33 rfl 1 rfl ?_
    refine kw_gI (pc := 34) B dX1_buys_34 fl_X1_92 (fun i6 => ?_)
    refine kw_callI (pc := 37) B dX1_buys_37 (ct_X14_init_2 r3 r5 i6) q1261 q1262 q108 q1263 rfl ⟨by decide, by decide, rfl⟩ (As := [kA r5, kI i6]) rfl (st := [kA r3, kA r2]) rfl (Nat.le_of_ble_eq_true rfl) (by decide) (by decide) kw_qV (fun _ => ?_)
    refine kw_callV (pc := 40) B dX1_buys_40 (ci := 30) rfl (ct_J2_add r2 r3) q572 q573 q574 q77 q575 ⟨by decide, by decide, rfl⟩ (As := [kA r3]) rfl (st := []) rfl (Nat.le_of_ble_eq_true rfl) (by decide) (by decide) kw_qI (fun i7 => ?_)
    refine kw_pop (pc := 43) B dX1_buys_43 rfl ?_
    refine kw_aload_n (pc := 44) B dX1_buys_44 rfl 1 rfl ?_
    refine kw_dup (pc := 45) B dX1_buys_45 rfl ?_
    refine kw_gI (pc := 46) B dX1_buys_46 fl_X1_111 (fun i8 => ?_)
    refine kw_aload_n (pc := 49) B dX1_buys_49 rfl 2 rfl ?_
    refine kw_gIN (pc := 50) B dX1_buys_50 fl_X1_264 (fun i9 => ?_)
    refine kw_iadd (pc := 53) B dX1_buys_53 ?_
    refine kw_pI (pc := 54) B dX1_buys_54 fl_X1_111 fp_X1_111 (fun h => by cases h) ?_
    refine kw_aload_n (pc := 57) B dX1_buys_57 rfl 1 rfl ?_
    refine kw_dup (pc := 58) B dX1_buys_58 rfl ?_
    refine kw_gI (pc := 59) B dX1_buys_59 fl_X1_105 (fun i11 => ?_)
    refine kw_iconst (pc := 62) B dX1_buys_62 (v := (1 : Int32)) rfl ?_
    refine kw_iadd (pc := 63) B dX1_buys_63 ?_
    refine kw_pI (pc := 64) B dX1_buys_64 fl_X1_105 fp_X1_105 (fun h => by cases h) ?_
    refine kw_iconst (pc := 67) B dX1_buys_67 (v := (1 : Int32)) rfl ?_
    exact kw_zret B dX1_buys_68 (g := fun v => v) (fun _ => rfl)
  · refine kw_iconst (pc := 12) B dX1_buys_12 (v := (0 : Int32)) rfl ?_
    exact kw_zret B dX1_buys_13 (g := fun v => v) (fun _ => rfl)
theorem ct_X1_buys (a0 : Option Nat) (a1 : Option Nat) (l : Launch) : kw_Met l yX1_buys (ws_ yX1_buys cX1_buys 3 (some .boolean)) 11 215 [kA a0, kA a1] kw_eI (pm_X1_buys a0 a1) := kw_met (plainFor_of_name rfl) (Nat.le_of_ble_eq_true rfl) (fun E B => wm_X1_buys B a0 a1) l

/-! RosaryCarvers$Shop goesDay ()I -/
theorem cs_RosaryCarvers_Pilgrim : kw_cs "RosaryCarvers$Pilgrim" [9] := by
  intro c hc
  simp only [List.mem_cons, List.not_mem_nil, or_false] at hc
  rcases hc with rfl
  · exact ⟨_, rfl, Or.inl rfl⟩
theorem fl_X1_298 : kw_flN RX1 298 "RosaryCarvers$Pilgrim" "RosaryCarvers" [(9, 0)] := (kw_flN_c (C := RX10) (T := TX10) (N := 4) rfl (by decide) in_X10 q837 (Or.inl rfl) kw_flN_nil)
theorem wb_X1_goesDay_69 {E : kw_E} (B : kw_ok E cX1_goesDay RX1 "goesDay" 4 (some .int) 12 237 [])  : ∀ (n : Nat) (x0 : Option Nat) (x1 : Int32) (x2 : Option Nat), kw_W E kw_eI 69 [(0, kA x0), (1, kI x1), (2, kA x2)] [] (pb_X1_goesDay_69  n x0 x1 x2) := by
  intro n
  induction n with
  | zero =>
    intro x0 x1 x2
    exact kw_fail_ok
  | succ n ih =>
    intro x0 x1 x2
    show kw_W E kw_eI 69 [(0, kA x0), (1, kI x1), (2, kA x2)] [] (
km_bind (km_disp x2 [(11, pm_X12_hasNext x2), (33, pm_J5_hasNext x2), (34, pm_J15_hasNext x2)]) fun i1 =>
if i1 = 0 then
(km_pure x1)
else
(km_bind (km_disp x2 [(11, pm_X12_next x2), (33, pm_J5_next x2), (34, pm_J15_next x2)]) fun r2 =>
km_bind (km_cast [9] r2) fun _ =>
km_bind (km_gI [(9, 0)] r2) fun i3 =>
km_bind (km_gI [(1, 8)] x0) fun i4 =>
if ¬ i3 = i4 then
(pb_X1_goesDay_69 n x0 x1 x2)
else
(km_bind (km_is 33 x2) fun _ => km_bind (pm_J5_remove x2) fun _ =>
km_bind (km_is 1 x0) fun _ => km_bind (pm_X1_buys x0 r2) fun i5 =>
km_bind (pm_X0_bit i5) fun i6 =>
pb_X1_goesDay_69 n x0 (x1 + i6) x2)))
    refine kw_aload_n (pc := 69) B dX1_goesDay_69 rfl 2 rfl ?_
    refine kw_disp (pc := 70) (pc' := 75) (st := []) kw_hI (fun i1 => ?_) ?_
    · refine kw_if_eq (pc := 75) (tgt := 119) B dX1_goesDay_75 rfl ?_ ?_
      · refine kw_iload_n (pc := 119) B dX1_goesDay_119 rfl 1 rfl ?_
        exact kw_iret B dX1_goesDay_120 rfl
      · refine kw_aload_n (pc := 78) B dX1_goesDay_78 rfl 2 rfl ?_
        refine kw_disp (pc := 79) (pc' := 84) (st := []) kw_hA (fun r2 => ?_) ?_
        · refine kw_cast_ok (pc := 84) B dX1_goesDay_84 q830 cs_RosaryCarvers_Pilgrim ?_
          refine kw_astore_n (pc := 87) B dX1_goesDay_87 rfl (by decide) (L2 := [(3, kA r2), (0, kA x0), (1, kI x1), (2, kA x2)]) rfl ?_
          refine kw_aload_n (pc := 88) B dX1_goesDay_88 rfl 0 rfl ?_
          refine kw_gIN (pc := 89) B dX1_goesDay_89 fl_X1_298 (fun i3 => ?_)
          refine kw_aload_n (pc := 92) B dX1_goesDay_92 rfl 1 rfl ?_
          refine kw_gI (pc := 93) B dX1_goesDay_93 fl_X1_92 (fun i4 => ?_)
          refine kw_icmp_ne (pc := 96) (tgt := 116) B dX1_goesDay_96 rfl ?_ ?_
          · refine kw_goto (pc := 116) (tgt := 69) B dX1_goesDay_116 rfl ?_
            exact kw_pick [1, 2, 3] rfl (ih x0 x1 x2)
          · refine kw_aload_n (pc := 99) B dX1_goesDay_99 rfl 3 rfl ?_
            refine kw_callFW (pc := 100) B dX1_goesDay_100 (ci := 33) rfl (ct_J5_remove x2) q1157 q1182 q1184 q84 q1186 q1159 q1158 q1185 q1183 q415 ⟨by decide, by decide, rfl⟩ (As := []) rfl (st := []) rfl (Nat.le_of_ble_eq_true rfl) (by decide) (by decide) kw_qV (fun _ => ?_)
            refine kw_iload_n (pc := 105) B dX1_goesDay_105 rfl 2 rfl ?_
            refine kw_aload_n (pc := 106) B dX1_goesDay_106 rfl 1 rfl ?_
            refine kw_aload_n (pc := 107) B dX1_goesDay_107 rfl 0 rfl ?_
            refine kw_callV (pc := 108) B dX1_goesDay_108 (ci := 1) rfl (ct_X1_buys x0 r2) q1250 q1252 qs14 q74 q1253 ⟨by decide, by decide, rfl⟩ (As := [kA r2]) rfl (st := [kI x1]) rfl (Nat.le_of_ble_eq_true rfl) (by decide) (by decide) kw_qI (fun i5 => ?_)
            refine kw_callSN (pc := 111) B dX1_goesDay_111 (ct_X0_bit i5) q1006 q1007 q73 q1008 ⟨by decide, by decide, rfl⟩ (As := [kI i5]) rfl (st := [kI x1]) rfl (Nat.le_of_ble_eq_true rfl) (by decide) (by decide) kw_qI (fun i6 => ?_)
            refine kw_iadd (pc := 114) B dX1_goesDay_114 ?_
            refine kw_istore_n (pc := 115) B dX1_goesDay_115 rfl (by decide) (L2 := [(1, kI (x1 + i6)), (3, kA r2), (0, kA x0), (2, kA x2)]) rfl ?_
            refine kw_goto (pc := 116) (tgt := 69) B dX1_goesDay_116 rfl ?_
            exact kw_pick [2, 0, 3] rfl (ih x0 (x1 + i6) x2)
        · intro q hq hk
          simp only [List.mem_cons, List.not_mem_nil, or_false] at hq
          rcases hq with rfl | rfl | rfl
          · exact kw_callF (pc := 79) B dX1_goesDay_79 (ci := 11) rfl (ct_X12_next x2) q422 q425 q427 q101 q429 q424 q423 q428 q426 q399 ⟨by decide, by decide, rfl⟩ (As := []) rfl (st := []) rfl (Nat.le_of_ble_eq_true rfl) (by decide) (by decide) kw_qA hk
          · exact kw_callF (pc := 79) B dX1_goesDay_79 (ci := 33) rfl (ct_J5_next x2) q422 q533 q535 q84 q537 q424 q423 q536 q534 q415 ⟨by decide, by decide, rfl⟩ (As := []) rfl (st := []) rfl (Nat.le_of_ble_eq_true rfl) (by decide) (by decide) kw_qA hk
          · exact kw_callF (pc := 79) B dX1_goesDay_79 (ci := 34) rfl (ct_J15_next x2) q422 q522 q524 q102 q526 q424 q423 q525 q523 q409 ⟨by decide, by decide, rfl⟩ (As := []) rfl (st := []) rfl (Nat.le_of_ble_eq_true rfl) (by decide) (by decide) kw_qA hk
    · intro q hq hk
      simp only [List.mem_cons, List.not_mem_nil, or_false] at hq
      rcases hq with rfl | rfl | rfl
      · exact kw_callF (pc := 70) B dX1_goesDay_70 (ci := 11) rfl (ct_X12_hasNext x2) q396 q400 q402 q101 q404 q398 q397 q403 q401 q399 ⟨by decide, by decide, rfl⟩ (As := []) rfl (st := []) rfl (Nat.le_of_ble_eq_true rfl) (by decide) (by decide) kw_qI hk
      · exact kw_callF (pc := 70) B dX1_goesDay_70 (ci := 33) rfl (ct_J5_hasNext x2) q396 q416 q418 q84 q420 q398 q397 q419 q417 q415 ⟨by decide, by decide, rfl⟩ (As := []) rfl (st := []) rfl (Nat.le_of_ble_eq_true rfl) (by decide) (by decide) kw_qI hk
      · exact kw_callF (pc := 70) B dX1_goesDay_70 (ci := 34) rfl (ct_J15_hasNext x2) q396 q410 q412 q102 q414 q398 q397 q413 q411 q409 ⟨by decide, by decide, rfl⟩ (As := []) rfl (st := []) rfl (Nat.le_of_ble_eq_true rfl) (by decide) (by decide) kw_qI hk
theorem wb_X1_goesDay_18 {E : kw_E} (B : kw_ok E cX1_goesDay RX1 "goesDay" 4 (some .int) 12 237 [])  : ∀ (n : Nat) (x0 : Option Nat) (x1 : Option Nat), kw_W E kw_eI 18 [(0, kA x0), (1, kA x1)] [] (pb_X1_goesDay_18  n x0 x1) := by
  intro n
  induction n with
  | zero =>
    intro x0 x1
    exact kw_fail_ok
  | succ n ih =>
    intro x0 x1
    show kw_W E kw_eI 18 [(0, kA x0), (1, kA x1)] [] (
km_bind (km_disp x1 [(11, pm_X12_hasNext x1), (33, pm_J5_hasNext x1), (34, pm_J15_hasNext x1)]) fun i1 =>
if i1 = 0 then
(km_bind (km_is 1 x0) fun _ => km_bind (pm_X1_comeBack x0) fun _ =>
km_bind (km_gR [(1, 4)] x0) fun r2 =>
km_bind (km_is 30 r2) fun _ => km_bind (pm_J2_iterator r2) fun r3 =>
pb_X1_goesDay_69 km_fuel x0 (0 : Int32) r3)
else
(km_bind (km_disp x1 [(11, pm_X12_next x1), (33, pm_J5_next x1), (34, pm_J15_next x1)]) fun r4 =>
km_bind (km_cast [5] r4) fun _ =>
km_bind (km_gI [(5, 1)] r4) fun i5 =>
km_bind (km_pI .int [(5, 1)] r4 (km_max (0 : Int32) (i5 - (30 : Int32)))) fun _ =>
pb_X1_goesDay_18 n x0 x1))
    refine kw_aload_n (pc := 18) B dX1_goesDay_18 rfl 1 rfl ?_
    refine kw_disp (pc := 19) (pc' := 24) (st := []) kw_hI (fun i1 => ?_) ?_
    · refine kw_if_eq (pc := 24) (tgt := 55) B dX1_goesDay_24 rfl ?_ ?_
      · refine kw_aload_n (pc := 55) B dX1_goesDay_55 rfl 0 rfl ?_
        refine kw_callV (pc := 56) B dX1_goesDay_56 (ci := 1) rfl (ct_X1_comeBack x0) q1123 q1125 qs13 q74 q1126 ⟨by decide, by decide, rfl⟩ (As := []) rfl (st := []) rfl (Nat.le_of_ble_eq_true rfl) (by decide) (by decide) kw_qV (fun _ => ?_)
        refine kw_iconst (pc := 59) B dX1_goesDay_59 (v := (0 : Int32)) rfl ?_
        refine kw_istore_n (pc := 60) B dX1_goesDay_60 rfl (by decide) (L2 := [(1, kI (0 : Int32)), (0, kA x0)]) rfl ?_
        refine kw_aload_n (pc := 61) B dX1_goesDay_61 rfl 1 rfl ?_
        refine kw_gR (pc := 62) B dX1_goesDay_62 fl_X1_31 (fun r2 => ?_)
        refine kw_callV (pc := 65) B dX1_goesDay_65 (ci := 30) rfl (ct_J2_iterator r2) q372 q373 q374 q77 q375 ⟨by decide, by decide, rfl⟩ (As := []) rfl (st := []) rfl (Nat.le_of_ble_eq_true rfl) (by decide) (by decide) kw_qA (fun r3 => ?_)
        refine kw_astore_n (pc := 68) B dX1_goesDay_68 rfl (by decide) (L2 := [(2, kA r3), (1, kI (0 : Int32)), (0, kA x0)]) rfl ?_
        exact kw_pick [2, 1, 0] rfl (wb_X1_goesDay_69 B km_fuel x0 (0 : Int32) r3)
      · refine kw_aload_n (pc := 27) B dX1_goesDay_27 rfl 1 rfl ?_
        refine kw_disp (pc := 28) (pc' := 33) (st := []) kw_hA (fun r4 => ?_) ?_
        · refine kw_cast_ok (pc := 33) B dX1_goesDay_33 q542 cs_RosaryCarvers_Carver ?_
          refine kw_astore_n (pc := 36) B dX1_goesDay_36 rfl (by decide) (L2 := [(2, kA r4), (0, kA x0), (1, kA x1)]) rfl ?_
          refine kw_aload_n (pc := 37) B dX1_goesDay_37 rfl 0 rfl ?_
          refine kw_iconst (pc := 38) B dX1_goesDay_38 (v := (0 : Int32)) rfl ?_
          refine kw_aload_n (pc := 39) B dX1_goesDay_39 rfl 0 rfl ?_
          refine kw_gIN (pc := 40) B dX1_goesDay_40 fl_X1_155 (fun i5 => ?_)
          refine kw_bipush (pc := 43) B dX1_goesDay_43 (v := (30 : Int32)) rfl ?_
          refine kw_isub (pc := 45) B dX1_goesDay_45 ?_
          refine kw_mmax (pc := 46) B dX1_goesDay_46 q1122 q592 q93 q593 (by decide) (Nat.le_of_ble_eq_true rfl) ?_
          refine kw_pIN (pc := 49) B dX1_goesDay_49 fl_X1_155 fp_X1_155 ?_
          refine kw_goto (pc := 52) (tgt := 18) B dX1_goesDay_52 rfl ?_
          exact kw_pick [1, 2] rfl (ih x0 x1)
        · intro q hq hk
          simp only [List.mem_cons, List.not_mem_nil, or_false] at hq
          rcases hq with rfl | rfl | rfl
          · exact kw_callF (pc := 28) B dX1_goesDay_28 (ci := 11) rfl (ct_X12_next x1) q422 q425 q427 q101 q429 q424 q423 q428 q426 q399 ⟨by decide, by decide, rfl⟩ (As := []) rfl (st := []) rfl (Nat.le_of_ble_eq_true rfl) (by decide) (by decide) kw_qA hk
          · exact kw_callF (pc := 28) B dX1_goesDay_28 (ci := 33) rfl (ct_J5_next x1) q422 q533 q535 q84 q537 q424 q423 q536 q534 q415 ⟨by decide, by decide, rfl⟩ (As := []) rfl (st := []) rfl (Nat.le_of_ble_eq_true rfl) (by decide) (by decide) kw_qA hk
          · exact kw_callF (pc := 28) B dX1_goesDay_28 (ci := 34) rfl (ct_J15_next x1) q422 q522 q524 q102 q526 q424 q423 q525 q523 q409 ⟨by decide, by decide, rfl⟩ (As := []) rfl (st := []) rfl (Nat.le_of_ble_eq_true rfl) (by decide) (by decide) kw_qA hk
    · intro q hq hk
      simp only [List.mem_cons, List.not_mem_nil, or_false] at hq
      rcases hq with rfl | rfl | rfl
      · exact kw_callF (pc := 19) B dX1_goesDay_19 (ci := 11) rfl (ct_X12_hasNext x1) q396 q400 q402 q101 q404 q398 q397 q403 q401 q399 ⟨by decide, by decide, rfl⟩ (As := []) rfl (st := []) rfl (Nat.le_of_ble_eq_true rfl) (by decide) (by decide) kw_qI hk
      · exact kw_callF (pc := 19) B dX1_goesDay_19 (ci := 33) rfl (ct_J5_hasNext x1) q396 q416 q418 q84 q420 q398 q397 q419 q417 q415 ⟨by decide, by decide, rfl⟩ (As := []) rfl (st := []) rfl (Nat.le_of_ble_eq_true rfl) (by decide) (by decide) kw_qI hk
      · exact kw_callF (pc := 19) B dX1_goesDay_19 (ci := 34) rfl (ct_J15_hasNext x1) q396 q410 q412 q102 q414 q398 q397 q413 q411 q409 ⟨by decide, by decide, rfl⟩ (As := []) rfl (st := []) rfl (Nat.le_of_ble_eq_true rfl) (by decide) (by decide) kw_qI hk
theorem wm_X1_goesDay {E : kw_E} (B : kw_ok E cX1_goesDay RX1 "goesDay" 4 (some .int) 12 237 []) (a0 : Option Nat) : kw_W E kw_eI 0 [(0, kA a0)] [] (pm_X1_goesDay a0) := by
  unfold pm_X1_goesDay
  refine kw_aload_n (pc := 0) B dX1_goesDay_0 rfl 0 rfl ?_
  refine kw_dup (pc := 1) B dX1_goesDay_1 rfl ?_
  refine kw_gI (pc := 2) B dX1_goesDay_2 fl_X1_92 (fun i1 => ?_)
  refine kw_iconst (pc := 5) B dX1_goesDay_5 (v := (1 : Int32)) rfl ?_
  refine kw_iadd (pc := 6) B dX1_goesDay_6 ?_
  refine kw_pI (pc := 7) B dX1_goesDay_7 fl_X1_92 fp_X1_92 (fun h => by cases h) ?_
  refine kw_aload_n (pc := 10) B dX1_goesDay_10 rfl 0 rfl ?_
  refine kw_gR (pc := 11) B dX1_goesDay_11 fl_X1_12 (fun r3 => ?_)
  refine kw_callV (pc := 14) B dX1_goesDay_14 (ci := 30) rfl (ct_J2_iterator r3) q372 q373 q374 q77 q375 ⟨by decide, by decide, rfl⟩ (As := []) rfl (st := []) rfl (Nat.le_of_ble_eq_true rfl) (by decide) (by decide) kw_qA (fun r4 => ?_)
  refine kw_astore_n (pc := 17) B dX1_goesDay_17 rfl (by decide) (L2 := [(1, kA r4), (0, kA a0)]) rfl ?_
  exact kw_pick [1, 0] rfl (wb_X1_goesDay_18 B km_fuel a0 r4)
theorem ct_X1_goesDay (a0 : Option Nat) (l : Launch) : kw_Met l yX1_goesDay (ws_ yX1_goesDay cX1_goesDay 4 (some .int)) 12 237 [kA a0] kw_eI (pm_X1_goesDay a0) := kw_met (plainFor_of_name rfl) (Nat.le_of_ble_eq_true rfl) (fun E B => wm_X1_goesDay B a0) l

/-! RosaryCarvers$Shop passes (I)I -/

theorem wb_X1_passes_4 {E : kw_E} (B : kw_ok E cX1_passes RX1 "passes" 4 (some .int) 13 260 [])  : ∀ (n : Nat) (x0 : Option Nat) (x1 : Int32) (x2 : Int32) (x3 : Int32), kw_W E kw_eI 4 [(0, kA x0), (1, kI x1), (2, kI x2), (3, kI x3)] [] (pb_X1_passes_4  n x0 x1 x2 x3) := by
  intro n
  induction n with
  | zero =>
    intro x0 x1 x2 x3
    exact kw_fail_ok
  | succ n ih =>
    intro x0 x1 x2 x3
    show kw_W E kw_eI 4 [(0, kA x0), (1, kI x1), (2, kI x2), (3, kI x3)] [] (
if x1 ≤ x3 then
(km_pure x2)
else
(km_bind (km_is 1 x0) fun _ => km_bind (pm_X1_goesDay x0) fun i1 =>
pb_X1_passes_4 n x0 x1 (x2 + i1) (x3 + (1 : Int32))))
    refine kw_iload_n (pc := 4) B dX1_passes_4 rfl 3 rfl ?_
    refine kw_iload_n (pc := 5) B dX1_passes_5 rfl 1 rfl ?_
    refine kw_icmp_ge (pc := 6) (tgt := 22) B dX1_passes_6 rfl ?_ ?_
    · refine kw_iload_n (pc := 22) B dX1_passes_22 rfl 2 rfl ?_
      exact kw_iret B dX1_passes_23 rfl
    · refine kw_iload_n (pc := 9) B dX1_passes_9 rfl 2 rfl ?_
      refine kw_aload_n (pc := 10) B dX1_passes_10 rfl 0 rfl ?_
      refine kw_callV (pc := 11) B dX1_passes_11 (ci := 1) rfl (ct_X1_goesDay x0) q1118 q1119 q1120 q74 q1121 ⟨by decide, by decide, rfl⟩ (As := []) rfl (st := [kI x2]) rfl (Nat.le_of_ble_eq_true rfl) (by decide) (by decide) kw_qI (fun i1 => ?_)
      refine kw_iadd (pc := 14) B dX1_passes_14 ?_
      refine kw_istore_n (pc := 15) B dX1_passes_15 rfl (by decide) (L2 := [(2, kI (x2 + i1)), (0, kA x0), (1, kI x1), (3, kI x3)]) rfl ?_
      refine kw_iinc (pc := 16) B dX1_passes_16 3 rfl (w := x3 + (1 : Int32)) rfl (by decide) (L2 := [(3, kI (x3 + (1 : Int32))), (2, kI (x2 + i1)), (0, kA x0), (1, kI x1)]) rfl ?_
      refine kw_goto (pc := 19) (tgt := 4) B dX1_passes_19 rfl ?_
      exact kw_pick [2, 3, 1, 0] rfl (ih x0 x1 (x2 + i1) (x3 + (1 : Int32)))
theorem wm_X1_passes {E : kw_E} (B : kw_ok E cX1_passes RX1 "passes" 4 (some .int) 13 260 []) (a0 : Option Nat) (a1 : Int32) : kw_W E kw_eI 0 [(0, kA a0), (1, kI a1)] [] (pm_X1_passes a0 a1) := by
  unfold pm_X1_passes
  refine kw_iconst (pc := 0) B dX1_passes_0 (v := (0 : Int32)) rfl ?_
  refine kw_istore_n (pc := 1) B dX1_passes_1 rfl (by decide) (L2 := [(2, kI (0 : Int32)), (0, kA a0), (1, kI a1)]) rfl ?_
  refine kw_iconst (pc := 2) B dX1_passes_2 (v := (0 : Int32)) rfl ?_
  refine kw_istore_n (pc := 3) B dX1_passes_3 rfl (by decide) (L2 := [(3, kI (0 : Int32)), (2, kI (0 : Int32)), (0, kA a0), (1, kI a1)]) rfl ?_
  exact kw_pick [2, 3, 1, 0] rfl (wb_X1_passes_4 B km_fuel a0 a1 (0 : Int32) (0 : Int32))
theorem ct_X1_passes (a0 : Option Nat) (a1 : Int32) (l : Launch) : kw_Met l yX1_passes (ws_ yX1_passes cX1_passes 4 (some .int)) 13 260 [kA a0, kI a1] kw_eI (pm_X1_passes a0 a1) := kw_met (plainFor_of_name rfl) (Nat.le_of_ble_eq_true rfl) (fun E B => wm_X1_passes B a0 a1) l

/-! RosaryCarvers$12 does (LRosaryCarvers$Shop;)I -/
theorem fl_X27_7 : kw_fl RX27 7 "RosaryCarvers$12" [(25, 1)] := (kw_fl_c (C := RX27) (T := TX27) (N := 3) rfl (by decide) in_X27 q1805 (Or.inl rfl) kw_fl_nil)
theorem wm_X27_does {E : kw_E} (B : kw_ok E cX27_does RX27 "does" 2 (some .int) 14 283 []) (a0 : Option Nat) (a1 : Option Nat) : kw_W E (kw_x kw_eI) 0 [(0, kA a0), (1, kA a1)] [] (pm_X27_does a0 a1) := by
  unfold pm_X27_does
  refine kw_aload_n (pc := 0) B dX27_does_0 rfl 1 rfl ?_
  refine kw_aload_n (pc := 1) B dX27_does_1 rfl 0 rfl ?_
  refine kw_gI (pc := 2) B dX27_does_2 fl_X27_7 (fun i1 => ?_)
  refine kw_callV (pc := 5) B dX27_does_5 (ci := 1) rfl (ct_X1_passes a1 i1) q1114 q1115 q1116 q74 q1117 ⟨by decide, by decide, rfl⟩ (As := [kI i1]) rfl (st := []) rfl (Nat.le_of_ble_eq_true rfl) (by decide) (by decide) kw_qI (fun i2 => ?_)
  exact kw_iret B dX27_does_8 rfl
theorem ct_X27_does (a0 : Option Nat) (a1 : Option Nat) (l : Launch) : kw_Met l yX27_does (ws_ yX27_does cX27_does 2 (some .int)) 14 283 [kA a0, kA a1] (kw_x kw_eI) (pm_X27_does a0 a1) := kw_met (plainFor_of_name rfl) (Nat.le_of_ble_eq_true rfl) (fun E B => wm_X27_does B a0 a1) l

/-! java/lang/String isLatin1 ()Z -/

theorem wm_J16_isLatin1 {E : kw_E} (B : kw_ok E cJ16_isLatin1 RJ16 "isLatin1" 1 (some .boolean) 1 0 []) (a0 : Option Nat) : kw_W E kw_eI 0 [(0, kA a0)] [] (pm_J16_isLatin1 a0) := by
  unfold pm_J16_isLatin1
  refine kw_getsI (pc := 0) B dJ16_isLatin1_0 (v := (1 : Int32)) (C := "java/lang/String") (n := "COMPACT_STRINGS") (dd := "Z") (by decide) q1075 rfl ?_
  refine kw_if_eq (pc := 3) (tgt := 17) B dJ16_isLatin1_3 rfl ?_ ?_
  · exact kw_fail_ok
  · refine kw_aload_n (pc := 6) B dJ16_isLatin1_6 rfl 0 rfl ?_
    refine kw_gI (pc := 7) B dJ16_isLatin1_7 fl_J16_15 (fun i1 => ?_)
    refine kw_if_ne (pc := 10) (tgt := 17) B dJ16_isLatin1_10 rfl ?_ ?_
    · refine kw_iconst (pc := 17) B dJ16_isLatin1_17 (v := (0 : Int32)) rfl ?_
      exact kw_zret B dJ16_isLatin1_18 (g := fun v => v) (fun _ => rfl)
    · refine kw_iconst (pc := 13) B dJ16_isLatin1_13 (v := (1 : Int32)) rfl ?_
      refine kw_goto (pc := 14) (tgt := 18) B dJ16_isLatin1_14 rfl ?_
      exact kw_zret B dJ16_isLatin1_18 (g := fun v => v) (fun _ => rfl)
theorem ct_J16_isLatin1 (a0 : Option Nat) (l : Launch) : kw_Met l yJ16_isLatin1 (ws_ yJ16_isLatin1 cJ16_isLatin1 1 (some .boolean)) 1 0 [kA a0] kw_eI (pm_J16_isLatin1 a0) := kw_met (plainFor_of_name rfl) (Nat.le_of_ble_eq_true rfl) (fun E B => wm_J16_isLatin1 B a0) l

/-! java/lang/String hashCode ()I -/
theorem fl_J16_19 : kw_fl RJ16 19 "java/lang/String" [(35, 2)] := (kw_fl_c (C := RJ16) (T := TJ16) (N := 4) rfl (by decide) in_J16 q2131 (Or.inl rfl) kw_fl_nil)
theorem fl_J16_23 : kw_fl RJ16 23 "java/lang/String" [(35, 3)] := (kw_fl_c (C := RJ16) (T := TJ16) (N := 4) rfl (by decide) in_J16 q2132 (Or.inl rfl) kw_fl_nil)
theorem wm_J16_hashCode {E : kw_E} (B : kw_ok E cJ16_hashCode RJ16 "hashCode" 2 (some .int) 2 20 []) (a0 : Option Nat) : kw_W E kw_eI 0 [(0, kA a0)] [] (pm_J16_hashCode a0) := by
  unfold pm_J16_hashCode
  refine kw_aload_n (pc := 0) B dJ16_hashCode_0 rfl 0 rfl ?_
  refine kw_gI (pc := 1) B dJ16_hashCode_1 fl_J16_19 (fun i1 => ?_)
  refine kw_istore_n (pc := 4) B dJ16_hashCode_4 rfl (by decide) (L2 := [(1, kI i1), (0, kA a0)]) rfl ?_
  refine kw_iload_n (pc := 5) B dJ16_hashCode_5 rfl 0 rfl ?_
  refine kw_if_ne (pc := 6) (tgt := 58) B dJ16_hashCode_6 rfl ?_ ?_
  · refine kw_iload_n (pc := 58) B dJ16_hashCode_58 rfl 0 rfl ?_
    exact kw_iret B dJ16_hashCode_59 rfl
  · refine kw_aload_n (pc := 9) B dJ16_hashCode_9 rfl 1 rfl ?_
    refine kw_gI (pc := 10) B dJ16_hashCode_10 fl_J16_23 (fun i2 => ?_)
    refine kw_if_ne (pc := 13) (tgt := 58) B dJ16_hashCode_13 rfl ?_ ?_
    · refine kw_iload_n (pc := 58) B dJ16_hashCode_58 rfl 0 rfl ?_
      exact kw_iret B dJ16_hashCode_59 rfl
    · refine kw_aload_n (pc := 16) B dJ16_hashCode_16 rfl 1 rfl ?_
      refine kw_callV (pc := 17) B dJ16_hashCode_17 (ci := 35) rfl (ct_J16_isLatin1 a0) q1284 q1285 q1286 q103 q1287 ⟨by decide, by decide, rfl⟩ (As := []) rfl (st := []) rfl (Nat.le_of_ble_eq_true rfl) (by decide) (by decide) kw_qI (fun i3 => ?_)
      refine kw_if_eq (pc := 20) (tgt := 33) B dJ16_hashCode_20 rfl ?_ ?_
      · refine kw_aload_n (pc := 33) B dJ16_hashCode_33 rfl 1 rfl ?_
        refine kw_gR (pc := 34) B dJ16_hashCode_34 fl_J16_9 (fun r4 => ?_)
        exact kw_fail_ok
      · refine kw_aload_n (pc := 23) B dJ16_hashCode_23 rfl 1 rfl ?_
        refine kw_gR (pc := 24) B dJ16_hashCode_24 fl_J16_9 (fun r5 => ?_)
        exact kw_fail_ok
theorem ct_J16_hashCode (a0 : Option Nat) (l : Launch) : kw_Met l yJ16_hashCode (ws_ yJ16_hashCode cJ16_hashCode 2 (some .int)) 2 20 [kA a0] kw_eI (pm_J16_hashCode a0) := kw_met (plainFor_of_name rfl) (Nat.le_of_ble_eq_true rfl) (fun E B => wm_J16_hashCode B a0) l

/-! RosaryCarvers$Command n (I)I -/
theorem fl_X30_7 : kw_fl RX30 7 "RosaryCarvers$Command" [(28, 1)] := (kw_fl_c (C := RX30) (T := TX30) (N := 2) rfl (by decide) in_X30 q2255 (Or.inl rfl) kw_fl_nil)
theorem wm_X30_n {E : kw_E} (B : kw_ok E cX30_n RX30 "n" 2 (some .int) 1 0 []) (a0 : Option Nat) (a1 : Int32) : kw_W E kw_eI 0 [(0, kA a0), (1, kI a1)] [] (pm_X30_n a0 a1) := by
  unfold pm_X30_n
  refine kw_aload_n (pc := 0) B dX30_n_0 rfl 0 rfl ?_
  refine kw_gR (pc := 1) B dX30_n_1 fl_X30_7 (fun r1 => ?_)
  refine kw_iload_n (pc := 4) B dX30_n_4 rfl 1 rfl ?_
  refine kw_iald (pc := 5) B dX30_n_5 (fun i2 => ?_)
  exact kw_iret B dX30_n_6 rfl
theorem ct_X30_n (a0 : Option Nat) (a1 : Int32) (l : Launch) : kw_Met l yX30_n (ws_ yX30_n cX30_n 2 (some .int)) 1 0 [kA a0, kI a1] kw_eI (pm_X30_n a0 a1) := kw_met (plainFor_of_name rfl) (Nat.le_of_ble_eq_true rfl) (fun E B => wm_X30_n B a0 a1) l

/-! RosaryCarvers$Shop isCarver (I)Z -/

theorem wm_X1_isCarver {E : kw_E} (B : kw_ok E cX1_isCarver RX1 "isCarver" 2 (some .boolean) 2 22 []) (a0 : Option Nat) (a1 : Int32) : kw_W E kw_eI 0 [(0, kA a0), (1, kI a1)] [] (pm_X1_isCarver a0 a1) := by
  unfold pm_X1_isCarver
  refine kw_iload_n (pc := 0) B dX1_isCarver_0 rfl 1 rfl ?_
  refine kw_iconst (pc := 1) B dX1_isCarver_1 (v := (0 : Int32)) rfl ?_
  refine kw_aload_n (pc := 2) B dX1_isCarver_2 rfl 0 rfl ?_
  refine kw_gR (pc := 3) B dX1_isCarver_3 fl_X1_12 (fun r1 => ?_)
  refine kw_callV (pc := 6) B dX1_isCarver_6 (ci := 30) rfl (ct_J2_size r1) q792 q406 q407 q77 q408 ⟨by decide, by decide, rfl⟩ (As := []) rfl (st := [kI (0 : Int32), kI a1]) rfl (Nat.le_of_ble_eq_true rfl) (by decide) (by decide) kw_qI (fun i2 => ?_)
  refine kw_iconst (pc := 9) B dX1_isCarver_9 (v := (1 : Int32)) rfl ?_
  refine kw_isub (pc := 10) B dX1_isCarver_10 ?_
  refine kw_callSN (pc := 11) B dX1_isCarver_11 (ct_X0_in a1 (0 : Int32) (i2 - (1 : Int32))) q1364 q340 q73 q341 ⟨by decide, by decide, rfl⟩ (As := [kI a1, kI (0 : Int32), kI (i2 - (1 : Int32))]) rfl (st := []) rfl (Nat.le_of_ble_eq_true rfl) (by decide) (by decide) kw_qI (fun i3 => ?_)
  exact kw_zret B dX1_isCarver_14 (g := fun v => v) (fun _ => rfl)
theorem ct_X1_isCarver (a0 : Option Nat) (a1 : Int32) (l : Launch) : kw_Met l yX1_isCarver (ws_ yX1_isCarver cX1_isCarver 2 (some .boolean)) 2 22 [kA a0, kI a1] kw_eI (pm_X1_isCarver a0 a1) := kw_met (plainFor_of_name rfl) (Nat.le_of_ble_eq_true rfl) (fun E B => wm_X1_isCarver B a0 a1) l

/-! RosaryCarvers isCarved (I)Z -/

theorem wm_X0_isCarved {E : kw_E} (B : kw_ok E cX0_isCarved RX0 "isCarved" 1 (some .boolean) 2 22 []) (a0 : Int32) : kw_W E kw_eI 0 [(0, kI a0)] [] (pm_X0_isCarved a0) := by
  unfold pm_X0_isCarved
  refine kw_iload_n (pc := 0) B dX0_isCarved_0 rfl 0 rfl ?_
  refine kw_iconst (pc := 1) B dX0_isCarved_1 (v := (1 : Int32)) rfl ?_
  refine kw_bipush (pc := 2) B dX0_isCarved_2 (v := (10 : Int32)) rfl ?_
  refine kw_callS (pc := 4) B dX0_isCarved_4 (ct_X0_in a0 (1 : Int32) (10 : Int32)) q339 q340 q73 q341 ⟨by decide, by decide, rfl⟩ (As := [kI a0, kI (1 : Int32), kI (10 : Int32)]) rfl (st := []) rfl (Nat.le_of_ble_eq_true rfl) (by decide) (by decide) kw_qI (fun i1 => ?_)
  exact kw_zret B dX0_isCarved_7 (g := fun v => v) (fun _ => rfl)
theorem ct_X0_isCarved (a0 : Int32) (l : Launch) : kw_Met l yX0_isCarved (ws_ yX0_isCarved cX0_isCarved 1 (some .boolean)) 2 22 [kI a0] kw_eI (pm_X0_isCarved a0) := kw_met (plainFor_of_name rfl) (Nat.le_of_ble_eq_true rfl) (fun E B => wm_X0_isCarved B a0) l

/-! RosaryCarvers$OutOfRange <init> ()V -/

theorem wm_X15_init {E : kw_E} (B : kw_ok E cX15_init RX15 "<init>" 1 none 3 72 []) (a0 : Option Nat) : kw_W E kw_eV 0 [(0, kA a0)] [] (pm_X15_init a0) := by
  unfold pm_X15_init
  refine kw_aload_n (pc := 0) B dX15_init_0 rfl 0 rfl ?_
  refine kw_null (pc := 1) B dX15_init_1 ?_
  refine kw_null (pc := 2) B dX15_init_2 ?_
  refine kw_iconst (pc := 3) B dX15_init_3 (v := (0 : Int32)) rfl ?_
  refine kw_iconst (pc := 4) B dX15_init_4 (v := (0 : Int32)) rfl ?_
  refine kw_callI (pc := 5) B dX15_init_5 (ct_J7_init_2 a0 none none (0 : Int32) (0 : Int32)) q1382 q812 q86 q813 rfl ⟨by decide, by decide, rfl⟩ (As := [kA none, kA none, kI (0 : Int32), kI (0 : Int32)]) rfl (st := []) rfl (Nat.le_of_ble_eq_true rfl) (by decide) (by decide) kw_qV (fun _ => ?_)
  exact kw_vret B dX15_init_8 rfl
theorem ct_X15_init (a0 : Option Nat) (l : Launch) : kw_Met l yX15_init (ws_ yX15_init cX15_init 1 none) 3 72 [kA a0] kw_eV (pm_X15_init a0) := kw_met (plainFor_of_name rfl) (Nat.le_of_ble_eq_true rfl) (fun E B => wm_X15_init B a0) l

/-! RosaryCarvers inRange (Z)V -/

theorem wm_X0_inRange {E : kw_E} (B : kw_ok E cX0_inRange RX0 "inRange" 1 none 4 92 []) (a0 : Int32) : kw_W E (kw_x kw_eV) 0 [(0, kI a0)] [] (pm_X0_inRange a0) := by
  unfold pm_X0_inRange
  refine kw_iload_n (pc := 0) B dX0_inRange_0 rfl 0 rfl ?_
  refine kw_if_ne (pc := 1) (tgt := 12) B dX0_inRange_1 rfl ?_ ?_
  · exact kw_vret B dX0_inRange_12 rfl
  · refine kw_new (pc := 4) B dX0_inRange_4 (ci := 13) (N := 6) rfl in_X15 tyX15_ok kz_OutOfRange_ok q1270 q1371 q110 (fun r1 => ?_)
    refine kw_dup (pc := 7) B dX0_inRange_7 rfl ?_
    refine kw_callI (pc := 8) B dX0_inRange_8 (ct_X15_init r1) q1379 q1380 q110 q1381 rfl ⟨by decide, by decide, rfl⟩ (As := []) rfl (st := [kA r1]) rfl (Nat.le_of_ble_eq_true rfl) (by decide) (by decide) kw_qV (fun _ => ?_)
    exact kw_athrow B dX0_inRange_11 kw_noh
theorem ct_X0_inRange (a0 : Int32) (l : Launch) : kw_Met l yX0_inRange (ws_ yX0_inRange cX0_inRange 1 none) 4 92 [kI a0] (kw_x kw_eV) (pm_X0_inRange a0) := kw_met (plainFor_of_name rfl) (Nat.le_of_ble_eq_true rfl) (fun E B => wm_X0_inRange B a0) l

/-! RosaryCarvers carves (LRosaryCarvers$Shop;LRosaryCarvers$Command;Z)I -/

theorem wb_X0_carves_28 {E : kw_E} (B : kw_ok E cX0_carves RX0 "carves" 3 (some .int) 10 244 [])  (x0 : Option Nat) (x1 : Option Nat) (x2 : Int32) (s0 : Int32) : kw_W E (kw_x kw_eI) 28 [(0, kA x0), (1, kA x1), (2, kI x2)] [kI s0] (pb_X0_carves_28  x0 x1 x2 s0) := by
  unfold pb_X0_carves_28
  refine kw_callSX (pc := 28) B dX0_carves_28 (xq := Sum.inl) (fun _ => rfl) kw_noh (ct_X0_inRange s0) q1368 q1369 q73 q1370 ⟨by decide, by decide, rfl⟩ (As := [kI s0]) rfl (st := []) rfl (Nat.le_of_ble_eq_true rfl) (by decide) (by decide) kw_qV (fun _ => ?_)
  refine kw_aload_n (pc := 31) B dX0_carves_31 rfl 0 rfl ?_
  refine kw_aload_n (pc := 32) B dX0_carves_32 rfl 1 rfl ?_
  refine kw_iconst (pc := 33) B dX0_carves_33 (v := (0 : Int32)) rfl ?_
  refine kw_callV (pc := 34) B dX0_carves_34 (ci := 28) rfl (ct_X30_n x1 (0 : Int32)) q1356 q1357 q1358 q130 q1359 ⟨by decide, by decide, rfl⟩ (As := [kI (0 : Int32)]) rfl (st := [kA x0]) rfl (Nat.le_of_ble_eq_true rfl) (by decide) (by decide) kw_qI (fun i1 => ?_)
  refine kw_iload_n (pc := 37) B dX0_carves_37 rfl 2 rfl ?_
  refine kw_aload_n (pc := 38) B dX0_carves_38 rfl 1 rfl ?_
  refine kw_iconst (pc := 39) B dX0_carves_39 (v := (1 : Int32)) rfl ?_
  refine kw_callV (pc := 40) B dX0_carves_40 (ci := 28) rfl (ct_X30_n x1 (1 : Int32)) q1356 q1357 q1358 q130 q1359 ⟨by decide, by decide, rfl⟩ (As := [kI (1 : Int32)]) rfl (st := [kI x2, kI i1, kA x0]) rfl (Nat.le_of_ble_eq_true rfl) (by decide) (by decide) kw_qI (fun i2 => ?_)
  refine kw_callVX (pc := 43) B dX0_carves_43 (ci := 1) rfl (xq := Sum.inl) (fun _ => rfl) kw_noh (ct_X1_carves x0 i1 x2 i2) q1385 q1386 q1387 q74 q1388 ⟨by decide, by decide, rfl⟩ (As := [kI i1, kI x2, kI i2]) rfl (st := []) rfl (Nat.le_of_ble_eq_true rfl) (by decide) (by decide) kw_qI (fun i3 => ?_)
  exact kw_iret B dX0_carves_46 rfl
theorem wb_X0_carves_27 {E : kw_E} (B : kw_ok E cX0_carves RX0 "carves" 3 (some .int) 10 244 [])  (x0 : Option Nat) (x1 : Option Nat) (x2 : Int32) : kw_W E (kw_x kw_eI) 27 [(0, kA x0), (1, kA x1), (2, kI x2)] [] (pb_X0_carves_27  x0 x1 x2) := by
  unfold pb_X0_carves_27
  refine kw_iconst (pc := 27) B dX0_carves_27 (v := (0 : Int32)) rfl ?_
  exact kw_pick [0, 1, 2] rfl (wb_X0_carves_28 B x0 x1 x2 (0 : Int32))
theorem wm_X0_carves {E : kw_E} (B : kw_ok E cX0_carves RX0 "carves" 3 (some .int) 10 244 []) (a0 : Option Nat) (a1 : Option Nat) (a2 : Int32) : kw_W E (kw_x kw_eI) 0 [(0, kA a0), (1, kA a1), (2, kI a2)] [] (pm_X0_carves a0 a1 a2) := by
  unfold pm_X0_carves
  refine kw_aload_n (pc := 0) B dX0_carves_0 rfl 0 rfl ?_
  refine kw_aload_n (pc := 1) B dX0_carves_1 rfl 1 rfl ?_
  refine kw_iconst (pc := 2) B dX0_carves_2 (v := (0 : Int32)) rfl ?_
  refine kw_callV (pc := 3) B dX0_carves_3 (ci := 28) rfl (ct_X30_n a1 (0 : Int32)) q1356 q1357 q1358 q130 q1359 ⟨by decide, by decide, rfl⟩ (As := [kI (0 : Int32)]) rfl (st := [kA a0]) rfl (Nat.le_of_ble_eq_true rfl) (by decide) (by decide) kw_qI (fun i1 => ?_)
  refine kw_callV (pc := 6) B dX0_carves_6 (ci := 1) rfl (ct_X1_isCarver a0 i1) q1360 q1361 q1362 q74 q1363 ⟨by decide, by decide, rfl⟩ (As := [kI i1]) rfl (st := []) rfl (Nat.le_of_ble_eq_true rfl) (by decide) (by decide) kw_qI (fun i2 => ?_)
  refine kw_if_eq (pc := 9) (tgt := 27) B dX0_carves_9 rfl ?_ ?_
  · exact kw_pick [0, 1, 2] rfl (wb_X0_carves_27 B a0 a1 a2)
  · refine kw_aload_n (pc := 12) B dX0_carves_12 rfl 1 rfl ?_
    refine kw_iconst (pc := 13) B dX0_carves_13 (v := (1 : Int32)) rfl ?_
    refine kw_callV (pc := 14) B dX0_carves_14 (ci := 28) rfl (ct_X30_n a1 (1 : Int32)) q1356 q1357 q1358 q130 q1359 ⟨by decide, by decide, rfl⟩ (As := [kI (1 : Int32)]) rfl (st := []) rfl (Nat.le_of_ble_eq_true rfl) (by decide) (by decide) kw_qI (fun i3 => ?_)
    refine kw_callS (pc := 17) B dX0_carves_17 (ct_X0_isCarved i3) q1365 q1366 q73 q1367 ⟨by decide, by decide, rfl⟩ (As := [kI i3]) rfl (st := []) rfl (Nat.le_of_ble_eq_true rfl) (by decide) (by decide) kw_qI (fun i4 => ?_)
    refine kw_if_eq (pc := 20) (tgt := 27) B dX0_carves_20 rfl ?_ ?_
    · exact kw_pick [0, 1, 2] rfl (wb_X0_carves_27 B a0 a1 a2)
    · refine kw_iconst (pc := 23) B dX0_carves_23 (v := (1 : Int32)) rfl ?_
      refine kw_goto (pc := 24) (tgt := 28) B dX0_carves_24 rfl ?_
      exact kw_pick [0, 1, 2] rfl (wb_X0_carves_28 B a0 a1 a2 (1 : Int32))
theorem ct_X0_carves (a0 : Option Nat) (a1 : Option Nat) (a2 : Int32) (l : Launch) : kw_Met l yX0_carves (ws_ yX0_carves cX0_carves 3 (some .int)) 10 244 [kA a0, kA a1, kI a2] (kw_x kw_eI) (pm_X0_carves a0 a1 a2) := kw_met (plainFor_of_name rfl) (Nat.le_of_ble_eq_true rfl) (fun E B => wm_X0_carves B a0 a1 a2) l

/-! RosaryCarvers isPattern (II)Z -/

theorem wm_X0_isPattern {E : kw_E} (B : kw_ok E cX0_isPattern RX0 "isPattern" 2 (some .boolean) 2 22 []) (a0 : Int32) (a1 : Int32) : kw_W E kw_eI 0 [(0, kI a0), (1, kI a1)] [] (pm_X0_isPattern a0 a1) := by
  unfold pm_X0_isPattern
  refine kw_iload_n (pc := 0) B dX0_isPattern_0 rfl 0 rfl ?_
  refine kw_iconst (pc := 1) B dX0_isPattern_1 (v := (1 : Int32)) rfl ?_
  refine kw_iconst (pc := 2) B dX0_isPattern_2 (v := (4 : Int32)) rfl ?_
  refine kw_callS (pc := 3) B dX0_isPattern_3 (ct_X0_in a0 (1 : Int32) (4 : Int32)) q339 q340 q73 q341 ⟨by decide, by decide, rfl⟩ (As := [kI a0, kI (1 : Int32), kI (4 : Int32)]) rfl (st := []) rfl (Nat.le_of_ble_eq_true rfl) (by decide) (by decide) kw_qI (fun i1 => ?_)
  refine kw_if_eq (pc := 6) (tgt := 23) B dX0_isPattern_6 rfl ?_ ?_
  · refine kw_iconst (pc := 23) B dX0_isPattern_23 (v := (0 : Int32)) rfl ?_
    exact kw_zret B dX0_isPattern_24 (g := fun v => v) (fun _ => rfl)
  · refine kw_iload_n (pc := 9) B dX0_isPattern_9 rfl 1 rfl ?_
    refine kw_iconst (pc := 10) B dX0_isPattern_10 (v := (1 : Int32)) rfl ?_
    refine kw_bipush (pc := 11) B dX0_isPattern_11 (v := (6 : Int32)) rfl ?_
    refine kw_callS (pc := 13) B dX0_isPattern_13 (ct_X0_in a1 (1 : Int32) (6 : Int32)) q339 q340 q73 q341 ⟨by decide, by decide, rfl⟩ (As := [kI a1, kI (1 : Int32), kI (6 : Int32)]) rfl (st := []) rfl (Nat.le_of_ble_eq_true rfl) (by decide) (by decide) kw_qI (fun i2 => ?_)
    refine kw_if_eq (pc := 16) (tgt := 23) B dX0_isPattern_16 rfl ?_ ?_
    · refine kw_iconst (pc := 23) B dX0_isPattern_23 (v := (0 : Int32)) rfl ?_
      exact kw_zret B dX0_isPattern_24 (g := fun v => v) (fun _ => rfl)
    · refine kw_iconst (pc := 19) B dX0_isPattern_19 (v := (1 : Int32)) rfl ?_
      refine kw_goto (pc := 20) (tgt := 24) B dX0_isPattern_20 rfl ?_
      exact kw_zret B dX0_isPattern_24 (g := fun v => v) (fun _ => rfl)
theorem ct_X0_isPattern (a0 : Int32) (a1 : Int32) (l : Launch) : kw_Met l yX0_isPattern (ws_ yX0_isPattern cX0_isPattern 2 (some .boolean)) 2 22 [kI a0, kI a1] kw_eI (pm_X0_isPattern a0 a1) := kw_met (plainFor_of_name rfl) (Nat.le_of_ble_eq_true rfl) (fun E B => wm_X0_isPattern B a0 a1) l

/-! RosaryCarvers$Shop isString (I)Z -/

theorem wm_X1_isString {E : kw_E} (B : kw_ok E cX1_isString RX1 "isString" 2 (some .boolean) 2 22 []) (a0 : Option Nat) (a1 : Int32) : kw_W E kw_eI 0 [(0, kA a0), (1, kI a1)] [] (pm_X1_isString a0 a1) := by
  unfold pm_X1_isString
  refine kw_iload_n (pc := 0) B dX1_isString_0 rfl 1 rfl ?_
  refine kw_iconst (pc := 1) B dX1_isString_1 (v := (0 : Int32)) rfl ?_
  refine kw_aload_n (pc := 2) B dX1_isString_2 rfl 0 rfl ?_
  refine kw_gR (pc := 3) B dX1_isString_3 fl_X1_28 (fun r1 => ?_)
  refine kw_callV (pc := 6) B dX1_isString_6 (ci := 30) rfl (ct_J2_size r1) q792 q406 q407 q77 q408 ⟨by decide, by decide, rfl⟩ (As := []) rfl (st := [kI (0 : Int32), kI a1]) rfl (Nat.le_of_ble_eq_true rfl) (by decide) (by decide) kw_qI (fun i2 => ?_)
  refine kw_iconst (pc := 9) B dX1_isString_9 (v := (1 : Int32)) rfl ?_
  refine kw_isub (pc := 10) B dX1_isString_10 ?_
  refine kw_callSN (pc := 11) B dX1_isString_11 (ct_X0_in a1 (0 : Int32) (i2 - (1 : Int32))) q1364 q340 q73 q341 ⟨by decide, by decide, rfl⟩ (As := [kI a1, kI (0 : Int32), kI (i2 - (1 : Int32))]) rfl (st := []) rfl (Nat.le_of_ble_eq_true rfl) (by decide) (by decide) kw_qI (fun i3 => ?_)
  exact kw_zret B dX1_isString_14 (g := fun v => v) (fun _ => rfl)
theorem ct_X1_isString (a0 : Option Nat) (a1 : Int32) (l : Launch) : kw_Met l yX1_isString (ws_ yX1_isString cX1_isString 2 (some .boolean)) 2 22 [kA a0, kI a1] kw_eI (pm_X1_isString a0 a1) := kw_met (plainFor_of_name rfl) (Nat.le_of_ble_eq_true rfl) (fun E B => wm_X1_isString B a0 a1) l

/-! RosaryCarvers$Shop threads (II)I -/

theorem wb_X1_threads_5 {E : kw_E} (B : kw_ok E cX1_threads RX1 "threads" 5 (some .int) 11 221 [])  : ∀ (n : Nat) (x0 : Option Nat) (x1 : Int32) (x2 : Int32) (x3 : Int32) (x4 : Int32), kw_W E (kw_x kw_eI) 5 [(0, kA x0), (1, kI x1), (2, kI x2), (3, kI x3), (4, kI x4)] [] (pb_X1_threads_5  n x0 x1 x2 x3 x4) := by
  intro n
  induction n with
  | zero =>
    intro x0 x1 x2 x3 x4
    exact kw_fail_ok
  | succ n ih =>
    intro x0 x1 x2 x3 x4
    show kw_W E (kw_x kw_eI) 5 [(0, kA x0), (1, kI x1), (2, kI x2), (3, kI x3), (4, kI x4)] [] (
if x2 ≤ x4 then
(km_pure (Sum.inr x3))
else
(km_bind (km_is 1 x0) fun _ => km_bind (pm_X1_threads_2 x0 x1) (km_x Sum.inl fun i1 =>
pb_X1_threads_5 n x0 x1 x2 i1 (x4 + (1 : Int32)))))
    refine kw_iload (pc := 5) B dX1_threads_5 4 rfl ?_
    refine kw_iload_n (pc := 7) B dX1_threads_7 rfl 2 rfl ?_
    refine kw_icmp_ge (pc := 8) (tgt := 23) B dX1_threads_8 rfl ?_ ?_
    · refine kw_iload_n (pc := 23) B dX1_threads_23 rfl 3 rfl ?_
      exact kw_iret B dX1_threads_24 rfl
    · refine kw_aload_n (pc := 11) B dX1_threads_11 rfl 0 rfl ?_
      refine kw_iload_n (pc := 12) B dX1_threads_12 rfl 1 rfl ?_
      refine kw_callVX (pc := 13) B dX1_threads_13 (ci := 1) rfl (xq := Sum.inl) (fun _ => rfl) kw_noh (ct_X1_threads_2 x0 x1) q1447 q1448 q1449 q74 q1450 ⟨by decide, by decide, rfl⟩ (As := [kI x1]) rfl (st := []) rfl (Nat.le_of_ble_eq_true rfl) (by decide) (by decide) kw_qI (fun i1 => ?_)
      refine kw_istore_n (pc := 16) B dX1_threads_16 rfl (by decide) (L2 := [(3, kI i1), (0, kA x0), (1, kI x1), (2, kI x2), (4, kI x4)]) rfl ?_
      refine kw_iinc (pc := 17) B dX1_threads_17 4 rfl (w := x4 + (1 : Int32)) rfl (by decide) (L2 := [(4, kI (x4 + (1 : Int32))), (3, kI i1), (0, kA x0), (1, kI x1), (2, kI x2)]) rfl ?_
      refine kw_goto (pc := 20) (tgt := 5) B dX1_threads_20 rfl ?_
      exact kw_pick [2, 3, 4, 1, 0] rfl (ih x0 x1 x2 i1 (x4 + (1 : Int32)))
theorem wm_X1_threads {E : kw_E} (B : kw_ok E cX1_threads RX1 "threads" 5 (some .int) 11 221 []) (a0 : Option Nat) (a1 : Int32) (a2 : Int32) : kw_W E (kw_x kw_eI) 0 [(0, kA a0), (1, kI a1), (2, kI a2)] [] (pm_X1_threads a0 a1 a2) := by
  unfold pm_X1_threads
  refine kw_iconst (pc := 0) B dX1_threads_0 (v := (0 : Int32)) rfl ?_
  refine kw_istore_n (pc := 1) B dX1_threads_1 rfl (by decide) (L2 := [(3, kI (0 : Int32)), (0, kA a0), (1, kI a1), (2, kI a2)]) rfl ?_
  refine kw_iconst (pc := 2) B dX1_threads_2 (v := (0 : Int32)) rfl ?_
  refine kw_istore (pc := 3) B dX1_threads_3 (by decide) (L2 := [(4, kI (0 : Int32)), (3, kI (0 : Int32)), (0, kA a0), (1, kI a1), (2, kI a2)]) rfl ?_
  exact kw_pick [2, 3, 4, 1, 0] rfl (wb_X1_threads_5 B km_fuel a0 a1 a2 (0 : Int32) (0 : Int32))
theorem ct_X1_threads (a0 : Option Nat) (a1 : Int32) (a2 : Int32) (l : Launch) : kw_Met l yX1_threads (ws_ yX1_threads cX1_threads 5 (some .int)) 11 221 [kA a0, kI a1, kI a2] (kw_x kw_eI) (pm_X1_threads a0 a1 a2) := kw_met (plainFor_of_name rfl) (Nat.le_of_ble_eq_true rfl) (fun E B => wm_X1_threads B a0 a1 a2) l

/-! RosaryCarvers areDays (I)Z -/

theorem wm_X0_areDays {E : kw_E} (B : kw_ok E cX0_areDays RX0 "areDays" 1 (some .boolean) 2 22 []) (a0 : Int32) : kw_W E kw_eI 0 [(0, kI a0)] [] (pm_X0_areDays a0) := by
  unfold pm_X0_areDays
  refine kw_iload_n (pc := 0) B dX0_areDays_0 rfl 0 rfl ?_
  refine kw_iconst (pc := 1) B dX0_areDays_1 (v := (1 : Int32)) rfl ?_
  refine kw_bipush (pc := 2) B dX0_areDays_2 (v := (60 : Int32)) rfl ?_
  refine kw_callS (pc := 4) B dX0_areDays_4 (ct_X0_in a0 (1 : Int32) (60 : Int32)) q339 q340 q73 q341 ⟨by decide, by decide, rfl⟩ (As := [kI a0, kI (1 : Int32), kI (60 : Int32)]) rfl (st := []) rfl (Nat.le_of_ble_eq_true rfl) (by decide) (by decide) kw_qI (fun i1 => ?_)
  exact kw_zret B dX0_areDays_7 (g := fun v => v) (fun _ => rfl)
theorem ct_X0_areDays (a0 : Int32) (l : Launch) : kw_Met l yX0_areDays (ws_ yX0_areDays cX0_areDays 1 (some .boolean)) 2 22 [kI a0] kw_eI (pm_X0_areDays a0) := kw_met (plainFor_of_name rfl) (Nat.le_of_ble_eq_true rfl) (fun E B => wm_X0_areDays B a0) l

/-! RosaryCarvers does (LRosaryCarvers$Shop;LRosaryCarvers$Command;)I -/
theorem fl_X0_394 : kw_flN RX0 394 "RosaryCarvers$Command" "RosaryCarvers" [(28, 0)] := (kw_flN_c (C := RX30) (T := TX30) (N := 2) rfl (by decide) in_X30 q2254 (Or.inl rfl) kw_flN_nil)
theorem wb_X0_does_300 {E : kw_E} (B : kw_ok E cX0_does RX0 "does" 4 (some .int) 14 283 [])  (x0 : Option Nat) (x1 : Option Nat) (s0 : Int32) : kw_W E (kw_x kw_eI) 300 [(0, kA x0), (1, kA x1)] [kI s0] (pb_X0_does_300  x0 x1 s0) := by
  unfold pb_X0_does_300
  refine kw_callSX (pc := 300) B dX0_does_300 (xq := Sum.inl) (fun _ => rfl) kw_noh (ct_X0_inRange s0) q1368 q1369 q73 q1370 ⟨by decide, by decide, rfl⟩ (As := [kI s0]) rfl (st := []) rfl (Nat.le_of_ble_eq_true rfl) (by decide) (by decide) kw_qV (fun _ => ?_)
  refine kw_aload_n (pc := 303) B dX0_does_303 rfl 0 rfl ?_
  refine kw_aload_n (pc := 304) B dX0_does_304 rfl 1 rfl ?_
  refine kw_iconst (pc := 305) B dX0_does_305 (v := (0 : Int32)) rfl ?_
  refine kw_callV (pc := 306) B dX0_does_306 (ci := 28) rfl (ct_X30_n x1 (0 : Int32)) q1356 q1357 q1358 q130 q1359 ⟨by decide, by decide, rfl⟩ (As := [kI (0 : Int32)]) rfl (st := [kA x0]) rfl (Nat.le_of_ble_eq_true rfl) (by decide) (by decide) kw_qI (fun i1 => ?_)
  refine kw_aload_n (pc := 309) B dX0_does_309 rfl 1 rfl ?_
  refine kw_iconst (pc := 310) B dX0_does_310 (v := (1 : Int32)) rfl ?_
  refine kw_callV (pc := 311) B dX0_does_311 (ci := 28) rfl (ct_X30_n x1 (1 : Int32)) q1356 q1357 q1358 q130 q1359 ⟨by decide, by decide, rfl⟩ (As := [kI (1 : Int32)]) rfl (st := [kI i1, kA x0]) rfl (Nat.le_of_ble_eq_true rfl) (by decide) (by decide) kw_qI (fun i2 => ?_)
  refine kw_callVX (pc := 314) B dX0_does_314 (ci := 1) rfl (xq := Sum.inl) (fun _ => rfl) kw_noh (ct_X1_threads x0 i1 i2) q1443 q1444 q1445 q74 q1446 ⟨by decide, by decide, rfl⟩ (As := [kI i1, kI i2]) rfl (st := []) rfl (Nat.le_of_ble_eq_true rfl) (by decide) (by decide) kw_qI (fun i3 => ?_)
  exact kw_iret B dX0_does_317 rfl
theorem wb_X0_does_299 {E : kw_E} (B : kw_ok E cX0_does RX0 "does" 4 (some .int) 14 283 [])  (x0 : Option Nat) (x1 : Option Nat) : kw_W E (kw_x kw_eI) 299 [(0, kA x0), (1, kA x1)] [] (pb_X0_does_299  x0 x1) := by
  unfold pb_X0_does_299
  refine kw_iconst (pc := 299) B dX0_does_299 (v := (0 : Int32)) rfl ?_
  exact kw_pick [0, 1] rfl (wb_X0_does_300 B x0 x1 (0 : Int32))
theorem wb_X0_does_179 {E : kw_E} (B : kw_ok E cX0_does RX0 "does" 4 (some .int) 14 283 [])  (x0 : Option Nat) (x1 : Option Nat) (x3 : Int32) : kw_W E (kw_x kw_eI) 179 [(0, kA x0), (1, kA x1), (3, kI x3)] [] (pb_X0_does_179  x0 x1 x3) := by
  unfold pb_X0_does_179
  refine kw_iload_n (pc := 179) B dX0_does_179 rfl 2 rfl ?_
  refine kw_tsw (pc := 180) (tgt := 367) B dX0_does_180 rfl rfl ⟨⟨224, rfl, ?_⟩, ⟨231, rfl, ?_⟩, ⟨238, rfl, ?_⟩, ⟨269, rfl, ?_⟩, ⟨318, rfl, ?_⟩, ⟨340, rfl, ?_⟩, ⟨362, rfl, ?_⟩, trivial⟩ ?_
  · refine kw_aload_n (pc := 224) B dX0_does_224 rfl 0 rfl ?_
    refine kw_aload_n (pc := 225) B dX0_does_225 rfl 1 rfl ?_
    refine kw_iconst (pc := 226) B dX0_does_226 (v := (1 : Int32)) rfl ?_
    refine kw_callSX (pc := 227) B dX0_does_227 (xq := Sum.inl) (fun _ => rfl) kw_noh (ct_X0_carves x0 x1 (1 : Int32)) q1353 q1354 q73 q1355 ⟨by decide, by decide, rfl⟩ (As := [kA x0, kA x1, kI (1 : Int32)]) rfl (st := []) rfl (Nat.le_of_ble_eq_true rfl) (by decide) (by decide) kw_qI (fun i1 => ?_)
    exact kw_iret B dX0_does_230 rfl
  · refine kw_aload_n (pc := 231) B dX0_does_231 rfl 0 rfl ?_
    refine kw_aload_n (pc := 232) B dX0_does_232 rfl 1 rfl ?_
    refine kw_iconst (pc := 233) B dX0_does_233 (v := (0 : Int32)) rfl ?_
    refine kw_callSX (pc := 234) B dX0_does_234 (xq := Sum.inl) (fun _ => rfl) kw_noh (ct_X0_carves x0 x1 (0 : Int32)) q1353 q1354 q73 q1355 ⟨by decide, by decide, rfl⟩ (As := [kA x0, kA x1, kI (0 : Int32)]) rfl (st := []) rfl (Nat.le_of_ble_eq_true rfl) (by decide) (by decide) kw_qI (fun i2 => ?_)
    exact kw_iret B dX0_does_237 rfl
  · refine kw_aload_n (pc := 238) B dX0_does_238 rfl 1 rfl ?_
    refine kw_iconst (pc := 239) B dX0_does_239 (v := (0 : Int32)) rfl ?_
    refine kw_callV (pc := 240) B dX0_does_240 (ci := 28) rfl (ct_X30_n x1 (0 : Int32)) q1356 q1357 q1358 q130 q1359 ⟨by decide, by decide, rfl⟩ (As := [kI (0 : Int32)]) rfl (st := []) rfl (Nat.le_of_ble_eq_true rfl) (by decide) (by decide) kw_qI (fun i3 => ?_)
    refine kw_aload_n (pc := 243) B dX0_does_243 rfl 1 rfl ?_
    refine kw_iconst (pc := 244) B dX0_does_244 (v := (1 : Int32)) rfl ?_
    refine kw_callV (pc := 245) B dX0_does_245 (ci := 28) rfl (ct_X30_n x1 (1 : Int32)) q1356 q1357 q1358 q130 q1359 ⟨by decide, by decide, rfl⟩ (As := [kI (1 : Int32)]) rfl (st := [kI i3]) rfl (Nat.le_of_ble_eq_true rfl) (by decide) (by decide) kw_qI (fun i4 => ?_)
    refine kw_callS (pc := 248) B dX0_does_248 (ct_X0_isPattern i3 i4) q1431 q1432 q73 q1433 ⟨by decide, by decide, rfl⟩ (As := [kI i3, kI i4]) rfl (st := []) rfl (Nat.le_of_ble_eq_true rfl) (by decide) (by decide) kw_qI (fun i5 => ?_)
    refine kw_callSX (pc := 251) B dX0_does_251 (xq := Sum.inl) (fun _ => rfl) kw_noh (ct_X0_inRange i5) q1368 q1369 q73 q1370 ⟨by decide, by decide, rfl⟩ (As := [kI i5]) rfl (st := []) rfl (Nat.le_of_ble_eq_true rfl) (by decide) (by decide) kw_qV (fun _ => ?_)
    refine kw_aload_n (pc := 254) B dX0_does_254 rfl 0 rfl ?_
    refine kw_aload_n (pc := 255) B dX0_does_255 rfl 1 rfl ?_
    refine kw_iconst (pc := 256) B dX0_does_256 (v := (0 : Int32)) rfl ?_
    refine kw_callV (pc := 257) B dX0_does_257 (ci := 28) rfl (ct_X30_n x1 (0 : Int32)) q1356 q1357 q1358 q130 q1359 ⟨by decide, by decide, rfl⟩ (As := [kI (0 : Int32)]) rfl (st := [kA x0]) rfl (Nat.le_of_ble_eq_true rfl) (by decide) (by decide) kw_qI (fun i6 => ?_)
    refine kw_aload_n (pc := 260) B dX0_does_260 rfl 1 rfl ?_
    refine kw_iconst (pc := 261) B dX0_does_261 (v := (1 : Int32)) rfl ?_
    refine kw_callV (pc := 262) B dX0_does_262 (ci := 28) rfl (ct_X30_n x1 (1 : Int32)) q1356 q1357 q1358 q130 q1359 ⟨by decide, by decide, rfl⟩ (As := [kI (1 : Int32)]) rfl (st := [kI i6, kA x0]) rfl (Nat.le_of_ble_eq_true rfl) (by decide) (by decide) kw_qI (fun i7 => ?_)
    refine kw_callVX (pc := 265) B dX0_does_265 (ci := 1) rfl (xq := Sum.inl) (fun _ => rfl) kw_noh (ct_X1_begins x0 i6 i7) q1434 q1435 q1436 q74 q1437 ⟨by decide, by decide, rfl⟩ (As := [kI i6, kI i7]) rfl (st := []) rfl (Nat.le_of_ble_eq_true rfl) (by decide) (by decide) kw_qI (fun i8 => ?_)
    exact kw_iret B dX0_does_268 rfl
  · refine kw_aload_n (pc := 269) B dX0_does_269 rfl 0 rfl ?_
    refine kw_aload_n (pc := 270) B dX0_does_270 rfl 1 rfl ?_
    refine kw_iconst (pc := 271) B dX0_does_271 (v := (0 : Int32)) rfl ?_
    refine kw_callV (pc := 272) B dX0_does_272 (ci := 28) rfl (ct_X30_n x1 (0 : Int32)) q1356 q1357 q1358 q130 q1359 ⟨by decide, by decide, rfl⟩ (As := [kI (0 : Int32)]) rfl (st := [kA x0]) rfl (Nat.le_of_ble_eq_true rfl) (by decide) (by decide) kw_qI (fun i9 => ?_)
    refine kw_callV (pc := 275) B dX0_does_275 (ci := 1) rfl (ct_X1_isString x0 i9) q1439 q1440 q1441 q74 q1442 ⟨by decide, by decide, rfl⟩ (As := [kI i9]) rfl (st := []) rfl (Nat.le_of_ble_eq_true rfl) (by decide) (by decide) kw_qI (fun i10 => ?_)
    refine kw_if_eq (pc := 278) (tgt := 299) B dX0_does_278 rfl ?_ ?_
    · exact kw_pick [0, 1] rfl (wb_X0_does_299 B x0 x1)
    · refine kw_aload_n (pc := 281) B dX0_does_281 rfl 1 rfl ?_
      refine kw_iconst (pc := 282) B dX0_does_282 (v := (1 : Int32)) rfl ?_
      refine kw_callV (pc := 283) B dX0_does_283 (ci := 28) rfl (ct_X30_n x1 (1 : Int32)) q1356 q1357 q1358 q130 q1359 ⟨by decide, by decide, rfl⟩ (As := [kI (1 : Int32)]) rfl (st := []) rfl (Nat.le_of_ble_eq_true rfl) (by decide) (by decide) kw_qI (fun i11 => ?_)
      refine kw_iconst (pc := 286) B dX0_does_286 (v := (1 : Int32)) rfl ?_
      refine kw_bipush (pc := 287) B dX0_does_287 (v := (28 : Int32)) rfl ?_
      refine kw_callS (pc := 289) B dX0_does_289 (ct_X0_in i11 (1 : Int32) (28 : Int32)) q339 q340 q73 q341 ⟨by decide, by decide, rfl⟩ (As := [kI i11, kI (1 : Int32), kI (28 : Int32)]) rfl (st := []) rfl (Nat.le_of_ble_eq_true rfl) (by decide) (by decide) kw_qI (fun i12 => ?_)
      refine kw_if_eq (pc := 292) (tgt := 299) B dX0_does_292 rfl ?_ ?_
      · exact kw_pick [0, 1] rfl (wb_X0_does_299 B x0 x1)
      · refine kw_iconst (pc := 295) B dX0_does_295 (v := (1 : Int32)) rfl ?_
        refine kw_goto (pc := 296) (tgt := 300) B dX0_does_296 rfl ?_
        exact kw_pick [0, 1] rfl (wb_X0_does_300 B x0 x1 (1 : Int32))
  · refine kw_aload_n (pc := 318) B dX0_does_318 rfl 0 rfl ?_
    refine kw_aload_n (pc := 319) B dX0_does_319 rfl 1 rfl ?_
    refine kw_iconst (pc := 320) B dX0_does_320 (v := (0 : Int32)) rfl ?_
    refine kw_callV (pc := 321) B dX0_does_321 (ci := 28) rfl (ct_X30_n x1 (0 : Int32)) q1356 q1357 q1358 q130 q1359 ⟨by decide, by decide, rfl⟩ (As := [kI (0 : Int32)]) rfl (st := [kA x0]) rfl (Nat.le_of_ble_eq_true rfl) (by decide) (by decide) kw_qI (fun i13 => ?_)
    refine kw_callV (pc := 324) B dX0_does_324 (ci := 1) rfl (ct_X1_isString x0 i13) q1439 q1440 q1441 q74 q1442 ⟨by decide, by decide, rfl⟩ (As := [kI i13]) rfl (st := []) rfl (Nat.le_of_ble_eq_true rfl) (by decide) (by decide) kw_qI (fun i14 => ?_)
    refine kw_callSX (pc := 327) B dX0_does_327 (xq := Sum.inl) (fun _ => rfl) kw_noh (ct_X0_inRange i14) q1368 q1369 q73 q1370 ⟨by decide, by decide, rfl⟩ (As := [kI i14]) rfl (st := []) rfl (Nat.le_of_ble_eq_true rfl) (by decide) (by decide) kw_qV (fun _ => ?_)
    refine kw_aload_n (pc := 330) B dX0_does_330 rfl 0 rfl ?_
    refine kw_aload_n (pc := 331) B dX0_does_331 rfl 1 rfl ?_
    refine kw_iconst (pc := 332) B dX0_does_332 (v := (0 : Int32)) rfl ?_
    refine kw_callV (pc := 333) B dX0_does_333 (ci := 28) rfl (ct_X30_n x1 (0 : Int32)) q1356 q1357 q1358 q130 q1359 ⟨by decide, by decide, rfl⟩ (As := [kI (0 : Int32)]) rfl (st := [kA x0]) rfl (Nat.le_of_ble_eq_true rfl) (by decide) (by decide) kw_qI (fun i15 => ?_)
    refine kw_callVX (pc := 336) B dX0_does_336 (ci := 1) rfl (xq := Sum.inl) (fun _ => rfl) kw_noh (ct_X1_ties x0 i15) q1470 q1471 q1472 q74 q1473 ⟨by decide, by decide, rfl⟩ (As := [kI i15]) rfl (st := []) rfl (Nat.le_of_ble_eq_true rfl) (by decide) (by decide) kw_qI (fun i16 => ?_)
    exact kw_iret B dX0_does_339 rfl
  · refine kw_aload_n (pc := 340) B dX0_does_340 rfl 0 rfl ?_
    refine kw_aload_n (pc := 341) B dX0_does_341 rfl 1 rfl ?_
    refine kw_iconst (pc := 342) B dX0_does_342 (v := (0 : Int32)) rfl ?_
    refine kw_callV (pc := 343) B dX0_does_343 (ci := 28) rfl (ct_X30_n x1 (0 : Int32)) q1356 q1357 q1358 q130 q1359 ⟨by decide, by decide, rfl⟩ (As := [kI (0 : Int32)]) rfl (st := [kA x0]) rfl (Nat.le_of_ble_eq_true rfl) (by decide) (by decide) kw_qI (fun i17 => ?_)
    refine kw_callV (pc := 346) B dX0_does_346 (ci := 1) rfl (ct_X1_isString x0 i17) q1439 q1440 q1441 q74 q1442 ⟨by decide, by decide, rfl⟩ (As := [kI i17]) rfl (st := []) rfl (Nat.le_of_ble_eq_true rfl) (by decide) (by decide) kw_qI (fun i18 => ?_)
    refine kw_callSX (pc := 349) B dX0_does_349 (xq := Sum.inl) (fun _ => rfl) kw_noh (ct_X0_inRange i18) q1368 q1369 q73 q1370 ⟨by decide, by decide, rfl⟩ (As := [kI i18]) rfl (st := []) rfl (Nat.le_of_ble_eq_true rfl) (by decide) (by decide) kw_qV (fun _ => ?_)
    refine kw_aload_n (pc := 352) B dX0_does_352 rfl 0 rfl ?_
    refine kw_aload_n (pc := 353) B dX0_does_353 rfl 1 rfl ?_
    refine kw_iconst (pc := 354) B dX0_does_354 (v := (0 : Int32)) rfl ?_
    refine kw_callV (pc := 355) B dX0_does_355 (ci := 28) rfl (ct_X30_n x1 (0 : Int32)) q1356 q1357 q1358 q130 q1359 ⟨by decide, by decide, rfl⟩ (As := [kI (0 : Int32)]) rfl (st := [kA x0]) rfl (Nat.le_of_ble_eq_true rfl) (by decide) (by decide) kw_qI (fun i19 => ?_)
    refine kw_callV (pc := 358) B dX0_does_358 (ci := 1) rfl (ct_X1_drops x0 i19) q1475 q1476 q1477 q74 q1478 ⟨by decide, by decide, rfl⟩ (As := [kI i19]) rfl (st := []) rfl (Nat.le_of_ble_eq_true rfl) (by decide) (by decide) kw_qI (fun i20 => ?_)
    exact kw_iret B dX0_does_361 rfl
  · refine kw_aload_n (pc := 362) B dX0_does_362 rfl 0 rfl ?_
    refine kw_callVX (pc := 363) B dX0_does_363 (ci := 1) rfl (xq := Sum.inl) (fun _ => rfl) kw_noh (ct_X1_mends x0) q1485 q861 q862 q74 q863 ⟨by decide, by decide, rfl⟩ (As := []) rfl (st := []) rfl (Nat.le_of_ble_eq_true rfl) (by decide) (by decide) kw_qI (fun i21 => ?_)
    exact kw_iret B dX0_does_366 rfl
  · refine kw_aload_n (pc := 367) B dX0_does_367 rfl 1 rfl ?_
    refine kw_iconst (pc := 368) B dX0_does_368 (v := (0 : Int32)) rfl ?_
    refine kw_callV (pc := 369) B dX0_does_369 (ci := 28) rfl (ct_X30_n x1 (0 : Int32)) q1356 q1357 q1358 q130 q1359 ⟨by decide, by decide, rfl⟩ (As := [kI (0 : Int32)]) rfl (st := []) rfl (Nat.le_of_ble_eq_true rfl) (by decide) (by decide) kw_qI (fun i22 => ?_)
    refine kw_callS (pc := 372) B dX0_does_372 (ct_X0_areDays i22) q1486 q1487 q73 q1488 ⟨by decide, by decide, rfl⟩ (As := [kI i22]) rfl (st := []) rfl (Nat.le_of_ble_eq_true rfl) (by decide) (by decide) kw_qI (fun i23 => ?_)
    refine kw_callSX (pc := 375) B dX0_does_375 (xq := Sum.inl) (fun _ => rfl) kw_noh (ct_X0_inRange i23) q1368 q1369 q73 q1370 ⟨by decide, by decide, rfl⟩ (As := [kI i23]) rfl (st := []) rfl (Nat.le_of_ble_eq_true rfl) (by decide) (by decide) kw_qV (fun _ => ?_)
    refine kw_aload_n (pc := 378) B dX0_does_378 rfl 0 rfl ?_
    refine kw_aload_n (pc := 379) B dX0_does_379 rfl 1 rfl ?_
    refine kw_iconst (pc := 380) B dX0_does_380 (v := (0 : Int32)) rfl ?_
    refine kw_callV (pc := 381) B dX0_does_381 (ci := 28) rfl (ct_X30_n x1 (0 : Int32)) q1356 q1357 q1358 q130 q1359 ⟨by decide, by decide, rfl⟩ (As := [kI (0 : Int32)]) rfl (st := [kA x0]) rfl (Nat.le_of_ble_eq_true rfl) (by decide) (by decide) kw_qI (fun i24 => ?_)
    refine kw_callV (pc := 384) B dX0_does_384 (ci := 1) rfl (ct_X1_passes x0 i24) q1489 q1115 q1116 q74 q1117 ⟨by decide, by decide, rfl⟩ (As := [kI i24]) rfl (st := []) rfl (Nat.le_of_ble_eq_true rfl) (by decide) (by decide) kw_qI (fun i25 => ?_)
    exact kw_iret B dX0_does_387 rfl
theorem wm_X0_does {E : kw_E} (B : kw_ok E cX0_does RX0 "does" 4 (some .int) 14 283 []) (a0 : Option Nat) (a1 : Option Nat) : kw_W E (kw_x kw_eI) 0 [(0, kA a0), (1, kA a1)] [] (pm_X0_does a0 a1) := by
  unfold pm_X0_does
  refine kw_aload_n (pc := 0) B dX0_does_0 rfl 1 rfl ?_
  refine kw_gRN (pc := 1) B dX0_does_1 fl_X0_394 (fun r1 => ?_)
  refine kw_astore_n (pc := 4) B dX0_does_4 rfl (by decide) (L2 := [(2, kA r1), (0, kA a0), (1, kA a1)]) rfl ?_
  refine kw_iconst (pc := 5) B dX0_does_5 (v := (-1 : Int32)) rfl ?_
  refine kw_istore_n (pc := 6) B dX0_does_6 rfl (by decide) (L2 := [(3, kI (-1 : Int32)), (2, kA r1), (0, kA a0), (1, kA a1)]) rfl ?_
  refine kw_aload_n (pc := 7) B dX0_does_7 rfl 1 rfl ?_
  refine kw_callV (pc := 8) B dX0_does_8 (ci := 35) rfl (ct_J16_hashCode r1) q1280 q1281 q1282 q103 q1283 ⟨by decide, by decide, rfl⟩ (As := []) rfl (st := []) rfl (Nat.le_of_ble_eq_true rfl) (by decide) (by decide) kw_qI (fun i2 => ?_)
  refine kw_lsw (pc := 11) (tgt := 179) B dX0_does_11 rfl rfl ⟨⟨rfl, 121, rfl, ?_⟩, ⟨rfl, 151, rfl, ?_⟩, ⟨rfl, 136, rfl, ?_⟩, ⟨rfl, 166, rfl, ?_⟩, ⟨rfl, 106, rfl, ?_⟩, ⟨rfl, 76, rfl, ?_⟩, ⟨rfl, 91, rfl, ?_⟩, trivial⟩ ?_
  · refine kw_aload_n (pc := 121) B dX0_does_121 rfl 1 rfl ?_
    refine kw_ldcSW (pc := 122) B dX0_does_122 (i := 23) (tx := "thread") (by decide) (fun r3 => ?_)
    refine kw_callV (pc := 125) B dX0_does_125 (ci := 35) rfl (ct_J16_equals r1 r3) q1346 q1072 q2790 q103 q1073 ⟨by decide, by decide, rfl⟩ (As := [kA r3]) rfl (st := []) rfl (Nat.le_of_ble_eq_true rfl) (by decide) (by decide) kw_qI (fun i4 => ?_)
    refine kw_if_eq (pc := 128) (tgt := 179) B dX0_does_128 rfl ?_ ?_
    · exact kw_pick [2, 3, 0] rfl (wb_X0_does_179 B a0 a1 (-1 : Int32))
    · refine kw_iconst (pc := 131) B dX0_does_131 (v := (3 : Int32)) rfl ?_
      refine kw_istore_n (pc := 132) B dX0_does_132 rfl (by decide) (L2 := [(3, kI (3 : Int32)), (2, kA r1), (0, kA a0), (1, kA a1)]) rfl ?_
      refine kw_goto (pc := 133) (tgt := 179) B dX0_does_133 rfl ?_
      exact kw_pick [2, 3, 0] rfl (wb_X0_does_179 B a0 a1 (3 : Int32))
  · refine kw_aload_n (pc := 151) B dX0_does_151 rfl 1 rfl ?_
    refine kw_ldcSW (pc := 152) B dX0_does_152 (i := 13) (tx := "drop") (by decide) (fun r5 => ?_)
    refine kw_callV (pc := 155) B dX0_does_155 (ci := 35) rfl (ct_J16_equals r1 r5) q1346 q1072 q2790 q103 q1073 ⟨by decide, by decide, rfl⟩ (As := [kA r5]) rfl (st := []) rfl (Nat.le_of_ble_eq_true rfl) (by decide) (by decide) kw_qI (fun i6 => ?_)
    refine kw_if_eq (pc := 158) (tgt := 179) B dX0_does_158 rfl ?_ ?_
    · exact kw_pick [2, 3, 0] rfl (wb_X0_does_179 B a0 a1 (-1 : Int32))
    · refine kw_iconst (pc := 161) B dX0_does_161 (v := (5 : Int32)) rfl ?_
      refine kw_istore_n (pc := 162) B dX0_does_162 rfl (by decide) (L2 := [(3, kI (5 : Int32)), (2, kA r1), (0, kA a0), (1, kA a1)]) rfl ?_
      refine kw_goto (pc := 163) (tgt := 179) B dX0_does_163 rfl ?_
      exact kw_pick [2, 3, 0] rfl (wb_X0_does_179 B a0 a1 (5 : Int32))
  · refine kw_aload_n (pc := 136) B dX0_does_136 rfl 1 rfl ?_
    refine kw_ldcSW (pc := 137) B dX0_does_137 (i := 16) (tx := "knot") (by decide) (fun r7 => ?_)
    refine kw_callV (pc := 140) B dX0_does_140 (ci := 35) rfl (ct_J16_equals r1 r7) q1346 q1072 q2790 q103 q1073 ⟨by decide, by decide, rfl⟩ (As := [kA r7]) rfl (st := []) rfl (Nat.le_of_ble_eq_true rfl) (by decide) (by decide) kw_qI (fun i8 => ?_)
    refine kw_if_eq (pc := 143) (tgt := 179) B dX0_does_143 rfl ?_ ?_
    · exact kw_pick [2, 3, 0] rfl (wb_X0_does_179 B a0 a1 (-1 : Int32))
    · refine kw_iconst (pc := 146) B dX0_does_146 (v := (4 : Int32)) rfl ?_
      refine kw_istore_n (pc := 147) B dX0_does_147 rfl (by decide) (L2 := [(3, kI (4 : Int32)), (2, kA r1), (0, kA a0), (1, kA a1)]) rfl ?_
      refine kw_goto (pc := 148) (tgt := 179) B dX0_does_148 rfl ?_
      exact kw_pick [2, 3, 0] rfl (wb_X0_does_179 B a0 a1 (4 : Int32))
  · refine kw_aload_n (pc := 166) B dX0_does_166 rfl 1 rfl ?_
    refine kw_ldcSW (pc := 167) B dX0_does_167 (i := 20) (tx := "mend") (by decide) (fun r9 => ?_)
    refine kw_callV (pc := 170) B dX0_does_170 (ci := 35) rfl (ct_J16_equals r1 r9) q1346 q1072 q2790 q103 q1073 ⟨by decide, by decide, rfl⟩ (As := [kA r9]) rfl (st := []) rfl (Nat.le_of_ble_eq_true rfl) (by decide) (by decide) kw_qI (fun i10 => ?_)
    refine kw_if_eq (pc := 173) (tgt := 179) B dX0_does_173 rfl ?_ ?_
    · exact kw_pick [2, 3, 0] rfl (wb_X0_does_179 B a0 a1 (-1 : Int32))
    · refine kw_bipush (pc := 176) B dX0_does_176 (v := (6 : Int32)) rfl ?_
      refine kw_istore_n (pc := 178) B dX0_does_178 rfl (by decide) (L2 := [(3, kI (6 : Int32)), (2, kA r1), (0, kA a0), (1, kA a1)]) rfl ?_
      exact kw_pick [2, 3, 0] rfl (wb_X0_does_179 B a0 a1 (6 : Int32))
  · refine kw_aload_n (pc := 106) B dX0_does_106 rfl 1 rfl ?_
    refine kw_ldcSW (pc := 107) B dX0_does_107 (i := 11) (tx := "begin") (by decide) (fun r11 => ?_)
    refine kw_callV (pc := 110) B dX0_does_110 (ci := 35) rfl (ct_J16_equals r1 r11) q1346 q1072 q2790 q103 q1073 ⟨by decide, by decide, rfl⟩ (As := [kA r11]) rfl (st := []) rfl (Nat.le_of_ble_eq_true rfl) (by decide) (by decide) kw_qI (fun i12 => ?_)
    refine kw_if_eq (pc := 113) (tgt := 179) B dX0_does_113 rfl ?_ ?_
    · exact kw_pick [2, 3, 0] rfl (wb_X0_does_179 B a0 a1 (-1 : Int32))
    · refine kw_iconst (pc := 116) B dX0_does_116 (v := (2 : Int32)) rfl ?_
      refine kw_istore_n (pc := 117) B dX0_does_117 rfl (by decide) (L2 := [(3, kI (2 : Int32)), (2, kA r1), (0, kA a0), (1, kA a1)]) rfl ?_
      refine kw_goto (pc := 118) (tgt := 179) B dX0_does_118 rfl ?_
      exact kw_pick [2, 3, 0] rfl (wb_X0_does_179 B a0 a1 (2 : Int32))
  · refine kw_aload_n (pc := 76) B dX0_does_76 rfl 1 rfl ?_
    refine kw_ldcSW (pc := 77) B dX0_does_77 (i := 18) (tx := "large") (by decide) (fun r13 => ?_)
    refine kw_callV (pc := 80) B dX0_does_80 (ci := 35) rfl (ct_J16_equals r1 r13) q1346 q1072 q2790 q103 q1073 ⟨by decide, by decide, rfl⟩ (As := [kA r13]) rfl (st := []) rfl (Nat.le_of_ble_eq_true rfl) (by decide) (by decide) kw_qI (fun i14 => ?_)
    refine kw_if_eq (pc := 83) (tgt := 179) B dX0_does_83 rfl ?_ ?_
    · exact kw_pick [2, 3, 0] rfl (wb_X0_does_179 B a0 a1 (-1 : Int32))
    · refine kw_iconst (pc := 86) B dX0_does_86 (v := (0 : Int32)) rfl ?_
      refine kw_istore_n (pc := 87) B dX0_does_87 rfl (by decide) (L2 := [(3, kI (0 : Int32)), (2, kA r1), (0, kA a0), (1, kA a1)]) rfl ?_
      refine kw_goto (pc := 88) (tgt := 179) B dX0_does_88 rfl ?_
      exact kw_pick [2, 3, 0] rfl (wb_X0_does_179 B a0 a1 (0 : Int32))
  · refine kw_aload_n (pc := 91) B dX0_does_91 rfl 1 rfl ?_
    refine kw_ldcSW (pc := 92) B dX0_does_92 (i := 21) (tx := "small") (by decide) (fun r15 => ?_)
    refine kw_callV (pc := 95) B dX0_does_95 (ci := 35) rfl (ct_J16_equals r1 r15) q1346 q1072 q2790 q103 q1073 ⟨by decide, by decide, rfl⟩ (As := [kA r15]) rfl (st := []) rfl (Nat.le_of_ble_eq_true rfl) (by decide) (by decide) kw_qI (fun i16 => ?_)
    refine kw_if_eq (pc := 98) (tgt := 179) B dX0_does_98 rfl ?_ ?_
    · exact kw_pick [2, 3, 0] rfl (wb_X0_does_179 B a0 a1 (-1 : Int32))
    · refine kw_iconst (pc := 101) B dX0_does_101 (v := (1 : Int32)) rfl ?_
      refine kw_istore_n (pc := 102) B dX0_does_102 rfl (by decide) (L2 := [(3, kI (1 : Int32)), (2, kA r1), (0, kA a0), (1, kA a1)]) rfl ?_
      refine kw_goto (pc := 103) (tgt := 179) B dX0_does_103 rfl ?_
      exact kw_pick [2, 3, 0] rfl (wb_X0_does_179 B a0 a1 (1 : Int32))
  · exact kw_pick [2, 3, 0] rfl (wb_X0_does_179 B a0 a1 (-1 : Int32))
theorem ct_X0_does (a0 : Option Nat) (a1 : Option Nat) (l : Launch) : kw_Met l yX0_does (ws_ yX0_does cX0_does 4 (some .int)) 14 283 [kA a0, kA a1] (kw_x kw_eI) (pm_X0_does a0 a1) := kw_met (plainFor_of_name rfl) (Nat.le_of_ble_eq_true rfl) (fun E B => wm_X0_does B a0 a1) l

/-! RosaryCarvers doesAll (LRosaryCarvers$Shop;Ljava/util/ArrayDeque;)I -/
theorem cs_RosaryCarvers_Command : kw_cs "RosaryCarvers$Command" [28] := by
  intro c hc
  simp only [List.mem_cons, List.not_mem_nil, or_false] at hc
  rcases hc with rfl
  · exact ⟨_, rfl, Or.inl rfl⟩
theorem wb_X0_doesAll_38 {E : kw_E} (B : kw_ok E cX0_doesAll RX0 "doesAll" 6 (some .int) 15 306 (tableOf [(27, 35, 38, 3), (27, 35, 38, 378)]))  (x2 : Int32) (s0 : Option Nat) : kw_W E (kw_x kw_eI) 38 [(2, kI x2)] [kA s0] (pb_X0_doesAll_38  x2 s0) := by
  unfold pb_X0_doesAll_38
  refine kw_astore (pc := 38) B dX0_doesAll_38 (by decide) (L2 := [(5, kA s0), (2, kI x2)]) rfl ?_
  refine kw_new (pc := 40) B dX0_doesAll_40 (ci := 8) (N := 8) rfl in_X9 tyX9_ok kz_Refused_ok q796 q797 q98 (fun r1 => ?_)
  refine kw_dup (pc := 43) B dX0_doesAll_43 rfl ?_
  refine kw_bipush (pc := 44) B dX0_doesAll_44 (v := (9 : Int32)) rfl ?_
  refine kw_iload_n (pc := 46) B dX0_doesAll_46 rfl 1 rfl ?_
  refine kw_aload (pc := 47) B dX0_doesAll_47 0 rfl ?_
  refine kw_callI (pc := 49) B dX0_doesAll_49 (ct_X9_init_2 r1 (9 : Int32) x2 s0) q1490 q809 q98 q810 rfl ⟨by decide, by decide, rfl⟩ (As := [kI (9 : Int32), kI x2, kA s0]) rfl (st := [kA r1]) rfl (Nat.le_of_ble_eq_true rfl) (by decide) (by decide) kw_qV (fun _ => ?_)
  exact kw_athrow B dX0_doesAll_52 (by decide)
theorem wb_X0_doesAll_7 {E : kw_E} (B : kw_ok E cX0_doesAll RX0 "doesAll" 6 (some .int) 15 306 (tableOf [(27, 35, 38, 3), (27, 35, 38, 378)]))  : ∀ (n : Nat) (x0 : Option Nat) (x2 : Int32) (x3 : Option Nat), kw_W E (kw_x kw_eI) 7 [(0, kA x0), (2, kI x2), (3, kA x3)] [] (pb_X0_doesAll_7  n x0 x2 x3) := by
  intro n
  induction n with
  | zero =>
    intro x0 x2 x3
    exact kw_fail_ok
  | succ n ih =>
    intro x0 x2 x3
    show kw_W E (kw_x kw_eI) 7 [(0, kA x0), (2, kI x2), (3, kA x3)] [] (
km_bind (km_disp x3 [(11, pm_X12_hasNext x3), (33, pm_J5_hasNext x3), (34, pm_J15_hasNext x3)]) fun i1 =>
if i1 = 0 then
(km_pure (Sum.inr x2))
else
(km_bind (km_disp x3 [(11, pm_X12_next x3), (33, pm_J5_next x3), (34, pm_J15_next x3)]) fun r2 =>
km_bind (km_cast [28] r2) fun _ =>
km_bind (pm_X0_does x0 r2) (km_h (fun q => km_bind (km_cls (some q)) fun c => if c = 8 then (km_bind (km_is 8 (some q)) fun _ => pb_X0_doesAll_38 x2 (some q)) else (km_bind (km_is 13 (some q)) fun _ => pb_X0_doesAll_38 x2 (some q))) fun i3 =>
pb_X0_doesAll_7 n x0 (x2 + (1 : Int32)) x3)))
    refine kw_aload_n (pc := 7) B dX0_doesAll_7 rfl 2 rfl ?_
    refine kw_disp (pc := 8) (pc' := 13) (st := []) kw_hI (fun i1 => ?_) ?_
    · refine kw_if_eq (pc := 13) (tgt := 59) B dX0_doesAll_13 rfl ?_ ?_
      · refine kw_iload_n (pc := 59) B dX0_doesAll_59 rfl 1 rfl ?_
        exact kw_iret B dX0_doesAll_60 rfl
      · refine kw_aload_n (pc := 16) B dX0_doesAll_16 rfl 2 rfl ?_
        refine kw_disp (pc := 17) (pc' := 22) (st := []) kw_hA (fun r2 => ?_) ?_
        · refine kw_cast_ok (pc := 22) B dX0_doesAll_22 q1276 cs_RosaryCarvers_Command ?_
          refine kw_astore (pc := 25) B dX0_doesAll_25 (by decide) (L2 := [(4, kA r2), (0, kA x0), (2, kI x2), (3, kA x3)]) rfl ?_
          refine kw_aload_n (pc := 27) B dX0_doesAll_27 rfl 1 rfl ?_
          refine kw_aload (pc := 28) B dX0_doesAll_28 0 rfl ?_
          refine kw_callSXH (pc := 30) B dX0_doesAll_30 (fun q => ?_) (ct_X0_does x0 r2) q1277 q1278 q73 q1279 ⟨by decide, by decide, rfl⟩ (As := [kA x0, kA r2]) rfl (st := []) rfl (Nat.le_of_ble_eq_true rfl) (by decide) (by decide) kw_qI (fun i3 => ?_)
          · refine kw_Vif ?_ ?_
            · refine kw_catch (pc := 30) B (rr := (RX9, TX9, 8)) rfl [] ⟨27, 35, 38, 3⟩ [⟨27, 35, 38, 378⟩] rfl (fun z hz => by cases hz) rfl (by decide) (name := "RosaryCarvers$Refused") q796 q798 rfl ?_
              exact kw_pick [2] rfl (wb_X0_doesAll_38 B x2 (some q))
            · refine kw_catch (pc := 30) B (rr := (RX15, TX15, 6)) rfl [⟨27, 35, 38, 3⟩] ⟨27, 35, 38, 378⟩ [] rfl (fun z hz => by simp only [List.mem_cons, List.not_mem_nil, or_false] at hz; subst hz; exact Or.inr ⟨by decide, "RosaryCarvers$Refused", q796, by decide⟩) rfl (by decide) (name := "RosaryCarvers$OutOfRange") q1270 q1372 rfl ?_
              exact kw_pick [2] rfl (wb_X0_doesAll_38 B x2 (some q))
          · refine kw_istore (pc := 33) B dX0_doesAll_33 (by decide) (L2 := [(5, kI i3), (4, kA r2), (0, kA x0), (2, kI x2), (3, kA x3)]) rfl ?_
            refine kw_goto (pc := 35) (tgt := 53) B dX0_doesAll_35 rfl ?_
            refine kw_iinc (pc := 53) B dX0_doesAll_53 3 rfl (w := x2 + (1 : Int32)) rfl (by decide) (L2 := [(2, kI (x2 + (1 : Int32))), (5, kI i3), (4, kA r2), (0, kA x0), (3, kA x3)]) rfl ?_
            refine kw_goto (pc := 56) (tgt := 7) B dX0_doesAll_56 rfl ?_
            exact kw_pick [3, 0, 4] rfl (ih x0 (x2 + (1 : Int32)) x3)
        · intro q hq hk
          simp only [List.mem_cons, List.not_mem_nil, or_false] at hq
          rcases hq with rfl | rfl | rfl
          · exact kw_callF (pc := 17) B dX0_doesAll_17 (ci := 11) rfl (ct_X12_next x3) q1275 q425 q427 q101 q429 q424 q423 q428 q426 q399 ⟨by decide, by decide, rfl⟩ (As := []) rfl (st := []) rfl (Nat.le_of_ble_eq_true rfl) (by decide) (by decide) kw_qA hk
          · exact kw_callF (pc := 17) B dX0_doesAll_17 (ci := 33) rfl (ct_J5_next x3) q1275 q533 q535 q84 q537 q424 q423 q536 q534 q415 ⟨by decide, by decide, rfl⟩ (As := []) rfl (st := []) rfl (Nat.le_of_ble_eq_true rfl) (by decide) (by decide) kw_qA hk
          · exact kw_callF (pc := 17) B dX0_doesAll_17 (ci := 34) rfl (ct_J15_next x3) q1275 q522 q524 q102 q526 q424 q423 q525 q523 q409 ⟨by decide, by decide, rfl⟩ (As := []) rfl (st := []) rfl (Nat.le_of_ble_eq_true rfl) (by decide) (by decide) kw_qA hk
    · intro q hq hk
      simp only [List.mem_cons, List.not_mem_nil, or_false] at hq
      rcases hq with rfl | rfl | rfl
      · exact kw_callF (pc := 8) B dX0_doesAll_8 (ci := 11) rfl (ct_X12_hasNext x3) q1273 q400 q402 q101 q404 q398 q397 q403 q401 q399 ⟨by decide, by decide, rfl⟩ (As := []) rfl (st := []) rfl (Nat.le_of_ble_eq_true rfl) (by decide) (by decide) kw_qI hk
      · exact kw_callF (pc := 8) B dX0_doesAll_8 (ci := 33) rfl (ct_J5_hasNext x3) q1273 q416 q418 q84 q420 q398 q397 q419 q417 q415 ⟨by decide, by decide, rfl⟩ (As := []) rfl (st := []) rfl (Nat.le_of_ble_eq_true rfl) (by decide) (by decide) kw_qI hk
      · exact kw_callF (pc := 8) B dX0_doesAll_8 (ci := 34) rfl (ct_J15_hasNext x3) q1273 q410 q412 q102 q414 q398 q397 q413 q411 q409 ⟨by decide, by decide, rfl⟩ (As := []) rfl (st := []) rfl (Nat.le_of_ble_eq_true rfl) (by decide) (by decide) kw_qI hk
theorem wm_X0_doesAll {E : kw_E} (B : kw_ok E cX0_doesAll RX0 "doesAll" 6 (some .int) 15 306 (tableOf [(27, 35, 38, 3), (27, 35, 38, 378)])) (a0 : Option Nat) (a1 : Option Nat) : kw_W E (kw_x kw_eI) 0 [(0, kA a0), (1, kA a1)] [] (pm_X0_doesAll a0 a1) := by
  unfold pm_X0_doesAll
  refine kw_iconst (pc := 0) B dX0_doesAll_0 (v := (0 : Int32)) rfl ?_
  refine kw_istore_n (pc := 1) B dX0_doesAll_1 rfl (by decide) (L2 := [(2, kI (0 : Int32)), (0, kA a0), (1, kA a1)]) rfl ?_
  refine kw_aload_n (pc := 2) B dX0_doesAll_2 rfl 2 rfl ?_
  refine kw_callV (pc := 3) B dX0_doesAll_3 (ci := 32) rfl (ct_J4_iterator a1) q1271 q942 q2789 q80 q944 ⟨by decide, by decide, rfl⟩ (As := []) rfl (st := []) rfl (Nat.le_of_ble_eq_true rfl) (by decide) (by decide) kw_qA (fun r1 => ?_)
  refine kw_astore_n (pc := 6) B dX0_doesAll_6 rfl (by decide) (L2 := [(3, kA r1), (2, kI (0 : Int32)), (0, kA a0), (1, kA a1)]) rfl ?_
  exact kw_pick [2, 1, 0] rfl (wb_X0_doesAll_7 B km_fuel a0 (0 : Int32) r1)
theorem ct_X0_doesAll (a0 : Option Nat) (a1 : Option Nat) (l : Launch) : kw_Met l yX0_doesAll (wsW_ yX0_doesAll cX0_doesAll 6 (some .int) [(27, 35, 38, 3), (27, 35, 38, 378)]) 15 306 [kA a0, kA a1] (kw_x kw_eI) (pm_X0_doesAll a0 a1) := kw_metH rfl (Nat.le_of_ble_eq_true rfl) (fun E B => wm_X0_doesAll B a0 a1) l

/-! RosaryCarvers$13 does (LRosaryCarvers$Shop;)I -/
theorem fl_X31_7 : kw_fl RX31 7 "RosaryCarvers$13" [(29, 1)] := (kw_fl_c (C := RX31) (T := TX31) (N := 3) rfl (by decide) in_X31 q2278 (Or.inl rfl) kw_fl_nil)
theorem wm_X31_does {E : kw_E} (B : kw_ok E cX31_does RX31 "does" 2 (some .int) 16 331 []) (a0 : Option Nat) (a1 : Option Nat) : kw_W E (kw_x kw_eI) 0 [(0, kA a0), (1, kA a1)] [] (pm_X31_does a0 a1) := by
  unfold pm_X31_does
  refine kw_aload_n (pc := 0) B dX31_does_0 rfl 1 rfl ?_
  refine kw_aload_n (pc := 1) B dX31_does_1 rfl 0 rfl ?_
  refine kw_gR (pc := 2) B dX31_does_2 fl_X31_7 (fun r1 => ?_)
  refine kw_callSNXW (pc := 5) B dX31_does_5 (xq := Sum.inl) (fun _ => rfl) kw_noh (ct_X0_doesAll a1 r1) q1267 q1268 q73 q1269 ⟨by decide, by decide, rfl⟩ (As := [kA a1, kA r1]) rfl (st := []) rfl (Nat.le_of_ble_eq_true rfl) (by decide) (by decide) kw_qI (fun i2 => ?_)
  exact kw_iret B dX31_does_8 rfl
theorem ct_X31_does (a0 : Option Nat) (a1 : Option Nat) (l : Launch) : kw_Met l yX31_does (ws_ yX31_does cX31_does 2 (some .int)) 16 331 [kA a0, kA a1] (kw_x kw_eI) (pm_X31_does a0 a1) := kw_met (plainFor_of_name rfl) (Nat.le_of_ble_eq_true rfl) (fun E B => wm_X31_does B a0 a1) l

/-! java/util/ArrayDeque addLast (Ljava/lang/Object;)V -/
theorem fp_J4_20 : kw_fp RJ4 .int false [(32, 2)] := (kw_fp_c (C := RJ4) (T := TJ4) (N := 3) (ty0 := tyJ4) rfl tyJ4_ok nmJ4 rfl (fun h => by cases h) (by decide) rfl kw_fp_nil)
theorem wm_J4_addLast {E : kw_E} (B : kw_ok E cJ4_addLast RJ4 "addLast" 3 none 2 21 []) (a0 : Option Nat) (a1 : Option Nat) : kw_W E kw_eV 0 [(0, kA a0), (1, kA a1)] [] (pm_J4_addLast a0 a1) := by
  unfold pm_J4_addLast
  refine kw_aload_n (pc := 0) B dJ4_addLast_0 rfl 1 rfl ?_
  refine kw_ifnonnull (pc := 1) (tgt := 12) B dJ4_addLast_1 rfl ?_ ?_
  · refine kw_aload_n (pc := 12) B dJ4_addLast_12 rfl 0 rfl ?_
    refine kw_gR (pc := 13) B dJ4_addLast_13 fl_J4_3 (fun r1 => ?_)
    refine kw_astore_n (pc := 16) B dJ4_addLast_16 rfl (by decide) (L2 := [(2, kA r1), (0, kA a0), (1, kA a1)]) rfl ?_
    refine kw_aload_n (pc := 17) B dJ4_addLast_17 rfl 0 rfl ?_
    refine kw_aload_n (pc := 18) B dJ4_addLast_18 rfl 1 rfl ?_
    refine kw_gI (pc := 19) B dJ4_addLast_19 fl_J4_20 (fun i2 => ?_)
    refine kw_aload_n (pc := 22) B dJ4_addLast_22 rfl 2 rfl ?_
    refine kw_aast (pc := 23) B dJ4_addLast_23 ?_
    refine kw_aload_n (pc := 24) B dJ4_addLast_24 rfl 1 rfl ?_
    refine kw_gI (pc := 25) B dJ4_addLast_25 fl_J4_24 (fun i4 => ?_)
    refine kw_aload_n (pc := 28) B dJ4_addLast_28 rfl 1 rfl ?_
    refine kw_aload_n (pc := 29) B dJ4_addLast_29 rfl 1 rfl ?_
    refine kw_gI (pc := 30) B dJ4_addLast_30 fl_J4_20 (fun i5 => ?_)
    refine kw_aload_n (pc := 33) B dJ4_addLast_33 rfl 0 rfl ?_
    refine kw_alen (pc := 34) B dJ4_addLast_34 (fun i6 => ?_)
    refine kw_callS (pc := 35) B dJ4_addLast_35 (ct_J4_inc i5 i6) q1173 q531 q80 q532 ⟨by decide, by decide, rfl⟩ (As := [kI i5, kI i6]) rfl (st := [kA a0, kI i4]) rfl (Nat.le_of_ble_eq_true rfl) (by decide) (by decide) kw_qI (fun i7 => ?_)
    refine kw_dup_x1 (pc := 38) B dJ4_addLast_38 rfl rfl ?_
    refine kw_pI (pc := 39) B dJ4_addLast_39 fl_J4_20 fp_J4_20 (fun h => by cases h) ?_
    refine kw_icmp_ne (pc := 42) (tgt := 50) B dJ4_addLast_42 rfl ?_ ?_
    · exact kw_vret B dJ4_addLast_50 rfl
    · refine kw_aload_n (pc := 45) B dJ4_addLast_45 rfl 1 rfl ?_
      refine kw_iconst (pc := 46) B dJ4_addLast_46 (v := (1 : Int32)) rfl ?_
      exact kw_fail_ok
  · exact kw_fail_ok
theorem ct_J4_addLast (a0 : Option Nat) (a1 : Option Nat) (l : Launch) : kw_Met l yJ4_addLast (ws_ yJ4_addLast cJ4_addLast 3 none) 2 21 [kA a0, kA a1] kw_eV (pm_J4_addLast a0 a1) := kw_met (plainFor_of_name rfl) (Nat.le_of_ble_eq_true rfl) (fun E B => wm_J4_addLast B a0 a1) l

/-! java/util/ArrayDeque elementAt ([Ljava/lang/Object;I)Ljava/lang/Object; -/

theorem wm_J4_elementAt {E : kw_E} (B : kw_ok E cJ4_elementAt RJ4 "elementAt" 2 (some (.object "java/lang/Object")) 1 0 []) (a0 : Option Nat) (a1 : Int32) : kw_W E kw_eA 0 [(0, kA a0), (1, kI a1)] [] (pm_J4_elementAt a0 a1) := by
  unfold pm_J4_elementAt
  refine kw_aload_n (pc := 0) B dJ4_elementAt_0 rfl 0 rfl ?_
  refine kw_iload_n (pc := 1) B dJ4_elementAt_1 rfl 1 rfl ?_
  refine kw_aald (pc := 2) B dJ4_elementAt_2 (fun r1 => ?_)
  exact kw_aret rfl B dJ4_elementAt_3 rfl
theorem ct_J4_elementAt (a0 : Option Nat) (a1 : Int32) (l : Launch) : kw_Met l yJ4_elementAt (ws_ yJ4_elementAt cJ4_elementAt 2 (some (.object "java/lang/Object"))) 1 0 [kA a0, kI a1] kw_eA (pm_J4_elementAt a0 a1) := kw_met (plainFor_of_name rfl) (Nat.le_of_ble_eq_true rfl) (fun E B => wm_J4_elementAt B a0 a1) l

/-! java/util/ArrayDeque pollFirst ()Ljava/lang/Object; -/
theorem fp_J4_24 : kw_fp RJ4 .int false [(32, 1)] := (kw_fp_c (C := RJ4) (T := TJ4) (N := 3) (ty0 := tyJ4) rfl tyJ4_ok nmJ4 rfl (fun h => by cases h) (by decide) rfl kw_fp_nil)
theorem wm_J4_pollFirst {E : kw_E} (B : kw_ok E cJ4_pollFirst RJ4 "pollFirst" 4 (some (.object "java/lang/Object")) 2 21 []) (a0 : Option Nat) : kw_W E kw_eA 0 [(0, kA a0)] [] (pm_J4_pollFirst a0) := by
  unfold pm_J4_pollFirst
  refine kw_aload_n (pc := 0) B dJ4_pollFirst_0 rfl 0 rfl ?_
  refine kw_gR (pc := 1) B dJ4_pollFirst_1 fl_J4_3 (fun r1 => ?_)
  refine kw_dup (pc := 4) B dJ4_pollFirst_4 rfl ?_
  refine kw_astore_n (pc := 5) B dJ4_pollFirst_5 rfl (by decide) (L2 := [(1, kA r1), (0, kA a0)]) rfl ?_
  refine kw_aload_n (pc := 6) B dJ4_pollFirst_6 rfl 1 rfl ?_
  refine kw_gI (pc := 7) B dJ4_pollFirst_7 fl_J4_24 (fun i2 => ?_)
  refine kw_dup (pc := 10) B dJ4_pollFirst_10 rfl ?_
  refine kw_istore_n (pc := 11) B dJ4_pollFirst_11 rfl (by decide) (L2 := [(2, kI i2), (1, kA r1), (0, kA a0)]) rfl ?_
  refine kw_callS (pc := 12) B dJ4_pollFirst_12 (ct_J4_elementAt r1 i2) q1560 q1561 q80 q1562 ⟨by decide, by decide, rfl⟩ (As := [kA r1, kI i2]) rfl (st := []) rfl (Nat.le_of_ble_eq_true rfl) (by decide) (by decide) kw_qA (fun r3 => ?_)
  refine kw_astore_n (pc := 15) B dJ4_pollFirst_15 rfl (by decide) (L2 := [(3, kA r3), (2, kI i2), (1, kA r1), (0, kA a0)]) rfl ?_
  refine kw_aload_n (pc := 16) B dJ4_pollFirst_16 rfl 0 rfl ?_
  refine kw_ifnull (pc := 17) (tgt := 34) B dJ4_pollFirst_17 rfl ?_ ?_
  · refine kw_aload_n (pc := 34) B dJ4_pollFirst_34 rfl 0 rfl ?_
    exact kw_aret rfl B dJ4_pollFirst_35 rfl
  · refine kw_aload_n (pc := 20) B dJ4_pollFirst_20 rfl 2 rfl ?_
    refine kw_iload_n (pc := 21) B dJ4_pollFirst_21 rfl 1 rfl ?_
    refine kw_null (pc := 22) B dJ4_pollFirst_22 ?_
    refine kw_aast (pc := 23) B dJ4_pollFirst_23 ?_
    refine kw_aload_n (pc := 24) B dJ4_pollFirst_24 rfl 3 rfl ?_
    refine kw_iload_n (pc := 25) B dJ4_pollFirst_25 rfl 1 rfl ?_
    refine kw_aload_n (pc := 26) B dJ4_pollFirst_26 rfl 2 rfl ?_
    refine kw_alen (pc := 27) B dJ4_pollFirst_27 (fun i5 => ?_)
    refine kw_callS (pc := 28) B dJ4_pollFirst_28 (ct_J4_inc i2 i5) q1173 q531 q80 q532 ⟨by decide, by decide, rfl⟩ (As := [kI i2, kI i5]) rfl (st := [kA a0]) rfl (Nat.le_of_ble_eq_true rfl) (by decide) (by decide) kw_qI (fun i6 => ?_)
    refine kw_pI (pc := 31) B dJ4_pollFirst_31 fl_J4_24 fp_J4_24 (fun h => by cases h) ?_
    refine kw_aload_n (pc := 34) B dJ4_pollFirst_34 rfl 0 rfl ?_
    exact kw_aret rfl B dJ4_pollFirst_35 rfl
theorem ct_J4_pollFirst (a0 : Option Nat) (l : Launch) : kw_Met l yJ4_pollFirst (ws_ yJ4_pollFirst cJ4_pollFirst 4 (some (.object "java/lang/Object"))) 2 21 [kA a0] kw_eA (pm_J4_pollFirst a0) := kw_met (plainFor_of_name rfl) (Nat.le_of_ble_eq_true rfl) (fun E B => wm_J4_pollFirst B a0) l

/-! java/util/ArrayDeque removeFirst ()Ljava/lang/Object; -/

theorem wm_J4_removeFirst {E : kw_E} (B : kw_ok E cJ4_removeFirst RJ4 "removeFirst" 2 (some (.object "java/lang/Object")) 3 44 []) (a0 : Option Nat) : kw_W E kw_eA 0 [(0, kA a0)] [] (pm_J4_removeFirst a0) := by
  unfold pm_J4_removeFirst
  refine kw_aload_n (pc := 0) B dJ4_removeFirst_0 rfl 0 rfl ?_
  refine kw_callV (pc := 1) B dJ4_removeFirst_1 (ci := 32) rfl (ct_J4_pollFirst a0) q1556 q1557 q1558 q80 q1559 ⟨by decide, by decide, rfl⟩ (As := []) rfl (st := []) rfl (Nat.le_of_ble_eq_true rfl) (by decide) (by decide) kw_qA (fun r1 => ?_)
  refine kw_astore_n (pc := 4) B dJ4_removeFirst_4 rfl (by decide) (L2 := [(1, kA r1), (0, kA a0)]) rfl ?_
  refine kw_aload_n (pc := 5) B dJ4_removeFirst_5 rfl 0 rfl ?_
  refine kw_ifnonnull (pc := 6) (tgt := 17) B dJ4_removeFirst_6 rfl ?_ ?_
  · refine kw_aload_n (pc := 17) B dJ4_removeFirst_17 rfl 0 rfl ?_
    exact kw_aret rfl B dJ4_removeFirst_18 rfl
  · exact kw_fail_ok
theorem ct_J4_removeFirst (a0 : Option Nat) (l : Launch) : kw_Met l yJ4_removeFirst (ws_ yJ4_removeFirst cJ4_removeFirst 2 (some (.object "java/lang/Object"))) 3 44 [kA a0] kw_eA (pm_J4_removeFirst a0) := kw_met (plainFor_of_name rfl) (Nat.le_of_ble_eq_true rfl) (fun E B => wm_J4_removeFirst B a0) l

/-! RosaryCarvers$Deed done ()I -/
theorem fl_X4_17 : kw_flN RX4 17 "RosaryCarvers" "RosaryCarvers" [(0, 0)] := (kw_flN_c (C := RX0) (T := TX0) (N := 8) rfl (by decide) in_X0 q303 (Or.inl rfl) kw_flN_nil)
theorem fl_X4_28 : kw_flN RX4 28 "RosaryCarvers" "RosaryCarvers" [(0, 2)] := (kw_flN_c (C := RX0) (T := TX0) (N := 8) rfl (by decide) in_X0 q306 (Or.inl rfl) kw_flN_nil)
theorem cs_RosaryCarvers_Shop : kw_cs "RosaryCarvers$Shop" [1] := by
  intro c hc
  simp only [List.mem_cons, List.not_mem_nil, or_false] at hc
  rcases hc with rfl
  · exact ⟨_, rfl, Or.inl rfl⟩
theorem fp_X4_17 : kw_fp RX4 (.object "RosaryCarvers$Shop") false [(0, 0)] := (kw_fp_c (C := RX0) (T := TX0) (N := 8) (ty0 := tyX0) rfl tyX0_ok nmX0 rfl (fun h => by cases h) (by decide) rfl kw_fp_nil)
theorem fl_X4_48 : kw_flN RX4 48 "RosaryCarvers" "RosaryCarvers" [(0, 3)] := (kw_flN_c (C := RX0) (T := TX0) (N := 8) rfl (by decide) in_X0 q308 (Or.inl rfl) kw_flN_nil)
theorem fp_X4_48 : kw_fp RX4 (.object "RosaryCarvers$Refused") false [(0, 3)] := (kw_fp_c (C := RX0) (T := TX0) (N := 8) (ty0 := tyX0) rfl tyX0_ok nmX0 rfl (fun h => by cases h) (by decide) rfl kw_fp_nil)
theorem wb_X4_done_67 {E : kw_E} (B : kw_ok E cX4_done RX4 "done" 4 (some .int) 17 352 (tableOf [(15, 76, 77, 46)]))  (x0 : Option Nat) (x1 : Option Nat) (x2 : Int32) : kw_W E kw_eI 67 [(0, kA x0), (1, kA x1), (2, kI x2)] [] (pb_X4_done_67  x0 x1 x2) := by
  unfold pb_X4_done_67
  refine kw_aload_n (pc := 67) B dX4_done_67 rfl 0 rfl ?_
  refine kw_gR (pc := 68) B dX4_done_68 fl_X4_3 (fun r1 => ?_)
  refine kw_aload_n (pc := 71) B dX4_done_71 rfl 1 rfl ?_
  refine kw_pRN (pc := 72) B dX4_done_72 fl_X4_17 fp_X4_17 rfl ?_
  refine kw_iload_n (pc := 75) B dX4_done_75 rfl 2 rfl ?_
  exact kw_iret B dX4_done_76 rfl
theorem wb_X4_done_77 {E : kw_E} (B : kw_ok E cX4_done RX4 "done" 4 (some .int) 17 352 (tableOf [(15, 76, 77, 46)]))  (x0 : Option Nat) (s0 : Option Nat) : kw_W E kw_eI 77 [(0, kA x0)] [kA s0] (pb_X4_done_77  x0 s0) := by
  unfold pb_X4_done_77
  refine kw_astore_n (pc := 77) B dX4_done_77 rfl (by decide) (L2 := [(2, kA s0), (0, kA x0)]) rfl ?_
  refine kw_aload_n (pc := 78) B dX4_done_78 rfl 1 rfl ?_
  refine kw_gR (pc := 79) B dX4_done_79 fl_X4_3 (fun r1 => ?_)
  refine kw_aload_n (pc := 82) B dX4_done_82 rfl 0 rfl ?_
  refine kw_pRN (pc := 83) B dX4_done_83 fl_X4_48 fp_X4_48 rfl ?_
  refine kw_bipush (pc := 86) B dX4_done_86 (v := (-5 : Int32)) rfl ?_
  exact kw_iret B dX4_done_88 rfl
theorem wm_X4_done {E : kw_E} (B : kw_ok E cX4_done RX4 "done" 4 (some .int) 17 352 (tableOf [(15, 76, 77, 46)])) (a0 : Option Nat) : kw_W E kw_eI 0 [(0, kA a0)] [] (pm_X4_done a0) := by
  unfold pm_X4_done
  refine kw_new (pc := 0) B dX4_done_0 (ci := 1) (N := 17) rfl in_X1 tyX1_ok kz_Shop_ok q368 q141 q74 (fun r1 => ?_)
  refine kw_dup (pc := 3) B dX4_done_3 rfl ?_
  refine kw_aload_n (pc := 4) B dX4_done_4 rfl 0 rfl ?_
  refine kw_gR (pc := 5) B dX4_done_5 fl_X4_3 (fun r2 => ?_)
  refine kw_gRN (pc := 8) B dX4_done_8 fl_X4_17 (fun r3 => ?_)
  refine kw_callI (pc := 11) B dX4_done_11 (ct_X1_init_2 r1 r3) q369 q370 q74 q371 rfl ⟨by decide, by decide, rfl⟩ (As := [kA r3]) rfl (st := [kA r1]) rfl (Nat.le_of_ble_eq_true rfl) (by decide) (by decide) kw_qV (fun _ => ?_)
  refine kw_astore_n (pc := 14) B dX4_done_14 rfl (by decide) (L2 := [(1, kA r1), (0, kA a0)]) rfl ?_
  refine kw_aload_n (pc := 15) B dX4_done_15 rfl 1 rfl ?_
  refine kw_aload_n (pc := 16) B dX4_done_16 rfl 0 rfl ?_
  refine kw_dispXH (pc := 17) (pc' := 20) (st := []) kw_hI (fun q => ?_) (fun i4 => ?_) ?_
  · refine kw_catch (pc := 17) B (rr := (RX9, TX9, 8)) rfl [] ⟨15, 76, 77, 46⟩ [] rfl (fun z hz => by cases hz) rfl (by decide) (name := "RosaryCarvers$Refused") q367 q798 rfl ?_
    exact kw_pick [1] rfl (wb_X4_done_77 B a0 (some q))
  · refine kw_istore_n (pc := 20) B dX4_done_20 rfl (by decide) (L2 := [(2, kI i4), (1, kA r1), (0, kA a0)]) rfl ?_
    refine kw_aload_n (pc := 21) B dX4_done_21 rfl 2 rfl ?_
    refine kw_gR (pc := 22) B dX4_done_22 fl_X4_3 (fun r5 => ?_)
    refine kw_gRN (pc := 25) B dX4_done_25 fl_X4_28 (fun r6 => ?_)
    refine kw_aload_n (pc := 28) B dX4_done_28 rfl 2 rfl ?_
    refine kw_gR (pc := 29) B dX4_done_29 fl_X4_3 (fun r7 => ?_)
    refine kw_gRN (pc := 32) B dX4_done_32 fl_X4_17 (fun r8 => ?_)
    refine kw_callV (pc := 35) B dX4_done_35 (ci := 32) rfl (ct_J4_addLast r6 r8) q1536 q1537 q1538 q80 q1539 ⟨by decide, by decide, rfl⟩ (As := [kA r8]) rfl (st := []) rfl (Nat.le_of_ble_eq_true rfl) (by decide) (by decide) kw_qV (fun _ => ?_)
    refine kw_aload_n (pc := 38) B dX4_done_38 rfl 2 rfl ?_
    refine kw_gR (pc := 39) B dX4_done_39 fl_X4_3 (fun r9 => ?_)
    refine kw_gRN (pc := 42) B dX4_done_42 fl_X4_28 (fun r10 => ?_)
    refine kw_callV (pc := 45) B dX4_done_45 (ci := 32) rfl (ct_J4_size r10) q1551 q952 q953 q80 q954 ⟨by decide, by decide, rfl⟩ (As := []) rfl (st := []) rfl (Nat.le_of_ble_eq_true rfl) (by decide) (by decide) kw_qI (fun i11 => ?_)
    refine kw_bipush (pc := 48) B dX4_done_48 (v := (8 : Int32)) rfl ?_
    refine kw_icmp_le (pc := 50) (tgt := 67) B dX4_done_50 rfl ?_ ?_
    · exact kw_pick [2, 1, 0] rfl (wb_X4_done_67 B a0 r1 i4)
    · refine kw_aload_n (pc := 53) B dX4_done_53 rfl 2 rfl ?_
      refine kw_gR (pc := 54) B dX4_done_54 fl_X4_3 (fun r12 => ?_)
      refine kw_gRN (pc := 57) B dX4_done_57 fl_X4_28 (fun r13 => ?_)
      refine kw_callV (pc := 60) B dX4_done_60 (ci := 32) rfl (ct_J4_removeFirst r13) q1552 q1553 q1554 q80 q1555 ⟨by decide, by decide, rfl⟩ (As := []) rfl (st := []) rfl (Nat.le_of_ble_eq_true rfl) (by decide) (by decide) kw_qA (fun r14 => ?_)
      refine kw_cast_ok (pc := 63) B dX4_done_63 q368 cs_RosaryCarvers_Shop ?_
      refine kw_astore_n (pc := 66) B dX4_done_66 rfl (by decide) (L2 := [(3, kA r14), (2, kI i4), (1, kA r1), (0, kA a0)]) rfl ?_
      exact kw_pick [3, 2, 1] rfl (wb_X4_done_67 B a0 r1 i4)
  · intro q hq hcat hk
    simp only [List.mem_cons, List.not_mem_nil, or_false] at hq
    rcases hq with rfl | rfl | rfl | rfl | rfl | rfl | rfl | rfl | rfl | rfl | rfl | rfl | rfl
    · exact kw_callAXH (pc := 17) B dX4_done_17 (x0 := ⟨"RosaryCarvers$Deed", "does", "(LRosaryCarvers$Shop;)I"⟩) (owner := "RosaryCarvers$Deed") (ci := 4) rfl hcat (ct_X5_does a0 r1) q774 q776 q777 q778 q83 q779 q775 ⟨by decide, by decide, rfl⟩ (As := [kA r1]) rfl (st := []) rfl (Nat.le_of_ble_eq_true rfl) (by decide) (by decide) kw_qI hk
    · exact kw_callAXH (pc := 17) B dX4_done_17 (x0 := ⟨"RosaryCarvers$Deed", "does", "(LRosaryCarvers$Shop;)I"⟩) (owner := "RosaryCarvers$Deed") (ci := 15) rfl hcat (ct_X17_does a0 r1) q774 q776 q1491 q1492 q112 q1493 q775 ⟨by decide, by decide, rfl⟩ (As := [kA r1]) rfl (st := []) rfl (Nat.le_of_ble_eq_true rfl) (by decide) (by decide) kw_qI hk
    · exact kw_callAXH (pc := 17) B dX4_done_17 (x0 := ⟨"RosaryCarvers$Deed", "does", "(LRosaryCarvers$Shop;)I"⟩) (owner := "RosaryCarvers$Deed") (ci := 16) rfl hcat (ct_X18_does a0 r1) q774 q776 q1500 q1501 q113 q1502 q775 ⟨by decide, by decide, rfl⟩ (As := [kA r1]) rfl (st := []) rfl (Nat.le_of_ble_eq_true rfl) (by decide) (by decide) kw_qI hk
    · exact kw_callAXH (pc := 17) B dX4_done_17 (x0 := ⟨"RosaryCarvers$Deed", "does", "(LRosaryCarvers$Shop;)I"⟩) (owner := "RosaryCarvers$Deed") (ci := 17) rfl hcat (ct_X19_does a0 r1) q774 q776 q1509 q1510 q114 q1511 q775 ⟨by decide, by decide, rfl⟩ (As := [kA r1]) rfl (st := []) rfl (Nat.le_of_ble_eq_true rfl) (by decide) (by decide) kw_qI hk
    · exact kw_callAXH (pc := 17) B dX4_done_17 (x0 := ⟨"RosaryCarvers$Deed", "does", "(LRosaryCarvers$Shop;)I"⟩) (owner := "RosaryCarvers$Deed") (ci := 18) rfl hcat (ct_X20_does a0 r1) q774 q776 q1516 q1517 q115 q1518 q775 ⟨by decide, by decide, rfl⟩ (As := [kA r1]) rfl (st := []) rfl (Nat.le_of_ble_eq_true rfl) (by decide) (by decide) kw_qI hk
    · exact kw_callAXH (pc := 17) B dX4_done_17 (x0 := ⟨"RosaryCarvers$Deed", "does", "(LRosaryCarvers$Shop;)I"⟩) (owner := "RosaryCarvers$Deed") (ci := 19) rfl hcat (ct_X21_does a0 r1) q774 q776 q1520 q1521 q116 q1522 q775 ⟨by decide, by decide, rfl⟩ (As := [kA r1]) rfl (st := []) rfl (Nat.le_of_ble_eq_true rfl) (by decide) (by decide) kw_qI hk
    · exact kw_callAXH (pc := 17) B dX4_done_17 (x0 := ⟨"RosaryCarvers$Deed", "does", "(LRosaryCarvers$Shop;)I"⟩) (owner := "RosaryCarvers$Deed") (ci := 20) rfl hcat (ct_X22_does a0 r1) q774 q776 q1524 q1525 q117 q1526 q775 ⟨by decide, by decide, rfl⟩ (As := [kA r1]) rfl (st := []) rfl (Nat.le_of_ble_eq_true rfl) (by decide) (by decide) kw_qI hk
    · exact kw_callAXH (pc := 17) B dX4_done_17 (x0 := ⟨"RosaryCarvers$Deed", "does", "(LRosaryCarvers$Shop;)I"⟩) (owner := "RosaryCarvers$Deed") (ci := 21) rfl hcat (ct_X23_does a0 r1) q774 q776 q1528 q1529 q118 q1530 q775 ⟨by decide, by decide, rfl⟩ (As := [kA r1]) rfl (st := []) rfl (Nat.le_of_ble_eq_true rfl) (by decide) (by decide) kw_qI hk
    · exact kw_callAXH (pc := 17) B dX4_done_17 (x0 := ⟨"RosaryCarvers$Deed", "does", "(LRosaryCarvers$Shop;)I"⟩) (owner := "RosaryCarvers$Deed") (ci := 22) rfl hcat (ct_X24_does a0 r1) q774 q776 q1532 q1533 q119 q1534 q775 ⟨by decide, by decide, rfl⟩ (As := [kA r1]) rfl (st := []) rfl (Nat.le_of_ble_eq_true rfl) (by decide) (by decide) kw_qI hk
    · exact kw_callAXH (pc := 17) B dX4_done_17 (x0 := ⟨"RosaryCarvers$Deed", "does", "(LRosaryCarvers$Shop;)I"⟩) (owner := "RosaryCarvers$Deed") (ci := 23) rfl hcat (ct_X25_does a0 r1) q774 q776 q785 q786 q120 q787 q775 ⟨by decide, by decide, rfl⟩ (As := [kA r1]) rfl (st := []) rfl (Nat.le_of_ble_eq_true rfl) (by decide) (by decide) kw_qI hk
    · exact kw_callAXH (pc := 17) B dX4_done_17 (x0 := ⟨"RosaryCarvers$Deed", "does", "(LRosaryCarvers$Shop;)I"⟩) (owner := "RosaryCarvers$Deed") (ci := 24) rfl hcat (ct_X26_does a0 r1) q774 q776 q857 q858 q121 q859 q775 ⟨by decide, by decide, rfl⟩ (As := [kA r1]) rfl (st := []) rfl (Nat.le_of_ble_eq_true rfl) (by decide) (by decide) kw_qI hk
    · exact kw_callAXH (pc := 17) B dX4_done_17 (x0 := ⟨"RosaryCarvers$Deed", "does", "(LRosaryCarvers$Shop;)I"⟩) (owner := "RosaryCarvers$Deed") (ci := 25) rfl hcat (ct_X27_does a0 r1) q774 q776 q1111 q1112 q122 q1113 q775 ⟨by decide, by decide, rfl⟩ (As := [kA r1]) rfl (st := []) rfl (Nat.le_of_ble_eq_true rfl) (by decide) (by decide) kw_qI hk
    · exact kw_callAXH (pc := 17) B dX4_done_17 (x0 := ⟨"RosaryCarvers$Deed", "does", "(LRosaryCarvers$Shop;)I"⟩) (owner := "RosaryCarvers$Deed") (ci := 29) rfl hcat (ct_X31_does a0 r1) q774 q776 q1264 q1265 q131 q1266 q775 ⟨by decide, by decide, rfl⟩ (As := [kA r1]) rfl (st := []) rfl (Nat.le_of_ble_eq_true rfl) (by decide) (by decide) kw_qI hk
theorem ct_X4_done (a0 : Option Nat) (l : Launch) : kw_Met l yX4_done (wsW_ yX4_done cX4_done 4 (some .int) [(15, 76, 77, 46)]) 17 352 [kA a0] kw_eI (pm_X4_done a0) := kw_metH rfl (Nat.le_of_ble_eq_true rfl) (fun E B => wm_X4_done B a0) l
