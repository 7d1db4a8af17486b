set_option maxRecDepth 100000
/-! java/lang/StringBuilder toString ()Ljava/lang/String; -/

theorem wm_J23_toString {E : kw_E} (B : kw_ok E cJ23_toString RJ23 "toString" 1 (some (.object "java/lang/String")) 6 131 []) (a0 : Option Nat) : kw_W E kw_eA 0 [(0, kA a0)] [] (pm_J23_toString a0) := by
  unfold pm_J23_toString
  refine kw_new (pc := 0) B dJ23_toString_0 (ci := 35) (N := 4) rfl in_J16 tyJ16_ok kz_String_ok q2087 q2088 q103 (fun r1 => ?_)
  refine kw_dup (pc := 3) B dJ23_toString_3 rfl ?_
  refine kw_aload_n (pc := 4) B dJ23_toString_4 rfl 0 rfl ?_
  refine kw_callI (pc := 5) B dJ23_toString_5 (ct_J16_init r1 a0) q2089 q2090 q103 q2091 rfl ⟨by decide, by decide, rfl⟩ (As := [kA a0]) rfl (st := [kA r1]) rfl (Nat.le_of_ble_eq_true rfl) (by decide) (by decide) kw_qV (fun _ => ?_)
  exact kw_aret rfl B dJ23_toString_8 rfl
theorem ct_J23_toString (a0 : Option Nat) (l : Launch) : kw_Met l yJ23_toString (ws_ yJ23_toString cJ23_toString 1 (some (.object "java/lang/String"))) 6 131 [kA a0] kw_eA (pm_J23_toString a0) := kw_met (plainFor_of_name rfl) (Nat.le_of_ble_eq_true rfl) (fun E B => wm_J23_toString B a0) l

/-! java/lang/String coder ()B -/

theorem wm_J16_coder {E : kw_E} (B : kw_ok E cJ16_coder RJ16 "coder" 1 (some .byte) 1 0 []) (a0 : Option Nat) : kw_W E kw_eI 0 [(0, kA a0)] [] (pm_J16_coder a0) := by
  unfold pm_J16_coder
  refine kw_getsI (pc := 0) B dJ16_coder_0 (v := (1 : Int32)) (C := "java/lang/String") (n := "COMPACT_STRINGS") (dd := "Z") (by decide) q1075 rfl ?_
  refine kw_if_eq (pc := 3) (tgt := 13) B dJ16_coder_3 rfl ?_ ?_
  · exact kw_fail_ok
  · refine kw_aload_n (pc := 6) B dJ16_coder_6 rfl 0 rfl ?_
    refine kw_gI (pc := 7) B dJ16_coder_7 fl_J16_15 (fun i1 => ?_)
    refine kw_goto (pc := 10) (tgt := 14) B dJ16_coder_10 rfl ?_
    exact kw_zret B dJ16_coder_14 (g := fun v => v) (fun _ => rfl)
theorem ct_J16_coder (a0 : Option Nat) (l : Launch) : kw_Met l yJ16_coder (ws_ yJ16_coder cJ16_coder 1 (some .byte)) 1 0 [kA a0] kw_eI (pm_J16_coder a0) := kw_met (plainFor_of_name rfl) (Nat.le_of_ble_eq_true rfl) (fun E B => wm_J16_coder B a0) l

/-! java/lang/String length ()I -/

theorem wm_J16_length {E : kw_E} (B : kw_ok E cJ16_length RJ16 "length" 1 (some .int) 2 20 []) (a0 : Option Nat) : kw_W E kw_eI 0 [(0, kA a0)] [] (pm_J16_length a0) := by
  unfold pm_J16_length
  refine kw_aload_n (pc := 0) B dJ16_length_0 rfl 0 rfl ?_
  refine kw_gR (pc := 1) B dJ16_length_1 fl_J16_9 (fun r1 => ?_)
  refine kw_alen (pc := 4) B dJ16_length_4 (fun i2 => ?_)
  refine kw_aload_n (pc := 5) B dJ16_length_5 rfl 0 rfl ?_
  refine kw_callV (pc := 6) B dJ16_length_6 (ci := 35) rfl (ct_J16_coder a0) q2146 q2147 q2148 q103 q2149 ⟨by decide, by decide, rfl⟩ (As := []) rfl (st := [kI i2]) rfl (Nat.le_of_ble_eq_true rfl) (by decide) (by decide) kw_qI (fun i3 => ?_)
  refine kw_ishr (pc := 9) B dJ16_length_9 ?_
  exact kw_iret B dJ16_length_10 rfl
theorem ct_J16_length (a0 : Option Nat) (l : Launch) : kw_Met l yJ16_length (ws_ yJ16_length cJ16_length 1 (some .int)) 2 20 [kA a0] kw_eI (pm_J16_length a0) := kw_met (plainFor_of_name rfl) (Nat.le_of_ble_eq_true rfl) (fun E B => wm_J16_length B a0) l

/-! RosaryCarvers write (I)I -/

theorem wb_X0_write_142 {E : kw_E} (B : kw_ok E cX0_write RX0 "write" 7 (some .int) 7 151 [])  (x0 : Option Nat) (s0 : Option Nat) (s1 : Option Nat) : kw_W E kw_eI 142 [(0, kA x0)] [kA s0, kA s1] (pb_X0_write_142  x0 s0 s1) := by
  unfold pb_X0_write_142
  refine kw_pR (pc := 142) B dX0_write_142 fl_X0_30 fp_X0_30 (fun h => by cases h) rfl ?_
  refine kw_aload_n (pc := 145) B dX0_write_145 rfl 0 rfl ?_
  refine kw_gR (pc := 146) B dX0_write_146 fl_X0_30 (fun r2 => ?_)
  refine kw_callV (pc := 149) B dX0_write_149 (ci := 35) rfl (ct_J16_length r2) q2142 q2143 q2144 q103 q2145 ⟨by decide, by decide, rfl⟩ (As := []) rfl (st := []) rfl (Nat.le_of_ble_eq_true rfl) (by decide) (by decide) kw_qI (fun i3 => ?_)
  exact kw_iret B dX0_write_152 rfl
theorem wb_X0_write_45 {E : kw_E} (B : kw_ok E cX0_write RX0 "write" 7 (some .int) 7 151 [])  : ∀ (n : Nat) (x0 : Option Nat) (x2 : Option Nat) (x3 : Option Nat) (x4 : Int32) (x5 : Option Nat), kw_W E kw_eI 45 [(0, kA x0), (2, kA x2), (3, kA x3), (4, kI x4), (5, kA x5)] [] (pb_X0_write_45  n x0 x2 x3 x4 x5) := by
  intro n
  induction n with
  | zero =>
    intro x0 x2 x3 x4 x5
    exact kw_fail_ok
  | succ n ih =>
    intro x0 x2 x3 x4 x5
    show kw_W E kw_eI 45 [(0, kA x0), (2, kA x2), (3, kA x3), (4, kI x4), (5, kA x5)] [] (
km_bind (km_disp x5 [(11, pm_X12_hasNext x5), (33, pm_J5_hasNext x5), (34, pm_J15_hasNext x5)]) fun i1 =>
if i1 = 0 then
(if ¬ x4 = 0 then
(km_bind (km_is 36 x3) fun _ => km_bind (pm_J23_toString x3) fun r2 =>
pb_X0_write_142 x0 r2 x0)
else
(km_bind (km_k 15) fun r3 =>
pb_X0_write_142 x0 r3 x0))
else
(km_bind (km_disp x5 [(11, pm_X12_next x5), (33, pm_J5_next x5), (34, pm_J15_next x5)]) fun r4 =>
km_bind (km_cast [14] r4) fun _ =>
km_bind (km_is 14 r4) fun _ => km_bind (pm_X16_sign r4) fun i5 =>
km_bind (km_is 36 x3) fun _ => km_bind (pm_J23_append x3 i5) fun r6 =>
km_bind (km_gI [(14, 2)] r4) fun i7 =>
km_bind (km_is 36 r6) fun _ => km_bind (pm_J23_append_2 r6 i7) fun r8 =>
km_bind (km_gI [(7, 2)] x2) fun i9 =>
km_bind (km_rem (x4 + (1 : Int32)) (i9 + (1 : Int32))) fun i10 =>
if ¬ i10 = 0 then
(pb_X0_write_45 n x0 x2 x3 (x4 + (1 : Int32)) x5)
else
(km_bind (km_gI [(7, 2)] x2) fun i11 =>
km_bind (km_div (x4 + (1 : Int32)) (i11 + (1 : Int32))) fun i12 =>
km_bind (km_gI [(7, 3)] x2) fun i13 =>
if i13 < i12 then
(pb_X0_write_45 n x0 x2 x3 (x4 + (1 : Int32)) x5)
else
(km_bind (km_is 36 x3) fun _ => km_bind (pm_J23_append x3 (43 : Int32)) fun r14 =>
pb_X0_write_45 n x0 x2 x3 (x4 + (1 : Int32)) x5))))
    refine kw_aload (pc := 45) B dX0_write_45 4 rfl ?_
    refine kw_disp (pc := 47) (pc' := 52) (st := []) kw_hI (fun i1 => ?_) ?_
    · refine kw_if_eq (pc := 52) (tgt := 126) B dX0_write_52 rfl ?_ ?_
      · refine kw_aload_n (pc := 126) B dX0_write_126 rfl 0 rfl ?_
        refine kw_iload (pc := 127) B dX0_write_127 3 rfl ?_
        refine kw_if_ne (pc := 129) (tgt := 138) B dX0_write_129 rfl ?_ ?_
        · refine kw_aload_n (pc := 138) B dX0_write_138 rfl 2 rfl ?_
          refine kw_callV (pc := 139) B dX0_write_139 (ci := 36) rfl (ct_J23_toString x3) q2083 q2084 q2085 q126 q2086 ⟨by decide, by decide, rfl⟩ (As := []) rfl (st := [kA x0]) rfl (Nat.le_of_ble_eq_true rfl) (by decide) (by decide) kw_qA (fun r2 => ?_)
          exact kw_pick [0] rfl (wb_X0_write_142 B x0 r2 x0)
        · refine kw_ldcSW (pc := 132) B dX0_write_132 (i := 15) (tx := "empty") (by decide) (fun r3 => ?_)
          refine kw_goto (pc := 135) (tgt := 142) B dX0_write_135 rfl ?_
          exact kw_pick [0] rfl (wb_X0_write_142 B x0 r3 x0)
      · refine kw_aload (pc := 55) B dX0_write_55 4 rfl ?_
        refine kw_disp (pc := 57) (pc' := 62) (st := []) kw_hA (fun r4 => ?_) ?_
        · refine kw_cast_ok (pc := 62) B dX0_write_62 q1847 cs_RosaryCarvers_Bead ?_
          refine kw_astore (pc := 65) B dX0_write_65 (by decide) (L2 := [(6, kA r4), (0, kA x0), (2, kA x2), (3, kA x3), (4, kI x4), (5, kA x5)]) rfl ?_
          refine kw_aload_n (pc := 67) B dX0_write_67 rfl 3 rfl ?_
          refine kw_aload (pc := 68) B dX0_write_68 0 rfl ?_
          refine kw_callV (pc := 70) B dX0_write_70 (ci := 14) rfl (ct_X16_sign r4) q1977 q1978 q1979 q111 q1980 ⟨by decide, by decide, rfl⟩ (As := []) rfl (st := [kA x3]) rfl (Nat.le_of_ble_eq_true rfl) (by decide) (by decide) kw_qI (fun i5 => ?_)
          refine kw_callV (pc := 73) B dX0_write_73 (ci := 36) rfl (ct_J23_append x3 i5) q1981 q1982 q1983 q126 q1984 ⟨by decide, by decide, rfl⟩ (As := [kI i5]) rfl (st := []) rfl (Nat.le_of_ble_eq_true rfl) (by decide) (by decide) kw_qA (fun r6 => ?_)
          refine kw_aload (pc := 76) B dX0_write_76 0 rfl ?_
          refine kw_gIN (pc := 78) B dX0_write_78 fl_X0_214 (fun i7 => ?_)
          refine kw_callV (pc := 81) B dX0_write_81 (ci := 36) rfl (ct_J23_append_2 r6 i7) q2048 q2049 q2050 q126 q2051 ⟨by decide, by decide, rfl⟩ (As := [kI i7]) rfl (st := []) rfl (Nat.le_of_ble_eq_true rfl) (by decide) (by decide) kw_qA (fun r8 => ?_)
          refine kw_pop (pc := 84) B dX0_write_84 rfl ?_
          refine kw_iinc (pc := 85) B dX0_write_85 4 rfl (w := x4 + (1 : Int32)) rfl (by decide) (L2 := [(4, kI (x4 + (1 : Int32))), (6, kA r4), (0, kA x0), (2, kA x2), (3, kA x3), (5, kA x5)]) rfl ?_
          refine kw_iload (pc := 88) B dX0_write_88 0 rfl ?_
          refine kw_aload_n (pc := 90) B dX0_write_90 rfl 3 rfl ?_
          refine kw_gIN (pc := 91) B dX0_write_91 fl_X0_225 (fun i9 => ?_)
          refine kw_iconst (pc := 94) B dX0_write_94 (v := (1 : Int32)) rfl ?_
          refine kw_iadd (pc := 95) B dX0_write_95 ?_
          refine kw_irem (pc := 96) B dX0_write_96 (fun i10 => ?_)
          refine kw_if_ne (pc := 97) (tgt := 123) B dX0_write_97 rfl ?_ ?_
          · refine kw_goto (pc := 123) (tgt := 45) B dX0_write_123 rfl ?_
            exact kw_pick [2, 3, 4, 0, 5] rfl (ih x0 x2 x3 (x4 + (1 : Int32)) x5)
          · refine kw_iload (pc := 100) B dX0_write_100 0 rfl ?_
            refine kw_aload_n (pc := 102) B dX0_write_102 rfl 3 rfl ?_
            refine kw_gIN (pc := 103) B dX0_write_103 fl_X0_225 (fun i11 => ?_)
            refine kw_iconst (pc := 106) B dX0_write_106 (v := (1 : Int32)) rfl ?_
            refine kw_iadd (pc := 107) B dX0_write_107 ?_
            refine kw_idiv (pc := 108) B dX0_write_108 (fun i12 => ?_)
            refine kw_aload_n (pc := 109) B dX0_write_109 rfl 3 rfl ?_
            refine kw_gIN (pc := 110) B dX0_write_110 fl_X0_231 (fun i13 => ?_)
            refine kw_icmp_gt (pc := 113) (tgt := 123) B dX0_write_113 rfl ?_ ?_
            · refine kw_goto (pc := 123) (tgt := 45) B dX0_write_123 rfl ?_
              exact kw_pick [2, 3, 4, 0, 5] rfl (ih x0 x2 x3 (x4 + (1 : Int32)) x5)
            · refine kw_aload_n (pc := 116) B dX0_write_116 rfl 4 rfl ?_
              refine kw_bipush (pc := 117) B dX0_write_117 (v := (43 : Int32)) rfl ?_
              refine kw_callV (pc := 119) B dX0_write_119 (ci := 36) rfl (ct_J23_append x3 (43 : Int32)) q1981 q1982 q1983 q126 q1984 ⟨by decide, by decide, rfl⟩ (As := [kI (43 : Int32)]) rfl (st := []) rfl (Nat.le_of_ble_eq_true rfl) (by decide) (by decide) kw_qA (fun r14 => ?_)
              refine kw_pop (pc := 122) B dX0_write_122 rfl ?_
              refine kw_goto (pc := 123) (tgt := 45) B dX0_write_123 rfl ?_
              exact kw_pick [2, 3, 4, 0, 5] rfl (ih x0 x2 x3 (x4 + (1 : Int32)) x5)
        · intro q hq hk
          simp only [List.mem_cons, List.not_mem_nil, or_false] at hq
          rcases hq with rfl | rfl | rfl
          · exact kw_callF (pc := 57) B dX0_write_57 (ci := 11) rfl (ct_X12_next x5) q1275 q425 q427 q101 q429 q424 q423 q428 q426 q399 ⟨by decide, by decide, rfl⟩ (As := []) rfl (st := []) rfl (Nat.le_of_ble_eq_true rfl) (by decide) (by decide) kw_qA hk
          · exact kw_callF (pc := 57) B dX0_write_57 (ci := 33) rfl (ct_J5_next x5) q1275 q533 q535 q84 q537 q424 q423 q536 q534 q415 ⟨by decide, by decide, rfl⟩ (As := []) rfl (st := []) rfl (Nat.le_of_ble_eq_true rfl) (by decide) (by decide) kw_qA hk
          · exact kw_callF (pc := 57) B dX0_write_57 (ci := 34) rfl (ct_J15_next x5) q1275 q522 q524 q102 q526 q424 q423 q525 q523 q409 ⟨by decide, by decide, rfl⟩ (As := []) rfl (st := []) rfl (Nat.le_of_ble_eq_true rfl) (by decide) (by decide) kw_qA hk
    · intro q hq hk
      simp only [List.mem_cons, List.not_mem_nil, or_false] at hq
      rcases hq with rfl | rfl | rfl
      · exact kw_callF (pc := 47) B dX0_write_47 (ci := 11) rfl (ct_X12_hasNext x5) q1273 q400 q402 q101 q404 q398 q397 q403 q401 q399 ⟨by decide, by decide, rfl⟩ (As := []) rfl (st := []) rfl (Nat.le_of_ble_eq_true rfl) (by decide) (by decide) kw_qI hk
      · exact kw_callF (pc := 47) B dX0_write_47 (ci := 33) rfl (ct_J5_hasNext x5) q1273 q416 q418 q84 q420 q398 q397 q419 q417 q415 ⟨by decide, by decide, rfl⟩ (As := []) rfl (st := []) rfl (Nat.le_of_ble_eq_true rfl) (by decide) (by decide) kw_qI hk
      · exact kw_callF (pc := 47) B dX0_write_47 (ci := 34) rfl (ct_J15_hasNext x5) q1273 q410 q412 q102 q414 q398 q397 q413 q411 q409 ⟨by decide, by decide, rfl⟩ (As := []) rfl (st := []) rfl (Nat.le_of_ble_eq_true rfl) (by decide) (by decide) kw_qI hk
theorem wm_X0_write {E : kw_E} (B : kw_ok E cX0_write RX0 "write" 7 (some .int) 7 151 []) (a0 : Option Nat) (a1 : Int32) : kw_W E kw_eI 0 [(0, kA a0), (1, kI a1)] [] (pm_X0_write a0 a1) := by
  unfold pm_X0_write
  refine kw_aload_n (pc := 0) B dX0_write_0 rfl 0 rfl ?_
  refine kw_gR (pc := 1) B dX0_write_1 fl_X0_17 (fun r1 => ?_)
  refine kw_iload_n (pc := 4) B dX0_write_4 rfl 1 rfl ?_
  refine kw_callV (pc := 5) B dX0_write_5 (ci := 1) rfl (ct_X1_isString r1 a1) q1439 q1440 q1441 q74 q1442 ⟨by decide, by decide, rfl⟩ (As := [kI a1]) rfl (st := []) rfl (Nat.le_of_ble_eq_true rfl) (by decide) (by decide) kw_qI (fun i2 => ?_)
  refine kw_if_ne (pc := 8) (tgt := 13) B dX0_write_8 rfl ?_ ?_
  · refine kw_aload_n (pc := 13) B dX0_write_13 rfl 0 rfl ?_
    refine kw_gR (pc := 14) B dX0_write_14 fl_X0_17 (fun r3 => ?_)
    refine kw_gRN (pc := 17) B dX0_write_17 fl_X0_217 (fun r4 => ?_)
    refine kw_iload_n (pc := 20) B dX0_write_20 rfl 1 rfl ?_
    refine kw_callV (pc := 21) B dX0_write_21 (ci := 30) rfl (ct_J2_get r4 a1) q1820 q503 q504 q77 q505 ⟨by decide, by decide, rfl⟩ (As := [kI a1]) rfl (st := []) rfl (Nat.le_of_ble_eq_true rfl) (by decide) (by decide) kw_qA (fun r5 => ?_)
    refine kw_cast_ok (pc := 24) B dX0_write_24 q1852 cs_RosaryCarvers_Rosary ?_
    refine kw_astore_n (pc := 27) B dX0_write_27 rfl (by decide) (L2 := [(2, kA r5), (0, kA a0), (1, kI a1)]) rfl ?_
    refine kw_new (pc := 28) B dX0_write_28 (ci := 36) (N := 4) rfl in_J23 tyJ23_ok kz_SB_ok q1947 q1948 q126 (fun r6 => ?_)
    refine kw_dup (pc := 31) B dX0_write_31 rfl ?_
    refine kw_callI (pc := 32) B dX0_write_32 (ct_J23_init r6) q1949 q1950 q126 q1951 rfl ⟨by decide, by decide, rfl⟩ (As := []) rfl (st := [kA r6]) rfl (Nat.le_of_ble_eq_true rfl) (by decide) (by decide) kw_qV (fun _ => ?_)
    refine kw_astore_n (pc := 35) B dX0_write_35 rfl (by decide) (L2 := [(3, kA r6), (2, kA r5), (0, kA a0), (1, kI a1)]) rfl ?_
    refine kw_iconst (pc := 36) B dX0_write_36 (v := (0 : Int32)) rfl ?_
    refine kw_istore (pc := 37) B dX0_write_37 (by decide) (L2 := [(4, kI (0 : Int32)), (3, kA r6), (2, kA r5), (0, kA a0), (1, kI a1)]) rfl ?_
    refine kw_aload_n (pc := 39) B dX0_write_39 rfl 2 rfl ?_
    refine kw_callU (pc := 40) B dX0_write_40 (x0 := ⟨"RosaryCarvers$Rosary", "iterator", "()Ljava/util/Iterator;"⟩) (owner := "RosaryCarvers$Beads") (ci := 7) rfl (ct_X2_iterator r5) q1869 q1870 q1871 q908 q78 q910 rfl ⟨by decide, by decide, rfl⟩ (As := []) rfl (st := []) rfl (Nat.le_of_ble_eq_true rfl) (by decide) (by decide) kw_qA (fun r7 => ?_)
    refine kw_astore (pc := 43) B dX0_write_43 (by decide) (L2 := [(5, kA r7), (4, kI (0 : Int32)), (3, kA r6), (2, kA r5), (0, kA a0), (1, kI a1)]) rfl ?_
    exact kw_pick [4, 3, 2, 1, 0] rfl (wb_X0_write_45 B km_fuel a0 r5 r6 (0 : Int32) r7)
  · refine kw_iconst (pc := 11) B dX0_write_11 (v := (-1 : Int32)) rfl ?_
    exact kw_iret B dX0_write_12 rfl
theorem ct_X0_write (a0 : Option Nat) (a1 : Int32) (l : Launch) : kw_Met l yX0_write (ws_ yX0_write cX0_write 7 (some .int)) 7 151 [kA a0, kI a1] kw_eI (pm_X0_write a0 a1) := kw_met (plainFor_of_name rfl) (Nat.le_of_ble_eq_true rfl) (fun E B => wm_X0_write B a0 a1) l

/-! RosaryCarversModel writes (I)V -/
theorem fl_X3_237 : kw_fl RX3 237 "RosaryCarversModel" [(3, 9)] := (kw_fl_c (C := RX3) (T := TX3) (N := 18) rfl (by decide) in_X3 q2365 (Or.inl rfl) kw_fl_nil)
theorem fp_X3_237 : kw_fp RX3 .int false [(3, 9)] := (kw_fp_c (C := RX3) (T := TX3) (N := 18) (ty0 := tyX3) rfl tyX3_ok nmX3 rfl (fun h => by cases h) (by decide) rfl kw_fp_nil)
theorem wm_X3_writes {E : kw_E} (B : kw_ok E cX3_writes RX3 "writes" 2 none 1 0 []) (a0 : Option Nat) (a1 : Int32) : kw_W E kw_eV 0 [(0, kA a0), (1, kI a1)] [] (pm_X3_writes a0 a1) := by
  unfold pm_X3_writes
  refine kw_aload_n (pc := 0) B dX3_writes_0 rfl 0 rfl ?_
  refine kw_gR (pc := 1) B dX3_writes_1 fl_X3_28 (fun r1 => ?_)
  refine kw_aload_n (pc := 4) B dX3_writes_4 rfl 0 rfl ?_
  refine kw_gI (pc := 5) B dX3_writes_5 fl_X3_237 (fun i2 => ?_)
  refine kw_iload_n (pc := 8) B dX3_writes_8 rfl 1 rfl ?_
  refine kw_iast (pc := 9) B dX3_writes_9 ?_
  refine kw_aload_n (pc := 10) B dX3_writes_10 rfl 0 rfl ?_
  refine kw_dup (pc := 11) B dX3_writes_11 rfl ?_
  refine kw_gI (pc := 12) B dX3_writes_12 fl_X3_237 (fun i4 => ?_)
  refine kw_iconst (pc := 15) B dX3_writes_15 (v := (1 : Int32)) rfl ?_
  refine kw_iadd (pc := 16) B dX3_writes_16 ?_
  refine kw_pI (pc := 17) B dX3_writes_17 fl_X3_237 fp_X3_237 (fun h => by cases h) ?_
  exact kw_vret B dX3_writes_20 rfl
theorem ct_X3_writes (a0 : Option Nat) (a1 : Int32) (l : Launch) : kw_Met l yX3_writes (ws_ yX3_writes cX3_writes 2 none) 1 0 [kA a0, kI a1] kw_eV (pm_X3_writes a0 a1) := kw_met (plainFor_of_name rfl) (Nat.le_of_ble_eq_true rfl) (fun E B => wm_X3_writes B a0 a1) l

/-! java/lang/String checkIndex (II)V -/

theorem wm_J16_checkIndex {E : kw_E} (B : kw_ok E cJ16_checkIndex RJ16 "checkIndex" 2 none 2 22 []) (a0 : Int32) (a1 : Int32) : kw_W E kw_eV 0 [(0, kI a0), (1, kI a1)] [] (pm_J16_checkIndex a0 a1) := by
  unfold pm_J16_checkIndex
  refine kw_iload_n (pc := 0) B dJ16_checkIndex_0 rfl 0 rfl ?_
  refine kw_iload_n (pc := 1) B dJ16_checkIndex_1 rfl 1 rfl ?_
  refine kw_getsR (pc := 2) B dJ16_checkIndex_2 (i := 7) (C := "jdk/internal/util/Preconditions") (n := "SIOOBE_FORMATTER") (dd := "Ljava/util/function/BiFunction;") (by decide) q2030 rfl (fun r1 => ?_)
  refine kw_callS (pc := 5) B dJ16_checkIndex_5 (ct_J11_checkIndex a0 a1 r1) q2047 q510 q90 q511 ⟨by decide, by decide, rfl⟩ (As := [kI a0, kI a1, kA r1]) rfl (st := []) rfl (Nat.le_of_ble_eq_true rfl) (by decide) (by decide) kw_qI (fun i2 => ?_)
  refine kw_pop (pc := 8) B dJ16_checkIndex_8 rfl ?_
  exact kw_vret B dJ16_checkIndex_9 rfl
theorem ct_J16_checkIndex (a0 : Int32) (a1 : Int32) (l : Launch) : kw_Met l yJ16_checkIndex (ws_ yJ16_checkIndex cJ16_checkIndex 2 none) 2 22 [kI a0, kI a1] kw_eV (pm_J16_checkIndex a0 a1) := kw_met (plainFor_of_name rfl) (Nat.le_of_ble_eq_true rfl) (fun E B => wm_J16_checkIndex B a0 a1) l

/-! java/lang/StringLatin1 charAt ([BI)C -/

theorem wm_J17_charAt {E : kw_E} (B : kw_ok E cJ17_charAt RJ17 "charAt" 2 (some .char) 3 43 []) (a0 : Option Nat) (a1 : Int32) : kw_W E kw_eI 0 [(0, kA a0), (1, kI a1)] [] (pm_J17_charAt a0 a1) := by
  unfold pm_J17_charAt
  refine kw_iload_n (pc := 0) B dJ17_charAt_0 rfl 1 rfl ?_
  refine kw_aload_n (pc := 1) B dJ17_charAt_1 rfl 0 rfl ?_
  refine kw_alen (pc := 2) B dJ17_charAt_2 (fun i1 => ?_)
  refine kw_callS (pc := 3) B dJ17_charAt_3 (ct_J16_checkIndex a1 i1) q2161 q2045 q103 q2046 ⟨by decide, by decide, rfl⟩ (As := [kI a1, kI i1]) rfl (st := []) rfl (Nat.le_of_ble_eq_true rfl) (by decide) (by decide) kw_qV (fun _ => ?_)
  refine kw_aload_n (pc := 6) B dJ17_charAt_6 rfl 0 rfl ?_
  refine kw_iload_n (pc := 7) B dJ17_charAt_7 rfl 1 rfl ?_
  refine kw_bald (pc := 8) B dJ17_charAt_8 (fun i2 => ?_)
  refine kw_sipush (pc := 9) B dJ17_charAt_9 (v := (255 : Int32)) rfl ?_
  refine kw_iand (pc := 12) B dJ17_charAt_12 ?_
  refine kw_i2c (pc := 13) B dJ17_charAt_13 ?_
  exact kw_zret B dJ17_charAt_14 (g := fun v => v) (fun _ => rfl)
theorem ct_J17_charAt (a0 : Option Nat) (a1 : Int32) (l : Launch) : kw_Met l yJ17_charAt (ws_ yJ17_charAt cJ17_charAt 2 (some .char)) 3 43 [kA a0, kI a1] kw_eI (pm_J17_charAt a0 a1) := kw_met (plainFor_of_name rfl) (Nat.le_of_ble_eq_true rfl) (fun E B => wm_J17_charAt B a0 a1) l

/-! java/lang/String charAt (I)C -/

theorem wm_J16_charAt {E : kw_E} (B : kw_ok E cJ16_charAt RJ16 "charAt" 2 (some .char) 4 64 []) (a0 : Option Nat) (a1 : Int32) : kw_W E kw_eI 0 [(0, kA a0), (1, kI a1)] [] (pm_J16_charAt a0 a1) := by
  unfold pm_J16_charAt
  refine kw_aload_n (pc := 0) B dJ16_charAt_0 rfl 0 rfl ?_
  refine kw_callV (pc := 1) B dJ16_charAt_1 (ci := 35) rfl (ct_J16_isLatin1 a0) q1284 q1285 q1286 q103 q1287 ⟨by decide, by decide, rfl⟩ (As := []) rfl (st := []) rfl (Nat.le_of_ble_eq_true rfl) (by decide) (by decide) kw_qI (fun i1 => ?_)
  refine kw_if_eq (pc := 4) (tgt := 16) B dJ16_charAt_4 rfl ?_ ?_
  · refine kw_aload_n (pc := 16) B dJ16_charAt_16 rfl 0 rfl ?_
    refine kw_gR (pc := 17) B dJ16_charAt_17 fl_J16_9 (fun r2 => ?_)
    refine kw_iload_n (pc := 20) B dJ16_charAt_20 rfl 1 rfl ?_
    exact kw_fail_ok
  · refine kw_aload_n (pc := 7) B dJ16_charAt_7 rfl 0 rfl ?_
    refine kw_gR (pc := 8) B dJ16_charAt_8 fl_J16_9 (fun r3 => ?_)
    refine kw_iload_n (pc := 11) B dJ16_charAt_11 rfl 1 rfl ?_
    refine kw_callS (pc := 12) B dJ16_charAt_12 (ct_J17_charAt r3 a1) q2158 q2159 q104 q2160 ⟨by decide, by decide, rfl⟩ (As := [kA r3, kI a1]) rfl (st := []) rfl (Nat.le_of_ble_eq_true rfl) (by decide) (by decide) kw_qI (fun i4 => ?_)
    exact kw_zret B dJ16_charAt_15 (g := fun v => v) (fun _ => rfl)
theorem ct_J16_charAt (a0 : Option Nat) (a1 : Int32) (l : Launch) : kw_Met l yJ16_charAt (ws_ yJ16_charAt cJ16_charAt 2 (some .char)) 4 64 [kA a0, kI a1] kw_eI (pm_J16_charAt a0 a1) := kw_met (plainFor_of_name rfl) (Nat.le_of_ble_eq_true rfl) (fun E B => wm_J16_charAt B a0 a1) l

/-! RosaryCarversModel write (I)I -/

theorem wb_X3_write_94 {E : kw_E} (B : kw_ok E cX3_write RX3 "write" 4 (some .int) 5 85 []) {k24 : Option Nat → Int32 → Int32 → Int32 → km_M Int32} (h24 : ∀ (y0 : Option Nat) (y1 : Int32) (y2 : Int32) (y3 : Int32), kw_W E kw_eI 24 [(0, kA y0), (1, kI y1), (2, kI y2), (3, kI y3)] [] (k24 y0 y1 y2 y3)) (x0 : Option Nat) (x1 : Int32) (x2 : Int32) (x3 : Int32) : kw_W E kw_eI 94 [(0, kA x0), (1, kI x1), (2, kI x2), (3, kI x3)] [] (pb_X3_write_94 k24 x0 x1 x2 x3) := by
  unfold pb_X3_write_94
  refine kw_iinc (pc := 94) B dX3_write_94 3 rfl (w := x3 + (1 : Int32)) rfl (by decide) (L2 := [(3, kI (x3 + (1 : Int32))), (0, kA x0), (1, kI x1), (2, kI x2)]) rfl ?_
  refine kw_goto (pc := 97) (tgt := 24) B dX3_write_97 rfl ?_
  exact kw_pick [1, 2, 3, 0] rfl (h24 x0 x1 x2 (x3 + (1 : Int32)))
theorem wb_X3_write_46 {E : kw_E} (B : kw_ok E cX3_write RX3 "write" 4 (some .int) 5 85 []) {k24 : Option Nat → Int32 → Int32 → Int32 → km_M Int32} (h24 : ∀ (y0 : Option Nat) (y1 : Int32) (y2 : Int32) (y3 : Int32), kw_W E kw_eI 24 [(0, kA y0), (1, kI y1), (2, kI y2), (3, kI y3)] [] (k24 y0 y1 y2 y3)) (x0 : Option Nat) (x1 : Int32) (x2 : Int32) (x3 : Int32) (s0 : Int32) (s1 : Option Nat) : kw_W E kw_eI 46 [(0, kA x0), (1, kI x1), (2, kI x2), (3, kI x3)] [kI s0, kA s1] (pb_X3_write_46 k24 x0 x1 x2 x3 s0 s1) := by
  unfold pb_X3_write_46
  refine kw_callV (pc := 46) B dX3_write_46 (ci := 3) rfl (ct_X3_writes s1 s0) q2712 q2714 qs63 q81 q2715 ⟨by decide, by decide, rfl⟩ (As := [kI s0]) rfl (st := []) rfl (Nat.le_of_ble_eq_true rfl) (by decide) (by decide) kw_qV (fun _ => ?_)
  refine kw_aload_n (pc := 49) B dX3_write_49 rfl 0 rfl ?_
  refine kw_bipush (pc := 50) B dX3_write_50 (v := (48 : Int32)) rfl ?_
  refine kw_aload_n (pc := 52) B dX3_write_52 rfl 0 rfl ?_
  refine kw_gR (pc := 53) B dX3_write_53 fl_X3_9 (fun r1 => ?_)
  refine kw_iload_n (pc := 56) B dX3_write_56 rfl 1 rfl ?_
  refine kw_iload_n (pc := 57) B dX3_write_57 rfl 3 rfl ?_
  refine kw_callS (pc := 58) B dX3_write_58 (ct_X3_beadAt x1 x3) q2567 q2568 q81 q2569 ⟨by decide, by decide, rfl⟩ (As := [kI x1, kI x3]) rfl (st := [kA r1, kI (48 : Int32), kA x0]) rfl (Nat.le_of_ble_eq_true rfl) (by decide) (by decide) kw_qI (fun i2 => ?_)
  refine kw_iconst (pc := 61) B dX3_write_61 (v := (1 : Int32)) rfl ?_
  refine kw_iadd (pc := 62) B dX3_write_62 ?_
  refine kw_iald (pc := 63) B dX3_write_63 (fun i3 => ?_)
  refine kw_iadd (pc := 64) B dX3_write_64 ?_
  refine kw_callV (pc := 65) B dX3_write_65 (ci := 3) rfl (ct_X3_writes x0 ((48 : Int32) + i3)) q2712 q2714 qs63 q81 q2715 ⟨by decide, by decide, rfl⟩ (As := [kI ((48 : Int32) + i3)]) rfl (st := []) rfl (Nat.le_of_ble_eq_true rfl) (by decide) (by decide) kw_qV (fun _ => ?_)
  refine kw_aload_n (pc := 68) B dX3_write_68 rfl 0 rfl ?_
  refine kw_iload_n (pc := 69) B dX3_write_69 rfl 1 rfl ?_
  refine kw_iload_n (pc := 70) B dX3_write_70 rfl 3 rfl ?_
  refine kw_iconst (pc := 71) B dX3_write_71 (v := (1 : Int32)) rfl ?_
  refine kw_iadd (pc := 72) B dX3_write_72 ?_
  refine kw_callV (pc := 73) B dX3_write_73 (ci := 3) rfl (ct_X3_isLargeAt x0 x1 (x3 + (1 : Int32))) q2555 q2557 qs45 q81 q2558 ⟨by decide, by decide, rfl⟩ (As := [kI x1, kI (x3 + (1 : Int32))]) rfl (st := []) rfl (Nat.le_of_ble_eq_true rfl) (by decide) (by decide) kw_qI (fun i4 => ?_)
  refine kw_if_eq (pc := 76) (tgt := 94) B dX3_write_76 rfl ?_ ?_
  · exact kw_pick [0, 1, 2, 3] rfl (wb_X3_write_94 B h24 x0 x1 x2 x3)
  · refine kw_iload_n (pc := 79) B dX3_write_79 rfl 3 rfl ?_
    refine kw_aload_n (pc := 80) B dX3_write_80 rfl 0 rfl ?_
    refine kw_iload_n (pc := 81) B dX3_write_81 rfl 1 rfl ?_
    refine kw_callV (pc := 82) B dX3_write_82 (ci := 3) rfl (ct_X3_knotted x0 x1) q2551 q2553 qs44 q81 q2554 ⟨by decide, by decide, rfl⟩ (As := [kI x1]) rfl (st := [kI x3]) rfl (Nat.le_of_ble_eq_true rfl) (by decide) (by decide) kw_qI (fun i5 => ?_)
    refine kw_icmp_ge (pc := 85) (tgt := 94) B dX3_write_85 rfl ?_ ?_
    · exact kw_pick [0, 1, 2, 3] rfl (wb_X3_write_94 B h24 x0 x1 x2 x3)
    · refine kw_aload_n (pc := 88) B dX3_write_88 rfl 0 rfl ?_
      refine kw_bipush (pc := 89) B dX3_write_89 (v := (43 : Int32)) rfl ?_
      refine kw_callV (pc := 91) B dX3_write_91 (ci := 3) rfl (ct_X3_writes x0 (43 : Int32)) q2712 q2714 qs63 q81 q2715 ⟨by decide, by decide, rfl⟩ (As := [kI (43 : Int32)]) rfl (st := []) rfl (Nat.le_of_ble_eq_true rfl) (by decide) (by decide) kw_qV (fun _ => ?_)
      exact kw_pick [0, 1, 2, 3] rfl (wb_X3_write_94 B h24 x0 x1 x2 x3)
theorem wb_X3_write_127 {E : kw_E} (B : kw_ok E cX3_write RX3 "write" 4 (some .int) 5 85 [])  (x0 : Option Nat) : kw_W E kw_eI 127 [(0, kA x0)] [] (pb_X3_write_127  x0) := by
  unfold pb_X3_write_127
  refine kw_aload_n (pc := 127) B dX3_write_127 rfl 0 rfl ?_
  refine kw_gI (pc := 128) B dX3_write_128 fl_X3_237 (fun i1 => ?_)
  exact kw_iret B dX3_write_131 rfl
theorem wb_X3_write_102 {E : kw_E} (B : kw_ok E cX3_write RX3 "write" 4 (some .int) 5 85 [])  : ∀ (n : Nat) (x0 : Option Nat) (x2 : Int32) (x3 : Int32), kw_W E kw_eI 102 [(0, kA x0), (2, kI x2), (3, kI x3)] [] (pb_X3_write_102  n x0 x2 x3) := by
  intro n
  induction n with
  | zero =>
    intro x0 x2 x3
    exact kw_fail_ok
  | succ n ih =>
    intro x0 x2 x3
    show kw_W E kw_eI 102 [(0, kA x0), (2, kI x2), (3, kI x3)] [] (
if ¬ x2 = 0 then
(pb_X3_write_127 x0)
else
(if (5 : Int32) ≤ x3 then
(pb_X3_write_127 x0)
else
(km_bind (km_k 15) fun r1 =>
km_bind (km_is 35 r1) fun _ => km_bind (pm_J16_charAt r1 x3) fun i2 =>
km_bind (km_is 3 x0) fun _ => km_bind (pm_X3_writes x0 i2) fun _ =>
pb_X3_write_102 n x0 x2 (x3 + (1 : Int32)))))
    refine kw_iload_n (pc := 102) B dX3_write_102 rfl 1 rfl ?_
    refine kw_if_ne (pc := 103) (tgt := 127) B dX3_write_103 rfl ?_ ?_
    · exact kw_pick [0] rfl (wb_X3_write_127 B x0)
    · refine kw_iload_n (pc := 106) B dX3_write_106 rfl 2 rfl ?_
      refine kw_iconst (pc := 107) B dX3_write_107 (v := (5 : Int32)) rfl ?_
      refine kw_icmp_ge (pc := 108) (tgt := 127) B dX3_write_108 rfl ?_ ?_
      · exact kw_pick [0] rfl (wb_X3_write_127 B x0)
      · refine kw_aload_n (pc := 111) B dX3_write_111 rfl 0 rfl ?_
        refine kw_ldcS (pc := 112) B dX3_write_112 (i := 15) (tx := "empty") (by decide) (fun r1 => ?_)
        refine kw_iload_n (pc := 114) B dX3_write_114 rfl 2 rfl ?_
        refine kw_callV (pc := 115) B dX3_write_115 (ci := 35) rfl (ct_J16_charAt r1 x3) q2717 q2155 q2156 q103 q2157 ⟨by decide, by decide, rfl⟩ (As := [kI x3]) rfl (st := [kA x0]) rfl (Nat.le_of_ble_eq_true rfl) (by decide) (by decide) kw_qI (fun i2 => ?_)
        refine kw_callV (pc := 118) B dX3_write_118 (ci := 3) rfl (ct_X3_writes x0 i2) q2712 q2714 qs63 q81 q2715 ⟨by decide, by decide, rfl⟩ (As := [kI i2]) rfl (st := []) rfl (Nat.le_of_ble_eq_true rfl) (by decide) (by decide) kw_qV (fun _ => ?_)
        refine kw_iinc (pc := 121) B dX3_write_121 2 rfl (w := x3 + (1 : Int32)) rfl (by decide) (L2 := [(3, kI (x3 + (1 : Int32))), (0, kA x0), (2, kI x2)]) rfl ?_
        refine kw_goto (pc := 124) (tgt := 102) B dX3_write_124 rfl ?_
        exact kw_pick [1, 2, 0] rfl (ih x0 x2 (x3 + (1 : Int32)))
theorem wb_X3_write_24 {E : kw_E} (B : kw_ok E cX3_write RX3 "write" 4 (some .int) 5 85 [])  : ∀ (n : Nat) (x0 : Option Nat) (x1 : Int32) (x2 : Int32) (x3 : Int32), kw_W E kw_eI 24 [(0, kA x0), (1, kI x1), (2, kI x2), (3, kI x3)] [] (pb_X3_write_24  n x0 x1 x2 x3) := by
  intro n
  induction n with
  | zero =>
    intro x0 x1 x2 x3
    exact kw_fail_ok
  | succ n ih =>
    intro x0 x1 x2 x3
    show kw_W E kw_eI 24 [(0, kA x0), (1, kI x1), (2, kI x2), (3, kI x3)] [] (
if x2 ≤ x3 then
(pb_X3_write_102 km_fuel x0 x2 (0 : Int32))
else
(km_bind (km_is 3 x0) fun _ => km_bind (pm_X3_isLargeAt x0 x1 x3) fun i1 =>
if i1 = 0 then
(pb_X3_write_46 (pb_X3_write_24 n) x0 x1 x2 x3 (111 : Int32) x0)
else
(pb_X3_write_46 (pb_X3_write_24 n) x0 x1 x2 x3 (79 : Int32) x0)))
    refine kw_iload_n (pc := 24) B dX3_write_24 rfl 3 rfl ?_
    refine kw_iload_n (pc := 25) B dX3_write_25 rfl 2 rfl ?_
    refine kw_icmp_ge (pc := 26) (tgt := 100) B dX3_write_26 rfl ?_ ?_
    · refine kw_iconst (pc := 100) B dX3_write_100 (v := (0 : Int32)) rfl ?_
      refine kw_istore_n (pc := 101) B dX3_write_101 rfl (by decide) (L2 := [(3, kI (0 : Int32)), (0, kA x0), (1, kI x1), (2, kI x2)]) rfl ?_
      exact kw_pick [1, 3, 0] rfl (wb_X3_write_102 B km_fuel x0 x2 (0 : Int32))
    · refine kw_aload_n (pc := 29) B dX3_write_29 rfl 0 rfl ?_
      refine kw_aload_n (pc := 30) B dX3_write_30 rfl 0 rfl ?_
      refine kw_iload_n (pc := 31) B dX3_write_31 rfl 1 rfl ?_
      refine kw_iload_n (pc := 32) B dX3_write_32 rfl 3 rfl ?_
      refine kw_callV (pc := 33) B dX3_write_33 (ci := 3) rfl (ct_X3_isLargeAt x0 x1 x3) q2555 q2557 qs45 q81 q2558 ⟨by decide, by decide, rfl⟩ (As := [kI x1, kI x3]) rfl (st := [kA x0]) rfl (Nat.le_of_ble_eq_true rfl) (by decide) (by decide) kw_qI (fun i1 => ?_)
      refine kw_if_eq (pc := 36) (tgt := 44) B dX3_write_36 rfl ?_ ?_
      · refine kw_bipush (pc := 44) B dX3_write_44 (v := (111 : Int32)) rfl ?_
        exact kw_pick [0, 1, 2, 3] rfl (wb_X3_write_46 B ih x0 x1 x2 x3 (111 : Int32) x0)
      · refine kw_bipush (pc := 39) B dX3_write_39 (v := (79 : Int32)) rfl ?_
        refine kw_goto (pc := 41) (tgt := 46) B dX3_write_41 rfl ?_
        exact kw_pick [0, 1, 2, 3] rfl (wb_X3_write_46 B ih x0 x1 x2 x3 (79 : Int32) x0)
theorem wm_X3_write {E : kw_E} (B : kw_ok E cX3_write RX3 "write" 4 (some .int) 5 85 []) (a0 : Option Nat) (a1 : Int32) : kw_W E kw_eI 0 [(0, kA a0), (1, kI a1)] [] (pm_X3_write a0 a1) := by
  unfold pm_X3_write
  refine kw_aload_n (pc := 0) B dX3_write_0 rfl 0 rfl ?_
  refine kw_iload_n (pc := 1) B dX3_write_1 rfl 1 rfl ?_
  refine kw_callV (pc := 2) B dX3_write_2 (ci := 3) rfl (ct_X3_isString a0 a1) q2531 q2533 qs39 q81 q2534 ⟨by decide, by decide, rfl⟩ (As := [kI a1]) rfl (st := []) rfl (Nat.le_of_ble_eq_true rfl) (by decide) (by decide) kw_qI (fun i1 => ?_)
  refine kw_if_ne (pc := 5) (tgt := 10) B dX3_write_5 rfl ?_ ?_
  · refine kw_aload_n (pc := 10) B dX3_write_10 rfl 0 rfl ?_
    refine kw_iconst (pc := 11) B dX3_write_11 (v := (0 : Int32)) rfl ?_
    refine kw_pI (pc := 12) B dX3_write_12 fl_X3_237 fp_X3_237 (fun h => by cases h) ?_
    refine kw_aload_n (pc := 15) B dX3_write_15 rfl 0 rfl ?_
    refine kw_iload_n (pc := 16) B dX3_write_16 rfl 1 rfl ?_
    refine kw_iconst (pc := 17) B dX3_write_17 (v := (3 : Int32)) rfl ?_
    refine kw_callV (pc := 18) B dX3_write_18 (ci := 3) rfl (ct_X3_ofString a0 a1 (3 : Int32)) q2543 q2545 qs42 q81 q2546 ⟨by decide, by decide, rfl⟩ (As := [kI a1, kI (3 : Int32)]) rfl (st := []) rfl (Nat.le_of_ble_eq_true rfl) (by decide) (by decide) kw_qI (fun i3 => ?_)
    refine kw_istore_n (pc := 21) B dX3_write_21 rfl (by decide) (L2 := [(2, kI i3), (0, kA a0), (1, kI a1)]) rfl ?_
    refine kw_iconst (pc := 22) B dX3_write_22 (v := (0 : Int32)) rfl ?_
    refine kw_istore_n (pc := 23) B dX3_write_23 rfl (by decide) (L2 := [(3, kI (0 : Int32)), (2, kI i3), (0, kA a0), (1, kI a1)]) rfl ?_
    exact kw_pick [2, 3, 1, 0] rfl (wb_X3_write_24 B km_fuel a0 a1 i3 (0 : Int32))
  · refine kw_iconst (pc := 8) B dX3_write_8 (v := (-1 : Int32)) rfl ?_
    exact kw_iret B dX3_write_9 rfl
theorem ct_X3_write (a0 : Option Nat) (a1 : Int32) (l : Launch) : kw_Met l yX3_write (ws_ yX3_write cX3_write 4 (some .int)) 5 85 [kA a0, kI a1] kw_eI (pm_X3_write a0 a1) := kw_met (plainFor_of_name rfl) (Nat.le_of_ble_eq_true rfl) (fun E B => wm_X3_write B a0 a1) l

/-! RosaryCarvers written (I)I -/

theorem wm_X0_written {E : kw_E} (B : kw_ok E cX0_written RX0 "written" 2 (some .int) 5 85 []) (a0 : Option Nat) (a1 : Int32) : kw_W E kw_eI 0 [(0, kA a0), (1, kI a1)] [] (pm_X0_written a0 a1) := by
  unfold pm_X0_written
  refine kw_iload_n (pc := 0) B dX0_written_0 rfl 1 rfl ?_
  refine kw_iconst (pc := 1) B dX0_written_1 (v := (0 : Int32)) rfl ?_
  refine kw_aload_n (pc := 2) B dX0_written_2 rfl 0 rfl ?_
  refine kw_gR (pc := 3) B dX0_written_3 fl_X0_30 (fun r1 => ?_)
  refine kw_callV (pc := 6) B dX0_written_6 (ci := 35) rfl (ct_J16_length r1) q2142 q2143 q2144 q103 q2145 ⟨by decide, by decide, rfl⟩ (As := []) rfl (st := [kI (0 : Int32), kI a1]) rfl (Nat.le_of_ble_eq_true rfl) (by decide) (by decide) kw_qI (fun i2 => ?_)
  refine kw_iconst (pc := 9) B dX0_written_9 (v := (1 : Int32)) rfl ?_
  refine kw_isub (pc := 10) B dX0_written_10 ?_
  refine kw_callS (pc := 11) B dX0_written_11 (ct_X0_in a1 (0 : Int32) (i2 - (1 : Int32))) q339 q340 q73 q341 ⟨by decide, by decide, rfl⟩ (As := [kI a1, kI (0 : Int32), kI (i2 - (1 : Int32))]) rfl (st := []) rfl (Nat.le_of_ble_eq_true rfl) (by decide) (by decide) kw_qI (fun i3 => ?_)
  refine kw_if_eq (pc := 14) (tgt := 28) B dX0_written_14 rfl ?_ ?_
  · refine kw_iconst (pc := 28) B dX0_written_28 (v := (-1 : Int32)) rfl ?_
    exact kw_iret B dX0_written_29 rfl
  · refine kw_aload_n (pc := 17) B dX0_written_17 rfl 0 rfl ?_
    refine kw_gR (pc := 18) B dX0_written_18 fl_X0_30 (fun r4 => ?_)
    refine kw_iload_n (pc := 21) B dX0_written_21 rfl 1 rfl ?_
    refine kw_callV (pc := 22) B dX0_written_22 (ci := 35) rfl (ct_J16_charAt r4 a1) q2154 q2155 q2156 q103 q2157 ⟨by decide, by decide, rfl⟩ (As := [kI a1]) rfl (st := []) rfl (Nat.le_of_ble_eq_true rfl) (by decide) (by decide) kw_qI (fun i5 => ?_)
    refine kw_goto (pc := 25) (tgt := 29) B dX0_written_25 rfl ?_
    exact kw_iret B dX0_written_29 rfl
theorem ct_X0_written (a0 : Option Nat) (a1 : Int32) (l : Launch) : kw_Met l yX0_written (ws_ yX0_written cX0_written 2 (some .int)) 5 85 [kA a0, kI a1] kw_eI (pm_X0_written a0 a1) := kw_met (plainFor_of_name rfl) (Nat.le_of_ble_eq_true rfl) (fun E B => wm_X0_written B a0 a1) l

/-! RosaryCarversModel written (I)I -/

theorem wm_X3_written {E : kw_E} (B : kw_ok E cX3_written RX3 "written" 2 (some .int) 2 22 []) (a0 : Option Nat) (a1 : Int32) : kw_W E kw_eI 0 [(0, kA a0), (1, kI a1)] [] (pm_X3_written a0 a1) := by
  unfold pm_X3_written
  refine kw_iload_n (pc := 0) B dX3_written_0 rfl 1 rfl ?_
  refine kw_iconst (pc := 1) B dX3_written_1 (v := (0 : Int32)) rfl ?_
  refine kw_aload_n (pc := 2) B dX3_written_2 rfl 0 rfl ?_
  refine kw_gI (pc := 3) B dX3_written_3 fl_X3_237 (fun i1 => ?_)
  refine kw_iconst (pc := 6) B dX3_written_6 (v := (1 : Int32)) rfl ?_
  refine kw_isub (pc := 7) B dX3_written_7 ?_
  refine kw_callS (pc := 8) B dX3_written_8 (ct_X3_isIn a1 (0 : Int32) (i1 - (1 : Int32))) q2415 q2416 q81 q2417 ⟨by decide, by decide, rfl⟩ (As := [kI a1, kI (0 : Int32), kI (i1 - (1 : Int32))]) rfl (st := []) rfl (Nat.le_of_ble_eq_true rfl) (by decide) (by decide) kw_qI (fun i2 => ?_)
  refine kw_if_eq (pc := 11) (tgt := 23) B dX3_written_11 rfl ?_ ?_
  · refine kw_iconst (pc := 23) B dX3_written_23 (v := (-1 : Int32)) rfl ?_
    exact kw_iret B dX3_written_24 rfl
  · refine kw_aload_n (pc := 14) B dX3_written_14 rfl 0 rfl ?_
    refine kw_gR (pc := 15) B dX3_written_15 fl_X3_28 (fun r3 => ?_)
    refine kw_iload_n (pc := 18) B dX3_written_18 rfl 1 rfl ?_
    refine kw_iald (pc := 19) B dX3_written_19 (fun i4 => ?_)
    refine kw_goto (pc := 20) (tgt := 24) B dX3_written_20 rfl ?_
    exact kw_iret B dX3_written_24 rfl
theorem ct_X3_written (a0 : Option Nat) (a1 : Int32) (l : Launch) : kw_Met l yX3_written (ws_ yX3_written cX3_written 2 (some .int)) 2 22 [kA a0, kI a1] kw_eI (pm_X3_written a0 a1) := kw_met (plainFor_of_name rfl) (Nat.le_of_ble_eq_true rfl) (fun E B => wm_X3_written B a0 a1) l

/-! RosaryCarvers append (C)I -/
theorem fp_X0_345 : kw_fp RX0 .int false [(0, 6)] := (kw_fp_c (C := RX0) (T := TX0) (N := 8) (ty0 := tyX0) rfl tyX0_ok nmX0 rfl (fun h => by cases h) (by decide) rfl kw_fp_nil)
theorem wm_X0_append {E : kw_E} (B : kw_ok E cX0_append RX0 "append" 2 (some .int) 2 22 []) (a0 : Option Nat) (a1 : Int32) : kw_W E kw_eI 0 [(0, kA a0), (1, kI a1)] [] (pm_X0_append a0 a1) := by
  unfold pm_X0_append
  refine kw_iload_n (pc := 0) B dX0_append_0 rfl 1 rfl ?_
  refine kw_bipush (pc := 1) B dX0_append_1 (v := (32 : Int32)) rfl ?_
  refine kw_bipush (pc := 3) B dX0_append_3 (v := (126 : Int32)) rfl ?_
  refine kw_callS (pc := 5) B dX0_append_5 (ct_X0_in a1 (32 : Int32) (126 : Int32)) q339 q340 q73 q341 ⟨by decide, by decide, rfl⟩ (As := [kI a1, kI (32 : Int32), kI (126 : Int32)]) rfl (st := []) rfl (Nat.le_of_ble_eq_true rfl) (by decide) (by decide) kw_qI (fun i1 => ?_)
  refine kw_if_ne (pc := 8) (tgt := 14) B dX0_append_8 rfl ?_ ?_
  · refine kw_aload_n (pc := 14) B dX0_append_14 rfl 0 rfl ?_
    refine kw_gI (pc := 15) B dX0_append_15 fl_X0_345 (fun i2 => ?_)
    refine kw_bipush (pc := 18) B dX0_append_18 (v := (60 : Int32)) rfl ?_
    refine kw_icmp_ne (pc := 20) (tgt := 26) B dX0_append_20 rfl ?_ ?_
    · refine kw_aload_n (pc := 26) B dX0_append_26 rfl 0 rfl ?_
      refine kw_gR (pc := 27) B dX0_append_27 fl_X0_34 (fun r3 => ?_)
      refine kw_aload_n (pc := 30) B dX0_append_30 rfl 0 rfl ?_
      refine kw_gI (pc := 31) B dX0_append_31 fl_X0_345 (fun i4 => ?_)
      refine kw_iload_n (pc := 34) B dX0_append_34 rfl 1 rfl ?_
      refine kw_cast (pc := 35) B dX0_append_35 ?_
      refine kw_aload_n (pc := 36) B dX0_append_36 rfl 0 rfl ?_
      refine kw_dup (pc := 37) B dX0_append_37 rfl ?_
      refine kw_gI (pc := 38) B dX0_append_38 fl_X0_345 (fun i6 => ?_)
      refine kw_iconst (pc := 41) B dX0_append_41 (v := (1 : Int32)) rfl ?_
      refine kw_iadd (pc := 42) B dX0_append_42 ?_
      refine kw_pI (pc := 43) B dX0_append_43 fl_X0_345 fp_X0_345 (fun h => by cases h) ?_
      refine kw_aload_n (pc := 46) B dX0_append_46 rfl 0 rfl ?_
      refine kw_gI (pc := 47) B dX0_append_47 fl_X0_345 (fun i8 => ?_)
      exact kw_iret B dX0_append_50 rfl
    · refine kw_bipush (pc := 23) B dX0_append_23 (v := (-4 : Int32)) rfl ?_
      exact kw_iret B dX0_append_25 rfl
  · refine kw_bipush (pc := 11) B dX0_append_11 (v := (-2 : Int32)) rfl ?_
    exact kw_iret B dX0_append_13 rfl
theorem ct_X0_append (a0 : Option Nat) (a1 : Int32) (l : Launch) : kw_Met l yX0_append (ws_ yX0_append cX0_append 2 (some .int)) 2 22 [kA a0, kI a1] kw_eI (pm_X0_append a0 a1) := kw_met (plainFor_of_name rfl) (Nat.le_of_ble_eq_true rfl) (fun E B => wm_X0_append B a0 a1) l

/-! RosaryCarversModel append (C)I -/
theorem fp_X3_234 : kw_fp RX3 .int false [(3, 13)] := (kw_fp_c (C := RX3) (T := TX3) (N := 18) (ty0 := tyX3) rfl tyX3_ok nmX3 rfl (fun h => by cases h) (by decide) rfl kw_fp_nil)
theorem wm_X3_append {E : kw_E} (B : kw_ok E cX3_append RX3 "append" 2 (some .int) 2 22 []) (a0 : Option Nat) (a1 : Int32) : kw_W E kw_eI 0 [(0, kA a0), (1, kI a1)] [] (pm_X3_append a0 a1) := by
  unfold pm_X3_append
  refine kw_iload_n (pc := 0) B dX3_append_0 rfl 1 rfl ?_
  refine kw_bipush (pc := 1) B dX3_append_1 (v := (32 : Int32)) rfl ?_
  refine kw_bipush (pc := 3) B dX3_append_3 (v := (126 : Int32)) rfl ?_
  refine kw_callS (pc := 5) B dX3_append_5 (ct_X3_isIn a1 (32 : Int32) (126 : Int32)) q2415 q2416 q81 q2417 ⟨by decide, by decide, rfl⟩ (As := [kI a1, kI (32 : Int32), kI (126 : Int32)]) rfl (st := []) rfl (Nat.le_of_ble_eq_true rfl) (by decide) (by decide) kw_qI (fun i1 => ?_)
  refine kw_if_ne (pc := 8) (tgt := 14) B dX3_append_8 rfl ?_ ?_
  · refine kw_aload_n (pc := 14) B dX3_append_14 rfl 0 rfl ?_
    refine kw_gI (pc := 15) B dX3_append_15 fl_X3_234 (fun i2 => ?_)
    refine kw_bipush (pc := 18) B dX3_append_18 (v := (60 : Int32)) rfl ?_
    refine kw_icmp_ne (pc := 20) (tgt := 26) B dX3_append_20 rfl ?_ ?_
    · refine kw_aload_n (pc := 26) B dX3_append_26 rfl 0 rfl ?_
      refine kw_gR (pc := 27) B dX3_append_27 fl_X3_53 (fun r3 => ?_)
      refine kw_aload_n (pc := 30) B dX3_append_30 rfl 0 rfl ?_
      refine kw_gI (pc := 31) B dX3_append_31 fl_X3_234 (fun i4 => ?_)
      refine kw_iload_n (pc := 34) B dX3_append_34 rfl 1 rfl ?_
      refine kw_iast (pc := 35) B dX3_append_35 ?_
      refine kw_aload_n (pc := 36) B dX3_append_36 rfl 0 rfl ?_
      refine kw_dup (pc := 37) B dX3_append_37 rfl ?_
      refine kw_gI (pc := 38) B dX3_append_38 fl_X3_234 (fun i6 => ?_)
      refine kw_iconst (pc := 41) B dX3_append_41 (v := (1 : Int32)) rfl ?_
      refine kw_iadd (pc := 42) B dX3_append_42 ?_
      refine kw_pI (pc := 43) B dX3_append_43 fl_X3_234 fp_X3_234 (fun h => by cases h) ?_
      refine kw_aload_n (pc := 46) B dX3_append_46 rfl 0 rfl ?_
      refine kw_gI (pc := 47) B dX3_append_47 fl_X3_234 (fun i8 => ?_)
      exact kw_iret B dX3_append_50 rfl
    · refine kw_bipush (pc := 23) B dX3_append_23 (v := (-4 : Int32)) rfl ?_
      exact kw_iret B dX3_append_25 rfl
  · refine kw_bipush (pc := 11) B dX3_append_11 (v := (-2 : Int32)) rfl ?_
    exact kw_iret B dX3_append_13 rfl
theorem ct_X3_append (a0 : Option Nat) (a1 : Int32) (l : Launch) : kw_Met l yX3_append (ws_ yX3_append cX3_append 2 (some .int)) 2 22 [kA a0, kI a1] kw_eI (pm_X3_append a0 a1) := kw_met (plainFor_of_name rfl) (Nat.le_of_ble_eq_true rfl) (fun E B => wm_X3_append B a0 a1) l

/-! RosaryCarvers$Reader <init> (LRosaryCarvers;)V -/
theorem fl_X28_3 : kw_fl RX28 3 "RosaryCarvers$Reader" [(26, 3)] := (kw_fl_c (C := RX28) (T := TX28) (N := 4) rfl (by decide) in_X28 q2193 (Or.inl rfl) kw_fl_nil)
theorem fp_X28_3 : kw_fp RX28 (.object "RosaryCarvers") true [(26, 3)] := (kw_fp_c (C := RX28) (T := TX28) (N := 4) (ty0 := tyX28) rfl tyX28_ok nmX28 rfl (fun _ => rfl) (by decide) rfl kw_fp_nil)
theorem fl_X28_33 : kw_fl RX28 33 "RosaryCarvers$Reader" [(26, 0)] := (kw_fl_c (C := RX28) (T := TX28) (N := 4) rfl (by decide) in_X28 q2190 (Or.inl rfl) kw_fl_nil)
theorem fp_X28_33 : kw_fp RX28 (.array (.object "java/lang/String")) true [(26, 0)] := (kw_fp_c (C := RX28) (T := TX28) (N := 4) (ty0 := tyX28) rfl tyX28_ok nmX28 rfl (fun _ => rfl) (by decide) rfl kw_fp_nil)
theorem fl_X28_37 : kw_fl RX28 37 "RosaryCarvers$Reader" [(26, 1)] := (kw_fl_c (C := RX28) (T := TX28) (N := 4) rfl (by decide) in_X28 q2191 (Or.inl rfl) kw_fl_nil)
theorem fp_X28_37 : kw_fp RX28 (.array .int) true [(26, 1)] := (kw_fp_c (C := RX28) (T := TX28) (N := 4) (ty0 := tyX28) rfl tyX28_ok nmX28 rfl (fun _ => rfl) (by decide) rfl kw_fp_nil)
theorem wm_X28_init {E : kw_E} (B : kw_ok E cX28_init RX28 "<init>" 2 none 1 24 []) (a0 : Option Nat) (a1 : Option Nat) : kw_W E kw_eV 0 [(0, kA a0), (1, kA a1)] [] (pm_X28_init a0 a1) := by
  unfold pm_X28_init
  refine kw_aload_n (pc := 0) B dX28_init_0 rfl 0 rfl ?_
  refine kw_aload_n (pc := 1) B dX28_init_1 rfl 1 rfl ?_
  refine kw_pR (pc := 2) B dX28_init_2 fl_X28_3 fp_X28_3 (fun _ => rfl) rfl ?_
  refine kw_aload_n (pc := 5) B dX28_init_5 rfl 0 rfl ?_
  refine kw_objInit (pc := 6) B dX28_init_6 q2179 q138 q139 (by decide) (Nat.le_of_ble_eq_true rfl) ?_
  refine kw_aload_n (pc := 9) B dX28_init_9 rfl 0 rfl ?_
  refine kw_bipush (pc := 10) B dX28_init_10 (v := (8 : Int32)) rfl ?_
  refine kw_anew (pc := 12) B dX28_init_12 (kd := 5) (C := "java/lang/String") (by decide) rfl q2180 q2181 (fun r2 => ?_)
  refine kw_dup (pc := 15) B dX28_init_15 rfl ?_
  refine kw_iconst (pc := 16) B dX28_init_16 (v := (0 : Int32)) rfl ?_
  refine kw_ldcS (pc := 17) B dX28_init_17 (i := 18) (tx := "large") (by decide) (fun r3 => ?_)
  refine kw_aast (pc := 19) B dX28_init_19 ?_
  refine kw_dup (pc := 20) B dX28_init_20 rfl ?_
  refine kw_iconst (pc := 21) B dX28_init_21 (v := (1 : Int32)) rfl ?_
  refine kw_ldcS (pc := 22) B dX28_init_22 (i := 21) (tx := "small") (by decide) (fun r5 => ?_)
  refine kw_aast (pc := 24) B dX28_init_24 ?_
  refine kw_dup (pc := 25) B dX28_init_25 rfl ?_
  refine kw_iconst (pc := 26) B dX28_init_26 (v := (2 : Int32)) rfl ?_
  refine kw_ldcS (pc := 27) B dX28_init_27 (i := 11) (tx := "begin") (by decide) (fun r7 => ?_)
  refine kw_aast (pc := 29) B dX28_init_29 ?_
  refine kw_dup (pc := 30) B dX28_init_30 rfl ?_
  refine kw_iconst (pc := 31) B dX28_init_31 (v := (3 : Int32)) rfl ?_
  refine kw_ldcS (pc := 32) B dX28_init_32 (i := 23) (tx := "thread") (by decide) (fun r9 => ?_)
  refine kw_aast (pc := 34) B dX28_init_34 ?_
  refine kw_dup (pc := 35) B dX28_init_35 rfl ?_
  refine kw_iconst (pc := 36) B dX28_init_36 (v := (4 : Int32)) rfl ?_
  refine kw_ldcS (pc := 37) B dX28_init_37 (i := 16) (tx := "knot") (by decide) (fun r11 => ?_)
  refine kw_aast (pc := 39) B dX28_init_39 ?_
  refine kw_dup (pc := 40) B dX28_init_40 rfl ?_
  refine kw_iconst (pc := 41) B dX28_init_41 (v := (5 : Int32)) rfl ?_
  refine kw_ldcS (pc := 42) B dX28_init_42 (i := 13) (tx := "drop") (by decide) (fun r13 => ?_)
  refine kw_aast (pc := 44) B dX28_init_44 ?_
  refine kw_dup (pc := 45) B dX28_init_45 rfl ?_
  refine kw_bipush (pc := 46) B dX28_init_46 (v := (6 : Int32)) rfl ?_
  refine kw_ldcS (pc := 48) B dX28_init_48 (i := 20) (tx := "mend") (by decide) (fun r15 => ?_)
  refine kw_aast (pc := 50) B dX28_init_50 ?_
  refine kw_dup (pc := 51) B dX28_init_51 rfl ?_
  refine kw_bipush (pc := 52) B dX28_init_52 (v := (7 : Int32)) rfl ?_
  refine kw_ldcS (pc := 54) B dX28_init_54 (i := 25) (tx := "wait") (by decide) (fun r17 => ?_)
  refine kw_aast (pc := 56) B dX28_init_56 ?_
  refine kw_pR (pc := 57) B dX28_init_57 fl_X28_33 fp_X28_33 (fun _ => rfl) rfl ?_
  refine kw_aload_n (pc := 60) B dX28_init_60 rfl 0 rfl ?_
  refine kw_bipush (pc := 61) B dX28_init_61 (v := (8 : Int32)) rfl ?_
  refine kw_newaI (pc := 63) B dX28_init_63 q2203 (fun r20 => ?_)
  refine kw_dup (pc := 65) B dX28_init_65 rfl ?_
  refine kw_iconst (pc := 66) B dX28_init_66 (v := (0 : Int32)) rfl ?_
  refine kw_iconst (pc := 67) B dX28_init_67 (v := (2 : Int32)) rfl ?_
  refine kw_iast (pc := 68) B dX28_init_68 ?_
  refine kw_dup (pc := 69) B dX28_init_69 rfl ?_
  refine kw_iconst (pc := 70) B dX28_init_70 (v := (1 : Int32)) rfl ?_
  refine kw_iconst (pc := 71) B dX28_init_71 (v := (2 : Int32)) rfl ?_
  refine kw_iast (pc := 72) B dX28_init_72 ?_
  refine kw_dup (pc := 73) B dX28_init_73 rfl ?_
  refine kw_iconst (pc := 74) B dX28_init_74 (v := (2 : Int32)) rfl ?_
  refine kw_iconst (pc := 75) B dX28_init_75 (v := (2 : Int32)) rfl ?_
  refine kw_iast (pc := 76) B dX28_init_76 ?_
  refine kw_dup (pc := 77) B dX28_init_77 rfl ?_
  refine kw_iconst (pc := 78) B dX28_init_78 (v := (3 : Int32)) rfl ?_
  refine kw_iconst (pc := 79) B dX28_init_79 (v := (2 : Int32)) rfl ?_
  refine kw_iast (pc := 80) B dX28_init_80 ?_
  refine kw_dup (pc := 81) B dX28_init_81 rfl ?_
  refine kw_iconst (pc := 82) B dX28_init_82 (v := (4 : Int32)) rfl ?_
  refine kw_iconst (pc := 83) B dX28_init_83 (v := (1 : Int32)) rfl ?_
  refine kw_iast (pc := 84) B dX28_init_84 ?_
  refine kw_dup (pc := 85) B dX28_init_85 rfl ?_
  refine kw_iconst (pc := 86) B dX28_init_86 (v := (5 : Int32)) rfl ?_
  refine kw_iconst (pc := 87) B dX28_init_87 (v := (1 : Int32)) rfl ?_
  refine kw_iast (pc := 88) B dX28_init_88 ?_
  refine kw_dup (pc := 89) B dX28_init_89 rfl ?_
  refine kw_bipush (pc := 90) B dX28_init_90 (v := (6 : Int32)) rfl ?_
  refine kw_iconst (pc := 92) B dX28_init_92 (v := (0 : Int32)) rfl ?_
  refine kw_iast (pc := 93) B dX28_init_93 ?_
  refine kw_dup (pc := 94) B dX28_init_94 rfl ?_
  refine kw_bipush (pc := 95) B dX28_init_95 (v := (7 : Int32)) rfl ?_
  refine kw_iconst (pc := 97) B dX28_init_97 (v := (1 : Int32)) rfl ?_
  refine kw_iast (pc := 98) B dX28_init_98 ?_
  refine kw_pR (pc := 99) B dX28_init_99 fl_X28_37 fp_X28_37 (fun _ => rfl) rfl ?_
  exact kw_vret B dX28_init_102 rfl
theorem ct_X28_init (a0 : Option Nat) (a1 : Option Nat) (l : Launch) : kw_Met l yX28_init (ws_ yX28_init cX28_init 2 none) 1 24 [kA a0, kA a1] kw_eV (pm_X28_init a0 a1) := kw_met (plainFor_of_name rfl) (Nat.le_of_ble_eq_true rfl) (fun E B => wm_X28_init B a0 a1) l

/-! RosaryCarvers$Reader isSign (C)Z -/
theorem fl_X28_41 : kw_fl RX28 41 "RosaryCarvers$Reader" [(26, 2)] := (kw_fl_c (C := RX28) (T := TX28) (N := 4) rfl (by decide) in_X28 q2192 (Or.inl rfl) kw_fl_nil)
theorem fl_X28_45 : kw_flN RX28 45 "RosaryCarvers" "RosaryCarvers" [(0, 6)] := (kw_flN_c (C := RX0) (T := TX0) (N := 8) rfl (by decide) in_X0 q313 (Or.inl rfl) kw_flN_nil)
theorem fl_X28_48 : kw_flN RX28 48 "RosaryCarvers" "RosaryCarvers" [(0, 5)] := (kw_flN_c (C := RX0) (T := TX0) (N := 8) rfl (by decide) in_X0 q311 (Or.inl rfl) kw_flN_nil)
theorem wm_X28_isSign {E : kw_E} (B : kw_ok E cX28_isSign RX28 "isSign" 2 (some .boolean) 1 0 []) (a0 : Option Nat) (a1 : Int32) : kw_W E kw_eI 0 [(0, kA a0), (1, kI a1)] [] (pm_X28_isSign a0 a1) := by
  unfold pm_X28_isSign
  refine kw_aload_n (pc := 0) B dX28_isSign_0 rfl 0 rfl ?_
  refine kw_gI (pc := 1) B dX28_isSign_1 fl_X28_41 (fun i1 => ?_)
  refine kw_aload_n (pc := 4) B dX28_isSign_4 rfl 0 rfl ?_
  refine kw_gR (pc := 5) B dX28_isSign_5 fl_X28_3 (fun r2 => ?_)
  refine kw_gIN (pc := 8) B dX28_isSign_8 fl_X28_45 (fun i3 => ?_)
  refine kw_icmp_ge (pc := 11) (tgt := 34) B dX28_isSign_11 rfl ?_ ?_
  · refine kw_iconst (pc := 34) B dX28_isSign_34 (v := (0 : Int32)) rfl ?_
    exact kw_zret B dX28_isSign_35 (g := fun v => v) (fun _ => rfl)
  · refine kw_aload_n (pc := 14) B dX28_isSign_14 rfl 0 rfl ?_
    refine kw_gR (pc := 15) B dX28_isSign_15 fl_X28_3 (fun r4 => ?_)
    refine kw_gRN (pc := 18) B dX28_isSign_18 fl_X28_48 (fun r5 => ?_)
    refine kw_aload_n (pc := 21) B dX28_isSign_21 rfl 0 rfl ?_
    refine kw_gI (pc := 22) B dX28_isSign_22 fl_X28_41 (fun i6 => ?_)
    refine kw_cald (pc := 25) B dX28_isSign_25 (fun i7 => ?_)
    refine kw_iload_n (pc := 26) B dX28_isSign_26 rfl 1 rfl ?_
    refine kw_icmp_ne (pc := 27) (tgt := 34) B dX28_isSign_27 rfl ?_ ?_
    · refine kw_iconst (pc := 34) B dX28_isSign_34 (v := (0 : Int32)) rfl ?_
      exact kw_zret B dX28_isSign_35 (g := fun v => v) (fun _ => rfl)
    · refine kw_iconst (pc := 30) B dX28_isSign_30 (v := (1 : Int32)) rfl ?_
      refine kw_goto (pc := 31) (tgt := 35) B dX28_isSign_31 rfl ?_
      exact kw_zret B dX28_isSign_35 (g := fun v => v) (fun _ => rfl)
theorem ct_X28_isSign (a0 : Option Nat) (a1 : Int32) (l : Launch) : kw_Met l yX28_isSign (ws_ yX28_isSign cX28_isSign 2 (some .boolean)) 1 0 [kA a0, kI a1] kw_eI (pm_X28_isSign a0 a1) := kw_met (plainFor_of_name rfl) (Nat.le_of_ble_eq_true rfl) (fun E B => wm_X28_isSign B a0 a1) l

/-! RosaryCarvers$BadSign <init> (I)V -/
theorem fl_X29_7 : kw_fl RX29 7 "RosaryCarvers$BadSign" [(27, 6)] := (kw_fl_c (C := RX29) (T := TX29) (N := 7) rfl (by decide) in_X29 q2241 (Or.inl rfl) kw_fl_nil)
theorem fp_X29_7 : kw_fp RX29 .int true [(27, 6)] := (kw_fp_c (C := RX29) (T := TX29) (N := 7) (ty0 := tyX29) rfl tyX29_ok nmX29 rfl (fun _ => rfl) (by decide) rfl kw_fp_nil)
theorem wm_X29_init {E : kw_E} (B : kw_ok E cX29_init RX29 "<init>" 2 none 3 72 []) (a0 : Option Nat) (a1 : Int32) : kw_W E kw_eV 0 [(0, kA a0), (1, kI a1)] [] (pm_X29_init a0 a1) := by
  unfold pm_X29_init
  refine kw_aload_n (pc := 0) B dX29_init_0 rfl 0 rfl ?_
  refine kw_null (pc := 1) B dX29_init_1 ?_
  refine kw_null (pc := 2) B dX29_init_2 ?_
  refine kw_iconst (pc := 3) B dX29_init_3 (v := (0 : Int32)) rfl ?_
  refine kw_iconst (pc := 4) B dX29_init_4 (v := (0 : Int32)) rfl ?_
  refine kw_callI (pc := 5) B dX29_init_5 (ct_J7_init_2 a0 none none (0 : Int32) (0 : Int32)) q2240 q812 q86 q813 rfl ⟨by decide, by decide, rfl⟩ (As := [kA none, kA none, kI (0 : Int32), kI (0 : Int32)]) rfl (st := []) rfl (Nat.le_of_ble_eq_true rfl) (by decide) (by decide) kw_qV (fun _ => ?_)
  refine kw_aload_n (pc := 8) B dX29_init_8 rfl 0 rfl ?_
  refine kw_iload_n (pc := 9) B dX29_init_9 rfl 1 rfl ?_
  refine kw_pI (pc := 10) B dX29_init_10 fl_X29_7 fp_X29_7 (fun _ => rfl) ?_
  exact kw_vret B dX29_init_13 rfl
theorem ct_X29_init (a0 : Option Nat) (a1 : Int32) (l : Launch) : kw_Met l yX29_init (ws_ yX29_init cX29_init 2 none) 3 72 [kA a0, kI a1] kw_eV (pm_X29_init a0 a1) := kw_met (plainFor_of_name rfl) (Nat.le_of_ble_eq_true rfl) (fun E B => wm_X29_init B a0 a1) l

/-! RosaryCarvers$Reader takes (C)V -/
theorem fp_X28_41 : kw_fp RX28 .int false [(26, 2)] := (kw_fp_c (C := RX28) (T := TX28) (N := 4) (ty0 := tyX28) rfl tyX28_ok nmX28 rfl (fun h => by cases h) (by decide) rfl kw_fp_nil)
theorem wm_X28_takes {E : kw_E} (B : kw_ok E cX28_takes RX28 "takes" 2 none 4 93 []) (a0 : Option Nat) (a1 : Int32) : kw_W E (kw_x kw_eV) 0 [(0, kA a0), (1, kI a1)] [] (pm_X28_takes a0 a1) := by
  unfold pm_X28_takes
  refine kw_aload_n (pc := 0) B dX28_takes_0 rfl 0 rfl ?_
  refine kw_iload_n (pc := 1) B dX28_takes_1 rfl 1 rfl ?_
  refine kw_callV (pc := 2) B dX28_takes_2 (ci := 26) rfl (ct_X28_isSign a0 a1) q2219 q2221 qs21 q128 q2222 ⟨by decide, by decide, rfl⟩ (As := [kI a1]) rfl (st := []) rfl (Nat.le_of_ble_eq_true rfl) (by decide) (by decide) kw_qI (fun i1 => ?_)
  refine kw_if_ne (pc := 5) (tgt := 20) B dX28_takes_5 rfl ?_ ?_
  · refine kw_aload_n (pc := 20) B dX28_takes_20 rfl 0 rfl ?_
    refine kw_dup (pc := 21) B dX28_takes_21 rfl ?_
    refine kw_gI (pc := 22) B dX28_takes_22 fl_X28_41 (fun i2 => ?_)
    refine kw_iconst (pc := 25) B dX28_takes_25 (v := (1 : Int32)) rfl ?_
    refine kw_iadd (pc := 26) B dX28_takes_26 ?_
    refine kw_pI (pc := 27) B dX28_takes_27 fl_X28_41 fp_X28_41 (fun h => by cases h) ?_
    exact kw_vret B dX28_takes_30 rfl
  · refine kw_new (pc := 8) B dX28_takes_8 (ci := 27) (N := 7) rfl in_X29 tyX29_ok kz_BadSign_ok q2228 q2229 q129 (fun r4 => ?_)
    refine kw_dup (pc := 11) B dX28_takes_11 rfl ?_
    refine kw_aload_n (pc := 12) B dX28_takes_12 rfl 0 rfl ?_
    refine kw_gI (pc := 13) B dX28_takes_13 fl_X28_41 (fun i5 => ?_)
    refine kw_callI (pc := 16) B dX28_takes_16 (ct_X29_init r4 i5) q2237 q2238 q129 q2239 rfl ⟨by decide, by decide, rfl⟩ (As := [kI i5]) rfl (st := [kA r4]) rfl (Nat.le_of_ble_eq_true rfl) (by decide) (by decide) kw_qV (fun _ => ?_)
    exact kw_athrow B dX28_takes_19 kw_noh
theorem ct_X28_takes (a0 : Option Nat) (a1 : Int32) (l : Launch) : kw_Met l yX28_takes (ws_ yX28_takes cX28_takes 2 none) 4 93 [kA a0, kI a1] (kw_x kw_eV) (pm_X28_takes a0 a1) := kw_met (plainFor_of_name rfl) (Nat.le_of_ble_eq_true rfl) (fun E B => wm_X28_takes B a0 a1) l

/-! RosaryCarvers$Reader word ()I -/

theorem wb_X28_word_30 {E : kw_E} (B : kw_ok E cX28_word RX28 "word" 3 (some .int) 5 114 [])  : ∀ (n : Nat) (x0 : Option Nat) (x1 : Int32) (x2 : Int32), kw_W E (kw_x kw_eI) 30 [(0, kA x0), (1, kI x1), (2, kI x2)] [] (pb_X28_word_30  n x0 x1 x2) := by
  intro n
  induction n with
  | zero =>
    intro x0 x1 x2
    exact kw_fail_ok
  | succ n ih =>
    intro x0 x1 x2
    show kw_W E (kw_x kw_eI) 30 [(0, kA x0), (1, kI x1), (2, kI x2)] [] (
km_bind (km_gR [(26, 0)] x0) fun r1 =>
km_bind (km_ldR r1 x1) fun r2 =>
km_bind (km_is 35 r2) fun _ => km_bind (pm_J16_length r2) fun i3 =>
if i3 ≤ x2 then
(km_pure (Sum.inr x1))
else
(km_bind (km_gR [(26, 0)] x0) fun r4 =>
km_bind (km_ldR r4 x1) fun r5 =>
km_bind (km_is 35 r5) fun _ => km_bind (pm_J16_charAt r5 x2) fun i6 =>
km_bind (km_is 26 x0) fun _ => km_bind (pm_X28_takes x0 i6) (km_x Sum.inl fun _ =>
pb_X28_word_30 n x0 x1 (x2 + (1 : Int32)))))
    refine kw_iload_n (pc := 30) B dX28_word_30 rfl 2 rfl ?_
    refine kw_aload_n (pc := 31) B dX28_word_31 rfl 0 rfl ?_
    refine kw_gR (pc := 32) B dX28_word_32 fl_X28_33 (fun r1 => ?_)
    refine kw_iload_n (pc := 35) B dX28_word_35 rfl 1 rfl ?_
    refine kw_aald (pc := 36) B dX28_word_36 (fun r2 => ?_)
    refine kw_callV (pc := 37) B dX28_word_37 (ci := 35) rfl (ct_J16_length r2) q2223 q2143 q2144 q103 q2145 ⟨by decide, by decide, rfl⟩ (As := []) rfl (st := [kI x2]) rfl (Nat.le_of_ble_eq_true rfl) (by decide) (by decide) kw_qI (fun i3 => ?_)
    refine kw_icmp_ge (pc := 40) (tgt := 63) B dX28_word_40 rfl ?_ ?_
    · refine kw_iload_n (pc := 63) B dX28_word_63 rfl 1 rfl ?_
      exact kw_iret B dX28_word_64 rfl
    · refine kw_aload_n (pc := 43) B dX28_word_43 rfl 0 rfl ?_
      refine kw_aload_n (pc := 44) B dX28_word_44 rfl 0 rfl ?_
      refine kw_gR (pc := 45) B dX28_word_45 fl_X28_33 (fun r4 => ?_)
      refine kw_iload_n (pc := 48) B dX28_word_48 rfl 1 rfl ?_
      refine kw_aald (pc := 49) B dX28_word_49 (fun r5 => ?_)
      refine kw_iload_n (pc := 50) B dX28_word_50 rfl 2 rfl ?_
      refine kw_callV (pc := 51) B dX28_word_51 (ci := 35) rfl (ct_J16_charAt r5 x2) q2218 q2155 q2156 q103 q2157 ⟨by decide, by decide, rfl⟩ (As := [kI x2]) rfl (st := [kA x0]) rfl (Nat.le_of_ble_eq_true rfl) (by decide) (by decide) kw_qI (fun i6 => ?_)
      refine kw_callVX (pc := 54) B dX28_word_54 (ci := 26) rfl (xq := Sum.inl) (fun _ => rfl) kw_noh (ct_X28_takes x0 i6) q2224 q2226 qs22 q128 q2227 ⟨by decide, by decide, rfl⟩ (As := [kI i6]) rfl (st := []) rfl (Nat.le_of_ble_eq_true rfl) (by decide) (by decide) kw_qV (fun _ => ?_)
      refine kw_iinc (pc := 57) B dX28_word_57 2 rfl (w := x2 + (1 : Int32)) rfl (by decide) (L2 := [(2, kI (x2 + (1 : Int32))), (0, kA x0), (1, kI x1)]) rfl ?_
      refine kw_goto (pc := 60) (tgt := 30) B dX28_word_60 rfl ?_
      exact kw_pick [1, 2, 0] rfl (ih x0 x1 (x2 + (1 : Int32)))
theorem wb_X28_word_2 {E : kw_E} (B : kw_ok E cX28_word RX28 "word" 3 (some .int) 5 114 [])  : ∀ (n : Nat) (x0 : Option Nat) (x1 : Int32), kw_W E (kw_x kw_eI) 2 [(0, kA x0), (1, kI x1)] [] (pb_X28_word_2  n x0 x1) := by
  intro n
  induction n with
  | zero =>
    intro x0 x1
    exact kw_fail_ok
  | succ n ih =>
    intro x0 x1
    show kw_W E (kw_x kw_eI) 2 [(0, kA x0), (1, kI x1)] [] (
km_bind (km_gR [(26, 0)] x0) fun r1 =>
km_bind (km_len r1) fun i2 =>
if i2 ≤ x1 then
(km_bind (km_new 27 7 kz_BadSign) fun r3 =>
km_bind (km_gI [(26, 2)] x0) fun i4 =>
km_bind (km_nn r3) fun _ => km_bind (pm_X29_init r3 i4) fun _ =>
km_throw r3)
else
(km_bind (km_gR [(26, 0)] x0) fun r5 =>
km_bind (km_ldR r5 x1) fun r6 =>
km_bind (km_is 35 r6) fun _ => km_bind (pm_J16_charAt r6 (0 : Int32)) fun i7 =>
km_bind (km_is 26 x0) fun _ => km_bind (pm_X28_isSign x0 i7) fun i8 =>
if i8 = 0 then
(pb_X28_word_2 n x0 (x1 + (1 : Int32)))
else
(pb_X28_word_30 km_fuel x0 x1 (0 : Int32))))
    refine kw_iload_n (pc := 2) B dX28_word_2 rfl 1 rfl ?_
    refine kw_aload_n (pc := 3) B dX28_word_3 rfl 0 rfl ?_
    refine kw_gR (pc := 4) B dX28_word_4 fl_X28_33 (fun r1 => ?_)
    refine kw_alen (pc := 7) B dX28_word_7 (fun i2 => ?_)
    refine kw_icmp_ge (pc := 8) (tgt := 71) B dX28_word_8 rfl ?_ ?_
    · refine kw_new (pc := 71) B dX28_word_71 (ci := 27) (N := 7) rfl in_X29 tyX29_ok kz_BadSign_ok q2228 q2229 q129 (fun r3 => ?_)
      refine kw_dup (pc := 74) B dX28_word_74 rfl ?_
      refine kw_aload_n (pc := 75) B dX28_word_75 rfl 0 rfl ?_
      refine kw_gI (pc := 76) B dX28_word_76 fl_X28_41 (fun i4 => ?_)
      refine kw_callI (pc := 79) B dX28_word_79 (ct_X29_init r3 i4) q2237 q2238 q129 q2239 rfl ⟨by decide, by decide, rfl⟩ (As := [kI i4]) rfl (st := [kA r3]) rfl (Nat.le_of_ble_eq_true rfl) (by decide) (by decide) kw_qV (fun _ => ?_)
      exact kw_athrow B dX28_word_82 kw_noh
    · refine kw_aload_n (pc := 11) B dX28_word_11 rfl 0 rfl ?_
      refine kw_aload_n (pc := 12) B dX28_word_12 rfl 0 rfl ?_
      refine kw_gR (pc := 13) B dX28_word_13 fl_X28_33 (fun r5 => ?_)
      refine kw_iload_n (pc := 16) B dX28_word_16 rfl 1 rfl ?_
      refine kw_aald (pc := 17) B dX28_word_17 (fun r6 => ?_)
      refine kw_iconst (pc := 18) B dX28_word_18 (v := (0 : Int32)) rfl ?_
      refine kw_callV (pc := 19) B dX28_word_19 (ci := 35) rfl (ct_J16_charAt r6 (0 : Int32)) q2218 q2155 q2156 q103 q2157 ⟨by decide, by decide, rfl⟩ (As := [kI (0 : Int32)]) rfl (st := [kA x0]) rfl (Nat.le_of_ble_eq_true rfl) (by decide) (by decide) kw_qI (fun i7 => ?_)
      refine kw_callV (pc := 22) B dX28_word_22 (ci := 26) rfl (ct_X28_isSign x0 i7) q2219 q2221 qs21 q128 q2222 ⟨by decide, by decide, rfl⟩ (As := [kI i7]) rfl (st := []) rfl (Nat.le_of_ble_eq_true rfl) (by decide) (by decide) kw_qI (fun i8 => ?_)
      refine kw_if_eq (pc := 25) (tgt := 65) B dX28_word_25 rfl ?_ ?_
      · refine kw_iinc (pc := 65) B dX28_word_65 1 rfl (w := x1 + (1 : Int32)) rfl (by decide) (L2 := [(1, kI (x1 + (1 : Int32))), (0, kA x0)]) rfl ?_
        refine kw_goto (pc := 68) (tgt := 2) B dX28_word_68 rfl ?_
        exact kw_pick [1, 0] rfl (ih x0 (x1 + (1 : Int32)))
      · refine kw_iconst (pc := 28) B dX28_word_28 (v := (0 : Int32)) rfl ?_
        refine kw_istore_n (pc := 29) B dX28_word_29 rfl (by decide) (L2 := [(2, kI (0 : Int32)), (0, kA x0), (1, kI x1)]) rfl ?_
        exact kw_pick [1, 2, 0] rfl (wb_X28_word_30 B km_fuel x0 x1 (0 : Int32))
theorem wm_X28_word {E : kw_E} (B : kw_ok E cX28_word RX28 "word" 3 (some .int) 5 114 []) (a0 : Option Nat) : kw_W E (kw_x kw_eI) 0 [(0, kA a0)] [] (pm_X28_word a0) := by
  unfold pm_X28_word
  refine kw_iconst (pc := 0) B dX28_word_0 (v := (0 : Int32)) rfl ?_
  refine kw_istore_n (pc := 1) B dX28_word_1 rfl (by decide) (L2 := [(1, kI (0 : Int32)), (0, kA a0)]) rfl ?_
  exact kw_pick [1, 0] rfl (wb_X28_word_2 B km_fuel a0 (0 : Int32))
theorem ct_X28_word (a0 : Option Nat) (l : Launch) : kw_Met l yX28_word (ws_ yX28_word cX28_word 3 (some .int)) 5 114 [kA a0] (kw_x kw_eI) (pm_X28_word a0) := kw_met (plainFor_of_name rfl) (Nat.le_of_ble_eq_true rfl) (fun E B => wm_X28_word B a0) l

/-! RosaryCarvers$Command <init> (Ljava/lang/String;)V -/
theorem fp_X30_7 : kw_fp RX30 (.array .int) true [(28, 1)] := (kw_fp_c (C := RX30) (T := TX30) (N := 2) (ty0 := tyX30) rfl tyX30_ok nmX30 rfl (fun _ => rfl) (by decide) rfl kw_fp_nil)
theorem fl_X30_13 : kw_fl RX30 13 "RosaryCarvers$Command" [(28, 0)] := (kw_fl_c (C := RX30) (T := TX30) (N := 2) rfl (by decide) in_X30 q2253 (Or.inl rfl) kw_fl_nil)
theorem fp_X30_13 : kw_fp RX30 (.object "java/lang/String") true [(28, 0)] := (kw_fp_c (C := RX30) (T := TX30) (N := 2) (ty0 := tyX30) rfl tyX30_ok nmX30 rfl (fun _ => rfl) (by decide) rfl kw_fp_nil)
theorem wm_X30_init {E : kw_E} (B : kw_ok E cX30_init RX30 "<init>" 2 none 1 24 []) (a0 : Option Nat) (a1 : Option Nat) : kw_W E kw_eV 0 [(0, kA a0), (1, kA a1)] [] (pm_X30_init a0 a1) := by
  unfold pm_X30_init
  refine kw_aload_n (pc := 0) B dX30_init_0 rfl 0 rfl ?_
  refine kw_objInit (pc := 1) B dX30_init_1 q2252 q138 q139 (by decide) (Nat.le_of_ble_eq_true rfl) ?_
  refine kw_aload_n (pc := 4) B dX30_init_4 rfl 0 rfl ?_
  refine kw_iconst (pc := 5) B dX30_init_5 (v := (2 : Int32)) rfl ?_
  refine kw_newaI (pc := 6) B dX30_init_6 q2203 (fun r1 => ?_)
  refine kw_pR (pc := 8) B dX30_init_8 fl_X30_7 fp_X30_7 (fun _ => rfl) rfl ?_
  refine kw_aload_n (pc := 11) B dX30_init_11 rfl 0 rfl ?_
  refine kw_aload_n (pc := 12) B dX30_init_12 rfl 1 rfl ?_
  refine kw_pR (pc := 13) B dX30_init_13 fl_X30_13 fp_X30_13 (fun _ => rfl) rfl ?_
  exact kw_vret B dX30_init_16 rfl
theorem ct_X30_init (a0 : Option Nat) (a1 : Option Nat) (l : Launch) : kw_Met l yX30_init (ws_ yX30_init cX30_init 2 none) 1 24 [kA a0, kA a1] kw_eV (pm_X30_init a0 a1) := kw_met (plainFor_of_name rfl) (Nat.le_of_ble_eq_true rfl) (fun E B => wm_X30_init B a0 a1) l

/-! RosaryCarvers$Reader isDigit ()Z -/

theorem wm_X28_isDigit {E : kw_E} (B : kw_ok E cX28_isDigit RX28 "isDigit" 1 (some .boolean) 2 22 []) (a0 : Option Nat) : kw_W E kw_eI 0 [(0, kA a0)] [] (pm_X28_isDigit a0) := by
  unfold pm_X28_isDigit
  refine kw_aload_n (pc := 0) B dX28_isDigit_0 rfl 0 rfl ?_
  refine kw_gI (pc := 1) B dX28_isDigit_1 fl_X28_41 (fun i1 => ?_)
  refine kw_aload_n (pc := 4) B dX28_isDigit_4 rfl 0 rfl ?_
  refine kw_gR (pc := 5) B dX28_isDigit_5 fl_X28_3 (fun r2 => ?_)
  refine kw_gIN (pc := 8) B dX28_isDigit_8 fl_X28_45 (fun i3 => ?_)
  refine kw_icmp_ge (pc := 11) (tgt := 40) B dX28_isDigit_11 rfl ?_ ?_
  · refine kw_iconst (pc := 40) B dX28_isDigit_40 (v := (0 : Int32)) rfl ?_
    exact kw_zret B dX28_isDigit_41 (g := fun v => v) (fun _ => rfl)
  · refine kw_aload_n (pc := 14) B dX28_isDigit_14 rfl 0 rfl ?_
    refine kw_gR (pc := 15) B dX28_isDigit_15 fl_X28_3 (fun r4 => ?_)
    refine kw_gRN (pc := 18) B dX28_isDigit_18 fl_X28_48 (fun r5 => ?_)
    refine kw_aload_n (pc := 21) B dX28_isDigit_21 rfl 0 rfl ?_
    refine kw_gI (pc := 22) B dX28_isDigit_22 fl_X28_41 (fun i6 => ?_)
    refine kw_cald (pc := 25) B dX28_isDigit_25 (fun i7 => ?_)
    refine kw_bipush (pc := 26) B dX28_isDigit_26 (v := (48 : Int32)) rfl ?_
    refine kw_bipush (pc := 28) B dX28_isDigit_28 (v := (57 : Int32)) rfl ?_
    refine kw_callSN (pc := 30) B dX28_isDigit_30 (ct_X0_in i7 (48 : Int32) (57 : Int32)) q2270 q340 q73 q341 ⟨by decide, by decide, rfl⟩ (As := [kI i7, kI (48 : Int32), kI (57 : Int32)]) rfl (st := []) rfl (Nat.le_of_ble_eq_true rfl) (by decide) (by decide) kw_qI (fun i8 => ?_)
    refine kw_if_eq (pc := 33) (tgt := 40) B dX28_isDigit_33 rfl ?_ ?_
    · refine kw_iconst (pc := 40) B dX28_isDigit_40 (v := (0 : Int32)) rfl ?_
      exact kw_zret B dX28_isDigit_41 (g := fun v => v) (fun _ => rfl)
    · refine kw_iconst (pc := 36) B dX28_isDigit_36 (v := (1 : Int32)) rfl ?_
      refine kw_goto (pc := 37) (tgt := 41) B dX28_isDigit_37 rfl ?_
      exact kw_zret B dX28_isDigit_41 (g := fun v => v) (fun _ => rfl)
theorem ct_X28_isDigit (a0 : Option Nat) (l : Launch) : kw_Met l yX28_isDigit (ws_ yX28_isDigit cX28_isDigit 1 (some .boolean)) 2 22 [kA a0] kw_eI (pm_X28_isDigit a0) := kw_met (plainFor_of_name rfl) (Nat.le_of_ble_eq_true rfl) (fun E B => wm_X28_isDigit B a0) l

/-! RosaryCarvers$Reader number ()I -/

theorem wb_X28_number_29 {E : kw_E} (B : kw_ok E cX28_number RX28 "number" 3 (some .int) 5 114 [])  : ∀ (n : Nat) (x0 : Option Nat) (x1 : Int32) (x2 : Int32), kw_W E (kw_x kw_eI) 29 [(0, kA x0), (1, kI x1), (2, kI x2)] [] (pb_X28_number_29  n x0 x1 x2) := by
  intro n
  induction n with
  | zero =>
    intro x0 x1 x2
    exact kw_fail_ok
  | succ n ih =>
    intro x0 x1 x2
    show kw_W E (kw_x kw_eI) 29 [(0, kA x0), (1, kI x1), (2, kI x2)] [] (
if (2 : Int32) ≤ x2 then
(km_pure (Sum.inr x1))
else
(km_bind (km_is 26 x0) fun _ => km_bind (pm_X28_isDigit x0) fun i1 =>
if i1 = 0 then
(km_pure (Sum.inr x1))
else
(km_bind (km_gR [(26, 3)] x0) fun r2 =>
km_bind (km_gR [(0, 5)] r2) fun r3 =>
km_bind (km_gI [(26, 2)] x0) fun i4 =>
km_bind (km_ldI 1 r3 i4) fun i5 =>
km_bind (km_gI [(26, 2)] x0) fun i6 =>
km_bind (km_pI .int [(26, 2)] x0 (i6 + (1 : Int32))) fun _ =>
pb_X28_number_29 n x0 ((((10 : Int32) * x1) + i5) - (48 : Int32)) (x2 + (1 : Int32)))))
    refine kw_iload_n (pc := 29) B dX28_number_29 rfl 2 rfl ?_
    refine kw_iconst (pc := 30) B dX28_number_30 (v := (2 : Int32)) rfl ?_
    refine kw_icmp_ge (pc := 31) (tgt := 78) B dX28_number_31 rfl ?_ ?_
    · refine kw_iload_n (pc := 78) B dX28_number_78 rfl 1 rfl ?_
      exact kw_iret B dX28_number_79 rfl
    · refine kw_aload_n (pc := 34) B dX28_number_34 rfl 0 rfl ?_
      refine kw_callV (pc := 35) B dX28_number_35 (ci := 26) rfl (ct_X28_isDigit x0) q2266 q2268 qs24 q128 q2269 ⟨by decide, by decide, rfl⟩ (As := []) rfl (st := []) rfl (Nat.le_of_ble_eq_true rfl) (by decide) (by decide) kw_qI (fun i1 => ?_)
      refine kw_if_eq (pc := 38) (tgt := 78) B dX28_number_38 rfl ?_ ?_
      · refine kw_iload_n (pc := 78) B dX28_number_78 rfl 1 rfl ?_
        exact kw_iret B dX28_number_79 rfl
      · refine kw_bipush (pc := 41) B dX28_number_41 (v := (10 : Int32)) rfl ?_
        refine kw_iload_n (pc := 43) B dX28_number_43 rfl 1 rfl ?_
        refine kw_imul (pc := 44) B dX28_number_44 ?_
        refine kw_aload_n (pc := 45) B dX28_number_45 rfl 0 rfl ?_
        refine kw_gR (pc := 46) B dX28_number_46 fl_X28_3 (fun r2 => ?_)
        refine kw_gRN (pc := 49) B dX28_number_49 fl_X28_48 (fun r3 => ?_)
        refine kw_aload_n (pc := 52) B dX28_number_52 rfl 0 rfl ?_
        refine kw_gI (pc := 53) B dX28_number_53 fl_X28_41 (fun i4 => ?_)
        refine kw_cald (pc := 56) B dX28_number_56 (fun i5 => ?_)
        refine kw_iadd (pc := 57) B dX28_number_57 ?_
        refine kw_bipush (pc := 58) B dX28_number_58 (v := (48 : Int32)) rfl ?_
        refine kw_isub (pc := 60) B dX28_number_60 ?_
        refine kw_istore_n (pc := 61) B dX28_number_61 rfl (by decide) (L2 := [(1, kI ((((10 : Int32) * x1) + i5) - (48 : Int32))), (0, kA x0), (2, kI x2)]) rfl ?_
        refine kw_aload_n (pc := 62) B dX28_number_62 rfl 1 rfl ?_
        refine kw_dup (pc := 63) B dX28_number_63 rfl ?_
        refine kw_gI (pc := 64) B dX28_number_64 fl_X28_41 (fun i6 => ?_)
        refine kw_iconst (pc := 67) B dX28_number_67 (v := (1 : Int32)) rfl ?_
        refine kw_iadd (pc := 68) B dX28_number_68 ?_
        refine kw_pI (pc := 69) B dX28_number_69 fl_X28_41 fp_X28_41 (fun h => by cases h) ?_
        refine kw_iinc (pc := 72) B dX28_number_72 2 rfl (w := x2 + (1 : Int32)) rfl (by decide) (L2 := [(2, kI (x2 + (1 : Int32))), (1, kI ((((10 : Int32) * x1) + i5) - (48 : Int32))), (0, kA x0)]) rfl ?_
        refine kw_goto (pc := 75) (tgt := 29) B dX28_number_75 rfl ?_
        exact kw_pick [2, 1, 0] rfl (ih x0 ((((10 : Int32) * x1) + i5) - (48 : Int32)) (x2 + (1 : Int32)))
theorem wm_X28_number {E : kw_E} (B : kw_ok E cX28_number RX28 "number" 3 (some .int) 5 114 []) (a0 : Option Nat) : kw_W E (kw_x kw_eI) 0 [(0, kA a0)] [] (pm_X28_number a0) := by
  unfold pm_X28_number
  refine kw_aload_n (pc := 0) B dX28_number_0 rfl 0 rfl ?_
  refine kw_bipush (pc := 1) B dX28_number_1 (v := (32 : Int32)) rfl ?_
  refine kw_callVX (pc := 3) B dX28_number_3 (ci := 26) rfl (xq := Sum.inl) (fun _ => rfl) kw_noh (ct_X28_takes a0 (32 : Int32)) q2224 q2226 qs22 q128 q2227 ⟨by decide, by decide, rfl⟩ (As := [kI (32 : Int32)]) rfl (st := []) rfl (Nat.le_of_ble_eq_true rfl) (by decide) (by decide) kw_qV (fun _ => ?_)
  refine kw_aload_n (pc := 6) B dX28_number_6 rfl 0 rfl ?_
  refine kw_callV (pc := 7) B dX28_number_7 (ci := 26) rfl (ct_X28_isDigit a0) q2266 q2268 qs24 q128 q2269 ⟨by decide, by decide, rfl⟩ (As := []) rfl (st := []) rfl (Nat.le_of_ble_eq_true rfl) (by decide) (by decide) kw_qI (fun i1 => ?_)
  refine kw_if_ne (pc := 10) (tgt := 25) B dX28_number_10 rfl ?_ ?_
  · refine kw_iconst (pc := 25) B dX28_number_25 (v := (0 : Int32)) rfl ?_
    refine kw_istore_n (pc := 26) B dX28_number_26 rfl (by decide) (L2 := [(1, kI (0 : Int32)), (0, kA a0)]) rfl ?_
    refine kw_iconst (pc := 27) B dX28_number_27 (v := (0 : Int32)) rfl ?_
    refine kw_istore_n (pc := 28) B dX28_number_28 rfl (by decide) (L2 := [(2, kI (0 : Int32)), (1, kI (0 : Int32)), (0, kA a0)]) rfl ?_
    exact kw_pick [2, 1, 0] rfl (wb_X28_number_29 B km_fuel a0 (0 : Int32) (0 : Int32))
  · refine kw_new (pc := 13) B dX28_number_13 (ci := 27) (N := 7) rfl in_X29 tyX29_ok kz_BadSign_ok q2228 q2229 q129 (fun r2 => ?_)
    refine kw_dup (pc := 16) B dX28_number_16 rfl ?_
    refine kw_aload_n (pc := 17) B dX28_number_17 rfl 0 rfl ?_
    refine kw_gI (pc := 18) B dX28_number_18 fl_X28_41 (fun i3 => ?_)
    refine kw_callI (pc := 21) B dX28_number_21 (ct_X29_init r2 i3) q2237 q2238 q129 q2239 rfl ⟨by decide, by decide, rfl⟩ (As := [kI i3]) rfl (st := [kA r2]) rfl (Nat.le_of_ble_eq_true rfl) (by decide) (by decide) kw_qV (fun _ => ?_)
    exact kw_athrow B dX28_number_24 kw_noh
theorem ct_X28_number (a0 : Option Nat) (l : Launch) : kw_Met l yX28_number (ws_ yX28_number cX28_number 3 (some .int)) 5 114 [kA a0] (kw_x kw_eI) (pm_X28_number a0) := kw_met (plainFor_of_name rfl) (Nat.le_of_ble_eq_true rfl) (fun E B => wm_X28_number B a0) l

/-! RosaryCarvers$Reader command ()LRosaryCarvers$Command; -/
theorem fl_X28_89 : kw_flN RX28 89 "RosaryCarvers$Command" "RosaryCarvers" [(28, 1)] := (kw_flN_c (C := RX30) (T := TX30) (N := 2) rfl (by decide) in_X30 q2256 (Or.inl rfl) kw_flN_nil)
theorem wb_X28_command_21 {E : kw_E} (B : kw_ok E cX28_command RX28 "command" 4 (some (.object "RosaryCarvers$Command")) 6 136 [])  : ∀ (n : Nat) (x0 : Option Nat) (x1 : Int32) (x2 : Option Nat) (x3 : Int32), kw_W E (kw_x kw_eA) 21 [(0, kA x0), (1, kI x1), (2, kA x2), (3, kI x3)] [] (pb_X28_command_21  n x0 x1 x2 x3) := by
  intro n
  induction n with
  | zero =>
    intro x0 x1 x2 x3
    exact kw_fail_ok
  | succ n ih =>
    intro x0 x1 x2 x3
    show kw_W E (kw_x kw_eA) 21 [(0, kA x0), (1, kI x1), (2, kA x2), (3, kI x3)] [] (
km_bind (km_gR [(26, 1)] x0) fun r1 =>
km_bind (km_ldI 0 r1 x1) fun i2 =>
if i2 ≤ x3 then
(km_pure (Sum.inr x2))
else
(km_bind (km_gR [(28, 1)] x2) fun r3 =>
km_bind (km_is 26 x0) fun _ => km_bind (pm_X28_number x0) (km_x Sum.inl fun i4 =>
km_bind (km_stI 0 r3 x3 i4) fun _ =>
pb_X28_command_21 n x0 x1 x2 (x3 + (1 : Int32)))))
    refine kw_iload_n (pc := 21) B dX28_command_21 rfl 3 rfl ?_
    refine kw_aload_n (pc := 22) B dX28_command_22 rfl 0 rfl ?_
    refine kw_gR (pc := 23) B dX28_command_23 fl_X28_37 (fun r1 => ?_)
    refine kw_iload_n (pc := 26) B dX28_command_26 rfl 1 rfl ?_
    refine kw_iald (pc := 27) B dX28_command_27 (fun i2 => ?_)
    refine kw_icmp_ge (pc := 28) (tgt := 47) B dX28_command_28 rfl ?_ ?_
    · refine kw_aload_n (pc := 47) B dX28_command_47 rfl 2 rfl ?_
      exact kw_aret rfl B dX28_command_48 rfl
    · refine kw_aload_n (pc := 31) B dX28_command_31 rfl 2 rfl ?_
      refine kw_gRN (pc := 32) B dX28_command_32 fl_X28_89 (fun r3 => ?_)
      refine kw_iload_n (pc := 35) B dX28_command_35 rfl 3 rfl ?_
      refine kw_aload_n (pc := 36) B dX28_command_36 rfl 0 rfl ?_
      refine kw_callVX (pc := 37) B dX28_command_37 (ci := 26) rfl (xq := Sum.inl) (fun _ => rfl) kw_noh (ct_X28_number x0) q2262 q2264 qs23 q128 q2265 ⟨by decide, by decide, rfl⟩ (As := []) rfl (st := [kI x3, kA r3]) rfl (Nat.le_of_ble_eq_true rfl) (by decide) (by decide) kw_qI (fun i4 => ?_)
      refine kw_iast (pc := 40) B dX28_command_40 ?_
      refine kw_iinc (pc := 41) B dX28_command_41 3 rfl (w := x3 + (1 : Int32)) rfl (by decide) (L2 := [(3, kI (x3 + (1 : Int32))), (0, kA x0), (1, kI x1), (2, kA x2)]) rfl ?_
      refine kw_goto (pc := 44) (tgt := 21) B dX28_command_44 rfl ?_
      exact kw_pick [1, 2, 3, 0] rfl (ih x0 x1 x2 (x3 + (1 : Int32)))
theorem wm_X28_command {E : kw_E} (B : kw_ok E cX28_command RX28 "command" 4 (some (.object "RosaryCarvers$Command")) 6 136 []) (a0 : Option Nat) : kw_W E (kw_x kw_eA) 0 [(0, kA a0)] [] (pm_X28_command a0) := by
  unfold pm_X28_command
  refine kw_aload_n (pc := 0) B dX28_command_0 rfl 0 rfl ?_
  refine kw_callVX (pc := 1) B dX28_command_1 (ci := 26) rfl (xq := Sum.inl) (fun _ => rfl) kw_noh (ct_X28_word a0) q2214 q2216 qs20 q128 q2217 ⟨by decide, by decide, rfl⟩ (As := []) rfl (st := []) rfl (Nat.le_of_ble_eq_true rfl) (by decide) (by decide) kw_qI (fun i1 => ?_)
  refine kw_istore_n (pc := 4) B dX28_command_4 rfl (by decide) (L2 := [(1, kI i1), (0, kA a0)]) rfl ?_
  refine kw_new (pc := 5) B dX28_command_5 (ci := 28) (N := 2) rfl in_X30 tyX30_ok kz_Command_ok q2247 q2248 q130 (fun r2 => ?_)
  refine kw_dup (pc := 8) B dX28_command_8 rfl ?_
  refine kw_aload_n (pc := 9) B dX28_command_9 rfl 1 rfl ?_
  refine kw_gR (pc := 10) B dX28_command_10 fl_X28_33 (fun r3 => ?_)
  refine kw_iload_n (pc := 13) B dX28_command_13 rfl 0 rfl ?_
  refine kw_aald (pc := 14) B dX28_command_14 (fun r4 => ?_)
  refine kw_callI (pc := 15) B dX28_command_15 (ct_X30_init r2 r4) q2249 q2250 q130 q2251 rfl ⟨by decide, by decide, rfl⟩ (As := [kA r4]) rfl (st := [kA r2]) rfl (Nat.le_of_ble_eq_true rfl) (by decide) (by decide) kw_qV (fun _ => ?_)
  refine kw_astore_n (pc := 18) B dX28_command_18 rfl (by decide) (L2 := [(2, kA r2), (1, kI i1), (0, kA a0)]) rfl ?_
  refine kw_iconst (pc := 19) B dX28_command_19 (v := (0 : Int32)) rfl ?_
  refine kw_istore_n (pc := 20) B dX28_command_20 rfl (by decide) (L2 := [(3, kI (0 : Int32)), (2, kA r2), (1, kI i1), (0, kA a0)]) rfl ?_
  exact kw_pick [3, 2, 1, 0] rfl (wb_X28_command_21 B km_fuel a0 i1 r2 (0 : Int32))
theorem ct_X28_command (a0 : Option Nat) (l : Launch) : kw_Met l yX28_command (ws_ yX28_command cX28_command 4 (some (.object "RosaryCarvers$Command"))) 6 136 [kA a0] (kw_x kw_eA) (pm_X28_command a0) := kw_met (plainFor_of_name rfl) (Nat.le_of_ble_eq_true rfl) (fun E B => wm_X28_command B a0) l

/-! RosaryCarvers$Reader whole ()Ljava/util/ArrayDeque; -/

theorem wb_X28_whole_16 {E : kw_E} (B : kw_ok E cX28_whole RX28 "whole" 2 (some (.object "java/util/ArrayDeque")) 7 159 [])  : ∀ (n : Nat) (x0 : Option Nat) (x1 : Option Nat), kw_W E (kw_x kw_eA) 16 [(0, kA x0), (1, kA x1)] [] (pb_X28_whole_16  n x0 x1) := by
  intro n
  induction n with
  | zero =>
    intro x0 x1
    exact kw_fail_ok
  | succ n ih =>
    intro x0 x1
    show kw_W E (kw_x kw_eA) 16 [(0, kA x0), (1, kA x1)] [] (
km_bind (km_is 26 x0) fun _ => km_bind (pm_X28_isSign x0 (59 : Int32)) fun i1 =>
if i1 = 0 then
(km_bind (km_gI [(26, 2)] x0) fun i2 =>
km_bind (km_gR [(26, 3)] x0) fun r3 =>
km_bind (km_gI [(0, 6)] r3) fun i4 =>
if i4 ≤ i2 then
(km_pure (Sum.inr x1))
else
(km_bind (km_new 27 7 kz_BadSign) fun r5 =>
km_bind (km_gI [(26, 2)] x0) fun i6 =>
km_bind (km_nn r5) fun _ => km_bind (pm_X29_init r5 i6) fun _ =>
km_throw r5))
else
(km_bind (km_gI [(26, 2)] x0) fun i7 =>
km_bind (km_pI .int [(26, 2)] x0 (i7 + (1 : Int32))) fun _ =>
km_bind (km_is 26 x0) fun _ => km_bind (pm_X28_command x0) (km_x Sum.inl fun r9 =>
km_bind (km_is 32 x1) fun _ => km_bind (pm_J4_addLast x1 r9) fun _ =>
pb_X28_whole_16 n x0 x1)))
    refine kw_aload_n (pc := 16) B dX28_whole_16 rfl 0 rfl ?_
    refine kw_bipush (pc := 17) B dX28_whole_17 (v := (59 : Int32)) rfl ?_
    refine kw_callV (pc := 19) B dX28_whole_19 (ci := 26) rfl (ct_X28_isSign x0 (59 : Int32)) q2219 q2221 qs21 q128 q2222 ⟨by decide, by decide, rfl⟩ (As := [kI (59 : Int32)]) rfl (st := []) rfl (Nat.le_of_ble_eq_true rfl) (by decide) (by decide) kw_qI (fun i1 => ?_)
    refine kw_if_eq (pc := 22) (tgt := 46) B dX28_whole_22 rfl ?_ ?_
    · refine kw_aload_n (pc := 46) B dX28_whole_46 rfl 0 rfl ?_
      refine kw_gI (pc := 47) B dX28_whole_47 fl_X28_41 (fun i2 => ?_)
      refine kw_aload_n (pc := 50) B dX28_whole_50 rfl 0 rfl ?_
      refine kw_gR (pc := 51) B dX28_whole_51 fl_X28_3 (fun r3 => ?_)
      refine kw_gIN (pc := 54) B dX28_whole_54 fl_X28_45 (fun i4 => ?_)
      refine kw_icmp_ge (pc := 57) (tgt := 72) B dX28_whole_57 rfl ?_ ?_
      · refine kw_aload_n (pc := 72) B dX28_whole_72 rfl 1 rfl ?_
        exact kw_aret rfl B dX28_whole_73 rfl
      · refine kw_new (pc := 60) B dX28_whole_60 (ci := 27) (N := 7) rfl in_X29 tyX29_ok kz_BadSign_ok q2228 q2229 q129 (fun r5 => ?_)
        refine kw_dup (pc := 63) B dX28_whole_63 rfl ?_
        refine kw_aload_n (pc := 64) B dX28_whole_64 rfl 0 rfl ?_
        refine kw_gI (pc := 65) B dX28_whole_65 fl_X28_41 (fun i6 => ?_)
        refine kw_callI (pc := 68) B dX28_whole_68 (ct_X29_init r5 i6) q2237 q2238 q129 q2239 rfl ⟨by decide, by decide, rfl⟩ (As := [kI i6]) rfl (st := [kA r5]) rfl (Nat.le_of_ble_eq_true rfl) (by decide) (by decide) kw_qV (fun _ => ?_)
        exact kw_athrow B dX28_whole_71 kw_noh
    · refine kw_aload_n (pc := 25) B dX28_whole_25 rfl 0 rfl ?_
      refine kw_dup (pc := 26) B dX28_whole_26 rfl ?_
      refine kw_gI (pc := 27) B dX28_whole_27 fl_X28_41 (fun i7 => ?_)
      refine kw_iconst (pc := 30) B dX28_whole_30 (v := (1 : Int32)) rfl ?_
      refine kw_iadd (pc := 31) B dX28_whole_31 ?_
      refine kw_pI (pc := 32) B dX28_whole_32 fl_X28_41 fp_X28_41 (fun h => by cases h) ?_
      refine kw_aload_n (pc := 35) B dX28_whole_35 rfl 1 rfl ?_
      refine kw_aload_n (pc := 36) B dX28_whole_36 rfl 0 rfl ?_
      refine kw_callVX (pc := 37) B dX28_whole_37 (ci := 26) rfl (xq := Sum.inl) (fun _ => rfl) kw_noh (ct_X28_command x0) q2210 q2212 qs19 q128 q2213 ⟨by decide, by decide, rfl⟩ (As := []) rfl (st := [kA x1]) rfl (Nat.le_of_ble_eq_true rfl) (by decide) (by decide) kw_qA (fun r9 => ?_)
      refine kw_callV (pc := 40) B dX28_whole_40 (ci := 32) rfl (ct_J4_addLast x1 r9) q2271 q1537 q1538 q80 q1539 ⟨by decide, by decide, rfl⟩ (As := [kA r9]) rfl (st := []) rfl (Nat.le_of_ble_eq_true rfl) (by decide) (by decide) kw_qV (fun _ => ?_)
      refine kw_goto (pc := 43) (tgt := 16) B dX28_whole_43 rfl ?_
      exact kw_pick [0, 1] rfl (ih x0 x1)
theorem wm_X28_whole {E : kw_E} (B : kw_ok E cX28_whole RX28 "whole" 2 (some (.object "java/util/ArrayDeque")) 7 159 []) (a0 : Option Nat) : kw_W E (kw_x kw_eA) 0 [(0, kA a0)] [] (pm_X28_whole a0) := by
  unfold pm_X28_whole
  refine kw_new (pc := 0) B dX28_whole_0 (ci := 32) (N := 3) rfl in_J4 tyJ4_ok kz_AD_ok q2208 q283 q80 (fun r1 => ?_)
  refine kw_dup (pc := 3) B dX28_whole_3 rfl ?_
  refine kw_callI (pc := 4) B dX28_whole_4 (ct_J4_init r1) q2209 q285 q80 q286 rfl ⟨by decide, by decide, rfl⟩ (As := []) rfl (st := [kA r1]) rfl (Nat.le_of_ble_eq_true rfl) (by decide) (by decide) kw_qV (fun _ => ?_)
  refine kw_astore_n (pc := 7) B dX28_whole_7 rfl (by decide) (L2 := [(1, kA r1), (0, kA a0)]) rfl ?_
  refine kw_aload_n (pc := 8) B dX28_whole_8 rfl 0 rfl ?_
  refine kw_aload_n (pc := 9) B dX28_whole_9 rfl 1 rfl ?_
  refine kw_callVX (pc := 10) B dX28_whole_10 (ci := 26) rfl (xq := Sum.inl) (fun _ => rfl) kw_noh (ct_X28_command a0) q2210 q2212 qs19 q128 q2213 ⟨by decide, by decide, rfl⟩ (As := []) rfl (st := [kA r1]) rfl (Nat.le_of_ble_eq_true rfl) (by decide) (by decide) kw_qA (fun r2 => ?_)
  refine kw_callV (pc := 13) B dX28_whole_13 (ci := 32) rfl (ct_J4_addLast r1 r2) q2271 q1537 q1538 q80 q1539 ⟨by decide, by decide, rfl⟩ (As := [kA r2]) rfl (st := []) rfl (Nat.le_of_ble_eq_true rfl) (by decide) (by decide) kw_qV (fun _ => ?_)
  exact kw_pick [1, 0] rfl (wb_X28_whole_16 B km_fuel a0 r1)
theorem ct_X28_whole (a0 : Option Nat) (l : Launch) : kw_Met l yX28_whole (ws_ yX28_whole cX28_whole 2 (some (.object "java/util/ArrayDeque"))) 7 159 [kA a0] (kw_x kw_eA) (pm_X28_whole a0) := kw_met (plainFor_of_name rfl) (Nat.le_of_ble_eq_true rfl) (fun E B => wm_X28_whole B a0) l

/-! RosaryCarvers$13 <init> (LRosaryCarvers;Ljava/util/ArrayDeque;)V -/
theorem fl_X31_1 : kw_fl RX31 1 "RosaryCarvers$13" [(29, 2)] := (kw_fl_c (C := RX31) (T := TX31) (N := 3) rfl (by decide) in_X31 q2279 (Or.inl rfl) kw_fl_nil)
theorem fp_X31_1 : kw_fp RX31 (.object "RosaryCarvers") true [(29, 2)] := (kw_fp_d (C := RX31) (T := TX31) (N := 3) (ty0 := tyX31) rfl tyX31_ok (by unfold kw_ap; decide) rfl rfl (by decide) rfl kw_fp_nil)
theorem fp_X31_7 : kw_fp RX31 (.object "java/util/ArrayDeque") true [(29, 1)] := (kw_fp_d (C := RX31) (T := TX31) (N := 3) (ty0 := tyX31) rfl tyX31_ok (by unfold kw_ap; decide) rfl rfl (by decide) rfl kw_fp_nil)
theorem wm_X31_init {E : kw_E} (B : kw_ok E cX31_init RX31 "<init>" 3 none 2 45 []) (a0 : Option Nat) (a1 : Option Nat) (a2 : Option Nat) : kw_W E kw_eV 0 [(0, kA a0), (1, kA a1), (2, kA a2)] [] (pm_X31_init a0 a1 a2) := by
  unfold pm_X31_init
  refine kw_aload_n (pc := 0) B dX31_init_0 rfl 0 rfl ?_
  refine kw_aload_n (pc := 1) B dX31_init_1 rfl 1 rfl ?_
  refine kw_pR (pc := 2) B dX31_init_2 fl_X31_1 fp_X31_1 (fun _ => rfl) rfl ?_
  refine kw_aload_n (pc := 5) B dX31_init_5 rfl 0 rfl ?_
  refine kw_aload_n (pc := 6) B dX31_init_6 rfl 2 rfl ?_
  refine kw_pR (pc := 7) B dX31_init_7 fl_X31_7 fp_X31_7 (fun _ => rfl) rfl ?_
  refine kw_aload_n (pc := 10) B dX31_init_10 rfl 0 rfl ?_
  refine kw_aload_n (pc := 11) B dX31_init_11 rfl 1 rfl ?_
  refine kw_callIN (pc := 12) B dX31_init_12 (ct_X4_init a0 a1) q2277 q348 q82 q349 rfl ⟨by decide, by decide, rfl⟩ (As := [kA a1]) rfl (st := []) rfl (Nat.le_of_ble_eq_true rfl) (by decide) (by decide) kw_qV (fun _ => ?_)
  exact kw_vret B dX31_init_15 rfl
theorem ct_X31_init (a0 : Option Nat) (a1 : Option Nat) (a2 : Option Nat) (l : Launch) : kw_Met l yX31_init (ws_ yX31_init cX31_init 3 none) 2 45 [kA a0, kA a1, kA a2] kw_eV (pm_X31_init a0 a1 a2) := kw_met (plainFor_of_name rfl) (Nat.le_of_ble_eq_true rfl) (fun E B => wm_X31_init B a0 a1 a2) l

/-! RosaryCarvers read ()I -/
theorem fl_X0_461 : kw_flN RX0 461 "RosaryCarvers$BadSign" "RosaryCarvers" [(27, 6)] := (kw_flN_c (C := RX29) (T := TX29) (N := 7) rfl (by decide) in_X29 q2242 (Or.inl rfl) kw_flN_nil)
theorem wb_X0_read_32 {E : kw_E} (B : kw_ok E cX0_read RX0 "read" 4 (some .int) 18 375 (tableOf [(0, 25, 32, 459), (0, 25, 51, 0), (32, 44, 51, 0)]))  (x0 : Option Nat) (s0 : Option Nat) : kw_W E kw_eI 32 [(0, kA x0)] [kA s0] (pb_X0_read_32  x0 s0) := by
  unfold pb_X0_read_32
  refine kw_astore_n (pc := 32) B dX0_read_32 rfl (by decide) (L2 := [(1, kA s0), (0, kA x0)]) rfl ?_
  refine kw_aload_n (pc := 33) B dX0_read_33 rfl 1 rfl ?_
  refine kw_aload_n (pc := 34) B dX0_read_34 rfl 0 rfl ?_
  refine kw_gIN (pc := 35) B dX0_read_35 fl_X0_461 (fun i1 => ?_)
  refine kw_pI (pc := 38) B dX0_read_38 fl_X0_38 fp_X0_38 (fun h => by cases h) ?_
  refine kw_bipush (pc := 41) B dX0_read_41 (v := (-2 : Int32)) rfl ?_
  refine kw_istore_n (pc := 43) B dX0_read_43 rfl (by decide) (L2 := [(2, kI (-2 : Int32)), (1, kA s0), (0, kA x0)]) rfl ?_
  refine kw_aload_n (pc := 44) B dX0_read_44 rfl 2 rfl ?_
  refine kw_iconst (pc := 45) B dX0_read_45 (v := (0 : Int32)) rfl ?_
  refine kw_pI (pc := 46) B dX0_read_46 fl_X0_345 fp_X0_345 (fun h => by cases h) ?_
  refine kw_iload_n (pc := 49) B dX0_read_49 rfl 0 rfl ?_
  exact kw_iret B dX0_read_50 rfl
theorem wm_X0_read {E : kw_E} (B : kw_ok E cX0_read RX0 "read" 4 (some .int) 18 375 (tableOf [(0, 25, 32, 459), (0, 25, 51, 0), (32, 44, 51, 0)])) (a0 : Option Nat) : kw_W E kw_eI 0 [(0, kA a0)] [] (pm_X0_read a0) := by
  unfold pm_X0_read
  refine kw_new (pc := 0) B dX0_read_0 (ci := 26) (N := 4) rfl in_X28 tyX28_ok kz_Reader_ok q2174 q2175 q128 (fun r1 => ?_)
  refine kw_dup (pc := 3) B dX0_read_3 rfl ?_
  refine kw_aload_n (pc := 4) B dX0_read_4 rfl 0 rfl ?_
  refine kw_callIN (pc := 5) B dX0_read_5 (ct_X28_init r1 a0) q2176 q2177 q128 q2178 rfl ⟨by decide, by decide, rfl⟩ (As := [kA a0]) rfl (st := [kA r1]) rfl (Nat.le_of_ble_eq_true rfl) (by decide) (by decide) kw_qV (fun _ => ?_)
  refine kw_callVXH (pc := 8) B dX0_read_8 (ci := 26) rfl (fun q => ?_) (ct_X28_whole r1) q2204 q2205 q2206 q128 q2207 ⟨by decide, by decide, rfl⟩ (As := []) rfl (st := []) rfl (Nat.le_of_ble_eq_true rfl) (by decide) (by decide) kw_qA (fun r2 => ?_)
  · refine kw_catch (pc := 8) B (rr := (RX29, TX29, 7)) rfl [] ⟨0, 25, 32, 459⟩ [⟨0, 25, 51, 0⟩, ⟨32, 44, 51, 0⟩] rfl (fun z hz => by cases hz) rfl (by decide) (name := "RosaryCarvers$BadSign") q2173 q2230 rfl ?_
    exact kw_pick [0] rfl (wb_X0_read_32 B a0 (some q))
  · refine kw_astore_n (pc := 11) B dX0_read_11 rfl (by decide) (L2 := [(1, kA r2), (0, kA a0)]) rfl ?_
    refine kw_new (pc := 12) B dX0_read_12 (ci := 29) (N := 3) rfl in_X31 tyX31_ok kz_D13_ok q2272 q2273 q131 (fun r3 => ?_)
    refine kw_dup (pc := 15) B dX0_read_15 rfl ?_
    refine kw_aload_n (pc := 16) B dX0_read_16 rfl 1 rfl ?_
    refine kw_aload_n (pc := 17) B dX0_read_17 rfl 0 rfl ?_
    refine kw_callI (pc := 18) B dX0_read_18 (ct_X31_init r3 a0 r2) q2274 q2275 q131 q2276 rfl ⟨by decide, by decide, rfl⟩ (As := [kA a0, kA r2]) rfl (st := [kA r3]) rfl (Nat.le_of_ble_eq_true rfl) (by decide) (by decide) kw_qV (fun _ => ?_)
    refine kw_callUW (pc := 21) B dX0_read_21 (x0 := ⟨"RosaryCarvers$13", "done", "()I"⟩) (owner := "RosaryCarvers$Deed") (ci := 29) rfl (ct_X4_done r3) q2286 q2287 q2288 q365 q365 q82 q366 rfl ⟨by decide, by decide, rfl⟩ (As := []) rfl (st := []) rfl (Nat.le_of_ble_eq_true rfl) (by decide) (by decide) kw_qI (fun i4 => ?_)
    refine kw_istore_n (pc := 24) B dX0_read_24 rfl (by decide) (L2 := [(2, kI i4), (1, kA r2), (0, kA a0)]) rfl ?_
    refine kw_aload_n (pc := 25) B dX0_read_25 rfl 2 rfl ?_
    refine kw_iconst (pc := 26) B dX0_read_26 (v := (0 : Int32)) rfl ?_
    refine kw_pI (pc := 27) B dX0_read_27 fl_X0_345 fp_X0_345 (fun h => by cases h) ?_
    refine kw_iload_n (pc := 30) B dX0_read_30 rfl 0 rfl ?_
    exact kw_iret B dX0_read_31 rfl
theorem ct_X0_read (a0 : Option Nat) (l : Launch) : kw_Met l yX0_read (wsW_ yX0_read cX0_read 4 (some .int) [(0, 25, 32, 459), (0, 25, 51, 0), (32, 44, 51, 0)]) 18 375 [kA a0] kw_eI (pm_X0_read a0) := kw_metH rfl (Nat.le_of_ble_eq_true rfl) (fun E B => wm_X0_read B a0) l
