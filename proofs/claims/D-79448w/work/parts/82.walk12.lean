set_option maxRecDepth 100000
/-! RosaryCarversModel letter ()I -/
theorem fl_X3_250 : kw_fl RX3 250 "RosaryCarversModel" [(3, 14)] := (kw_fl_c (C := RX3) (T := TX3) (N := 18) rfl (by decide) in_X3 q2370 (Or.inl rfl) kw_fl_nil)
theorem wm_X3_letter {E : kw_E} (B : kw_ok E cX3_letter RX3 "letter" 1 (some .int) 1 0 []) (a0 : Option Nat) : kw_W E kw_eI 0 [(0, kA a0)] [] (pm_X3_letter a0) := by
  unfold pm_X3_letter
  refine kw_aload_n (pc := 0) B dX3_letter_0 rfl 0 rfl ?_
  refine kw_gI (pc := 1) B dX3_letter_1 fl_X3_250 (fun i1 => ?_)
  refine kw_aload_n (pc := 4) B dX3_letter_4 rfl 0 rfl ?_
  refine kw_gI (pc := 5) B dX3_letter_5 fl_X3_234 (fun i2 => ?_)
  refine kw_icmp_ge (pc := 8) (tgt := 23) B dX3_letter_8 rfl ?_ ?_
  · refine kw_iconst (pc := 23) B dX3_letter_23 (v := (-1 : Int32)) rfl ?_
    exact kw_iret B dX3_letter_24 rfl
  · refine kw_aload_n (pc := 11) B dX3_letter_11 rfl 0 rfl ?_
    refine kw_gR (pc := 12) B dX3_letter_12 fl_X3_53 (fun r3 => ?_)
    refine kw_aload_n (pc := 15) B dX3_letter_15 rfl 0 rfl ?_
    refine kw_gI (pc := 16) B dX3_letter_16 fl_X3_250 (fun i4 => ?_)
    refine kw_iald (pc := 19) B dX3_letter_19 (fun i5 => ?_)
    refine kw_goto (pc := 20) (tgt := 24) B dX3_letter_20 rfl ?_
    exact kw_iret B dX3_letter_24 rfl
theorem ct_X3_letter (a0 : Option Nat) (l : Launch) : kw_Met l yX3_letter (ws_ yX3_letter cX3_letter 1 (some .int)) 1 0 [kA a0] kw_eI (pm_X3_letter a0) := kw_met (plainFor_of_name rfl) (Nat.le_of_ble_eq_true rfl) (fun E B => wm_X3_letter B a0) l

/-! RosaryCarversModel readsWord ()I -/
theorem fp_X3_250 : kw_fp RX3 .int false [(3, 14)] := (kw_fp_c (C := RX3) (T := TX3) (N := 18) (ty0 := tyX3) rfl tyX3_ok nmX3 rfl (fun h => by cases h) (by decide) rfl kw_fp_nil)
theorem wb_X3_readsWord_33 {E : kw_E} (B : kw_ok E cX3_readsWord RX3 "readsWord" 3 (some .int) 5 85 [])  : ∀ (n : Nat) (x0 : Option Nat) (x1 : Int32) (x2 : Int32), kw_W E kw_eI 33 [(0, kA x0), (1, kI x1), (2, kI x2)] [] (pb_X3_readsWord_33  n x0 x1 x2) := by
  intro n
  induction n with
  | zero =>
    intro x0 x1 x2
    exact kw_fail_ok
  | succ n ih =>
    intro x0 x1 x2
    show kw_W E kw_eI 33 [(0, kA x0), (1, kI x1), (2, kI x2)] [] (
km_bind (km_gR [(3, 10)] x0) fun r1 =>
km_bind (km_ldR r1 x1) fun r2 =>
km_bind (km_is 35 r2) fun _ => km_bind (pm_J16_length r2) fun i3 =>
if i3 ≤ x2 then
(km_pure x1)
else
(km_bind (km_is 3 x0) fun _ => km_bind (pm_X3_letter x0) fun i4 =>
km_bind (km_gR [(3, 10)] x0) fun r5 =>
km_bind (km_ldR r5 x1) fun r6 =>
km_bind (km_is 35 r6) fun _ => km_bind (pm_J16_charAt r6 x2) fun i7 =>
if i4 = i7 then
(km_bind (km_gI [(3, 14)] x0) fun i8 =>
km_bind (km_pI .int [(3, 14)] x0 (i8 + (1 : Int32))) fun _ =>
pb_X3_readsWord_33 n x0 x1 (x2 + (1 : Int32)))
else
(km_pure (-1 : Int32))))
    refine kw_iload_n (pc := 33) B dX3_readsWord_33 rfl 2 rfl ?_
    refine kw_aload_n (pc := 34) B dX3_readsWord_34 rfl 0 rfl ?_
    refine kw_gR (pc := 35) B dX3_readsWord_35 fl_X3_49 (fun r1 => ?_)
    refine kw_iload_n (pc := 38) B dX3_readsWord_38 rfl 1 rfl ?_
    refine kw_aald (pc := 39) B dX3_readsWord_39 (fun r2 => ?_)
    refine kw_callV (pc := 40) B dX3_readsWord_40 (ci := 35) rfl (ct_J16_length r2) q2746 q2143 q2144 q103 q2145 ⟨by decide, by decide, rfl⟩ (As := []) rfl (st := [kI x2]) rfl (Nat.le_of_ble_eq_true rfl) (by decide) (by decide) kw_qI (fun i3 => ?_)
    refine kw_icmp_ge (pc := 43) (tgt := 81) B dX3_readsWord_43 rfl ?_ ?_
    · refine kw_iload_n (pc := 81) B dX3_readsWord_81 rfl 1 rfl ?_
      exact kw_iret B dX3_readsWord_82 rfl
    · refine kw_aload_n (pc := 46) B dX3_readsWord_46 rfl 0 rfl ?_
      refine kw_callV (pc := 47) B dX3_readsWord_47 (ci := 3) rfl (ct_X3_letter x0) q2742 q2744 qs67 q81 q2745 ⟨by decide, by decide, rfl⟩ (As := []) rfl (st := []) rfl (Nat.le_of_ble_eq_true rfl) (by decide) (by decide) kw_qI (fun i4 => ?_)
      refine kw_aload_n (pc := 50) B dX3_readsWord_50 rfl 0 rfl ?_
      refine kw_gR (pc := 51) B dX3_readsWord_51 fl_X3_49 (fun r5 => ?_)
      refine kw_iload_n (pc := 54) B dX3_readsWord_54 rfl 1 rfl ?_
      refine kw_aald (pc := 55) B dX3_readsWord_55 (fun r6 => ?_)
      refine kw_iload_n (pc := 56) B dX3_readsWord_56 rfl 2 rfl ?_
      refine kw_callV (pc := 57) B dX3_readsWord_57 (ci := 35) rfl (ct_J16_charAt r6 x2) q2717 q2155 q2156 q103 q2157 ⟨by decide, by decide, rfl⟩ (As := [kI x2]) rfl (st := [kI i4]) rfl (Nat.le_of_ble_eq_true rfl) (by decide) (by decide) kw_qI (fun i7 => ?_)
      refine kw_icmp_eq (pc := 60) (tgt := 65) B dX3_readsWord_60 rfl ?_ ?_
      · refine kw_aload_n (pc := 65) B dX3_readsWord_65 rfl 0 rfl ?_
        refine kw_dup (pc := 66) B dX3_readsWord_66 rfl ?_
        refine kw_gI (pc := 67) B dX3_readsWord_67 fl_X3_250 (fun i8 => ?_)
        refine kw_iconst (pc := 70) B dX3_readsWord_70 (v := (1 : Int32)) rfl ?_
        refine kw_iadd (pc := 71) B dX3_readsWord_71 ?_
        refine kw_pI (pc := 72) B dX3_readsWord_72 fl_X3_250 fp_X3_250 (fun h => by cases h) ?_
        refine kw_iinc (pc := 75) B dX3_readsWord_75 2 rfl (w := x2 + (1 : Int32)) rfl (by decide) (L2 := [(2, kI (x2 + (1 : Int32))), (0, kA x0), (1, kI x1)]) rfl ?_
        refine kw_goto (pc := 78) (tgt := 33) B dX3_readsWord_78 rfl ?_
        exact kw_pick [1, 2, 0] rfl (ih x0 x1 (x2 + (1 : Int32)))
      · refine kw_iconst (pc := 63) B dX3_readsWord_63 (v := (-1 : Int32)) rfl ?_
        exact kw_iret B dX3_readsWord_64 rfl
theorem wb_X3_readsWord_2 {E : kw_E} (B : kw_ok E cX3_readsWord RX3 "readsWord" 3 (some .int) 5 85 [])  : ∀ (n : Nat) (x0 : Option Nat) (x1 : Int32), kw_W E kw_eI 2 [(0, kA x0), (1, kI x1)] [] (pb_X3_readsWord_2  n x0 x1) := by
  intro n
  induction n with
  | zero =>
    intro x0 x1
    exact kw_fail_ok
  | succ n ih =>
    intro x0 x1
    show kw_W E kw_eI 2 [(0, kA x0), (1, kI x1)] [] (
km_bind (km_gR [(3, 10)] x0) fun r1 =>
km_bind (km_len r1) fun i2 =>
if i2 ≤ x1 then
(km_pure (-1 : Int32))
else
(km_bind (km_is 3 x0) fun _ => km_bind (pm_X3_letter x0) fun i3 =>
km_bind (km_gR [(3, 10)] x0) fun r4 =>
km_bind (km_ldR r4 x1) fun r5 =>
km_bind (km_is 35 r5) fun _ => km_bind (pm_J16_charAt r5 (0 : Int32)) fun i6 =>
if i3 = i6 then
(pb_X3_readsWord_33 km_fuel x0 x1 (0 : Int32))
else
(pb_X3_readsWord_2 n x0 (x1 + (1 : Int32)))))
    refine kw_iload_n (pc := 2) B dX3_readsWord_2 rfl 1 rfl ?_
    refine kw_aload_n (pc := 3) B dX3_readsWord_3 rfl 0 rfl ?_
    refine kw_gR (pc := 4) B dX3_readsWord_4 fl_X3_49 (fun r1 => ?_)
    refine kw_alen (pc := 7) B dX3_readsWord_7 (fun i2 => ?_)
    refine kw_icmp_ge (pc := 8) (tgt := 89) B dX3_readsWord_8 rfl ?_ ?_
    · refine kw_iconst (pc := 89) B dX3_readsWord_89 (v := (-1 : Int32)) rfl ?_
      exact kw_iret B dX3_readsWord_90 rfl
    · refine kw_aload_n (pc := 11) B dX3_readsWord_11 rfl 0 rfl ?_
      refine kw_callV (pc := 12) B dX3_readsWord_12 (ci := 3) rfl (ct_X3_letter x0) q2742 q2744 qs67 q81 q2745 ⟨by decide, by decide, rfl⟩ (As := []) rfl (st := []) rfl (Nat.le_of_ble_eq_true rfl) (by decide) (by decide) kw_qI (fun i3 => ?_)
      refine kw_aload_n (pc := 15) B dX3_readsWord_15 rfl 0 rfl ?_
      refine kw_gR (pc := 16) B dX3_readsWord_16 fl_X3_49 (fun r4 => ?_)
      refine kw_iload_n (pc := 19) B dX3_readsWord_19 rfl 1 rfl ?_
      refine kw_aald (pc := 20) B dX3_readsWord_20 (fun r5 => ?_)
      refine kw_iconst (pc := 21) B dX3_readsWord_21 (v := (0 : Int32)) rfl ?_
      refine kw_callV (pc := 22) B dX3_readsWord_22 (ci := 35) rfl (ct_J16_charAt r5 (0 : Int32)) q2717 q2155 q2156 q103 q2157 ⟨by decide, by decide, rfl⟩ (As := [kI (0 : Int32)]) rfl (st := [kI i3]) rfl (Nat.le_of_ble_eq_true rfl) (by decide) (by decide) kw_qI (fun i6 => ?_)
      refine kw_icmp_eq (pc := 25) (tgt := 31) B dX3_readsWord_25 rfl ?_ ?_
      · refine kw_iconst (pc := 31) B dX3_readsWord_31 (v := (0 : Int32)) rfl ?_
        refine kw_istore_n (pc := 32) B dX3_readsWord_32 rfl (by decide) (L2 := [(2, kI (0 : Int32)), (0, kA x0), (1, kI x1)]) rfl ?_
        exact kw_pick [1, 2, 0] rfl (wb_X3_readsWord_33 B km_fuel x0 x1 (0 : Int32))
      · refine kw_goto (pc := 28) (tgt := 83) B dX3_readsWord_28 rfl ?_
        refine kw_iinc (pc := 83) B dX3_readsWord_83 1 rfl (w := x1 + (1 : Int32)) rfl (by decide) (L2 := [(1, kI (x1 + (1 : Int32))), (0, kA x0)]) rfl ?_
        refine kw_goto (pc := 86) (tgt := 2) B dX3_readsWord_86 rfl ?_
        exact kw_pick [1, 0] rfl (ih x0 (x1 + (1 : Int32)))
theorem wm_X3_readsWord {E : kw_E} (B : kw_ok E cX3_readsWord RX3 "readsWord" 3 (some .int) 5 85 []) (a0 : Option Nat) : kw_W E kw_eI 0 [(0, kA a0)] [] (pm_X3_readsWord a0) := by
  unfold pm_X3_readsWord
  refine kw_iconst (pc := 0) B dX3_readsWord_0 (v := (0 : Int32)) rfl ?_
  refine kw_istore_n (pc := 1) B dX3_readsWord_1 rfl (by decide) (L2 := [(1, kI (0 : Int32)), (0, kA a0)]) rfl ?_
  exact kw_pick [1, 0] rfl (wb_X3_readsWord_2 B km_fuel a0 (0 : Int32))
theorem ct_X3_readsWord (a0 : Option Nat) (l : Launch) : kw_Met l yX3_readsWord (ws_ yX3_readsWord cX3_readsWord 3 (some .int)) 5 85 [kA a0] kw_eI (pm_X3_readsWord a0) := kw_met (plainFor_of_name rfl) (Nat.le_of_ble_eq_true rfl) (fun E B => wm_X3_readsWord B a0) l

/-! RosaryCarversModel readsNumber ()Z -/
theorem fl_X3_253 : kw_fl RX3 253 "RosaryCarversModel" [(3, 16)] := (kw_fl_c (C := RX3) (T := TX3) (N := 18) rfl (by decide) in_X3 q2372 (Or.inl rfl) kw_fl_nil)
theorem fp_X3_253 : kw_fp RX3 .int false [(3, 16)] := (kw_fp_c (C := RX3) (T := TX3) (N := 18) (ty0 := tyX3) rfl tyX3_ok nmX3 rfl (fun h => by cases h) (by decide) rfl kw_fp_nil)
theorem wb_X3_readsNumber_61 {E : kw_E} (B : kw_ok E cX3_readsNumber RX3 "readsNumber" 2 (some .boolean) 2 22 [])  (x1 : Int32) : kw_W E kw_eI 61 [(1, kI x1)] [] (pb_X3_readsNumber_61  x1) := by
  unfold pb_X3_readsNumber_61
  refine kw_iload_n (pc := 61) B dX3_readsNumber_61 rfl 0 rfl ?_
  refine kw_if_le (pc := 62) (tgt := 69) B dX3_readsNumber_62 rfl ?_ ?_
  · refine kw_iconst (pc := 69) B dX3_readsNumber_69 (v := (0 : Int32)) rfl ?_
    exact kw_zret B dX3_readsNumber_70 (g := fun v => v) (fun _ => rfl)
  · refine kw_iconst (pc := 65) B dX3_readsNumber_65 (v := (1 : Int32)) rfl ?_
    refine kw_goto (pc := 66) (tgt := 70) B dX3_readsNumber_66 rfl ?_
    exact kw_zret B dX3_readsNumber_70 (g := fun v => v) (fun _ => rfl)
theorem wb_X3_readsNumber_7 {E : kw_E} (B : kw_ok E cX3_readsNumber RX3 "readsNumber" 2 (some .boolean) 2 22 [])  : ∀ (n : Nat) (x0 : Option Nat) (x1 : Int32), kw_W E kw_eI 7 [(0, kA x0), (1, kI x1)] [] (pb_X3_readsNumber_7  n x0 x1) := by
  intro n
  induction n with
  | zero =>
    intro x0 x1
    exact kw_fail_ok
  | succ n ih =>
    intro x0 x1
    show kw_W E kw_eI 7 [(0, kA x0), (1, kI x1)] [] (
if (2 : Int32) ≤ x1 then
(pb_X3_readsNumber_61 x1)
else
(km_bind (km_is 3 x0) fun _ => km_bind (pm_X3_letter x0) fun i1 =>
km_bind (pm_X3_isIn i1 (48 : Int32) (57 : Int32)) fun i2 =>
if i2 = 0 then
(pb_X3_readsNumber_61 x1)
else
(km_bind (km_gI [(3, 16)] x0) fun i3 =>
km_bind (km_is 3 x0) fun _ => km_bind (pm_X3_letter x0) fun i4 =>
km_bind (km_pI .int [(3, 16)] x0 ((((10 : Int32) * i3) + i4) - (48 : Int32))) fun _ =>
km_bind (km_gI [(3, 14)] x0) fun i6 =>
km_bind (km_pI .int [(3, 14)] x0 (i6 + (1 : Int32))) fun _ =>
pb_X3_readsNumber_7 n x0 (x1 + (1 : Int32)))))
    refine kw_iload_n (pc := 7) B dX3_readsNumber_7 rfl 1 rfl ?_
    refine kw_iconst (pc := 8) B dX3_readsNumber_8 (v := (2 : Int32)) rfl ?_
    refine kw_icmp_ge (pc := 9) (tgt := 61) B dX3_readsNumber_9 rfl ?_ ?_
    · exact kw_pick [1] rfl (wb_X3_readsNumber_61 B x1)
    · refine kw_aload_n (pc := 12) B dX3_readsNumber_12 rfl 0 rfl ?_
      refine kw_callV (pc := 13) B dX3_readsNumber_13 (ci := 3) rfl (ct_X3_letter x0) q2742 q2744 qs67 q81 q2745 ⟨by decide, by decide, rfl⟩ (As := []) rfl (st := []) rfl (Nat.le_of_ble_eq_true rfl) (by decide) (by decide) kw_qI (fun i1 => ?_)
      refine kw_bipush (pc := 16) B dX3_readsNumber_16 (v := (48 : Int32)) rfl ?_
      refine kw_bipush (pc := 18) B dX3_readsNumber_18 (v := (57 : Int32)) rfl ?_
      refine kw_callS (pc := 20) B dX3_readsNumber_20 (ct_X3_isIn i1 (48 : Int32) (57 : Int32)) q2415 q2416 q81 q2417 ⟨by decide, by decide, rfl⟩ (As := [kI i1, kI (48 : Int32), kI (57 : Int32)]) rfl (st := []) rfl (Nat.le_of_ble_eq_true rfl) (by decide) (by decide) kw_qI (fun i2 => ?_)
      refine kw_if_eq (pc := 23) (tgt := 61) B dX3_readsNumber_23 rfl ?_ ?_
      · exact kw_pick [1] rfl (wb_X3_readsNumber_61 B x1)
      · refine kw_aload_n (pc := 26) B dX3_readsNumber_26 rfl 0 rfl ?_
        refine kw_bipush (pc := 27) B dX3_readsNumber_27 (v := (10 : Int32)) rfl ?_
        refine kw_aload_n (pc := 29) B dX3_readsNumber_29 rfl 0 rfl ?_
        refine kw_gI (pc := 30) B dX3_readsNumber_30 fl_X3_253 (fun i3 => ?_)
        refine kw_imul (pc := 33) B dX3_readsNumber_33 ?_
        refine kw_aload_n (pc := 34) B dX3_readsNumber_34 rfl 0 rfl ?_
        refine kw_callV (pc := 35) B dX3_readsNumber_35 (ci := 3) rfl (ct_X3_letter x0) q2742 q2744 qs67 q81 q2745 ⟨by decide, by decide, rfl⟩ (As := []) rfl (st := [kI ((10 : Int32) * i3), kA x0]) rfl (Nat.le_of_ble_eq_true rfl) (by decide) (by decide) kw_qI (fun i4 => ?_)
        refine kw_iadd (pc := 38) B dX3_readsNumber_38 ?_
        refine kw_bipush (pc := 39) B dX3_readsNumber_39 (v := (48 : Int32)) rfl ?_
        refine kw_isub (pc := 41) B dX3_readsNumber_41 ?_
        refine kw_pI (pc := 42) B dX3_readsNumber_42 fl_X3_253 fp_X3_253 (fun h => by cases h) ?_
        refine kw_aload_n (pc := 45) B dX3_readsNumber_45 rfl 0 rfl ?_
        refine kw_dup (pc := 46) B dX3_readsNumber_46 rfl ?_
        refine kw_gI (pc := 47) B dX3_readsNumber_47 fl_X3_250 (fun i6 => ?_)
        refine kw_iconst (pc := 50) B dX3_readsNumber_50 (v := (1 : Int32)) rfl ?_
        refine kw_iadd (pc := 51) B dX3_readsNumber_51 ?_
        refine kw_pI (pc := 52) B dX3_readsNumber_52 fl_X3_250 fp_X3_250 (fun h => by cases h) ?_
        refine kw_iinc (pc := 55) B dX3_readsNumber_55 1 rfl (w := x1 + (1 : Int32)) rfl (by decide) (L2 := [(1, kI (x1 + (1 : Int32))), (0, kA x0)]) rfl ?_
        refine kw_goto (pc := 58) (tgt := 7) B dX3_readsNumber_58 rfl ?_
        exact kw_pick [1, 0] rfl (ih x0 (x1 + (1 : Int32)))
theorem wm_X3_readsNumber {E : kw_E} (B : kw_ok E cX3_readsNumber RX3 "readsNumber" 2 (some .boolean) 2 22 []) (a0 : Option Nat) : kw_W E kw_eI 0 [(0, kA a0)] [] (pm_X3_readsNumber a0) := by
  unfold pm_X3_readsNumber
  refine kw_aload_n (pc := 0) B dX3_readsNumber_0 rfl 0 rfl ?_
  refine kw_iconst (pc := 1) B dX3_readsNumber_1 (v := (0 : Int32)) rfl ?_
  refine kw_pI (pc := 2) B dX3_readsNumber_2 fl_X3_253 fp_X3_253 (fun h => by cases h) ?_
  refine kw_iconst (pc := 5) B dX3_readsNumber_5 (v := (0 : Int32)) rfl ?_
  refine kw_istore_n (pc := 6) B dX3_readsNumber_6 rfl (by decide) (L2 := [(1, kI (0 : Int32)), (0, kA a0)]) rfl ?_
  exact kw_pick [1, 0] rfl (wb_X3_readsNumber_7 B km_fuel a0 (0 : Int32))
theorem ct_X3_readsNumber (a0 : Option Nat) (l : Launch) : kw_Met l yX3_readsNumber (ws_ yX3_readsNumber cX3_readsNumber 2 (some .boolean)) 2 22 [kA a0] kw_eI (pm_X3_readsNumber a0) := kw_met (plainFor_of_name rfl) (Nat.le_of_ble_eq_true rfl) (fun E B => wm_X3_readsNumber B a0) l

/-! RosaryCarversModel readsCommand ()Z -/
theorem fl_X3_269 : kw_fl RX3 269 "RosaryCarversModel" [(3, 15)] := (kw_fl_c (C := RX3) (T := TX3) (N := 18) rfl (by decide) in_X3 q2371 (Or.inl rfl) kw_fl_nil)
theorem fp_X3_269 : kw_fp RX3 .int false [(3, 15)] := (kw_fp_c (C := RX3) (T := TX3) (N := 18) (ty0 := tyX3) rfl tyX3_ok nmX3 rfl (fun h => by cases h) (by decide) rfl kw_fp_nil)
theorem wb_X3_readsCommand_64 {E : kw_E} (B : kw_ok E cX3_readsCommand RX3 "readsCommand" 3 (some .boolean) 6 107 [])  (x0 : Option Nat) (x1 : Int32) (x2 : Int32) : kw_W E kw_eI 64 [(0, kA x0), (1, kI x1), (2, kI x2)] [] (pb_X3_readsCommand_64  x0 x1 x2) := by
  unfold pb_X3_readsCommand_64
  refine kw_aload_n (pc := 64) B dX3_readsCommand_64 rfl 0 rfl ?_
  refine kw_gR (pc := 65) B dX3_readsCommand_65 fl_X3_56 (fun r1 => ?_)
  refine kw_iconst (pc := 68) B dX3_readsCommand_68 (v := (3 : Int32)) rfl ?_
  refine kw_aload_n (pc := 69) B dX3_readsCommand_69 rfl 0 rfl ?_
  refine kw_gI (pc := 70) B dX3_readsCommand_70 fl_X3_269 (fun i2 => ?_)
  refine kw_imul (pc := 73) B dX3_readsCommand_73 ?_
  refine kw_iload_n (pc := 74) B dX3_readsCommand_74 rfl 1 rfl ?_
  refine kw_iast (pc := 75) B dX3_readsCommand_75 ?_
  refine kw_aload_n (pc := 76) B dX3_readsCommand_76 rfl 0 rfl ?_
  refine kw_gR (pc := 77) B dX3_readsCommand_77 fl_X3_56 (fun r4 => ?_)
  refine kw_iconst (pc := 80) B dX3_readsCommand_80 (v := (3 : Int32)) rfl ?_
  refine kw_aload_n (pc := 81) B dX3_readsCommand_81 rfl 0 rfl ?_
  refine kw_gI (pc := 82) B dX3_readsCommand_82 fl_X3_269 (fun i5 => ?_)
  refine kw_imul (pc := 85) B dX3_readsCommand_85 ?_
  refine kw_iconst (pc := 86) B dX3_readsCommand_86 (v := (1 : Int32)) rfl ?_
  refine kw_iadd (pc := 87) B dX3_readsCommand_87 ?_
  refine kw_iload_n (pc := 88) B dX3_readsCommand_88 rfl 2 rfl ?_
  refine kw_iast (pc := 89) B dX3_readsCommand_89 ?_
  refine kw_aload_n (pc := 90) B dX3_readsCommand_90 rfl 0 rfl ?_
  refine kw_gR (pc := 91) B dX3_readsCommand_91 fl_X3_56 (fun r7 => ?_)
  refine kw_iconst (pc := 94) B dX3_readsCommand_94 (v := (3 : Int32)) rfl ?_
  refine kw_aload_n (pc := 95) B dX3_readsCommand_95 rfl 0 rfl ?_
  refine kw_gI (pc := 96) B dX3_readsCommand_96 fl_X3_269 (fun i8 => ?_)
  refine kw_imul (pc := 99) B dX3_readsCommand_99 ?_
  refine kw_iconst (pc := 100) B dX3_readsCommand_100 (v := (2 : Int32)) rfl ?_
  refine kw_iadd (pc := 101) B dX3_readsCommand_101 ?_
  refine kw_aload_n (pc := 102) B dX3_readsCommand_102 rfl 0 rfl ?_
  refine kw_gI (pc := 103) B dX3_readsCommand_103 fl_X3_253 (fun i9 => ?_)
  refine kw_iast (pc := 106) B dX3_readsCommand_106 ?_
  refine kw_aload_n (pc := 107) B dX3_readsCommand_107 rfl 0 rfl ?_
  refine kw_dup (pc := 108) B dX3_readsCommand_108 rfl ?_
  refine kw_gI (pc := 109) B dX3_readsCommand_109 fl_X3_269 (fun i11 => ?_)
  refine kw_iconst (pc := 112) B dX3_readsCommand_112 (v := (1 : Int32)) rfl ?_
  refine kw_iadd (pc := 113) B dX3_readsCommand_113 ?_
  refine kw_pI (pc := 114) B dX3_readsCommand_114 fl_X3_269 fp_X3_269 (fun h => by cases h) ?_
  refine kw_iconst (pc := 117) B dX3_readsCommand_117 (v := (1 : Int32)) rfl ?_
  exact kw_zret B dX3_readsCommand_118 (g := fun v => v) (fun _ => rfl)
theorem wb_X3_readsCommand_24 {E : kw_E} (B : kw_ok E cX3_readsCommand RX3 "readsCommand" 3 (some .boolean) 6 107 [])  (x0 : Option Nat) (x1 : Int32) : kw_W E kw_eI 24 [(0, kA x0), (1, kI x1)] [] (pb_X3_readsCommand_24  x0 x1) := by
  unfold pb_X3_readsCommand_24
  refine kw_aload_n (pc := 24) B dX3_readsCommand_24 rfl 0 rfl ?_
  refine kw_gI (pc := 25) B dX3_readsCommand_25 fl_X3_253 (fun i1 => ?_)
  refine kw_istore_n (pc := 28) B dX3_readsCommand_28 rfl (by decide) (L2 := [(2, kI i1), (0, kA x0), (1, kI x1)]) rfl ?_
  refine kw_iload_n (pc := 29) B dX3_readsCommand_29 rfl 2 rfl ?_
  refine kw_iconst (pc := 30) B dX3_readsCommand_30 (v := (3 : Int32)) rfl ?_
  refine kw_icmp_gt (pc := 31) (tgt := 64) B dX3_readsCommand_31 rfl ?_ ?_
  · exact kw_pick [1, 2, 0] rfl (wb_X3_readsCommand_64 B x0 x1 i1)
  · refine kw_aload_n (pc := 34) B dX3_readsCommand_34 rfl 1 rfl ?_
    refine kw_callV (pc := 35) B dX3_readsCommand_35 (ci := 3) rfl (ct_X3_letter x0) q2742 q2744 qs67 q81 q2745 ⟨by decide, by decide, rfl⟩ (As := []) rfl (st := []) rfl (Nat.le_of_ble_eq_true rfl) (by decide) (by decide) kw_qI (fun i2 => ?_)
    refine kw_bipush (pc := 38) B dX3_readsCommand_38 (v := (32 : Int32)) rfl ?_
    refine kw_icmp_eq (pc := 40) (tgt := 45) B dX3_readsCommand_40 rfl ?_ ?_
    · refine kw_aload_n (pc := 45) B dX3_readsCommand_45 rfl 1 rfl ?_
      refine kw_dup (pc := 46) B dX3_readsCommand_46 rfl ?_
      refine kw_gI (pc := 47) B dX3_readsCommand_47 fl_X3_250 (fun i3 => ?_)
      refine kw_iconst (pc := 50) B dX3_readsCommand_50 (v := (1 : Int32)) rfl ?_
      refine kw_iadd (pc := 51) B dX3_readsCommand_51 ?_
      refine kw_pI (pc := 52) B dX3_readsCommand_52 fl_X3_250 fp_X3_250 (fun h => by cases h) ?_
      refine kw_aload_n (pc := 55) B dX3_readsCommand_55 rfl 1 rfl ?_
      refine kw_callV (pc := 56) B dX3_readsCommand_56 (ci := 3) rfl (ct_X3_readsNumber x0) q2747 q2749 qs68 q81 q2750 ⟨by decide, by decide, rfl⟩ (As := []) rfl (st := []) rfl (Nat.le_of_ble_eq_true rfl) (by decide) (by decide) kw_qI (fun i5 => ?_)
      refine kw_if_ne (pc := 59) (tgt := 64) B dX3_readsCommand_59 rfl ?_ ?_
      · exact kw_pick [1, 2, 0] rfl (wb_X3_readsCommand_64 B x0 x1 i1)
      · refine kw_iconst (pc := 62) B dX3_readsCommand_62 (v := (0 : Int32)) rfl ?_
        exact kw_zret B dX3_readsCommand_63 (g := fun v => v) (fun _ => rfl)
    · refine kw_iconst (pc := 43) B dX3_readsCommand_43 (v := (0 : Int32)) rfl ?_
      exact kw_zret B dX3_readsCommand_44 (g := fun v => v) (fun _ => rfl)
theorem wm_X3_readsCommand {E : kw_E} (B : kw_ok E cX3_readsCommand RX3 "readsCommand" 3 (some .boolean) 6 107 []) (a0 : Option Nat) : kw_W E kw_eI 0 [(0, kA a0)] [] (pm_X3_readsCommand a0) := by
  unfold pm_X3_readsCommand
  refine kw_aload_n (pc := 0) B dX3_readsCommand_0 rfl 0 rfl ?_
  refine kw_callV (pc := 1) B dX3_readsCommand_1 (ci := 3) rfl (ct_X3_readsWord a0) q2738 q2740 qs66 q81 q2741 ⟨by decide, by decide, rfl⟩ (As := []) rfl (st := []) rfl (Nat.le_of_ble_eq_true rfl) (by decide) (by decide) kw_qI (fun i1 => ?_)
  refine kw_istore_n (pc := 4) B dX3_readsCommand_4 rfl (by decide) (L2 := [(1, kI i1), (0, kA a0)]) rfl ?_
  refine kw_iload_n (pc := 5) B dX3_readsCommand_5 rfl 0 rfl ?_
  refine kw_if_lt (pc := 6) (tgt := 22) B dX3_readsCommand_6 rfl ?_ ?_
  · refine kw_iconst (pc := 22) B dX3_readsCommand_22 (v := (0 : Int32)) rfl ?_
    exact kw_zret B dX3_readsCommand_23 (g := fun v => v) (fun _ => rfl)
  · refine kw_iload_n (pc := 9) B dX3_readsCommand_9 rfl 0 rfl ?_
    refine kw_bipush (pc := 10) B dX3_readsCommand_10 (v := (6 : Int32)) rfl ?_
    refine kw_icmp_eq (pc := 12) (tgt := 24) B dX3_readsCommand_12 rfl ?_ ?_
    · exact kw_pick [1, 0] rfl (wb_X3_readsCommand_24 B a0 i1)
    · refine kw_aload_n (pc := 15) B dX3_readsCommand_15 rfl 1 rfl ?_
      refine kw_callV (pc := 16) B dX3_readsCommand_16 (ci := 3) rfl (ct_X3_readsNumber a0) q2747 q2749 qs68 q81 q2750 ⟨by decide, by decide, rfl⟩ (As := []) rfl (st := []) rfl (Nat.le_of_ble_eq_true rfl) (by decide) (by decide) kw_qI (fun i2 => ?_)
      refine kw_if_ne (pc := 19) (tgt := 24) B dX3_readsCommand_19 rfl ?_ ?_
      · exact kw_pick [1, 0] rfl (wb_X3_readsCommand_24 B a0 i1)
      · refine kw_iconst (pc := 22) B dX3_readsCommand_22 (v := (0 : Int32)) rfl ?_
        exact kw_zret B dX3_readsCommand_23 (g := fun v => v) (fun _ => rfl)
theorem ct_X3_readsCommand (a0 : Option Nat) (l : Launch) : kw_Met l yX3_readsCommand (ws_ yX3_readsCommand cX3_readsCommand 3 (some .boolean)) 6 107 [kA a0] kw_eI (pm_X3_readsCommand a0) := kw_met (plainFor_of_name rfl) (Nat.le_of_ble_eq_true rfl) (fun E B => wm_X3_readsCommand B a0) l

/-! RosaryCarversModel isText ()Z -/

theorem wb_X3_isText_46 {E : kw_E} (B : kw_ok E cX3_isText RX3 "isText" 2 (some .boolean) 7 129 [])  (x0 : Option Nat) (x1 : Int32) : kw_W E kw_eI 46 [(0, kA x0), (1, kI x1)] [] (pb_X3_isText_46  x0 x1) := by
  unfold pb_X3_isText_46
  refine kw_iload_n (pc := 46) B dX3_isText_46 rfl 1 rfl ?_
  refine kw_if_eq (pc := 47) (tgt := 65) B dX3_isText_47 rfl ?_ ?_
  · refine kw_iconst (pc := 65) B dX3_isText_65 (v := (0 : Int32)) rfl ?_
    exact kw_zret B dX3_isText_66 (g := fun v => v) (fun _ => rfl)
  · refine kw_aload_n (pc := 50) B dX3_isText_50 rfl 0 rfl ?_
    refine kw_gI (pc := 51) B dX3_isText_51 fl_X3_250 (fun i1 => ?_)
    refine kw_aload_n (pc := 54) B dX3_isText_54 rfl 0 rfl ?_
    refine kw_gI (pc := 55) B dX3_isText_55 fl_X3_234 (fun i2 => ?_)
    refine kw_icmp_ne (pc := 58) (tgt := 65) B dX3_isText_58 rfl ?_ ?_
    · refine kw_iconst (pc := 65) B dX3_isText_65 (v := (0 : Int32)) rfl ?_
      exact kw_zret B dX3_isText_66 (g := fun v => v) (fun _ => rfl)
    · refine kw_iconst (pc := 61) B dX3_isText_61 (v := (1 : Int32)) rfl ?_
      refine kw_goto (pc := 62) (tgt := 66) B dX3_isText_62 rfl ?_
      exact kw_zret B dX3_isText_66 (g := fun v => v) (fun _ => rfl)
theorem wb_X3_isText_15 {E : kw_E} (B : kw_ok E cX3_isText RX3 "isText" 2 (some .boolean) 7 129 [])  : ∀ (n : Nat) (x0 : Option Nat) (x1 : Int32), kw_W E kw_eI 15 [(0, kA x0), (1, kI x1)] [] (pb_X3_isText_15  n x0 x1) := by
  intro n
  induction n with
  | zero =>
    intro x0 x1
    exact kw_fail_ok
  | succ n ih =>
    intro x0 x1
    show kw_W E kw_eI 15 [(0, kA x0), (1, kI x1)] [] (
if x1 = 0 then
(pb_X3_isText_46 x0 x1)
else
(km_bind (km_is 3 x0) fun _ => km_bind (pm_X3_letter x0) fun i1 =>
if ¬ i1 = (59 : Int32) then
(pb_X3_isText_46 x0 x1)
else
(km_bind (km_gI [(3, 14)] x0) fun i2 =>
km_bind (km_pI .int [(3, 14)] x0 (i2 + (1 : Int32))) fun _ =>
km_bind (km_is 3 x0) fun _ => km_bind (pm_X3_readsCommand x0) fun i4 =>
pb_X3_isText_15 n x0 i4)))
    refine kw_iload_n (pc := 15) B dX3_isText_15 rfl 1 rfl ?_
    refine kw_if_eq (pc := 16) (tgt := 46) B dX3_isText_16 rfl ?_ ?_
    · exact kw_pick [0, 1] rfl (wb_X3_isText_46 B x0 x1)
    · refine kw_aload_n (pc := 19) B dX3_isText_19 rfl 0 rfl ?_
      refine kw_callV (pc := 20) B dX3_isText_20 (ci := 3) rfl (ct_X3_letter x0) q2742 q2744 qs67 q81 q2745 ⟨by decide, by decide, rfl⟩ (As := []) rfl (st := []) rfl (Nat.le_of_ble_eq_true rfl) (by decide) (by decide) kw_qI (fun i1 => ?_)
      refine kw_bipush (pc := 23) B dX3_isText_23 (v := (59 : Int32)) rfl ?_
      refine kw_icmp_ne (pc := 25) (tgt := 46) B dX3_isText_25 rfl ?_ ?_
      · exact kw_pick [0, 1] rfl (wb_X3_isText_46 B x0 x1)
      · refine kw_aload_n (pc := 28) B dX3_isText_28 rfl 0 rfl ?_
        refine kw_dup (pc := 29) B dX3_isText_29 rfl ?_
        refine kw_gI (pc := 30) B dX3_isText_30 fl_X3_250 (fun i2 => ?_)
        refine kw_iconst (pc := 33) B dX3_isText_33 (v := (1 : Int32)) rfl ?_
        refine kw_iadd (pc := 34) B dX3_isText_34 ?_
        refine kw_pI (pc := 35) B dX3_isText_35 fl_X3_250 fp_X3_250 (fun h => by cases h) ?_
        refine kw_aload_n (pc := 38) B dX3_isText_38 rfl 0 rfl ?_
        refine kw_callV (pc := 39) B dX3_isText_39 (ci := 3) rfl (ct_X3_readsCommand x0) q2734 q2736 qs65 q81 q2737 ⟨by decide, by decide, rfl⟩ (As := []) rfl (st := []) rfl (Nat.le_of_ble_eq_true rfl) (by decide) (by decide) kw_qI (fun i4 => ?_)
        refine kw_istore_n (pc := 42) B dX3_isText_42 rfl (by decide) (L2 := [(1, kI i4), (0, kA x0)]) rfl ?_
        refine kw_goto (pc := 43) (tgt := 15) B dX3_isText_43 rfl ?_
        exact kw_pick [1, 0] rfl (ih x0 i4)
theorem wm_X3_isText {E : kw_E} (B : kw_ok E cX3_isText RX3 "isText" 2 (some .boolean) 7 129 []) (a0 : Option Nat) : kw_W E kw_eI 0 [(0, kA a0)] [] (pm_X3_isText a0) := by
  unfold pm_X3_isText
  refine kw_aload_n (pc := 0) B dX3_isText_0 rfl 0 rfl ?_
  refine kw_iconst (pc := 1) B dX3_isText_1 (v := (0 : Int32)) rfl ?_
  refine kw_pI (pc := 2) B dX3_isText_2 fl_X3_250 fp_X3_250 (fun h => by cases h) ?_
  refine kw_aload_n (pc := 5) B dX3_isText_5 rfl 0 rfl ?_
  refine kw_iconst (pc := 6) B dX3_isText_6 (v := (0 : Int32)) rfl ?_
  refine kw_pI (pc := 7) B dX3_isText_7 fl_X3_269 fp_X3_269 (fun h => by cases h) ?_
  refine kw_aload_n (pc := 10) B dX3_isText_10 rfl 0 rfl ?_
  refine kw_callV (pc := 11) B dX3_isText_11 (ci := 3) rfl (ct_X3_readsCommand a0) q2734 q2736 qs65 q81 q2737 ⟨by decide, by decide, rfl⟩ (As := []) rfl (st := []) rfl (Nat.le_of_ble_eq_true rfl) (by decide) (by decide) kw_qI (fun i3 => ?_)
  refine kw_istore_n (pc := 14) B dX3_isText_14 rfl (by decide) (L2 := [(1, kI i3), (0, kA a0)]) rfl ?_
  exact kw_pick [1, 0] rfl (wb_X3_isText_15 B km_fuel a0 i3)
theorem ct_X3_isText (a0 : Option Nat) (l : Launch) : kw_Met l yX3_isText (ws_ yX3_isText cX3_isText 2 (some .boolean)) 7 129 [kA a0] kw_eI (pm_X3_isText a0) := kw_met (plainFor_of_name rfl) (Nat.le_of_ble_eq_true rfl) (fun E B => wm_X3_isText B a0) l

/-! RosaryCarversModel threadsMany (II)I -/

theorem wb_X3_threadsMany_26 {E : kw_E} (B : kw_ok E cX3_threadsMany RX3 "threadsMany" 5 (some .int) 7 136 [])  : ∀ (n : Nat) (x0 : Option Nat) (x1 : Int32) (x2 : Int32) (x3 : Int32) (x4 : Int32), kw_W E kw_eI 26 [(0, kA x0), (1, kI x1), (2, kI x2), (3, kI x3), (4, kI x4)] [] (pb_X3_threadsMany_26  n x0 x1 x2 x3 x4) := by
  intro n
  induction n with
  | zero =>
    intro x0 x1 x2 x3 x4
    exact kw_fail_ok
  | succ n ih =>
    intro x0 x1 x2 x3 x4
    show kw_W E kw_eI 26 [(0, kA x0), (1, kI x1), (2, kI x2), (3, kI x3), (4, kI x4)] [] (
if x2 ≤ x4 then
(km_pure x3)
else
(km_bind (pm_X3_isError x3) fun i1 =>
if ¬ i1 = 0 then
(km_pure x3)
else
(km_bind (km_is 3 x0) fun _ => km_bind (pm_X3_threads x0 x1) fun i2 =>
pb_X3_threadsMany_26 n x0 x1 x2 i2 (x4 + (1 : Int32)))))
    refine kw_iload (pc := 26) B dX3_threadsMany_26 4 rfl ?_
    refine kw_iload_n (pc := 28) B dX3_threadsMany_28 rfl 2 rfl ?_
    refine kw_icmp_ge (pc := 29) (tgt := 51) B dX3_threadsMany_29 rfl ?_ ?_
    · refine kw_iload_n (pc := 51) B dX3_threadsMany_51 rfl 3 rfl ?_
      exact kw_iret B dX3_threadsMany_52 rfl
    · refine kw_iload_n (pc := 32) B dX3_threadsMany_32 rfl 3 rfl ?_
      refine kw_callS (pc := 33) B dX3_threadsMany_33 (ct_X3_isError x3) q2432 q2433 q81 q2434 ⟨by decide, by decide, rfl⟩ (As := [kI x3]) rfl (st := []) rfl (Nat.le_of_ble_eq_true rfl) (by decide) (by decide) kw_qI (fun i1 => ?_)
      refine kw_if_ne (pc := 36) (tgt := 51) B dX3_threadsMany_36 rfl ?_ ?_
      · refine kw_iload_n (pc := 51) B dX3_threadsMany_51 rfl 3 rfl ?_
        exact kw_iret B dX3_threadsMany_52 rfl
      · refine kw_aload_n (pc := 39) B dX3_threadsMany_39 rfl 0 rfl ?_
        refine kw_iload_n (pc := 40) B dX3_threadsMany_40 rfl 1 rfl ?_
        refine kw_callV (pc := 41) B dX3_threadsMany_41 (ci := 3) rfl (ct_X3_threads x0 x1) q2527 q2529 qs38 q81 q2530 ⟨by decide, by decide, rfl⟩ (As := [kI x1]) rfl (st := []) rfl (Nat.le_of_ble_eq_true rfl) (by decide) (by decide) kw_qI (fun i2 => ?_)
        refine kw_istore_n (pc := 44) B dX3_threadsMany_44 rfl (by decide) (L2 := [(3, kI i2), (0, kA x0), (1, kI x1), (2, kI x2), (4, kI x4)]) rfl ?_
        refine kw_iinc (pc := 45) B dX3_threadsMany_45 4 rfl (w := x4 + (1 : Int32)) rfl (by decide) (L2 := [(4, kI (x4 + (1 : Int32))), (3, kI i2), (0, kA x0), (1, kI x1), (2, kI x2)]) rfl ?_
        refine kw_goto (pc := 48) (tgt := 26) B dX3_threadsMany_48 rfl ?_
        exact kw_pick [2, 3, 4, 1, 0] rfl (ih x0 x1 x2 i2 (x4 + (1 : Int32)))
theorem wm_X3_threadsMany {E : kw_E} (B : kw_ok E cX3_threadsMany RX3 "threadsMany" 5 (some .int) 7 136 []) (a0 : Option Nat) (a1 : Int32) (a2 : Int32) : kw_W E kw_eI 0 [(0, kA a0), (1, kI a1), (2, kI a2)] [] (pm_X3_threadsMany a0 a1 a2) := by
  unfold pm_X3_threadsMany
  refine kw_aload_n (pc := 0) B dX3_threadsMany_0 rfl 0 rfl ?_
  refine kw_iload_n (pc := 1) B dX3_threadsMany_1 rfl 1 rfl ?_
  refine kw_callV (pc := 2) B dX3_threadsMany_2 (ci := 3) rfl (ct_X3_isString a0 a1) q2531 q2533 qs39 q81 q2534 ⟨by decide, by decide, rfl⟩ (As := [kI a1]) rfl (st := []) rfl (Nat.le_of_ble_eq_true rfl) (by decide) (by decide) kw_qI (fun i1 => ?_)
  refine kw_if_eq (pc := 5) (tgt := 18) B dX3_threadsMany_5 rfl ?_ ?_
  · refine kw_bipush (pc := 18) B dX3_threadsMany_18 (v := (-2 : Int32)) rfl ?_
    exact kw_iret B dX3_threadsMany_20 rfl
  · refine kw_iload_n (pc := 8) B dX3_threadsMany_8 rfl 2 rfl ?_
    refine kw_iconst (pc := 9) B dX3_threadsMany_9 (v := (1 : Int32)) rfl ?_
    refine kw_bipush (pc := 10) B dX3_threadsMany_10 (v := (28 : Int32)) rfl ?_
    refine kw_callS (pc := 12) B dX3_threadsMany_12 (ct_X3_isIn a2 (1 : Int32) (28 : Int32)) q2415 q2416 q81 q2417 ⟨by decide, by decide, rfl⟩ (As := [kI a2, kI (1 : Int32), kI (28 : Int32)]) rfl (st := []) rfl (Nat.le_of_ble_eq_true rfl) (by decide) (by decide) kw_qI (fun i2 => ?_)
    refine kw_if_ne (pc := 15) (tgt := 21) B dX3_threadsMany_15 rfl ?_ ?_
    · refine kw_iconst (pc := 21) B dX3_threadsMany_21 (v := (0 : Int32)) rfl ?_
      refine kw_istore_n (pc := 22) B dX3_threadsMany_22 rfl (by decide) (L2 := [(3, kI (0 : Int32)), (0, kA a0), (1, kI a1), (2, kI a2)]) rfl ?_
      refine kw_iconst (pc := 23) B dX3_threadsMany_23 (v := (0 : Int32)) rfl ?_
      refine kw_istore (pc := 24) B dX3_threadsMany_24 (by decide) (L2 := [(4, kI (0 : Int32)), (3, kI (0 : Int32)), (0, kA a0), (1, kI a1), (2, kI a2)]) rfl ?_
      exact kw_pick [2, 3, 4, 1, 0] rfl (wb_X3_threadsMany_26 B km_fuel a0 a1 a2 (0 : Int32) (0 : Int32))
    · refine kw_bipush (pc := 18) B dX3_threadsMany_18 (v := (-2 : Int32)) rfl ?_
      exact kw_iret B dX3_threadsMany_20 rfl
theorem ct_X3_threadsMany (a0 : Option Nat) (a1 : Int32) (a2 : Int32) (l : Launch) : kw_Met l yX3_threadsMany (ws_ yX3_threadsMany cX3_threadsMany 5 (some .int)) 7 136 [kA a0, kI a1, kI a2] kw_eI (pm_X3_threadsMany a0 a1 a2) := kw_met (plainFor_of_name rfl) (Nat.le_of_ble_eq_true rfl) (fun E B => wm_X3_threadsMany B a0 a1 a2) l

/-! RosaryCarversModel does (III)I -/

theorem wb_X3_does_55 {E : kw_E} (B : kw_ok E cX3_does RX3 "does" 4 (some .int) 9 180 [])  (x3 : Int32) (s0 : Int32) (s1 : Int32) (s2 : Option Nat) : kw_W E kw_eI 55 [(3, kI x3)] [kI s0, kI s1, kA s2] (pb_X3_does_55  x3 s0 s1 s2) := by
  unfold pb_X3_does_55
  refine kw_iload_n (pc := 55) B dX3_does_55 rfl 0 rfl ?_
  refine kw_callV (pc := 56) B dX3_does_56 (ci := 3) rfl (ct_X3_carves s2 s1 s0 x3) q2477 q2479 qs32 q81 q2480 ⟨by decide, by decide, rfl⟩ (As := [kI s1, kI s0, kI x3]) rfl (st := []) rfl (Nat.le_of_ble_eq_true rfl) (by decide) (by decide) kw_qI (fun i1 => ?_)
  exact kw_iret B dX3_does_59 rfl
theorem wb_X3_does_44 {E : kw_E} (B : kw_ok E cX3_does RX3 "does" 4 (some .int) 9 180 [])  (x0 : Option Nat) (x1 : Int32) (x2 : Int32) (x3 : Int32) : kw_W E kw_eI 44 [(0, kA x0), (1, kI x1), (2, kI x2), (3, kI x3)] [] (pb_X3_does_44  x0 x1 x2 x3) := by
  unfold pb_X3_does_44
  refine kw_aload_n (pc := 44) B dX3_does_44 rfl 0 rfl ?_
  refine kw_iload_n (pc := 45) B dX3_does_45 rfl 2 rfl ?_
  refine kw_iload_n (pc := 46) B dX3_does_46 rfl 1 rfl ?_
  refine kw_if_ne (pc := 47) (tgt := 54) B dX3_does_47 rfl ?_ ?_
  · refine kw_iconst (pc := 54) B dX3_does_54 (v := (0 : Int32)) rfl ?_
    exact kw_pick [3] rfl (wb_X3_does_55 B x3 (0 : Int32) x2 x0)
  · refine kw_iconst (pc := 50) B dX3_does_50 (v := (1 : Int32)) rfl ?_
    refine kw_goto (pc := 51) (tgt := 55) B dX3_does_51 rfl ?_
    exact kw_pick [3] rfl (wb_X3_does_55 B x3 (1 : Int32) x2 x0)
theorem wm_X3_does {E : kw_E} (B : kw_ok E cX3_does RX3 "does" 4 (some .int) 9 180 []) (a0 : Option Nat) (a1 : Int32) (a2 : Int32) (a3 : Int32) : kw_W E kw_eI 0 [(0, kA a0), (1, kI a1), (2, kI a2), (3, kI a3)] [] (pm_X3_does a0 a1 a2 a3) := by
  unfold pm_X3_does
  refine kw_iload_n (pc := 0) B dX3_does_0 rfl 1 rfl ?_
  refine kw_tsw (pc := 1) (tgt := 91) B dX3_does_1 rfl rfl ⟨⟨44, rfl, ?_⟩, ⟨44, rfl, ?_⟩, ⟨60, rfl, ?_⟩, ⟨67, rfl, ?_⟩, ⟨74, rfl, ?_⟩, ⟨80, rfl, ?_⟩, ⟨86, rfl, ?_⟩, trivial⟩ ?_
  · exact kw_pick [0, 1, 2, 3] rfl (wb_X3_does_44 B a0 a1 a2 a3)
  · exact kw_pick [0, 1, 2, 3] rfl (wb_X3_does_44 B a0 a1 a2 a3)
  · refine kw_aload_n (pc := 60) B dX3_does_60 rfl 0 rfl ?_
    refine kw_iload_n (pc := 61) B dX3_does_61 rfl 2 rfl ?_
    refine kw_iload_n (pc := 62) B dX3_does_62 rfl 3 rfl ?_
    refine kw_callV (pc := 63) B dX3_does_63 (ci := 3) rfl (ct_X3_begins a0 a2 a3) q2516 q2518 qs37 q81 q2519 ⟨by decide, by decide, rfl⟩ (As := [kI a2, kI a3]) rfl (st := []) rfl (Nat.le_of_ble_eq_true rfl) (by decide) (by decide) kw_qI (fun i1 => ?_)
    exact kw_iret B dX3_does_66 rfl
  · refine kw_aload_n (pc := 67) B dX3_does_67 rfl 0 rfl ?_
    refine kw_iload_n (pc := 68) B dX3_does_68 rfl 2 rfl ?_
    refine kw_iload_n (pc := 69) B dX3_does_69 rfl 3 rfl ?_
    refine kw_callV (pc := 70) B dX3_does_70 (ci := 3) rfl (ct_X3_threadsMany a0 a2 a3) q2755 q2757 qs70 q81 q2758 ⟨by decide, by decide, rfl⟩ (As := [kI a2, kI a3]) rfl (st := []) rfl (Nat.le_of_ble_eq_true rfl) (by decide) (by decide) kw_qI (fun i2 => ?_)
    exact kw_iret B dX3_does_73 rfl
  · refine kw_aload_n (pc := 74) B dX3_does_74 rfl 0 rfl ?_
    refine kw_iload_n (pc := 75) B dX3_does_75 rfl 2 rfl ?_
    refine kw_callV (pc := 76) B dX3_does_76 (ci := 3) rfl (ct_X3_knots a0 a2) q2578 q2580 qs49 q81 q2581 ⟨by decide, by decide, rfl⟩ (As := [kI a2]) rfl (st := []) rfl (Nat.le_of_ble_eq_true rfl) (by decide) (by decide) kw_qI (fun i3 => ?_)
    exact kw_iret B dX3_does_79 rfl
  · refine kw_aload_n (pc := 80) B dX3_does_80 rfl 0 rfl ?_
    refine kw_iload_n (pc := 81) B dX3_does_81 rfl 2 rfl ?_
    refine kw_callV (pc := 82) B dX3_does_82 (ci := 3) rfl (ct_X3_drops a0 a2) q2586 q2588 qs50 q81 q2589 ⟨by decide, by decide, rfl⟩ (As := [kI a2]) rfl (st := []) rfl (Nat.le_of_ble_eq_true rfl) (by decide) (by decide) kw_qI (fun i4 => ?_)
    exact kw_iret B dX3_does_85 rfl
  · refine kw_aload_n (pc := 86) B dX3_does_86 rfl 0 rfl ?_
    refine kw_callV (pc := 87) B dX3_does_87 (ci := 3) rfl (ct_X3_mends a0) q2604 q2606 qs51 q81 q2607 ⟨by decide, by decide, rfl⟩ (As := []) rfl (st := []) rfl (Nat.le_of_ble_eq_true rfl) (by decide) (by decide) kw_qI (fun i5 => ?_)
    exact kw_iret B dX3_does_90 rfl
  · refine kw_aload_n (pc := 91) B dX3_does_91 rfl 0 rfl ?_
    refine kw_iload_n (pc := 92) B dX3_does_92 rfl 2 rfl ?_
    refine kw_callV (pc := 93) B dX3_does_93 (ci := 3) rfl (ct_X3_passes a0 a2) q2612 q2614 qs52 q81 q2615 ⟨by decide, by decide, rfl⟩ (As := [kI a2]) rfl (st := []) rfl (Nat.le_of_ble_eq_true rfl) (by decide) (by decide) kw_qI (fun i6 => ?_)
    exact kw_iret B dX3_does_96 rfl
theorem ct_X3_does (a0 : Option Nat) (a1 : Int32) (a2 : Int32) (a3 : Int32) (l : Launch) : kw_Met l yX3_does (ws_ yX3_does cX3_does 4 (some .int)) 9 180 [kA a0, kI a1, kI a2, kI a3] kw_eI (pm_X3_does a0 a1 a2 a3) := kw_met (plainFor_of_name rfl) (Nat.le_of_ble_eq_true rfl) (fun E B => wm_X3_does B a0 a1 a2 a3) l

/-! RosaryCarversModel refusesCommand (IZ)I -/

theorem wb_X3_refusesCommand_51 {E : kw_E} (B : kw_ok E cX3_refusesCommand RX3 "refusesCommand" 3 (some .int) 1 0 [])  (x0 : Option Nat) (x1 : Int32) (s0 : Int32) (s1 : Int32) (s2 : Option Nat) : kw_W E kw_eI 51 [(0, kA x0), (1, kI x1)] [kI s0, kI s1, kA s2] (pb_X3_refusesCommand_51  x0 x1 s0 s1 s2) := by
  unfold pb_X3_refusesCommand_51
  refine kw_iast (pc := 51) B dX3_refusesCommand_51 ?_
  refine kw_aload_n (pc := 52) B dX3_refusesCommand_52 rfl 0 rfl ?_
  refine kw_gR (pc := 53) B dX3_refusesCommand_53 fl_X3_25 (fun r2 => ?_)
  refine kw_iconst (pc := 56) B dX3_refusesCommand_56 (v := (1 : Int32)) rfl ?_
  refine kw_aload_n (pc := 57) B dX3_refusesCommand_57 rfl 0 rfl ?_
  refine kw_gR (pc := 58) B dX3_refusesCommand_58 fl_X3_25 (fun r3 => ?_)
  refine kw_iconst (pc := 61) B dX3_refusesCommand_61 (v := (0 : Int32)) rfl ?_
  refine kw_iald (pc := 62) B dX3_refusesCommand_62 (fun i4 => ?_)
  refine kw_iast (pc := 63) B dX3_refusesCommand_63 ?_
  refine kw_aload_n (pc := 64) B dX3_refusesCommand_64 rfl 0 rfl ?_
  refine kw_gR (pc := 65) B dX3_refusesCommand_65 fl_X3_22 (fun r6 => ?_)
  refine kw_iconst (pc := 68) B dX3_refusesCommand_68 (v := (0 : Int32)) rfl ?_
  refine kw_bipush (pc := 69) B dX3_refusesCommand_69 (v := (9 : Int32)) rfl ?_
  refine kw_iast (pc := 71) B dX3_refusesCommand_71 ?_
  refine kw_aload_n (pc := 72) B dX3_refusesCommand_72 rfl 0 rfl ?_
  refine kw_gR (pc := 73) B dX3_refusesCommand_73 fl_X3_25 (fun r8 => ?_)
  refine kw_iconst (pc := 76) B dX3_refusesCommand_76 (v := (0 : Int32)) rfl ?_
  refine kw_iload_n (pc := 77) B dX3_refusesCommand_77 rfl 1 rfl ?_
  refine kw_iast (pc := 78) B dX3_refusesCommand_78 ?_
  refine kw_bipush (pc := 79) B dX3_refusesCommand_79 (v := (-5 : Int32)) rfl ?_
  exact kw_iret B dX3_refusesCommand_81 rfl
theorem wb_X3_refusesCommand_19 {E : kw_E} (B : kw_ok E cX3_refusesCommand RX3 "refusesCommand" 3 (some .int) 1 0 [])  (x0 : Option Nat) (x1 : Int32) (x2 : Int32) (s0 : Int32) (s1 : Int32) (s2 : Option Nat) : kw_W E kw_eI 19 [(0, kA x0), (1, kI x1), (2, kI x2)] [kI s0, kI s1, kA s2] (pb_X3_refusesCommand_19  x0 x1 x2 s0 s1 s2) := by
  unfold pb_X3_refusesCommand_19
  refine kw_iast (pc := 19) B dX3_refusesCommand_19 ?_
  refine kw_aload_n (pc := 20) B dX3_refusesCommand_20 rfl 0 rfl ?_
  refine kw_gR (pc := 21) B dX3_refusesCommand_21 fl_X3_25 (fun r2 => ?_)
  refine kw_iconst (pc := 24) B dX3_refusesCommand_24 (v := (2 : Int32)) rfl ?_
  refine kw_aload_n (pc := 25) B dX3_refusesCommand_25 rfl 0 rfl ?_
  refine kw_gR (pc := 26) B dX3_refusesCommand_26 fl_X3_25 (fun r3 => ?_)
  refine kw_iconst (pc := 29) B dX3_refusesCommand_29 (v := (1 : Int32)) rfl ?_
  refine kw_iald (pc := 30) B dX3_refusesCommand_30 (fun i4 => ?_)
  refine kw_iast (pc := 31) B dX3_refusesCommand_31 ?_
  refine kw_aload_n (pc := 32) B dX3_refusesCommand_32 rfl 0 rfl ?_
  refine kw_gR (pc := 33) B dX3_refusesCommand_33 fl_X3_22 (fun r6 => ?_)
  refine kw_iconst (pc := 36) B dX3_refusesCommand_36 (v := (1 : Int32)) rfl ?_
  refine kw_iload_n (pc := 37) B dX3_refusesCommand_37 rfl 2 rfl ?_
  refine kw_if_eq (pc := 38) (tgt := 50) B dX3_refusesCommand_38 rfl ?_ ?_
  · refine kw_iconst (pc := 50) B dX3_refusesCommand_50 (v := (0 : Int32)) rfl ?_
    exact kw_pick [0, 1] rfl (wb_X3_refusesCommand_51 B x0 x1 (0 : Int32) (1 : Int32) r6)
  · refine kw_aload_n (pc := 41) B dX3_refusesCommand_41 rfl 0 rfl ?_
    refine kw_gR (pc := 42) B dX3_refusesCommand_42 fl_X3_22 (fun r7 => ?_)
    refine kw_iconst (pc := 45) B dX3_refusesCommand_45 (v := (0 : Int32)) rfl ?_
    refine kw_iald (pc := 46) B dX3_refusesCommand_46 (fun i8 => ?_)
    refine kw_goto (pc := 47) (tgt := 51) B dX3_refusesCommand_47 rfl ?_
    exact kw_pick [0, 1] rfl (wb_X3_refusesCommand_51 B x0 x1 i8 (1 : Int32) r6)
theorem wm_X3_refusesCommand {E : kw_E} (B : kw_ok E cX3_refusesCommand RX3 "refusesCommand" 3 (some .int) 1 0 []) (a0 : Option Nat) (a1 : Int32) (a2 : Int32) : kw_W E kw_eI 0 [(0, kA a0), (1, kI a1), (2, kI a2)] [] (pm_X3_refusesCommand a0 a1 a2) := by
  unfold pm_X3_refusesCommand
  refine kw_aload_n (pc := 0) B dX3_refusesCommand_0 rfl 0 rfl ?_
  refine kw_gR (pc := 1) B dX3_refusesCommand_1 fl_X3_22 (fun r1 => ?_)
  refine kw_iconst (pc := 4) B dX3_refusesCommand_4 (v := (2 : Int32)) rfl ?_
  refine kw_iload_n (pc := 5) B dX3_refusesCommand_5 rfl 2 rfl ?_
  refine kw_if_eq (pc := 6) (tgt := 18) B dX3_refusesCommand_6 rfl ?_ ?_
  · refine kw_iconst (pc := 18) B dX3_refusesCommand_18 (v := (0 : Int32)) rfl ?_
    exact kw_pick [0, 1, 2] rfl (wb_X3_refusesCommand_19 B a0 a1 a2 (0 : Int32) (2 : Int32) r1)
  · refine kw_aload_n (pc := 9) B dX3_refusesCommand_9 rfl 0 rfl ?_
    refine kw_gR (pc := 10) B dX3_refusesCommand_10 fl_X3_22 (fun r2 => ?_)
    refine kw_iconst (pc := 13) B dX3_refusesCommand_13 (v := (1 : Int32)) rfl ?_
    refine kw_iald (pc := 14) B dX3_refusesCommand_14 (fun i3 => ?_)
    refine kw_goto (pc := 15) (tgt := 19) B dX3_refusesCommand_15 rfl ?_
    exact kw_pick [0, 1, 2] rfl (wb_X3_refusesCommand_19 B a0 a1 a2 i3 (2 : Int32) r1)
theorem ct_X3_refusesCommand (a0 : Option Nat) (a1 : Int32) (a2 : Int32) (l : Launch) : kw_Met l yX3_refusesCommand (ws_ yX3_refusesCommand cX3_refusesCommand 3 (some .int)) 1 0 [kA a0, kI a1, kI a2] kw_eI (pm_X3_refusesCommand a0 a1 a2) := kw_met (plainFor_of_name rfl) (Nat.le_of_ble_eq_true rfl) (fun E B => wm_X3_refusesCommand B a0 a1 a2) l

/-! RosaryCarversModel read ()I -/

theorem wb_X3_read_108 {E : kw_E} (B : kw_ok E cX3_read RX3 "read" 4 (some .int) 10 203 [])  (s0 : Int32) (s1 : Int32) (s2 : Option Nat) : kw_W E kw_eI 108 [] [kI s0, kI s1, kA s2] (pb_X3_read_108  s0 s1 s2) := by
  unfold pb_X3_read_108
  refine kw_callV (pc := 108) B dX3_read_108 (ci := 3) rfl (ct_X3_refusesCommand s2 s1 s0) q2759 q2761 qs71 q81 q2762 ⟨by decide, by decide, rfl⟩ (As := [kI s1, kI s0]) rfl (st := []) rfl (Nat.le_of_ble_eq_true rfl) (by decide) (by decide) kw_qI (fun i1 => ?_)
  exact kw_iret B dX3_read_111 rfl
theorem wb_X3_read_31 {E : kw_E} (B : kw_ok E cX3_read RX3 "read" 4 (some .int) 10 203 [])  : ∀ (n : Nat) (x0 : Option Nat) (x2 : Int32), kw_W E kw_eI 31 [(0, kA x0), (2, kI x2)] [] (pb_X3_read_31  n x0 x2) := by
  intro n
  induction n with
  | zero =>
    intro x0 x2
    exact kw_fail_ok
  | succ n ih =>
    intro x0 x2
    show kw_W E kw_eI 31 [(0, kA x0), (2, kI x2)] [] (
km_bind (km_gI [(3, 15)] x0) fun i1 =>
if i1 ≤ x2 then
(km_bind (km_gI [(3, 15)] x0) fun i2 =>
km_bind (km_is 3 x0) fun _ => km_bind (pm_X3_ends x0 i2) fun i3 =>
km_pure i3)
else
(km_bind (km_gR [(3, 12)] x0) fun r4 =>
km_bind (km_ldI 0 r4 ((3 : Int32) * x2)) fun i5 =>
km_bind (km_gR [(3, 12)] x0) fun r6 =>
km_bind (km_ldI 0 r6 (((3 : Int32) * x2) + (1 : Int32))) fun i7 =>
km_bind (km_gR [(3, 12)] x0) fun r8 =>
km_bind (km_ldI 0 r8 (((3 : Int32) * x2) + (2 : Int32))) fun i9 =>
km_bind (km_is 3 x0) fun _ => km_bind (pm_X3_does x0 i5 i7 i9) fun i10 =>
km_bind (pm_X3_isError i10) fun i11 =>
if i11 = 0 then
(pb_X3_read_31 n x0 (x2 + (1 : Int32)))
else
(km_bind (km_gR [(3, 1)] x0) fun r12 =>
km_bind (km_gR [(3, 0)] x0) fun r13 =>
km_bind (pm_X3_copies r12 (0 : Int32) r13 (0 : Int32) (2188 : Int32)) fun _ =>
if ¬ i10 = (-5 : Int32) then
(pb_X3_read_108 (0 : Int32) x2 x0)
else
(pb_X3_read_108 (1 : Int32) x2 x0))))
    refine kw_iload_n (pc := 31) B dX3_read_31 rfl 1 rfl ?_
    refine kw_aload_n (pc := 32) B dX3_read_32 rfl 0 rfl ?_
    refine kw_gI (pc := 33) B dX3_read_33 fl_X3_269 (fun i1 => ?_)
    refine kw_icmp_ge (pc := 36) (tgt := 118) B dX3_read_36 rfl ?_ ?_
    · refine kw_aload_n (pc := 118) B dX3_read_118 rfl 0 rfl ?_
      refine kw_aload_n (pc := 119) B dX3_read_119 rfl 0 rfl ?_
      refine kw_gI (pc := 120) B dX3_read_120 fl_X3_269 (fun i2 => ?_)
      refine kw_callV (pc := 123) B dX3_read_123 (ci := 3) rfl (ct_X3_ends x0 i2) q2428 q2430 qs26 q81 q2431 ⟨by decide, by decide, rfl⟩ (As := [kI i2]) rfl (st := []) rfl (Nat.le_of_ble_eq_true rfl) (by decide) (by decide) kw_qI (fun i3 => ?_)
      exact kw_iret B dX3_read_126 rfl
    · refine kw_aload_n (pc := 39) B dX3_read_39 rfl 0 rfl ?_
      refine kw_aload_n (pc := 40) B dX3_read_40 rfl 0 rfl ?_
      refine kw_gR (pc := 41) B dX3_read_41 fl_X3_56 (fun r4 => ?_)
      refine kw_iconst (pc := 44) B dX3_read_44 (v := (3 : Int32)) rfl ?_
      refine kw_iload_n (pc := 45) B dX3_read_45 rfl 1 rfl ?_
      refine kw_imul (pc := 46) B dX3_read_46 ?_
      refine kw_iald (pc := 47) B dX3_read_47 (fun i5 => ?_)
      refine kw_aload_n (pc := 48) B dX3_read_48 rfl 0 rfl ?_
      refine kw_gR (pc := 49) B dX3_read_49 fl_X3_56 (fun r6 => ?_)
      refine kw_iconst (pc := 52) B dX3_read_52 (v := (3 : Int32)) rfl ?_
      refine kw_iload_n (pc := 53) B dX3_read_53 rfl 1 rfl ?_
      refine kw_imul (pc := 54) B dX3_read_54 ?_
      refine kw_iconst (pc := 55) B dX3_read_55 (v := (1 : Int32)) rfl ?_
      refine kw_iadd (pc := 56) B dX3_read_56 ?_
      refine kw_iald (pc := 57) B dX3_read_57 (fun i7 => ?_)
      refine kw_aload_n (pc := 58) B dX3_read_58 rfl 0 rfl ?_
      refine kw_gR (pc := 59) B dX3_read_59 fl_X3_56 (fun r8 => ?_)
      refine kw_iconst (pc := 62) B dX3_read_62 (v := (3 : Int32)) rfl ?_
      refine kw_iload_n (pc := 63) B dX3_read_63 rfl 1 rfl ?_
      refine kw_imul (pc := 64) B dX3_read_64 ?_
      refine kw_iconst (pc := 65) B dX3_read_65 (v := (2 : Int32)) rfl ?_
      refine kw_iadd (pc := 66) B dX3_read_66 ?_
      refine kw_iald (pc := 67) B dX3_read_67 (fun i9 => ?_)
      refine kw_callV (pc := 68) B dX3_read_68 (ci := 3) rfl (ct_X3_does x0 i5 i7 i9) q2751 q2753 qs69 q81 q2754 ⟨by decide, by decide, rfl⟩ (As := [kI i5, kI i7, kI i9]) rfl (st := []) rfl (Nat.le_of_ble_eq_true rfl) (by decide) (by decide) kw_qI (fun i10 => ?_)
      refine kw_istore_n (pc := 71) B dX3_read_71 rfl (by decide) (L2 := [(3, kI i10), (0, kA x0), (2, kI x2)]) rfl ?_
      refine kw_iload_n (pc := 72) B dX3_read_72 rfl 0 rfl ?_
      refine kw_callS (pc := 73) B dX3_read_73 (ct_X3_isError i10) q2432 q2433 q81 q2434 ⟨by decide, by decide, rfl⟩ (As := [kI i10]) rfl (st := []) rfl (Nat.le_of_ble_eq_true rfl) (by decide) (by decide) kw_qI (fun i11 => ?_)
      refine kw_if_eq (pc := 76) (tgt := 112) B dX3_read_76 rfl ?_ ?_
      · refine kw_iinc (pc := 112) B dX3_read_112 2 rfl (w := x2 + (1 : Int32)) rfl (by decide) (L2 := [(2, kI (x2 + (1 : Int32))), (3, kI i10), (0, kA x0)]) rfl ?_
        refine kw_goto (pc := 115) (tgt := 31) B dX3_read_115 rfl ?_
        exact kw_pick [2, 0] rfl (ih x0 (x2 + (1 : Int32)))
      · refine kw_aload_n (pc := 79) B dX3_read_79 rfl 1 rfl ?_
        refine kw_gR (pc := 80) B dX3_read_80 fl_X3_13 (fun r12 => ?_)
        refine kw_iconst (pc := 83) B dX3_read_83 (v := (0 : Int32)) rfl ?_
        refine kw_aload_n (pc := 84) B dX3_read_84 rfl 1 rfl ?_
        refine kw_gR (pc := 85) B dX3_read_85 fl_X3_9 (fun r13 => ?_)
        refine kw_iconst (pc := 88) B dX3_read_88 (v := (0 : Int32)) rfl ?_
        refine kw_sipush (pc := 89) B dX3_read_89 (v := (2188 : Int32)) rfl ?_
        refine kw_callS (pc := 92) B dX3_read_92 (ct_X3_copies r12 (0 : Int32) r13 (0 : Int32) (2188 : Int32)) q2422 q2423 q81 q2424 ⟨by decide, by decide, rfl⟩ (As := [kA r12, kI (0 : Int32), kA r13, kI (0 : Int32), kI (2188 : Int32)]) rfl (st := []) rfl (Nat.le_of_ble_eq_true rfl) (by decide) (by decide) kw_qV (fun _ => ?_)
        refine kw_aload_n (pc := 95) B dX3_read_95 rfl 1 rfl ?_
        refine kw_iload_n (pc := 96) B dX3_read_96 rfl 2 rfl ?_
        refine kw_iload_n (pc := 97) B dX3_read_97 rfl 0 rfl ?_
        refine kw_bipush (pc := 98) B dX3_read_98 (v := (-5 : Int32)) rfl ?_
        refine kw_icmp_ne (pc := 100) (tgt := 107) B dX3_read_100 rfl ?_ ?_
        · refine kw_iconst (pc := 107) B dX3_read_107 (v := (0 : Int32)) rfl ?_
          exact kw_pick [] rfl (wb_X3_read_108 B (0 : Int32) x2 x0)
        · refine kw_iconst (pc := 103) B dX3_read_103 (v := (1 : Int32)) rfl ?_
          refine kw_goto (pc := 104) (tgt := 108) B dX3_read_104 rfl ?_
          exact kw_pick [] rfl (wb_X3_read_108 B (1 : Int32) x2 x0)
theorem wm_X3_read {E : kw_E} (B : kw_ok E cX3_read RX3 "read" 4 (some .int) 10 203 []) (a0 : Option Nat) : kw_W E kw_eI 0 [(0, kA a0)] [] (pm_X3_read a0) := by
  unfold pm_X3_read
  refine kw_aload_n (pc := 0) B dX3_read_0 rfl 0 rfl ?_
  refine kw_callV (pc := 1) B dX3_read_1 (ci := 3) rfl (ct_X3_isText a0) q2730 q2732 qs64 q81 q2733 ⟨by decide, by decide, rfl⟩ (As := []) rfl (st := []) rfl (Nat.le_of_ble_eq_true rfl) (by decide) (by decide) kw_qI (fun i1 => ?_)
  refine kw_istore_n (pc := 4) B dX3_read_4 rfl (by decide) (L2 := [(1, kI i1), (0, kA a0)]) rfl ?_
  refine kw_aload_n (pc := 5) B dX3_read_5 rfl 1 rfl ?_
  refine kw_iconst (pc := 6) B dX3_read_6 (v := (0 : Int32)) rfl ?_
  refine kw_pI (pc := 7) B dX3_read_7 fl_X3_234 fp_X3_234 (fun h => by cases h) ?_
  refine kw_iload_n (pc := 10) B dX3_read_10 rfl 0 rfl ?_
  refine kw_if_ne (pc := 11) (tgt := 25) B dX3_read_11 rfl ?_ ?_
  · refine kw_aload_n (pc := 25) B dX3_read_25 rfl 1 rfl ?_
    refine kw_callV (pc := 26) B dX3_read_26 (ci := 3) rfl (ct_X3_keeps a0) q2418 q2420 qs25 q81 q2421 ⟨by decide, by decide, rfl⟩ (As := []) rfl (st := []) rfl (Nat.le_of_ble_eq_true rfl) (by decide) (by decide) kw_qV (fun _ => ?_)
    refine kw_iconst (pc := 29) B dX3_read_29 (v := (0 : Int32)) rfl ?_
    refine kw_istore_n (pc := 30) B dX3_read_30 rfl (by decide) (L2 := [(2, kI (0 : Int32)), (1, kI i1), (0, kA a0)]) rfl ?_
    exact kw_pick [2, 0] rfl (wb_X3_read_31 B km_fuel a0 (0 : Int32))
  · refine kw_aload_n (pc := 14) B dX3_read_14 rfl 1 rfl ?_
    refine kw_aload_n (pc := 15) B dX3_read_15 rfl 1 rfl ?_
    refine kw_gI (pc := 16) B dX3_read_16 fl_X3_250 (fun i3 => ?_)
    refine kw_pI (pc := 19) B dX3_read_19 fl_X3_59 fp_X3_59 (fun h => by cases h) ?_
    refine kw_bipush (pc := 22) B dX3_read_22 (v := (-2 : Int32)) rfl ?_
    exact kw_iret B dX3_read_24 rfl
theorem ct_X3_read (a0 : Option Nat) (l : Launch) : kw_Met l yX3_read (ws_ yX3_read cX3_read 4 (some .int)) 10 203 [kA a0] kw_eI (pm_X3_read a0) := kw_met (plainFor_of_name rfl) (Nat.le_of_ble_eq_true rfl) (fun E B => wm_X3_read B a0) l

/-! RosaryCarvers fault ()I -/

theorem wm_X0_fault {E : kw_E} (B : kw_ok E cX0_fault RX0 "fault" 1 (some .int) 1 0 []) (a0 : Option Nat) : kw_W E kw_eI 0 [(0, kA a0)] [] (pm_X0_fault a0) := by
  unfold pm_X0_fault
  refine kw_aload_n (pc := 0) B dX0_fault_0 rfl 0 rfl ?_
  refine kw_gI (pc := 1) B dX0_fault_1 fl_X0_38 (fun i1 => ?_)
  refine kw_if_ge (pc := 4) (tgt := 12) B dX0_fault_4 rfl ?_ ?_
  · refine kw_aload_n (pc := 12) B dX0_fault_12 rfl 0 rfl ?_
    refine kw_gI (pc := 13) B dX0_fault_13 fl_X0_38 (fun i2 => ?_)
    exact kw_iret B dX0_fault_16 rfl
  · refine kw_bipush (pc := 7) B dX0_fault_7 (v := (-3 : Int32)) rfl ?_
    refine kw_goto (pc := 9) (tgt := 16) B dX0_fault_9 rfl ?_
    exact kw_iret B dX0_fault_16 rfl
theorem ct_X0_fault (a0 : Option Nat) (l : Launch) : kw_Met l yX0_fault (ws_ yX0_fault cX0_fault 1 (some .int)) 1 0 [kA a0] kw_eI (pm_X0_fault a0) := kw_met (plainFor_of_name rfl) (Nat.le_of_ble_eq_true rfl) (fun E B => wm_X0_fault B a0) l

/-! RosaryCarversModel fault ()I -/

theorem wm_X3_fault {E : kw_E} (B : kw_ok E cX3_fault RX3 "fault" 1 (some .int) 1 0 []) (a0 : Option Nat) : kw_W E kw_eI 0 [(0, kA a0)] [] (pm_X3_fault a0) := by
  unfold pm_X3_fault
  refine kw_aload_n (pc := 0) B dX3_fault_0 rfl 0 rfl ?_
  refine kw_gI (pc := 1) B dX3_fault_1 fl_X3_59 (fun i1 => ?_)
  refine kw_if_ge (pc := 4) (tgt := 12) B dX3_fault_4 rfl ?_ ?_
  · refine kw_aload_n (pc := 12) B dX3_fault_12 rfl 0 rfl ?_
    refine kw_gI (pc := 13) B dX3_fault_13 fl_X3_59 (fun i2 => ?_)
    exact kw_iret B dX3_fault_16 rfl
  · refine kw_bipush (pc := 7) B dX3_fault_7 (v := (-3 : Int32)) rfl ?_
    refine kw_goto (pc := 9) (tgt := 16) B dX3_fault_9 rfl ?_
    exact kw_iret B dX3_fault_16 rfl
theorem ct_X3_fault (a0 : Option Nat) (l : Launch) : kw_Met l yX3_fault (ws_ yX3_fault cX3_fault 1 (some .int)) 1 0 [kA a0] kw_eI (pm_X3_fault a0) := kw_met (plainFor_of_name rfl) (Nat.le_of_ble_eq_true rfl) (fun E B => wm_X3_fault B a0) l

/-! RosaryCarvers reason (IZ)I -/
theorem fl_X0_464 : kw_fl RX0 464 "RosaryCarvers" [(0, 3)] := (kw_fl_c (C := RX0) (T := TX0) (N := 8) rfl (by decide) in_X0 q309 (Or.inl rfl) kw_fl_nil)
theorem fl_X0_475 : kw_flN RX0 475 "RosaryCarvers$Refused" "RosaryCarvers" [(8, 6)] := (kw_flN_c (C := RX9) (T := TX9) (N := 8) rfl (by decide) in_X9 q818 (Or.inl rfl) kw_flN_nil)
theorem fl_X0_472 : kw_flN RX0 472 "RosaryCarvers$Refused" "RosaryCarvers" [(8, 7)] := (kw_flN_c (C := RX9) (T := TX9) (N := 8) rfl (by decide) in_X9 q820 (Or.inl rfl) kw_flN_nil)
theorem wm_X0_reason {E : kw_E} (B : kw_ok E cX0_reason RX0 "reason" 4 (some .int) 25 423 []) (a0 : Option Nat) (a1 : Int32) (a2 : Int32) : kw_W E kw_eI 0 [(0, kA a0), (1, kI a1), (2, kI a2)] [] (pm_X0_reason a0 a1 a2) := by
  unfold pm_X0_reason
  refine kw_iload_n (pc := 0) B dX0_reason_0 rfl 1 rfl ?_
  refine kw_iconst (pc := 1) B dX0_reason_1 (v := (0 : Int32)) rfl ?_
  refine kw_iconst (pc := 2) B dX0_reason_2 (v := (2 : Int32)) rfl ?_
  refine kw_callS (pc := 3) B dX0_reason_3 (ct_X0_in a1 (0 : Int32) (2 : Int32)) q339 q340 q73 q341 ⟨by decide, by decide, rfl⟩ (As := [kI a1, kI (0 : Int32), kI (2 : Int32)]) rfl (st := []) rfl (Nat.le_of_ble_eq_true rfl) (by decide) (by decide) kw_qI (fun i1 => ?_)
  refine kw_if_ne (pc := 6) (tgt := 12) B dX0_reason_6 rfl ?_ ?_
  · refine kw_aload_n (pc := 12) B dX0_reason_12 rfl 0 rfl ?_
    refine kw_gR (pc := 13) B dX0_reason_13 fl_X0_464 (fun r2 => ?_)
    refine kw_ifnonnull (pc := 16) (tgt := 22) B dX0_reason_16 rfl ?_ ?_
    · refine kw_aload_n (pc := 22) B dX0_reason_22 rfl 0 rfl ?_
      refine kw_gR (pc := 23) B dX0_reason_23 fl_X0_464 (fun r3 => ?_)
      refine kw_iload_n (pc := 26) B dX0_reason_26 rfl 1 rfl ?_
      refine kw_callV (pc := 27) B dX0_reason_27 (ci := 8) rfl (ct_X9_behind r3 a1) q2297 q2298 q2299 q98 q2300 ⟨by decide, by decide, rfl⟩ (As := [kI a1]) rfl (st := []) rfl (Nat.le_of_ble_eq_true rfl) (by decide) (by decide) kw_qA (fun r4 => ?_)
      refine kw_astore_n (pc := 30) B dX0_reason_30 rfl (by decide) (L2 := [(3, kA r4), (0, kA a0), (1, kI a1), (2, kI a2)]) rfl ?_
      refine kw_aload_n (pc := 31) B dX0_reason_31 rfl 0 rfl ?_
      refine kw_ifnonnull (pc := 32) (tgt := 38) B dX0_reason_32 rfl ?_ ?_
      · refine kw_iload_n (pc := 38) B dX0_reason_38 rfl 3 rfl ?_
        refine kw_if_eq (pc := 39) (tgt := 49) B dX0_reason_39 rfl ?_ ?_
        · refine kw_aload_n (pc := 49) B dX0_reason_49 rfl 0 rfl ?_
          refine kw_gIN (pc := 50) B dX0_reason_50 fl_X0_475 (fun i5 => ?_)
          exact kw_iret B dX0_reason_53 rfl
        · refine kw_aload_n (pc := 42) B dX0_reason_42 rfl 0 rfl ?_
          refine kw_gIN (pc := 43) B dX0_reason_43 fl_X0_472 (fun i6 => ?_)
          refine kw_goto (pc := 46) (tgt := 53) B dX0_reason_46 rfl ?_
          exact kw_iret B dX0_reason_53 rfl
      · refine kw_bipush (pc := 35) B dX0_reason_35 (v := (-6 : Int32)) rfl ?_
        exact kw_iret B dX0_reason_37 rfl
    · refine kw_bipush (pc := 19) B dX0_reason_19 (v := (-3 : Int32)) rfl ?_
      exact kw_iret B dX0_reason_21 rfl
  · refine kw_bipush (pc := 9) B dX0_reason_9 (v := (-2 : Int32)) rfl ?_
    exact kw_iret B dX0_reason_11 rfl
theorem ct_X0_reason (a0 : Option Nat) (a1 : Int32) (a2 : Int32) (l : Launch) : kw_Met l yX0_reason (ws_ yX0_reason cX0_reason 4 (some .int)) 25 423 [kA a0, kI a1, kI a2] kw_eI (pm_X0_reason a0 a1 a2) := kw_met (plainFor_of_name rfl) (Nat.le_of_ble_eq_true rfl) (fun E B => wm_X0_reason B a0 a1 a2) l

/-! RosaryCarversModel reason (IZ)I -/

theorem wm_X3_reason {E : kw_E} (B : kw_ok E cX3_reason RX3 "reason" 3 (some .int) 2 22 []) (a0 : Option Nat) (a1 : Int32) (a2 : Int32) : kw_W E kw_eI 0 [(0, kA a0), (1, kI a1), (2, kI a2)] [] (pm_X3_reason a0 a1 a2) := by
  unfold pm_X3_reason
  refine kw_iload_n (pc := 0) B dX3_reason_0 rfl 1 rfl ?_
  refine kw_iconst (pc := 1) B dX3_reason_1 (v := (0 : Int32)) rfl ?_
  refine kw_iconst (pc := 2) B dX3_reason_2 (v := (2 : Int32)) rfl ?_
  refine kw_callS (pc := 3) B dX3_reason_3 (ct_X3_isIn a1 (0 : Int32) (2 : Int32)) q2415 q2416 q81 q2417 ⟨by decide, by decide, rfl⟩ (As := [kI a1, kI (0 : Int32), kI (2 : Int32)]) rfl (st := []) rfl (Nat.le_of_ble_eq_true rfl) (by decide) (by decide) kw_qI (fun i1 => ?_)
  refine kw_if_ne (pc := 6) (tgt := 12) B dX3_reason_6 rfl ?_ ?_
  · refine kw_aload_n (pc := 12) B dX3_reason_12 rfl 0 rfl ?_
    refine kw_gR (pc := 13) B dX3_reason_13 fl_X3_22 (fun r2 => ?_)
    refine kw_iconst (pc := 16) B dX3_reason_16 (v := (0 : Int32)) rfl ?_
    refine kw_iald (pc := 17) B dX3_reason_17 (fun i3 => ?_)
    refine kw_if_ne (pc := 18) (tgt := 24) B dX3_reason_18 rfl ?_ ?_
    · refine kw_aload_n (pc := 24) B dX3_reason_24 rfl 0 rfl ?_
      refine kw_gR (pc := 25) B dX3_reason_25 fl_X3_22 (fun r4 => ?_)
      refine kw_iload_n (pc := 28) B dX3_reason_28 rfl 1 rfl ?_
      refine kw_iald (pc := 29) B dX3_reason_29 (fun i5 => ?_)
      refine kw_if_ne (pc := 30) (tgt := 38) B dX3_reason_30 rfl ?_ ?_
      · refine kw_iload_n (pc := 38) B dX3_reason_38 rfl 2 rfl ?_
        refine kw_if_eq (pc := 39) (tgt := 51) B dX3_reason_39 rfl ?_ ?_
        · refine kw_aload_n (pc := 51) B dX3_reason_51 rfl 0 rfl ?_
          refine kw_gR (pc := 52) B dX3_reason_52 fl_X3_22 (fun r6 => ?_)
          refine kw_iload_n (pc := 55) B dX3_reason_55 rfl 1 rfl ?_
          refine kw_iald (pc := 56) B dX3_reason_56 (fun i7 => ?_)
          exact kw_iret B dX3_reason_57 rfl
        · refine kw_aload_n (pc := 42) B dX3_reason_42 rfl 0 rfl ?_
          refine kw_gR (pc := 43) B dX3_reason_43 fl_X3_25 (fun r8 => ?_)
          refine kw_iload_n (pc := 46) B dX3_reason_46 rfl 1 rfl ?_
          refine kw_iald (pc := 47) B dX3_reason_47 (fun i9 => ?_)
          refine kw_goto (pc := 48) (tgt := 57) B dX3_reason_48 rfl ?_
          exact kw_iret B dX3_reason_57 rfl
      · refine kw_bipush (pc := 33) B dX3_reason_33 (v := (-6 : Int32)) rfl ?_
        refine kw_goto (pc := 35) (tgt := 57) B dX3_reason_35 rfl ?_
        exact kw_iret B dX3_reason_57 rfl
    · refine kw_bipush (pc := 21) B dX3_reason_21 (v := (-3 : Int32)) rfl ?_
      exact kw_iret B dX3_reason_23 rfl
  · refine kw_bipush (pc := 9) B dX3_reason_9 (v := (-2 : Int32)) rfl ?_
    exact kw_iret B dX3_reason_11 rfl
theorem ct_X3_reason (a0 : Option Nat) (a1 : Int32) (a2 : Int32) (l : Launch) : kw_Met l yX3_reason (ws_ yX3_reason cX3_reason 3 (some .int)) 2 22 [kA a0, kI a1, kI a2] kw_eI (pm_X3_reason a0 a1 a2) := kw_met (plainFor_of_name rfl) (Nat.le_of_ble_eq_true rfl) (fun E B => wm_X3_reason B a0 a1 a2) l

/-! java/util/ArrayDeque isEmpty ()Z -/

theorem wm_J4_isEmpty {E : kw_E} (B : kw_ok E cJ4_isEmpty RJ4 "isEmpty" 1 (some .boolean) 1 0 []) (a0 : Option Nat) : kw_W E kw_eI 0 [(0, kA a0)] [] (pm_J4_isEmpty a0) := by
  unfold pm_J4_isEmpty
  refine kw_aload_n (pc := 0) B dJ4_isEmpty_0 rfl 0 rfl ?_
  refine kw_gI (pc := 1) B dJ4_isEmpty_1 fl_J4_24 (fun i1 => ?_)
  refine kw_aload_n (pc := 4) B dJ4_isEmpty_4 rfl 0 rfl ?_
  refine kw_gI (pc := 5) B dJ4_isEmpty_5 fl_J4_20 (fun i2 => ?_)
  refine kw_icmp_ne (pc := 8) (tgt := 15) B dJ4_isEmpty_8 rfl ?_ ?_
  · refine kw_iconst (pc := 15) B dJ4_isEmpty_15 (v := (0 : Int32)) rfl ?_
    exact kw_zret B dJ4_isEmpty_16 (g := fun v => v) (fun _ => rfl)
  · refine kw_iconst (pc := 11) B dJ4_isEmpty_11 (v := (1 : Int32)) rfl ?_
    refine kw_goto (pc := 12) (tgt := 16) B dJ4_isEmpty_12 rfl ?_
    exact kw_zret B dJ4_isEmpty_16 (g := fun v => v) (fun _ => rfl)
theorem ct_J4_isEmpty (a0 : Option Nat) (l : Launch) : kw_Met l yJ4_isEmpty (ws_ yJ4_isEmpty cJ4_isEmpty 1 (some .boolean)) 1 0 [kA a0] kw_eI (pm_J4_isEmpty a0) := kw_met (plainFor_of_name rfl) (Nat.le_of_ble_eq_true rfl) (fun E B => wm_J4_isEmpty B a0) l

/-! java/util/ArrayDeque dec (II)I -/

theorem wm_J4_dec {E : kw_E} (B : kw_ok E cJ4_dec RJ4 "dec" 2 (some .int) 1 0 []) (a0 : Int32) (a1 : Int32) : kw_W E kw_eI 0 [(0, kI a0), (1, kI a1)] [] (pm_J4_dec a0 a1) := by
  unfold pm_J4_dec
  refine kw_iinc (pc := 0) B dJ4_dec_0 0 rfl (w := a0 + (-1 : Int32)) rfl (by decide) (L2 := [(0, kI (a0 + (-1 : Int32))), (1, kI a1)]) rfl ?_
  refine kw_iload_n (pc := 3) B dJ4_dec_3 rfl 0 rfl ?_
  refine kw_if_ge (pc := 4) (tgt := 11) B dJ4_dec_4 rfl ?_ ?_
  · refine kw_iload_n (pc := 11) B dJ4_dec_11 rfl 0 rfl ?_
    exact kw_iret B dJ4_dec_12 rfl
  · refine kw_iload_n (pc := 7) B dJ4_dec_7 rfl 1 rfl ?_
    refine kw_iconst (pc := 8) B dJ4_dec_8 (v := (1 : Int32)) rfl ?_
    refine kw_isub (pc := 9) B dJ4_dec_9 ?_
    refine kw_istore_n (pc := 10) B dJ4_dec_10 rfl (by decide) (L2 := [(0, kI (a1 - (1 : Int32))), (1, kI a1)]) rfl ?_
    refine kw_iload_n (pc := 11) B dJ4_dec_11 rfl 0 rfl ?_
    exact kw_iret B dJ4_dec_12 rfl
theorem ct_J4_dec (a0 : Int32) (a1 : Int32) (l : Launch) : kw_Met l yJ4_dec (ws_ yJ4_dec cJ4_dec 2 (some .int)) 1 0 [kI a0, kI a1] kw_eI (pm_J4_dec a0 a1) := kw_met (plainFor_of_name rfl) (Nat.le_of_ble_eq_true rfl) (fun E B => wm_J4_dec B a0 a1) l

/-! java/util/ArrayDeque pollLast ()Ljava/lang/Object; -/

theorem wm_J4_pollLast {E : kw_E} (B : kw_ok E cJ4_pollLast RJ4 "pollLast" 4 (some (.object "java/lang/Object")) 2 21 []) (a0 : Option Nat) : kw_W E kw_eA 0 [(0, kA a0)] [] (pm_J4_pollLast a0) := by
  unfold pm_J4_pollLast
  refine kw_aload_n (pc := 0) B dJ4_pollLast_0 rfl 0 rfl ?_
  refine kw_gR (pc := 1) B dJ4_pollLast_1 fl_J4_3 (fun r1 => ?_)
  refine kw_dup (pc := 4) B dJ4_pollLast_4 rfl ?_
  refine kw_astore_n (pc := 5) B dJ4_pollLast_5 rfl (by decide) (L2 := [(1, kA r1), (0, kA a0)]) rfl ?_
  refine kw_aload_n (pc := 6) B dJ4_pollLast_6 rfl 1 rfl ?_
  refine kw_gI (pc := 7) B dJ4_pollLast_7 fl_J4_20 (fun i2 => ?_)
  refine kw_aload_n (pc := 10) B dJ4_pollLast_10 rfl 0 rfl ?_
  refine kw_alen (pc := 11) B dJ4_pollLast_11 (fun i3 => ?_)
  refine kw_callS (pc := 12) B dJ4_pollLast_12 (ct_J4_dec i2 i3) q1174 q1175 q80 q1176 ⟨by decide, by decide, rfl⟩ (As := [kI i2, kI i3]) rfl (st := [kA r1]) rfl (Nat.le_of_ble_eq_true rfl) (by decide) (by decide) kw_qI (fun i4 => ?_)
  refine kw_dup (pc := 15) B dJ4_pollLast_15 rfl ?_
  refine kw_istore_n (pc := 16) B dJ4_pollLast_16 rfl (by decide) (L2 := [(2, kI i4), (1, kA r1), (0, kA a0)]) rfl ?_
  refine kw_callS (pc := 17) B dJ4_pollLast_17 (ct_J4_elementAt r1 i4) q1560 q1561 q80 q1562 ⟨by decide, by decide, rfl⟩ (As := [kA r1, kI i4]) rfl (st := []) rfl (Nat.le_of_ble_eq_true rfl) (by decide) (by decide) kw_qA (fun r5 => ?_)
  refine kw_astore_n (pc := 20) B dJ4_pollLast_20 rfl (by decide) (L2 := [(3, kA r5), (2, kI i4), (1, kA r1), (0, kA a0)]) rfl ?_
  refine kw_aload_n (pc := 21) B dJ4_pollLast_21 rfl 0 rfl ?_
  refine kw_ifnull (pc := 22) (tgt := 34) B dJ4_pollLast_22 rfl ?_ ?_
  · refine kw_aload_n (pc := 34) B dJ4_pollLast_34 rfl 0 rfl ?_
    exact kw_aret rfl B dJ4_pollLast_35 rfl
  · refine kw_aload_n (pc := 25) B dJ4_pollLast_25 rfl 2 rfl ?_
    refine kw_aload_n (pc := 26) B dJ4_pollLast_26 rfl 3 rfl ?_
    refine kw_iload_n (pc := 27) B dJ4_pollLast_27 rfl 1 rfl ?_
    refine kw_dup_x1 (pc := 28) B dJ4_pollLast_28 rfl rfl ?_
    refine kw_pI (pc := 29) B dJ4_pollLast_29 fl_J4_20 fp_J4_20 (fun h => by cases h) ?_
    refine kw_null (pc := 32) B dJ4_pollLast_32 ?_
    refine kw_aast (pc := 33) B dJ4_pollLast_33 ?_
    refine kw_aload_n (pc := 34) B dJ4_pollLast_34 rfl 0 rfl ?_
    exact kw_aret rfl B dJ4_pollLast_35 rfl
theorem ct_J4_pollLast (a0 : Option Nat) (l : Launch) : kw_Met l yJ4_pollLast (ws_ yJ4_pollLast cJ4_pollLast 4 (some (.object "java/lang/Object"))) 2 21 [kA a0] kw_eA (pm_J4_pollLast a0) := kw_met (plainFor_of_name rfl) (Nat.le_of_ble_eq_true rfl) (fun E B => wm_J4_pollLast B a0) l

/-! java/util/ArrayDeque removeLast ()Ljava/lang/Object; -/

theorem wm_J4_removeLast {E : kw_E} (B : kw_ok E cJ4_removeLast RJ4 "removeLast" 2 (some (.object "java/lang/Object")) 3 44 []) (a0 : Option Nat) : kw_W E kw_eA 0 [(0, kA a0)] [] (pm_J4_removeLast a0) := by
  unfold pm_J4_removeLast
  refine kw_aload_n (pc := 0) B dJ4_removeLast_0 rfl 0 rfl ?_
  refine kw_callV (pc := 1) B dJ4_removeLast_1 (ci := 32) rfl (ct_J4_pollLast a0) q2321 q2322 q2323 q80 q2324 ⟨by decide, by decide, rfl⟩ (As := []) rfl (st := []) rfl (Nat.le_of_ble_eq_true rfl) (by decide) (by decide) kw_qA (fun r1 => ?_)
  refine kw_astore_n (pc := 4) B dJ4_removeLast_4 rfl (by decide) (L2 := [(1, kA r1), (0, kA a0)]) rfl ?_
  refine kw_aload_n (pc := 5) B dJ4_removeLast_5 rfl 0 rfl ?_
  refine kw_ifnonnull (pc := 6) (tgt := 17) B dJ4_removeLast_6 rfl ?_ ?_
  · refine kw_aload_n (pc := 17) B dJ4_removeLast_17 rfl 0 rfl ?_
    exact kw_aret rfl B dJ4_removeLast_18 rfl
  · exact kw_fail_ok
theorem ct_J4_removeLast (a0 : Option Nat) (l : Launch) : kw_Met l yJ4_removeLast (ws_ yJ4_removeLast cJ4_removeLast 2 (some (.object "java/lang/Object"))) 3 44 [kA a0] kw_eA (pm_J4_removeLast a0) := kw_met (plainFor_of_name rfl) (Nat.le_of_ble_eq_true rfl) (fun E B => wm_J4_removeLast B a0) l

/-! RosaryCarvers undo ()I -/

theorem wm_X0_undo {E : kw_E} (B : kw_ok E cX0_undo RX0 "undo" 1 (some .int) 4 65 []) (a0 : Option Nat) : kw_W E kw_eI 0 [(0, kA a0)] [] (pm_X0_undo a0) := by
  unfold pm_X0_undo
  refine kw_aload_n (pc := 0) B dX0_undo_0 rfl 0 rfl ?_
  refine kw_gR (pc := 1) B dX0_undo_1 fl_X0_24 (fun r1 => ?_)
  refine kw_callV (pc := 4) B dX0_undo_4 (ci := 32) rfl (ct_J4_isEmpty r1) q2313 q2314 q2315 q80 q2316 ⟨by decide, by decide, rfl⟩ (As := []) rfl (st := []) rfl (Nat.le_of_ble_eq_true rfl) (by decide) (by decide) kw_qI (fun i2 => ?_)
  refine kw_if_eq (pc := 7) (tgt := 13) B dX0_undo_7 rfl ?_ ?_
  · refine kw_aload_n (pc := 13) B dX0_undo_13 rfl 0 rfl ?_
    refine kw_aload_n (pc := 14) B dX0_undo_14 rfl 0 rfl ?_
    refine kw_gR (pc := 15) B dX0_undo_15 fl_X0_24 (fun r3 => ?_)
    refine kw_callV (pc := 18) B dX0_undo_18 (ci := 32) rfl (ct_J4_removeLast r3) q2317 q2318 q2319 q80 q2320 ⟨by decide, by decide, rfl⟩ (As := []) rfl (st := [kA a0]) rfl (Nat.le_of_ble_eq_true rfl) (by decide) (by decide) kw_qA (fun r4 => ?_)
    refine kw_cast_ok (pc := 21) B dX0_undo_21 q140 cs_RosaryCarvers_Shop ?_
    refine kw_pR (pc := 24) B dX0_undo_24 fl_X0_17 fp_X0_17 (fun h => by cases h) rfl ?_
    refine kw_aload_n (pc := 27) B dX0_undo_27 rfl 0 rfl ?_
    refine kw_gR (pc := 28) B dX0_undo_28 fl_X0_24 (fun r6 => ?_)
    refine kw_callV (pc := 31) B dX0_undo_31 (ci := 32) rfl (ct_J4_size r6) q1942 q952 q953 q80 q954 ⟨by decide, by decide, rfl⟩ (As := []) rfl (st := []) rfl (Nat.le_of_ble_eq_true rfl) (by decide) (by decide) kw_qI (fun i7 => ?_)
    exact kw_iret B dX0_undo_34 rfl
  · refine kw_bipush (pc := 10) B dX0_undo_10 (v := (-3 : Int32)) rfl ?_
    exact kw_iret B dX0_undo_12 rfl
theorem ct_X0_undo (a0 : Option Nat) (l : Launch) : kw_Met l yX0_undo (ws_ yX0_undo cX0_undo 1 (some .int)) 4 65 [kA a0] kw_eI (pm_X0_undo a0) := kw_met (plainFor_of_name rfl) (Nat.le_of_ble_eq_true rfl) (fun E B => wm_X0_undo B a0) l

/-! RosaryCarversModel undo ()I -/

theorem wm_X3_undo {E : kw_E} (B : kw_ok E cX3_undo RX3 "undo" 1 (some .int) 2 25 []) (a0 : Option Nat) : kw_W E kw_eI 0 [(0, kA a0)] [] (pm_X3_undo a0) := by
  unfold pm_X3_undo
  refine kw_aload_n (pc := 0) B dX3_undo_0 rfl 0 rfl ?_
  refine kw_gI (pc := 1) B dX3_undo_1 fl_X3_67 (fun i1 => ?_)
  refine kw_if_ne (pc := 4) (tgt := 10) B dX3_undo_4 rfl ?_ ?_
  · refine kw_aload_n (pc := 10) B dX3_undo_10 rfl 0 rfl ?_
    refine kw_dup (pc := 11) B dX3_undo_11 rfl ?_
    refine kw_gI (pc := 12) B dX3_undo_12 fl_X3_67 (fun i2 => ?_)
    refine kw_iconst (pc := 15) B dX3_undo_15 (v := (1 : Int32)) rfl ?_
    refine kw_isub (pc := 16) B dX3_undo_16 ?_
    refine kw_pI (pc := 17) B dX3_undo_17 fl_X3_67 fp_X3_67 (fun h => by cases h) ?_
    refine kw_aload_n (pc := 20) B dX3_undo_20 rfl 0 rfl ?_
    refine kw_gR (pc := 21) B dX3_undo_21 fl_X3_19 (fun r4 => ?_)
    refine kw_sipush (pc := 24) B dX3_undo_24 (v := (2188 : Int32)) rfl ?_
    refine kw_aload_n (pc := 27) B dX3_undo_27 rfl 0 rfl ?_
    refine kw_gI (pc := 28) B dX3_undo_28 fl_X3_67 (fun i5 => ?_)
    refine kw_imul (pc := 31) B dX3_undo_31 ?_
    refine kw_aload_n (pc := 32) B dX3_undo_32 rfl 0 rfl ?_
    refine kw_gR (pc := 33) B dX3_undo_33 fl_X3_9 (fun r6 => ?_)
    refine kw_iconst (pc := 36) B dX3_undo_36 (v := (0 : Int32)) rfl ?_
    refine kw_sipush (pc := 37) B dX3_undo_37 (v := (2188 : Int32)) rfl ?_
    refine kw_callS (pc := 40) B dX3_undo_40 (ct_X3_copies r4 ((2188 : Int32) * i5) r6 (0 : Int32) (2188 : Int32)) q2422 q2423 q81 q2424 ⟨by decide, by decide, rfl⟩ (As := [kA r4, kI ((2188 : Int32) * i5), kA r6, kI (0 : Int32), kI (2188 : Int32)]) rfl (st := []) rfl (Nat.le_of_ble_eq_true rfl) (by decide) (by decide) kw_qV (fun _ => ?_)
    refine kw_aload_n (pc := 43) B dX3_undo_43 rfl 0 rfl ?_
    refine kw_gI (pc := 44) B dX3_undo_44 fl_X3_67 (fun i7 => ?_)
    exact kw_iret B dX3_undo_47 rfl
  · refine kw_bipush (pc := 7) B dX3_undo_7 (v := (-3 : Int32)) rfl ?_
    exact kw_iret B dX3_undo_9 rfl
theorem ct_X3_undo (a0 : Option Nat) (l : Launch) : kw_Met l yX3_undo (ws_ yX3_undo cX3_undo 1 (some .int)) 2 25 [kA a0] kw_eI (pm_X3_undo a0) := kw_met (plainFor_of_name rfl) (Nat.le_of_ble_eq_true rfl) (fun E B => wm_X3_undo B a0) l

/-! RosaryCarvers save ()I -/
theorem fl_X0_487 : kw_fl RX0 487 "RosaryCarvers" [(0, 1)] := (kw_fl_c (C := RX0) (T := TX0) (N := 8) rfl (by decide) in_X0 q305 (Or.inl rfl) kw_fl_nil)
theorem fp_X0_487 : kw_fp RX0 (.object "RosaryCarvers$Shop") false [(0, 1)] := (kw_fp_c (C := RX0) (T := TX0) (N := 8) (ty0 := tyX0) rfl tyX0_ok nmX0 rfl (fun h => by cases h) (by decide) rfl kw_fp_nil)
theorem wm_X0_save {E : kw_E} (B : kw_ok E cX0_save RX0 "save" 1 (some .int) 8 201 []) (a0 : Option Nat) : kw_W E kw_eI 0 [(0, kA a0)] [] (pm_X0_save a0) := by
  unfold pm_X0_save
  refine kw_aload_n (pc := 0) B dX0_save_0 rfl 0 rfl ?_
  refine kw_new (pc := 1) B dX0_save_1 (ci := 1) (N := 17) rfl in_X1 tyX1_ok kz_Shop_ok q140 q141 q74 (fun r1 => ?_)
  refine kw_dup (pc := 4) B dX0_save_4 rfl ?_
  refine kw_aload_n (pc := 5) B dX0_save_5 rfl 0 rfl ?_
  refine kw_gR (pc := 6) B dX0_save_6 fl_X0_17 (fun r2 => ?_)
  refine kw_callI (pc := 9) B dX0_save_9 (ct_X1_init_2 r1 r2) q2329 q370 q74 q371 rfl ⟨by decide, by decide, rfl⟩ (As := [kA r2]) rfl (st := [kA r1, kA a0]) rfl (Nat.le_of_ble_eq_true rfl) (by decide) (by decide) kw_qV (fun _ => ?_)
  refine kw_pR (pc := 12) B dX0_save_12 fl_X0_487 fp_X0_487 (fun h => by cases h) rfl ?_
  refine kw_aload_n (pc := 15) B dX0_save_15 rfl 0 rfl ?_
  refine kw_gR (pc := 16) B dX0_save_16 fl_X0_17 (fun r4 => ?_)
  refine kw_gRN (pc := 19) B dX0_save_19 fl_X0_127 (fun r5 => ?_)
  refine kw_callV (pc := 22) B dX0_save_22 (ci := 30) rfl (ct_J2_size r5) q1876 q406 q407 q77 q408 ⟨by decide, by decide, rfl⟩ (As := []) rfl (st := []) rfl (Nat.le_of_ble_eq_true rfl) (by decide) (by decide) kw_qI (fun i6 => ?_)
  exact kw_iret B dX0_save_25 rfl
theorem ct_X0_save (a0 : Option Nat) (l : Launch) : kw_Met l yX0_save (ws_ yX0_save cX0_save 1 (some .int)) 8 201 [kA a0] kw_eI (pm_X0_save a0) := kw_met (plainFor_of_name rfl) (Nat.le_of_ble_eq_true rfl) (fun E B => wm_X0_save B a0) l

/-! RosaryCarversModel save ()I -/
theorem fl_X3_289 : kw_fl RX3 289 "RosaryCarversModel" [(3, 5)] := (kw_fl_c (C := RX3) (T := TX3) (N := 18) rfl (by decide) in_X3 q2361 (Or.inl rfl) kw_fl_nil)
theorem fp_X3_289 : kw_fp RX3 .boolean false [(3, 5)] := (kw_fp_c (C := RX3) (T := TX3) (N := 18) (ty0 := tyX3) rfl tyX3_ok nmX3 rfl (fun h => by cases h) (by decide) rfl kw_fp_nil)
theorem wm_X3_save {E : kw_E} (B : kw_ok E cX3_save RX3 "save" 1 (some .int) 2 25 []) (a0 : Option Nat) : kw_W E kw_eI 0 [(0, kA a0)] [] (pm_X3_save a0) := by
  unfold pm_X3_save
  refine kw_aload_n (pc := 0) B dX3_save_0 rfl 0 rfl ?_
  refine kw_gR (pc := 1) B dX3_save_1 fl_X3_9 (fun r1 => ?_)
  refine kw_iconst (pc := 4) B dX3_save_4 (v := (0 : Int32)) rfl ?_
  refine kw_aload_n (pc := 5) B dX3_save_5 rfl 0 rfl ?_
  refine kw_gR (pc := 6) B dX3_save_6 fl_X3_16 (fun r2 => ?_)
  refine kw_iconst (pc := 9) B dX3_save_9 (v := (0 : Int32)) rfl ?_
  refine kw_sipush (pc := 10) B dX3_save_10 (v := (2188 : Int32)) rfl ?_
  refine kw_callS (pc := 13) B dX3_save_13 (ct_X3_copies r1 (0 : Int32) r2 (0 : Int32) (2188 : Int32)) q2422 q2423 q81 q2424 ⟨by decide, by decide, rfl⟩ (As := [kA r1, kI (0 : Int32), kA r2, kI (0 : Int32), kI (2188 : Int32)]) rfl (st := []) rfl (Nat.le_of_ble_eq_true rfl) (by decide) (by decide) kw_qV (fun _ => ?_)
  refine kw_aload_n (pc := 16) B dX3_save_16 rfl 0 rfl ?_
  refine kw_iconst (pc := 17) B dX3_save_17 (v := (1 : Int32)) rfl ?_
  refine kw_pI (pc := 18) B dX3_save_18 fl_X3_289 fp_X3_289 (fun h => by cases h) ?_
  refine kw_aload_n (pc := 21) B dX3_save_21 rfl 0 rfl ?_
  refine kw_gR (pc := 22) B dX3_save_22 fl_X3_9 (fun r4 => ?_)
  refine kw_bipush (pc := 25) B dX3_save_25 (v := (9 : Int32)) rfl ?_
  refine kw_iald (pc := 27) B dX3_save_27 (fun i5 => ?_)
  exact kw_iret B dX3_save_28 rfl
theorem ct_X3_save (a0 : Option Nat) (l : Launch) : kw_Met l yX3_save (ws_ yX3_save cX3_save 1 (some .int)) 2 25 [kA a0] kw_eI (pm_X3_save a0) := kw_met (plainFor_of_name rfl) (Nat.le_of_ble_eq_true rfl) (fun E B => wm_X3_save B a0) l

/-! java/util/ArrayDeque circularClear ([Ljava/lang/Object;II)V -/

theorem wb_J4_circularClear_12 {E : kw_E} (B : kw_ok E cJ4_circularClear RJ4 "circularClear" 4 none 1 0 [])  : ∀ (n : Nat) (x0 : Option Nat) (x1 : Int32) (x2 : Int32) (x3 : Int32), kw_W E kw_eV 12 [(0, kA x0), (1, kI x1), (2, kI x2), (3, kI x3)] [] (pb_J4_circularClear_12  n x0 x1 x2 x3) := by
  intro n
  induction n with
  | zero =>
    intro x0 x1 x2 x3
    exact kw_fail_ok
  | succ n ih =>
    intro x0 x1 x2 x3
    show kw_W E kw_eV 12 [(0, kA x0), (1, kI x1), (2, kI x2), (3, kI x3)] [] (
if x3 ≤ x1 then
(if ¬ x3 = x2 then
(pb_J4_circularClear_12 n x0 (0 : Int32) x2 x2)
else
(km_pure ()))
else
(km_bind (km_stR kn_String x0 x1 none) fun _ =>
pb_J4_circularClear_12 n x0 (x1 + (1 : Int32)) x2 x3))
    refine kw_iload_n (pc := 12) B dJ4_circularClear_12 rfl 1 rfl ?_
    refine kw_iload_n (pc := 13) B dJ4_circularClear_13 rfl 3 rfl ?_
    refine kw_icmp_ge (pc := 14) (tgt := 27) B dJ4_circularClear_14 rfl ?_ ?_
    · refine kw_iload_n (pc := 27) B dJ4_circularClear_27 rfl 3 rfl ?_
      refine kw_iload_n (pc := 28) B dJ4_circularClear_28 rfl 2 rfl ?_
      refine kw_icmp_ne (pc := 29) (tgt := 35) B dJ4_circularClear_29 rfl ?_ ?_
      · refine kw_iconst (pc := 35) B dJ4_circularClear_35 (v := (0 : Int32)) rfl ?_
        refine kw_istore_n (pc := 36) B dJ4_circularClear_36 rfl (by decide) (L2 := [(1, kI (0 : Int32)), (0, kA x0), (2, kI x2), (3, kI x3)]) rfl ?_
        refine kw_iload_n (pc := 37) B dJ4_circularClear_37 rfl 2 rfl ?_
        refine kw_istore_n (pc := 38) B dJ4_circularClear_38 rfl (by decide) (L2 := [(3, kI x2), (1, kI (0 : Int32)), (0, kA x0), (2, kI x2)]) rfl ?_
        refine kw_goto (pc := 39) (tgt := 12) B dJ4_circularClear_39 rfl ?_
        exact kw_pick [2, 1, 3, 0] rfl (ih x0 (0 : Int32) x2 x2)
      · refine kw_goto (pc := 32) (tgt := 42) B dJ4_circularClear_32 rfl ?_
        exact kw_vret B dJ4_circularClear_42 rfl
    · refine kw_aload_n (pc := 17) B dJ4_circularClear_17 rfl 0 rfl ?_
      refine kw_iload_n (pc := 18) B dJ4_circularClear_18 rfl 1 rfl ?_
      refine kw_null (pc := 19) B dJ4_circularClear_19 ?_
      refine kw_aast (pc := 20) B dJ4_circularClear_20 ?_
      refine kw_iinc (pc := 21) B dJ4_circularClear_21 1 rfl (w := x1 + (1 : Int32)) rfl (by decide) (L2 := [(1, kI (x1 + (1 : Int32))), (0, kA x0), (2, kI x2), (3, kI x3)]) rfl ?_
      refine kw_goto (pc := 24) (tgt := 12) B dJ4_circularClear_24 rfl ?_
      exact kw_pick [1, 0, 2, 3] rfl (ih x0 (x1 + (1 : Int32)) x2 x3)
theorem wb_J4_circularClear_11 {E : kw_E} (B : kw_ok E cJ4_circularClear RJ4 "circularClear" 4 none 1 0 [])  (x0 : Option Nat) (x1 : Int32) (x2 : Int32) (s0 : Int32) : kw_W E kw_eV 11 [(0, kA x0), (1, kI x1), (2, kI x2)] [kI s0] (pb_J4_circularClear_11  x0 x1 x2 s0) := by
  unfold pb_J4_circularClear_11
  refine kw_istore_n (pc := 11) B dJ4_circularClear_11 rfl (by decide) (L2 := [(3, kI s0), (0, kA x0), (1, kI x1), (2, kI x2)]) rfl ?_
  exact kw_pick [1, 2, 3, 0] rfl (wb_J4_circularClear_12 B km_fuel x0 x1 x2 s0)
theorem wm_J4_circularClear {E : kw_E} (B : kw_ok E cJ4_circularClear RJ4 "circularClear" 4 none 1 0 []) (a0 : Option Nat) (a1 : Int32) (a2 : Int32) : kw_W E kw_eV 0 [(0, kA a0), (1, kI a1), (2, kI a2)] [] (pm_J4_circularClear a0 a1 a2) := by
  unfold pm_J4_circularClear
  refine kw_iload_n (pc := 0) B dJ4_circularClear_0 rfl 1 rfl ?_
  refine kw_iload_n (pc := 1) B dJ4_circularClear_1 rfl 2 rfl ?_
  refine kw_icmp_gt (pc := 2) (tgt := 9) B dJ4_circularClear_2 rfl ?_ ?_
  · refine kw_aload_n (pc := 9) B dJ4_circularClear_9 rfl 0 rfl ?_
    refine kw_alen (pc := 10) B dJ4_circularClear_10 (fun i1 => ?_)
    exact kw_pick [0, 1, 2] rfl (wb_J4_circularClear_11 B a0 a1 a2 i1)
  · refine kw_iload_n (pc := 5) B dJ4_circularClear_5 rfl 2 rfl ?_
    refine kw_goto (pc := 6) (tgt := 11) B dJ4_circularClear_6 rfl ?_
    exact kw_pick [0, 1, 2] rfl (wb_J4_circularClear_11 B a0 a1 a2 a2)
theorem ct_J4_circularClear (a0 : Option Nat) (a1 : Int32) (a2 : Int32) (l : Launch) : kw_Met l yJ4_circularClear (ws_ yJ4_circularClear cJ4_circularClear 4 none) 1 0 [kA a0, kI a1, kI a2] kw_eV (pm_J4_circularClear a0 a1 a2) := kw_met (plainFor_of_name rfl) (Nat.le_of_ble_eq_true rfl) (fun E B => wm_J4_circularClear B a0 a1 a2) l

/-! java/util/ArrayDeque clear ()V -/

theorem wm_J4_clear {E : kw_E} (B : kw_ok E cJ4_clear RJ4 "clear" 1 none 2 23 []) (a0 : Option Nat) : kw_W E kw_eV 0 [(0, kA a0)] [] (pm_J4_clear a0) := by
  unfold pm_J4_clear
  refine kw_aload_n (pc := 0) B dJ4_clear_0 rfl 0 rfl ?_
  refine kw_gR (pc := 1) B dJ4_clear_1 fl_J4_3 (fun r1 => ?_)
  refine kw_aload_n (pc := 4) B dJ4_clear_4 rfl 0 rfl ?_
  refine kw_gI (pc := 5) B dJ4_clear_5 fl_J4_24 (fun i2 => ?_)
  refine kw_aload_n (pc := 8) B dJ4_clear_8 rfl 0 rfl ?_
  refine kw_gI (pc := 9) B dJ4_clear_9 fl_J4_20 (fun i3 => ?_)
  refine kw_callS (pc := 12) B dJ4_clear_12 (ct_J4_circularClear r1 i2 i3) q2338 q2339 q80 q2340 ⟨by decide, by decide, rfl⟩ (As := [kA r1, kI i2, kI i3]) rfl (st := []) rfl (Nat.le_of_ble_eq_true rfl) (by decide) (by decide) kw_qV (fun _ => ?_)
  refine kw_aload_n (pc := 15) B dJ4_clear_15 rfl 0 rfl ?_
  refine kw_aload_n (pc := 16) B dJ4_clear_16 rfl 0 rfl ?_
  refine kw_iconst (pc := 17) B dJ4_clear_17 (v := (0 : Int32)) rfl ?_
  refine kw_dup_x1 (pc := 18) B dJ4_clear_18 rfl rfl ?_
  refine kw_pI (pc := 19) B dJ4_clear_19 fl_J4_20 fp_J4_20 (fun h => by cases h) ?_
  refine kw_pI (pc := 22) B dJ4_clear_22 fl_J4_24 fp_J4_24 (fun h => by cases h) ?_
  exact kw_vret B dJ4_clear_25 rfl
theorem ct_J4_clear (a0 : Option Nat) (l : Launch) : kw_Met l yJ4_clear (ws_ yJ4_clear cJ4_clear 1 none) 2 23 [kA a0] kw_eV (pm_J4_clear a0) := kw_met (plainFor_of_name rfl) (Nat.le_of_ble_eq_true rfl) (fun E B => wm_J4_clear B a0) l

/-! RosaryCarvers restore ()I -/

theorem wm_X0_restore {E : kw_E} (B : kw_ok E cX0_restore RX0 "restore" 1 (some .int) 8 201 []) (a0 : Option Nat) : kw_W E kw_eI 0 [(0, kA a0)] [] (pm_X0_restore a0) := by
  unfold pm_X0_restore
  refine kw_aload_n (pc := 0) B dX0_restore_0 rfl 0 rfl ?_
  refine kw_gR (pc := 1) B dX0_restore_1 fl_X0_487 (fun r1 => ?_)
  refine kw_ifnonnull (pc := 4) (tgt := 10) B dX0_restore_4 rfl ?_ ?_
  · refine kw_aload_n (pc := 10) B dX0_restore_10 rfl 0 rfl ?_
    refine kw_new (pc := 11) B dX0_restore_11 (ci := 1) (N := 17) rfl in_X1 tyX1_ok kz_Shop_ok q140 q141 q74 (fun r2 => ?_)
    refine kw_dup (pc := 14) B dX0_restore_14 rfl ?_
    refine kw_aload_n (pc := 15) B dX0_restore_15 rfl 0 rfl ?_
    refine kw_gR (pc := 16) B dX0_restore_16 fl_X0_487 (fun r3 => ?_)
    refine kw_callI (pc := 19) B dX0_restore_19 (ct_X1_init_2 r2 r3) q2329 q370 q74 q371 rfl ⟨by decide, by decide, rfl⟩ (As := [kA r3]) rfl (st := [kA r2, kA a0]) rfl (Nat.le_of_ble_eq_true rfl) (by decide) (by decide) kw_qV (fun _ => ?_)
    refine kw_pR (pc := 22) B dX0_restore_22 fl_X0_17 fp_X0_17 (fun h => by cases h) rfl ?_
    refine kw_aload_n (pc := 25) B dX0_restore_25 rfl 0 rfl ?_
    refine kw_gR (pc := 26) B dX0_restore_26 fl_X0_24 (fun r5 => ?_)
    refine kw_callV (pc := 29) B dX0_restore_29 (ci := 32) rfl (ct_J4_clear r5) q2334 q2335 q2336 q80 q2337 ⟨by decide, by decide, rfl⟩ (As := []) rfl (st := []) rfl (Nat.le_of_ble_eq_true rfl) (by decide) (by decide) kw_qV (fun _ => ?_)
    refine kw_aload_n (pc := 32) B dX0_restore_32 rfl 0 rfl ?_
    refine kw_gR (pc := 33) B dX0_restore_33 fl_X0_17 (fun r6 => ?_)
    refine kw_gRN (pc := 36) B dX0_restore_36 fl_X0_127 (fun r7 => ?_)
    refine kw_callV (pc := 39) B dX0_restore_39 (ci := 30) rfl (ct_J2_size r7) q1876 q406 q407 q77 q408 ⟨by decide, by decide, rfl⟩ (As := []) rfl (st := []) rfl (Nat.le_of_ble_eq_true rfl) (by decide) (by decide) kw_qI (fun i8 => ?_)
    exact kw_iret B dX0_restore_42 rfl
  · refine kw_bipush (pc := 7) B dX0_restore_7 (v := (-3 : Int32)) rfl ?_
    exact kw_iret B dX0_restore_9 rfl
theorem ct_X0_restore (a0 : Option Nat) (l : Launch) : kw_Met l yX0_restore (ws_ yX0_restore cX0_restore 1 (some .int)) 8 201 [kA a0] kw_eI (pm_X0_restore a0) := kw_met (plainFor_of_name rfl) (Nat.le_of_ble_eq_true rfl) (fun E B => wm_X0_restore B a0) l
