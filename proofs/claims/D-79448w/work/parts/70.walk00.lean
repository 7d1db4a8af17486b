set_option maxRecDepth 100000
/-! java/util/AbstractCollection <init> ()V -/

theorem wm_J0_init {E : kw_E} (B : kw_ok E cJ0_init RJ0 "<init>" 1 none 1 24 []) (a0 : Option Nat) : kw_W E kw_eV 0 [(0, kA a0)] [] (pm_J0_init a0) := by
  unfold pm_J0_init
  refine kw_aload_n (pc := 0) B dJ0_init_0 rfl 0 rfl ?_
  refine kw_objInit (pc := 1) B dJ0_init_1 q157 q138 q139 (by decide) (Nat.le_of_ble_eq_true rfl) ?_
  exact kw_vret B dJ0_init_4 rfl
theorem ct_J0_init (a0 : Option Nat) (l : Launch) : kw_Met l yJ0_init (ws_ yJ0_init cJ0_init 1 none) 1 24 [kA a0] kw_eV (pm_J0_init a0) := kw_met (plainFor_of_name rfl) (Nat.le_of_ble_eq_true rfl) (fun E B => wm_J0_init B a0) l

/-! java/util/AbstractList <init> ()V -/
theorem fl_J1_7 : kw_fl RJ1 7 "java/util/AbstractList" [(30, 0)] := (kw_fl_c (C := RJ2) (T := TJ2) (N := 3) rfl (by decide) in_J2 q164 (Or.inl rfl) kw_fl_nil)
theorem fp_J1_7 : kw_fp RJ1 .int false [(30, 0)] := (kw_fp_c (C := RJ2) (T := TJ2) (N := 3) (ty0 := tyJ2) rfl tyJ2_ok nmJ2 rfl (fun h => by cases h) (by decide) rfl kw_fp_nil)
theorem wm_J1_init {E : kw_E} (B : kw_ok E cJ1_init RJ1 "<init>" 1 none 2 44 []) (a0 : Option Nat) : kw_W E kw_eV 0 [(0, kA a0)] [] (pm_J1_init a0) := by
  unfold pm_J1_init
  refine kw_aload_n (pc := 0) B dJ1_init_0 rfl 0 rfl ?_
  refine kw_callI (pc := 1) B dJ1_init_1 (ct_J0_init a0) q154 q155 q75 q156 rfl ⟨by decide, by decide, rfl⟩ (As := []) rfl (st := []) rfl (Nat.le_of_ble_eq_true rfl) (by decide) (by decide) kw_qV (fun _ => ?_)
  refine kw_aload_n (pc := 4) B dJ1_init_4 rfl 0 rfl ?_
  refine kw_iconst (pc := 5) B dJ1_init_5 (v := (0 : Int32)) rfl ?_
  refine kw_pI (pc := 6) B dJ1_init_6 fl_J1_7 fp_J1_7 (fun h => by cases h) ?_
  exact kw_vret B dJ1_init_9 rfl
theorem ct_J1_init (a0 : Option Nat) (l : Launch) : kw_Met l yJ1_init (ws_ yJ1_init cJ1_init 1 none) 2 44 [kA a0] kw_eV (pm_J1_init a0) := kw_met (plainFor_of_name rfl) (Nat.le_of_ble_eq_true rfl) (fun E B => wm_J1_init B a0) l

/-! java/util/ArrayList <init> ()V -/
theorem fl_J2_9 : kw_fl RJ2 9 "java/util/ArrayList" [(30, 1)] := (kw_fl_c (C := RJ2) (T := TJ2) (N := 3) rfl (by decide) in_J2 q160 (Or.inl rfl) kw_fl_nil)
theorem fp_J2_9 : kw_fp RJ2 (.array (.object "java/lang/Object")) false [(30, 1)] := (kw_fp_c (C := RJ2) (T := TJ2) (N := 3) (ty0 := tyJ2) rfl tyJ2_ok nmJ2 rfl (fun h => by cases h) (by decide) rfl kw_fp_nil)
theorem wm_J2_init {E : kw_E} (B : kw_ok E cJ2_init RJ2 "<init>" 1 none 3 64 []) (a0 : Option Nat) : kw_W E kw_eV 0 [(0, kA a0)] [] (pm_J2_init a0) := by
  unfold pm_J2_init
  refine kw_aload_n (pc := 0) B dJ2_init_0 rfl 0 rfl ?_
  refine kw_callI (pc := 1) B dJ2_init_1 (ct_J1_init a0) q151 q152 q76 q153 rfl ⟨by decide, by decide, rfl⟩ (As := []) rfl (st := []) rfl (Nat.le_of_ble_eq_true rfl) (by decide) (by decide) kw_qV (fun _ => ?_)
  refine kw_aload_n (pc := 4) B dJ2_init_4 rfl 0 rfl ?_
  refine kw_getsR (pc := 5) B dJ2_init_5 (i := 0) (C := "java/util/ArrayList") (n := "DEFAULTCAPACITY_EMPTY_ELEMENTDATA") (dd := "[Ljava/lang/Object;") (by decide) q158 rfl (fun r1 => ?_)
  refine kw_pR (pc := 8) B dJ2_init_8 fl_J2_9 fp_J2_9 (fun h => by cases h) rfl ?_
  exact kw_vret B dJ2_init_11 rfl
theorem ct_J2_init (a0 : Option Nat) (l : Launch) : kw_Met l yJ2_init (ws_ yJ2_init cJ2_init 1 none) 3 64 [kA a0] kw_eV (pm_J2_init a0) := kw_met (plainFor_of_name rfl) (Nat.le_of_ble_eq_true rfl) (fun E B => wm_J2_init B a0) l

/-! RosaryCarvers$Beads <init> ()V -/
theorem fl_X2_10 : kw_fl RX2 10 "RosaryCarvers$Beads" [(2, 0), (7, 0), (12, 0)] := (kw_fl_c (C := RX2) (T := TX2) (N := 1) rfl (by decide) in_X2 q183 (Or.inl rfl) (kw_fl_c (C := RX8) (T := TX8) (N := 4) rfl (by decide) in_X8 q183 (Or.inl rfl) (kw_fl_c (C := RX14) (T := TX14) (N := 3) rfl (by decide) in_X14 q183 (Or.inl rfl) kw_fl_nil)))
theorem fp_X2_10 : kw_fp RX2 (.object "java/util/ArrayList") true [(2, 0), (7, 0), (12, 0)] := (kw_fp_c (C := RX2) (T := TX2) (N := 1) (ty0 := tyX2) rfl tyX2_ok nmX2 rfl (fun _ => rfl) (by decide) rfl (kw_fp_c (C := RX8) (T := TX8) (N := 4) (ty0 := tyX8) rfl tyX8_ok nmX8 rfl (fun _ => rfl) (by decide) rfl (kw_fp_c (C := RX14) (T := TX14) (N := 3) (ty0 := tyX14) rfl tyX14_ok nmX14 rfl (fun _ => rfl) (by decide) rfl kw_fp_nil)))
theorem wm_X2_init {E : kw_E} (B : kw_ok E cX2_init RX2 "<init>" 1 none 4 84 []) (a0 : Option Nat) : kw_W E kw_eV 0 [(0, kA a0)] [] (pm_X2_init a0) := by
  unfold pm_X2_init
  refine kw_aload_n (pc := 0) B dX2_init_0 rfl 0 rfl ?_
  refine kw_objInit (pc := 1) B dX2_init_1 q180 q138 q139 (by decide) (Nat.le_of_ble_eq_true rfl) ?_
  refine kw_aload_n (pc := 4) B dX2_init_4 rfl 0 rfl ?_
  refine kw_new (pc := 5) B dX2_init_5 (ci := 30) (N := 3) rfl in_J2 tyJ2_ok kz_AL_ok q181 q147 q77 (fun r1 => ?_)
  refine kw_dup (pc := 8) B dX2_init_8 rfl ?_
  refine kw_callI (pc := 9) B dX2_init_9 (ct_J2_init r1) q182 q149 q77 q150 rfl ⟨by decide, by decide, rfl⟩ (As := []) rfl (st := [kA r1, kA a0]) rfl (Nat.le_of_ble_eq_true rfl) (by decide) (by decide) kw_qV (fun _ => ?_)
  refine kw_pR (pc := 12) B dX2_init_12 fl_X2_10 fp_X2_10 (fun _ => rfl) rfl ?_
  exact kw_vret B dX2_init_15 rfl
theorem ct_X2_init (a0 : Option Nat) (l : Launch) : kw_Met l yX2_init (ws_ yX2_init cX2_init 1 none) 4 84 [kA a0] kw_eV (pm_X2_init a0) := kw_met (plainFor_of_name rfl) (Nat.le_of_ble_eq_true rfl) (fun E B => wm_X2_init B a0) l

/-! java/util/BitSet wordIndex (I)I -/

theorem wm_J3_wordIndex {E : kw_E} (B : kw_ok E cJ3_wordIndex RJ3 "wordIndex" 1 (some .int) 1 0 []) (a0 : Int32) : kw_W E kw_eI 0 [(0, kI a0)] [] (pm_J3_wordIndex a0) := by
  unfold pm_J3_wordIndex
  refine kw_iload_n (pc := 0) B dJ3_wordIndex_0 rfl 0 rfl ?_
  refine kw_bipush (pc := 1) B dJ3_wordIndex_1 (v := (6 : Int32)) rfl ?_
  refine kw_ishr (pc := 3) B dJ3_wordIndex_3 ?_
  exact kw_iret B dJ3_wordIndex_4 rfl
theorem ct_J3_wordIndex (a0 : Int32) (l : Launch) : kw_Met l yJ3_wordIndex (ws_ yJ3_wordIndex cJ3_wordIndex 1 (some .int)) 1 0 [kI a0] kw_eI (pm_J3_wordIndex a0) := kw_met (plainFor_of_name rfl) (Nat.le_of_ble_eq_true rfl) (fun E B => wm_J3_wordIndex B a0) l

/-! java/util/BitSet initWords (I)V -/
theorem fl_J3_11 : kw_fl RJ3 11 "java/util/BitSet" [(31, 0)] := (kw_fl_c (C := RJ3) (T := TJ3) (N := 3) rfl (by decide) in_J3 q202 (Or.inl rfl) kw_fl_nil)
theorem fp_J3_11 : kw_fp RJ3 (.array .long) false [(31, 0)] := (kw_fp_c (C := RJ3) (T := TJ3) (N := 3) (ty0 := tyJ3) rfl tyJ3_ok nmJ3 rfl (fun h => by cases h) (by decide) rfl kw_fp_nil)
theorem wm_J3_initWords {E : kw_E} (B : kw_ok E cJ3_initWords RJ3 "initWords" 2 none 2 20 []) (a0 : Option Nat) (a1 : Int32) : kw_W E kw_eV 0 [(0, kA a0), (1, kI a1)] [] (pm_J3_initWords a0 a1) := by
  unfold pm_J3_initWords
  refine kw_aload_n (pc := 0) B dJ3_initWords_0 rfl 0 rfl ?_
  refine kw_iload_n (pc := 1) B dJ3_initWords_1 rfl 1 rfl ?_
  refine kw_iconst (pc := 2) B dJ3_initWords_2 (v := (1 : Int32)) rfl ?_
  refine kw_isub (pc := 3) B dJ3_initWords_3 ?_
  refine kw_callS (pc := 4) B dJ3_initWords_4 (ct_J3_wordIndex (a1 - (1 : Int32))) q199 q200 q79 q201 ⟨by decide, by decide, rfl⟩ (As := [kI (a1 - (1 : Int32))]) rfl (st := [kA a0]) rfl (Nat.le_of_ble_eq_true rfl) (by decide) (by decide) kw_qI (fun i1 => ?_)
  refine kw_iconst (pc := 7) B dJ3_initWords_7 (v := (1 : Int32)) rfl ?_
  refine kw_iadd (pc := 8) B dJ3_initWords_8 ?_
  refine kw_newaJ (pc := 9) B dJ3_initWords_9 q212 (fun r2 => ?_)
  refine kw_pR (pc := 11) B dJ3_initWords_11 fl_J3_11 fp_J3_11 (fun h => by cases h) rfl ?_
  exact kw_vret B dJ3_initWords_14 rfl
theorem ct_J3_initWords (a0 : Option Nat) (a1 : Int32) (l : Launch) : kw_Met l yJ3_initWords (ws_ yJ3_initWords cJ3_initWords 2 none) 2 20 [kA a0, kI a1] kw_eV (pm_J3_initWords a0 a1) := kw_met (plainFor_of_name rfl) (Nat.le_of_ble_eq_true rfl) (fun E B => wm_J3_initWords B a0 a1) l

/-! java/util/BitSet <init> ()V -/
theorem fl_J3_7 : kw_fl RJ3 7 "java/util/BitSet" [(31, 1)] := (kw_fl_c (C := RJ3) (T := TJ3) (N := 3) rfl (by decide) in_J3 q203 (Or.inl rfl) kw_fl_nil)
theorem fp_J3_7 : kw_fp RJ3 .int false [(31, 1)] := (kw_fp_c (C := RJ3) (T := TJ3) (N := 3) (ty0 := tyJ3) rfl tyJ3_ok nmJ3 rfl (fun h => by cases h) (by decide) rfl kw_fp_nil)
theorem fl_J3_24 : kw_fl RJ3 24 "java/util/BitSet" [(31, 2)] := (kw_fl_c (C := RJ3) (T := TJ3) (N := 3) rfl (by decide) in_J3 q204 (Or.inl rfl) kw_fl_nil)
theorem fp_J3_24 : kw_fp RJ3 .boolean false [(31, 2)] := (kw_fp_c (C := RJ3) (T := TJ3) (N := 3) (ty0 := tyJ3) rfl tyJ3_ok nmJ3 rfl (fun h => by cases h) (by decide) rfl kw_fp_nil)
theorem wm_J3_init {E : kw_E} (B : kw_ok E cJ3_init RJ3 "<init>" 1 none 3 41 []) (a0 : Option Nat) : kw_W E kw_eV 0 [(0, kA a0)] [] (pm_J3_init a0) := by
  unfold pm_J3_init
  refine kw_aload_n (pc := 0) B dJ3_init_0 rfl 0 rfl ?_
  refine kw_objInit (pc := 1) B dJ3_init_1 q194 q138 q139 (by decide) (Nat.le_of_ble_eq_true rfl) ?_
  refine kw_aload_n (pc := 4) B dJ3_init_4 rfl 0 rfl ?_
  refine kw_iconst (pc := 5) B dJ3_init_5 (v := (0 : Int32)) rfl ?_
  refine kw_pI (pc := 6) B dJ3_init_6 fl_J3_7 fp_J3_7 (fun h => by cases h) ?_
  refine kw_aload_n (pc := 9) B dJ3_init_9 rfl 0 rfl ?_
  refine kw_iconst (pc := 10) B dJ3_init_10 (v := (0 : Int32)) rfl ?_
  refine kw_pI (pc := 11) B dJ3_init_11 fl_J3_24 fp_J3_24 (fun h => by cases h) ?_
  refine kw_aload_n (pc := 14) B dJ3_init_14 rfl 0 rfl ?_
  refine kw_bipush (pc := 15) B dJ3_init_15 (v := (64 : Int32)) rfl ?_
  refine kw_callV (pc := 17) B dJ3_init_17 (ci := 31) rfl (ct_J3_initWords a0 (64 : Int32)) q195 q197 qs0 q79 q198 ⟨by decide, by decide, rfl⟩ (As := [kI (64 : Int32)]) rfl (st := []) rfl (Nat.le_of_ble_eq_true rfl) (by decide) (by decide) kw_qV (fun _ => ?_)
  refine kw_aload_n (pc := 20) B dJ3_init_20 rfl 0 rfl ?_
  refine kw_iconst (pc := 21) B dJ3_init_21 (v := (0 : Int32)) rfl ?_
  refine kw_pI (pc := 22) B dJ3_init_22 fl_J3_24 fp_J3_24 (fun h => by cases h) ?_
  exact kw_vret B dJ3_init_25 rfl
theorem ct_J3_init (a0 : Option Nat) (l : Launch) : kw_Met l yJ3_init (ws_ yJ3_init cJ3_init 1 none) 3 41 [kA a0] kw_eV (pm_J3_init a0) := kw_met (plainFor_of_name rfl) (Nat.le_of_ble_eq_true rfl) (fun E B => wm_J3_init B a0) l

/-! RosaryCarvers$Shop <init> ()V -/
theorem fl_X1_12 : kw_fl RX1 12 "RosaryCarvers$Shop" [(1, 0)] := (kw_fl_c (C := RX1) (T := TX1) (N := 17) rfl (by decide) in_X1 q213 (Or.inl rfl) kw_fl_nil)
theorem fp_X1_12 : kw_fp RX1 (.object "java/util/ArrayList") true [(1, 0)] := (kw_fp_c (C := RX1) (T := TX1) (N := 17) (ty0 := tyX1) rfl tyX1_ok nmX1 rfl (fun _ => rfl) (by decide) rfl kw_fp_nil)
theorem fl_X1_18 : kw_fl RX1 18 "RosaryCarvers$Shop" [(1, 1)] := (kw_fl_c (C := RX1) (T := TX1) (N := 17) rfl (by decide) in_X1 q215 (Or.inl rfl) kw_fl_nil)
theorem fp_X1_18 : kw_fp RX1 (.object "java/util/ArrayList") true [(1, 1)] := (kw_fp_c (C := RX1) (T := TX1) (N := 17) (ty0 := tyX1) rfl tyX1_ok nmX1 rfl (fun _ => rfl) (by decide) rfl kw_fp_nil)
theorem fl_X1_24 : kw_fl RX1 24 "RosaryCarvers$Shop" [(1, 2)] := (kw_fl_c (C := RX1) (T := TX1) (N := 17) rfl (by decide) in_X1 q217 (Or.inl rfl) kw_fl_nil)
theorem fp_X1_24 : kw_fp RX1 (.object "RosaryCarvers$Beads") true [(1, 2)] := (kw_fp_c (C := RX1) (T := TX1) (N := 17) (ty0 := tyX1) rfl tyX1_ok nmX1 rfl (fun _ => rfl) (by decide) rfl kw_fp_nil)
theorem fl_X1_28 : kw_fl RX1 28 "RosaryCarvers$Shop" [(1, 3)] := (kw_fl_c (C := RX1) (T := TX1) (N := 17) rfl (by decide) in_X1 q219 (Or.inl rfl) kw_fl_nil)
theorem fp_X1_28 : kw_fp RX1 (.object "java/util/ArrayList") true [(1, 3)] := (kw_fp_c (C := RX1) (T := TX1) (N := 17) (ty0 := tyX1) rfl tyX1_ok nmX1 rfl (fun _ => rfl) (by decide) rfl kw_fp_nil)
theorem fl_X1_31 : kw_fl RX1 31 "RosaryCarvers$Shop" [(1, 4)] := (kw_fl_c (C := RX1) (T := TX1) (N := 17) rfl (by decide) in_X1 q221 (Or.inl rfl) kw_fl_nil)
theorem fp_X1_31 : kw_fp RX1 (.object "java/util/ArrayList") true [(1, 4)] := (kw_fp_c (C := RX1) (T := TX1) (N := 17) (ty0 := tyX1) rfl tyX1_ok nmX1 rfl (fun _ => rfl) (by decide) rfl kw_fp_nil)
theorem fl_X1_34 : kw_fl RX1 34 "RosaryCarvers$Shop" [(1, 5)] := (kw_fl_c (C := RX1) (T := TX1) (N := 17) rfl (by decide) in_X1 q223 (Or.inl rfl) kw_fl_nil)
theorem fp_X1_34 : kw_fp RX1 (.object "java/util/ArrayList") true [(1, 5)] := (kw_fp_c (C := RX1) (T := TX1) (N := 17) (ty0 := tyX1) rfl tyX1_ok nmX1 rfl (fun _ => rfl) (by decide) rfl kw_fp_nil)
theorem fl_X1_37 : kw_fl RX1 37 "RosaryCarvers$Shop" [(1, 6)] := (kw_fl_c (C := RX1) (T := TX1) (N := 17) rfl (by decide) in_X1 q225 (Or.inl rfl) kw_fl_nil)
theorem fp_X1_37 : kw_fp RX1 (.object "java/util/ArrayList") true [(1, 6)] := (kw_fp_c (C := RX1) (T := TX1) (N := 17) (ty0 := tyX1) rfl tyX1_ok nmX1 rfl (fun _ => rfl) (by decide) rfl kw_fp_nil)
theorem fl_X1_43 : kw_fl RX1 43 "RosaryCarvers$Shop" [(1, 7)] := (kw_fl_c (C := RX1) (T := TX1) (N := 17) rfl (by decide) in_X1 q227 (Or.inl rfl) kw_fl_nil)
theorem fp_X1_43 : kw_fp RX1 (.object "java/util/BitSet") true [(1, 7)] := (kw_fp_c (C := RX1) (T := TX1) (N := 17) (ty0 := tyX1) rfl tyX1_ok nmX1 rfl (fun _ => rfl) (by decide) rfl kw_fp_nil)
theorem wm_X1_init {E : kw_E} (B : kw_ok E cX1_init RX1 "<init>" 1 none 5 104 []) (a0 : Option Nat) : kw_W E kw_eV 0 [(0, kA a0)] [] (pm_X1_init a0) := by
  unfold pm_X1_init
  refine kw_aload_n (pc := 0) B dX1_init_0 rfl 0 rfl ?_
  refine kw_objInit (pc := 1) B dX1_init_1 q145 q138 q139 (by decide) (Nat.le_of_ble_eq_true rfl) ?_
  refine kw_aload_n (pc := 4) B dX1_init_4 rfl 0 rfl ?_
  refine kw_new (pc := 5) B dX1_init_5 (ci := 30) (N := 3) rfl in_J2 tyJ2_ok kz_AL_ok q146 q147 q77 (fun r1 => ?_)
  refine kw_dup (pc := 8) B dX1_init_8 rfl ?_
  refine kw_callI (pc := 9) B dX1_init_9 (ct_J2_init r1) q148 q149 q77 q150 rfl ⟨by decide, by decide, rfl⟩ (As := []) rfl (st := [kA r1, kA a0]) rfl (Nat.le_of_ble_eq_true rfl) (by decide) (by decide) kw_qV (fun _ => ?_)
  refine kw_pR (pc := 12) B dX1_init_12 fl_X1_12 fp_X1_12 (fun _ => rfl) rfl ?_
  refine kw_aload_n (pc := 15) B dX1_init_15 rfl 0 rfl ?_
  refine kw_new (pc := 16) B dX1_init_16 (ci := 30) (N := 3) rfl in_J2 tyJ2_ok kz_AL_ok q146 q147 q77 (fun r3 => ?_)
  refine kw_dup (pc := 19) B dX1_init_19 rfl ?_
  refine kw_callI (pc := 20) B dX1_init_20 (ct_J2_init r3) q148 q149 q77 q150 rfl ⟨by decide, by decide, rfl⟩ (As := []) rfl (st := [kA r3, kA a0]) rfl (Nat.le_of_ble_eq_true rfl) (by decide) (by decide) kw_qV (fun _ => ?_)
  refine kw_pR (pc := 23) B dX1_init_23 fl_X1_18 fp_X1_18 (fun _ => rfl) rfl ?_
  refine kw_aload_n (pc := 26) B dX1_init_26 rfl 0 rfl ?_
  refine kw_new (pc := 27) B dX1_init_27 (ci := 2) (N := 1) rfl in_X2 tyX2_ok kz_Beads_ok q175 q176 q78 (fun r5 => ?_)
  refine kw_dup (pc := 30) B dX1_init_30 rfl ?_
  refine kw_callIN (pc := 31) B dX1_init_31 (ct_X2_init r5) q177 q178 q78 q179 rfl ⟨by decide, by decide, rfl⟩ (As := []) rfl (st := [kA r5, kA a0]) rfl (Nat.le_of_ble_eq_true rfl) (by decide) (by decide) kw_qV (fun _ => ?_)
  refine kw_pR (pc := 34) B dX1_init_34 fl_X1_24 fp_X1_24 (fun _ => rfl) rfl ?_
  refine kw_aload_n (pc := 37) B dX1_init_37 rfl 0 rfl ?_
  refine kw_new (pc := 38) B dX1_init_38 (ci := 30) (N := 3) rfl in_J2 tyJ2_ok kz_AL_ok q146 q147 q77 (fun r7 => ?_)
  refine kw_dup (pc := 41) B dX1_init_41 rfl ?_
  refine kw_callI (pc := 42) B dX1_init_42 (ct_J2_init r7) q148 q149 q77 q150 rfl ⟨by decide, by decide, rfl⟩ (As := []) rfl (st := [kA r7, kA a0]) rfl (Nat.le_of_ble_eq_true rfl) (by decide) (by decide) kw_qV (fun _ => ?_)
  refine kw_pR (pc := 45) B dX1_init_45 fl_X1_28 fp_X1_28 (fun _ => rfl) rfl ?_
  refine kw_aload_n (pc := 48) B dX1_init_48 rfl 0 rfl ?_
  refine kw_new (pc := 49) B dX1_init_49 (ci := 30) (N := 3) rfl in_J2 tyJ2_ok kz_AL_ok q146 q147 q77 (fun r9 => ?_)
  refine kw_dup (pc := 52) B dX1_init_52 rfl ?_
  refine kw_callI (pc := 53) B dX1_init_53 (ct_J2_init r9) q148 q149 q77 q150 rfl ⟨by decide, by decide, rfl⟩ (As := []) rfl (st := [kA r9, kA a0]) rfl (Nat.le_of_ble_eq_true rfl) (by decide) (by decide) kw_qV (fun _ => ?_)
  refine kw_pR (pc := 56) B dX1_init_56 fl_X1_31 fp_X1_31 (fun _ => rfl) rfl ?_
  refine kw_aload_n (pc := 59) B dX1_init_59 rfl 0 rfl ?_
  refine kw_new (pc := 60) B dX1_init_60 (ci := 30) (N := 3) rfl in_J2 tyJ2_ok kz_AL_ok q146 q147 q77 (fun r11 => ?_)
  refine kw_dup (pc := 63) B dX1_init_63 rfl ?_
  refine kw_callI (pc := 64) B dX1_init_64 (ct_J2_init r11) q148 q149 q77 q150 rfl ⟨by decide, by decide, rfl⟩ (As := []) rfl (st := [kA r11, kA a0]) rfl (Nat.le_of_ble_eq_true rfl) (by decide) (by decide) kw_qV (fun _ => ?_)
  refine kw_pR (pc := 67) B dX1_init_67 fl_X1_34 fp_X1_34 (fun _ => rfl) rfl ?_
  refine kw_aload_n (pc := 70) B dX1_init_70 rfl 0 rfl ?_
  refine kw_new (pc := 71) B dX1_init_71 (ci := 30) (N := 3) rfl in_J2 tyJ2_ok kz_AL_ok q146 q147 q77 (fun r13 => ?_)
  refine kw_dup (pc := 74) B dX1_init_74 rfl ?_
  refine kw_callI (pc := 75) B dX1_init_75 (ct_J2_init r13) q148 q149 q77 q150 rfl ⟨by decide, by decide, rfl⟩ (As := []) rfl (st := [kA r13, kA a0]) rfl (Nat.le_of_ble_eq_true rfl) (by decide) (by decide) kw_qV (fun _ => ?_)
  refine kw_pR (pc := 78) B dX1_init_78 fl_X1_37 fp_X1_37 (fun _ => rfl) rfl ?_
  refine kw_aload_n (pc := 81) B dX1_init_81 rfl 0 rfl ?_
  refine kw_new (pc := 82) B dX1_init_82 (ci := 31) (N := 3) rfl in_J3 tyJ3_ok kz_BS_ok q189 q190 q79 (fun r15 => ?_)
  refine kw_dup (pc := 85) B dX1_init_85 rfl ?_
  refine kw_callI (pc := 86) B dX1_init_86 (ct_J3_init r15) q191 q192 q79 q193 rfl ⟨by decide, by decide, rfl⟩ (As := []) rfl (st := [kA r15, kA a0]) rfl (Nat.le_of_ble_eq_true rfl) (by decide) (by decide) kw_qV (fun _ => ?_)
  refine kw_pR (pc := 89) B dX1_init_89 fl_X1_43 fp_X1_43 (fun _ => rfl) rfl ?_
  exact kw_vret B dX1_init_92 rfl
theorem ct_X1_init (a0 : Option Nat) (l : Launch) : kw_Met l yX1_init (ws_ yX1_init cX1_init 1 none) 5 104 [kA a0] kw_eV (pm_X1_init a0) := kw_met (plainFor_of_name rfl) (Nat.le_of_ble_eq_true rfl) (fun E B => wm_X1_init B a0) l

/-! java/util/ArrayDeque <init> ()V -/
theorem fl_J4_3 : kw_fl RJ4 3 "java/util/ArrayDeque" [(32, 0)] := (kw_fl_c (C := RJ4) (T := TJ4) (N := 3) rfl (by decide) in_J4 q290 (Or.inl rfl) kw_fl_nil)
theorem fp_J4_3 : kw_fp RJ4 (.array (.object "java/lang/Object")) false [(32, 0)] := (kw_fp_c (C := RJ4) (T := TJ4) (N := 3) (ty0 := tyJ4) rfl tyJ4_ok nmJ4 rfl (fun h => by cases h) (by decide) rfl kw_fp_nil)
theorem wm_J4_init {E : kw_E} (B : kw_ok E cJ4_init RJ4 "<init>" 1 none 2 44 []) (a0 : Option Nat) : kw_W E kw_eV 0 [(0, kA a0)] [] (pm_J4_init a0) := by
  unfold pm_J4_init
  refine kw_aload_n (pc := 0) B dJ4_init_0 rfl 0 rfl ?_
  refine kw_callI (pc := 1) B dJ4_init_1 (ct_J0_init a0) q287 q155 q75 q156 rfl ⟨by decide, by decide, rfl⟩ (As := []) rfl (st := []) rfl (Nat.le_of_ble_eq_true rfl) (by decide) (by decide) kw_qV (fun _ => ?_)
  refine kw_aload_n (pc := 4) B dJ4_init_4 rfl 0 rfl ?_
  refine kw_bipush (pc := 5) B dJ4_init_5 (v := (17 : Int32)) rfl ?_
  refine kw_anew (pc := 7) B dJ4_init_7 (kd := 4) (C := "java/lang/Object") (by decide) rfl q288 q289 (fun r1 => ?_)
  refine kw_pR (pc := 10) B dJ4_init_10 fl_J4_3 fp_J4_3 (fun h => by cases h) rfl ?_
  exact kw_vret B dJ4_init_13 rfl
theorem ct_J4_init (a0 : Option Nat) (l : Launch) : kw_Met l yJ4_init (ws_ yJ4_init cJ4_init 1 none) 2 44 [kA a0] kw_eV (pm_J4_init a0) := kw_met (plainFor_of_name rfl) (Nat.le_of_ble_eq_true rfl) (fun E B => wm_J4_init B a0) l

/-! RosaryCarvers <init> ()V -/
theorem fl_X0_17 : kw_fl RX0 17 "RosaryCarvers" [(0, 0)] := (kw_fl_c (C := RX0) (T := TX0) (N := 8) rfl (by decide) in_X0 q304 (Or.inl rfl) kw_fl_nil)
theorem fp_X0_17 : kw_fp RX0 (.object "RosaryCarvers$Shop") false [(0, 0)] := (kw_fp_c (C := RX0) (T := TX0) (N := 8) (ty0 := tyX0) rfl tyX0_ok nmX0 rfl (fun h => by cases h) (by decide) rfl kw_fp_nil)
theorem fl_X0_24 : kw_fl RX0 24 "RosaryCarvers" [(0, 2)] := (kw_fl_c (C := RX0) (T := TX0) (N := 8) rfl (by decide) in_X0 q307 (Or.inl rfl) kw_fl_nil)
theorem fp_X0_24 : kw_fp RX0 (.object "java/util/ArrayDeque") true [(0, 2)] := (kw_fp_c (C := RX0) (T := TX0) (N := 8) (ty0 := tyX0) rfl tyX0_ok nmX0 rfl (fun _ => rfl) (by decide) rfl kw_fp_nil)
theorem fl_X0_30 : kw_fl RX0 30 "RosaryCarvers" [(0, 4)] := (kw_fl_c (C := RX0) (T := TX0) (N := 8) rfl (by decide) in_X0 q310 (Or.inl rfl) kw_fl_nil)
theorem fp_X0_30 : kw_fp RX0 (.object "java/lang/String") false [(0, 4)] := (kw_fp_c (C := RX0) (T := TX0) (N := 8) (ty0 := tyX0) rfl tyX0_ok nmX0 rfl (fun h => by cases h) (by decide) rfl kw_fp_nil)
theorem fl_X0_34 : kw_fl RX0 34 "RosaryCarvers" [(0, 5)] := (kw_fl_c (C := RX0) (T := TX0) (N := 8) rfl (by decide) in_X0 q312 (Or.inl rfl) kw_fl_nil)
theorem fp_X0_34 : kw_fp RX0 (.array .char) true [(0, 5)] := (kw_fp_c (C := RX0) (T := TX0) (N := 8) (ty0 := tyX0) rfl tyX0_ok nmX0 rfl (fun _ => rfl) (by decide) rfl kw_fp_nil)
theorem fl_X0_38 : kw_fl RX0 38 "RosaryCarvers" [(0, 7)] := (kw_fl_c (C := RX0) (T := TX0) (N := 8) rfl (by decide) in_X0 q315 (Or.inl rfl) kw_fl_nil)
theorem fp_X0_38 : kw_fp RX0 .int false [(0, 7)] := (kw_fp_c (C := RX0) (T := TX0) (N := 8) (ty0 := tyX0) rfl tyX0_ok nmX0 rfl (fun h => by cases h) (by decide) rfl kw_fp_nil)
theorem wm_X0_init {E : kw_E} (B : kw_ok E cX0_init RX0 "<init>" 1 none 6 124 []) (a0 : Option Nat) : kw_W E kw_eV 0 [(0, kA a0)] [] (pm_X0_init a0) := by
  unfold pm_X0_init
  refine kw_aload_n (pc := 0) B dX0_init_0 rfl 0 rfl ?_
  refine kw_objInit (pc := 1) B dX0_init_1 q137 q138 q139 (by decide) (Nat.le_of_ble_eq_true rfl) ?_
  refine kw_aload_n (pc := 4) B dX0_init_4 rfl 0 rfl ?_
  refine kw_new (pc := 5) B dX0_init_5 (ci := 1) (N := 17) rfl in_X1 tyX1_ok kz_Shop_ok q140 q141 q74 (fun r1 => ?_)
  refine kw_dup (pc := 8) B dX0_init_8 rfl ?_
  refine kw_callI (pc := 9) B dX0_init_9 (ct_X1_init r1) q142 q143 q74 q144 rfl ⟨by decide, by decide, rfl⟩ (As := []) rfl (st := [kA r1, kA a0]) rfl (Nat.le_of_ble_eq_true rfl) (by decide) (by decide) kw_qV (fun _ => ?_)
  refine kw_pR (pc := 12) B dX0_init_12 fl_X0_17 fp_X0_17 (fun h => by cases h) rfl ?_
  refine kw_aload_n (pc := 15) B dX0_init_15 rfl 0 rfl ?_
  refine kw_new (pc := 16) B dX0_init_16 (ci := 32) (N := 3) rfl in_J4 tyJ4_ok kz_AD_ok q282 q283 q80 (fun r3 => ?_)
  refine kw_dup (pc := 19) B dX0_init_19 rfl ?_
  refine kw_callI (pc := 20) B dX0_init_20 (ct_J4_init r3) q284 q285 q80 q286 rfl ⟨by decide, by decide, rfl⟩ (As := []) rfl (st := [kA r3, kA a0]) rfl (Nat.le_of_ble_eq_true rfl) (by decide) (by decide) kw_qV (fun _ => ?_)
  refine kw_pR (pc := 23) B dX0_init_23 fl_X0_24 fp_X0_24 (fun _ => rfl) rfl ?_
  refine kw_aload_n (pc := 26) B dX0_init_26 rfl 0 rfl ?_
  refine kw_ldcS (pc := 27) B dX0_init_27 (i := 10) (tx := "") (by decide) (fun r5 => ?_)
  refine kw_pR (pc := 29) B dX0_init_29 fl_X0_30 fp_X0_30 (fun h => by cases h) rfl ?_
  refine kw_aload_n (pc := 32) B dX0_init_32 rfl 0 rfl ?_
  refine kw_bipush (pc := 33) B dX0_init_33 (v := (60 : Int32)) rfl ?_
  refine kw_newaC (pc := 35) B dX0_init_35 q334 (fun r7 => ?_)
  refine kw_pR (pc := 37) B dX0_init_37 fl_X0_34 fp_X0_34 (fun _ => rfl) rfl ?_
  refine kw_aload_n (pc := 40) B dX0_init_40 rfl 0 rfl ?_
  refine kw_iconst (pc := 41) B dX0_init_41 (v := (-1 : Int32)) rfl ?_
  refine kw_pI (pc := 42) B dX0_init_42 fl_X0_38 fp_X0_38 (fun h => by cases h) ?_
  exact kw_vret B dX0_init_45 rfl
theorem ct_X0_init (a0 : Option Nat) (l : Launch) : kw_Met l yX0_init (ws_ yX0_init cX0_init 1 none) 6 124 [kA a0] kw_eV (pm_X0_init a0) := kw_met (plainFor_of_name rfl) (Nat.le_of_ble_eq_true rfl) (fun E B => wm_X0_init B a0) l

/-! RosaryCarversModel <init> ()V -/
theorem fl_X3_9 : kw_fl RX3 9 "RosaryCarversModel" [(3, 0)] := (kw_fl_c (C := RX3) (T := TX3) (N := 18) rfl (by decide) in_X3 q2356 (Or.inl rfl) kw_fl_nil)
theorem fp_X3_9 : kw_fp RX3 (.array .int) true [(3, 0)] := (kw_fp_c (C := RX3) (T := TX3) (N := 18) (ty0 := tyX3) rfl tyX3_ok nmX3 rfl (fun _ => rfl) (by decide) rfl kw_fp_nil)
theorem fl_X3_13 : kw_fl RX3 13 "RosaryCarversModel" [(3, 1)] := (kw_fl_c (C := RX3) (T := TX3) (N := 18) rfl (by decide) in_X3 q2357 (Or.inl rfl) kw_fl_nil)
theorem fp_X3_13 : kw_fp RX3 (.array .int) true [(3, 1)] := (kw_fp_c (C := RX3) (T := TX3) (N := 18) (ty0 := tyX3) rfl tyX3_ok nmX3 rfl (fun _ => rfl) (by decide) rfl kw_fp_nil)
theorem fl_X3_16 : kw_fl RX3 16 "RosaryCarversModel" [(3, 2)] := (kw_fl_c (C := RX3) (T := TX3) (N := 18) rfl (by decide) in_X3 q2358 (Or.inl rfl) kw_fl_nil)
theorem fp_X3_16 : kw_fp RX3 (.array .int) true [(3, 2)] := (kw_fp_c (C := RX3) (T := TX3) (N := 18) (ty0 := tyX3) rfl tyX3_ok nmX3 rfl (fun _ => rfl) (by decide) rfl kw_fp_nil)
theorem fl_X3_19 : kw_fl RX3 19 "RosaryCarversModel" [(3, 3)] := (kw_fl_c (C := RX3) (T := TX3) (N := 18) rfl (by decide) in_X3 q2359 (Or.inl rfl) kw_fl_nil)
theorem fp_X3_19 : kw_fp RX3 (.array .int) true [(3, 3)] := (kw_fp_c (C := RX3) (T := TX3) (N := 18) (ty0 := tyX3) rfl tyX3_ok nmX3 rfl (fun _ => rfl) (by decide) rfl kw_fp_nil)
theorem fl_X3_22 : kw_fl RX3 22 "RosaryCarversModel" [(3, 6)] := (kw_fl_c (C := RX3) (T := TX3) (N := 18) rfl (by decide) in_X3 q2362 (Or.inl rfl) kw_fl_nil)
theorem fp_X3_22 : kw_fp RX3 (.array .int) true [(3, 6)] := (kw_fp_c (C := RX3) (T := TX3) (N := 18) (ty0 := tyX3) rfl tyX3_ok nmX3 rfl (fun _ => rfl) (by decide) rfl kw_fp_nil)
theorem fl_X3_25 : kw_fl RX3 25 "RosaryCarversModel" [(3, 7)] := (kw_fl_c (C := RX3) (T := TX3) (N := 18) rfl (by decide) in_X3 q2363 (Or.inl rfl) kw_fl_nil)
theorem fp_X3_25 : kw_fp RX3 (.array .int) true [(3, 7)] := (kw_fp_c (C := RX3) (T := TX3) (N := 18) (ty0 := tyX3) rfl tyX3_ok nmX3 rfl (fun _ => rfl) (by decide) rfl kw_fp_nil)
theorem fl_X3_28 : kw_fl RX3 28 "RosaryCarversModel" [(3, 8)] := (kw_fl_c (C := RX3) (T := TX3) (N := 18) rfl (by decide) in_X3 q2364 (Or.inl rfl) kw_fl_nil)
theorem fp_X3_28 : kw_fp RX3 (.array .int) true [(3, 8)] := (kw_fp_c (C := RX3) (T := TX3) (N := 18) (ty0 := tyX3) rfl tyX3_ok nmX3 rfl (fun _ => rfl) (by decide) rfl kw_fp_nil)
theorem fl_X3_49 : kw_fl RX3 49 "RosaryCarversModel" [(3, 10)] := (kw_fl_c (C := RX3) (T := TX3) (N := 18) rfl (by decide) in_X3 q2366 (Or.inl rfl) kw_fl_nil)
theorem fp_X3_49 : kw_fp RX3 (.array (.object "java/lang/String")) true [(3, 10)] := (kw_fp_c (C := RX3) (T := TX3) (N := 18) (ty0 := tyX3) rfl tyX3_ok nmX3 rfl (fun _ => rfl) (by decide) rfl kw_fp_nil)
theorem fl_X3_53 : kw_fl RX3 53 "RosaryCarversModel" [(3, 11)] := (kw_fl_c (C := RX3) (T := TX3) (N := 18) rfl (by decide) in_X3 q2367 (Or.inl rfl) kw_fl_nil)
theorem fp_X3_53 : kw_fp RX3 (.array .int) true [(3, 11)] := (kw_fp_c (C := RX3) (T := TX3) (N := 18) (ty0 := tyX3) rfl tyX3_ok nmX3 rfl (fun _ => rfl) (by decide) rfl kw_fp_nil)
theorem fl_X3_56 : kw_fl RX3 56 "RosaryCarversModel" [(3, 12)] := (kw_fl_c (C := RX3) (T := TX3) (N := 18) rfl (by decide) in_X3 q2368 (Or.inl rfl) kw_fl_nil)
theorem fp_X3_56 : kw_fp RX3 (.array .int) true [(3, 12)] := (kw_fp_c (C := RX3) (T := TX3) (N := 18) (ty0 := tyX3) rfl tyX3_ok nmX3 rfl (fun _ => rfl) (by decide) rfl kw_fp_nil)
theorem fl_X3_59 : kw_fl RX3 59 "RosaryCarversModel" [(3, 17)] := (kw_fl_c (C := RX3) (T := TX3) (N := 18) rfl (by decide) in_X3 q2373 (Or.inl rfl) kw_fl_nil)
theorem fp_X3_59 : kw_fp RX3 .int false [(3, 17)] := (kw_fp_c (C := RX3) (T := TX3) (N := 18) (ty0 := tyX3) rfl tyX3_ok nmX3 rfl (fun h => by cases h) (by decide) rfl kw_fp_nil)
theorem wm_X3_init {E : kw_E} (B : kw_ok E cX3_init RX3 "<init>" 1 none 1 24 []) (a0 : Option Nat) : kw_W E kw_eV 0 [(0, kA a0)] [] (pm_X3_init a0) := by
  unfold pm_X3_init
  refine kw_aload_n (pc := 0) B dX3_init_0 rfl 0 rfl ?_
  refine kw_objInit (pc := 1) B dX3_init_1 q2346 q138 q139 (by decide) (Nat.le_of_ble_eq_true rfl) ?_
  refine kw_aload_n (pc := 4) B dX3_init_4 rfl 0 rfl ?_
  refine kw_sipush (pc := 5) B dX3_init_5 (v := (2188 : Int32)) rfl ?_
  refine kw_newaI (pc := 8) B dX3_init_8 q2203 (fun r1 => ?_)
  refine kw_pR (pc := 10) B dX3_init_10 fl_X3_9 fp_X3_9 (fun _ => rfl) rfl ?_
  refine kw_aload_n (pc := 13) B dX3_init_13 rfl 0 rfl ?_
  refine kw_sipush (pc := 14) B dX3_init_14 (v := (2188 : Int32)) rfl ?_
  refine kw_newaI (pc := 17) B dX3_init_17 q2203 (fun r3 => ?_)
  refine kw_pR (pc := 19) B dX3_init_19 fl_X3_13 fp_X3_13 (fun _ => rfl) rfl ?_
  refine kw_aload_n (pc := 22) B dX3_init_22 rfl 0 rfl ?_
  refine kw_sipush (pc := 23) B dX3_init_23 (v := (2188 : Int32)) rfl ?_
  refine kw_newaI (pc := 26) B dX3_init_26 q2203 (fun r5 => ?_)
  refine kw_pR (pc := 28) B dX3_init_28 fl_X3_16 fp_X3_16 (fun _ => rfl) rfl ?_
  refine kw_aload_n (pc := 31) B dX3_init_31 rfl 0 rfl ?_
  refine kw_sipush (pc := 32) B dX3_init_32 (v := (17504 : Int32)) rfl ?_
  refine kw_newaI (pc := 35) B dX3_init_35 q2203 (fun r7 => ?_)
  refine kw_pR (pc := 37) B dX3_init_37 fl_X3_19 fp_X3_19 (fun _ => rfl) rfl ?_
  refine kw_aload_n (pc := 40) B dX3_init_40 rfl 0 rfl ?_
  refine kw_iconst (pc := 41) B dX3_init_41 (v := (3 : Int32)) rfl ?_
  refine kw_newaI (pc := 42) B dX3_init_42 q2203 (fun r9 => ?_)
  refine kw_pR (pc := 44) B dX3_init_44 fl_X3_22 fp_X3_22 (fun _ => rfl) rfl ?_
  refine kw_aload_n (pc := 47) B dX3_init_47 rfl 0 rfl ?_
  refine kw_iconst (pc := 48) B dX3_init_48 (v := (3 : Int32)) rfl ?_
  refine kw_newaI (pc := 49) B dX3_init_49 q2203 (fun r11 => ?_)
  refine kw_pR (pc := 51) B dX3_init_51 fl_X3_25 fp_X3_25 (fun _ => rfl) rfl ?_
  refine kw_aload_n (pc := 54) B dX3_init_54 rfl 0 rfl ?_
  refine kw_bipush (pc := 55) B dX3_init_55 (v := (80 : Int32)) rfl ?_
  refine kw_newaI (pc := 57) B dX3_init_57 q2203 (fun r13 => ?_)
  refine kw_pR (pc := 59) B dX3_init_59 fl_X3_28 fp_X3_28 (fun _ => rfl) rfl ?_
  refine kw_aload_n (pc := 62) B dX3_init_62 rfl 0 rfl ?_
  refine kw_bipush (pc := 63) B dX3_init_63 (v := (8 : Int32)) rfl ?_
  refine kw_anew (pc := 65) B dX3_init_65 (kd := 5) (C := "java/lang/String") (by decide) rfl q2347 q2181 (fun r15 => ?_)
  refine kw_dup (pc := 68) B dX3_init_68 rfl ?_
  refine kw_iconst (pc := 69) B dX3_init_69 (v := (0 : Int32)) rfl ?_
  refine kw_ldcS (pc := 70) B dX3_init_70 (i := 19) (tx := "large ") (by decide) (fun r16 => ?_)
  refine kw_aast (pc := 72) B dX3_init_72 ?_
  refine kw_dup (pc := 73) B dX3_init_73 rfl ?_
  refine kw_iconst (pc := 74) B dX3_init_74 (v := (1 : Int32)) rfl ?_
  refine kw_ldcS (pc := 75) B dX3_init_75 (i := 22) (tx := "small ") (by decide) (fun r18 => ?_)
  refine kw_aast (pc := 77) B dX3_init_77 ?_
  refine kw_dup (pc := 78) B dX3_init_78 rfl ?_
  refine kw_iconst (pc := 79) B dX3_init_79 (v := (2 : Int32)) rfl ?_
  refine kw_ldcS (pc := 80) B dX3_init_80 (i := 12) (tx := "begin ") (by decide) (fun r20 => ?_)
  refine kw_aast (pc := 82) B dX3_init_82 ?_
  refine kw_dup (pc := 83) B dX3_init_83 rfl ?_
  refine kw_iconst (pc := 84) B dX3_init_84 (v := (3 : Int32)) rfl ?_
  refine kw_ldcS (pc := 85) B dX3_init_85 (i := 24) (tx := "thread ") (by decide) (fun r22 => ?_)
  refine kw_aast (pc := 87) B dX3_init_87 ?_
  refine kw_dup (pc := 88) B dX3_init_88 rfl ?_
  refine kw_iconst (pc := 89) B dX3_init_89 (v := (4 : Int32)) rfl ?_
  refine kw_ldcS (pc := 90) B dX3_init_90 (i := 17) (tx := "knot ") (by decide) (fun r24 => ?_)
  refine kw_aast (pc := 92) B dX3_init_92 ?_
  refine kw_dup (pc := 93) B dX3_init_93 rfl ?_
  refine kw_iconst (pc := 94) B dX3_init_94 (v := (5 : Int32)) rfl ?_
  refine kw_ldcS (pc := 95) B dX3_init_95 (i := 14) (tx := "drop ") (by decide) (fun r26 => ?_)
  refine kw_aast (pc := 97) B dX3_init_97 ?_
  refine kw_dup (pc := 98) B dX3_init_98 rfl ?_
  refine kw_bipush (pc := 99) B dX3_init_99 (v := (6 : Int32)) rfl ?_
  refine kw_ldcS (pc := 101) B dX3_init_101 (i := 20) (tx := "mend") (by decide) (fun r28 => ?_)
  refine kw_aast (pc := 103) B dX3_init_103 ?_
  refine kw_dup (pc := 104) B dX3_init_104 rfl ?_
  refine kw_bipush (pc := 105) B dX3_init_105 (v := (7 : Int32)) rfl ?_
  refine kw_ldcS (pc := 107) B dX3_init_107 (i := 26) (tx := "wait ") (by decide) (fun r30 => ?_)
  refine kw_aast (pc := 109) B dX3_init_109 ?_
  refine kw_pR (pc := 110) B dX3_init_110 fl_X3_49 fp_X3_49 (fun _ => rfl) rfl ?_
  refine kw_aload_n (pc := 113) B dX3_init_113 rfl 0 rfl ?_
  refine kw_bipush (pc := 114) B dX3_init_114 (v := (60 : Int32)) rfl ?_
  refine kw_newaI (pc := 116) B dX3_init_116 q2203 (fun r33 => ?_)
  refine kw_pR (pc := 118) B dX3_init_118 fl_X3_53 fp_X3_53 (fun _ => rfl) rfl ?_
  refine kw_aload_n (pc := 121) B dX3_init_121 rfl 0 rfl ?_
  refine kw_bipush (pc := 122) B dX3_init_122 (v := (63 : Int32)) rfl ?_
  refine kw_newaI (pc := 124) B dX3_init_124 q2203 (fun r35 => ?_)
  refine kw_pR (pc := 126) B dX3_init_126 fl_X3_56 fp_X3_56 (fun _ => rfl) rfl ?_
  refine kw_aload_n (pc := 129) B dX3_init_129 rfl 0 rfl ?_
  refine kw_iconst (pc := 130) B dX3_init_130 (v := (-1 : Int32)) rfl ?_
  refine kw_pI (pc := 131) B dX3_init_131 fl_X3_59 fp_X3_59 (fun h => by cases h) ?_
  exact kw_vret B dX3_init_134 rfl
theorem ct_X3_init (a0 : Option Nat) (l : Launch) : kw_Met l yX3_init (ws_ yX3_init cX3_init 1 none) 1 24 [kA a0] kw_eV (pm_X3_init a0) := kw_met (plainFor_of_name rfl) (Nat.le_of_ble_eq_true rfl) (fun E B => wm_X3_init B a0) l

/-! RosaryCarvers in (III)Z -/

theorem wm_X0_in {E : kw_E} (B : kw_ok E cX0_in RX0 "in" 3 (some .boolean) 1 0 []) (a0 : Int32) (a1 : Int32) (a2 : Int32) : kw_W E kw_eI 0 [(0, kI a0), (1, kI a1), (2, kI a2)] [] (pm_X0_in a0 a1 a2) := by
  unfold pm_X0_in
  refine kw_iload_n (pc := 0) B dX0_in_0 rfl 0 rfl ?_
  refine kw_iload_n (pc := 1) B dX0_in_1 rfl 1 rfl ?_
  refine kw_icmp_lt (pc := 2) (tgt := 14) B dX0_in_2 rfl ?_ ?_
  · refine kw_iconst (pc := 14) B dX0_in_14 (v := (0 : Int32)) rfl ?_
    exact kw_zret B dX0_in_15 (g := fun v => v) (fun _ => rfl)
  · refine kw_iload_n (pc := 5) B dX0_in_5 rfl 0 rfl ?_
    refine kw_iload_n (pc := 6) B dX0_in_6 rfl 2 rfl ?_
    refine kw_icmp_gt (pc := 7) (tgt := 14) B dX0_in_7 rfl ?_ ?_
    · refine kw_iconst (pc := 14) B dX0_in_14 (v := (0 : Int32)) rfl ?_
      exact kw_zret B dX0_in_15 (g := fun v => v) (fun _ => rfl)
    · refine kw_iconst (pc := 10) B dX0_in_10 (v := (1 : Int32)) rfl ?_
      refine kw_goto (pc := 11) (tgt := 15) B dX0_in_11 rfl ?_
      exact kw_zret B dX0_in_15 (g := fun v => v) (fun _ => rfl)
theorem ct_X0_in (a0 : Int32) (a1 : Int32) (a2 : Int32) (l : Launch) : kw_Met l yX0_in (ws_ yX0_in cX0_in 3 (some .boolean)) 1 0 [kI a0, kI a1, kI a2] kw_eI (pm_X0_in a0 a1 a2) := kw_met (plainFor_of_name rfl) (Nat.le_of_ble_eq_true rfl) (fun E B => wm_X0_in B a0 a1 a2) l

/-! RosaryCarvers$Deed <init> (LRosaryCarvers;)V -/
theorem fl_X4_3 : kw_fl RX4 3 "RosaryCarvers$Deed" [(4, 0), (15, 0), (16, 0), (17, 0), (18, 0), (19, 0), (20, 0), (21, 0), (22, 0), (23, 0), (24, 0), (25, 0), (29, 0)] := (kw_fl_c (C := RX5) (T := TX5) (N := 3) rfl (by decide) in_X5 q353 (Or.inl rfl) (kw_fl_c (C := RX17) (T := TX17) (N := 3) rfl (by decide) in_X17 q353 (Or.inl rfl) (kw_fl_c (C := RX18) (T := TX18) (N := 3) rfl (by decide) in_X18 q353 (Or.inl rfl) (kw_fl_c (C := RX19) (T := TX19) (N := 4) rfl (by decide) in_X19 q353 (Or.inl rfl) (kw_fl_c (C := RX20) (T := TX20) (N := 5) rfl (by decide) in_X20 q353 (Or.inl rfl) (kw_fl_c (C := RX21) (T := TX21) (N := 4) rfl (by decide) in_X21 q353 (Or.inl rfl) (kw_fl_c (C := RX22) (T := TX22) (N := 3) rfl (by decide) in_X22 q353 (Or.inl rfl) (kw_fl_c (C := RX23) (T := TX23) (N := 3) rfl (by decide) in_X23 q353 (Or.inl rfl) (kw_fl_c (C := RX24) (T := TX24) (N := 3) rfl (by decide) in_X24 q353 (Or.inl rfl) (kw_fl_c (C := RX25) (T := TX25) (N := 6) rfl (by decide) in_X25 q353 (Or.inl rfl) (kw_fl_c (C := RX26) (T := TX26) (N := 2) rfl (by decide) in_X26 q353 (Or.inl rfl) (kw_fl_c (C := RX27) (T := TX27) (N := 3) rfl (by decide) in_X27 q353 (Or.inl rfl) (kw_fl_c (C := RX31) (T := TX31) (N := 3) rfl (by decide) in_X31 q353 (Or.inl rfl) kw_fl_nil)))))))))))))
theorem fp_X4_3 : kw_fp RX4 (.object "RosaryCarvers") true [(4, 0), (15, 0), (16, 0), (17, 0), (18, 0), (19, 0), (20, 0), (21, 0), (22, 0), (23, 0), (24, 0), (25, 0), (29, 0)] := (kw_fp_d (C := RX5) (T := TX5) (N := 3) (ty0 := tyX5) rfl tyX5_ok (by unfold kw_ap; decide) rfl rfl (by decide) rfl (kw_fp_d (C := RX17) (T := TX17) (N := 3) (ty0 := tyX17) rfl tyX17_ok (by unfold kw_ap; decide) rfl rfl (by decide) rfl (kw_fp_d (C := RX18) (T := TX18) (N := 3) (ty0 := tyX18) rfl tyX18_ok (by unfold kw_ap; decide) rfl rfl (by decide) rfl (kw_fp_d (C := RX19) (T := TX19) (N := 4) (ty0 := tyX19) rfl tyX19_ok (by unfold kw_ap; decide) rfl rfl (by decide) rfl (kw_fp_d (C := RX20) (T := TX20) (N := 5) (ty0 := tyX20) rfl tyX20_ok (by unfold kw_ap; decide) rfl rfl (by decide) rfl (kw_fp_d (C := RX21) (T := TX21) (N := 4) (ty0 := tyX21) rfl tyX21_ok (by unfold kw_ap; decide) rfl rfl (by decide) rfl (kw_fp_d (C := RX22) (T := TX22) (N := 3) (ty0 := tyX22) rfl tyX22_ok (by unfold kw_ap; decide) rfl rfl (by decide) rfl (kw_fp_d (C := RX23) (T := TX23) (N := 3) (ty0 := tyX23) rfl tyX23_ok (by unfold kw_ap; decide) rfl rfl (by decide) rfl (kw_fp_d (C := RX24) (T := TX24) (N := 3) (ty0 := tyX24) rfl tyX24_ok (by unfold kw_ap; decide) rfl rfl (by decide) rfl (kw_fp_d (C := RX25) (T := TX25) (N := 6) (ty0 := tyX25) rfl tyX25_ok (by unfold kw_ap; decide) rfl rfl (by decide) rfl (kw_fp_d (C := RX26) (T := TX26) (N := 2) (ty0 := tyX26) rfl tyX26_ok (by unfold kw_ap; decide) rfl rfl (by decide) rfl (kw_fp_d (C := RX27) (T := TX27) (N := 3) (ty0 := tyX27) rfl tyX27_ok (by unfold kw_ap; decide) rfl rfl (by decide) rfl (kw_fp_d (C := RX31) (T := TX31) (N := 3) (ty0 := tyX31) rfl tyX31_ok (by unfold kw_ap; decide) rfl rfl (by decide) rfl kw_fp_nil)))))))))))))
theorem wm_X4_init {E : kw_E} (B : kw_ok E cX4_init RX4 "<init>" 2 none 1 24 []) (a0 : Option Nat) (a1 : Option Nat) : kw_W E kw_eV 0 [(0, kA a0), (1, kA a1)] [] (pm_X4_init a0 a1) := by
  unfold pm_X4_init
  refine kw_aload_n (pc := 0) B dX4_init_0 rfl 0 rfl ?_
  refine kw_aload_n (pc := 1) B dX4_init_1 rfl 1 rfl ?_
  refine kw_pR (pc := 2) B dX4_init_2 fl_X4_3 fp_X4_3 (fun _ => rfl) rfl ?_
  refine kw_aload_n (pc := 5) B dX4_init_5 rfl 0 rfl ?_
  refine kw_objInit (pc := 6) B dX4_init_6 q350 q138 q139 (by decide) (Nat.le_of_ble_eq_true rfl) ?_
  exact kw_vret B dX4_init_9 rfl
theorem ct_X4_init (a0 : Option Nat) (a1 : Option Nat) (l : Launch) : kw_Met l yX4_init (ws_ yX4_init cX4_init 2 none) 1 24 [kA a0, kA a1] kw_eV (pm_X4_init a0 a1) := kw_met (plainFor_of_name rfl) (Nat.le_of_ble_eq_true rfl) (fun E B => wm_X4_init B a0 a1) l

/-! RosaryCarvers$1 <init> (LRosaryCarvers;I)V -/
theorem fl_X5_1 : kw_fl RX5 1 "RosaryCarvers$1" [(4, 2)] := (kw_fl_c (C := RX5) (T := TX5) (N := 3) rfl (by decide) in_X5 q352 (Or.inl rfl) kw_fl_nil)
theorem fp_X5_1 : kw_fp RX5 (.object "RosaryCarvers") true [(4, 2)] := (kw_fp_d (C := RX5) (T := TX5) (N := 3) (ty0 := tyX5) rfl tyX5_ok (by unfold kw_ap; decide) rfl rfl (by decide) rfl kw_fp_nil)
theorem fl_X5_7 : kw_fl RX5 7 "RosaryCarvers$1" [(4, 1)] := (kw_fl_c (C := RX5) (T := TX5) (N := 3) rfl (by decide) in_X5 q351 (Or.inl rfl) kw_fl_nil)
theorem fp_X5_7 : kw_fp RX5 .int true [(4, 1)] := (kw_fp_d (C := RX5) (T := TX5) (N := 3) (ty0 := tyX5) rfl tyX5_ok (by unfold kw_ap; decide) rfl rfl (by decide) rfl kw_fp_nil)
theorem wm_X5_init {E : kw_E} (B : kw_ok E cX5_init RX5 "<init>" 3 none 2 45 []) (a0 : Option Nat) (a1 : Option Nat) (a2 : Int32) : kw_W E kw_eV 0 [(0, kA a0), (1, kA a1), (2, kI a2)] [] (pm_X5_init a0 a1 a2) := by
  unfold pm_X5_init
  refine kw_aload_n (pc := 0) B dX5_init_0 rfl 0 rfl ?_
  refine kw_aload_n (pc := 1) B dX5_init_1 rfl 1 rfl ?_
  refine kw_pR (pc := 2) B dX5_init_2 fl_X5_1 fp_X5_1 (fun _ => rfl) rfl ?_
  refine kw_aload_n (pc := 5) B dX5_init_5 rfl 0 rfl ?_
  refine kw_iload_n (pc := 6) B dX5_init_6 rfl 2 rfl ?_
  refine kw_pI (pc := 7) B dX5_init_7 fl_X5_7 fp_X5_7 (fun _ => rfl) ?_
  refine kw_aload_n (pc := 10) B dX5_init_10 rfl 0 rfl ?_
  refine kw_aload_n (pc := 11) B dX5_init_11 rfl 1 rfl ?_
  refine kw_callIN (pc := 12) B dX5_init_12 (ct_X4_init a0 a1) q347 q348 q82 q349 rfl ⟨by decide, by decide, rfl⟩ (As := [kA a1]) rfl (st := []) rfl (Nat.le_of_ble_eq_true rfl) (by decide) (by decide) kw_qV (fun _ => ?_)
  exact kw_vret B dX5_init_15 rfl
theorem ct_X5_init (a0 : Option Nat) (a1 : Option Nat) (a2 : Int32) (l : Launch) : kw_Met l yX5_init (ws_ yX5_init cX5_init 3 none) 2 45 [kA a0, kA a1, kI a2] kw_eV (pm_X5_init a0 a1 a2) := kw_met (plainFor_of_name rfl) (Nat.le_of_ble_eq_true rfl) (fun E B => wm_X5_init B a0 a1 a2) l

/-! java/util/ArrayList$Itr <init> (Ljava/util/ArrayList;)V -/
theorem fl_J5_1 : kw_fl RJ5 1 "java/util/ArrayList$Itr" [(33, 3)] := (kw_fl_c (C := RJ5) (T := TJ5) (N := 4) rfl (by decide) in_J5 q385 (Or.inl rfl) kw_fl_nil)
theorem fp_J5_1 : kw_fp RJ5 (.object "java/util/ArrayList") true [(33, 3)] := (kw_fp_c (C := RJ5) (T := TJ5) (N := 4) (ty0 := tyJ5) rfl tyJ5_ok nmJ5 rfl (fun _ => rfl) (by decide) rfl kw_fp_nil)
theorem fl_J5_13 : kw_fl RJ5 13 "java/util/ArrayList$Itr" [(33, 1)] := (kw_fl_c (C := RJ5) (T := TJ5) (N := 4) rfl (by decide) in_J5 q383 (Or.inl rfl) kw_fl_nil)
theorem fp_J5_13 : kw_fp RJ5 .int false [(33, 1)] := (kw_fp_c (C := RJ5) (T := TJ5) (N := 4) (ty0 := tyJ5) rfl tyJ5_ok nmJ5 rfl (fun h => by cases h) (by decide) rfl kw_fp_nil)
theorem fl_J5_17 : kw_fl RJ5 17 "java/util/ArrayList" [(30, 0)] := (kw_fl_c (C := RJ2) (T := TJ2) (N := 3) rfl (by decide) in_J2 q165 (Or.inr q166) kw_fl_nil)
theorem fl_J5_22 : kw_fl RJ5 22 "java/util/ArrayList$Itr" [(33, 2)] := (kw_fl_c (C := RJ5) (T := TJ5) (N := 4) rfl (by decide) in_J5 q384 (Or.inl rfl) kw_fl_nil)
theorem fp_J5_22 : kw_fp RJ5 .int false [(33, 2)] := (kw_fp_c (C := RJ5) (T := TJ5) (N := 4) (ty0 := tyJ5) rfl tyJ5_ok nmJ5 rfl (fun h => by cases h) (by decide) rfl kw_fp_nil)
theorem wm_J5_init {E : kw_E} (B : kw_ok E cJ5_init RJ5 "<init>" 2 none 1 24 []) (a0 : Option Nat) (a1 : Option Nat) : kw_W E kw_eV 0 [(0, kA a0), (1, kA a1)] [] (pm_J5_init a0 a1) := by
  unfold pm_J5_init
  refine kw_aload_n (pc := 0) B dJ5_init_0 rfl 0 rfl ?_
  refine kw_aload_n (pc := 1) B dJ5_init_1 rfl 1 rfl ?_
  refine kw_pR (pc := 2) B dJ5_init_2 fl_J5_1 fp_J5_1 (fun _ => rfl) rfl ?_
  refine kw_aload_n (pc := 5) B dJ5_init_5 rfl 0 rfl ?_
  refine kw_objInit (pc := 6) B dJ5_init_6 q381 q138 q139 (by decide) (Nat.le_of_ble_eq_true rfl) ?_
  refine kw_aload_n (pc := 9) B dJ5_init_9 rfl 0 rfl ?_
  refine kw_iconst (pc := 10) B dJ5_init_10 (v := (-1 : Int32)) rfl ?_
  refine kw_pI (pc := 11) B dJ5_init_11 fl_J5_13 fp_J5_13 (fun h => by cases h) ?_
  refine kw_aload_n (pc := 14) B dJ5_init_14 rfl 0 rfl ?_
  refine kw_aload_n (pc := 15) B dJ5_init_15 rfl 0 rfl ?_
  refine kw_gR (pc := 16) B dJ5_init_16 fl_J5_1 (fun r3 => ?_)
  refine kw_gI (pc := 19) B dJ5_init_19 fl_J5_17 (fun i4 => ?_)
  refine kw_pI (pc := 22) B dJ5_init_22 fl_J5_22 fp_J5_22 (fun h => by cases h) ?_
  exact kw_vret B dJ5_init_25 rfl
theorem ct_J5_init (a0 : Option Nat) (a1 : Option Nat) (l : Launch) : kw_Met l yJ5_init (ws_ yJ5_init cJ5_init 2 none) 1 24 [kA a0, kA a1] kw_eV (pm_J5_init a0 a1) := kw_met (plainFor_of_name rfl) (Nat.le_of_ble_eq_true rfl) (fun E B => wm_J5_init B a0 a1) l

/-! java/util/ArrayList iterator ()Ljava/util/Iterator; -/

theorem wm_J2_iterator {E : kw_E} (B : kw_ok E cJ2_iterator RJ2 "iterator" 1 (some (.object "java/util/Iterator")) 2 45 []) (a0 : Option Nat) : kw_W E kw_eA 0 [(0, kA a0)] [] (pm_J2_iterator a0) := by
  unfold pm_J2_iterator
  refine kw_new (pc := 0) B dJ2_iterator_0 (ci := 33) (N := 4) rfl in_J5 tyJ5_ok kz_Itr_ok q376 q377 q84 (fun r1 => ?_)
  refine kw_dup (pc := 3) B dJ2_iterator_3 rfl ?_
  refine kw_aload_n (pc := 4) B dJ2_iterator_4 rfl 0 rfl ?_
  refine kw_callI (pc := 5) B dJ2_iterator_5 (ct_J5_init r1 a0) q378 q379 q84 q380 rfl ⟨by decide, by decide, rfl⟩ (As := [kA a0]) rfl (st := [kA r1]) rfl (Nat.le_of_ble_eq_true rfl) (by decide) (by decide) kw_qV (fun _ => ?_)
  exact kw_aret rfl B dJ2_iterator_8 rfl
theorem ct_J2_iterator (a0 : Option Nat) (l : Launch) : kw_Met l yJ2_iterator (ws_ yJ2_iterator cJ2_iterator 1 (some (.object "java/util/Iterator"))) 2 45 [kA a0] kw_eA (pm_J2_iterator a0) := kw_met (plainFor_of_name rfl) (Nat.le_of_ble_eq_true rfl) (fun E B => wm_J2_iterator B a0) l

/-! java/util/ArrayList size ()I -/
theorem fl_J2_48 : kw_fl RJ2 48 "java/util/ArrayList" [(30, 2)] := (kw_fl_c (C := RJ2) (T := TJ2) (N := 3) rfl (by decide) in_J2 q163 (Or.inl rfl) kw_fl_nil)
theorem wm_J2_size {E : kw_E} (B : kw_ok E cJ2_size RJ2 "size" 1 (some .int) 1 0 []) (a0 : Option Nat) : kw_W E kw_eI 0 [(0, kA a0)] [] (pm_J2_size a0) := by
  unfold pm_J2_size
  refine kw_aload_n (pc := 0) B dJ2_size_0 rfl 0 rfl ?_
  refine kw_gI (pc := 1) B dJ2_size_1 fl_J2_48 (fun i1 => ?_)
  exact kw_iret B dJ2_size_4 rfl
theorem ct_J2_size (a0 : Option Nat) (l : Launch) : kw_Met l yJ2_size (ws_ yJ2_size cJ2_size 1 (some .int)) 1 0 [kA a0] kw_eI (pm_J2_size a0) := kw_met (plainFor_of_name rfl) (Nat.le_of_ble_eq_true rfl) (fun E B => wm_J2_size B a0) l

/-! RosaryCarvers$Beads$1OfKind hasNext ()Z -/
theorem fl_X12_21 : kw_fl RX12 21 "RosaryCarvers$Beads$1OfKind" [(11, 0)] := (kw_fl_c (C := RX12) (T := TX12) (N := 3) rfl (by decide) in_X12 q923 (Or.inl rfl) kw_fl_nil)
theorem fl_X12_1 : kw_fl RX12 1 "RosaryCarvers$Beads$1OfKind" [(11, 2)] := (kw_fl_c (C := RX12) (T := TX12) (N := 3) rfl (by decide) in_X12 q925 (Or.inl rfl) kw_fl_nil)
theorem fl_X12_25 : kw_flN RX12 25 "RosaryCarvers$Beads" "RosaryCarvers" [(2, 0), (7, 0), (12, 0)] := (kw_flN_c (C := RX2) (T := TX2) (N := 1) rfl (by decide) in_X2 q184 (Or.inl rfl) (kw_flN_c (C := RX8) (T := TX8) (N := 4) rfl (by decide) in_X8 q184 (Or.inl rfl) (kw_flN_c (C := RX14) (T := TX14) (N := 3) rfl (by decide) in_X14 q184 (Or.inl rfl) kw_flN_nil)))
theorem wm_X12_hasNext {E : kw_E} (B : kw_ok E cX12_hasNext RX12 "hasNext" 1 (some .boolean) 2 20 []) (a0 : Option Nat) : kw_W E kw_eI 0 [(0, kA a0)] [] (pm_X12_hasNext a0) := by
  unfold pm_X12_hasNext
  refine kw_aload_n (pc := 0) B dX12_hasNext_0 rfl 0 rfl ?_
  refine kw_gI (pc := 1) B dX12_hasNext_1 fl_X12_21 (fun i1 => ?_)
  refine kw_aload_n (pc := 4) B dX12_hasNext_4 rfl 0 rfl ?_
  refine kw_gR (pc := 5) B dX12_hasNext_5 fl_X12_1 (fun r2 => ?_)
  refine kw_gRN (pc := 8) B dX12_hasNext_8 fl_X12_25 (fun r3 => ?_)
  refine kw_callV (pc := 11) B dX12_hasNext_11 (ci := 30) rfl (ct_J2_size r3) q405 q406 q407 q77 q408 ⟨by decide, by decide, rfl⟩ (As := []) rfl (st := [kI i1]) rfl (Nat.le_of_ble_eq_true rfl) (by decide) (by decide) kw_qI (fun i4 => ?_)
  refine kw_icmp_ge (pc := 14) (tgt := 21) B dX12_hasNext_14 rfl ?_ ?_
  · refine kw_iconst (pc := 21) B dX12_hasNext_21 (v := (0 : Int32)) rfl ?_
    exact kw_zret B dX12_hasNext_22 (g := fun v => v) (fun _ => rfl)
  · refine kw_iconst (pc := 17) B dX12_hasNext_17 (v := (1 : Int32)) rfl ?_
    refine kw_goto (pc := 18) (tgt := 22) B dX12_hasNext_18 rfl ?_
    exact kw_zret B dX12_hasNext_22 (g := fun v => v) (fun _ => rfl)
theorem ct_X12_hasNext (a0 : Option Nat) (l : Launch) : kw_Met l yX12_hasNext (ws_ yX12_hasNext cX12_hasNext 1 (some .boolean)) 2 20 [kA a0] kw_eI (pm_X12_hasNext a0) := kw_met (plainFor_of_name rfl) (Nat.le_of_ble_eq_true rfl) (fun E B => wm_X12_hasNext B a0) l

/-! java/util/ArrayList$Itr hasNext ()Z -/
theorem fl_J5_25 : kw_fl RJ5 25 "java/util/ArrayList$Itr" [(33, 0)] := (kw_fl_c (C := RJ5) (T := TJ5) (N := 4) rfl (by decide) in_J5 q382 (Or.inl rfl) kw_fl_nil)
theorem fl_J5_28 : kw_flN RJ5 28 "java/util/ArrayList" "java/util/ArrayList" [(30, 2)] := (kw_flN_c (C := RJ2) (T := TJ2) (N := 3) rfl (by decide) in_J2 q162 (Or.inl rfl) kw_flN_nil)
theorem wm_J5_hasNext {E : kw_E} (B : kw_ok E cJ5_hasNext RJ5 "hasNext" 1 (some .boolean) 1 0 []) (a0 : Option Nat) : kw_W E kw_eI 0 [(0, kA a0)] [] (pm_J5_hasNext a0) := by
  unfold pm_J5_hasNext
  refine kw_aload_n (pc := 0) B dJ5_hasNext_0 rfl 0 rfl ?_
  refine kw_gI (pc := 1) B dJ5_hasNext_1 fl_J5_25 (fun i1 => ?_)
  refine kw_aload_n (pc := 4) B dJ5_hasNext_4 rfl 0 rfl ?_
  refine kw_gR (pc := 5) B dJ5_hasNext_5 fl_J5_1 (fun r2 => ?_)
  refine kw_gIN (pc := 8) B dJ5_hasNext_8 fl_J5_28 (fun i3 => ?_)
  refine kw_icmp_eq (pc := 11) (tgt := 18) B dJ5_hasNext_11 rfl ?_ ?_
  · refine kw_iconst (pc := 18) B dJ5_hasNext_18 (v := (0 : Int32)) rfl ?_
    exact kw_zret B dJ5_hasNext_19 (g := fun v => v) (fun _ => rfl)
  · refine kw_iconst (pc := 14) B dJ5_hasNext_14 (v := (1 : Int32)) rfl ?_
    refine kw_goto (pc := 15) (tgt := 19) B dJ5_hasNext_15 rfl ?_
    exact kw_zret B dJ5_hasNext_19 (g := fun v => v) (fun _ => rfl)
theorem ct_J5_hasNext (a0 : Option Nat) (l : Launch) : kw_Met l yJ5_hasNext (ws_ yJ5_hasNext cJ5_hasNext 1 (some .boolean)) 1 0 [kA a0] kw_eI (pm_J5_hasNext a0) := kw_met (plainFor_of_name rfl) (Nat.le_of_ble_eq_true rfl) (fun E B => wm_J5_hasNext B a0) l

/-! java/util/ArrayDeque$DeqIterator hasNext ()Z -/
theorem fl_J15_19 : kw_fl RJ15 19 "java/util/ArrayDeque$DeqIterator" [(34, 1)] := (kw_fl_c (C := RJ15) (T := TJ15) (N := 4) rfl (by decide) in_J15 q959 (Or.inl rfl) kw_fl_nil)
theorem wm_J15_hasNext {E : kw_E} (B : kw_ok E cJ15_hasNext RJ15 "hasNext" 1 (some .boolean) 1 0 []) (a0 : Option Nat) : kw_W E kw_eI 0 [(0, kA a0)] [] (pm_J15_hasNext a0) := by
  unfold pm_J15_hasNext
  refine kw_aload_n (pc := 0) B dJ15_hasNext_0 rfl 0 rfl ?_
  refine kw_gI (pc := 1) B dJ15_hasNext_1 fl_J15_19 (fun i1 => ?_)
  refine kw_if_le (pc := 4) (tgt := 11) B dJ15_hasNext_4 rfl ?_ ?_
  · refine kw_iconst (pc := 11) B dJ15_hasNext_11 (v := (0 : Int32)) rfl ?_
    exact kw_zret B dJ15_hasNext_12 (g := fun v => v) (fun _ => rfl)
  · refine kw_iconst (pc := 7) B dJ15_hasNext_7 (v := (1 : Int32)) rfl ?_
    refine kw_goto (pc := 8) (tgt := 12) B dJ15_hasNext_8 rfl ?_
    exact kw_zret B dJ15_hasNext_12 (g := fun v => v) (fun _ => rfl)
theorem ct_J15_hasNext (a0 : Option Nat) (l : Launch) : kw_Met l yJ15_hasNext (ws_ yJ15_hasNext cJ15_hasNext 1 (some .boolean)) 1 0 [kA a0] kw_eI (pm_J15_hasNext a0) := kw_met (plainFor_of_name rfl) (Nat.le_of_ble_eq_true rfl) (fun E B => wm_J15_hasNext B a0) l

/-! jdk/internal/util/Preconditions checkIndex (IILjava/util/function/BiFunction;)I -/

theorem wm_J11_checkIndex {E : kw_E} (B : kw_ok E cJ11_checkIndex RJ11 "checkIndex" 3 (some .int) 1 0 []) (a0 : Int32) (a1 : Int32) (a2 : Option Nat) : kw_W E kw_eI 0 [(0, kI a0), (1, kI a1), (2, kA a2)] [] (pm_J11_checkIndex a0 a1 a2) := by
  unfold pm_J11_checkIndex
  refine kw_iload_n (pc := 0) B dJ11_checkIndex_0 rfl 0 rfl ?_
  refine kw_if_lt (pc := 1) (tgt := 9) B dJ11_checkIndex_1 rfl ?_ ?_
  · refine kw_aload_n (pc := 9) B dJ11_checkIndex_9 rfl 2 rfl ?_
    refine kw_iload_n (pc := 10) B dJ11_checkIndex_10 rfl 0 rfl ?_
    refine kw_iload_n (pc := 11) B dJ11_checkIndex_11 rfl 1 rfl ?_
    exact kw_fail_ok
  · refine kw_iload_n (pc := 4) B dJ11_checkIndex_4 rfl 0 rfl ?_
    refine kw_iload_n (pc := 5) B dJ11_checkIndex_5 rfl 1 rfl ?_
    refine kw_icmp_lt (pc := 6) (tgt := 16) B dJ11_checkIndex_6 rfl ?_ ?_
    · refine kw_iload_n (pc := 16) B dJ11_checkIndex_16 rfl 0 rfl ?_
      exact kw_iret B dJ11_checkIndex_17 rfl
    · refine kw_aload_n (pc := 9) B dJ11_checkIndex_9 rfl 2 rfl ?_
      refine kw_iload_n (pc := 10) B dJ11_checkIndex_10 rfl 0 rfl ?_
      refine kw_iload_n (pc := 11) B dJ11_checkIndex_11 rfl 1 rfl ?_
      exact kw_fail_ok
theorem ct_J11_checkIndex (a0 : Int32) (a1 : Int32) (a2 : Option Nat) (l : Launch) : kw_Met l yJ11_checkIndex (ws_ yJ11_checkIndex cJ11_checkIndex 3 (some .int)) 1 0 [kI a0, kI a1, kA a2] kw_eI (pm_J11_checkIndex a0 a1 a2) := kw_met (plainFor_of_name rfl) (Nat.le_of_ble_eq_true rfl) (fun E B => wm_J11_checkIndex B a0 a1 a2) l

/-! java/util/Objects checkIndex (II)I -/

theorem wm_J10_checkIndex {E : kw_E} (B : kw_ok E cJ10_checkIndex RJ10 "checkIndex" 2 (some .int) 2 22 []) (a0 : Int32) (a1 : Int32) : kw_W E kw_eI 0 [(0, kI a0), (1, kI a1)] [] (pm_J10_checkIndex a0 a1) := by
  unfold pm_J10_checkIndex
  refine kw_iload_n (pc := 0) B dJ10_checkIndex_0 rfl 0 rfl ?_
  refine kw_iload_n (pc := 1) B dJ10_checkIndex_1 rfl 1 rfl ?_
  refine kw_null (pc := 2) B dJ10_checkIndex_2 ?_
  refine kw_callS (pc := 3) B dJ10_checkIndex_3 (ct_J11_checkIndex a0 a1 none) q509 q510 q90 q511 ⟨by decide, by decide, rfl⟩ (As := [kI a0, kI a1, kA none]) rfl (st := []) rfl (Nat.le_of_ble_eq_true rfl) (by decide) (by decide) kw_qI (fun i1 => ?_)
  exact kw_iret B dJ10_checkIndex_6 rfl
theorem ct_J10_checkIndex (a0 : Int32) (a1 : Int32) (l : Launch) : kw_Met l yJ10_checkIndex (ws_ yJ10_checkIndex cJ10_checkIndex 2 (some .int)) 2 22 [kI a0, kI a1] kw_eI (pm_J10_checkIndex a0 a1) := kw_met (plainFor_of_name rfl) (Nat.le_of_ble_eq_true rfl) (fun E B => wm_J10_checkIndex B a0 a1) l

/-! java/util/ArrayList elementData (I)Ljava/lang/Object; -/

theorem wm_J2_elementData {E : kw_E} (B : kw_ok E cJ2_elementData RJ2 "elementData" 2 (some (.object "java/lang/Object")) 1 0 []) (a0 : Option Nat) (a1 : Int32) : kw_W E kw_eA 0 [(0, kA a0), (1, kI a1)] [] (pm_J2_elementData a0 a1) := by
  unfold pm_J2_elementData
  refine kw_aload_n (pc := 0) B dJ2_elementData_0 rfl 0 rfl ?_
  refine kw_gR (pc := 1) B dJ2_elementData_1 fl_J2_9 (fun r1 => ?_)
  refine kw_iload_n (pc := 4) B dJ2_elementData_4 rfl 1 rfl ?_
  refine kw_aald (pc := 5) B dJ2_elementData_5 (fun r2 => ?_)
  exact kw_aret rfl B dJ2_elementData_6 rfl
theorem ct_J2_elementData (a0 : Option Nat) (a1 : Int32) (l : Launch) : kw_Met l yJ2_elementData (ws_ yJ2_elementData cJ2_elementData 2 (some (.object "java/lang/Object"))) 1 0 [kA a0, kI a1] kw_eA (pm_J2_elementData a0 a1) := kw_met (plainFor_of_name rfl) (Nat.le_of_ble_eq_true rfl) (fun E B => wm_J2_elementData B a0 a1) l

/-! java/util/ArrayList get (I)Ljava/lang/Object; -/

theorem wm_J2_get {E : kw_E} (B : kw_ok E cJ2_get RJ2 "get" 2 (some (.object "java/lang/Object")) 3 43 []) (a0 : Option Nat) (a1 : Int32) : kw_W E kw_eA 0 [(0, kA a0), (1, kI a1)] [] (pm_J2_get a0 a1) := by
  unfold pm_J2_get
  refine kw_iload_n (pc := 0) B dJ2_get_0 rfl 1 rfl ?_
  refine kw_aload_n (pc := 1) B dJ2_get_1 rfl 0 rfl ?_
  refine kw_gI (pc := 2) B dJ2_get_2 fl_J2_48 (fun i1 => ?_)
  refine kw_callS (pc := 5) B dJ2_get_5 (ct_J10_checkIndex a1 i1) q506 q507 q89 q508 ⟨by decide, by decide, rfl⟩ (As := [kI a1, kI i1]) rfl (st := []) rfl (Nat.le_of_ble_eq_true rfl) (by decide) (by decide) kw_qI (fun i2 => ?_)
  refine kw_pop (pc := 8) B dJ2_get_8 rfl ?_
  refine kw_aload_n (pc := 9) B dJ2_get_9 rfl 0 rfl ?_
  refine kw_iload_n (pc := 10) B dJ2_get_10 rfl 1 rfl ?_
  refine kw_callV (pc := 11) B dJ2_get_11 (ci := 30) rfl (ct_J2_elementData a0 a1) q512 q513 q514 q77 q515 ⟨by decide, by decide, rfl⟩ (As := [kI a1]) rfl (st := []) rfl (Nat.le_of_ble_eq_true rfl) (by decide) (by decide) kw_qA (fun r3 => ?_)
  exact kw_aret rfl B dJ2_get_14 rfl
theorem ct_J2_get (a0 : Option Nat) (a1 : Int32) (l : Launch) : kw_Met l yJ2_get (ws_ yJ2_get cJ2_get 2 (some (.object "java/lang/Object"))) 3 43 [kA a0, kI a1] kw_eA (pm_J2_get a0 a1) := kw_met (plainFor_of_name rfl) (Nat.le_of_ble_eq_true rfl) (fun E B => wm_J2_get B a0 a1) l

/-! RosaryCarvers$Beads$1OfKind next (I)I -/
theorem cs_RosaryCarvers_Bead : kw_cs "RosaryCarvers$Bead" [14] := by
  intro c hc
  simp only [List.mem_cons, List.not_mem_nil, or_false] at hc
  rcases hc with rfl
  · exact ⟨_, rfl, Or.inl rfl⟩
theorem fl_X12_43 : kw_flN RX12 43 "RosaryCarvers$Bead" "RosaryCarvers" [(14, 1)] := (kw_flN_c (C := RX16) (T := TX16) (N := 3) rfl (by decide) in_X16 q1411 (Or.inl rfl) kw_flN_nil)
theorem fl_X12_7 : kw_fl RX12 7 "RosaryCarvers$Beads$1OfKind" [(11, 1)] := (kw_fl_c (C := RX12) (T := TX12) (N := 3) rfl (by decide) in_X12 q924 (Or.inl rfl) kw_fl_nil)
theorem wb_X12_next_3_2 {E : kw_E} (B : kw_ok E cX12_next_3 RX12 "next" 3 (some .int) 4 64 [])  : ∀ (n : Nat) (x0 : Option Nat) (x2 : Int32), kw_W E kw_eI 2 [(0, kA x0), (2, kI x2)] [] (pb_X12_next_3_2  n x0 x2) := by
  intro n
  induction n with
  | zero =>
    intro x0 x2
    exact kw_fail_ok
  | succ n ih =>
    intro x0 x2
    show kw_W E kw_eI 2 [(0, kA x0), (2, kI x2)] [] (
km_bind (km_gR [(11, 2)] x0) fun r1 =>
km_bind (km_gR [(2, 0), (7, 0), (12, 0)] r1) fun r2 =>
km_bind (km_is 30 r2) fun _ => km_bind (pm_J2_size r2) fun i3 =>
if i3 ≤ x2 then
(km_pure x2)
else
(km_bind (km_gR [(11, 2)] x0) fun r4 =>
km_bind (km_gR [(2, 0), (7, 0), (12, 0)] r4) fun r5 =>
km_bind (km_is 30 r5) fun _ => km_bind (pm_J2_get r5 x2) fun r6 =>
km_bind (km_cast [14] r6) fun _ =>
km_bind (km_gI [(14, 1)] r6) fun i7 =>
km_bind (km_gI [(11, 1)] x0) fun i8 =>
if i7 = i8 then
(km_pure x2)
else
(pb_X12_next_3_2 n x0 (x2 + (1 : Int32)))))
    refine kw_iload_n (pc := 2) B dX12_next_3_2 rfl 1 rfl ?_
    refine kw_aload_n (pc := 3) B dX12_next_3_3 rfl 0 rfl ?_
    refine kw_gR (pc := 4) B dX12_next_3_4 fl_X12_1 (fun r1 => ?_)
    refine kw_gRN (pc := 7) B dX12_next_3_7 fl_X12_25 (fun r2 => ?_)
    refine kw_callV (pc := 10) B dX12_next_3_10 (ci := 30) rfl (ct_J2_size r2) q405 q406 q407 q77 q408 ⟨by decide, by decide, rfl⟩ (As := []) rfl (st := [kI x2]) rfl (Nat.le_of_ble_eq_true rfl) (by decide) (by decide) kw_qI (fun i3 => ?_)
    refine kw_icmp_ge (pc := 13) (tgt := 46) B dX12_next_3_13 rfl ?_ ?_
    · refine kw_iload_n (pc := 46) B dX12_next_3_46 rfl 1 rfl ?_
      exact kw_iret B dX12_next_3_47 rfl
    · refine kw_aload_n (pc := 16) B dX12_next_3_16 rfl 0 rfl ?_
      refine kw_gR (pc := 17) B dX12_next_3_17 fl_X12_1 (fun r4 => ?_)
      refine kw_gRN (pc := 20) B dX12_next_3_20 fl_X12_25 (fun r5 => ?_)
      refine kw_iload_n (pc := 23) B dX12_next_3_23 rfl 1 rfl ?_
      refine kw_callV (pc := 24) B dX12_next_3_24 (ci := 30) rfl (ct_J2_get r5 x2) q502 q503 q504 q77 q505 ⟨by decide, by decide, rfl⟩ (As := [kI x2]) rfl (st := []) rfl (Nat.le_of_ble_eq_true rfl) (by decide) (by decide) kw_qA (fun r6 => ?_)
      refine kw_cast_ok (pc := 27) B dX12_next_3_27 q516 cs_RosaryCarvers_Bead ?_
      refine kw_gIN (pc := 30) B dX12_next_3_30 fl_X12_43 (fun i7 => ?_)
      refine kw_aload_n (pc := 33) B dX12_next_3_33 rfl 0 rfl ?_
      refine kw_gI (pc := 34) B dX12_next_3_34 fl_X12_7 (fun i8 => ?_)
      refine kw_icmp_eq (pc := 37) (tgt := 46) B dX12_next_3_37 rfl ?_ ?_
      · refine kw_iload_n (pc := 46) B dX12_next_3_46 rfl 1 rfl ?_
        exact kw_iret B dX12_next_3_47 rfl
      · refine kw_iinc (pc := 40) B dX12_next_3_40 1 rfl (w := x2 + (1 : Int32)) rfl (by decide) (L2 := [(2, kI (x2 + (1 : Int32))), (0, kA x0)]) rfl ?_
        refine kw_goto (pc := 43) (tgt := 2) B dX12_next_3_43 rfl ?_
        exact kw_pick [1, 0] rfl (ih x0 (x2 + (1 : Int32)))
theorem wm_X12_next_3 {E : kw_E} (B : kw_ok E cX12_next_3 RX12 "next" 3 (some .int) 4 64 []) (a0 : Option Nat) (a1 : Int32) : kw_W E kw_eI 0 [(0, kA a0), (1, kI a1)] [] (pm_X12_next_3 a0 a1) := by
  unfold pm_X12_next_3
  refine kw_iload_n (pc := 0) B dX12_next_3_0 rfl 1 rfl ?_
  refine kw_istore_n (pc := 1) B dX12_next_3_1 rfl (by decide) (L2 := [(2, kI a1), (0, kA a0), (1, kI a1)]) rfl ?_
  exact kw_pick [1, 0] rfl (wb_X12_next_3_2 B km_fuel a0 a1)
theorem ct_X12_next_3 (a0 : Option Nat) (a1 : Int32) (l : Launch) : kw_Met l yX12_next_3 (ws_ yX12_next_3 cX12_next_3 3 (some .int)) 4 64 [kA a0, kI a1] kw_eI (pm_X12_next_3 a0 a1) := kw_met (plainFor_of_name rfl) (Nat.le_of_ble_eq_true rfl) (fun E B => wm_X12_next_3 B a0 a1) l

/-! RosaryCarvers$Beads$1OfKind next ()LRosaryCarvers$Bead; -/
theorem fp_X12_21 : kw_fp RX12 .int false [(11, 0)] := (kw_fp_c (C := RX12) (T := TX12) (N := 3) (ty0 := tyX12) rfl tyX12_ok nmX12 rfl (fun h => by cases h) (by decide) rfl kw_fp_nil)
theorem wm_X12_next_2 {E : kw_E} (B : kw_ok E cX12_next_2 RX12 "next" 2 (some (.object "RosaryCarvers$Bead")) 5 86 []) (a0 : Option Nat) : kw_W E kw_eA 0 [(0, kA a0)] [] (pm_X12_next_2 a0) := by
  unfold pm_X12_next_2
  refine kw_aload_n (pc := 0) B dX12_next_2_0 rfl 0 rfl ?_
  refine kw_callV (pc := 1) B dX12_next_2_1 (ci := 11) rfl (ct_X12_hasNext a0) q434 q402 q2783 q101 q404 ⟨by decide, by decide, rfl⟩ (As := []) rfl (st := []) rfl (Nat.le_of_ble_eq_true rfl) (by decide) (by decide) kw_qI (fun i1 => ?_)
  refine kw_if_ne (pc := 4) (tgt := 15) B dX12_next_2_4 rfl ?_ ?_
  · refine kw_aload_n (pc := 15) B dX12_next_2_15 rfl 0 rfl ?_
    refine kw_gR (pc := 16) B dX12_next_2_16 fl_X12_1 (fun r2 => ?_)
    refine kw_gRN (pc := 19) B dX12_next_2_19 fl_X12_25 (fun r3 => ?_)
    refine kw_aload_n (pc := 22) B dX12_next_2_22 rfl 0 rfl ?_
    refine kw_gI (pc := 23) B dX12_next_2_23 fl_X12_21 (fun i4 => ?_)
    refine kw_callV (pc := 26) B dX12_next_2_26 (ci := 30) rfl (ct_J2_get r3 i4) q502 q503 q504 q77 q505 ⟨by decide, by decide, rfl⟩ (As := [kI i4]) rfl (st := []) rfl (Nat.le_of_ble_eq_true rfl) (by decide) (by decide) kw_qA (fun r5 => ?_)
    refine kw_cast_ok (pc := 29) B dX12_next_2_29 q516 cs_RosaryCarvers_Bead ?_
    refine kw_astore_n (pc := 32) B dX12_next_2_32 rfl (by decide) (L2 := [(1, kA r5), (0, kA a0)]) rfl ?_
    refine kw_aload_n (pc := 33) B dX12_next_2_33 rfl 1 rfl ?_
    refine kw_aload_n (pc := 34) B dX12_next_2_34 rfl 1 rfl ?_
    refine kw_aload_n (pc := 35) B dX12_next_2_35 rfl 1 rfl ?_
    refine kw_gI (pc := 36) B dX12_next_2_36 fl_X12_21 (fun i6 => ?_)
    refine kw_iconst (pc := 39) B dX12_next_2_39 (v := (1 : Int32)) rfl ?_
    refine kw_iadd (pc := 40) B dX12_next_2_40 ?_
    refine kw_callV (pc := 41) B dX12_next_2_41 (ci := 11) rfl (ct_X12_next_3 a0 (i6 + (1 : Int32))) q517 q519 qs2 q101 q521 ⟨by decide, by decide, rfl⟩ (As := [kI (i6 + (1 : Int32))]) rfl (st := [kA a0]) rfl (Nat.le_of_ble_eq_true rfl) (by decide) (by decide) kw_qI (fun i7 => ?_)
    refine kw_pI (pc := 44) B dX12_next_2_44 fl_X12_21 fp_X12_21 (fun h => by cases h) ?_
    refine kw_aload_n (pc := 47) B dX12_next_2_47 rfl 0 rfl ?_
    exact kw_aret rfl B dX12_next_2_48 rfl
  · exact kw_fail_ok
theorem ct_X12_next_2 (a0 : Option Nat) (l : Launch) : kw_Met l yX12_next_2 (ws_ yX12_next_2 cX12_next_2 2 (some (.object "RosaryCarvers$Bead"))) 5 86 [kA a0] kw_eA (pm_X12_next_2 a0) := kw_met (plainFor_of_name rfl) (Nat.le_of_ble_eq_true rfl) (fun E B => wm_X12_next_2 B a0) l

/-! RosaryCarvers$Beads$1OfKind next ()Ljava/lang/Object; -/

theorem wm_X12_next {E : kw_E} (B : kw_ok E cX12_next RX12 "next" 1 (some (.object "java/lang/Object")) 6 107 []) (a0 : Option Nat) : kw_W E kw_eA 0 [(0, kA a0)] [] (pm_X12_next a0) := by
  unfold pm_X12_next
  refine kw_aload_n (pc := 0) B dX12_next_0 rfl 0 rfl ?_
  refine kw_callV (pc := 1) B dX12_next_1 (ci := 11) rfl (ct_X12_next_2 a0) q430 q431 q432 q101 q433 ⟨by decide, by decide, rfl⟩ (As := []) rfl (st := []) rfl (Nat.le_of_ble_eq_true rfl) (by decide) (by decide) kw_qA (fun r1 => ?_)
  exact kw_aret rfl B dX12_next_4 rfl
theorem ct_X12_next (a0 : Option Nat) (l : Launch) : kw_Met l yX12_next (ws_ yX12_next cX12_next 1 (some (.object "java/lang/Object"))) 6 107 [kA a0] kw_eA (pm_X12_next a0) := kw_met (plainFor_of_name rfl) (Nat.le_of_ble_eq_true rfl) (fun E B => wm_X12_next B a0) l

/-! java/util/ArrayList$Itr checkForComodification ()V -/

theorem wm_J5_checkForComodification {E : kw_E} (B : kw_ok E cJ5_checkForComodification RJ5 "checkForComodification" 1 none 1 0 []) (a0 : Option Nat) : kw_W E kw_eV 0 [(0, kA a0)] [] (pm_J5_checkForComodification a0) := by
  unfold pm_J5_checkForComodification
  refine kw_aload_n (pc := 0) B dJ5_checkForComodification_0 rfl 0 rfl ?_
  refine kw_gR (pc := 1) B dJ5_checkForComodification_1 fl_J5_1 (fun r1 => ?_)
  refine kw_gI (pc := 4) B dJ5_checkForComodification_4 fl_J5_17 (fun i2 => ?_)
  refine kw_aload_n (pc := 7) B dJ5_checkForComodification_7 rfl 0 rfl ?_
  refine kw_gI (pc := 8) B dJ5_checkForComodification_8 fl_J5_22 (fun i3 => ?_)
  refine kw_icmp_eq (pc := 11) (tgt := 22) B dJ5_checkForComodification_11 rfl ?_ ?_
  · exact kw_vret B dJ5_checkForComodification_22 rfl
  · exact kw_fail_ok
theorem ct_J5_checkForComodification (a0 : Option Nat) (l : Launch) : kw_Met l yJ5_checkForComodification (ws_ yJ5_checkForComodification cJ5_checkForComodification 1 none) 1 0 [kA a0] kw_eV (pm_J5_checkForComodification a0) := kw_met (plainFor_of_name rfl) (Nat.le_of_ble_eq_true rfl) (fun E B => wm_J5_checkForComodification B a0) l

/-! java/util/ArrayList$Itr next ()Ljava/lang/Object; -/
theorem fl_J5_37 : kw_fl RJ5 37 "java/util/ArrayList" [(30, 1)] := (kw_fl_c (C := RJ2) (T := TJ2) (N := 3) rfl (by decide) in_J2 q161 (Or.inl rfl) kw_fl_nil)
theorem fp_J5_25 : kw_fp RJ5 .int false [(33, 0)] := (kw_fp_c (C := RJ5) (T := TJ5) (N := 4) (ty0 := tyJ5) rfl tyJ5_ok nmJ5 rfl (fun h => by cases h) (by decide) rfl kw_fp_nil)
theorem wm_J5_next {E : kw_E} (B : kw_ok E cJ5_next RJ5 "next" 3 (some (.object "java/lang/Object")) 2 20 []) (a0 : Option Nat) : kw_W E kw_eA 0 [(0, kA a0)] [] (pm_J5_next a0) := by
  unfold pm_J5_next
  refine kw_aload_n (pc := 0) B dJ5_next_0 rfl 0 rfl ?_
  refine kw_callV (pc := 1) B dJ5_next_1 (ci := 33) rfl (ct_J5_checkForComodification a0) q538 q539 q540 q84 q541 ⟨by decide, by decide, rfl⟩ (As := []) rfl (st := []) rfl (Nat.le_of_ble_eq_true rfl) (by decide) (by decide) kw_qV (fun _ => ?_)
  refine kw_aload_n (pc := 4) B dJ5_next_4 rfl 0 rfl ?_
  refine kw_gI (pc := 5) B dJ5_next_5 fl_J5_25 (fun i1 => ?_)
  refine kw_istore_n (pc := 8) B dJ5_next_8 rfl (by decide) (L2 := [(1, kI i1), (0, kA a0)]) rfl ?_
  refine kw_iload_n (pc := 9) B dJ5_next_9 rfl 0 rfl ?_
  refine kw_aload_n (pc := 10) B dJ5_next_10 rfl 1 rfl ?_
  refine kw_gR (pc := 11) B dJ5_next_11 fl_J5_1 (fun r2 => ?_)
  refine kw_gIN (pc := 14) B dJ5_next_14 fl_J5_28 (fun i3 => ?_)
  refine kw_icmp_lt (pc := 17) (tgt := 28) B dJ5_next_17 rfl ?_ ?_
  · refine kw_aload_n (pc := 28) B dJ5_next_28 rfl 1 rfl ?_
    refine kw_gR (pc := 29) B dJ5_next_29 fl_J5_1 (fun r4 => ?_)
    refine kw_gR (pc := 32) B dJ5_next_32 fl_J5_37 (fun r5 => ?_)
    refine kw_astore_n (pc := 35) B dJ5_next_35 rfl (by decide) (L2 := [(2, kA r5), (1, kI i1), (0, kA a0)]) rfl ?_
    refine kw_iload_n (pc := 36) B dJ5_next_36 rfl 1 rfl ?_
    refine kw_aload_n (pc := 37) B dJ5_next_37 rfl 0 rfl ?_
    refine kw_alen (pc := 38) B dJ5_next_38 (fun i6 => ?_)
    refine kw_icmp_lt (pc := 39) (tgt := 50) B dJ5_next_39 rfl ?_ ?_
    · refine kw_aload_n (pc := 50) B dJ5_next_50 rfl 2 rfl ?_
      refine kw_iload_n (pc := 51) B dJ5_next_51 rfl 1 rfl ?_
      refine kw_iconst (pc := 52) B dJ5_next_52 (v := (1 : Int32)) rfl ?_
      refine kw_iadd (pc := 53) B dJ5_next_53 ?_
      refine kw_pI (pc := 54) B dJ5_next_54 fl_J5_25 fp_J5_25 (fun h => by cases h) ?_
      refine kw_aload_n (pc := 57) B dJ5_next_57 rfl 0 rfl ?_
      refine kw_aload_n (pc := 58) B dJ5_next_58 rfl 2 rfl ?_
      refine kw_iload_n (pc := 59) B dJ5_next_59 rfl 1 rfl ?_
      refine kw_dup_x1 (pc := 60) B dJ5_next_60 rfl rfl ?_
      refine kw_pI (pc := 61) B dJ5_next_61 fl_J5_13 fp_J5_13 (fun h => by cases h) ?_
      refine kw_aald (pc := 64) B dJ5_next_64 (fun r9 => ?_)
      exact kw_aret rfl B dJ5_next_65 rfl
    · exact kw_fail_ok
  · exact kw_fail_ok
theorem ct_J5_next (a0 : Option Nat) (l : Launch) : kw_Met l yJ5_next (ws_ yJ5_next cJ5_next 3 (some (.object "java/lang/Object"))) 2 20 [kA a0] kw_eA (pm_J5_next a0) := kw_met (plainFor_of_name rfl) (Nat.le_of_ble_eq_true rfl) (fun E B => wm_J5_next B a0) l

/-! java/util/ArrayDeque nonNullElementAt ([Ljava/lang/Object;I)Ljava/lang/Object; -/

theorem wm_J4_nonNullElementAt {E : kw_E} (B : kw_ok E cJ4_nonNullElementAt RJ4 "nonNullElementAt" 3 (some (.object "java/lang/Object")) 1 0 []) (a0 : Option Nat) (a1 : Int32) : kw_W E kw_eA 0 [(0, kA a0), (1, kI a1)] [] (pm_J4_nonNullElementAt a0 a1) := by
  unfold pm_J4_nonNullElementAt
  refine kw_aload_n (pc := 0) B dJ4_nonNullElementAt_0 rfl 0 rfl ?_
  refine kw_iload_n (pc := 1) B dJ4_nonNullElementAt_1 rfl 1 rfl ?_
  refine kw_aald (pc := 2) B dJ4_nonNullElementAt_2 (fun r1 => ?_)
  refine kw_astore_n (pc := 3) B dJ4_nonNullElementAt_3 rfl (by decide) (L2 := [(2, kA r1), (0, kA a0), (1, kI a1)]) rfl ?_
  refine kw_aload_n (pc := 4) B dJ4_nonNullElementAt_4 rfl 0 rfl ?_
  refine kw_ifnonnull (pc := 5) (tgt := 16) B dJ4_nonNullElementAt_5 rfl ?_ ?_
  · refine kw_aload_n (pc := 16) B dJ4_nonNullElementAt_16 rfl 0 rfl ?_
    exact kw_aret rfl B dJ4_nonNullElementAt_17 rfl
  · exact kw_fail_ok
theorem ct_J4_nonNullElementAt (a0 : Option Nat) (a1 : Int32) (l : Launch) : kw_Met l yJ4_nonNullElementAt (ws_ yJ4_nonNullElementAt cJ4_nonNullElementAt 3 (some (.object "java/lang/Object"))) 1 0 [kA a0, kI a1] kw_eA (pm_J4_nonNullElementAt a0 a1) := kw_met (plainFor_of_name rfl) (Nat.le_of_ble_eq_true rfl) (fun E B => wm_J4_nonNullElementAt B a0 a1) l

/-! java/util/ArrayDeque inc (II)I -/

theorem wm_J4_inc {E : kw_E} (B : kw_ok E cJ4_inc RJ4 "inc" 2 (some .int) 1 0 []) (a0 : Int32) (a1 : Int32) : kw_W E kw_eI 0 [(0, kI a0), (1, kI a1)] [] (pm_J4_inc a0 a1) := by
  unfold pm_J4_inc
  refine kw_iinc (pc := 0) B dJ4_inc_0 0 rfl (w := a0 + (1 : Int32)) rfl (by decide) (L2 := [(0, kI (a0 + (1 : Int32))), (1, kI a1)]) rfl ?_
  refine kw_iload_n (pc := 3) B dJ4_inc_3 rfl 0 rfl ?_
  refine kw_iload_n (pc := 4) B dJ4_inc_4 rfl 1 rfl ?_
  refine kw_icmp_lt (pc := 5) (tgt := 10) B dJ4_inc_5 rfl ?_ ?_
  · refine kw_iload_n (pc := 10) B dJ4_inc_10 rfl 0 rfl ?_
    exact kw_iret B dJ4_inc_11 rfl
  · refine kw_iconst (pc := 8) B dJ4_inc_8 (v := (0 : Int32)) rfl ?_
    refine kw_istore_n (pc := 9) B dJ4_inc_9 rfl (by decide) (L2 := [(0, kI (0 : Int32)), (1, kI a1)]) rfl ?_
    refine kw_iload_n (pc := 10) B dJ4_inc_10 rfl 0 rfl ?_
    exact kw_iret B dJ4_inc_11 rfl
theorem ct_J4_inc (a0 : Int32) (a1 : Int32) (l : Launch) : kw_Met l yJ4_inc (ws_ yJ4_inc cJ4_inc 2 (some .int)) 1 0 [kI a0, kI a1] kw_eI (pm_J4_inc a0 a1) := kw_met (plainFor_of_name rfl) (Nat.le_of_ble_eq_true rfl) (fun E B => wm_J4_inc B a0 a1) l

/-! java/util/ArrayDeque$DeqIterator next ()Ljava/lang/Object; -/
theorem fl_J15_1 : kw_fl RJ15 1 "java/util/ArrayDeque$DeqIterator" [(34, 3)] := (kw_fl_c (C := RJ15) (T := TJ15) (N := 4) rfl (by decide) in_J15 q961 (Or.inl rfl) kw_fl_nil)
theorem fl_J15_35 : kw_fl RJ15 35 "java/util/ArrayDeque" [(32, 0)] := (kw_fl_c (C := RJ4) (T := TJ4) (N := 3) rfl (by decide) in_J4 q291 (Or.inl rfl) kw_fl_nil)
theorem fl_J15_29 : kw_fl RJ15 29 "java/util/ArrayDeque$DeqIterator" [(34, 0)] := (kw_fl_c (C := RJ15) (T := TJ15) (N := 4) rfl (by decide) in_J15 q958 (Or.inl rfl) kw_fl_nil)
theorem fl_J15_23 : kw_fl RJ15 23 "java/util/ArrayDeque$DeqIterator" [(34, 2)] := (kw_fl_c (C := RJ15) (T := TJ15) (N := 4) rfl (by decide) in_J15 q960 (Or.inl rfl) kw_fl_nil)
theorem fp_J15_23 : kw_fp RJ15 .int false [(34, 2)] := (kw_fp_c (C := RJ15) (T := TJ15) (N := 4) (ty0 := tyJ15) rfl tyJ15_ok nmJ15 rfl (fun h => by cases h) (by decide) rfl kw_fp_nil)
theorem fp_J15_29 : kw_fp RJ15 .int false [(34, 0)] := (kw_fp_c (C := RJ15) (T := TJ15) (N := 4) (ty0 := tyJ15) rfl tyJ15_ok nmJ15 rfl (fun h => by cases h) (by decide) rfl kw_fp_nil)
theorem fp_J15_19 : kw_fp RJ15 .int false [(34, 1)] := (kw_fp_c (C := RJ15) (T := TJ15) (N := 4) (ty0 := tyJ15) rfl tyJ15_ok nmJ15 rfl (fun h => by cases h) (by decide) rfl kw_fp_nil)
theorem wm_J15_next {E : kw_E} (B : kw_ok E cJ15_next RJ15 "next" 3 (some (.object "java/lang/Object")) 2 22 []) (a0 : Option Nat) : kw_W E kw_eA 0 [(0, kA a0)] [] (pm_J15_next a0) := by
  unfold pm_J15_next
  refine kw_aload_n (pc := 0) B dJ15_next_0 rfl 0 rfl ?_
  refine kw_gI (pc := 1) B dJ15_next_1 fl_J15_19 (fun i1 => ?_)
  refine kw_if_gt (pc := 4) (tgt := 15) B dJ15_next_4 rfl ?_ ?_
  · refine kw_aload_n (pc := 15) B dJ15_next_15 rfl 0 rfl ?_
    refine kw_gR (pc := 16) B dJ15_next_16 fl_J15_1 (fun r2 => ?_)
    refine kw_gR (pc := 19) B dJ15_next_19 fl_J15_35 (fun r3 => ?_)
    refine kw_astore_n (pc := 22) B dJ15_next_22 rfl (by decide) (L2 := [(1, kA r3), (0, kA a0)]) rfl ?_
    refine kw_aload_n (pc := 23) B dJ15_next_23 rfl 0 rfl ?_
    refine kw_aload_n (pc := 24) B dJ15_next_24 rfl 1 rfl ?_
    refine kw_gI (pc := 25) B dJ15_next_25 fl_J15_29 (fun i4 => ?_)
    refine kw_callS (pc := 28) B dJ15_next_28 (ct_J4_nonNullElementAt r3 i4) q527 q528 q80 q529 ⟨by decide, by decide, rfl⟩ (As := [kA r3, kI i4]) rfl (st := []) rfl (Nat.le_of_ble_eq_true rfl) (by decide) (by decide) kw_qA (fun r5 => ?_)
    refine kw_astore_n (pc := 31) B dJ15_next_31 rfl (by decide) (L2 := [(2, kA r5), (1, kA r3), (0, kA a0)]) rfl ?_
    refine kw_aload_n (pc := 32) B dJ15_next_32 rfl 2 rfl ?_
    refine kw_aload_n (pc := 33) B dJ15_next_33 rfl 2 rfl ?_
    refine kw_aload_n (pc := 34) B dJ15_next_34 rfl 2 rfl ?_
    refine kw_gI (pc := 35) B dJ15_next_35 fl_J15_29 (fun i6 => ?_)
    refine kw_dup_x1 (pc := 38) B dJ15_next_38 rfl rfl ?_
    refine kw_pI (pc := 39) B dJ15_next_39 fl_J15_23 fp_J15_23 (fun h => by cases h) ?_
    refine kw_aload_n (pc := 42) B dJ15_next_42 rfl 1 rfl ?_
    refine kw_alen (pc := 43) B dJ15_next_43 (fun i8 => ?_)
    refine kw_callS (pc := 44) B dJ15_next_44 (ct_J4_inc i6 i8) q530 q531 q80 q532 ⟨by decide, by decide, rfl⟩ (As := [kI i6, kI i8]) rfl (st := [kA a0]) rfl (Nat.le_of_ble_eq_true rfl) (by decide) (by decide) kw_qI (fun i9 => ?_)
    refine kw_pI (pc := 47) B dJ15_next_47 fl_J15_29 fp_J15_29 (fun h => by cases h) ?_
    refine kw_aload_n (pc := 50) B dJ15_next_50 rfl 2 rfl ?_
    refine kw_dup (pc := 51) B dJ15_next_51 rfl ?_
    refine kw_gI (pc := 52) B dJ15_next_52 fl_J15_19 (fun i11 => ?_)
    refine kw_iconst (pc := 55) B dJ15_next_55 (v := (1 : Int32)) rfl ?_
    refine kw_isub (pc := 56) B dJ15_next_56 ?_
    refine kw_pI (pc := 57) B dJ15_next_57 fl_J15_19 fp_J15_19 (fun h => by cases h) ?_
    refine kw_aload_n (pc := 60) B dJ15_next_60 rfl 0 rfl ?_
    exact kw_aret rfl B dJ15_next_61 rfl
  · exact kw_fail_ok
theorem ct_J15_next (a0 : Option Nat) (l : Launch) : kw_Met l yJ15_next (ws_ yJ15_next cJ15_next 3 (some (.object "java/lang/Object"))) 2 22 [kA a0] kw_eA (pm_J15_next a0) := kw_met (plainFor_of_name rfl) (Nat.le_of_ble_eq_true rfl) (fun E B => wm_J15_next B a0) l

/-! RosaryCarvers$Carver <init> (I)V -/
theorem fl_X6_7 : kw_fl RX6 7 "RosaryCarvers$Carver" [(5, 0)] := (kw_fl_c (C := RX6) (T := TX6) (N := 4) rfl (by decide) in_X6 q551 (Or.inl rfl) kw_fl_nil)
theorem fp_X6_7 : kw_fp RX6 .int true [(5, 0)] := (kw_fp_c (C := RX6) (T := TX6) (N := 4) (ty0 := tyX6) rfl tyX6_ok nmX6 rfl (fun _ => rfl) (by decide) rfl kw_fp_nil)
theorem wm_X6_init_2 {E : kw_E} (B : kw_ok E cX6_init_2 RX6 "<init>" 2 none 1 24 []) (a0 : Option Nat) (a1 : Int32) : kw_W E kw_eV 0 [(0, kA a0), (1, kI a1)] [] (pm_X6_init_2 a0 a1) := by
  unfold pm_X6_init_2
  refine kw_aload_n (pc := 0) B dX6_init_2_0 rfl 0 rfl ?_
  refine kw_objInit (pc := 1) B dX6_init_2_1 q550 q138 q139 (by decide) (Nat.le_of_ble_eq_true rfl) ?_
  refine kw_aload_n (pc := 4) B dX6_init_2_4 rfl 0 rfl ?_
  refine kw_iload_n (pc := 5) B dX6_init_2_5 rfl 1 rfl ?_
  refine kw_pI (pc := 6) B dX6_init_2_6 fl_X6_7 fp_X6_7 (fun _ => rfl) ?_
  exact kw_vret B dX6_init_2_9 rfl
theorem ct_X6_init_2 (a0 : Option Nat) (a1 : Int32) (l : Launch) : kw_Met l yX6_init_2 (ws_ yX6_init_2 cX6_init_2 2 none) 1 24 [kA a0, kI a1] kw_eV (pm_X6_init_2 a0 a1) := kw_met (plainFor_of_name rfl) (Nat.le_of_ble_eq_true rfl) (fun E B => wm_X6_init_2 B a0 a1) l

/-! RosaryCarvers$Carver <init> (LRosaryCarvers$Carver;)V -/
theorem fl_X6_16 : kw_fl RX6 16 "RosaryCarvers$Carver" [(5, 1)] := (kw_fl_c (C := RX6) (T := TX6) (N := 4) rfl (by decide) in_X6 q554 (Or.inl rfl) kw_fl_nil)
theorem fp_X6_16 : kw_fp RX6 .int false [(5, 1)] := (kw_fp_c (C := RX6) (T := TX6) (N := 4) (ty0 := tyX6) rfl tyX6_ok nmX6 rfl (fun h => by cases h) (by decide) rfl kw_fp_nil)
theorem fl_X6_19 : kw_fl RX6 19 "RosaryCarvers$Carver" [(5, 2)] := (kw_fl_c (C := RX6) (T := TX6) (N := 4) rfl (by decide) in_X6 q557 (Or.inl rfl) kw_fl_nil)
theorem fp_X6_19 : kw_fp RX6 .int false [(5, 2)] := (kw_fp_c (C := RX6) (T := TX6) (N := 4) (ty0 := tyX6) rfl tyX6_ok nmX6 rfl (fun h => by cases h) (by decide) rfl kw_fp_nil)
theorem fl_X6_22 : kw_fl RX6 22 "RosaryCarvers$Carver" [(5, 3)] := (kw_fl_c (C := RX6) (T := TX6) (N := 4) rfl (by decide) in_X6 q560 (Or.inl rfl) kw_fl_nil)
theorem fp_X6_22 : kw_fp RX6 .int false [(5, 3)] := (kw_fp_c (C := RX6) (T := TX6) (N := 4) (ty0 := tyX6) rfl tyX6_ok nmX6 rfl (fun h => by cases h) (by decide) rfl kw_fp_nil)
theorem wm_X6_init {E : kw_E} (B : kw_ok E cX6_init RX6 "<init>" 2 none 2 45 []) (a0 : Option Nat) (a1 : Option Nat) : kw_W E kw_eV 0 [(0, kA a0), (1, kA a1)] [] (pm_X6_init a0 a1) := by
  unfold pm_X6_init
  refine kw_aload_n (pc := 0) B dX6_init_0 rfl 0 rfl ?_
  refine kw_aload_n (pc := 1) B dX6_init_1 rfl 1 rfl ?_
  refine kw_gI (pc := 2) B dX6_init_2 fl_X6_7 (fun i1 => ?_)
  refine kw_callI (pc := 5) B dX6_init_5 (ct_X6_init_2 a0 i1) q547 q548 q91 q549 rfl ⟨by decide, by decide, rfl⟩ (As := [kI i1]) rfl (st := []) rfl (Nat.le_of_ble_eq_true rfl) (by decide) (by decide) kw_qV (fun _ => ?_)
  refine kw_aload_n (pc := 8) B dX6_init_8 rfl 0 rfl ?_
  refine kw_aload_n (pc := 9) B dX6_init_9 rfl 1 rfl ?_
  refine kw_gI (pc := 10) B dX6_init_10 fl_X6_16 (fun i2 => ?_)
  refine kw_pI (pc := 13) B dX6_init_13 fl_X6_16 fp_X6_16 (fun h => by cases h) ?_
  refine kw_aload_n (pc := 16) B dX6_init_16 rfl 0 rfl ?_
  refine kw_aload_n (pc := 17) B dX6_init_17 rfl 1 rfl ?_
  refine kw_gI (pc := 18) B dX6_init_18 fl_X6_19 (fun i4 => ?_)
  refine kw_pI (pc := 21) B dX6_init_21 fl_X6_19 fp_X6_19 (fun h => by cases h) ?_
  refine kw_aload_n (pc := 24) B dX6_init_24 rfl 0 rfl ?_
  refine kw_aload_n (pc := 25) B dX6_init_25 rfl 1 rfl ?_
  refine kw_gI (pc := 26) B dX6_init_26 fl_X6_22 (fun i6 => ?_)
  refine kw_pI (pc := 29) B dX6_init_29 fl_X6_22 fp_X6_22 (fun h => by cases h) ?_
  exact kw_vret B dX6_init_32 rfl
theorem ct_X6_init (a0 : Option Nat) (a1 : Option Nat) (l : Launch) : kw_Met l yX6_init (ws_ yX6_init cX6_init 2 none) 2 45 [kA a0, kA a1] kw_eV (pm_X6_init a0 a1) := kw_met (plainFor_of_name rfl) (Nat.le_of_ble_eq_true rfl) (fun E B => wm_X6_init B a0 a1) l

/-! jdk/internal/util/ArraysSupport newLength (III)I -/

theorem wm_J12_newLength {E : kw_E} (B : kw_ok E cJ12_newLength RJ12 "newLength" 4 (some .int) 1 24 []) (a0 : Int32) (a1 : Int32) (a2 : Int32) : kw_W E kw_eI 0 [(0, kI a0), (1, kI a1), (2, kI a2)] [] (pm_J12_newLength a0 a1 a2) := by
  unfold pm_J12_newLength
  refine kw_iload_n (pc := 0) B dJ12_newLength_0 rfl 0 rfl ?_
  refine kw_iload_n (pc := 1) B dJ12_newLength_1 rfl 1 rfl ?_
  refine kw_iload_n (pc := 2) B dJ12_newLength_2 rfl 2 rfl ?_
  refine kw_mmax (pc := 3) B dJ12_newLength_3 q591 q592 q93 q593 (by decide) (Nat.le_of_ble_eq_true rfl) ?_
  refine kw_iadd (pc := 6) B dJ12_newLength_6 ?_
  refine kw_istore_n (pc := 7) B dJ12_newLength_7 rfl (by decide) (L2 := [(3, kI (a0 + (km_max a1 a2))), (0, kI a0), (1, kI a1), (2, kI a2)]) rfl ?_
  refine kw_iconst (pc := 8) B dJ12_newLength_8 (v := (0 : Int32)) rfl ?_
  refine kw_iload_n (pc := 9) B dJ12_newLength_9 rfl 0 rfl ?_
  refine kw_icmp_ge (pc := 10) (tgt := 21) B dJ12_newLength_10 rfl ?_ ?_
  · refine kw_iload_n (pc := 21) B dJ12_newLength_21 rfl 1 rfl ?_
    refine kw_iload_n (pc := 22) B dJ12_newLength_22 rfl 2 rfl ?_
    exact kw_fail_ok
  · refine kw_iload_n (pc := 13) B dJ12_newLength_13 rfl 0 rfl ?_
    refine kw_ldcI (pc := 14) B dJ12_newLength_14 q594 ?_
    refine kw_icmp_gt (pc := 16) (tgt := 21) B dJ12_newLength_16 rfl ?_ ?_
    · refine kw_iload_n (pc := 21) B dJ12_newLength_21 rfl 1 rfl ?_
      refine kw_iload_n (pc := 22) B dJ12_newLength_22 rfl 2 rfl ?_
      exact kw_fail_ok
    · refine kw_iload_n (pc := 19) B dJ12_newLength_19 rfl 0 rfl ?_
      exact kw_iret B dJ12_newLength_20 rfl
theorem ct_J12_newLength (a0 : Int32) (a1 : Int32) (a2 : Int32) (l : Launch) : kw_Met l yJ12_newLength (ws_ yJ12_newLength cJ12_newLength 4 (some .int)) 1 24 [kI a0, kI a1, kI a2] kw_eI (pm_J12_newLength a0 a1 a2) := kw_met (plainFor_of_name rfl) (Nat.le_of_ble_eq_true rfl) (fun E B => wm_J12_newLength B a0 a1 a2) l

/-! java/util/Arrays copyOf ([Ljava/lang/Object;ILjava/lang/Class;)[Ljava/lang/Object; -/

theorem wm_J14_copyOf_2 {E : kw_E} (B : kw_ok E cJ14_copyOf_2 RJ14 "copyOf" 4 (some (.array (.object "java/lang/Object"))) 1 40 []) (a0 : Option Nat) (a1 : Int32) (a2 : Option Nat) : kw_W E kw_eA 0 [(0, kA a0), (1, kI a1), (2, kA a2)] [] (pm_J14_copyOf_2 a0 a1 a2) := by
  unfold pm_J14_copyOf_2
  refine kw_aload_n (pc := 0) B dJ14_copyOf_2_0 rfl 2 rfl ?_
  refine kw_ldcM (pc := 1) B dJ14_copyOf_2_1 q649 (fun r1 => ?_)
  refine kw_acmp_ne (pc := 3) (tgt := 13) B dJ14_copyOf_2_3 rfl ?_ ?_
  · refine kw_aload_n (pc := 13) B dJ14_copyOf_2_13 rfl 2 rfl ?_
    exact kw_fail_ok
  · refine kw_iload_n (pc := 6) B dJ14_copyOf_2_6 rfl 1 rfl ?_
    refine kw_anew (pc := 7) B dJ14_copyOf_2_7 (kd := 4) (C := "java/lang/Object") (by decide) rfl q650 q289 (fun r2 => ?_)
    refine kw_goto (pc := 10) (tgt := 24) B dJ14_copyOf_2_10 rfl ?_
    refine kw_astore_n (pc := 24) B dJ14_copyOf_2_24 rfl (by decide) (L2 := [(3, kA r2), (0, kA a0), (1, kI a1), (2, kA a2)]) rfl ?_
    refine kw_aload_n (pc := 25) B dJ14_copyOf_2_25 rfl 1 rfl ?_
    refine kw_iconst (pc := 26) B dJ14_copyOf_2_26 (v := (0 : Int32)) rfl ?_
    refine kw_aload_n (pc := 27) B dJ14_copyOf_2_27 rfl 0 rfl ?_
    refine kw_iconst (pc := 28) B dJ14_copyOf_2_28 (v := (0 : Int32)) rfl ?_
    refine kw_aload_n (pc := 29) B dJ14_copyOf_2_29 rfl 1 rfl ?_
    refine kw_alen (pc := 30) B dJ14_copyOf_2_30 (fun i3 => ?_)
    refine kw_iload_n (pc := 31) B dJ14_copyOf_2_31 rfl 2 rfl ?_
    refine kw_mmin (pc := 32) B dJ14_copyOf_2_32 q651 q652 q93 q653 (by decide) (Nat.le_of_ble_eq_true rfl) ?_
    refine kw_acopy (pc := 35) B dJ14_copyOf_2_35 q654 q656 q655 q95 (by decide) (Nat.le_of_ble_eq_true rfl) ?_
    refine kw_aload_n (pc := 38) B dJ14_copyOf_2_38 rfl 0 rfl ?_
    exact kw_aret rfl B dJ14_copyOf_2_39 rfl
theorem ct_J14_copyOf_2 (a0 : Option Nat) (a1 : Int32) (a2 : Option Nat) (l : Launch) : kw_Met l yJ14_copyOf_2 (ws_ yJ14_copyOf_2 cJ14_copyOf_2 4 (some (.array (.object "java/lang/Object")))) 1 40 [kA a0, kI a1, kA a2] kw_eA (pm_J14_copyOf_2 a0 a1 a2) := kw_met (plainFor_of_name rfl) (Nat.le_of_ble_eq_true rfl) (fun E B => wm_J14_copyOf_2 B a0 a1 a2) l

/-! java/util/Arrays copyOf ([Ljava/lang/Object;I)[Ljava/lang/Object; -/

theorem wm_J14_copyOf {E : kw_E} (B : kw_ok E cJ14_copyOf RJ14 "copyOf" 2 (some (.array (.object "java/lang/Object"))) 2 63 []) (a0 : Option Nat) (a1 : Int32) : kw_W E kw_eA 0 [(0, kA a0), (1, kI a1)] [] (pm_J14_copyOf a0 a1) := by
  unfold pm_J14_copyOf
  refine kw_aload_n (pc := 0) B dJ14_copyOf_0 rfl 0 rfl ?_
  refine kw_iload_n (pc := 1) B dJ14_copyOf_1 rfl 1 rfl ?_
  refine kw_aload_n (pc := 2) B dJ14_copyOf_2 rfl 0 rfl ?_
  refine kw_getC (pc := 3) B dJ14_copyOf_3 q601 q2850 q602 q645 (by decide) (Nat.le_of_ble_eq_true rfl) (fun r1 => ?_)
  refine kw_callS (pc := 6) B dJ14_copyOf_6 (ct_J14_copyOf_2 a0 a1 r1) q646 q647 q94 q648 ⟨by decide, by decide, rfl⟩ (As := [kA a0, kI a1, kA r1]) rfl (st := []) rfl (Nat.le_of_ble_eq_true rfl) (by decide) (by decide) kw_qA (fun r2 => ?_)
  exact kw_aret rfl B dJ14_copyOf_9 rfl
theorem ct_J14_copyOf (a0 : Option Nat) (a1 : Int32) (l : Launch) : kw_Met l yJ14_copyOf (ws_ yJ14_copyOf cJ14_copyOf 2 (some (.array (.object "java/lang/Object")))) 2 63 [kA a0, kI a1] kw_eA (pm_J14_copyOf a0 a1) := kw_met (plainFor_of_name rfl) (Nat.le_of_ble_eq_true rfl) (fun E B => wm_J14_copyOf B a0 a1) l

/-! java/util/ArrayList grow (I)[Ljava/lang/Object; -/

theorem wb_J2_grow_2_20 {E : kw_E} (B : kw_ok E cJ2_grow_2 RJ2 "grow" 4 (some (.array (.object "java/lang/Object"))) 3 84 [])  (x0 : Option Nat) (x1 : Int32) (x2 : Int32) : kw_W E kw_eA 20 [(0, kA x0), (1, kI x1), (2, kI x2)] [] (pb_J2_grow_2_20  x0 x1 x2) := by
  unfold pb_J2_grow_2_20
  refine kw_iload_n (pc := 20) B dJ2_grow_2_20 rfl 2 rfl ?_
  refine kw_iload_n (pc := 21) B dJ2_grow_2_21 rfl 1 rfl ?_
  refine kw_iload_n (pc := 22) B dJ2_grow_2_22 rfl 2 rfl ?_
  refine kw_isub (pc := 23) B dJ2_grow_2_23 ?_
  refine kw_iload_n (pc := 24) B dJ2_grow_2_24 rfl 2 rfl ?_
  refine kw_iconst (pc := 25) B dJ2_grow_2_25 (v := (1 : Int32)) rfl ?_
  refine kw_ishr (pc := 26) B dJ2_grow_2_26 ?_
  refine kw_callS (pc := 27) B dJ2_grow_2_27 (ct_J12_newLength x2 (x1 - x2) (x2 >>> ((1 : Int32) &&& 31))) q588 q589 q92 q590 ⟨by decide, by decide, rfl⟩ (As := [kI x2, kI (x1 - x2), kI (x2 >>> ((1 : Int32) &&& 31))]) rfl (st := []) rfl (Nat.le_of_ble_eq_true rfl) (by decide) (by decide) kw_qI (fun i1 => ?_)
  refine kw_istore_n (pc := 30) B dJ2_grow_2_30 rfl (by decide) (L2 := [(3, kI i1), (0, kA x0), (1, kI x1), (2, kI x2)]) rfl ?_
  refine kw_aload_n (pc := 31) B dJ2_grow_2_31 rfl 1 rfl ?_
  refine kw_aload_n (pc := 32) B dJ2_grow_2_32 rfl 1 rfl ?_
  refine kw_gR (pc := 33) B dJ2_grow_2_33 fl_J2_9 (fun r2 => ?_)
  refine kw_iload_n (pc := 36) B dJ2_grow_2_36 rfl 0 rfl ?_
  refine kw_callS (pc := 37) B dJ2_grow_2_37 (ct_J14_copyOf r2 i1) q598 q599 q94 q600 ⟨by decide, by decide, rfl⟩ (As := [kA r2, kI i1]) rfl (st := [kA x0]) rfl (Nat.le_of_ble_eq_true rfl) (by decide) (by decide) kw_qA (fun r3 => ?_)
  refine kw_dup_x1 (pc := 40) B dJ2_grow_2_40 rfl rfl ?_
  refine kw_pR (pc := 41) B dJ2_grow_2_41 fl_J2_9 fp_J2_9 (fun h => by cases h) rfl ?_
  exact kw_aret rfl B dJ2_grow_2_44 rfl
theorem wm_J2_grow_2 {E : kw_E} (B : kw_ok E cJ2_grow_2 RJ2 "grow" 4 (some (.array (.object "java/lang/Object"))) 3 84 []) (a0 : Option Nat) (a1 : Int32) : kw_W E kw_eA 0 [(0, kA a0), (1, kI a1)] [] (pm_J2_grow_2 a0 a1) := by
  unfold pm_J2_grow_2
  refine kw_aload_n (pc := 0) B dJ2_grow_2_0 rfl 0 rfl ?_
  refine kw_gR (pc := 1) B dJ2_grow_2_1 fl_J2_9 (fun r1 => ?_)
  refine kw_alen (pc := 4) B dJ2_grow_2_4 (fun i2 => ?_)
  refine kw_istore_n (pc := 5) B dJ2_grow_2_5 rfl (by decide) (L2 := [(2, kI i2), (0, kA a0), (1, kI a1)]) rfl ?_
  refine kw_iload_n (pc := 6) B dJ2_grow_2_6 rfl 0 rfl ?_
  refine kw_if_gt (pc := 7) (tgt := 20) B dJ2_grow_2_7 rfl ?_ ?_
  · exact kw_pick [1, 2, 0] rfl (wb_J2_grow_2_20 B a0 a1 i2)
  · refine kw_aload_n (pc := 10) B dJ2_grow_2_10 rfl 1 rfl ?_
    refine kw_gR (pc := 11) B dJ2_grow_2_11 fl_J2_9 (fun r3 => ?_)
    refine kw_getsR (pc := 14) B dJ2_grow_2_14 (i := 0) (C := "java/util/ArrayList") (n := "DEFAULTCAPACITY_EMPTY_ELEMENTDATA") (dd := "[Ljava/lang/Object;") (by decide) q158 rfl (fun r4 => ?_)
    refine kw_acmp_eq (pc := 17) (tgt := 45) B dJ2_grow_2_17 rfl ?_ ?_
    · refine kw_aload_n (pc := 45) B dJ2_grow_2_45 rfl 1 rfl ?_
      refine kw_bipush (pc := 46) B dJ2_grow_2_46 (v := (10 : Int32)) rfl ?_
      refine kw_iload_n (pc := 48) B dJ2_grow_2_48 rfl 2 rfl ?_
      refine kw_mmax (pc := 49) B dJ2_grow_2_49 q657 q592 q93 q593 (by decide) (Nat.le_of_ble_eq_true rfl) ?_
      refine kw_anew (pc := 52) B dJ2_grow_2_52 (kd := 4) (C := "java/lang/Object") (by decide) rfl q658 q289 (fun r5 => ?_)
      refine kw_dup_x1 (pc := 55) B dJ2_grow_2_55 rfl rfl ?_
      refine kw_pR (pc := 56) B dJ2_grow_2_56 fl_J2_9 fp_J2_9 (fun h => by cases h) rfl ?_
      exact kw_aret rfl B dJ2_grow_2_59 rfl
    · exact kw_pick [1, 2, 0] rfl (wb_J2_grow_2_20 B a0 a1 i2)
theorem ct_J2_grow_2 (a0 : Option Nat) (a1 : Int32) (l : Launch) : kw_Met l yJ2_grow_2 (ws_ yJ2_grow_2 cJ2_grow_2 4 (some (.array (.object "java/lang/Object")))) 3 84 [kA a0, kI a1] kw_eA (pm_J2_grow_2 a0 a1) := kw_met (plainFor_of_name rfl) (Nat.le_of_ble_eq_true rfl) (fun E B => wm_J2_grow_2 B a0 a1) l

/-! java/util/ArrayList grow ()[Ljava/lang/Object; -/

theorem wm_J2_grow {E : kw_E} (B : kw_ok E cJ2_grow RJ2 "grow" 1 (some (.array (.object "java/lang/Object"))) 4 107 []) (a0 : Option Nat) : kw_W E kw_eA 0 [(0, kA a0)] [] (pm_J2_grow a0) := by
  unfold pm_J2_grow
  refine kw_aload_n (pc := 0) B dJ2_grow_0 rfl 0 rfl ?_
  refine kw_aload_n (pc := 1) B dJ2_grow_1 rfl 0 rfl ?_
  refine kw_gI (pc := 2) B dJ2_grow_2 fl_J2_48 (fun i1 => ?_)
  refine kw_iconst (pc := 5) B dJ2_grow_5 (v := (1 : Int32)) rfl ?_
  refine kw_iadd (pc := 6) B dJ2_grow_6 ?_
  refine kw_callV (pc := 7) B dJ2_grow_7 (ci := 30) rfl (ct_J2_grow_2 a0 (i1 + (1 : Int32))) q584 q586 qs5 q77 q587 ⟨by decide, by decide, rfl⟩ (As := [kI (i1 + (1 : Int32))]) rfl (st := []) rfl (Nat.le_of_ble_eq_true rfl) (by decide) (by decide) kw_qA (fun r2 => ?_)
  exact kw_aret rfl B dJ2_grow_10 rfl
theorem ct_J2_grow (a0 : Option Nat) (l : Launch) : kw_Met l yJ2_grow (ws_ yJ2_grow cJ2_grow 1 (some (.array (.object "java/lang/Object")))) 4 107 [kA a0] kw_eA (pm_J2_grow a0) := kw_met (plainFor_of_name rfl) (Nat.le_of_ble_eq_true rfl) (fun E B => wm_J2_grow B a0) l

/-! java/util/ArrayList add (Ljava/lang/Object;[Ljava/lang/Object;I)V -/
theorem fp_J2_48 : kw_fp RJ2 .int false [(30, 2)] := (kw_fp_c (C := RJ2) (T := TJ2) (N := 3) (ty0 := tyJ2) rfl tyJ2_ok nmJ2 rfl (fun h => by cases h) (by decide) rfl kw_fp_nil)
theorem wb_J2_add_2_11 {E : kw_E} (B : kw_ok E cJ2_add_2 RJ2 "add" 4 none 5 127 [])  (x0 : Option Nat) (x1 : Option Nat) (x2 : Option Nat) (x3 : Int32) : kw_W E kw_eV 11 [(0, kA x0), (1, kA x1), (2, kA x2), (3, kI x3)] [] (pb_J2_add_2_11  x0 x1 x2 x3) := by
  unfold pb_J2_add_2_11
  refine kw_aload_n (pc := 11) B dJ2_add_2_11 rfl 2 rfl ?_
  refine kw_iload_n (pc := 12) B dJ2_add_2_12 rfl 3 rfl ?_
  refine kw_aload_n (pc := 13) B dJ2_add_2_13 rfl 1 rfl ?_
  refine kw_aast (pc := 14) B dJ2_add_2_14 ?_
  refine kw_aload_n (pc := 15) B dJ2_add_2_15 rfl 0 rfl ?_
  refine kw_iload_n (pc := 16) B dJ2_add_2_16 rfl 3 rfl ?_
  refine kw_iconst (pc := 17) B dJ2_add_2_17 (v := (1 : Int32)) rfl ?_
  refine kw_iadd (pc := 18) B dJ2_add_2_18 ?_
  refine kw_pI (pc := 19) B dJ2_add_2_19 fl_J2_48 fp_J2_48 (fun h => by cases h) ?_
  exact kw_vret B dJ2_add_2_22 rfl
theorem wm_J2_add_2 {E : kw_E} (B : kw_ok E cJ2_add_2 RJ2 "add" 4 none 5 127 []) (a0 : Option Nat) (a1 : Option Nat) (a2 : Option Nat) (a3 : Int32) : kw_W E kw_eV 0 [(0, kA a0), (1, kA a1), (2, kA a2), (3, kI a3)] [] (pm_J2_add_2 a0 a1 a2 a3) := by
  unfold pm_J2_add_2
  refine kw_iload_n (pc := 0) B dJ2_add_2_0 rfl 3 rfl ?_
  refine kw_aload_n (pc := 1) B dJ2_add_2_1 rfl 2 rfl ?_
  refine kw_alen (pc := 2) B dJ2_add_2_2 (fun i1 => ?_)
  refine kw_icmp_ne (pc := 3) (tgt := 11) B dJ2_add_2_3 rfl ?_ ?_
  · exact kw_pick [0, 1, 2, 3] rfl (wb_J2_add_2_11 B a0 a1 a2 a3)
  · refine kw_aload_n (pc := 6) B dJ2_add_2_6 rfl 0 rfl ?_
    refine kw_callV (pc := 7) B dJ2_add_2_7 (ci := 30) rfl (ct_J2_grow a0) q580 q582 qs4 q77 q583 ⟨by decide, by decide, rfl⟩ (As := []) rfl (st := []) rfl (Nat.le_of_ble_eq_true rfl) (by decide) (by decide) kw_qA (fun r2 => ?_)
    refine kw_astore_n (pc := 10) B dJ2_add_2_10 rfl (by decide) (L2 := [(2, kA r2), (0, kA a0), (1, kA a1), (3, kI a3)]) rfl ?_
    exact kw_pick [1, 2, 0, 3] rfl (wb_J2_add_2_11 B a0 a1 r2 a3)
theorem ct_J2_add_2 (a0 : Option Nat) (a1 : Option Nat) (a2 : Option Nat) (a3 : Int32) (l : Launch) : kw_Met l yJ2_add_2 (ws_ yJ2_add_2 cJ2_add_2 4 none) 5 127 [kA a0, kA a1, kA a2, kI a3] kw_eV (pm_J2_add_2 a0 a1 a2 a3) := kw_met (plainFor_of_name rfl) (Nat.le_of_ble_eq_true rfl) (fun E B => wm_J2_add_2 B a0 a1 a2 a3) l

/-! java/util/ArrayList add (Ljava/lang/Object;)Z -/
theorem fl_J2_63 : kw_fl RJ2 63 "java/util/ArrayList" [(30, 0)] := (kw_fl_c (C := RJ2) (T := TJ2) (N := 3) rfl (by decide) in_J2 q167 (Or.inr q166) kw_fl_nil)
theorem fp_J2_63 : kw_fp RJ2 .int false [(30, 0)] := (kw_fp_c (C := RJ2) (T := TJ2) (N := 3) (ty0 := tyJ2) rfl tyJ2_ok nmJ2 rfl (fun h => by cases h) (by decide) rfl kw_fp_nil)
theorem wm_J2_add {E : kw_E} (B : kw_ok E cJ2_add RJ2 "add" 2 (some .boolean) 6 150 []) (a0 : Option Nat) (a1 : Option Nat) : kw_W E kw_eI 0 [(0, kA a0), (1, kA a1)] [] (pm_J2_add a0 a1) := by
  unfold pm_J2_add
  refine kw_aload_n (pc := 0) B dJ2_add_0 rfl 0 rfl ?_
  refine kw_dup (pc := 1) B dJ2_add_1 rfl ?_
  refine kw_gI (pc := 2) B dJ2_add_2 fl_J2_63 (fun i1 => ?_)
  refine kw_iconst (pc := 5) B dJ2_add_5 (v := (1 : Int32)) rfl ?_
  refine kw_iadd (pc := 6) B dJ2_add_6 ?_
  refine kw_pI (pc := 7) B dJ2_add_7 fl_J2_63 fp_J2_63 (fun h => by cases h) ?_
  refine kw_aload_n (pc := 10) B dJ2_add_10 rfl 0 rfl ?_
  refine kw_aload_n (pc := 11) B dJ2_add_11 rfl 1 rfl ?_
  refine kw_aload_n (pc := 12) B dJ2_add_12 rfl 0 rfl ?_
  refine kw_gR (pc := 13) B dJ2_add_13 fl_J2_9 (fun r3 => ?_)
  refine kw_aload_n (pc := 16) B dJ2_add_16 rfl 0 rfl ?_
  refine kw_gI (pc := 17) B dJ2_add_17 fl_J2_48 (fun i4 => ?_)
  refine kw_callV (pc := 20) B dJ2_add_20 (ci := 30) rfl (ct_J2_add_2 a0 a1 r3 i4) q576 q578 qs3 q77 q579 ⟨by decide, by decide, rfl⟩ (As := [kA a1, kA r3, kI i4]) rfl (st := []) rfl (Nat.le_of_ble_eq_true rfl) (by decide) (by decide) kw_qV (fun _ => ?_)
  refine kw_iconst (pc := 23) B dJ2_add_23 (v := (1 : Int32)) rfl ?_
  exact kw_zret B dJ2_add_24 (g := fun v => v) (fun _ => rfl)
theorem ct_J2_add (a0 : Option Nat) (a1 : Option Nat) (l : Launch) : kw_Met l yJ2_add (ws_ yJ2_add cJ2_add 2 (some .boolean)) 6 150 [kA a0, kA a1] kw_eI (pm_J2_add a0 a1) := kw_met (plainFor_of_name rfl) (Nat.le_of_ble_eq_true rfl) (fun E B => wm_J2_add B a0 a1) l

/-! RosaryCarvers$Lens <init> (I)V -/
theorem fl_X7_9 : kw_fl RX7 9 "RosaryCarvers$Lens" [(6, 1)] := (kw_fl_c (C := RX7) (T := TX7) (N := 2) rfl (by decide) in_X7 q671 (Or.inl rfl) kw_fl_nil)
theorem fp_X7_9 : kw_fp RX7 .int false [(6, 1)] := (kw_fp_c (C := RX7) (T := TX7) (N := 2) (ty0 := tyX7) rfl tyX7_ok nmX7 rfl (fun h => by cases h) (by decide) rfl kw_fp_nil)
theorem fl_X7_15 : kw_fl RX7 15 "RosaryCarvers$Lens" [(6, 0)] := (kw_fl_c (C := RX7) (T := TX7) (N := 2) rfl (by decide) in_X7 q668 (Or.inl rfl) kw_fl_nil)
theorem fp_X7_15 : kw_fp RX7 .int true [(6, 0)] := (kw_fp_c (C := RX7) (T := TX7) (N := 2) (ty0 := tyX7) rfl tyX7_ok nmX7 rfl (fun _ => rfl) (by decide) rfl kw_fp_nil)
theorem wm_X7_init_2 {E : kw_E} (B : kw_ok E cX7_init_2 RX7 "<init>" 2 none 1 24 []) (a0 : Option Nat) (a1 : Int32) : kw_W E kw_eV 0 [(0, kA a0), (1, kI a1)] [] (pm_X7_init_2 a0 a1) := by
  unfold pm_X7_init_2
  refine kw_aload_n (pc := 0) B dX7_init_2_0 rfl 0 rfl ?_
  refine kw_objInit (pc := 1) B dX7_init_2_1 q667 q138 q139 (by decide) (Nat.le_of_ble_eq_true rfl) ?_
  refine kw_aload_n (pc := 4) B dX7_init_2_4 rfl 0 rfl ?_
  refine kw_iconst (pc := 5) B dX7_init_2_5 (v := (-1 : Int32)) rfl ?_
  refine kw_pI (pc := 6) B dX7_init_2_6 fl_X7_9 fp_X7_9 (fun h => by cases h) ?_
  refine kw_aload_n (pc := 9) B dX7_init_2_9 rfl 0 rfl ?_
  refine kw_iload_n (pc := 10) B dX7_init_2_10 rfl 1 rfl ?_
  refine kw_pI (pc := 11) B dX7_init_2_11 fl_X7_15 fp_X7_15 (fun _ => rfl) ?_
  exact kw_vret B dX7_init_2_14 rfl
theorem ct_X7_init_2 (a0 : Option Nat) (a1 : Int32) (l : Launch) : kw_Met l yX7_init_2 (ws_ yX7_init_2 cX7_init_2 2 none) 1 24 [kA a0, kI a1] kw_eV (pm_X7_init_2 a0 a1) := kw_met (plainFor_of_name rfl) (Nat.le_of_ble_eq_true rfl) (fun E B => wm_X7_init_2 B a0 a1) l

/-! RosaryCarvers$Lens <init> (LRosaryCarvers$Lens;)V -/

theorem wm_X7_init {E : kw_E} (B : kw_ok E cX7_init RX7 "<init>" 2 none 2 45 []) (a0 : Option Nat) (a1 : Option Nat) : kw_W E kw_eV 0 [(0, kA a0), (1, kA a1)] [] (pm_X7_init a0 a1) := by
  unfold pm_X7_init
  refine kw_aload_n (pc := 0) B dX7_init_0 rfl 0 rfl ?_
  refine kw_aload_n (pc := 1) B dX7_init_1 rfl 1 rfl ?_
  refine kw_gI (pc := 2) B dX7_init_2 fl_X7_15 (fun i1 => ?_)
  refine kw_callI (pc := 5) B dX7_init_5 (ct_X7_init_2 a0 i1) q664 q665 q96 q666 rfl ⟨by decide, by decide, rfl⟩ (As := [kI i1]) rfl (st := []) rfl (Nat.le_of_ble_eq_true rfl) (by decide) (by decide) kw_qV (fun _ => ?_)
  refine kw_aload_n (pc := 8) B dX7_init_8 rfl 0 rfl ?_
  refine kw_aload_n (pc := 9) B dX7_init_9 rfl 1 rfl ?_
  refine kw_gI (pc := 10) B dX7_init_10 fl_X7_9 (fun i2 => ?_)
  refine kw_pI (pc := 13) B dX7_init_13 fl_X7_9 fp_X7_9 (fun h => by cases h) ?_
  exact kw_vret B dX7_init_16 rfl
theorem ct_X7_init (a0 : Option Nat) (a1 : Option Nat) (l : Launch) : kw_Met l yX7_init (ws_ yX7_init cX7_init 2 none) 2 45 [kA a0, kA a1] kw_eV (pm_X7_init a0 a1) := kw_met (plainFor_of_name rfl) (Nat.le_of_ble_eq_true rfl) (fun E B => wm_X7_init B a0 a1) l

/-! java/util/ArrayList toArray ()[Ljava/lang/Object; -/

theorem wm_J2_toArray {E : kw_E} (B : kw_ok E cJ2_toArray RJ2 "toArray" 1 (some (.array (.object "java/lang/Object"))) 3 84 []) (a0 : Option Nat) : kw_W E kw_eA 0 [(0, kA a0)] [] (pm_J2_toArray a0) := by
  unfold pm_J2_toArray
  refine kw_aload_n (pc := 0) B dJ2_toArray_0 rfl 0 rfl ?_
  refine kw_gR (pc := 1) B dJ2_toArray_1 fl_J2_9 (fun r1 => ?_)
  refine kw_aload_n (pc := 4) B dJ2_toArray_4 rfl 0 rfl ?_
  refine kw_gI (pc := 5) B dJ2_toArray_5 fl_J2_48 (fun i2 => ?_)
  refine kw_callS (pc := 8) B dJ2_toArray_8 (ct_J14_copyOf r1 i2) q598 q599 q94 q600 ⟨by decide, by decide, rfl⟩ (As := [kA r1, kI i2]) rfl (st := []) rfl (Nat.le_of_ble_eq_true rfl) (by decide) (by decide) kw_qA (fun r3 => ?_)
  exact kw_aret rfl B dJ2_toArray_11 rfl
theorem ct_J2_toArray (a0 : Option Nat) (l : Launch) : kw_Met l yJ2_toArray (ws_ yJ2_toArray cJ2_toArray 1 (some (.array (.object "java/lang/Object")))) 3 84 [kA a0] kw_eA (pm_J2_toArray a0) := kw_met (plainFor_of_name rfl) (Nat.le_of_ble_eq_true rfl) (fun E B => wm_J2_toArray B a0) l

/-! java/util/Arrays copyOfRange ([Ljava/lang/Object;IILjava/lang/Class;)[Ljava/lang/Object; -/

theorem wm_J14_copyOfRange {E : kw_E} (B : kw_ok E cJ14_copyOfRange RJ14 "copyOfRange" 6 (some (.array (.object "java/lang/Object"))) 1 40 []) (a0 : Option Nat) (a1 : Int32) (a2 : Int32) (a3 : Option Nat) : kw_W E kw_eA 0 [(0, kA a0), (1, kI a1), (2, kI a2), (3, kA a3)] [] (pm_J14_copyOfRange a0 a1 a2 a3) := by
  unfold pm_J14_copyOfRange
  refine kw_iload_n (pc := 0) B dJ14_copyOfRange_0 rfl 2 rfl ?_
  refine kw_iload_n (pc := 1) B dJ14_copyOfRange_1 rfl 1 rfl ?_
  refine kw_isub (pc := 2) B dJ14_copyOfRange_2 ?_
  refine kw_istore (pc := 3) B dJ14_copyOfRange_3 (by decide) (L2 := [(4, kI (a2 - a1)), (0, kA a0), (1, kI a1), (2, kI a2), (3, kA a3)]) rfl ?_
  refine kw_iload (pc := 5) B dJ14_copyOfRange_5 0 rfl ?_
  refine kw_if_ge (pc := 7) (tgt := 42) B dJ14_copyOfRange_7 rfl ?_ ?_
  · refine kw_aload_n (pc := 42) B dJ14_copyOfRange_42 rfl 4 rfl ?_
    refine kw_ldcM (pc := 43) B dJ14_copyOfRange_43 q649 (fun r1 => ?_)
    refine kw_acmp_ne (pc := 45) (tgt := 56) B dJ14_copyOfRange_45 rfl ?_ ?_
    · refine kw_aload_n (pc := 56) B dJ14_copyOfRange_56 rfl 4 rfl ?_
      exact kw_fail_ok
    · refine kw_iload (pc := 48) B dJ14_copyOfRange_48 0 rfl ?_
      refine kw_anew (pc := 50) B dJ14_copyOfRange_50 (kd := 4) (C := "java/lang/Object") (by decide) rfl q650 q289 (fun r2 => ?_)
      refine kw_goto (pc := 53) (tgt := 68) B dJ14_copyOfRange_53 rfl ?_
      refine kw_astore (pc := 68) B dJ14_copyOfRange_68 (by decide) (L2 := [(5, kA r2), (4, kI (a2 - a1)), (0, kA a0), (1, kI a1), (2, kI a2), (3, kA a3)]) rfl ?_
      refine kw_aload_n (pc := 70) B dJ14_copyOfRange_70 rfl 2 rfl ?_
      refine kw_iload_n (pc := 71) B dJ14_copyOfRange_71 rfl 3 rfl ?_
      refine kw_aload (pc := 72) B dJ14_copyOfRange_72 0 rfl ?_
      refine kw_iconst (pc := 74) B dJ14_copyOfRange_74 (v := (0 : Int32)) rfl ?_
      refine kw_aload_n (pc := 75) B dJ14_copyOfRange_75 rfl 2 rfl ?_
      refine kw_alen (pc := 76) B dJ14_copyOfRange_76 (fun i3 => ?_)
      refine kw_iload_n (pc := 77) B dJ14_copyOfRange_77 rfl 3 rfl ?_
      refine kw_isub (pc := 78) B dJ14_copyOfRange_78 ?_
      refine kw_iload (pc := 79) B dJ14_copyOfRange_79 1 rfl ?_
      refine kw_mmin (pc := 81) B dJ14_copyOfRange_81 q651 q652 q93 q653 (by decide) (Nat.le_of_ble_eq_true rfl) ?_
      refine kw_acopy (pc := 84) B dJ14_copyOfRange_84 q654 q656 q655 q95 (by decide) (Nat.le_of_ble_eq_true rfl) ?_
      refine kw_aload (pc := 87) B dJ14_copyOfRange_87 0 rfl ?_
      exact kw_aret rfl B dJ14_copyOfRange_89 rfl
  · exact kw_fail_ok
theorem ct_J14_copyOfRange (a0 : Option Nat) (a1 : Int32) (a2 : Int32) (a3 : Option Nat) (l : Launch) : kw_Met l yJ14_copyOfRange (ws_ yJ14_copyOfRange cJ14_copyOfRange 6 (some (.array (.object "java/lang/Object")))) 1 40 [kA a0, kI a1, kI a2, kA a3] kw_eA (pm_J14_copyOfRange a0 a1 a2 a3) := kw_met (plainFor_of_name rfl) (Nat.le_of_ble_eq_true rfl) (fun E B => wm_J14_copyOfRange B a0 a1 a2 a3) l
