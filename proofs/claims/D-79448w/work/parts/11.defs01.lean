set_option maxRecDepth 100000
/-! RosaryCarversModel carves (IZI)I -/
noncomputable def pb_X3_carves_117  : Nat → Option Nat → Int32 → Int32 → Int32 → Int32 → Int32 → km_M Int32
| 0, _, _, _, _, _, _ => km_fail
| n + 1, x0, x1, x2, x3, x6, x7 =>
if x3 ≤ x7 then
(km_bind (km_gR [(3, 0)] x0) fun r1 =>
km_bind (km_ldI 0 r1 (11 : Int32)) fun i2 =>
km_pure (i2 - x6))
else
(km_bind (km_is 3 x0) fun _ => km_bind (pm_X3_carvesOne x0 x1 x2) fun _ =>
pb_X3_carves_117 n x0 x1 x2 x3 x6 (x7 + (1 : Int32)))
noncomputable def pb_X3_carves_45  (x0 : Option Nat) (x1 : Int32) (x2 : Int32) (x3 : Int32) (x4 : Int32) (s0 : Int32) (s1 : Int32) : km_M Int32 :=
km_bind (km_gR [(3, 0)] x0) fun r1 =>
km_bind (km_ldI 0 r1 (1 : Int32)) fun i2 =>
if x4 < (60 : Int32) then
(if ((s1 * s0) - i2) ≤ 0 then
(km_bind (km_gR [(3, 0)] x0) fun r3 =>
km_bind (km_ldI 0 r3 (11 : Int32)) fun i4 =>
if (i4 + x3) ≤ (60 : Int32) then
(km_bind (km_gR [(3, 0)] x0) fun r5 =>
km_bind (km_ldI 0 r5 (11 : Int32)) fun i6 =>
pb_X3_carves_117 km_fuel x0 x1 x2 x3 i6 (0 : Int32))
else
(km_bind (km_is 3 x0) fun _ => km_bind (pm_X3_refuses x0 (1 : Int32) (60 : Int32)) fun i7 =>
km_pure i7))
else
(km_bind (km_is 3 x0) fun _ => km_bind (pm_X3_refuses x0 (3 : Int32) ((s1 * s0) - i2)) fun i8 =>
km_pure i8))
else
(km_bind (km_is 3 x0) fun _ => km_bind (pm_X3_refuses x0 (2 : Int32) x4) fun i9 =>
km_pure i9)
noncomputable def pm_X3_carves (a0 : Option Nat) (a1 : Int32) (a2 : Int32) (a3 : Int32) : km_M Int32 :=
km_bind (km_is 3 a0) fun _ => km_bind (pm_X3_isCarver a0 a1) fun i1 =>
if ¬ i1 = 0 then
(km_bind (pm_X3_isIn a3 (1 : Int32) (10 : Int32)) fun i2 =>
if ¬ i2 = 0 then
(km_bind (km_gR [(3, 0)] a0) fun r3 =>
km_bind (pm_X3_carverAt a1 (1 : Int32)) fun i4 =>
km_bind (km_ldI 0 r3 i4) fun i5 =>
if a2 = 0 then
(pb_X3_carves_45 a0 a1 a2 a3 i5 (1 : Int32) a3)
else
(pb_X3_carves_45 a0 a1 a2 a3 i5 (2 : Int32) a3))
else
(km_pure (-2 : Int32)))
else
(km_pure (-1 : Int32))

/-! RosaryCarversModel carve (IZI)I -/
noncomputable def pm_X3_carve (a0 : Option Nat) (a1 : Int32) (a2 : Int32) (a3 : Int32) : km_M Int32 :=
km_bind (km_is 3 a0) fun _ => km_bind (pm_X3_keeps a0) fun _ =>
km_bind (km_is 3 a0) fun _ => km_bind (pm_X3_carves a0 a1 a2 a3) fun i1 =>
km_bind (km_is 3 a0) fun _ => km_bind (pm_X3_ends a0 i1) fun i2 =>
km_pure i2

/-! RosaryCarvers$6 <init> (LRosaryCarvers;II)V -/
noncomputable def pm_X21_init (a0 : Option Nat) (a1 : Option Nat) (a2 : Int32) (a3 : Int32) : km_M Unit :=
km_bind (km_pR [(19, 3)] a0 a1) fun _ =>
km_bind (km_pI .int [(19, 1)] a0 a2) fun _ =>
km_bind (km_pI .int [(19, 2)] a0 a3) fun _ =>
km_bind (km_nn a0) fun _ => km_bind (pm_X4_init a0 a1) fun _ =>
km_pure ()

/-! RosaryCarvers begin (II)I -/
noncomputable def pm_X0_begin (a0 : Option Nat) (a1 : Int32) (a2 : Int32) : km_M Int32 :=
km_bind (pm_X0_isPattern a1 a2) fun i1 =>
if ¬ i1 = 0 then
(km_bind (km_new 19 4 kz_D6) fun r2 =>
km_bind (km_nn r2) fun _ => km_bind (pm_X21_init r2 a0 a1 a2) fun _ =>
km_bind (km_is 19 r2) fun _ => km_bind (pm_X4_done r2) fun i3 =>
km_pure i3)
else
(km_pure (-2 : Int32))

/-! RosaryCarversModel stringAt (II)I -/
noncomputable def pm_X3_stringAt (a0 : Int32) (a1 : Int32) : km_M Int32 :=
km_pure (((764 : Int32) + ((60 : Int32) * a0)) + a1)

/-! RosaryCarversModel begins (II)I -/
noncomputable def pm_X3_begins (a0 : Option Nat) (a1 : Int32) (a2 : Int32) : km_M Int32 :=
km_bind (pm_X3_isIn a1 (1 : Int32) (4 : Int32)) fun i1 =>
if i1 = 0 then
(km_pure (-2 : Int32))
else
(km_bind (pm_X3_isIn a2 (1 : Int32) (6 : Int32)) fun i2 =>
if ¬ i2 = 0 then
(km_bind (km_is 3 a0) fun _ => km_bind (pm_X3_adds a0 (12 : Int32) (6 : Int32) (764 : Int32) (60 : Int32)) fun i3 =>
if i3 < 0 then
(km_pure i3)
else
(km_bind (km_gR [(3, 0)] a0) fun r4 =>
km_bind (pm_X3_stringAt i3 (0 : Int32)) fun i5 =>
km_bind (km_stI 0 r4 i5 a1) fun _ =>
km_bind (km_gR [(3, 0)] a0) fun r7 =>
km_bind (pm_X3_stringAt i3 (1 : Int32)) fun i8 =>
km_bind (km_stI 0 r7 i8 a2) fun _ =>
km_pure i3))
else
(km_pure (-2 : Int32)))

/-! RosaryCarversModel begin (II)I -/
noncomputable def pm_X3_begin (a0 : Option Nat) (a1 : Int32) (a2 : Int32) : km_M Int32 :=
km_bind (km_is 3 a0) fun _ => km_bind (pm_X3_keeps a0) fun _ =>
km_bind (km_is 3 a0) fun _ => km_bind (pm_X3_begins a0 a1 a2) fun i1 =>
km_bind (km_is 3 a0) fun _ => km_bind (pm_X3_ends a0 i1) fun i2 =>
km_pure i2

/-! RosaryCarvers$7 <init> (LRosaryCarvers;I)V -/
noncomputable def pm_X22_init (a0 : Option Nat) (a1 : Option Nat) (a2 : Int32) : km_M Unit :=
km_bind (km_pR [(20, 2)] a0 a1) fun _ =>
km_bind (km_pI .int [(20, 1)] a0 a2) fun _ =>
km_bind (km_nn a0) fun _ => km_bind (pm_X4_init a0 a1) fun _ =>
km_pure ()

/-! RosaryCarvers thread (I)I -/
noncomputable def pm_X0_thread (a0 : Option Nat) (a1 : Int32) : km_M Int32 :=
km_bind (km_gR [(0, 0)] a0) fun r1 =>
km_bind (km_is 1 r1) fun _ => km_bind (pm_X1_isString r1 a1) fun i2 =>
if ¬ i2 = 0 then
(km_bind (km_new 20 3 kz_D7) fun r3 =>
km_bind (km_nn r3) fun _ => km_bind (pm_X22_init r3 a0 a1) fun _ =>
km_bind (km_is 20 r3) fun _ => km_bind (pm_X4_done r3) fun i4 =>
km_pure i4)
else
(km_pure (-1 : Int32))

/-! RosaryCarversModel isString (I)Z -/
noncomputable def pm_X3_isString (a0 : Option Nat) (a1 : Int32) : km_M Int32 :=
km_bind (km_gR [(3, 0)] a0) fun r1 =>
km_bind (km_ldI 0 r1 (12 : Int32)) fun i2 =>
km_bind (pm_X3_isIn a1 (0 : Int32) (i2 - (1 : Int32))) fun i3 =>
km_bind (km_ret .boolean i3) (fun v => km_pure v)

/-! RosaryCarversModel ofString (II)I -/
noncomputable def pm_X3_ofString (a0 : Option Nat) (a1 : Int32) (a2 : Int32) : km_M Int32 :=
km_bind (km_gR [(3, 0)] a0) fun r1 =>
km_bind (pm_X3_stringAt a1 a2) fun i2 =>
km_bind (km_ldI 0 r1 i2) fun i3 =>
km_pure i3

/-! RosaryCarversModel isDone (I)Z -/
noncomputable def pm_X3_isDone (a0 : Option Nat) (a1 : Int32) : km_M Int32 :=
km_bind (km_is 3 a0) fun _ => km_bind (pm_X3_ofString a0 a1 (2 : Int32)) fun i1 =>
km_bind (km_is 3 a0) fun _ => km_bind (pm_X3_ofString a0 a1 (0 : Int32)) fun i2 =>
if ¬ i1 = i2 then
(km_bind (km_ret .boolean (0 : Int32)) (fun v => km_pure v))
else
(km_bind (km_ret .boolean (1 : Int32)) (fun v => km_pure v))

/-! RosaryCarversModel knotted (I)I -/
noncomputable def pm_X3_knotted (a0 : Option Nat) (a1 : Int32) : km_M Int32 :=
km_bind (km_is 3 a0) fun _ => km_bind (pm_X3_ofString a0 a1 (2 : Int32)) fun i1 =>
km_bind (km_is 3 a0) fun _ => km_bind (pm_X3_ofString a0 a1 (1 : Int32)) fun i2 =>
km_pure (i1 * (i2 + (1 : Int32)))

/-! RosaryCarversModel lacks (I)I -/
noncomputable def pm_X3_lacks (a0 : Option Nat) (a1 : Int32) : km_M Int32 :=
km_bind (km_is 3 a0) fun _ => km_bind (pm_X3_knotted a0 a1) fun i1 =>
km_bind (km_is 3 a0) fun _ => km_bind (pm_X3_ofString a0 a1 (1 : Int32)) fun i2 =>
km_bind (km_is 3 a0) fun _ => km_bind (pm_X3_ofString a0 a1 (3 : Int32)) fun i3 =>
km_pure (((i1 + i2) + (1 : Int32)) - i3)

/-! RosaryCarversModel isLargeAt (II)Z -/
noncomputable def pm_X3_isLargeAt (a0 : Option Nat) (a1 : Int32) (a2 : Int32) : km_M Int32 :=
km_bind (km_is 3 a0) fun _ => km_bind (pm_X3_ofString a0 a1 (1 : Int32)) fun i1 =>
km_bind (km_rem a2 (i1 + (1 : Int32))) fun i2 =>
if ¬ i2 = 0 then
(km_bind (km_ret .boolean (0 : Int32)) (fun v => km_pure v))
else
(km_bind (km_ret .boolean (1 : Int32)) (fun v => km_pure v))

/-! RosaryCarversModel wants (I)I -/
noncomputable def pm_X3_wants (a0 : Option Nat) (a1 : Int32) : km_M Int32 :=
km_bind (km_is 3 a0) fun _ => km_bind (pm_X3_isDone a0 a1) fun i1 =>
if i1 = 0 then
(km_bind (km_is 3 a0) fun _ => km_bind (pm_X3_lacks a0 a1) fun i2 =>
if ¬ i2 = 0 then
(km_bind (km_is 3 a0) fun _ => km_bind (pm_X3_ofString a0 a1 (3 : Int32)) fun i3 =>
km_bind (km_is 3 a0) fun _ => km_bind (pm_X3_isLargeAt a0 a1 i3) fun i4 =>
if i4 = 0 then
(km_pure (0 : Int32))
else
(km_pure (1 : Int32)))
else
(km_pure (2 : Int32)))
else
(km_pure (3 : Int32))

/-! RosaryCarversModel finestPlace (Z)I -/
noncomputable def pb_X3_finestPlace_110 (k4 : Option Nat → Int32 → Int32 → Int32 → km_M Int32) (x0 : Option Nat) (x1 : Int32) (x2 : Int32) (x3 : Int32) : km_M Int32 :=
k4 x0 x1 x2 (x3 + (1 : Int32))
noncomputable def pb_X3_finestPlace_109 (k4 : Option Nat → Int32 → Int32 → Int32 → km_M Int32) (x0 : Option Nat) (x1 : Int32) (x3 : Int32) (s0 : Int32) : km_M Int32 :=
pb_X3_finestPlace_110 k4 x0 x1 s0 x3
noncomputable def pb_X3_finestPlace_108 (k4 : Option Nat → Int32 → Int32 → Int32 → km_M Int32) (x0 : Option Nat) (x1 : Int32) (x2 : Int32) (x3 : Int32) : km_M Int32 :=
pb_X3_finestPlace_109 k4 x0 x1 x3 x2
noncomputable def pb_X3_finestPlace_69 (k4 : Option Nat → Int32 → Int32 → Int32 → km_M Int32) (x0 : Option Nat) (x1 : Int32) (x2 : Int32) (x3 : Int32) (s0 : Int32) : km_M Int32 :=
if 0 < s0 then
(pb_X3_finestPlace_109 k4 x0 x1 x3 x3)
else
(if ¬ s0 = 0 then
(pb_X3_finestPlace_108 k4 x0 x1 x2 x3)
else
(km_bind (km_gR [(3, 0)] x0) fun r1 =>
km_bind (pm_X3_boxAt x3 (0 : Int32)) fun i2 =>
km_bind (km_ldI 0 r1 i2) fun i3 =>
km_bind (km_gR [(3, 0)] x0) fun r4 =>
km_bind (pm_X3_boxAt x2 (0 : Int32)) fun i5 =>
km_bind (km_ldI 0 r4 i5) fun i6 =>
if i6 ≤ i3 then
(pb_X3_finestPlace_108 k4 x0 x1 x2 x3)
else
(pb_X3_finestPlace_109 k4 x0 x1 x3 x3)))
noncomputable def pb_X3_finestPlace_34 (k4 : Option Nat → Int32 → Int32 → Int32 → km_M Int32) (x0 : Option Nat) (x1 : Int32) (x2 : Int32) (x3 : Int32) (s0 : Int32) (s1 : Int32) : km_M Int32 :=
if s1 = s0 then
(if 0 ≤ x2 then
(km_bind (km_gR [(3, 0)] x0) fun r1 =>
km_bind (pm_X3_boxAt x3 (2 : Int32)) fun i2 =>
km_bind (km_ldI 0 r1 i2) fun i3 =>
km_bind (km_gR [(3, 0)] x0) fun r4 =>
km_bind (pm_X3_boxAt x2 (2 : Int32)) fun i5 =>
km_bind (km_ldI 0 r4 i5) fun i6 =>
pb_X3_finestPlace_69 k4 x0 x1 x2 x3 (i3 - i6))
else
(pb_X3_finestPlace_69 k4 x0 x1 x2 x3 (1 : Int32)))
else
(pb_X3_finestPlace_110 k4 x0 x1 x2 x3)
noncomputable def pb_X3_finestPlace_4  : Nat → Option Nat → Int32 → Int32 → Int32 → km_M Int32
| 0, _, _, _, _ => km_fail
| n + 1, x0, x1, x2, x3 =>
km_bind (km_gR [(3, 0)] x0) fun r1 =>
km_bind (km_ldI 0 r1 (11 : Int32)) fun i2 =>
if i2 ≤ x3 then
(km_pure x2)
else
(km_bind (km_gR [(3, 0)] x0) fun r3 =>
km_bind (pm_X3_boxAt x3 (1 : Int32)) fun i4 =>
km_bind (km_ldI 0 r3 i4) fun i5 =>
if x1 = 0 then
(pb_X3_finestPlace_34 (pb_X3_finestPlace_4 n) x0 x1 x2 x3 (0 : Int32) i5)
else
(pb_X3_finestPlace_34 (pb_X3_finestPlace_4 n) x0 x1 x2 x3 (1 : Int32) i5))
noncomputable def pm_X3_finestPlace (a0 : Option Nat) (a1 : Int32) : km_M Int32 :=
pb_X3_finestPlace_4 km_fuel a0 a1 (-1 : Int32) (0 : Int32)

/-! RosaryCarversModel onOthers (Z)I -/
noncomputable def pb_X3_onOthers_54 (k4 : Option Nat → Int32 → Int32 → Int32 → km_M Int32) (k18 : Option Nat → Int32 → Int32 → Int32 → Int32 → km_M Int32) (x0 : Option Nat) (x1 : Int32) (x3 : Int32) (x4 : Int32) (s0 : Int32) (s1 : Int32) : km_M Int32 :=
k18 x0 x1 (s1 + s0) x3 (x4 + (1 : Int32))
noncomputable def pb_X3_onOthers_62 (k4 : Option Nat → Int32 → Int32 → Int32 → km_M Int32) (x0 : Option Nat) (x1 : Int32) (x2 : Int32) (x3 : Int32) : km_M Int32 :=
k4 x0 x1 x2 (x3 + (1 : Int32))
noncomputable def pb_X3_onOthers_18 (k4 : Option Nat → Int32 → Int32 → Int32 → km_M Int32) : Nat → Option Nat → Int32 → Int32 → Int32 → Int32 → km_M Int32
| 0, _, _, _, _, _ => km_fail
| n + 1, x0, x1, x2, x3, x4 =>
km_bind (km_is 3 x0) fun _ => km_bind (pm_X3_ofString x0 x3 (3 : Int32)) fun i1 =>
if i1 ≤ x4 then
(pb_X3_onOthers_62 k4 x0 x1 x2 x3)
else
(km_bind (km_is 3 x0) fun _ => km_bind (pm_X3_isDone x0 x3) fun i2 =>
if ¬ i2 = 0 then
(pb_X3_onOthers_62 k4 x0 x1 x2 x3)
else
(km_bind (km_is 3 x0) fun _ => km_bind (pm_X3_isLargeAt x0 x3 x4) fun i3 =>
if ¬ i3 = x1 then
(pb_X3_onOthers_54 k4 (pb_X3_onOthers_18 k4 n) x0 x1 x3 x4 (0 : Int32) x2)
else
(pb_X3_onOthers_54 k4 (pb_X3_onOthers_18 k4 n) x0 x1 x3 x4 (1 : Int32) x2)))
noncomputable def pb_X3_onOthers_4  : Nat → Option Nat → Int32 → Int32 → Int32 → km_M Int32
| 0, _, _, _, _ => km_fail
| n + 1, x0, x1, x2, x3 =>
km_bind (km_gR [(3, 0)] x0) fun r1 =>
km_bind (km_ldI 0 r1 (12 : Int32)) fun i2 =>
if i2 ≤ x3 then
(km_pure x2)
else
(pb_X3_onOthers_18 (pb_X3_onOthers_4 n) km_fuel x0 x1 x2 x3 (0 : Int32))
noncomputable def pm_X3_onOthers (a0 : Option Nat) (a1 : Int32) : km_M Int32 :=
pb_X3_onOthers_4 km_fuel a0 a1 (0 : Int32) (0 : Int32)

/-! RosaryCarversModel refusesBead (Z)I -/
noncomputable def pb_X3_refusesBead_12  (x0 : Option Nat) (x1 : Int32) (s0 : Int32) (s1 : Int32) (s2 : Option Nat) : km_M Int32 :=
km_bind (km_is 3 s2) fun _ => km_bind (pm_X3_refuses s2 s1 s0) fun i1 =>
km_bind (km_gR [(3, 6)] x0) fun r2 =>
km_bind (km_stI 0 r2 (1 : Int32) (10 : Int32)) fun _ =>
km_bind (km_gR [(3, 7)] x0) fun r4 =>
km_bind (km_is 3 x0) fun _ => km_bind (pm_X3_onOthers x0 x1) fun i5 =>
km_bind (km_stI 0 r4 (1 : Int32) i5) fun _ =>
km_pure i1
noncomputable def pm_X3_refusesBead (a0 : Option Nat) (a1 : Int32) : km_M Int32 :=
if a1 = 0 then
(pb_X3_refusesBead_12 a0 a1 (0 : Int32) (6 : Int32) a0)
else
(pb_X3_refusesBead_12 a0 a1 (1 : Int32) (6 : Int32) a0)

/-! RosaryCarversModel beadAt (II)I -/
noncomputable def pm_X3_beadAt (a0 : Int32) (a1 : Int32) : km_M Int32 :=
km_bind (pm_X3_stringAt a0 ((4 : Int32) + ((2 : Int32) * a1))) fun i1 =>
km_pure i1

/-! RosaryCarversModel goes (IIII)V -/
noncomputable def pb_X3_goes_8  : Nat → Option Nat → Int32 → Int32 → Int32 → Int32 → km_M Unit
| 0, _, _, _, _, _ => km_fail
| n + 1, x0, x1, x2, x3, x5 =>
km_bind (km_gR [(3, 0)] x0) fun r1 =>
km_bind (km_ldI 0 r1 x1) fun i2 =>
if (x2 + (x3 * (i2 - (1 : Int32)))) ≤ x5 then
(km_bind (km_gR [(3, 0)] x0) fun r3 =>
km_bind (km_ldI 0 r3 x1) fun i4 =>
km_bind (km_stI 0 r3 x1 (i4 - (1 : Int32))) fun _ =>
km_pure ())
else
(km_bind (km_gR [(3, 0)] x0) fun r6 =>
km_bind (km_gR [(3, 0)] x0) fun r7 =>
km_bind (km_ldI 0 r7 (x5 + x3)) fun i8 =>
km_bind (km_stI 0 r6 x5 i8) fun _ =>
pb_X3_goes_8 n x0 x1 x2 x3 (x5 + (1 : Int32)))
noncomputable def pm_X3_goes (a0 : Option Nat) (a1 : Int32) (a2 : Int32) (a3 : Int32) (a4 : Int32) : km_M Unit :=
pb_X3_goes_8 km_fuel a0 a1 a2 a3 (a2 + (a3 * a4))

/-! RosaryCarversModel threads (I)I -/
noncomputable def pb_X3_threads_75  (s0 : Int32) (s1 : Option Nat) : km_M Int32 :=
km_bind (km_is 3 s1) fun _ => km_bind (pm_X3_refusesBead s1 s0) fun i1 =>
km_pure i1
noncomputable def pb_X3_threads_56  (x0 : Option Nat) (x1 : Int32) (x2 : Int32) (s0 : Int32) (s1 : Option Nat) : km_M Int32 :=
km_bind (km_is 3 s1) fun _ => km_bind (pm_X3_finestPlace s1 s0) fun i1 =>
if 0 ≤ i1 then
(km_bind (km_is 3 x0) fun _ => km_bind (pm_X3_ofString x0 x1 (3 : Int32)) fun i2 =>
km_bind (pm_X3_beadAt x1 i2) fun i3 =>
km_bind (km_gR [(3, 0)] x0) fun r4 =>
km_bind (pm_X3_boxAt i1 (0 : Int32)) fun i5 =>
km_bind (km_ldI 0 r4 i5) fun i6 =>
km_bind (km_gR [(3, 0)] x0) fun r7 =>
km_bind (km_stI 0 r7 i3 i6) fun _ =>
km_bind (km_gR [(3, 0)] x0) fun r9 =>
km_bind (km_gR [(3, 0)] x0) fun r10 =>
km_bind (pm_X3_boxAt i1 (2 : Int32)) fun i11 =>
km_bind (km_ldI 0 r10 i11) fun i12 =>
km_bind (km_stI 0 r9 (i3 + (1 : Int32)) i12) fun _ =>
km_bind (km_gR [(3, 0)] x0) fun r14 =>
km_bind (pm_X3_stringAt x1 (3 : Int32)) fun i15 =>
km_bind (km_ldI 0 r14 i15) fun i16 =>
km_bind (km_stI 0 r14 i15 (i16 + (1 : Int32))) fun _ =>
km_bind (km_is 3 x0) fun _ => km_bind (pm_X3_goes x0 (11 : Int32) (44 : Int32) (3 : Int32) i1) fun _ =>
km_pure i6)
else
(if ¬ x2 = (1 : Int32) then
(pb_X3_threads_75 (0 : Int32) x0)
else
(pb_X3_threads_75 (1 : Int32) x0))
noncomputable def pm_X3_threads (a0 : Option Nat) (a1 : Int32) : km_M Int32 :=
km_bind (km_is 3 a0) fun _ => km_bind (pm_X3_isString a0 a1) fun i1 =>
if ¬ i1 = 0 then
(km_bind (km_is 3 a0) fun _ => km_bind (pm_X3_wants a0 a1) fun i2 =>
if ¬ i2 = (3 : Int32) then
(if ¬ i2 = (2 : Int32) then
(if ¬ i2 = (1 : Int32) then
(pb_X3_threads_56 a0 a1 i2 (0 : Int32) a0)
else
(pb_X3_threads_56 a0 a1 i2 (1 : Int32) a0))
else
(km_bind (km_is 3 a0) fun _ => km_bind (pm_X3_ofString a0 a1 (2 : Int32)) fun i3 =>
km_bind (km_is 3 a0) fun _ => km_bind (pm_X3_refuses a0 (5 : Int32) i3) fun i4 =>
km_pure i4))
else
(km_bind (km_is 3 a0) fun _ => km_bind (pm_X3_refuses a0 (4 : Int32) a1) fun i5 =>
km_pure i5))
else
(km_pure (-1 : Int32))

/-! RosaryCarversModel thread (I)I -/
noncomputable def pm_X3_thread (a0 : Option Nat) (a1 : Int32) : km_M Int32 :=
km_bind (km_is 3 a0) fun _ => km_bind (pm_X3_keeps a0) fun _ =>
km_bind (km_is 3 a0) fun _ => km_bind (pm_X3_threads a0 a1) fun i1 =>
km_bind (km_is 3 a0) fun _ => km_bind (pm_X3_ends a0 i1) fun i2 =>
km_pure i2

/-! RosaryCarvers$8 <init> (LRosaryCarvers;I)V -/
noncomputable def pm_X23_init (a0 : Option Nat) (a1 : Option Nat) (a2 : Int32) : km_M Unit :=
km_bind (km_pR [(21, 2)] a0 a1) fun _ =>
km_bind (km_pI .int [(21, 1)] a0 a2) fun _ =>
km_bind (km_nn a0) fun _ => km_bind (pm_X4_init a0 a1) fun _ =>
km_pure ()

/-! RosaryCarvers knot (I)I -/
noncomputable def pm_X0_knot (a0 : Option Nat) (a1 : Int32) : km_M Int32 :=
km_bind (km_gR [(0, 0)] a0) fun r1 =>
km_bind (km_is 1 r1) fun _ => km_bind (pm_X1_isString r1 a1) fun i2 =>
if ¬ i2 = 0 then
(km_bind (km_new 21 3 kz_D8) fun r3 =>
km_bind (km_nn r3) fun _ => km_bind (pm_X23_init r3 a0 a1) fun _ =>
km_bind (km_is 21 r3) fun _ => km_bind (pm_X4_done r3) fun i4 =>
km_pure i4)
else
(km_pure (-1 : Int32))

/-! RosaryCarversModel knots (I)I -/
noncomputable def pm_X3_knots (a0 : Option Nat) (a1 : Int32) : km_M Int32 :=
km_bind (km_is 3 a0) fun _ => km_bind (pm_X3_isString a0 a1) fun i1 =>
if ¬ i1 = 0 then
(km_bind (km_is 3 a0) fun _ => km_bind (pm_X3_isDone a0 a1) fun i2 =>
if i2 = 0 then
(km_bind (km_is 3 a0) fun _ => km_bind (pm_X3_lacks a0 a1) fun i3 =>
if i3 ≤ 0 then
(km_bind (km_gR [(3, 0)] a0) fun r4 =>
km_bind (pm_X3_stringAt a1 (2 : Int32)) fun i5 =>
km_bind (km_ldI 0 r4 i5) fun i6 =>
km_bind (km_stI 0 r4 i5 (i6 + (1 : Int32))) fun _ =>
km_bind (km_is 3 a0) fun _ => km_bind (pm_X3_ofString a0 a1 (2 : Int32)) fun i8 =>
km_pure i8)
else
(km_bind (km_is 3 a0) fun _ => km_bind (pm_X3_lacks a0 a1) fun i9 =>
km_bind (km_is 3 a0) fun _ => km_bind (pm_X3_refuses a0 (7 : Int32) i9) fun i10 =>
km_pure i10))
else
(km_bind (km_is 3 a0) fun _ => km_bind (pm_X3_refuses a0 (4 : Int32) a1) fun i11 =>
km_pure i11))
else
(km_pure (-1 : Int32))

/-! RosaryCarversModel knot (I)I -/
noncomputable def pm_X3_knot (a0 : Option Nat) (a1 : Int32) : km_M Int32 :=
km_bind (km_is 3 a0) fun _ => km_bind (pm_X3_keeps a0) fun _ =>
km_bind (km_is 3 a0) fun _ => km_bind (pm_X3_knots a0 a1) fun i1 =>
km_bind (km_is 3 a0) fun _ => km_bind (pm_X3_ends a0 i1) fun i2 =>
km_pure i2

/-! RosaryCarvers$9 <init> (LRosaryCarvers;I)V -/
noncomputable def pm_X24_init (a0 : Option Nat) (a1 : Option Nat) (a2 : Int32) : km_M Unit :=
km_bind (km_pR [(22, 2)] a0 a1) fun _ =>
km_bind (km_pI .int [(22, 1)] a0 a2) fun _ =>
km_bind (km_nn a0) fun _ => km_bind (pm_X4_init a0 a1) fun _ =>
km_pure ()

/-! RosaryCarvers drop (I)I -/
noncomputable def pm_X0_drop (a0 : Option Nat) (a1 : Int32) : km_M Int32 :=
km_bind (km_gR [(0, 0)] a0) fun r1 =>
km_bind (km_is 1 r1) fun _ => km_bind (pm_X1_isString r1 a1) fun i2 =>
if ¬ i2 = 0 then
(km_bind (km_new 22 3 kz_D9) fun r3 =>
km_bind (km_nn r3) fun _ => km_bind (pm_X24_init r3 a0 a1) fun _ =>
km_bind (km_is 22 r3) fun _ => km_bind (pm_X4_done r3) fun i4 =>
km_pure i4)
else
(km_pure (-1 : Int32))

/-! RosaryCarversModel drops (I)I -/
noncomputable def pb_X3_drops_26  : Nat → Option Nat → Int32 → Int32 → Int32 → Int32 → km_M Int32
| 0, _, _, _, _, _ => km_fail
| n + 1, x0, x1, x2, x3, x4 =>
if x3 ≤ x4 then
(km_bind (km_gR [(3, 0)] x0) fun r1 =>
km_bind (pm_X3_stringAt x1 (3 : Int32)) fun i2 =>
km_bind (km_stI 0 r1 i2 x2) fun _ =>
km_pure (x3 - x2))
else
(km_bind (km_gR [(3, 0)] x0) fun r4 =>
km_bind (pm_X3_beadAt x1 x4) fun i5 =>
km_bind (km_ldI 0 r4 i5) fun i6 =>
km_bind (km_is 3 x0) fun _ => km_bind (pm_X3_isLargeAt x0 x1 x4) fun i7 =>
km_bind (km_gR [(3, 0)] x0) fun r8 =>
km_bind (pm_X3_beadAt x1 x4) fun i9 =>
km_bind (km_ldI 0 r8 (i9 + (1 : Int32))) fun i10 =>
km_bind (km_is 3 x0) fun _ => km_bind (pm_X3_comesToBox x0 i6 i7 i10) fun _ =>
pb_X3_drops_26 n x0 x1 x2 x3 (x4 + (1 : Int32)))
noncomputable def pm_X3_drops (a0 : Option Nat) (a1 : Int32) : km_M Int32 :=
km_bind (km_is 3 a0) fun _ => km_bind (pm_X3_isString a0 a1) fun i1 =>
if ¬ i1 = 0 then
(km_bind (km_is 3 a0) fun _ => km_bind (pm_X3_knotted a0 a1) fun i2 =>
km_bind (km_is 3 a0) fun _ => km_bind (pm_X3_ofString a0 a1 (3 : Int32)) fun i3 =>
pb_X3_drops_26 km_fuel a0 a1 i2 i3 i2)
else
(km_pure (-1 : Int32))

/-! RosaryCarversModel drop (I)I -/
noncomputable def pm_X3_drop (a0 : Option Nat) (a1 : Int32) : km_M Int32 :=
km_bind (km_is 3 a0) fun _ => km_bind (pm_X3_keeps a0) fun _ =>
km_bind (km_is 3 a0) fun _ => km_bind (pm_X3_drops a0 a1) fun i1 =>
km_bind (km_is 3 a0) fun _ => km_bind (pm_X3_ends a0 i1) fun i2 =>
km_pure i2

/-! RosaryCarvers$10 <init> (LRosaryCarvers;IIII)V -/
noncomputable def pm_X25_init (a0 : Option Nat) (a1 : Option Nat) (a2 : Int32) (a3 : Int32) (a4 : Int32) (a5 : Int32) : km_M Unit :=
km_bind (km_pR [(23, 5)] a0 a1) fun _ =>
km_bind (km_pI .int [(23, 1)] a0 a2) fun _ =>
km_bind (km_pI .int [(23, 2)] a0 a3) fun _ =>
km_bind (km_pI .int [(23, 3)] a0 a4) fun _ =>
km_bind (km_pI .int [(23, 4)] a0 a5) fun _ =>
km_bind (km_nn a0) fun _ => km_bind (pm_X4_init a0 a1) fun _ =>
km_pure ()

/-! RosaryCarvers pilgrim (IIII)I -/
noncomputable def pm_X0_pilgrim (a0 : Option Nat) (a1 : Int32) (a2 : Int32) (a3 : Int32) (a4 : Int32) : km_M Int32 :=
km_bind (pm_X0_areDays a1) fun i1 =>
if i1 = 0 then
(km_pure (-2 : Int32))
else
(km_bind (pm_X0_in a2 (1 : Int32) (4 : Int32)) fun i2 =>
if i2 = 0 then
(km_pure (-2 : Int32))
else
(km_bind (pm_X0_in a3 (0 : Int32) (9 : Int32)) fun i3 =>
if i3 = 0 then
(km_pure (-2 : Int32))
else
(km_bind (pm_X0_in a4 (1 : Int32) (99 : Int32)) fun i4 =>
if ¬ i4 = 0 then
(km_bind (km_new 23 6 kz_D10) fun r5 =>
km_bind (km_nn r5) fun _ => km_bind (pm_X25_init r5 a0 a1 a2 a3 a4) fun _ =>
km_bind (km_is 23 r5) fun _ => km_bind (pm_X4_done r5) fun i6 =>
km_pure i6)
else
(km_pure (-2 : Int32)))))

/-! RosaryCarversModel pilgrimAt (II)I -/
noncomputable def pm_X3_pilgrimAt (a0 : Int32) (a1 : Int32) : km_M Int32 :=
km_pure (((1124 : Int32) + ((4 : Int32) * a0)) + a1)

/-! RosaryCarversModel season (I)I -/
noncomputable def pm_X3_season (a0 : Int32) : km_M Int32 :=
km_bind (km_div a0 (30 : Int32)) fun i1 =>
km_bind (km_rem i1 (4 : Int32)) fun i2 =>
km_pure i2

/-! RosaryCarversModel pilgrim (IIII)I -/
noncomputable def pb_X3_pilgrim_113  (x0 : Option Nat) (x2 : Int32) (x3 : Int32) (x4 : Int32) (x5 : Int32) (s0 : Int32) (s1 : Int32) (s2 : Option Nat) : km_M Int32 :=
km_bind (km_stI 0 s2 s1 s0) fun _ =>
km_bind (km_gR [(3, 0)] x0) fun r2 =>
km_bind (pm_X3_pilgrimAt x5 (1 : Int32)) fun i3 =>
km_bind (km_stI 0 r2 i3 x2) fun _ =>
km_bind (km_gR [(3, 0)] x0) fun r5 =>
km_bind (pm_X3_pilgrimAt x5 (2 : Int32)) fun i6 =>
km_bind (km_stI 0 r5 i6 x3) fun _ =>
km_bind (km_gR [(3, 0)] x0) fun r8 =>
km_bind (pm_X3_pilgrimAt x5 (3 : Int32)) fun i9 =>
km_bind (km_stI 0 r8 i9 x4) fun _ =>
km_bind (km_gR [(3, 0)] x0) fun r11 =>
km_bind (km_ldI 0 r11 (13 : Int32)) fun i12 =>
km_bind (km_is 3 x0) fun _ => km_bind (pm_X3_ends x0 i12) fun i13 =>
km_pure i13
noncomputable def pm_X3_pilgrim (a0 : Option Nat) (a1 : Int32) (a2 : Int32) (a3 : Int32) (a4 : Int32) : km_M Int32 :=
km_bind (pm_X3_isIn a1 (1 : Int32) (60 : Int32)) fun i1 =>
if i1 = 0 then
(km_pure (-2 : Int32))
else
(km_bind (pm_X3_isIn a2 (1 : Int32) (4 : Int32)) fun i2 =>
if i2 = 0 then
(km_pure (-2 : Int32))
else
(km_bind (pm_X3_isIn a3 (0 : Int32) (9 : Int32)) fun i3 =>
if i3 = 0 then
(km_pure (-2 : Int32))
else
(km_bind (pm_X3_isIn a4 (1 : Int32) (99 : Int32)) fun i4 =>
if ¬ i4 = 0 then
(km_bind (km_is 3 a0) fun _ => km_bind (pm_X3_keeps a0) fun _ =>
km_bind (km_is 3 a0) fun _ => km_bind (pm_X3_adds a0 (13 : Int32) (6 : Int32) (1124 : Int32) (4 : Int32)) fun i5 =>
if 0 ≤ i5 then
(km_bind (km_gR [(3, 0)] a0) fun r6 =>
km_bind (km_ldI 0 r6 (0 : Int32)) fun i7 =>
km_bind (km_gR [(3, 0)] a0) fun r8 =>
km_bind (pm_X3_pilgrimAt i5 (0 : Int32)) fun i9 =>
km_bind (pm_X3_season (i7 + a1)) fun i10 =>
if ¬ i10 = (3 : Int32) then
(pb_X3_pilgrim_113 a0 a2 a3 a4 i5 (i7 + a1) i9 r8)
else
(km_bind (km_div (i7 + a1) (120 : Int32)) fun i11 =>
pb_X3_pilgrim_113 a0 a2 a3 a4 i5 ((120 : Int32) * (i11 + (1 : Int32))) i9 r8))
else
(km_pure i5))
else
(km_pure (-2 : Int32)))))

/-! RosaryCarvers$11 <init> (LRosaryCarvers;)V -/
noncomputable def pm_X26_init (a0 : Option Nat) (a1 : Option Nat) : km_M Unit :=
km_bind (km_pR [(24, 1)] a0 a1) fun _ =>
km_bind (km_nn a0) fun _ => km_bind (pm_X4_init a0 a1) fun _ =>
km_pure ()

/-! RosaryCarvers mend ()I -/
noncomputable def pm_X0_mend (a0 : Option Nat) : km_M Int32 :=
km_bind (km_new 24 2 kz_D11) fun r1 =>
km_bind (km_nn r1) fun _ => km_bind (pm_X26_init r1 a0) fun _ =>
km_bind (km_is 24 r1) fun _ => km_bind (pm_X4_done r1) fun i2 =>
km_pure i2

/-! RosaryCarversModel mends ()I -/
noncomputable def pb_X3_mends_35  (x0 : Option Nat) (s0 : Int32) : km_M Int32 :=
km_bind (km_is 3 x0) fun _ => km_bind (pm_X3_finestPlace x0 s0) fun i1 =>
if 0 ≤ i1 then
(km_bind (km_gR [(3, 0)] x0) fun r2 =>
km_bind (pm_X3_boxAt i1 (0 : Int32)) fun i3 =>
km_bind (km_ldI 0 r2 i3) fun i4 =>
km_bind (km_is 3 x0) fun _ => km_bind (pm_X3_goes x0 (11 : Int32) (44 : Int32) (3 : Int32) i1) fun _ =>
km_bind (km_gR [(3, 0)] x0) fun r5 =>
km_bind (km_ldI 0 r5 (8 : Int32)) fun i6 =>
km_bind (km_gR [(3, 0)] x0) fun r7 =>
km_bind (km_ldI 0 r7 (1189 : Int32)) fun i8 =>
km_bind (km_stI 0 r5 (8 : Int32) (i6 + (i8 + (1 : Int32)))) fun _ =>
km_bind (km_gR [(3, 0)] x0) fun r10 =>
km_bind (km_ldI 0 r10 (6 : Int32)) fun i11 =>
km_bind (km_stI 0 r10 (6 : Int32) (i11 + (3 : Int32))) fun _ =>
km_bind (km_gR [(3, 0)] x0) fun r13 =>
km_bind (km_ldI 0 r13 (5 : Int32)) fun i14 =>
km_bind (km_stI 0 r13 (5 : Int32) (i14 + (1 : Int32))) fun _ =>
km_bind (km_is 3 x0) fun _ => km_bind (pm_X3_goes x0 (15 : Int32) (1188 : Int32) (5 : Int32) (0 : Int32)) fun _ =>
km_pure i4)
else
(km_bind (km_is 3 x0) fun _ => km_bind (pm_X3_refusesBead x0 s0) fun i16 =>
km_pure i16)
noncomputable def pm_X3_mends (a0 : Option Nat) : km_M Int32 :=
km_bind (km_gR [(3, 0)] a0) fun r1 =>
km_bind (km_ldI 0 r1 (15 : Int32)) fun i2 =>
if ¬ i2 = 0 then
(km_bind (km_gR [(3, 0)] a0) fun r3 =>
km_bind (km_ldI 0 r3 (1191 : Int32)) fun i4 =>
if ¬ i4 = (1 : Int32) then
(pb_X3_mends_35 a0 (0 : Int32))
else
(pb_X3_mends_35 a0 (1 : Int32)))
else
(km_bind (km_is 3 a0) fun _ => km_bind (pm_X3_refuses a0 (8 : Int32) (0 : Int32)) fun i5 =>
km_pure i5)

/-! RosaryCarversModel mend ()I -/
noncomputable def pm_X3_mend (a0 : Option Nat) : km_M Int32 :=
km_bind (km_is 3 a0) fun _ => km_bind (pm_X3_keeps a0) fun _ =>
km_bind (km_is 3 a0) fun _ => km_bind (pm_X3_mends a0) fun i1 =>
km_bind (km_is 3 a0) fun _ => km_bind (pm_X3_ends a0 i1) fun i2 =>
km_pure i2

/-! RosaryCarvers$12 <init> (LRosaryCarvers;I)V -/
noncomputable def pm_X27_init (a0 : Option Nat) (a1 : Option Nat) (a2 : Int32) : km_M Unit :=
km_bind (km_pR [(25, 2)] a0 a1) fun _ =>
km_bind (km_pI .int [(25, 1)] a0 a2) fun _ =>
km_bind (km_nn a0) fun _ => km_bind (pm_X4_init a0 a1) fun _ =>
km_pure ()

/-! RosaryCarvers pass (I)I -/
noncomputable def pm_X0_pass (a0 : Option Nat) (a1 : Int32) : km_M Int32 :=
km_bind (pm_X0_areDays a1) fun i1 =>
if ¬ i1 = 0 then
(km_bind (km_new 25 3 kz_D12) fun r2 =>
km_bind (km_nn r2) fun _ => km_bind (pm_X27_init r2 a0 a1) fun _ =>
km_bind (km_is 25 r2) fun _ => km_bind (pm_X4_done r2) fun i3 =>
km_pure i3)
else
(km_pure (-2 : Int32))

/-! RosaryCarversModel greater (II)I -/
noncomputable def pm_X3_greater (a0 : Int32) (a1 : Int32) : km_M Int32 :=
if a0 ≤ a1 then
(km_pure a1)
else
(km_pure a0)

/-! RosaryCarversModel comeBack ()V -/
noncomputable def pb_X3_comeBack_2  : Nat → Option Nat → Int32 → km_M Unit
| 0, _, _ => km_fail
| n + 1, x0, x1 =>
km_bind (km_gR [(3, 0)] x0) fun r1 =>
km_bind (km_ldI 0 r1 (14 : Int32)) fun i2 =>
if i2 ≤ x1 then
(km_pure ())
else
(km_bind (km_gR [(3, 0)] x0) fun r3 =>
km_bind (km_ldI 0 r3 (((1148 : Int32) + ((5 : Int32) * x1)) + (0 : Int32))) fun i4 =>
km_bind (km_gR [(3, 0)] x0) fun r5 =>
km_bind (km_ldI 0 r5 (0 : Int32)) fun i6 =>
if i4 ≤ i6 then
(km_bind (km_gR [(3, 0)] x0) fun r7 =>
km_bind (km_ldI 0 r7 (15 : Int32)) fun i8 =>
km_bind (km_gR [(3, 0)] x0) fun r9 =>
km_bind (km_gR [(3, 0)] x0) fun r10 =>
km_bind (pm_X3_copies r9 ((1148 : Int32) + ((5 : Int32) * x1)) r10 ((1188 : Int32) + ((5 : Int32) * i8)) (5 : Int32)) fun _ =>
km_bind (km_gR [(3, 0)] x0) fun r11 =>
km_bind (km_ldI 0 r11 (((1188 : Int32) + ((5 : Int32) * i8)) + (1 : Int32))) fun i12 =>
km_bind (km_stI 0 r11 (((1188 : Int32) + ((5 : Int32) * i8)) + (1 : Int32)) (i12 - (1 : Int32))) fun _ =>
km_bind (km_gR [(3, 0)] x0) fun r14 =>
km_bind (km_ldI 0 r14 (((1188 : Int32) + ((5 : Int32) * i8)) + (2 : Int32))) fun i15 =>
km_bind (km_gR [(3, 0)] x0) fun r16 =>
km_bind (km_ldI 0 r16 (((1188 : Int32) + ((5 : Int32) * i8)) + (4 : Int32))) fun i17 =>
km_bind (km_stI 0 r14 (((1188 : Int32) + ((5 : Int32) * i8)) + (2 : Int32)) (i15 - i17)) fun _ =>
km_bind (km_gR [(3, 0)] x0) fun r19 =>
km_bind (km_ldI 0 r19 (15 : Int32)) fun i20 =>
km_bind (km_stI 0 r19 (15 : Int32) (i20 + (1 : Int32))) fun _ =>
km_bind (km_gR [(3, 0)] x0) fun r22 =>
km_bind (km_ldI 0 r22 (7 : Int32)) fun i23 =>
km_bind (km_stI 0 r22 (7 : Int32) (i23 + (1 : Int32))) fun _ =>
km_bind (km_is 3 x0) fun _ => km_bind (pm_X3_goes x0 (14 : Int32) (1148 : Int32) (5 : Int32) x1) fun _ =>
pb_X3_comeBack_2 n x0 x1)
else
(pb_X3_comeBack_2 n x0 (x1 + (1 : Int32))))
noncomputable def pm_X3_comeBack (a0 : Option Nat) : km_M Unit :=
pb_X3_comeBack_2 km_fuel a0 (0 : Int32)

/-! RosaryCarversModel sumOn (I)I -/
noncomputable def pb_X3_sumOn_4  : Nat → Option Nat → Int32 → Int32 → Int32 → km_M Int32
| 0, _, _, _, _ => km_fail
| n + 1, x0, x1, x2, x3 =>
km_bind (km_is 3 x0) fun _ => km_bind (pm_X3_ofString x0 x1 (3 : Int32)) fun i1 =>
if i1 ≤ x3 then
(km_pure x2)
else
(km_bind (km_gR [(3, 0)] x0) fun r2 =>
km_bind (pm_X3_beadAt x1 x3) fun i3 =>
km_bind (km_ldI 0 r2 (i3 + (1 : Int32))) fun i4 =>
pb_X3_sumOn_4 n x0 x1 (x2 + i4) (x3 + (1 : Int32)))
noncomputable def pm_X3_sumOn (a0 : Option Nat) (a1 : Int32) : km_M Int32 :=
pb_X3_sumOn_4 km_fuel a0 a1 (0 : Int32) (0 : Int32)

/-! RosaryCarversModel fineness (I)I -/
noncomputable def pm_X3_fineness (a0 : Option Nat) (a1 : Int32) : km_M Int32 :=
km_bind (km_is 3 a0) fun _ => km_bind (pm_X3_ofString a0 a1 (3 : Int32)) fun i1 =>
if ¬ i1 = 0 then
(km_bind (km_is 3 a0) fun _ => km_bind (pm_X3_sumOn a0 a1) fun i2 =>
km_bind (km_div i2 i1) fun i3 =>
km_pure i3)
else
(km_pure (0 : Int32))

/-! RosaryCarversModel wouldBuy (I)I -/
noncomputable def pb_X3_wouldBuy_109 (k5 : Option Nat → Int32 → Int32 → Int32 → km_M Int32) (x0 : Option Nat) (x1 : Int32) (x3 : Int32) (s0 : Int32) : km_M Int32 :=
k5 x0 x1 s0 (x3 + (1 : Int32))
noncomputable def pb_X3_wouldBuy_108 (k5 : Option Nat → Int32 → Int32 → Int32 → km_M Int32) (x0 : Option Nat) (x1 : Int32) (x2 : Int32) (x3 : Int32) : km_M Int32 :=
pb_X3_wouldBuy_109 k5 x0 x1 x3 x2
noncomputable def pb_X3_wouldBuy_78 (k5 : Option Nat → Int32 → Int32 → Int32 → km_M Int32) (x0 : Option Nat) (x1 : Int32) (x2 : Int32) (x3 : Int32) (s0 : Int32) : km_M Int32 :=
if s0 = 0 then
(pb_X3_wouldBuy_108 k5 x0 x1 x2 x3)
else
(if x2 = (-6 : Int32) then
(pb_X3_wouldBuy_109 k5 x0 x1 x3 x3)
else
(km_bind (km_is 3 x0) fun _ => km_bind (pm_X3_fineness x0 x3) fun i1 =>
km_bind (km_is 3 x0) fun _ => km_bind (pm_X3_fineness x0 x2) fun i2 =>
if i2 ≤ i1 then
(pb_X3_wouldBuy_108 k5 x0 x1 x2 x3)
else
(pb_X3_wouldBuy_109 k5 x0 x1 x3 x3)))
noncomputable def pb_X3_wouldBuy_77 (k5 : Option Nat → Int32 → Int32 → Int32 → km_M Int32) (x0 : Option Nat) (x1 : Int32) (x2 : Int32) (x3 : Int32) : km_M Int32 :=
pb_X3_wouldBuy_78 k5 x0 x1 x2 x3 (0 : Int32)
noncomputable def pb_X3_wouldBuy_5  : Nat → Option Nat → Int32 → Int32 → Int32 → km_M Int32
| 0, _, _, _, _ => km_fail
| n + 1, x0, x1, x2, x3 =>
km_bind (km_gR [(3, 0)] x0) fun r1 =>
km_bind (km_ldI 0 r1 (12 : Int32)) fun i2 =>
if i2 ≤ x3 then
(km_pure x2)
else
(km_bind (km_gR [(3, 0)] x0) fun r3 =>
km_bind (km_ldI 0 r3 (14 : Int32)) fun i4 =>
if (8 : Int32) ≤ i4 then
(km_pure x2)
else
(km_bind (km_is 3 x0) fun _ => km_bind (pm_X3_isDone x0 x3) fun i5 =>
if i5 = 0 then
(pb_X3_wouldBuy_77 (pb_X3_wouldBuy_5 n) x0 x1 x2 x3)
else
(km_bind (km_is 3 x0) fun _ => km_bind (pm_X3_ofString x0 x3 (0 : Int32)) fun i6 =>
km_bind (km_gR [(3, 0)] x0) fun r7 =>
km_bind (pm_X3_pilgrimAt x1 (1 : Int32)) fun i8 =>
km_bind (km_ldI 0 r7 i8) fun i9 =>
if ¬ i6 = i9 then
(pb_X3_wouldBuy_77 (pb_X3_wouldBuy_5 n) x0 x1 x2 x3)
else
(km_bind (km_is 3 x0) fun _ => km_bind (pm_X3_fineness x0 x3) fun i10 =>
km_bind (km_gR [(3, 0)] x0) fun r11 =>
km_bind (pm_X3_pilgrimAt x1 (2 : Int32)) fun i12 =>
km_bind (km_ldI 0 r11 i12) fun i13 =>
if i10 < i13 then
(pb_X3_wouldBuy_77 (pb_X3_wouldBuy_5 n) x0 x1 x2 x3)
else
(pb_X3_wouldBuy_78 (pb_X3_wouldBuy_5 n) x0 x1 x2 x3 (1 : Int32))))))
noncomputable def pm_X3_wouldBuy (a0 : Option Nat) (a1 : Int32) : km_M Int32 :=
pb_X3_wouldBuy_5 km_fuel a0 a1 (-6 : Int32) (0 : Int32)

/-! RosaryCarversModel sells (II)V -/
noncomputable def pb_X3_sells_67 (k20 : Option Nat → Int32 → Int32 → Int32 → Int32 → Int32 → km_M Unit) (x0 : Option Nat) (x1 : Int32) (x2 : Int32) (x3 : Int32) (x5 : Int32) (s0 : Int32) : km_M Unit :=
k20 x0 x1 x2 x3 s0 (x5 + (1 : Int32))
noncomputable def pb_X3_sells_147  (x0 : Option Nat) (x1 : Int32) (x2 : Int32) (x3 : Int32) (x4 : Int32) (s0 : Int32) (s1 : Int32) (s2 : Option Nat) : km_M Unit :=
km_bind (km_stI 0 s2 s1 s0) fun _ =>
km_bind (km_gR [(3, 0)] x0) fun r2 =>
km_bind (km_gR [(3, 0)] x0) fun r3 =>
km_bind (pm_X3_beadAt x1 x4) fun i4 =>
km_bind (km_ldI 0 r3 (i4 + (1 : Int32))) fun i5 =>
km_bind (km_stI 0 r2 (x3 + (4 : Int32)) i5) fun _ =>
km_bind (km_gR [(3, 0)] x0) fun r7 =>
km_bind (km_ldI 0 r7 (14 : Int32)) fun i8 =>
km_bind (km_stI 0 r7 (14 : Int32) (i8 + (1 : Int32))) fun _ =>
km_bind (km_gR [(3, 0)] x0) fun r10 =>
km_bind (km_ldI 0 r10 (4 : Int32)) fun i11 =>
km_bind (km_stI 0 r10 (4 : Int32) (i11 + (1 : Int32))) fun _ =>
km_bind (km_gR [(3, 0)] x0) fun r13 =>
km_bind (km_ldI 0 r13 (6 : Int32)) fun i14 =>
km_bind (km_stI 0 r13 (6 : Int32) (i14 + x2)) fun _ =>
km_bind (km_is 3 x0) fun _ => km_bind (pm_X3_goes x0 (12 : Int32) (764 : Int32) (60 : Int32) x1) fun _ =>
km_pure ()
noncomputable def pb_X3_sells_20  : Nat → Option Nat → Int32 → Int32 → Int32 → Int32 → Int32 → km_M Unit
| 0, _, _, _, _, _, _ => km_fail
| n + 1, x0, x1, x2, x3, x4, x5 =>
km_bind (km_is 3 x0) fun _ => km_bind (pm_X3_ofString x0 x1 (3 : Int32)) fun i1 =>
if i1 ≤ x5 then
(km_bind (km_gR [(3, 0)] x0) fun r2 =>
km_bind (km_gR [(3, 0)] x0) fun r3 =>
km_bind (km_ldI 0 r3 (0 : Int32)) fun i4 =>
km_bind (km_is 3 x0) fun _ => km_bind (pm_X3_fineness x0 x1) fun i5 =>
km_bind (km_stI 0 r2 (x3 + (0 : Int32)) (i4 + ((10 : Int32) * i5))) fun _ =>
km_bind (km_gR [(3, 0)] x0) fun r7 =>
km_bind (km_is 3 x0) fun _ => km_bind (pm_X3_ofString x0 x1 (3 : Int32)) fun i8 =>
km_bind (km_stI 0 r7 (x3 + (1 : Int32)) i8) fun _ =>
km_bind (km_gR [(3, 0)] x0) fun r10 =>
km_bind (km_is 3 x0) fun _ => km_bind (pm_X3_sumOn x0 x1) fun i11 =>
km_bind (km_stI 0 r10 (x3 + (2 : Int32)) i11) fun _ =>
km_bind (km_gR [(3, 0)] x0) fun r13 =>
km_bind (km_is 3 x0) fun _ => km_bind (pm_X3_isLargeAt x0 x1 x4) fun i14 =>
if i14 = 0 then
(pb_X3_sells_147 x0 x1 x2 x3 x4 (0 : Int32) (x3 + (3 : Int32)) r13)
else
(pb_X3_sells_147 x0 x1 x2 x3 x4 (1 : Int32) (x3 + (3 : Int32)) r13))
else
(km_bind (km_gR [(3, 0)] x0) fun r15 =>
km_bind (pm_X3_beadAt x1 x5) fun i16 =>
km_bind (km_ldI 0 r15 (i16 + (1 : Int32))) fun i17 =>
km_bind (km_gR [(3, 0)] x0) fun r18 =>
km_bind (pm_X3_beadAt x1 x4) fun i19 =>
km_bind (km_ldI 0 r18 (i19 + (1 : Int32))) fun i20 =>
if i20 ≤ i17 then
(pb_X3_sells_67 (pb_X3_sells_20 n) x0 x1 x2 x3 x5 x4)
else
(pb_X3_sells_67 (pb_X3_sells_20 n) x0 x1 x2 x3 x5 x5))
noncomputable def pm_X3_sells (a0 : Option Nat) (a1 : Int32) (a2 : Int32) : km_M Unit :=
km_bind (km_gR [(3, 0)] a0) fun r1 =>
km_bind (km_ldI 0 r1 (14 : Int32)) fun i2 =>
pb_X3_sells_20 km_fuel a0 a1 a2 ((1148 : Int32) + ((5 : Int32) * i2)) (0 : Int32) (1 : Int32)

/-! RosaryCarversModel pilgrimsCome ()I -/
noncomputable def pb_X3_pilgrimsCome_70 (k4 : Option Nat → Int32 → Int32 → km_M Int32) (x0 : Option Nat) (x1 : Int32) (x2 : Int32) : km_M Int32 :=
km_bind (km_is 3 x0) fun _ => km_bind (pm_X3_goes x0 (13 : Int32) (1124 : Int32) (4 : Int32) x2) fun _ =>
k4 x0 x1 x2
noncomputable def pb_X3_pilgrimsCome_4  : Nat → Option Nat → Int32 → Int32 → km_M Int32
| 0, _, _, _ => km_fail
| n + 1, x0, x1, x2 =>
km_bind (km_gR [(3, 0)] x0) fun r1 =>
km_bind (km_ldI 0 r1 (13 : Int32)) fun i2 =>
if i2 ≤ x2 then
(km_pure x1)
else
(km_bind (km_gR [(3, 0)] x0) fun r3 =>
km_bind (pm_X3_pilgrimAt x2 (0 : Int32)) fun i4 =>
km_bind (km_ldI 0 r3 i4) fun i5 =>
km_bind (km_gR [(3, 0)] x0) fun r6 =>
km_bind (km_ldI 0 r6 (0 : Int32)) fun i7 =>
if i5 = i7 then
(km_bind (km_is 3 x0) fun _ => km_bind (pm_X3_wouldBuy x0 x2) fun i8 =>
if i8 = (-6 : Int32) then
(pb_X3_pilgrimsCome_70 (pb_X3_pilgrimsCome_4 n) x0 x1 x2)
else
(km_bind (km_gR [(3, 0)] x0) fun r9 =>
km_bind (pm_X3_pilgrimAt x2 (3 : Int32)) fun i10 =>
km_bind (km_ldI 0 r9 i10) fun i11 =>
km_bind (km_is 3 x0) fun _ => km_bind (pm_X3_sells x0 i8 i11) fun _ =>
pb_X3_pilgrimsCome_70 (pb_X3_pilgrimsCome_4 n) x0 (x1 + (1 : Int32)) x2))
else
(pb_X3_pilgrimsCome_4 n x0 x1 (x2 + (1 : Int32))))
noncomputable def pm_X3_pilgrimsCome (a0 : Option Nat) : km_M Int32 :=
pb_X3_pilgrimsCome_4 km_fuel a0 (0 : Int32) (0 : Int32)

/-! RosaryCarversModel dayGoes ()I -/
noncomputable def pb_X3_dayGoes_12  : Nat → Option Nat → Int32 → km_M Int32
| 0, _, _ => km_fail
| n + 1, x0, x1 =>
km_bind (km_gR [(3, 0)] x0) fun r1 =>
km_bind (km_ldI 0 r1 (9 : Int32)) fun i2 =>
if i2 ≤ x1 then
(km_bind (km_is 3 x0) fun _ => km_bind (pm_X3_comeBack x0) fun _ =>
km_bind (km_is 3 x0) fun _ => km_bind (pm_X3_pilgrimsCome x0) fun i3 =>
km_pure i3)
else
(km_bind (km_gR [(3, 0)] x0) fun r4 =>
km_bind (pm_X3_carverAt x1 (1 : Int32)) fun i5 =>
km_bind (km_gR [(3, 0)] x0) fun r6 =>
km_bind (pm_X3_carverAt x1 (1 : Int32)) fun i7 =>
km_bind (km_ldI 0 r6 i7) fun i8 =>
km_bind (pm_X3_greater (0 : Int32) (i8 - (30 : Int32))) fun i9 =>
km_bind (km_stI 0 r4 i5 i9) fun _ =>
pb_X3_dayGoes_12 n x0 (x1 + (1 : Int32)))
noncomputable def pm_X3_dayGoes (a0 : Option Nat) : km_M Int32 :=
km_bind (km_gR [(3, 0)] a0) fun r1 =>
km_bind (km_ldI 0 r1 (0 : Int32)) fun i2 =>
km_bind (km_stI 0 r1 (0 : Int32) (i2 + (1 : Int32))) fun _ =>
pb_X3_dayGoes_12 km_fuel a0 (0 : Int32)

/-! RosaryCarversModel passes (I)I -/
noncomputable def pb_X3_passes_17  : Nat → Option Nat → Int32 → Int32 → Int32 → km_M Int32
| 0, _, _, _, _ => km_fail
| n + 1, x0, x1, x2, x3 =>
if x1 ≤ x3 then
(km_pure x2)
else
(km_bind (km_is 3 x0) fun _ => km_bind (pm_X3_dayGoes x0) fun i1 =>
pb_X3_passes_17 n x0 x1 (x2 + i1) (x3 + (1 : Int32)))
noncomputable def pm_X3_passes (a0 : Option Nat) (a1 : Int32) : km_M Int32 :=
km_bind (pm_X3_isIn a1 (1 : Int32) (60 : Int32)) fun i1 =>
if ¬ i1 = 0 then
(pb_X3_passes_17 km_fuel a0 a1 (0 : Int32) (0 : Int32))
else
(km_pure (-2 : Int32))

/-! RosaryCarversModel pass (I)I -/
noncomputable def pm_X3_pass (a0 : Option Nat) (a1 : Int32) : km_M Int32 :=
km_bind (km_is 3 a0) fun _ => km_bind (pm_X3_keeps a0) fun _ =>
km_bind (km_is 3 a0) fun _ => km_bind (pm_X3_passes a0 a1) fun i1 =>
km_bind (km_is 3 a0) fun _ => km_bind (pm_X3_ends a0 i1) fun i2 =>
km_pure i2

/-! RosaryCarvers carverOf (II)I -/
noncomputable def pm_X0_carverOf (a0 : Option Nat) (a1 : Int32) (a2 : Int32) : km_M Int32 :=
km_bind (km_gR [(0, 0)] a0) fun r1 =>
km_bind (km_is 1 r1) fun _ => km_bind (pm_X1_isCarver r1 a1) fun i2 =>
if ¬ i2 = 0 then
(km_bind (km_gR [(0, 0)] a0) fun r3 =>
km_bind (km_gR [(1, 0)] r3) fun r4 =>
km_bind (km_is 30 r4) fun _ => km_bind (pm_J2_get r4 a1) fun r5 =>
km_bind (km_cast [5] r5) fun _ =>
km_tsw a2 0 5 [(km_bind (km_gI [(5, 0)] r5) fun i6 =>
km_pure i6),
(km_bind (km_gI [(5, 1)] r5) fun i7 =>
km_pure i7),
(km_bind (km_gR [(0, 0)] a0) fun r8 =>
km_bind (km_is 1 r8) fun _ => km_bind (pm_X1_lensOf r8 a1) fun i9 =>
km_pure i9),
(km_bind (km_gR [(0, 0)] a0) fun r10 =>
km_bind (km_is 1 r10) fun _ => km_bind (pm_X1_sight r10 a1) fun i11 =>
km_pure i11),
(km_bind (km_gI [(5, 2)] r5) fun i12 =>
km_pure i12),
(km_bind (km_gI [(5, 3)] r5) fun i13 =>
km_pure i13)] (km_pure (-2 : Int32)))
else
(km_pure (-1 : Int32))

/-! RosaryCarversModel carverOf (II)I -/
noncomputable def pb_X3_carverOf_48  (x0 : Option Nat) (x1 : Int32) (x2 : Int32) : km_M Int32 :=
km_bind (km_gR [(3, 0)] x0) fun r1 =>
km_bind (pm_X3_carverAt x1 x2) fun i2 =>
km_bind (km_ldI 0 r1 i2) fun i3 =>
km_pure i3
noncomputable def pb_X3_carverOf_65  (x0 : Option Nat) (x1 : Int32) (x2 : Int32) : km_M Int32 :=
km_bind (km_gR [(3, 0)] x0) fun r1 =>
km_bind (pm_X3_carverAt x1 (x2 - (1 : Int32))) fun i2 =>
km_bind (km_ldI 0 r1 i2) fun i3 =>
km_pure i3
noncomputable def pm_X3_carverOf (a0 : Option Nat) (a1 : Int32) (a2 : Int32) : km_M Int32 :=
km_bind (km_is 3 a0) fun _ => km_bind (pm_X3_isCarver a0 a1) fun i1 =>
if ¬ i1 = 0 then
(km_tsw a2 0 5 [(pb_X3_carverOf_48 a0 a1 a2),
(pb_X3_carverOf_48 a0 a1 a2),
(pb_X3_carverOf_48 a0 a1 a2),
(km_bind (km_is 3 a0) fun _ => km_bind (pm_X3_sight a0 a1) fun i2 =>
km_pure i2),
(pb_X3_carverOf_65 a0 a1 a2),
(pb_X3_carverOf_65 a0 a1 a2)] (km_pure (-2 : Int32)))
else
(km_pure (-1 : Int32))

/-! RosaryCarvers lensOf (IZ)I -/
noncomputable def pm_X0_lensOf (a0 : Option Nat) (a1 : Int32) (a2 : Int32) : km_M Int32 :=
km_bind (km_gR [(0, 0)] a0) fun r1 =>
km_bind (km_is 1 r1) fun _ => km_bind (pm_X1_isLens r1 a1) fun i2 =>
if ¬ i2 = 0 then
(km_bind (km_gR [(0, 0)] a0) fun r3 =>
km_bind (km_gR [(1, 1)] r3) fun r4 =>
km_bind (km_is 30 r4) fun _ => km_bind (pm_J2_get r4 a1) fun r5 =>
km_bind (km_cast [6] r5) fun _ =>
if a2 = 0 then
(km_bind (km_gI [(6, 1)] r5) fun i6 =>
if ¬ i6 = (-1 : Int32) then
(km_bind (km_gI [(6, 1)] r5) fun i7 =>
km_pure i7)
else
(km_pure (-6 : Int32)))
else
(km_bind (km_gI [(6, 0)] r5) fun i8 =>
km_pure i8))
else
(km_pure (-1 : Int32))

/-! RosaryCarversModel lensOf (IZ)I -/
noncomputable def pb_X3_lensOf_22  (s0 : Int32) (s1 : Int32) (s2 : Option Nat) : km_M Int32 :=
km_bind (pm_X3_lensAt s1 s0) fun i1 =>
km_bind (km_ldI 0 s2 i1) fun i2 =>
km_pure i2
noncomputable def pm_X3_lensOf (a0 : Option Nat) (a1 : Int32) (a2 : Int32) : km_M Int32 :=
km_bind (km_is 3 a0) fun _ => km_bind (pm_X3_isLens a0 a1) fun i1 =>
if i1 = 0 then
(km_pure (-1 : Int32))
else
(km_bind (km_gR [(3, 0)] a0) fun r2 =>
if a2 = 0 then
(pb_X3_lensOf_22 (1 : Int32) a1 r2)
else
(pb_X3_lensOf_22 (0 : Int32) a1 r2))

/-! RosaryCarvers box (ZZ)I -/
noncomputable def pm_X0_box (a0 : Option Nat) (a1 : Int32) (a2 : Int32) : km_M Int32 :=
if a2 = 0 then
(km_bind (km_gR [(0, 0)] a0) fun r1 =>
km_bind (km_gR [(1, 2)] r1) fun r2 =>
km_bind (km_disp r2 [(2, pm_X2_many r2 a1), (7, pm_X2_many r2 a1), (12, pm_X2_many r2 a1)]) fun i3 =>
km_pure i3)
else
(km_bind (km_gR [(0, 0)] a0) fun r4 =>
km_bind (km_gR [(1, 2)] r4) fun r5 =>
km_bind (km_disp r5 [(2, pm_X2_of r5 a1), (7, pm_X2_of r5 a1), (12, pm_X2_of r5 a1)]) fun r6 =>
km_bind (pm_X13_sum r6) fun i7 =>
km_pure i7)

/-! RosaryCarversModel box (ZZ)I -/
noncomputable def pb_X3_box_76 (k5 : Option Nat → Int32 → Int32 → Int32 → Int32 → km_M Int32) (x0 : Option Nat) (x1 : Int32) (x2 : Int32) (x4 : Int32) (s0 : Int32) (s1 : Int32) : km_M Int32 :=
k5 x0 x1 x2 (s1 + s0) (x4 + (1 : Int32))
noncomputable def pb_X3_box_45 (k5 : Option Nat → Int32 → Int32 → Int32 → Int32 → km_M Int32) (x0 : Option Nat) (x1 : Int32) (x2 : Int32) (x3 : Int32) (x4 : Int32) (s0 : Int32) : km_M Int32 :=
if ¬ s0 = 0 then
(if x2 = 0 then
(pb_X3_box_76 k5 x0 x1 x2 x4 (1 : Int32) x3)
else
(km_bind (km_gR [(3, 0)] x0) fun r1 =>
km_bind (pm_X3_boxAt x4 (2 : Int32)) fun i2 =>
km_bind (km_ldI 0 r1 i2) fun i3 =>
pb_X3_box_76 k5 x0 x1 x2 x4 i3 x3))
else
(pb_X3_box_76 k5 x0 x1 x2 x4 (0 : Int32) x3)
noncomputable def pb_X3_box_37 (k5 : Option Nat → Int32 → Int32 → Int32 → Int32 → km_M Int32) (x0 : Option Nat) (x1 : Int32) (x2 : Int32) (x3 : Int32) (x4 : Int32) (s0 : Int32) (s1 : Int32) : km_M Int32 :=
if ¬ s1 = s0 then
(pb_X3_box_45 k5 x0 x1 x2 x3 x4 (0 : Int32))
else
(pb_X3_box_45 k5 x0 x1 x2 x3 x4 (1 : Int32))
noncomputable def pb_X3_box_5  : Nat → Option Nat → Int32 → Int32 → Int32 → Int32 → km_M Int32
| 0, _, _, _, _, _ => km_fail
| n + 1, x0, x1, x2, x3, x4 =>
km_bind (km_gR [(3, 0)] x0) fun r1 =>
km_bind (km_ldI 0 r1 (11 : Int32)) fun i2 =>
if i2 ≤ x4 then
(km_pure x3)
else
(km_bind (km_gR [(3, 0)] x0) fun r3 =>
km_bind (pm_X3_boxAt x4 (1 : Int32)) fun i4 =>
km_bind (km_ldI 0 r3 i4) fun i5 =>
if x1 = 0 then
(pb_X3_box_37 (pb_X3_box_5 n) x0 x1 x2 x3 x4 (0 : Int32) i5)
else
(pb_X3_box_37 (pb_X3_box_5 n) x0 x1 x2 x3 x4 (1 : Int32) i5))
noncomputable def pm_X3_box (a0 : Option Nat) (a1 : Int32) (a2 : Int32) : km_M Int32 :=
pb_X3_box_5 km_fuel a0 a1 a2 (0 : Int32) (0 : Int32)

/-! RosaryCarvers finest (Z)I -/
noncomputable def pm_X0_finest (a0 : Option Nat) (a1 : Int32) : km_M Int32 :=
km_bind (km_gR [(0, 0)] a0) fun r1 =>
km_bind (km_gR [(1, 2)] r1) fun r2 =>
km_bind (km_disp r2 [(2, pm_X2_finest r2 a1), (7, pm_X2_finest r2 a1), (12, pm_X2_finest r2 a1)]) fun r3 =>
if r3 = none then
(km_pure (-6 : Int32))
else
(km_bind (km_gI [(14, 0)] r3) fun i4 =>
km_pure i4)

/-! RosaryCarversModel finest (Z)I -/
noncomputable def pm_X3_finest (a0 : Option Nat) (a1 : Int32) : km_M Int32 :=
km_bind (km_is 3 a0) fun _ => km_bind (pm_X3_finestPlace a0 a1) fun i1 =>
if 0 ≤ i1 then
(km_bind (km_gR [(3, 0)] a0) fun r2 =>
km_bind (pm_X3_boxAt i1 (0 : Int32)) fun i3 =>
km_bind (km_ldI 0 r2 i3) fun i4 =>
km_pure i4)
else
(km_pure (-6 : Int32))

/-! RosaryCarvers finestAgain (Z)I -/
noncomputable def pb_X0_finestAgain_74 (k3 : Option Nat → Int32 → Int32 → km_M Int32) (k28 : Option Nat → Int32 → Int32 → Int32 → Option Nat → km_M Int32) (x0 : Option Nat) (x1 : Int32) (x2 : Int32) (x4 : Option Nat) (x5 : Option Nat) : km_M Int32 :=
km_bind (km_gI [(14, 0)] x5) fun i1 =>
k28 x0 x1 x2 i1 x4
noncomputable def pb_X0_finestAgain_28 (k3 : Option Nat → Int32 → Int32 → km_M Int32) : Nat → Option Nat → Int32 → Int32 → Int32 → Option Nat → km_M Int32
| 0, _, _, _, _, _ => km_fail
| n + 1, x0, x1, x2, x3, x4 =>
km_bind (km_disp x4 [(11, pm_X12_hasNext x4), (33, pm_J5_hasNext x4), (34, pm_J15_hasNext x4)]) fun i1 =>
if i1 = 0 then
(if x3 = (-6 : Int32) then
(k3 x0 x1 (x2 + (-1 : Int32)))
else
(km_pure x3))
else
(km_bind (km_disp x4 [(11, pm_X12_next x4), (33, pm_J5_next x4), (34, pm_J15_next x4)]) fun r2 =>
km_bind (km_cast [14] r2) fun _ =>
km_bind (km_gI [(14, 2)] r2) fun i3 =>
if ¬ i3 = x2 then
((pb_X0_finestAgain_28 k3 n) x0 x1 x2 x3 x4)
else
(if x3 = (-6 : Int32) then
(pb_X0_finestAgain_74 k3 (pb_X0_finestAgain_28 k3 n) x0 x1 x2 x4 r2)
else
(km_bind (km_gI [(14, 0)] r2) fun i4 =>
if x3 ≤ i4 then
((pb_X0_finestAgain_28 k3 n) x0 x1 x2 x3 x4)
else
(pb_X0_finestAgain_74 k3 (pb_X0_finestAgain_28 k3 n) x0 x1 x2 x4 r2))))
noncomputable def pb_X0_finestAgain_3  : Nat → Option Nat → Int32 → Int32 → km_M Int32
| 0, _, _, _ => km_fail
| n + 1, x0, x1, x2 =>
if x2 ≤ 0 then
(km_pure (-6 : Int32))
else
(km_bind (km_gR [(0, 0)] x0) fun r1 =>
km_bind (km_gR [(1, 2)] r1) fun r2 =>
km_bind (km_disp r2 [(2, pm_X2_of r2 x1), (7, pm_X2_of r2 x1), (12, pm_X2_of r2 x1)]) fun r3 =>
km_bind (km_disp r3 [(2, pm_X2_iterator r3), (7, pm_X2_iterator r3), (10, pm_X11_iterator r3), (12, pm_X2_iterator r3), (30, pm_J2_iterator r3), (32, pm_J4_iterator r3)]) fun r4 =>
pb_X0_finestAgain_28 (pb_X0_finestAgain_3 n) km_fuel x0 x1 x2 (-6 : Int32) r4)
noncomputable def pm_X0_finestAgain (a0 : Option Nat) (a1 : Int32) : km_M Int32 :=
pb_X0_finestAgain_3 km_fuel a0 a1 (9 : Int32)

/-! RosaryCarversModel finestAgain (Z)I -/
noncomputable def pb_X3_finestAgain_111 (k3 : Option Nat → Int32 → Int32 → km_M Int32) (k13 : Option Nat → Int32 → Int32 → Int32 → Int32 → km_M Int32) (x0 : Option Nat) (x1 : Int32) (x2 : Int32) (x4 : Int32) (s0 : Int32) : km_M Int32 :=
k13 x0 x1 x2 s0 (x4 + (1 : Int32))
noncomputable def pb_X3_finestAgain_96 (k3 : Option Nat → Int32 → Int32 → km_M Int32) (k13 : Option Nat → Int32 → Int32 → Int32 → Int32 → km_M Int32) (x0 : Option Nat) (x1 : Int32) (x2 : Int32) (x4 : Int32) : km_M Int32 :=
km_bind (km_gR [(3, 0)] x0) fun r1 =>
km_bind (pm_X3_boxAt x4 (0 : Int32)) fun i2 =>
km_bind (km_ldI 0 r1 i2) fun i3 =>
pb_X3_finestAgain_111 k3 k13 x0 x1 x2 x4 i3
noncomputable def pb_X3_finestAgain_110 (k3 : Option Nat → Int32 → Int32 → km_M Int32) (k13 : Option Nat → Int32 → Int32 → Int32 → Int32 → km_M Int32) (x0 : Option Nat) (x1 : Int32) (x2 : Int32) (x3 : Int32) (x4 : Int32) : km_M Int32 :=
pb_X3_finestAgain_111 k3 k13 x0 x1 x2 x4 x3
noncomputable def pb_X3_finestAgain_68 (k3 : Option Nat → Int32 → Int32 → km_M Int32) (k13 : Option Nat → Int32 → Int32 → Int32 → Int32 → km_M Int32) (x0 : Option Nat) (x1 : Int32) (x2 : Int32) (x3 : Int32) (x4 : Int32) (s0 : Int32) : km_M Int32 :=
if s0 = 0 then
(pb_X3_finestAgain_110 k3 k13 x0 x1 x2 x3 x4)
else
(if x3 = (-6 : Int32) then
(pb_X3_finestAgain_96 k3 k13 x0 x1 x2 x4)
else
(km_bind (km_gR [(3, 0)] x0) fun r1 =>
km_bind (pm_X3_boxAt x4 (0 : Int32)) fun i2 =>
km_bind (km_ldI 0 r1 i2) fun i3 =>
if x3 ≤ i3 then
(pb_X3_finestAgain_110 k3 k13 x0 x1 x2 x3 x4)
else
(pb_X3_finestAgain_96 k3 k13 x0 x1 x2 x4)))
noncomputable def pb_X3_finestAgain_67 (k3 : Option Nat → Int32 → Int32 → km_M Int32) (k13 : Option Nat → Int32 → Int32 → Int32 → Int32 → km_M Int32) (x0 : Option Nat) (x1 : Int32) (x2 : Int32) (x3 : Int32) (x4 : Int32) : km_M Int32 :=
pb_X3_finestAgain_68 k3 k13 x0 x1 x2 x3 x4 (0 : Int32)
noncomputable def pb_X3_finestAgain_45 (k3 : Option Nat → Int32 → Int32 → km_M Int32) (k13 : Option Nat → Int32 → Int32 → Int32 → Int32 → km_M Int32) (x0 : Option Nat) (x1 : Int32) (x2 : Int32) (x3 : Int32) (x4 : Int32) (s0 : Int32) (s1 : Int32) : km_M Int32 :=
if ¬ s1 = s0 then
(pb_X3_finestAgain_67 k3 k13 x0 x1 x2 x3 x4)
else
(km_bind (km_gR [(3, 0)] x0) fun r1 =>
km_bind (pm_X3_boxAt x4 (2 : Int32)) fun i2 =>
km_bind (km_ldI 0 r1 i2) fun i3 =>
if ¬ i3 = x2 then
(pb_X3_finestAgain_67 k3 k13 x0 x1 x2 x3 x4)
else
(pb_X3_finestAgain_68 k3 k13 x0 x1 x2 x3 x4 (1 : Int32)))
noncomputable def pb_X3_finestAgain_13 (k3 : Option Nat → Int32 → Int32 → km_M Int32) : Nat → Option Nat → Int32 → Int32 → Int32 → Int32 → km_M Int32
| 0, _, _, _, _, _ => km_fail
| n + 1, x0, x1, x2, x3, x4 =>
km_bind (km_gR [(3, 0)] x0) fun r1 =>
km_bind (km_ldI 0 r1 (11 : Int32)) fun i2 =>
if i2 ≤ x4 then
(if x3 = (-6 : Int32) then
(k3 x0 x1 (x2 + (-1 : Int32)))
else
(km_pure x3))
else
(km_bind (km_gR [(3, 0)] x0) fun r3 =>
km_bind (pm_X3_boxAt x4 (1 : Int32)) fun i4 =>
km_bind (km_ldI 0 r3 i4) fun i5 =>
if x1 = 0 then
(pb_X3_finestAgain_45 k3 (pb_X3_finestAgain_13 k3 n) x0 x1 x2 x3 x4 (0 : Int32) i5)
else
(pb_X3_finestAgain_45 k3 (pb_X3_finestAgain_13 k3 n) x0 x1 x2 x3 x4 (1 : Int32) i5))
noncomputable def pb_X3_finestAgain_3  : Nat → Option Nat → Int32 → Int32 → km_M Int32
| 0, _, _, _ => km_fail
| n + 1, x0, x1, x2 =>
if x2 ≤ 0 then
(km_pure (-6 : Int32))
else
(pb_X3_finestAgain_13 (pb_X3_finestAgain_3 n) km_fuel x0 x1 x2 (-6 : Int32) (0 : Int32))
noncomputable def pm_X3_finestAgain (a0 : Option Nat) (a1 : Int32) : km_M Int32 :=
pb_X3_finestAgain_3 km_fuel a0 a1 (9 : Int32)

/-! RosaryCarvers$Rosary wants ()I -/
noncomputable def pm_X8_wants (a0 : Option Nat) : km_M Int32 :=
km_bind (km_is 7 a0) fun _ => km_bind (pm_X8_isDone a0) fun i1 =>
if i1 = 0 then
(km_bind (km_is 7 a0) fun _ => km_bind (pm_X8_isWhole a0) fun i2 =>
if i2 = 0 then
(km_bind (km_is 7 a0) fun _ => km_bind (pm_X8_wantsLarge a0) fun i3 =>
km_bind (pm_X0_bit i3) fun i4 =>
km_pure i4)
else
(km_pure (2 : Int32)))
else
(km_pure (3 : Int32))

/-! RosaryCarvers stringOf (II)I -/
noncomputable def pm_X0_stringOf (a0 : Option Nat) (a1 : Int32) (a2 : Int32) : km_M Int32 :=
km_bind (km_gR [(0, 0)] a0) fun r1 =>
km_bind (km_is 1 r1) fun _ => km_bind (pm_X1_isString r1 a1) fun i2 =>
if ¬ i2 = 0 then
(km_bind (km_gR [(0, 0)] a0) fun r3 =>
km_bind (km_gR [(1, 3)] r3) fun r4 =>
km_bind (km_is 30 r4) fun _ => km_bind (pm_J2_get r4 a1) fun r5 =>
km_bind (km_cast [7] r5) fun _ =>
km_tsw a2 0 6 [(km_bind (km_gI [(7, 1)] r5) fun i6 =>
km_pure i6),
(km_bind (km_gI [(7, 2)] r5) fun i7 =>
km_pure i7),
(km_bind (km_is 7 r5) fun _ => km_bind (pm_X2_size r5) fun i8 =>
km_pure i8),
(km_bind (km_gI [(7, 3)] r5) fun i9 =>
km_pure i9),
(km_bind (km_is 7 r5) fun _ => km_bind (pm_X2_fineness r5) fun i10 =>
km_pure i10),
(km_bind (km_is 7 r5) fun _ => km_bind (pm_X8_isDone r5) fun i11 =>
km_bind (pm_X0_bit i11) fun i12 =>
km_pure i12),
(km_bind (km_is 7 r5) fun _ => km_bind (pm_X8_wants r5) fun i13 =>
km_pure i13)] (km_pure (-2 : Int32)))
else
(km_pure (-1 : Int32))

/-! RosaryCarversModel stringOf (II)I -/
noncomputable def pm_X3_stringOf (a0 : Option Nat) (a1 : Int32) (a2 : Int32) : km_M Int32 :=
km_bind (km_is 3 a0) fun _ => km_bind (pm_X3_isString a0 a1) fun i1 =>
if ¬ i1 = 0 then
(km_tsw a2 0 6 [(km_bind (km_is 3 a0) fun _ => km_bind (pm_X3_ofString a0 a1 (0 : Int32)) fun i2 =>
km_pure i2),
(km_bind (km_is 3 a0) fun _ => km_bind (pm_X3_ofString a0 a1 (1 : Int32)) fun i3 =>
km_pure i3),
(km_bind (km_is 3 a0) fun _ => km_bind (pm_X3_ofString a0 a1 (3 : Int32)) fun i4 =>
km_pure i4),
(km_bind (km_is 3 a0) fun _ => km_bind (pm_X3_ofString a0 a1 (2 : Int32)) fun i5 =>
km_pure i5),
(km_bind (km_is 3 a0) fun _ => km_bind (pm_X3_fineness a0 a1) fun i6 =>
km_pure i6),
(km_bind (km_is 3 a0) fun _ => km_bind (pm_X3_isDone a0 a1) fun i7 =>
if i7 = 0 then
(km_pure (0 : Int32))
else
(km_pure (1 : Int32))),
(km_bind (km_is 3 a0) fun _ => km_bind (pm_X3_wants a0 a1) fun i8 =>
km_pure i8)] (km_pure (-2 : Int32)))
else
(km_pure (-1 : Int32))

/-! RosaryCarvers bead (IIZ)I -/
noncomputable def pb_X0_bead_39  : Nat → Int32 → Int32 → Int32 → Option Nat → km_M Int32
| 0, _, _, _, _ => km_fail
| n + 1, x2, x3, x4, x5 =>
km_bind (km_disp x5 [(11, pm_X12_hasNext x5), (33, pm_J5_hasNext x5), (34, pm_J15_hasNext x5)]) fun i1 =>
if i1 = 0 then
(km_pure (-1 : Int32))
else
(km_bind (km_disp x5 [(11, pm_X12_next x5), (33, pm_J5_next x5), (34, pm_J15_next x5)]) fun r2 =>
km_bind (km_cast [14] r2) fun _ =>
if ¬ x4 = x2 then
(pb_X0_bead_39 n x2 x3 (x4 + (1 : Int32)) x5)
else
(if x3 = 0 then
(km_bind (km_gI [(14, 0)] r2) fun i3 =>
km_pure i3)
else
(km_bind (km_gI [(14, 2)] r2) fun i4 =>
km_pure i4)))
noncomputable def pm_X0_bead (a0 : Option Nat) (a1 : Int32) (a2 : Int32) (a3 : Int32) : km_M Int32 :=
km_bind (km_gR [(0, 0)] a0) fun r1 =>
km_bind (km_is 1 r1) fun _ => km_bind (pm_X1_isString r1 a1) fun i2 =>
if i2 = 0 then
(km_pure (-1 : Int32))
else
(if 0 ≤ a2 then
(km_bind (km_gR [(0, 0)] a0) fun r3 =>
km_bind (km_gR [(1, 3)] r3) fun r4 =>
km_bind (km_is 30 r4) fun _ => km_bind (pm_J2_get r4 a1) fun r5 =>
km_bind (km_cast [7] r5) fun _ =>
km_bind (km_is 7 r5) fun _ => km_bind (pm_X2_iterator r5) fun r6 =>
pb_X0_bead_39 km_fuel a2 a3 (0 : Int32) r6)
else
(km_pure (-1 : Int32)))

/-! RosaryCarversModel bead (IIZ)I -/
noncomputable def pb_X3_bead_44  (s0 : Int32) (s1 : Int32) (s2 : Option Nat) : km_M Int32 :=
km_bind (km_ldI 0 s2 (s1 + s0)) fun i1 =>
km_pure i1
noncomputable def pm_X3_bead (a0 : Option Nat) (a1 : Int32) (a2 : Int32) (a3 : Int32) : km_M Int32 :=
km_bind (km_is 3 a0) fun _ => km_bind (pm_X3_isString a0 a1) fun i1 =>
if i1 = 0 then
(km_pure (-1 : Int32))
else
(km_bind (km_is 3 a0) fun _ => km_bind (pm_X3_ofString a0 a1 (3 : Int32)) fun i2 =>
km_bind (pm_X3_isIn a2 (0 : Int32) (i2 - (1 : Int32))) fun i3 =>
if ¬ i3 = 0 then
(km_bind (km_gR [(3, 0)] a0) fun r4 =>
km_bind (pm_X3_beadAt a1 a2) fun i5 =>
if a3 = 0 then
(pb_X3_bead_44 (0 : Int32) i5 r4)
else
(pb_X3_bead_44 (1 : Int32) i5 r4))
else
(km_pure (-1 : Int32)))

/-! RosaryCarvers pilgrimOf (II)I -/
noncomputable def pm_X0_pilgrimOf (a0 : Option Nat) (a1 : Int32) (a2 : Int32) : km_M Int32 :=
km_bind (km_gR [(0, 0)] a0) fun r1 =>
km_bind (km_gR [(1, 4)] r1) fun r2 =>
km_bind (km_is 30 r2) fun _ => km_bind (pm_J2_size r2) fun i3 =>
km_bind (pm_X0_in a1 (0 : Int32) (i3 - (1 : Int32))) fun i4 =>
if ¬ i4 = 0 then
(km_bind (km_gR [(0, 0)] a0) fun r5 =>
km_bind (km_gR [(1, 4)] r5) fun r6 =>
km_bind (km_is 30 r6) fun _ => km_bind (pm_J2_get r6 a1) fun r7 =>
km_bind (km_cast [9] r7) fun _ =>
km_tsw a2 0 4 [(km_bind (km_gI [(9, 0)] r7) fun i8 =>
km_bind (km_gR [(0, 0)] a0) fun r9 =>
km_bind (km_gI [(1, 8)] r9) fun i10 =>
km_pure (i8 - i10)),
(km_bind (km_gI [(9, 1)] r7) fun i11 =>
km_pure i11),
(km_bind (km_gI [(9, 2)] r7) fun i12 =>
km_pure i12),
(km_bind (km_gI [(9, 3)] r7) fun i13 =>
km_pure i13),
(km_bind (km_gR [(0, 0)] a0) fun r14 =>
km_bind (km_is 1 r14) fun _ => km_bind (pm_X1_wanted r14 r7) fun i15 =>
km_pure i15)] (km_pure (-2 : Int32)))
else
(km_pure (-1 : Int32))

/-! RosaryCarversModel pilgrimOf (II)I -/
noncomputable def pb_X3_pilgrimOf_74  (x0 : Option Nat) (x1 : Int32) (x2 : Int32) : km_M Int32 :=
km_bind (km_gR [(3, 0)] x0) fun r1 =>
km_bind (pm_X3_pilgrimAt x1 x2) fun i2 =>
km_bind (km_ldI 0 r1 i2) fun i3 =>
km_pure i3
noncomputable def pm_X3_pilgrimOf (a0 : Option Nat) (a1 : Int32) (a2 : Int32) : km_M Int32 :=
km_bind (km_gR [(3, 0)] a0) fun r1 =>
km_bind (km_ldI 0 r1 (13 : Int32)) fun i2 =>
km_bind (pm_X3_isIn a1 (0 : Int32) (i2 - (1 : Int32))) fun i3 =>
if ¬ i3 = 0 then
(km_tsw a2 0 4 [(km_bind (km_gR [(3, 0)] a0) fun r4 =>
km_bind (pm_X3_pilgrimAt a1 (0 : Int32)) fun i5 =>
km_bind (km_ldI 0 r4 i5) fun i6 =>
km_bind (km_gR [(3, 0)] a0) fun r7 =>
km_bind (km_ldI 0 r7 (0 : Int32)) fun i8 =>
km_pure (i6 - i8)),
(pb_X3_pilgrimOf_74 a0 a1 a2),
(pb_X3_pilgrimOf_74 a0 a1 a2),
(pb_X3_pilgrimOf_74 a0 a1 a2),
(km_bind (km_is 3 a0) fun _ => km_bind (pm_X3_wouldBuy a0 a1) fun i9 =>
km_pure i9)] (km_pure (-2 : Int32)))
else
(km_pure (-1 : Int32))

/-! RosaryCarvers soldOf (ZII)I -/
noncomputable def pb_X0_soldOf_21  (x0 : Option Nat) (x1 : Int32) (x2 : Int32) (x3 : Int32) (s0 : Option Nat) : km_M Int32 :=
km_bind (km_is 30 s0) fun _ => km_bind (pm_J2_size s0) fun i1 =>
km_bind (pm_X0_in x2 (0 : Int32) (i1 - (1 : Int32))) fun i2 =>
if ¬ i2 = 0 then
(km_bind (km_is 30 s0) fun _ => km_bind (pm_J2_get s0 x2) fun r3 =>
km_bind (km_cast [12] r3) fun _ =>
km_tsw x3 0 3 [(km_bind (km_is 12 r3) fun _ => km_bind (pm_X2_size r3) fun i4 =>
km_pure i4),
(km_bind (km_is 12 r3) fun _ => km_bind (pm_X2_fineness r3) fun i5 =>
km_pure i5),
(if x1 = 0 then
(km_bind (km_is 12 r3) fun _ => km_bind (pm_X14_last r3) fun i6 =>
km_bind (km_gR [(0, 0)] x0) fun r7 =>
km_bind (km_gI [(1, 8)] r7) fun i8 =>
km_pure (i6 - i8))
else
(km_pure (0 : Int32))),
(if x1 = 0 then
(km_pure (-6 : Int32))
else
(km_bind (km_gR [(12, 2)] r3) fun r9 =>
km_bind (km_gI [(14, 1)] r9) fun i10 =>
km_bind (pm_X0_bit i10) fun i11 =>
km_pure i11))] (km_pure (-2 : Int32)))
else
(km_pure (-1 : Int32))
noncomputable def pm_X0_soldOf (a0 : Option Nat) (a1 : Int32) (a2 : Int32) (a3 : Int32) : km_M Int32 :=
if a1 = 0 then
(km_bind (km_gR [(0, 0)] a0) fun r1 =>
km_bind (km_gR [(1, 5)] r1) fun r2 =>
pb_X0_soldOf_21 a0 a1 a2 a3 r2)
else
(km_bind (km_gR [(0, 0)] a0) fun r3 =>
km_bind (km_gR [(1, 6)] r3) fun r4 =>
pb_X0_soldOf_21 a0 a1 a2 a3 r4)

/-! RosaryCarversModel soldOf (ZII)I -/
noncomputable def pb_X3_soldOf_41  (x0 : Option Nat) (x1 : Int32) (x2 : Int32) (x3 : Int32) (s0 : Int32) : km_M Int32 :=
km_tsw x3 0 3 [(km_bind (km_gR [(3, 0)] x0) fun r1 =>
km_bind (km_ldI 0 r1 ((s0 + ((5 : Int32) * x2)) + (1 : Int32))) fun i2 =>
km_pure i2),
(km_bind (km_gR [(3, 0)] x0) fun r3 =>
km_bind (km_ldI 0 r3 ((s0 + ((5 : Int32) * x2)) + (2 : Int32))) fun i4 =>
km_bind (km_gR [(3, 0)] x0) fun r5 =>
km_bind (km_ldI 0 r5 ((s0 + ((5 : Int32) * x2)) + (1 : Int32))) fun i6 =>
km_bind (km_div i4 i6) fun i7 =>
km_pure i7),
(if x1 = 0 then
(km_bind (km_gR [(3, 0)] x0) fun r8 =>
km_bind (km_ldI 0 r8 ((s0 + ((5 : Int32) * x2)) + (0 : Int32))) fun i9 =>
km_bind (km_gR [(3, 0)] x0) fun r10 =>
km_bind (km_ldI 0 r10 (0 : Int32)) fun i11 =>
km_pure (i9 - i11))
else
(km_pure (0 : Int32))),
(if x1 = 0 then
(km_pure (-6 : Int32))
else
(km_bind (km_gR [(3, 0)] x0) fun r12 =>
km_bind (km_ldI 0 r12 ((s0 + ((5 : Int32) * x2)) + (3 : Int32))) fun i13 =>
km_pure i13))] (km_pure (-2 : Int32))
noncomputable def pb_X3_soldOf_17  (x0 : Option Nat) (x1 : Int32) (x2 : Int32) (x3 : Int32) (s0 : Int32) (s1 : Option Nat) (s2 : Int32) (s3 : Int32) : km_M Int32 :=
km_bind (km_ldI 0 s1 s0) fun i1 =>
km_bind (pm_X3_isIn s3 s2 (i1 - (1 : Int32))) fun i2 =>
if ¬ i2 = 0 then
(if x1 = 0 then
(pb_X3_soldOf_41 x0 x1 x2 x3 (1148 : Int32))
else
(pb_X3_soldOf_41 x0 x1 x2 x3 (1188 : Int32)))
else
(km_pure (-1 : Int32))
noncomputable def pm_X3_soldOf (a0 : Option Nat) (a1 : Int32) (a2 : Int32) (a3 : Int32) : km_M Int32 :=
km_bind (km_gR [(3, 0)] a0) fun r1 =>
if a1 = 0 then
(pb_X3_soldOf_17 a0 a1 a2 a3 (14 : Int32) r1 (0 : Int32) a2)
else
(pb_X3_soldOf_17 a0 a1 a2 a3 (15 : Int32) r1 (0 : Int32) a2)

/-! RosaryCarvers could (II)I -/
noncomputable def pm_X0_could (a0 : Option Nat) (a1 : Int32) (a2 : Int32) : km_M Int32 :=
km_bind (pm_X0_isPattern a1 a2) fun i1 =>
if ¬ i1 = 0 then
(km_bind (km_gR [(0, 0)] a0) fun r2 =>
km_bind (km_gR [(1, 2)] r2) fun r3 =>
km_bind (km_disp r3 [(2, pm_X2_many r3 (1 : Int32)), (7, pm_X2_many r3 (1 : Int32)), (12, pm_X2_many r3 (1 : Int32))]) fun i4 =>
km_bind (km_div i4 a1) fun i5 =>
km_bind (km_gR [(0, 0)] a0) fun r6 =>
km_bind (km_gR [(1, 2)] r6) fun r7 =>
km_bind (km_disp r7 [(2, pm_X2_many r7 (0 : Int32)), (7, pm_X2_many r7 (0 : Int32)), (12, pm_X2_many r7 (0 : Int32))]) fun i8 =>
km_bind (km_div i8 (a1 * a2)) fun i9 =>
km_pure (km_min i5 i9))
else
(km_pure (-2 : Int32))

/-! RosaryCarversModel could (II)I -/
noncomputable def pm_X3_could (a0 : Option Nat) (a1 : Int32) (a2 : Int32) : km_M Int32 :=
km_bind (pm_X3_isIn a1 (1 : Int32) (4 : Int32)) fun i1 =>
if i1 = 0 then
(km_pure (-2 : Int32))
else
(km_bind (pm_X3_isIn a2 (1 : Int32) (6 : Int32)) fun i2 =>
if ¬ i2 = 0 then
(km_bind (km_is 3 a0) fun _ => km_bind (pm_X3_box a0 (1 : Int32) (0 : Int32)) fun i3 =>
km_bind (km_div i3 a1) fun i4 =>
km_bind (km_is 3 a0) fun _ => km_bind (pm_X3_box a0 (0 : Int32) (0 : Int32)) fun i5 =>
km_bind (km_div i5 (a1 * a2)) fun i6 =>
km_bind (pm_X3_lesser i4 i6) fun i7 =>
km_pure i7)
else
(km_pure (-2 : Int32)))

/-! RosaryCarvers nextBack ()I -/
noncomputable def pb_X0_nextBack_14  : Nat → Option Nat → Int32 → Option Nat → km_M Int32
| 0, _, _, _ => km_fail
| n + 1, x0, x1, x2 =>
km_bind (km_disp x2 [(11, pm_X12_hasNext x2), (33, pm_J5_hasNext x2), (34, pm_J15_hasNext x2)]) fun i1 =>
if i1 = 0 then
(km_pure x1)
else
(km_bind (km_disp x2 [(11, pm_X12_next x2), (33, pm_J5_next x2), (34, pm_J15_next x2)]) fun r2 =>
km_bind (km_cast [12] r2) fun _ =>
km_bind (km_is 12 r2) fun _ => km_bind (pm_X14_last r2) fun i3 =>
km_bind (km_gR [(0, 0)] x0) fun r4 =>
km_bind (km_gI [(1, 8)] r4) fun i5 =>
if x1 = (-6 : Int32) then
(pb_X0_nextBack_14 n x0 (i3 - i5) x2)
else
(if x1 ≤ (i3 - i5) then
(pb_X0_nextBack_14 n x0 x1 x2)
else
(pb_X0_nextBack_14 n x0 (i3 - i5) x2)))
noncomputable def pm_X0_nextBack (a0 : Option Nat) : km_M Int32 :=
km_bind (km_gR [(0, 0)] a0) fun r1 =>
km_bind (km_gR [(1, 5)] r1) fun r2 =>
km_bind (km_is 30 r2) fun _ => km_bind (pm_J2_iterator r2) fun r3 =>
pb_X0_nextBack_14 km_fuel a0 (-6 : Int32) r3

/-! RosaryCarversModel nextBack ()I -/
noncomputable def pb_X3_nextBack_53 (k5 : Option Nat → Int32 → Int32 → km_M Int32) (x0 : Option Nat) (x2 : Int32) (s0 : Int32) : km_M Int32 :=
k5 x0 s0 (x2 + (1 : Int32))
noncomputable def pb_X3_nextBack_5  : Nat → Option Nat → Int32 → Int32 → km_M Int32
| 0, _, _, _ => km_fail
| n + 1, x0, x1, x2 =>
km_bind (km_gR [(3, 0)] x0) fun r1 =>
km_bind (km_ldI 0 r1 (14 : Int32)) fun i2 =>
if i2 ≤ x2 then
(km_pure x1)
else
(km_bind (km_gR [(3, 0)] x0) fun r3 =>
km_bind (km_ldI 0 r3 (((1148 : Int32) + ((5 : Int32) * x2)) + (0 : Int32))) fun i4 =>
km_bind (km_gR [(3, 0)] x0) fun r5 =>
km_bind (km_ldI 0 r5 (0 : Int32)) fun i6 =>
if ¬ x1 = (-6 : Int32) then
(km_bind (pm_X3_lesser x1 (i4 - i6)) fun i7 =>
pb_X3_nextBack_53 (pb_X3_nextBack_5 n) x0 x2 i7)
else
(pb_X3_nextBack_53 (pb_X3_nextBack_5 n) x0 x2 (i4 - i6)))
noncomputable def pm_X3_nextBack (a0 : Option Nat) : km_M Int32 :=
pb_X3_nextBack_5 km_fuel a0 (-6 : Int32) (0 : Int32)

/-! RosaryCarvers marks (Ljava/util/BitSet;Ljava/lang/Iterable;)I -/
noncomputable def pb_X0_marks_36 (k9 : Option Nat → Int32 → Option Nat → km_M Int32) : Nat → Option Nat → Int32 → Option Nat → Option Nat → km_M Int32
| 0, _, _, _, _ => km_fail
| n + 1, x0, x2, x3, x5 =>
km_bind (km_disp x5 [(11, pm_X12_hasNext x5), (33, pm_J5_hasNext x5), (34, pm_J15_hasNext x5)]) fun i1 =>
if i1 = 0 then
(k9 x0 x2 x3)
else
(km_bind (km_disp x5 [(11, pm_X12_next x5), (33, pm_J5_next x5), (34, pm_J15_next x5)]) fun r2 =>
km_bind (km_cast [14] r2) fun _ =>
km_bind (km_gI [(14, 0)] r2) fun i3 =>
km_bind (km_is 31 x0) fun _ => km_bind (pm_J3_set x0 i3) fun _ =>
(pb_X0_marks_36 k9 n) x0 (x2 + (1 : Int32)) x3 x5)
noncomputable def pb_X0_marks_9  : Nat → Option Nat → Int32 → Option Nat → km_M Int32
| 0, _, _, _ => km_fail
| n + 1, x0, x2, x3 =>
km_bind (km_disp x3 [(11, pm_X12_hasNext x3), (33, pm_J5_hasNext x3), (34, pm_J15_hasNext x3)]) fun i1 =>
if i1 = 0 then
(km_pure x2)
else
(km_bind (km_disp x3 [(11, pm_X12_next x3), (33, pm_J5_next x3), (34, pm_J15_next x3)]) fun r2 =>
km_bind (km_cast [2, 7, 12] r2) fun _ =>
km_bind (km_disp r2 [(2, pm_X2_iterator r2), (7, pm_X2_iterator r2), (12, pm_X2_iterator r2)]) fun r3 =>
pb_X0_marks_36 (pb_X0_marks_9 n) km_fuel x0 x2 x3 r3)
noncomputable def pm_X0_marks (a0 : Option Nat) (a1 : Option Nat) : km_M Int32 :=
km_bind (km_disp a1 [(2, pm_X2_iterator a1), (7, pm_X2_iterator a1), (10, pm_X11_iterator a1), (12, pm_X2_iterator a1), (30, pm_J2_iterator a1), (32, pm_J4_iterator a1)]) fun r1 =>
pb_X0_marks_9 km_fuel a0 (0 : Int32) r1

/-! java/lang/Long bitCount (J)I -/
noncomputable def pm_J21_bitCount (a0 : Int64) : km_M Int32 :=
km_pure ((((((((((a0 - (((a0.toUInt64 >>> ((1 : Int32).toInt64.toUInt64 &&& Int64.toUInt64 63)).toInt64) &&& (6148914691236517205 : Int64))) &&& (3689348814741910323 : Int64)) + ((((a0 - (((a0.toUInt64 >>> ((1 : Int32).toInt64.toUInt64 &&& Int64.toUInt64 63)).toInt64) &&& (6148914691236517205 : Int64))).toUInt64 >>> ((2 : Int32).toInt64.toUInt64 &&& Int64.toUInt64 63)).toInt64) &&& (3689348814741910323 : Int64))) + (((((a0 - (((a0.toUInt64 >>> ((1 : Int32).toInt64.toUInt64 &&& Int64.toUInt64 63)).toInt64) &&& (6148914691236517205 : Int64))) &&& (3689348814741910323 : Int64)) + ((((a0 - (((a0.toUInt64 >>> ((1 : Int32).toInt64.toUInt64 &&& Int64.toUInt64 63)).toInt64) &&& (6148914691236517205 : Int64))).toUInt64 >>> ((2 : Int32).toInt64.toUInt64 &&& Int64.toUInt64 63)).toInt64) &&& (3689348814741910323 : Int64))).toUInt64 >>> ((4 : Int32).toInt64.toUInt64 &&& Int64.toUInt64 63)).toInt64)) &&& (1085102592571150095 : Int64)) + (((((((a0 - (((a0.toUInt64 >>> ((1 : Int32).toInt64.toUInt64 &&& Int64.toUInt64 63)).toInt64) &&& (6148914691236517205 : Int64))) &&& (3689348814741910323 : Int64)) + ((((a0 - (((a0.toUInt64 >>> ((1 : Int32).toInt64.toUInt64 &&& Int64.toUInt64 63)).toInt64) &&& (6148914691236517205 : Int64))).toUInt64 >>> ((2 : Int32).toInt64.toUInt64 &&& Int64.toUInt64 63)).toInt64) &&& (3689348814741910323 : Int64))) + (((((a0 - (((a0.toUInt64 >>> ((1 : Int32).toInt64.toUInt64 &&& Int64.toUInt64 63)).toInt64) &&& (6148914691236517205 : Int64))) &&& (3689348814741910323 : Int64)) + ((((a0 - (((a0.toUInt64 >>> ((1 : Int32).toInt64.toUInt64 &&& Int64.toUInt64 63)).toInt64) &&& (6148914691236517205 : Int64))).toUInt64 >>> ((2 : Int32).toInt64.toUInt64 &&& Int64.toUInt64 63)).toInt64) &&& (3689348814741910323 : Int64))).toUInt64 >>> ((4 : Int32).toInt64.toUInt64 &&& Int64.toUInt64 63)).toInt64)) &&& (1085102592571150095 : Int64)).toUInt64 >>> ((8 : Int32).toInt64.toUInt64 &&& Int64.toUInt64 63)).toInt64)) + ((((((((a0 - (((a0.toUInt64 >>> ((1 : Int32).toInt64.toUInt64 &&& Int64.toUInt64 63)).toInt64) &&& (6148914691236517205 : Int64))) &&& (3689348814741910323 : Int64)) + ((((a0 - (((a0.toUInt64 >>> ((1 : Int32).toInt64.toUInt64 &&& Int64.toUInt64 63)).toInt64) &&& (6148914691236517205 : Int64))).toUInt64 >>> ((2 : Int32).toInt64.toUInt64 &&& Int64.toUInt64 63)).toInt64) &&& (3689348814741910323 : Int64))) + (((((a0 - (((a0.toUInt64 >>> ((1 : Int32).toInt64.toUInt64 &&& Int64.toUInt64 63)).toInt64) &&& (6148914691236517205 : Int64))) &&& (3689348814741910323 : Int64)) + ((((a0 - (((a0.toUInt64 >>> ((1 : Int32).toInt64.toUInt64 &&& Int64.toUInt64 63)).toInt64) &&& (6148914691236517205 : Int64))).toUInt64 >>> ((2 : Int32).toInt64.toUInt64 &&& Int64.toUInt64 63)).toInt64) &&& (3689348814741910323 : Int64))).toUInt64 >>> ((4 : Int32).toInt64.toUInt64 &&& Int64.toUInt64 63)).toInt64)) &&& (1085102592571150095 : Int64)) + (((((((a0 - (((a0.toUInt64 >>> ((1 : Int32).toInt64.toUInt64 &&& Int64.toUInt64 63)).toInt64) &&& (6148914691236517205 : Int64))) &&& (3689348814741910323 : Int64)) + ((((a0 - (((a0.toUInt64 >>> ((1 : Int32).toInt64.toUInt64 &&& Int64.toUInt64 63)).toInt64) &&& (6148914691236517205 : Int64))).toUInt64 >>> ((2 : Int32).toInt64.toUInt64 &&& Int64.toUInt64 63)).toInt64) &&& (3689348814741910323 : Int64))) + (((((a0 - (((a0.toUInt64 >>> ((1 : Int32).toInt64.toUInt64 &&& Int64.toUInt64 63)).toInt64) &&& (6148914691236517205 : Int64))) &&& (3689348814741910323 : Int64)) + ((((a0 - (((a0.toUInt64 >>> ((1 : Int32).toInt64.toUInt64 &&& Int64.toUInt64 63)).toInt64) &&& (6148914691236517205 : Int64))).toUInt64 >>> ((2 : Int32).toInt64.toUInt64 &&& Int64.toUInt64 63)).toInt64) &&& (3689348814741910323 : Int64))).toUInt64 >>> ((4 : Int32).toInt64.toUInt64 &&& Int64.toUInt64 63)).toInt64)) &&& (1085102592571150095 : Int64)).toUInt64 >>> ((8 : Int32).toInt64.toUInt64 &&& Int64.toUInt64 63)).toInt64)).toUInt64 >>> ((16 : Int32).toInt64.toUInt64 &&& Int64.toUInt64 63)).toInt64)) + (((((((((a0 - (((a0.toUInt64 >>> ((1 : Int32).toInt64.toUInt64 &&& Int64.toUInt64 63)).toInt64) &&& (6148914691236517205 : Int64))) &&& (3689348814741910323 : Int64)) + ((((a0 - (((a0.toUInt64 >>> ((1 : Int32).toInt64.toUInt64 &&& Int64.toUInt64 63)).toInt64) &&& (6148914691236517205 : Int64))).toUInt64 >>> ((2 : Int32).toInt64.toUInt64 &&& Int64.toUInt64 63)).toInt64) &&& (3689348814741910323 : Int64))) + (((((a0 - (((a0.toUInt64 >>> ((1 : Int32).toInt64.toUInt64 &&& Int64.toUInt64 63)).toInt64) &&& (6148914691236517205 : Int64))) &&& (3689348814741910323 : Int64)) + ((((a0 - (((a0.toUInt64 >>> ((1 : Int32).toInt64.toUInt64 &&& Int64.toUInt64 63)).toInt64) &&& (6148914691236517205 : Int64))).toUInt64 >>> ((2 : Int32).toInt64.toUInt64 &&& Int64.toUInt64 63)).toInt64) &&& (3689348814741910323 : Int64))).toUInt64 >>> ((4 : Int32).toInt64.toUInt64 &&& Int64.toUInt64 63)).toInt64)) &&& (1085102592571150095 : Int64)) + (((((((a0 - (((a0.toUInt64 >>> ((1 : Int32).toInt64.toUInt64 &&& Int64.toUInt64 63)).toInt64) &&& (6148914691236517205 : Int64))) &&& (3689348814741910323 : Int64)) + ((((a0 - (((a0.toUInt64 >>> ((1 : Int32).toInt64.toUInt64 &&& Int64.toUInt64 63)).toInt64) &&& (6148914691236517205 : Int64))).toUInt64 >>> ((2 : Int32).toInt64.toUInt64 &&& Int64.toUInt64 63)).toInt64) &&& (3689348814741910323 : Int64))) + (((((a0 - (((a0.toUInt64 >>> ((1 : Int32).toInt64.toUInt64 &&& Int64.toUInt64 63)).toInt64) &&& (6148914691236517205 : Int64))) &&& (3689348814741910323 : Int64)) + ((((a0 - (((a0.toUInt64 >>> ((1 : Int32).toInt64.toUInt64 &&& Int64.toUInt64 63)).toInt64) &&& (6148914691236517205 : Int64))).toUInt64 >>> ((2 : Int32).toInt64.toUInt64 &&& Int64.toUInt64 63)).toInt64) &&& (3689348814741910323 : Int64))).toUInt64 >>> ((4 : Int32).toInt64.toUInt64 &&& Int64.toUInt64 63)).toInt64)) &&& (1085102592571150095 : Int64)).toUInt64 >>> ((8 : Int32).toInt64.toUInt64 &&& Int64.toUInt64 63)).toInt64)) + ((((((((a0 - (((a0.toUInt64 >>> ((1 : Int32).toInt64.toUInt64 &&& Int64.toUInt64 63)).toInt64) &&& (6148914691236517205 : Int64))) &&& (3689348814741910323 : Int64)) + ((((a0 - (((a0.toUInt64 >>> ((1 : Int32).toInt64.toUInt64 &&& Int64.toUInt64 63)).toInt64) &&& (6148914691236517205 : Int64))).toUInt64 >>> ((2 : Int32).toInt64.toUInt64 &&& Int64.toUInt64 63)).toInt64) &&& (3689348814741910323 : Int64))) + (((((a0 - (((a0.toUInt64 >>> ((1 : Int32).toInt64.toUInt64 &&& Int64.toUInt64 63)).toInt64) &&& (6148914691236517205 : Int64))) &&& (3689348814741910323 : Int64)) + ((((a0 - (((a0.toUInt64 >>> ((1 : Int32).toInt64.toUInt64 &&& Int64.toUInt64 63)).toInt64) &&& (6148914691236517205 : Int64))).toUInt64 >>> ((2 : Int32).toInt64.toUInt64 &&& Int64.toUInt64 63)).toInt64) &&& (3689348814741910323 : Int64))).toUInt64 >>> ((4 : Int32).toInt64.toUInt64 &&& Int64.toUInt64 63)).toInt64)) &&& (1085102592571150095 : Int64)) + (((((((a0 - (((a0.toUInt64 >>> ((1 : Int32).toInt64.toUInt64 &&& Int64.toUInt64 63)).toInt64) &&& (6148914691236517205 : Int64))) &&& (3689348814741910323 : Int64)) + ((((a0 - (((a0.toUInt64 >>> ((1 : Int32).toInt64.toUInt64 &&& Int64.toUInt64 63)).toInt64) &&& (6148914691236517205 : Int64))).toUInt64 >>> ((2 : Int32).toInt64.toUInt64 &&& Int64.toUInt64 63)).toInt64) &&& (3689348814741910323 : Int64))) + (((((a0 - (((a0.toUInt64 >>> ((1 : Int32).toInt64.toUInt64 &&& Int64.toUInt64 63)).toInt64) &&& (6148914691236517205 : Int64))) &&& (3689348814741910323 : Int64)) + ((((a0 - (((a0.toUInt64 >>> ((1 : Int32).toInt64.toUInt64 &&& Int64.toUInt64 63)).toInt64) &&& (6148914691236517205 : Int64))).toUInt64 >>> ((2 : Int32).toInt64.toUInt64 &&& Int64.toUInt64 63)).toInt64) &&& (3689348814741910323 : Int64))).toUInt64 >>> ((4 : Int32).toInt64.toUInt64 &&& Int64.toUInt64 63)).toInt64)) &&& (1085102592571150095 : Int64)).toUInt64 >>> ((8 : Int32).toInt64.toUInt64 &&& Int64.toUInt64 63)).toInt64)).toUInt64 >>> ((16 : Int32).toInt64.toUInt64 &&& Int64.toUInt64 63)).toInt64)).toUInt64 >>> ((32 : Int32).toInt64.toUInt64 &&& Int64.toUInt64 63)).toInt64)).toInt32) &&& (127 : Int32))

/-! java/util/BitSet cardinality ()I -/
noncomputable def pb_J3_cardinality_4  : Nat → Option Nat → Int32 → Int32 → km_M Int32
| 0, _, _, _ => km_fail
| n + 1, x0, x1, x2 =>
km_bind (km_gI [(31, 1)] x0) fun i1 =>
if i1 ≤ x2 then
(km_pure x1)
else
(km_bind (km_gR [(31, 0)] x0) fun r2 =>
km_bind (km_ldJ r2 x2) fun j3 =>
km_bind (pm_J21_bitCount j3) fun i4 =>
pb_J3_cardinality_4 n x0 (x1 + i4) (x2 + (1 : Int32)))
noncomputable def pm_J3_cardinality (a0 : Option Nat) : km_M Int32 :=
pb_J3_cardinality_4 km_fuel a0 (0 : Int32) (0 : Int32)

/-! RosaryCarvers isCounted ()Z -/
noncomputable def pb_X0_isCounted_55  : Nat → Option Nat → Option Nat → Int32 → Option Nat → km_M Int32
| 0, _, _, _, _ => km_fail
| n + 1, x0, x1, x2, x3 =>
km_bind (km_disp x3 [(11, pm_X12_hasNext x3), (33, pm_J5_hasNext x3), (34, pm_J15_hasNext x3)]) fun i1 =>
if i1 = 0 then
(km_bind (km_gR [(0, 0)] x0) fun r2 =>
km_bind (km_gR [(1, 7)] r2) fun r3 =>
km_bind (km_is 31 x1) fun _ => km_bind (pm_J3_or x1 r3) fun _ =>
km_bind (km_gR [(0, 0)] x0) fun r4 =>
km_bind (km_gI [(1, 15)] r4) fun i5 =>
km_bind (km_gR [(0, 0)] x0) fun r6 =>
km_bind (km_gI [(1, 16)] r6) fun i7 =>
km_bind (km_gR [(0, 0)] x0) fun r8 =>
km_bind (km_gI [(1, 10)] r8) fun i9 =>
if ¬ ((x2 + i5) + i7) = i9 then
(km_bind (km_ret .boolean (0 : Int32)) (fun v => km_pure v))
else
(km_bind (km_is 31 x1) fun _ => km_bind (pm_J3_cardinality x1) fun i10 =>
km_bind (km_gR [(0, 0)] x0) fun r11 =>
km_bind (km_gI [(1, 10)] r11) fun i12 =>
if ¬ i10 = i12 then
(km_bind (km_ret .boolean (0 : Int32)) (fun v => km_pure v))
else
(km_bind (km_gR [(0, 0)] x0) fun r13 =>
km_bind (km_gR [(1, 7)] r13) fun r14 =>
km_bind (km_is 31 r14) fun _ => km_bind (pm_J3_cardinality r14) fun i15 =>
km_bind (km_gR [(0, 0)] x0) fun r16 =>
km_bind (km_gI [(1, 15)] r16) fun i17 =>
km_bind (km_gR [(0, 0)] x0) fun r18 =>
km_bind (km_gI [(1, 16)] r18) fun i19 =>
if ¬ i15 = (i17 + i19) then
(km_bind (km_ret .boolean (0 : Int32)) (fun v => km_pure v))
else
(km_bind (km_ret .boolean (1 : Int32)) (fun v => km_pure v)))))
else
(km_bind (km_disp x3 [(11, pm_X12_next x3), (33, pm_J5_next x3), (34, pm_J15_next x3)]) fun r20 =>
km_bind (km_cast [14] r20) fun _ =>
km_bind (km_gI [(14, 0)] r20) fun i21 =>
km_bind (km_is 31 x1) fun _ => km_bind (pm_J3_set x1 i21) fun _ =>
pb_X0_isCounted_55 n x0 x1 (x2 + (1 : Int32)) x3)
noncomputable def pm_X0_isCounted (a0 : Option Nat) : km_M Int32 :=
km_bind (km_new 31 3 kz_BS) fun r1 =>
km_bind (km_nn r1) fun _ => km_bind (pm_J3_init r1) fun _ =>
km_bind (km_gR [(0, 0)] a0) fun r2 =>
km_bind (km_gR [(1, 3)] r2) fun r3 =>
km_bind (pm_X0_marks r1 r3) fun i4 =>
km_bind (km_gR [(0, 0)] a0) fun r5 =>
km_bind (km_gR [(1, 5)] r5) fun r6 =>
km_bind (pm_X0_marks r1 r6) fun i7 =>
km_bind (km_gR [(0, 0)] a0) fun r8 =>
km_bind (km_gR [(1, 6)] r8) fun r9 =>
km_bind (pm_X0_marks r1 r9) fun i10 =>
km_bind (km_gR [(0, 0)] a0) fun r11 =>
km_bind (km_gR [(1, 2)] r11) fun r12 =>
km_bind (km_disp r12 [(2, pm_X2_iterator r12), (7, pm_X2_iterator r12), (12, pm_X2_iterator r12)]) fun r13 =>
pb_X0_isCounted_55 km_fuel a0 r1 ((i4 + i7) + i10) r13

/-! RosaryCarversModel onStrings ()I -/
noncomputable def pb_X3_onStrings_4  : Nat → Option Nat → Int32 → Int32 → km_M Int32
| 0, _, _, _ => km_fail
| n + 1, x0, x1, x2 =>
km_bind (km_gR [(3, 0)] x0) fun r1 =>
km_bind (km_ldI 0 r1 (12 : Int32)) fun i2 =>
if i2 ≤ x2 then
(km_pure x1)
else
(km_bind (km_is 3 x0) fun _ => km_bind (pm_X3_ofString x0 x2 (3 : Int32)) fun i3 =>
pb_X3_onStrings_4 n x0 (x1 + i3) (x2 + (1 : Int32)))
noncomputable def pm_X3_onStrings (a0 : Option Nat) : km_M Int32 :=
pb_X3_onStrings_4 km_fuel a0 (0 : Int32) (0 : Int32)

/-! RosaryCarversModel sold (II)I -/
noncomputable def pb_X3_sold_5  : Nat → Option Nat → Int32 → Int32 → Int32 → Int32 → km_M Int32
| 0, _, _, _, _, _ => km_fail
| n + 1, x0, x1, x2, x3, x4 =>
if x2 ≤ x4 then
(km_pure x3)
else
(km_bind (km_gR [(3, 0)] x0) fun r1 =>
km_bind (km_ldI 0 r1 ((x1 + ((5 : Int32) * x4)) + (1 : Int32))) fun i2 =>
pb_X3_sold_5 n x0 x1 x2 (x3 + i2) (x4 + (1 : Int32)))
noncomputable def pm_X3_sold (a0 : Option Nat) (a1 : Int32) (a2 : Int32) : km_M Int32 :=
pb_X3_sold_5 km_fuel a0 a1 a2 (0 : Int32) (0 : Int32)

/-! RosaryCarversModel isCounted ()Z -/
noncomputable def pm_X3_isCounted (a0 : Option Nat) : km_M Int32 :=
km_bind (km_gR [(3, 0)] a0) fun r1 =>
km_bind (km_ldI 0 r1 (2 : Int32)) fun i2 =>
km_bind (km_gR [(3, 0)] a0) fun r3 =>
km_bind (km_ldI 0 r3 (11 : Int32)) fun i4 =>
km_bind (km_is 3 a0) fun _ => km_bind (pm_X3_onStrings a0) fun i5 =>
km_bind (km_gR [(3, 0)] a0) fun r6 =>
km_bind (km_ldI 0 r6 (14 : Int32)) fun i7 =>
km_bind (km_is 3 a0) fun _ => km_bind (pm_X3_sold a0 (1148 : Int32) i7) fun i8 =>
km_bind (km_gR [(3, 0)] a0) fun r9 =>
km_bind (km_ldI 0 r9 (15 : Int32)) fun i10 =>
km_bind (km_is 3 a0) fun _ => km_bind (pm_X3_sold a0 (1188 : Int32) i10) fun i11 =>
km_bind (km_gR [(3, 0)] a0) fun r12 =>
km_bind (km_ldI 0 r12 (7 : Int32)) fun i13 =>
km_bind (km_gR [(3, 0)] a0) fun r14 =>
km_bind (km_ldI 0 r14 (8 : Int32)) fun i15 =>
if ¬ i2 = (((((i4 + i5) + i8) + i11) + i13) + i15) then
(km_bind (km_ret .boolean (0 : Int32)) (fun v => km_pure v))
else
(km_bind (km_ret .boolean (1 : Int32)) (fun v => km_pure v))

/-! RosaryCarvers meanFineness ()D -/
noncomputable def pm_X0_meanFineness (a0 : Option Nat) : km_M UInt64 :=
km_bind (km_gR [(0, 0)] a0) fun r1 =>
km_bind (km_gR [(1, 2)] r1) fun r2 =>
km_bind (km_disp r2 [(2, pm_X2_size r2), (7, pm_X2_size r2), (12, pm_X2_size r2)]) fun i3 =>
if ¬ i3 = 0 then
(km_bind (km_gR [(0, 0)] a0) fun r4 =>
km_bind (km_gR [(1, 2)] r4) fun r5 =>
km_bind (km_disp r5 [(2, pm_X2_sum r5), (7, pm_X2_sum r5), (12, pm_X2_sum r5)]) fun i6 =>
km_bind (km_ddiv (FP.i2d i6) (FP.i2d i3)) fun d7 =>
km_pure d7)
else
(km_pure FP.dconst0)

/-! RosaryCarversModel meanFineness ()D -/
noncomputable def pm_X3_meanFineness (a0 : Option Nat) : km_M UInt64 :=
km_bind (km_is 3 a0) fun _ => km_bind (pm_X3_box a0 (1 : Int32) (1 : Int32)) fun i1 =>
km_bind (km_is 3 a0) fun _ => km_bind (pm_X3_box a0 (0 : Int32) (1 : Int32)) fun i2 =>
km_bind (km_gR [(3, 0)] a0) fun r3 =>
km_bind (km_ldI 0 r3 (11 : Int32)) fun i4 =>
if ¬ i4 = 0 then
(km_bind (km_gR [(3, 0)] a0) fun r5 =>
km_bind (km_ldI 0 r5 (11 : Int32)) fun i6 =>
km_bind (km_ddiv (FP.i2d (i1 + i2)) (FP.i2d i6)) fun d7 =>
km_pure d7)
else
(km_pure FP.dconst0)

/-! RosaryCarvers spoilt ()F -/
noncomputable def pm_X0_spoilt (a0 : Option Nat) : km_M UInt32 :=
km_bind (km_gR [(0, 0)] a0) fun r1 =>
km_bind (km_gI [(1, 10)] r1) fun i2 =>
km_bind (km_gR [(0, 0)] a0) fun r3 =>
km_bind (km_gI [(1, 11)] r3) fun i4 =>
if ¬ (i2 + i4) = 0 then
(km_bind (km_gR [(0, 0)] a0) fun r5 =>
km_bind (km_gI [(1, 11)] r5) fun i6 =>
km_bind (km_fdiv (FP.i2f i6) (FP.i2f (i2 + i4))) fun f7 =>
km_pure f7)
else
(km_pure FP.fconst0)

/-! RosaryCarversModel spoilt ()F -/
noncomputable def pm_X3_spoilt (a0 : Option Nat) : km_M UInt32 :=
km_bind (km_gR [(3, 0)] a0) fun r1 =>
km_bind (km_ldI 0 r1 (2 : Int32)) fun i2 =>
km_bind (km_gR [(3, 0)] a0) fun r3 =>
km_bind (km_ldI 0 r3 (3 : Int32)) fun i4 =>
if ¬ (i2 + i4) = 0 then
(km_bind (km_gR [(3, 0)] a0) fun r5 =>
km_bind (km_ldI 0 r5 (3 : Int32)) fun i6 =>
km_bind (km_fdiv (FP.i2f i6) (FP.i2f (i2 + i4))) fun f7 =>
km_pure f7)
else
(km_pure FP.fconst0)

/-! RosaryCarvers doneOnes ()I -/
noncomputable def pb_X0_doneOnes_13  : Nat → Int32 → Option Nat → km_M Int32
| 0, _, _ => km_fail
| n + 1, x1, x2 =>
km_bind (km_disp x2 [(11, pm_X12_hasNext x2), (33, pm_J5_hasNext x2), (34, pm_J15_hasNext x2)]) fun i1 =>
if i1 = 0 then
(km_pure x1)
else
(km_bind (km_disp x2 [(11, pm_X12_next x2), (33, pm_J5_next x2), (34, pm_J15_next x2)]) fun r2 =>
km_bind (km_cast [7] r2) fun _ =>
km_bind (km_is 7 r2) fun _ => km_bind (pm_X8_isDone r2) fun i3 =>
km_bind (pm_X0_bit i3) fun i4 =>
pb_X0_doneOnes_13 n (x1 + i4) x2)
noncomputable def pm_X0_doneOnes (a0 : Option Nat) : km_M Int32 :=
km_bind (km_gR [(0, 0)] a0) fun r1 =>
km_bind (km_gR [(1, 3)] r1) fun r2 =>
km_bind (km_is 30 r2) fun _ => km_bind (pm_J2_iterator r2) fun r3 =>
pb_X0_doneOnes_13 km_fuel (0 : Int32) r3

/-! RosaryCarvers sizes (Ljava/lang/Iterable;)I -/
noncomputable def pb_X0_sizes_9  : Nat → Int32 → Option Nat → km_M Int32
| 0, _, _ => km_fail
| n + 1, x1, x2 =>
km_bind (km_disp x2 [(11, pm_X12_hasNext x2), (33, pm_J5_hasNext x2), (34, pm_J15_hasNext x2)]) fun i1 =>
if i1 = 0 then
(km_pure x1)
else
(km_bind (km_disp x2 [(11, pm_X12_next x2), (33, pm_J5_next x2), (34, pm_J15_next x2)]) fun r2 =>
km_bind (km_cast [2, 7, 12] r2) fun _ =>
km_bind (km_disp r2 [(2, pm_X2_size r2), (7, pm_X2_size r2), (12, pm_X2_size r2)]) fun i3 =>
pb_X0_sizes_9 n (x1 + i3) x2)
noncomputable def pm_X0_sizes (a0 : Option Nat) : km_M Int32 :=
km_bind (km_disp a0 [(2, pm_X2_iterator a0), (7, pm_X2_iterator a0), (10, pm_X11_iterator a0), (12, pm_X2_iterator a0), (30, pm_J2_iterator a0), (32, pm_J4_iterator a0)]) fun r1 =>
pb_X0_sizes_9 km_fuel (0 : Int32) r1

/-! RosaryCarvers account (I)I -/
noncomputable def pm_X0_account (a0 : Option Nat) (a1 : Int32) : km_M Int32 :=
km_tsw a1 0 20 [(km_bind (km_gR [(0, 0)] a0) fun r1 =>
km_bind (km_gI [(1, 8)] r1) fun i2 =>
km_pure i2),
(km_bind (km_gR [(0, 0)] a0) fun r3 =>
km_bind (km_gI [(1, 8)] r3) fun i4 =>
km_bind (pm_X0_seasonOf i4) fun i5 =>
km_pure i5),
(km_bind (km_gR [(0, 0)] a0) fun r6 =>
km_bind (km_gI [(1, 9)] r6) fun i7 =>
km_pure i7),
(km_bind (km_gR [(0, 0)] a0) fun r8 =>
km_bind (km_gR [(1, 0)] r8) fun r9 =>
km_bind (km_is 30 r9) fun _ => km_bind (pm_J2_size r9) fun i10 =>
km_pure i10),
(km_bind (km_gR [(0, 0)] a0) fun r11 =>
km_bind (km_gR [(1, 1)] r11) fun r12 =>
km_bind (km_is 30 r12) fun _ => km_bind (pm_J2_size r12) fun i13 =>
km_pure i13),
(km_bind (km_gR [(0, 0)] a0) fun r14 =>
km_bind (km_gR [(1, 2)] r14) fun r15 =>
km_bind (km_disp r15 [(2, pm_X2_size r15), (7, pm_X2_size r15), (12, pm_X2_size r15)]) fun i16 =>
km_pure i16),
(km_bind (km_gR [(0, 0)] a0) fun r17 =>
km_bind (km_gI [(1, 10)] r17) fun i18 =>
km_pure i18),
(km_bind (km_gR [(0, 0)] a0) fun r19 =>
km_bind (km_gI [(1, 11)] r19) fun i20 =>
km_pure i20),
(km_bind (km_gR [(0, 0)] a0) fun r21 =>
km_bind (km_gR [(1, 3)] r21) fun r22 =>
km_bind (km_is 30 r22) fun _ => km_bind (pm_J2_size r22) fun i23 =>
km_pure i23),
(km_bind (km_is 0 a0) fun _ => km_bind (pm_X0_doneOnes a0) fun i24 =>
km_pure i24),
(km_bind (km_gR [(0, 0)] a0) fun r25 =>
km_bind (km_gR [(1, 3)] r25) fun r26 =>
km_bind (pm_X0_sizes r26) fun i27 =>
km_pure i27),
(km_bind (km_gR [(0, 0)] a0) fun r28 =>
km_bind (km_gR [(1, 4)] r28) fun r29 =>
km_bind (km_is 30 r29) fun _ => km_bind (pm_J2_size r29) fun i30 =>
km_pure i30),
(km_bind (km_gR [(0, 0)] a0) fun r31 =>
km_bind (km_gI [(1, 12)] r31) fun i32 =>
km_pure i32),
(km_bind (km_gR [(0, 0)] a0) fun r33 =>
km_bind (km_gR [(1, 5)] r33) fun r34 =>
km_bind (km_is 30 r34) fun _ => km_bind (pm_J2_size r34) fun i35 =>
km_pure i35),
(km_bind (km_gR [(0, 0)] a0) fun r36 =>
km_bind (km_gR [(1, 6)] r36) fun r37 =>
km_bind (km_is 30 r37) fun _ => km_bind (pm_J2_size r37) fun i38 =>
km_pure i38),
(km_bind (km_gR [(0, 0)] a0) fun r39 =>
km_bind (km_gI [(1, 13)] r39) fun i40 =>
km_pure i40),
(km_bind (km_gR [(0, 0)] a0) fun r41 =>
km_bind (km_gI [(1, 14)] r41) fun i42 =>
km_pure i42),
(km_bind (km_gR [(0, 0)] a0) fun r43 =>
km_bind (km_gI [(1, 15)] r43) fun i44 =>
km_pure i44),
(km_bind (km_gR [(0, 0)] a0) fun r45 =>
km_bind (km_gI [(1, 16)] r45) fun i46 =>
km_pure i46),
(km_bind (km_gI [(0, 6)] a0) fun i47 =>
km_pure i47),
(km_bind (km_gR [(0, 2)] a0) fun r48 =>
km_bind (km_is 32 r48) fun _ => km_bind (pm_J4_size r48) fun i49 =>
km_pure i49)] (km_pure (-2 : Int32))

/-! RosaryCarversModel doneOnes ()I -/
noncomputable def pb_X3_doneOnes_29 (k4 : Option Nat → Int32 → Int32 → km_M Int32) (x0 : Option Nat) (x2 : Int32) (s0 : Int32) (s1 : Int32) : km_M Int32 :=
k4 x0 (s1 + s0) (x2 + (1 : Int32))
noncomputable def pb_X3_doneOnes_4  : Nat → Option Nat → Int32 → Int32 → km_M Int32
| 0, _, _, _ => km_fail
| n + 1, x0, x1, x2 =>
km_bind (km_gR [(3, 0)] x0) fun r1 =>
km_bind (km_ldI 0 r1 (12 : Int32)) fun i2 =>
if i2 ≤ x2 then
(km_pure x1)
else
(km_bind (km_is 3 x0) fun _ => km_bind (pm_X3_isDone x0 x2) fun i3 =>
if i3 = 0 then
(pb_X3_doneOnes_29 (pb_X3_doneOnes_4 n) x0 x2 (0 : Int32) x1)
else
(pb_X3_doneOnes_29 (pb_X3_doneOnes_4 n) x0 x2 (1 : Int32) x1))
noncomputable def pm_X3_doneOnes (a0 : Option Nat) : km_M Int32 :=
pb_X3_doneOnes_4 km_fuel a0 (0 : Int32) (0 : Int32)

/-! RosaryCarversModel account (I)I -/
noncomputable def pm_X3_account (a0 : Option Nat) (a1 : Int32) : km_M Int32 :=
km_tsw a1 0 20 [(km_bind (km_gR [(3, 0)] a0) fun r1 =>
km_bind (km_ldI 0 r1 (0 : Int32)) fun i2 =>
km_pure i2),
(km_bind (km_gR [(3, 0)] a0) fun r3 =>
km_bind (km_ldI 0 r3 (0 : Int32)) fun i4 =>
km_bind (pm_X3_season i4) fun i5 =>
km_pure i5),
(km_bind (km_gR [(3, 0)] a0) fun r6 =>
km_bind (km_ldI 0 r6 (1 : Int32)) fun i7 =>
km_pure i7),
(km_bind (km_gR [(3, 0)] a0) fun r8 =>
km_bind (km_ldI 0 r8 (9 : Int32)) fun i9 =>
km_pure i9),
(km_bind (km_gR [(3, 0)] a0) fun r10 =>
km_bind (km_ldI 0 r10 (10 : Int32)) fun i11 =>
km_pure i11),
(km_bind (km_gR [(3, 0)] a0) fun r12 =>
km_bind (km_ldI 0 r12 (11 : Int32)) fun i13 =>
km_pure i13),
(km_bind (km_gR [(3, 0)] a0) fun r14 =>
km_bind (km_ldI 0 r14 (2 : Int32)) fun i15 =>
km_pure i15),
(km_bind (km_gR [(3, 0)] a0) fun r16 =>
km_bind (km_ldI 0 r16 (3 : Int32)) fun i17 =>
km_pure i17),
(km_bind (km_gR [(3, 0)] a0) fun r18 =>
km_bind (km_ldI 0 r18 (12 : Int32)) fun i19 =>
km_pure i19),
(km_bind (km_is 3 a0) fun _ => km_bind (pm_X3_doneOnes a0) fun i20 =>
km_pure i20),
(km_bind (km_is 3 a0) fun _ => km_bind (pm_X3_onStrings a0) fun i21 =>
km_pure i21),
(km_bind (km_gR [(3, 0)] a0) fun r22 =>
km_bind (km_ldI 0 r22 (13 : Int32)) fun i23 =>
km_pure i23),
(km_bind (km_gR [(3, 0)] a0) fun r24 =>
km_bind (km_ldI 0 r24 (4 : Int32)) fun i25 =>
km_pure i25),
(km_bind (km_gR [(3, 0)] a0) fun r26 =>
km_bind (km_ldI 0 r26 (14 : Int32)) fun i27 =>
km_pure i27),
(km_bind (km_gR [(3, 0)] a0) fun r28 =>
km_bind (km_ldI 0 r28 (15 : Int32)) fun i29 =>
km_pure i29),
(km_bind (km_gR [(3, 0)] a0) fun r30 =>
km_bind (km_ldI 0 r30 (5 : Int32)) fun i31 =>
km_pure i31),
(km_bind (km_gR [(3, 0)] a0) fun r32 =>
km_bind (km_ldI 0 r32 (6 : Int32)) fun i33 =>
km_pure i33),
(km_bind (km_gR [(3, 0)] a0) fun r34 =>
km_bind (km_ldI 0 r34 (7 : Int32)) fun i35 =>
km_pure i35),
(km_bind (km_gR [(3, 0)] a0) fun r36 =>
km_bind (km_ldI 0 r36 (8 : Int32)) fun i37 =>
km_pure i37),
(km_bind (km_gI [(3, 13)] a0) fun i38 =>
km_pure i38),
(km_bind (km_gI [(3, 4)] a0) fun i39 =>
km_pure i39)] (km_pure (-2 : Int32))

/-! java/lang/AbstractStringBuilder <init> (I)V -/
noncomputable def pm_J22_init (a0 : Option Nat) (a1 : Int32) : km_M Unit :=
km_bind (km_nn a0) fun _ =>
if (1 : Int32) = 0 then
(km_fail)
else
(km_bind (km_nI 2 a1) fun r1 =>
km_bind (km_pR [(36, 0)] a0 r1) fun _ =>
km_bind (km_pI .byte [(36, 1)] a0 (0 : Int32)) fun _ =>
km_pure ())

/-! java/lang/StringBuilder <init> ()V -/
noncomputable def pm_J23_init (a0 : Option Nat) : km_M Unit :=
km_bind (km_nn a0) fun _ => km_bind (pm_J22_init a0 (16 : Int32)) fun _ =>
km_pure ()

/-! RosaryCarvers$Bead sign ()C -/
noncomputable def pm_X16_sign (a0 : Option Nat) : km_M Int32 :=
km_bind (km_gI [(14, 1)] a0) fun i1 =>
if i1 = 0 then
(km_bind (km_ret .char (111 : Int32)) (fun v => km_pure v))
else
(km_bind (km_ret .char (79 : Int32)) (fun v => km_pure v))

/-! java/lang/AbstractStringBuilder newCapacity (I)I -/
noncomputable def pm_J22_newCapacity (a0 : Option Nat) (a1 : Int32) : km_M Int32 :=
km_bind (km_gR [(36, 0)] a0) fun r1 =>
km_bind (km_len r1) fun i2 =>
km_bind (km_gI [(36, 1)] a0) fun i3 =>
km_bind (km_gI [(36, 1)] a0) fun i4 =>
km_bind (pm_J12_newLength i2 ((a1 <<< (i3 &&& 31)) - i2) (i2 + ((2 : Int32) <<< (i4 &&& 31)))) fun i5 =>
if ¬ i5 = (2147483647 : Int32) then
(km_bind (km_gI [(36, 1)] a0) fun i6 =>
km_pure (i5 >>> (i6 &&& 31)))
else
(km_fail)

/-! java/util/Arrays copyOf ([BI)[B -/
noncomputable def pm_J14_copyOf_4 (a0 : Option Nat) (a1 : Int32) : km_M (Option Nat) :=
km_bind (km_len a0) fun i1 =>
if ¬ a1 = i1 then
(km_bind (km_nI 2 a1) fun r2 =>
km_bind (km_len a0) fun i3 =>
km_bind (km_cp a0 (0 : Int32) r2 (0 : Int32) (km_min i3 a1)) fun _ =>
km_pure r2)
else
(km_bind (km_cln a0) fun r4 =>
km_bind (km_castA 2 r4) fun _ =>
km_pure r4)

/-! java/lang/AbstractStringBuilder ensureCapacityInternal (I)V -/
noncomputable def pm_J22_ensureCapacityInternal (a0 : Option Nat) (a1 : Int32) : km_M Unit :=
km_bind (km_gR [(36, 0)] a0) fun r1 =>
km_bind (km_len r1) fun i2 =>
km_bind (km_gI [(36, 1)] a0) fun i3 =>
if (a1 - (i2 >>> (i3 &&& 31))) ≤ 0 then
(km_pure ())
else
(km_bind (km_gR [(36, 0)] a0) fun r4 =>
km_bind (km_is 36 a0) fun _ => km_bind (pm_J22_newCapacity a0 a1) fun i5 =>
km_bind (km_gI [(36, 1)] a0) fun i6 =>
km_bind (pm_J14_copyOf_4 r4 (i5 <<< (i6 &&& 31))) fun r7 =>
km_bind (km_pR [(36, 0)] a0 r7) fun _ =>
km_pure ())

/-! java/lang/AbstractStringBuilder isLatin1 ()Z -/
noncomputable def pm_J22_isLatin1 (a0 : Option Nat) : km_M Int32 :=
if (1 : Int32) = 0 then
(km_fail)
else
(km_bind (km_gI [(36, 1)] a0) fun i1 =>
if ¬ i1 = 0 then
(km_bind (km_ret .boolean (0 : Int32)) (fun v => km_pure v))
else
(km_bind (km_ret .boolean (1 : Int32)) (fun v => km_pure v)))

/-! java/lang/StringLatin1 canEncode (C)Z -/
noncomputable def pm_J17_canEncode (a0 : Int32) : km_M Int32 :=
if (255 : Int32) < a0 then
(km_bind (km_ret .boolean (0 : Int32)) (fun v => km_pure v))
else
(km_bind (km_ret .boolean (1 : Int32)) (fun v => km_pure v))

/-! java/lang/AbstractStringBuilder append (C)Ljava/lang/AbstractStringBuilder; -/
noncomputable def pb_J22_append_45  (x0 : Option Nat) (x1 : Int32) : km_M (Option Nat) :=
km_bind (km_is 36 x0) fun _ => km_bind (pm_J22_isLatin1 x0) fun i1 =>
if i1 = 0 then
(km_bind (km_gR [(36, 0)] x0) fun r2 =>
km_bind (km_gI [(36, 3)] x0) fun i3 =>
km_bind (km_pI .int [(36, 3)] x0 (i3 + (1 : Int32))) fun _ =>
km_fail)
else
(km_fail)
noncomputable def pm_J22_append (a0 : Option Nat) (a1 : Int32) : km_M (Option Nat) :=
km_bind (km_gI [(36, 3)] a0) fun i1 =>
km_bind (km_is 36 a0) fun _ => km_bind (pm_J22_ensureCapacityInternal a0 (i1 + (1 : Int32))) fun _ =>
km_bind (km_is 36 a0) fun _ => km_bind (pm_J22_isLatin1 a0) fun i2 =>
if i2 = 0 then
(pb_J22_append_45 a0 a1)
else
(km_bind (pm_J17_canEncode a1) fun i3 =>
if i3 = 0 then
(pb_J22_append_45 a0 a1)
else
(km_bind (km_gR [(36, 0)] a0) fun r4 =>
km_bind (km_gI [(36, 3)] a0) fun i5 =>
km_bind (km_pI .int [(36, 3)] a0 (i5 + (1 : Int32))) fun _ =>
km_bind (km_stI 2 r4 i5 a1.toInt8.toInt32) fun _ =>
km_pure a0))

/-! java/lang/StringBuilder append (C)Ljava/lang/StringBuilder; -/
noncomputable def pm_J23_append (a0 : Option Nat) (a1 : Int32) : km_M (Option Nat) :=
km_bind (km_is 36 a0) fun _ => km_bind (pm_J22_append a0 a1) fun r1 =>
km_pure a0

/-! java/lang/Integer stringSize (I)I -/
noncomputable def pb_J24_stringSize_16  : Nat → Int32 → Int32 → Int32 → Int32 → km_M Int32
| 0, _, _, _, _ => km_fail
| n + 1, x0, x1, x2, x3 =>
if (10 : Int32) ≤ x3 then
(km_pure ((10 : Int32) + x1))
else
(if x0 ≤ x2 then
(pb_J24_stringSize_16 n x0 x1 ((10 : Int32) * x2) (x3 + (1 : Int32)))
else
(km_pure (x3 + x1)))
noncomputable def pb_J24_stringSize_11  (x0 : Int32) (x1 : Int32) : km_M Int32 :=
pb_J24_stringSize_16 km_fuel x0 x1 (-10 : Int32) (1 : Int32)
noncomputable def pm_J24_stringSize (a0 : Int32) : km_M Int32 :=
if a0 < 0 then
(pb_J24_stringSize_11 a0 (1 : Int32))
else
(pb_J24_stringSize_11 (-a0) (0 : Int32))

/-! java/lang/Integer getChars (II[B)I -/
noncomputable def pb_J24_getChars_104  (x2 : Option Nat) (x5 : Int32) (x6 : Int32) : km_M Int32 :=
if x6 = 0 then
(km_pure x5)
else
(km_bind (km_stI 2 x2 (x5 + (-1 : Int32)) (45 : Int32)) fun _ =>
km_pure (x5 + (-1 : Int32)))
noncomputable def pb_J24_getChars_22  : Nat → Int32 → Option Nat → Int32 → Int32 → km_M Int32
| 0, _, _, _, _ => km_fail
| n + 1, x0, x2, x5, x6 =>
if (-100 : Int32) < x0 then
(km_bind (km_k 2) fun r1 =>
km_bind (km_ldI 2 r1 (-x0)) fun i2 =>
km_bind (km_stI 2 x2 (x5 + (-1 : Int32)) i2) fun _ =>
if (-9 : Int32) ≤ x0 then
(pb_J24_getChars_104 x2 (x5 + (-1 : Int32)) x6)
else
(km_bind (km_k 3) fun r4 =>
km_bind (km_ldI 2 r4 (-x0)) fun i5 =>
km_bind (km_stI 2 x2 ((x5 + (-1 : Int32)) + (-1 : Int32)) i5) fun _ =>
pb_J24_getChars_104 x2 ((x5 + (-1 : Int32)) + (-1 : Int32)) x6))
else
(km_bind (km_div x0 (100 : Int32)) fun i7 =>
km_bind (km_k 2) fun r8 =>
km_bind (km_ldI 2 r8 ((i7 * (100 : Int32)) - x0)) fun i9 =>
km_bind (km_stI 2 x2 (x5 + (-1 : Int32)) i9) fun _ =>
km_bind (km_k 3) fun r11 =>
km_bind (km_ldI 2 r11 ((i7 * (100 : Int32)) - x0)) fun i12 =>
km_bind (km_stI 2 x2 ((x5 + (-1 : Int32)) + (-1 : Int32)) i12) fun _ =>
pb_J24_getChars_22 n i7 x2 ((x5 + (-1 : Int32)) + (-1 : Int32)) x6)
noncomputable def pb_J24_getChars_12  (x0 : Int32) (x2 : Option Nat) (x5 : Int32) (s0 : Int32) : km_M Int32 :=
if ¬ s0 = 0 then
(pb_J24_getChars_22 km_fuel x0 x2 x5 s0)
else
(pb_J24_getChars_22 km_fuel (-x0) x2 x5 s0)
noncomputable def pm_J24_getChars (a0 : Int32) (a1 : Int32) (a2 : Option Nat) : km_M Int32 :=
if 0 ≤ a0 then
(pb_J24_getChars_12 a0 a2 a1 (0 : Int32))
else
(pb_J24_getChars_12 a0 a2 a1 (1 : Int32))

/-! java/lang/AbstractStringBuilder append (I)Ljava/lang/AbstractStringBuilder; -/
noncomputable def pm_J22_append_2 (a0 : Option Nat) (a1 : Int32) : km_M (Option Nat) :=
km_bind (km_gI [(36, 3)] a0) fun i1 =>
km_bind (pm_J24_stringSize a1) fun i2 =>
km_bind (km_is 36 a0) fun _ => km_bind (pm_J22_ensureCapacityInternal a0 (i1 + i2)) fun _ =>
km_bind (km_is 36 a0) fun _ => km_bind (pm_J22_isLatin1 a0) fun i3 =>
if i3 = 0 then
(km_bind (km_gR [(36, 0)] a0) fun r4 =>
km_fail)
else
(km_bind (km_gR [(36, 0)] a0) fun r5 =>
km_bind (pm_J24_getChars a1 (i1 + i2) r5) fun i6 =>
km_bind (km_pI .int [(36, 3)] a0 (i1 + i2)) fun _ =>
km_pure a0)

/-! java/lang/StringBuilder append (I)Ljava/lang/StringBuilder; -/
noncomputable def pm_J23_append_2 (a0 : Option Nat) (a1 : Int32) : km_M (Option Nat) :=
km_bind (km_is 36 a0) fun _ => km_bind (pm_J22_append_2 a0 a1) fun r1 =>
km_pure a0

/-! java/lang/AbstractStringBuilder getValue ()[B -/
noncomputable def pm_J22_getValue (a0 : Option Nat) : km_M (Option Nat) :=
km_bind (km_gR [(36, 0)] a0) fun r1 =>
km_pure r1

/-! java/lang/AbstractStringBuilder length ()I -/
noncomputable def pm_J22_length (a0 : Option Nat) : km_M Int32 :=
km_bind (km_gI [(36, 3)] a0) fun i1 =>
km_pure i1

/-! java/lang/StringBuilder length ()I -/
noncomputable def pm_J23_length (a0 : Option Nat) : km_M Int32 :=
km_bind (km_is 36 a0) fun _ => km_bind (pm_J22_length a0) fun i1 =>
km_pure i1

/-! java/util/Arrays checkLength (II)V -/
noncomputable def pm_J14_checkLength (a0 : Int32) (a1 : Int32) : km_M Unit :=
if a0 ≤ a1 then
(km_pure ())
else
(km_fail)

/-! java/util/Arrays copyOfRangeByte ([BII)[B -/
noncomputable def pm_J14_copyOfRangeByte (a0 : Option Nat) (a1 : Int32) (a2 : Int32) : km_M (Option Nat) :=
km_bind (pm_J14_checkLength a1 a2) fun _ =>
km_bind (km_nI 2 (a2 - a1)) fun r1 =>
km_bind (km_len a0) fun i2 =>
km_bind (km_cp a0 a1 r1 (0 : Int32) (km_min (i2 - a1) (a2 - a1))) fun _ =>
km_pure r1

/-! java/util/Arrays copyOfRange ([BII)[B -/
noncomputable def pb_J14_copyOfRange_2_10  (x0 : Option Nat) (x1 : Int32) (x2 : Int32) : km_M (Option Nat) :=
km_bind (pm_J14_copyOfRangeByte x0 x1 x2) fun r1 =>
km_pure r1
noncomputable def pm_J14_copyOfRange_2 (a0 : Option Nat) (a1 : Int32) (a2 : Int32) : km_M (Option Nat) :=
if ¬ a1 = 0 then
(pb_J14_copyOfRange_2_10 a0 a1 a2)
else
(km_bind (km_len a0) fun i1 =>
if a2 = i1 then
(km_bind (km_cln a0) fun r2 =>
km_bind (km_castA 2 r2) fun _ =>
km_pure r2)
else
(pb_J14_copyOfRange_2_10 a0 a1 a2))

/-! java/lang/String <init> (Ljava/lang/AbstractStringBuilder;Ljava/lang/Void;)V -/
noncomputable def pb_J16_init_2_79  (x0 : Option Nat) (x3 : Option Nat) (x4 : Int32) : km_M Unit :=
km_bind (km_pI .byte [(35, 1)] x0 (1 : Int32)) fun _ =>
km_bind (pm_J14_copyOfRange_2 x3 (0 : Int32) (x4 <<< ((1 : Int32) &&& 31))) fun r2 =>
km_bind (km_pR [(35, 0)] x0 r2) fun _ =>
km_pure ()
noncomputable def pm_J16_init_2 (a0 : Option Nat) (a1 : Option Nat) (a2 : Option Nat) : km_M Unit :=
km_bind (km_nn a0) fun _ =>
km_bind (km_is 36 a1) fun _ => km_bind (pm_J22_getValue a1) fun r1 =>
km_bind (km_is 36 a1) fun _ => km_bind (pm_J23_length a1) fun i2 =>
km_bind (km_is 36 a1) fun _ => km_bind (pm_J22_isLatin1 a1) fun i3 =>
if i3 = 0 then
(if (1 : Int32) = 0 then
(km_fail)
else
(km_bind (km_gI [(36, 2)] a1) fun i4 =>
if i4 = 0 then
(pb_J16_init_2_79 a0 r1 i2)
else
(km_fail)))
else
(km_bind (km_pI .byte [(35, 1)] a0 (0 : Int32)) fun _ =>
km_bind (pm_J14_copyOfRange_2 r1 (0 : Int32) i2) fun r6 =>
km_bind (km_pR [(35, 0)] a0 r6) fun _ =>
km_pure ())

/-! java/lang/String <init> (Ljava/lang/StringBuilder;)V -/
noncomputable def pm_J16_init (a0 : Option Nat) (a1 : Option Nat) : km_M Unit :=
km_bind (km_nn a0) fun _ => km_bind (pm_J16_init_2 a0 a1 none) fun _ =>
km_pure ()

/-! java/lang/StringBuilder toString ()Ljava/lang/String; -/
noncomputable def pm_J23_toString (a0 : Option Nat) : km_M (Option Nat) :=
km_bind (km_new 35 4 kz_String) fun r1 =>
km_bind (km_nn r1) fun _ => km_bind (pm_J16_init r1 a0) fun _ =>
km_pure r1

/-! java/lang/String coder ()B -/
noncomputable def pm_J16_coder (a0 : Option Nat) : km_M Int32 :=
if (1 : Int32) = 0 then
(km_fail)
else
(km_bind (km_gI [(35, 1)] a0) fun i1 =>
km_bind (km_ret .byte i1) (fun v => km_pure v))

/-! java/lang/String length ()I -/
noncomputable def pm_J16_length (a0 : Option Nat) : km_M Int32 :=
km_bind (km_gR [(35, 0)] a0) fun r1 =>
km_bind (km_len r1) fun i2 =>
km_bind (km_is 35 a0) fun _ => km_bind (pm_J16_coder a0) fun i3 =>
km_pure (i2 >>> (i3 &&& 31))

/-! RosaryCarvers write (I)I -/
noncomputable def pb_X0_write_142  (x0 : Option Nat) (s0 : Option Nat) (s1 : Option Nat) : km_M Int32 :=
km_bind (km_pR [(0, 4)] s1 s0) fun _ =>
km_bind (km_gR [(0, 4)] x0) fun r2 =>
km_bind (km_is 35 r2) fun _ => km_bind (pm_J16_length r2) fun i3 =>
km_pure i3
noncomputable def pb_X0_write_45  : Nat → Option Nat → Option Nat → Option Nat → Int32 → Option Nat → km_M Int32
| 0, _, _, _, _, _ => km_fail
| n + 1, x0, x2, x3, x4, x5 =>
km_bind (km_disp x5 [(11, pm_X12_hasNext x5), (33, pm_J5_hasNext x5), (34, pm_J15_hasNext x5)]) fun i1 =>
if i1 = 0 then
(if ¬ x4 = 0 then
(km_bind (km_is 36 x3) fun _ => km_bind (pm_J23_toString x3) fun r2 =>
pb_X0_write_142 x0 r2 x0)
else
(km_bind (km_k 15) fun r3 =>
pb_X0_write_142 x0 r3 x0))
else
(km_bind (km_disp x5 [(11, pm_X12_next x5), (33, pm_J5_next x5), (34, pm_J15_next x5)]) fun r4 =>
km_bind (km_cast [14] r4) fun _ =>
km_bind (km_is 14 r4) fun _ => km_bind (pm_X16_sign r4) fun i5 =>
km_bind (km_is 36 x3) fun _ => km_bind (pm_J23_append x3 i5) fun r6 =>
km_bind (km_gI [(14, 2)] r4) fun i7 =>
km_bind (km_is 36 r6) fun _ => km_bind (pm_J23_append_2 r6 i7) fun r8 =>
km_bind (km_gI [(7, 2)] x2) fun i9 =>
km_bind (km_rem (x4 + (1 : Int32)) (i9 + (1 : Int32))) fun i10 =>
if ¬ i10 = 0 then
(pb_X0_write_45 n x0 x2 x3 (x4 + (1 : Int32)) x5)
else
(km_bind (km_gI [(7, 2)] x2) fun i11 =>
km_bind (km_div (x4 + (1 : Int32)) (i11 + (1 : Int32))) fun i12 =>
km_bind (km_gI [(7, 3)] x2) fun i13 =>
if i13 < i12 then
(pb_X0_write_45 n x0 x2 x3 (x4 + (1 : Int32)) x5)
else
(km_bind (km_is 36 x3) fun _ => km_bind (pm_J23_append x3 (43 : Int32)) fun r14 =>
pb_X0_write_45 n x0 x2 x3 (x4 + (1 : Int32)) x5)))
noncomputable def pm_X0_write (a0 : Option Nat) (a1 : Int32) : km_M Int32 :=
km_bind (km_gR [(0, 0)] a0) fun r1 =>
km_bind (km_is 1 r1) fun _ => km_bind (pm_X1_isString r1 a1) fun i2 =>
if ¬ i2 = 0 then
(km_bind (km_gR [(0, 0)] a0) fun r3 =>
km_bind (km_gR [(1, 3)] r3) fun r4 =>
km_bind (km_is 30 r4) fun _ => km_bind (pm_J2_get r4 a1) fun r5 =>
km_bind (km_cast [7] r5) fun _ =>
km_bind (km_new 36 4 kz_SB) fun r6 =>
km_bind (km_nn r6) fun _ => km_bind (pm_J23_init r6) fun _ =>
km_bind (km_is 7 r5) fun _ => km_bind (pm_X2_iterator r5) fun r7 =>
pb_X0_write_45 km_fuel a0 r5 r6 (0 : Int32) r7)
else
(km_pure (-1 : Int32))

/-! RosaryCarversModel writes (I)V -/
noncomputable def pm_X3_writes (a0 : Option Nat) (a1 : Int32) : km_M Unit :=
km_bind (km_gR [(3, 8)] a0) fun r1 =>
km_bind (km_gI [(3, 9)] a0) fun i2 =>
km_bind (km_stI 0 r1 i2 a1) fun _ =>
km_bind (km_gI [(3, 9)] a0) fun i4 =>
km_bind (km_pI .int [(3, 9)] a0 (i4 + (1 : Int32))) fun _ =>
km_pure ()

/-! java/lang/String checkIndex (II)V -/
noncomputable def pm_J16_checkIndex (a0 : Int32) (a1 : Int32) : km_M Unit :=
km_bind (km_k 7) fun r1 =>
km_bind (pm_J11_checkIndex a0 a1 r1) fun i2 =>
km_pure ()

/-! java/lang/StringLatin1 charAt ([BI)C -/
noncomputable def pm_J17_charAt (a0 : Option Nat) (a1 : Int32) : km_M Int32 :=
km_bind (km_len a0) fun i1 =>
km_bind (pm_J16_checkIndex a1 i1) fun _ =>
km_bind (km_ldI 2 a0 a1) fun i2 =>
km_bind (km_ret .char (((i2 &&& (255 : Int32)).toUInt32 % 65536).toInt32)) (fun v => km_pure v)

/-! java/lang/String charAt (I)C -/
noncomputable def pm_J16_charAt (a0 : Option Nat) (a1 : Int32) : km_M Int32 :=
km_bind (km_is 35 a0) fun _ => km_bind (pm_J16_isLatin1 a0) fun i1 =>
if i1 = 0 then
(km_bind (km_gR [(35, 0)] a0) fun r2 =>
km_fail)
else
(km_bind (km_gR [(35, 0)] a0) fun r3 =>
km_bind (pm_J17_charAt r3 a1) fun i4 =>
km_bind (km_ret .char i4) (fun v => km_pure v))

/-! RosaryCarversModel write (I)I -/
noncomputable def pb_X3_write_94 (k24 : Option Nat → Int32 → Int32 → Int32 → km_M Int32) (x0 : Option Nat) (x1 : Int32) (x2 : Int32) (x3 : Int32) : km_M Int32 :=
k24 x0 x1 x2 (x3 + (1 : Int32))
noncomputable def pb_X3_write_46 (k24 : Option Nat → Int32 → Int32 → Int32 → km_M Int32) (x0 : Option Nat) (x1 : Int32) (x2 : Int32) (x3 : Int32) (s0 : Int32) (s1 : Option Nat) : km_M Int32 :=
km_bind (km_is 3 s1) fun _ => km_bind (pm_X3_writes s1 s0) fun _ =>
km_bind (km_gR [(3, 0)] x0) fun r1 =>
km_bind (pm_X3_beadAt x1 x3) fun i2 =>
km_bind (km_ldI 0 r1 (i2 + (1 : Int32))) fun i3 =>
km_bind (km_is 3 x0) fun _ => km_bind (pm_X3_writes x0 ((48 : Int32) + i3)) fun _ =>
km_bind (km_is 3 x0) fun _ => km_bind (pm_X3_isLargeAt x0 x1 (x3 + (1 : Int32))) fun i4 =>
if i4 = 0 then
(pb_X3_write_94 k24 x0 x1 x2 x3)
else
(km_bind (km_is 3 x0) fun _ => km_bind (pm_X3_knotted x0 x1) fun i5 =>
if i5 ≤ x3 then
(pb_X3_write_94 k24 x0 x1 x2 x3)
else
(km_bind (km_is 3 x0) fun _ => km_bind (pm_X3_writes x0 (43 : Int32)) fun _ =>
pb_X3_write_94 k24 x0 x1 x2 x3))
noncomputable def pb_X3_write_127  (x0 : Option Nat) : km_M Int32 :=
km_bind (km_gI [(3, 9)] x0) fun i1 =>
km_pure i1
noncomputable def pb_X3_write_102  : Nat → Option Nat → Int32 → Int32 → km_M Int32
| 0, _, _, _ => km_fail
| n + 1, x0, x2, x3 =>
if ¬ x2 = 0 then
(pb_X3_write_127 x0)
else
(if (5 : Int32) ≤ x3 then
(pb_X3_write_127 x0)
else
(km_bind (km_k 15) fun r1 =>
km_bind (km_is 35 r1) fun _ => km_bind (pm_J16_charAt r1 x3) fun i2 =>
km_bind (km_is 3 x0) fun _ => km_bind (pm_X3_writes x0 i2) fun _ =>
pb_X3_write_102 n x0 x2 (x3 + (1 : Int32))))
noncomputable def pb_X3_write_24  : Nat → Option Nat → Int32 → Int32 → Int32 → km_M Int32
| 0, _, _, _, _ => km_fail
| n + 1, x0, x1, x2, x3 =>
if x2 ≤ x3 then
(pb_X3_write_102 km_fuel x0 x2 (0 : Int32))
else
(km_bind (km_is 3 x0) fun _ => km_bind (pm_X3_isLargeAt x0 x1 x3) fun i1 =>
if i1 = 0 then
(pb_X3_write_46 (pb_X3_write_24 n) x0 x1 x2 x3 (111 : Int32) x0)
else
(pb_X3_write_46 (pb_X3_write_24 n) x0 x1 x2 x3 (79 : Int32) x0))
noncomputable def pm_X3_write (a0 : Option Nat) (a1 : Int32) : km_M Int32 :=
km_bind (km_is 3 a0) fun _ => km_bind (pm_X3_isString a0 a1) fun i1 =>
if ¬ i1 = 0 then
(km_bind (km_pI .int [(3, 9)] a0 (0 : Int32)) fun _ =>
km_bind (km_is 3 a0) fun _ => km_bind (pm_X3_ofString a0 a1 (3 : Int32)) fun i3 =>
pb_X3_write_24 km_fuel a0 a1 i3 (0 : Int32))
else
(km_pure (-1 : Int32))

/-! RosaryCarvers written (I)I -/
noncomputable def pm_X0_written (a0 : Option Nat) (a1 : Int32) : km_M Int32 :=
km_bind (km_gR [(0, 4)] a0) fun r1 =>
km_bind (km_is 35 r1) fun _ => km_bind (pm_J16_length r1) fun i2 =>
km_bind (pm_X0_in a1 (0 : Int32) (i2 - (1 : Int32))) fun i3 =>
if i3 = 0 then
(km_pure (-1 : Int32))
else
(km_bind (km_gR [(0, 4)] a0) fun r4 =>
km_bind (km_is 35 r4) fun _ => km_bind (pm_J16_charAt r4 a1) fun i5 =>
km_pure i5)

/-! RosaryCarversModel written (I)I -/
noncomputable def pm_X3_written (a0 : Option Nat) (a1 : Int32) : km_M Int32 :=
km_bind (km_gI [(3, 9)] a0) fun i1 =>
km_bind (pm_X3_isIn a1 (0 : Int32) (i1 - (1 : Int32))) fun i2 =>
if i2 = 0 then
(km_pure (-1 : Int32))
else
(km_bind (km_gR [(3, 8)] a0) fun r3 =>
km_bind (km_ldI 0 r3 a1) fun i4 =>
km_pure i4)

/-! RosaryCarvers append (C)I -/
noncomputable def pm_X0_append (a0 : Option Nat) (a1 : Int32) : km_M Int32 :=
km_bind (pm_X0_in a1 (32 : Int32) (126 : Int32)) fun i1 =>
if ¬ i1 = 0 then
(km_bind (km_gI [(0, 6)] a0) fun i2 =>
if ¬ i2 = (60 : Int32) then
(km_bind (km_gR [(0, 5)] a0) fun r3 =>
km_bind (km_gI [(0, 6)] a0) fun i4 =>
km_bind (km_stI 1 r3 i4 a1) fun _ =>
km_bind (km_gI [(0, 6)] a0) fun i6 =>
km_bind (km_pI .int [(0, 6)] a0 (i6 + (1 : Int32))) fun _ =>
km_bind (km_gI [(0, 6)] a0) fun i8 =>
km_pure i8)
else
(km_pure (-4 : Int32)))
else
(km_pure (-2 : Int32))

/-! RosaryCarversModel append (C)I -/
noncomputable def pm_X3_append (a0 : Option Nat) (a1 : Int32) : km_M Int32 :=
km_bind (pm_X3_isIn a1 (32 : Int32) (126 : Int32)) fun i1 =>
if ¬ i1 = 0 then
(km_bind (km_gI [(3, 13)] a0) fun i2 =>
if ¬ i2 = (60 : Int32) then
(km_bind (km_gR [(3, 11)] a0) fun r3 =>
km_bind (km_gI [(3, 13)] a0) fun i4 =>
km_bind (km_stI 0 r3 i4 a1) fun _ =>
km_bind (km_gI [(3, 13)] a0) fun i6 =>
km_bind (km_pI .int [(3, 13)] a0 (i6 + (1 : Int32))) fun _ =>
km_bind (km_gI [(3, 13)] a0) fun i8 =>
km_pure i8)
else
(km_pure (-4 : Int32)))
else
(km_pure (-2 : Int32))

/-! RosaryCarvers$Reader <init> (LRosaryCarvers;)V -/
noncomputable def pm_X28_init (a0 : Option Nat) (a1 : Option Nat) : km_M Unit :=
km_bind (km_pR [(26, 3)] a0 a1) fun _ =>
km_bind (km_nn a0) fun _ =>
km_bind (km_nR 5 (8 : Int32)) fun r2 =>
km_bind (km_k 18) fun r3 =>
km_bind (km_stR kn_String r2 (0 : Int32) r3) fun _ =>
km_bind (km_k 21) fun r5 =>
km_bind (km_stR kn_String r2 (1 : Int32) r5) fun _ =>
km_bind (km_k 11) fun r7 =>
km_bind (km_stR kn_String r2 (2 : Int32) r7) fun _ =>
km_bind (km_k 23) fun r9 =>
km_bind (km_stR kn_String r2 (3 : Int32) r9) fun _ =>
km_bind (km_k 16) fun r11 =>
km_bind (km_stR kn_String r2 (4 : Int32) r11) fun _ =>
km_bind (km_k 13) fun r13 =>
km_bind (km_stR kn_String r2 (5 : Int32) r13) fun _ =>
km_bind (km_k 20) fun r15 =>
km_bind (km_stR kn_String r2 (6 : Int32) r15) fun _ =>
km_bind (km_k 25) fun r17 =>
km_bind (km_stR kn_String r2 (7 : Int32) r17) fun _ =>
km_bind (km_pR [(26, 0)] a0 r2) fun _ =>
km_bind (km_nI 0 (8 : Int32)) fun r20 =>
km_bind (km_stI 0 r20 (0 : Int32) (2 : Int32)) fun _ =>
km_bind (km_stI 0 r20 (1 : Int32) (2 : Int32)) fun _ =>
km_bind (km_stI 0 r20 (2 : Int32) (2 : Int32)) fun _ =>
km_bind (km_stI 0 r20 (3 : Int32) (2 : Int32)) fun _ =>
km_bind (km_stI 0 r20 (4 : Int32) (1 : Int32)) fun _ =>
km_bind (km_stI 0 r20 (5 : Int32) (1 : Int32)) fun _ =>
km_bind (km_stI 0 r20 (6 : Int32) (0 : Int32)) fun _ =>
km_bind (km_stI 0 r20 (7 : Int32) (1 : Int32)) fun _ =>
km_bind (km_pR [(26, 1)] a0 r20) fun _ =>
km_pure ()

/-! RosaryCarvers$Reader isSign (C)Z -/
noncomputable def pm_X28_isSign (a0 : Option Nat) (a1 : Int32) : km_M Int32 :=
km_bind (km_gI [(26, 2)] a0) fun i1 =>
km_bind (km_gR [(26, 3)] a0) fun r2 =>
km_bind (km_gI [(0, 6)] r2) fun i3 =>
if i3 ≤ i1 then
(km_bind (km_ret .boolean (0 : Int32)) (fun v => km_pure v))
else
(km_bind (km_gR [(26, 3)] a0) fun r4 =>
km_bind (km_gR [(0, 5)] r4) fun r5 =>
km_bind (km_gI [(26, 2)] a0) fun i6 =>
km_bind (km_ldI 1 r5 i6) fun i7 =>
if ¬ i7 = a1 then
(km_bind (km_ret .boolean (0 : Int32)) (fun v => km_pure v))
else
(km_bind (km_ret .boolean (1 : Int32)) (fun v => km_pure v)))

/-! RosaryCarvers$BadSign <init> (I)V -/
noncomputable def pm_X29_init (a0 : Option Nat) (a1 : Int32) : km_M Unit :=
km_bind (km_nn a0) fun _ => km_bind (pm_J7_init_2 a0 none none (0 : Int32) (0 : Int32)) fun _ =>
km_bind (km_pI .int [(27, 6)] a0 a1) fun _ =>
km_pure ()

/-! RosaryCarvers$Reader takes (C)V -/
noncomputable def pm_X28_takes (a0 : Option Nat) (a1 : Int32) : km_M (Nat ⊕ Unit) :=
km_bind (km_is 26 a0) fun _ => km_bind (pm_X28_isSign a0 a1) fun i1 =>
if ¬ i1 = 0 then
(km_bind (km_gI [(26, 2)] a0) fun i2 =>
km_bind (km_pI .int [(26, 2)] a0 (i2 + (1 : Int32))) fun _ =>
km_pure (Sum.inr ()))
else
(km_bind (km_new 27 7 kz_BadSign) fun r4 =>
km_bind (km_gI [(26, 2)] a0) fun i5 =>
km_bind (km_nn r4) fun _ => km_bind (pm_X29_init r4 i5) fun _ =>
km_throw r4)

/-! RosaryCarvers$Reader word ()I -/
noncomputable def pb_X28_word_30  : Nat → Option Nat → Int32 → Int32 → km_M (Nat ⊕ Int32)
| 0, _, _, _ => km_fail
| n + 1, x0, x1, x2 =>
km_bind (km_gR [(26, 0)] x0) fun r1 =>
km_bind (km_ldR r1 x1) fun r2 =>
km_bind (km_is 35 r2) fun _ => km_bind (pm_J16_length r2) fun i3 =>
if i3 ≤ x2 then
(km_pure (Sum.inr x1))
else
(km_bind (km_gR [(26, 0)] x0) fun r4 =>
km_bind (km_ldR r4 x1) fun r5 =>
km_bind (km_is 35 r5) fun _ => km_bind (pm_J16_charAt r5 x2) fun i6 =>
km_bind (km_is 26 x0) fun _ => km_bind (pm_X28_takes x0 i6) (km_x Sum.inl fun _ =>
pb_X28_word_30 n x0 x1 (x2 + (1 : Int32))))
noncomputable def pb_X28_word_2  : Nat → Option Nat → Int32 → km_M (Nat ⊕ Int32)
| 0, _, _ => km_fail
| n + 1, x0, x1 =>
km_bind (km_gR [(26, 0)] x0) fun r1 =>
km_bind (km_len r1) fun i2 =>
if i2 ≤ x1 then
(km_bind (km_new 27 7 kz_BadSign) fun r3 =>
km_bind (km_gI [(26, 2)] x0) fun i4 =>
km_bind (km_nn r3) fun _ => km_bind (pm_X29_init r3 i4) fun _ =>
km_throw r3)
else
(km_bind (km_gR [(26, 0)] x0) fun r5 =>
km_bind (km_ldR r5 x1) fun r6 =>
km_bind (km_is 35 r6) fun _ => km_bind (pm_J16_charAt r6 (0 : Int32)) fun i7 =>
km_bind (km_is 26 x0) fun _ => km_bind (pm_X28_isSign x0 i7) fun i8 =>
if i8 = 0 then
(pb_X28_word_2 n x0 (x1 + (1 : Int32)))
else
(pb_X28_word_30 km_fuel x0 x1 (0 : Int32)))
noncomputable def pm_X28_word (a0 : Option Nat) : km_M (Nat ⊕ Int32) :=
pb_X28_word_2 km_fuel a0 (0 : Int32)

/-! RosaryCarvers$Command <init> (Ljava/lang/String;)V -/
noncomputable def pm_X30_init (a0 : Option Nat) (a1 : Option Nat) : km_M Unit :=
km_bind (km_nn a0) fun _ =>
km_bind (km_nI 0 (2 : Int32)) fun r1 =>
km_bind (km_pR [(28, 1)] a0 r1) fun _ =>
km_bind (km_pR [(28, 0)] a0 a1) fun _ =>
km_pure ()

/-! RosaryCarvers$Reader isDigit ()Z -/
noncomputable def pm_X28_isDigit (a0 : Option Nat) : km_M Int32 :=
km_bind (km_gI [(26, 2)] a0) fun i1 =>
km_bind (km_gR [(26, 3)] a0) fun r2 =>
km_bind (km_gI [(0, 6)] r2) fun i3 =>
if i3 ≤ i1 then
(km_bind (km_ret .boolean (0 : Int32)) (fun v => km_pure v))
else
(km_bind (km_gR [(26, 3)] a0) fun r4 =>
km_bind (km_gR [(0, 5)] r4) fun r5 =>
km_bind (km_gI [(26, 2)] a0) fun i6 =>
km_bind (km_ldI 1 r5 i6) fun i7 =>
km_bind (pm_X0_in i7 (48 : Int32) (57 : Int32)) fun i8 =>
if i8 = 0 then
(km_bind (km_ret .boolean (0 : Int32)) (fun v => km_pure v))
else
(km_bind (km_ret .boolean (1 : Int32)) (fun v => km_pure v)))

/-! RosaryCarvers$Reader number ()I -/
noncomputable def pb_X28_number_29  : Nat → Option Nat → Int32 → Int32 → km_M (Nat ⊕ Int32)
| 0, _, _, _ => km_fail
| n + 1, x0, x1, x2 =>
if (2 : Int32) ≤ x2 then
(km_pure (Sum.inr x1))
else
(km_bind (km_is 26 x0) fun _ => km_bind (pm_X28_isDigit x0) fun i1 =>
if i1 = 0 then
(km_pure (Sum.inr x1))
else
(km_bind (km_gR [(26, 3)] x0) fun r2 =>
km_bind (km_gR [(0, 5)] r2) fun r3 =>
km_bind (km_gI [(26, 2)] x0) fun i4 =>
km_bind (km_ldI 1 r3 i4) fun i5 =>
km_bind (km_gI [(26, 2)] x0) fun i6 =>
km_bind (km_pI .int [(26, 2)] x0 (i6 + (1 : Int32))) fun _ =>
pb_X28_number_29 n x0 ((((10 : Int32) * x1) + i5) - (48 : Int32)) (x2 + (1 : Int32))))
noncomputable def pm_X28_number (a0 : Option Nat) : km_M (Nat ⊕ Int32) :=
km_bind (km_is 26 a0) fun _ => km_bind (pm_X28_takes a0 (32 : Int32)) (km_x Sum.inl fun _ =>
km_bind (km_is 26 a0) fun _ => km_bind (pm_X28_isDigit a0) fun i1 =>
if ¬ i1 = 0 then
(pb_X28_number_29 km_fuel a0 (0 : Int32) (0 : Int32))
else
(km_bind (km_new 27 7 kz_BadSign) fun r2 =>
km_bind (km_gI [(26, 2)] a0) fun i3 =>
km_bind (km_nn r2) fun _ => km_bind (pm_X29_init r2 i3) fun _ =>
km_throw r2))

/-! RosaryCarvers$Reader command ()LRosaryCarvers$Command; -/
noncomputable def pb_X28_command_21  : Nat → Option Nat → Int32 → Option Nat → Int32 → km_M (Nat ⊕ Option Nat)
| 0, _, _, _, _ => km_fail
| n + 1, x0, x1, x2, x3 =>
km_bind (km_gR [(26, 1)] x0) fun r1 =>
km_bind (km_ldI 0 r1 x1) fun i2 =>
if i2 ≤ x3 then
(km_pure (Sum.inr x2))
else
(km_bind (km_gR [(28, 1)] x2) fun r3 =>
km_bind (km_is 26 x0) fun _ => km_bind (pm_X28_number x0) (km_x Sum.inl fun i4 =>
km_bind (km_stI 0 r3 x3 i4) fun _ =>
pb_X28_command_21 n x0 x1 x2 (x3 + (1 : Int32))))
noncomputable def pm_X28_command (a0 : Option Nat) : km_M (Nat ⊕ Option Nat) :=
km_bind (km_is 26 a0) fun _ => km_bind (pm_X28_word a0) (km_x Sum.inl fun i1 =>
km_bind (km_new 28 2 kz_Command) fun r2 =>
km_bind (km_gR [(26, 0)] a0) fun r3 =>
km_bind (km_ldR r3 i1) fun r4 =>
km_bind (km_nn r2) fun _ => km_bind (pm_X30_init r2 r4) fun _ =>
pb_X28_command_21 km_fuel a0 i1 r2 (0 : Int32))

/-! RosaryCarvers$Reader whole ()Ljava/util/ArrayDeque; -/
noncomputable def pb_X28_whole_16  : Nat → Option Nat → Option Nat → km_M (Nat ⊕ Option Nat)
| 0, _, _ => km_fail
| n + 1, x0, x1 =>
km_bind (km_is 26 x0) fun _ => km_bind (pm_X28_isSign x0 (59 : Int32)) fun i1 =>
if i1 = 0 then
(km_bind (km_gI [(26, 2)] x0) fun i2 =>
km_bind (km_gR [(26, 3)] x0) fun r3 =>
km_bind (km_gI [(0, 6)] r3) fun i4 =>
if i4 ≤ i2 then
(km_pure (Sum.inr x1))
else
(km_bind (km_new 27 7 kz_BadSign) fun r5 =>
km_bind (km_gI [(26, 2)] x0) fun i6 =>
km_bind (km_nn r5) fun _ => km_bind (pm_X29_init r5 i6) fun _ =>
km_throw r5))
else
(km_bind (km_gI [(26, 2)] x0) fun i7 =>
km_bind (km_pI .int [(26, 2)] x0 (i7 + (1 : Int32))) fun _ =>
km_bind (km_is 26 x0) fun _ => km_bind (pm_X28_command x0) (km_x Sum.inl fun r9 =>
km_bind (km_is 32 x1) fun _ => km_bind (pm_J4_addLast x1 r9) fun _ =>
pb_X28_whole_16 n x0 x1))
noncomputable def pm_X28_whole (a0 : Option Nat) : km_M (Nat ⊕ Option Nat) :=
km_bind (km_new 32 3 kz_AD) fun r1 =>
km_bind (km_nn r1) fun _ => km_bind (pm_J4_init r1) fun _ =>
km_bind (km_is 26 a0) fun _ => km_bind (pm_X28_command a0) (km_x Sum.inl fun r2 =>
km_bind (km_is 32 r1) fun _ => km_bind (pm_J4_addLast r1 r2) fun _ =>
pb_X28_whole_16 km_fuel a0 r1)

/-! RosaryCarvers$13 <init> (LRosaryCarvers;Ljava/util/ArrayDeque;)V -/
noncomputable def pm_X31_init (a0 : Option Nat) (a1 : Option Nat) (a2 : Option Nat) : km_M Unit :=
km_bind (km_pR [(29, 2)] a0 a1) fun _ =>
km_bind (km_pR [(29, 1)] a0 a2) fun _ =>
km_bind (km_nn a0) fun _ => km_bind (pm_X4_init a0 a1) fun _ =>
km_pure ()

/-! RosaryCarvers read ()I -/
noncomputable def pb_X0_read_32  (x0 : Option Nat) (s0 : Option Nat) : km_M Int32 :=
km_bind (km_gI [(27, 6)] s0) fun i1 =>
km_bind (km_pI .int [(0, 7)] x0 i1) fun _ =>
km_bind (km_pI .int [(0, 6)] x0 (0 : Int32)) fun _ =>
km_pure (-2 : Int32)
noncomputable def pm_X0_read (a0 : Option Nat) : km_M Int32 :=
km_bind (km_new 26 4 kz_Reader) fun r1 =>
km_bind (km_nn r1) fun _ => km_bind (pm_X28_init r1 a0) fun _ =>
km_bind (km_is 26 r1) fun _ => km_bind (pm_X28_whole r1) (km_h (fun q => km_bind (km_is 27 (some q)) fun _ => pb_X0_read_32 a0 (some q)) fun r2 =>
km_bind (km_new 29 3 kz_D13) fun r3 =>
km_bind (km_nn r3) fun _ => km_bind (pm_X31_init r3 a0 r2) fun _ =>
km_bind (km_is 29 r3) fun _ => km_bind (pm_X4_done r3) fun i4 =>
km_bind (km_pI .int [(0, 6)] a0 (0 : Int32)) fun _ =>
km_pure i4)
