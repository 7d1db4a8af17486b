set_option maxRecDepth 100000
/-! RosaryCarversModel letter ()I -/
noncomputable def pm_X3_letter (a0 : Option Nat) : km_M Int32 :=
km_bind (km_gI [(3, 14)] a0) fun i1 =>
km_bind (km_gI [(3, 13)] a0) fun i2 =>
if i2 ≤ i1 then
(km_pure (-1 : Int32))
else
(km_bind (km_gR [(3, 11)] a0) fun r3 =>
km_bind (km_gI [(3, 14)] a0) fun i4 =>
km_bind (km_ldI 0 r3 i4) fun i5 =>
km_pure i5)

/-! RosaryCarversModel readsWord ()I -/
noncomputable def pb_X3_readsWord_33  : Nat → Option Nat → Int32 → Int32 → km_M Int32
| 0, _, _, _ => km_fail
| n + 1, x0, x1, x2 =>
km_bind (km_gR [(3, 10)] x0) fun r1 =>
km_bind (km_ldR r1 x1) fun r2 =>
km_bind (km_is 35 r2) fun _ => km_bind (pm_J16_length r2) fun i3 =>
if i3 ≤ x2 then
(km_pure x1)
else
(km_bind (km_is 3 x0) fun _ => km_bind (pm_X3_letter x0) fun i4 =>
km_bind (km_gR [(3, 10)] x0) fun r5 =>
km_bind (km_ldR r5 x1) fun r6 =>
km_bind (km_is 35 r6) fun _ => km_bind (pm_J16_charAt r6 x2) fun i7 =>
if i4 = i7 then
(km_bind (km_gI [(3, 14)] x0) fun i8 =>
km_bind (km_pI .int [(3, 14)] x0 (i8 + (1 : Int32))) fun _ =>
pb_X3_readsWord_33 n x0 x1 (x2 + (1 : Int32)))
else
(km_pure (-1 : Int32)))
noncomputable def pb_X3_readsWord_2  : Nat → Option Nat → Int32 → km_M Int32
| 0, _, _ => km_fail
| n + 1, x0, x1 =>
km_bind (km_gR [(3, 10)] x0) fun r1 =>
km_bind (km_len r1) fun i2 =>
if i2 ≤ x1 then
(km_pure (-1 : Int32))
else
(km_bind (km_is 3 x0) fun _ => km_bind (pm_X3_letter x0) fun i3 =>
km_bind (km_gR [(3, 10)] x0) fun r4 =>
km_bind (km_ldR r4 x1) fun r5 =>
km_bind (km_is 35 r5) fun _ => km_bind (pm_J16_charAt r5 (0 : Int32)) fun i6 =>
if i3 = i6 then
(pb_X3_readsWord_33 km_fuel x0 x1 (0 : Int32))
else
(pb_X3_readsWord_2 n x0 (x1 + (1 : Int32))))
noncomputable def pm_X3_readsWord (a0 : Option Nat) : km_M Int32 :=
pb_X3_readsWord_2 km_fuel a0 (0 : Int32)

/-! RosaryCarversModel readsNumber ()Z -/
noncomputable def pb_X3_readsNumber_61  (x1 : Int32) : km_M Int32 :=
if x1 ≤ 0 then
(km_bind (km_ret .boolean (0 : Int32)) (fun v => km_pure v))
else
(km_bind (km_ret .boolean (1 : Int32)) (fun v => km_pure v))
noncomputable def pb_X3_readsNumber_7  : Nat → Option Nat → Int32 → km_M Int32
| 0, _, _ => km_fail
| n + 1, x0, x1 =>
if (2 : Int32) ≤ x1 then
(pb_X3_readsNumber_61 x1)
else
(km_bind (km_is 3 x0) fun _ => km_bind (pm_X3_letter x0) fun i1 =>
km_bind (pm_X3_isIn i1 (48 : Int32) (57 : Int32)) fun i2 =>
if i2 = 0 then
(pb_X3_readsNumber_61 x1)
else
(km_bind (km_gI [(3, 16)] x0) fun i3 =>
km_bind (km_is 3 x0) fun _ => km_bind (pm_X3_letter x0) fun i4 =>
km_bind (km_pI .int [(3, 16)] x0 ((((10 : Int32) * i3) + i4) - (48 : Int32))) fun _ =>
km_bind (km_gI [(3, 14)] x0) fun i6 =>
km_bind (km_pI .int [(3, 14)] x0 (i6 + (1 : Int32))) fun _ =>
pb_X3_readsNumber_7 n x0 (x1 + (1 : Int32))))
noncomputable def pm_X3_readsNumber (a0 : Option Nat) : km_M Int32 :=
km_bind (km_pI .int [(3, 16)] a0 (0 : Int32)) fun _ =>
pb_X3_readsNumber_7 km_fuel a0 (0 : Int32)

/-! RosaryCarversModel readsCommand ()Z -/
noncomputable def pb_X3_readsCommand_64  (x0 : Option Nat) (x1 : Int32) (x2 : Int32) : km_M Int32 :=
km_bind (km_gR [(3, 12)] x0) fun r1 =>
km_bind (km_gI [(3, 15)] x0) fun i2 =>
km_bind (km_stI 0 r1 ((3 : Int32) * i2) x1) fun _ =>
km_bind (km_gR [(3, 12)] x0) fun r4 =>
km_bind (km_gI [(3, 15)] x0) fun i5 =>
km_bind (km_stI 0 r4 (((3 : Int32) * i5) + (1 : Int32)) x2) fun _ =>
km_bind (km_gR [(3, 12)] x0) fun r7 =>
km_bind (km_gI [(3, 15)] x0) fun i8 =>
km_bind (km_gI [(3, 16)] x0) fun i9 =>
km_bind (km_stI 0 r7 (((3 : Int32) * i8) + (2 : Int32)) i9) fun _ =>
km_bind (km_gI [(3, 15)] x0) fun i11 =>
km_bind (km_pI .int [(3, 15)] x0 (i11 + (1 : Int32))) fun _ =>
km_bind (km_ret .boolean (1 : Int32)) (fun v => km_pure v)
noncomputable def pb_X3_readsCommand_24  (x0 : Option Nat) (x1 : Int32) : km_M Int32 :=
km_bind (km_gI [(3, 16)] x0) fun i1 =>
if (3 : Int32) < x1 then
(pb_X3_readsCommand_64 x0 x1 i1)
else
(km_bind (km_is 3 x0) fun _ => km_bind (pm_X3_letter x0) fun i2 =>
if i2 = (32 : Int32) then
(km_bind (km_gI [(3, 14)] x0) fun i3 =>
km_bind (km_pI .int [(3, 14)] x0 (i3 + (1 : Int32))) fun _ =>
km_bind (km_is 3 x0) fun _ => km_bind (pm_X3_readsNumber x0) fun i5 =>
if ¬ i5 = 0 then
(pb_X3_readsCommand_64 x0 x1 i1)
else
(km_bind (km_ret .boolean (0 : Int32)) (fun v => km_pure v)))
else
(km_bind (km_ret .boolean (0 : Int32)) (fun v => km_pure v)))
noncomputable def pm_X3_readsCommand (a0 : Option Nat) : km_M Int32 :=
km_bind (km_is 3 a0) fun _ => km_bind (pm_X3_readsWord a0) fun i1 =>
if i1 < 0 then
(km_bind (km_ret .boolean (0 : Int32)) (fun v => km_pure v))
else
(if i1 = (6 : Int32) then
(pb_X3_readsCommand_24 a0 i1)
else
(km_bind (km_is 3 a0) fun _ => km_bind (pm_X3_readsNumber a0) fun i2 =>
if ¬ i2 = 0 then
(pb_X3_readsCommand_24 a0 i1)
else
(km_bind (km_ret .boolean (0 : Int32)) (fun v => km_pure v))))

/-! RosaryCarversModel isText ()Z -/
noncomputable def pb_X3_isText_46  (x0 : Option Nat) (x1 : Int32) : km_M Int32 :=
if x1 = 0 then
(km_bind (km_ret .boolean (0 : Int32)) (fun v => km_pure v))
else
(km_bind (km_gI [(3, 14)] x0) fun i1 =>
km_bind (km_gI [(3, 13)] x0) fun i2 =>
if ¬ i1 = i2 then
(km_bind (km_ret .boolean (0 : Int32)) (fun v => km_pure v))
else
(km_bind (km_ret .boolean (1 : Int32)) (fun v => km_pure v)))
noncomputable def pb_X3_isText_15  : Nat → Option Nat → Int32 → km_M Int32
| 0, _, _ => km_fail
| n + 1, x0, x1 =>
if x1 = 0 then
(pb_X3_isText_46 x0 x1)
else
(km_bind (km_is 3 x0) fun _ => km_bind (pm_X3_letter x0) fun i1 =>
if ¬ i1 = (59 : Int32) then
(pb_X3_isText_46 x0 x1)
else
(km_bind (km_gI [(3, 14)] x0) fun i2 =>
km_bind (km_pI .int [(3, 14)] x0 (i2 + (1 : Int32))) fun _ =>
km_bind (km_is 3 x0) fun _ => km_bind (pm_X3_readsCommand x0) fun i4 =>
pb_X3_isText_15 n x0 i4))
noncomputable def pm_X3_isText (a0 : Option Nat) : km_M Int32 :=
km_bind (km_pI .int [(3, 14)] a0 (0 : Int32)) fun _ =>
km_bind (km_pI .int [(3, 15)] a0 (0 : Int32)) fun _ =>
km_bind (km_is 3 a0) fun _ => km_bind (pm_X3_readsCommand a0) fun i3 =>
pb_X3_isText_15 km_fuel a0 i3

/-! RosaryCarversModel threadsMany (II)I -/
noncomputable def pb_X3_threadsMany_26  : Nat → Option Nat → Int32 → Int32 → Int32 → Int32 → km_M Int32
| 0, _, _, _, _, _ => km_fail
| n + 1, x0, x1, x2, x3, x4 =>
if x2 ≤ x4 then
(km_pure x3)
else
(km_bind (pm_X3_isError x3) fun i1 =>
if ¬ i1 = 0 then
(km_pure x3)
else
(km_bind (km_is 3 x0) fun _ => km_bind (pm_X3_threads x0 x1) fun i2 =>
pb_X3_threadsMany_26 n x0 x1 x2 i2 (x4 + (1 : Int32))))
noncomputable def pm_X3_threadsMany (a0 : Option Nat) (a1 : Int32) (a2 : Int32) : km_M Int32 :=
km_bind (km_is 3 a0) fun _ => km_bind (pm_X3_isString a0 a1) fun i1 =>
if i1 = 0 then
(km_pure (-2 : Int32))
else
(km_bind (pm_X3_isIn a2 (1 : Int32) (28 : Int32)) fun i2 =>
if ¬ i2 = 0 then
(pb_X3_threadsMany_26 km_fuel a0 a1 a2 (0 : Int32) (0 : Int32))
else
(km_pure (-2 : Int32)))

/-! RosaryCarversModel does (III)I -/
noncomputable def pb_X3_does_55  (x3 : Int32) (s0 : Int32) (s1 : Int32) (s2 : Option Nat) : km_M Int32 :=
km_bind (km_is 3 s2) fun _ => km_bind (pm_X3_carves s2 s1 s0 x3) fun i1 =>
km_pure i1
noncomputable def pb_X3_does_44  (x0 : Option Nat) (x1 : Int32) (x2 : Int32) (x3 : Int32) : km_M Int32 :=
if ¬ x1 = 0 then
(pb_X3_does_55 x3 (0 : Int32) x2 x0)
else
(pb_X3_does_55 x3 (1 : Int32) x2 x0)
noncomputable def pm_X3_does (a0 : Option Nat) (a1 : Int32) (a2 : Int32) (a3 : Int32) : km_M Int32 :=
km_tsw a1 0 6 [(pb_X3_does_44 a0 a1 a2 a3),
(pb_X3_does_44 a0 a1 a2 a3),
(km_bind (km_is 3 a0) fun _ => km_bind (pm_X3_begins a0 a2 a3) fun i1 =>
km_pure i1),
(km_bind (km_is 3 a0) fun _ => km_bind (pm_X3_threadsMany a0 a2 a3) fun i2 =>
km_pure i2),
(km_bind (km_is 3 a0) fun _ => km_bind (pm_X3_knots a0 a2) fun i3 =>
km_pure i3),
(km_bind (km_is 3 a0) fun _ => km_bind (pm_X3_drops a0 a2) fun i4 =>
km_pure i4),
(km_bind (km_is 3 a0) fun _ => km_bind (pm_X3_mends a0) fun i5 =>
km_pure i5)] (km_bind (km_is 3 a0) fun _ => km_bind (pm_X3_passes a0 a2) fun i6 =>
km_pure i6)

/-! RosaryCarversModel refusesCommand (IZ)I -/
noncomputable def pb_X3_refusesCommand_51  (x0 : Option Nat) (x1 : Int32) (s0 : Int32) (s1 : Int32) (s2 : Option Nat) : km_M Int32 :=
km_bind (km_stI 0 s2 s1 s0) fun _ =>
km_bind (km_gR [(3, 7)] x0) fun r2 =>
km_bind (km_gR [(3, 7)] x0) fun r3 =>
km_bind (km_ldI 0 r3 (0 : Int32)) fun i4 =>
km_bind (km_stI 0 r2 (1 : Int32) i4) fun _ =>
km_bind (km_gR [(3, 6)] x0) fun r6 =>
km_bind (km_stI 0 r6 (0 : Int32) (9 : Int32)) fun _ =>
km_bind (km_gR [(3, 7)] x0) fun r8 =>
km_bind (km_stI 0 r8 (0 : Int32) x1) fun _ =>
km_pure (-5 : Int32)
noncomputable def pb_X3_refusesCommand_19  (x0 : Option Nat) (x1 : Int32) (x2 : Int32) (s0 : Int32) (s1 : Int32) (s2 : Option Nat) : km_M Int32 :=
km_bind (km_stI 0 s2 s1 s0) fun _ =>
km_bind (km_gR [(3, 7)] x0) fun r2 =>
km_bind (km_gR [(3, 7)] x0) fun r3 =>
km_bind (km_ldI 0 r3 (1 : Int32)) fun i4 =>
km_bind (km_stI 0 r2 (2 : Int32) i4) fun _ =>
km_bind (km_gR [(3, 6)] x0) fun r6 =>
if x2 = 0 then
(pb_X3_refusesCommand_51 x0 x1 (0 : Int32) (1 : Int32) r6)
else
(km_bind (km_gR [(3, 6)] x0) fun r7 =>
km_bind (km_ldI 0 r7 (0 : Int32)) fun i8 =>
pb_X3_refusesCommand_51 x0 x1 i8 (1 : Int32) r6)
noncomputable def pm_X3_refusesCommand (a0 : Option Nat) (a1 : Int32) (a2 : Int32) : km_M Int32 :=
km_bind (km_gR [(3, 6)] a0) fun r1 =>
if a2 = 0 then
(pb_X3_refusesCommand_19 a0 a1 a2 (0 : Int32) (2 : Int32) r1)
else
(km_bind (km_gR [(3, 6)] a0) fun r2 =>
km_bind (km_ldI 0 r2 (1 : Int32)) fun i3 =>
pb_X3_refusesCommand_19 a0 a1 a2 i3 (2 : Int32) r1)

/-! RosaryCarversModel read ()I -/
noncomputable def pb_X3_read_108  (s0 : Int32) (s1 : Int32) (s2 : Option Nat) : km_M Int32 :=
km_bind (km_is 3 s2) fun _ => km_bind (pm_X3_refusesCommand s2 s1 s0) fun i1 =>
km_pure i1
noncomputable def pb_X3_read_31  : Nat → Option Nat → Int32 → km_M Int32
| 0, _, _ => km_fail
| n + 1, x0, x2 =>
km_bind (km_gI [(3, 15)] x0) fun i1 =>
if i1 ≤ x2 then
(km_bind (km_gI [(3, 15)] x0) fun i2 =>
km_bind (km_is 3 x0) fun _ => km_bind (pm_X3_ends x0 i2) fun i3 =>
km_pure i3)
else
(km_bind (km_gR [(3, 12)] x0) fun r4 =>
km_bind (km_ldI 0 r4 ((3 : Int32) * x2)) fun i5 =>
km_bind (km_gR [(3, 12)] x0) fun r6 =>
km_bind (km_ldI 0 r6 (((3 : Int32) * x2) + (1 : Int32))) fun i7 =>
km_bind (km_gR [(3, 12)] x0) fun r8 =>
km_bind (km_ldI 0 r8 (((3 : Int32) * x2) + (2 : Int32))) fun i9 =>
km_bind (km_is 3 x0) fun _ => km_bind (pm_X3_does x0 i5 i7 i9) fun i10 =>
km_bind (pm_X3_isError i10) fun i11 =>
if i11 = 0 then
(pb_X3_read_31 n x0 (x2 + (1 : Int32)))
else
(km_bind (km_gR [(3, 1)] x0) fun r12 =>
km_bind (km_gR [(3, 0)] x0) fun r13 =>
km_bind (pm_X3_copies r12 (0 : Int32) r13 (0 : Int32) (2188 : Int32)) fun _ =>
if ¬ i10 = (-5 : Int32) then
(pb_X3_read_108 (0 : Int32) x2 x0)
else
(pb_X3_read_108 (1 : Int32) x2 x0)))
noncomputable def pm_X3_read (a0 : Option Nat) : km_M Int32 :=
km_bind (km_is 3 a0) fun _ => km_bind (pm_X3_isText a0) fun i1 =>
km_bind (km_pI .int [(3, 13)] a0 (0 : Int32)) fun _ =>
if ¬ i1 = 0 then
(km_bind (km_is 3 a0) fun _ => km_bind (pm_X3_keeps a0) fun _ =>
pb_X3_read_31 km_fuel a0 (0 : Int32))
else
(km_bind (km_gI [(3, 14)] a0) fun i3 =>
km_bind (km_pI .int [(3, 17)] a0 i3) fun _ =>
km_pure (-2 : Int32))

/-! RosaryCarvers fault ()I -/
noncomputable def pm_X0_fault (a0 : Option Nat) : km_M Int32 :=
km_bind (km_gI [(0, 7)] a0) fun i1 =>
if 0 ≤ i1 then
(km_bind (km_gI [(0, 7)] a0) fun i2 =>
km_pure i2)
else
(km_pure (-3 : Int32))

/-! RosaryCarversModel fault ()I -/
noncomputable def pm_X3_fault (a0 : Option Nat) : km_M Int32 :=
km_bind (km_gI [(3, 17)] a0) fun i1 =>
if 0 ≤ i1 then
(km_bind (km_gI [(3, 17)] a0) fun i2 =>
km_pure i2)
else
(km_pure (-3 : Int32))

/-! RosaryCarvers reason (IZ)I -/
noncomputable def pm_X0_reason (a0 : Option Nat) (a1 : Int32) (a2 : Int32) : km_M Int32 :=
km_bind (pm_X0_in a1 (0 : Int32) (2 : Int32)) fun i1 =>
if ¬ i1 = 0 then
(km_bind (km_gR [(0, 3)] a0) fun r2 =>
if r2 = none then
(km_pure (-3 : Int32))
else
(km_bind (km_gR [(0, 3)] a0) fun r3 =>
km_bind (km_is 8 r3) fun _ => km_bind (pm_X9_behind r3 a1) fun r4 =>
if r4 = none then
(km_pure (-6 : Int32))
else
(if a2 = 0 then
(km_bind (km_gI [(8, 6)] r4) fun i5 =>
km_pure i5)
else
(km_bind (km_gI [(8, 7)] r4) fun i6 =>
km_pure i6))))
else
(km_pure (-2 : Int32))

/-! RosaryCarversModel reason (IZ)I -/
noncomputable def pm_X3_reason (a0 : Option Nat) (a1 : Int32) (a2 : Int32) : km_M Int32 :=
km_bind (pm_X3_isIn a1 (0 : Int32) (2 : Int32)) fun i1 =>
if ¬ i1 = 0 then
(km_bind (km_gR [(3, 6)] a0) fun r2 =>
km_bind (km_ldI 0 r2 (0 : Int32)) fun i3 =>
if ¬ i3 = 0 then
(km_bind (km_gR [(3, 6)] a0) fun r4 =>
km_bind (km_ldI 0 r4 a1) fun i5 =>
if ¬ i5 = 0 then
(if a2 = 0 then
(km_bind (km_gR [(3, 6)] a0) fun r6 =>
km_bind (km_ldI 0 r6 a1) fun i7 =>
km_pure i7)
else
(km_bind (km_gR [(3, 7)] a0) fun r8 =>
km_bind (km_ldI 0 r8 a1) fun i9 =>
km_pure i9))
else
(km_pure (-6 : Int32)))
else
(km_pure (-3 : Int32)))
else
(km_pure (-2 : Int32))

/-! java/util/ArrayDeque isEmpty ()Z -/
noncomputable def pm_J4_isEmpty (a0 : Option Nat) : km_M Int32 :=
km_bind (km_gI [(32, 1)] a0) fun i1 =>
km_bind (km_gI [(32, 2)] a0) fun i2 =>
if ¬ i1 = i2 then
(km_bind (km_ret .boolean (0 : Int32)) (fun v => km_pure v))
else
(km_bind (km_ret .boolean (1 : Int32)) (fun v => km_pure v))

/-! java/util/ArrayDeque dec (II)I -/
noncomputable def pm_J4_dec (a0 : Int32) (a1 : Int32) : km_M Int32 :=
if 0 ≤ (a0 + (-1 : Int32)) then
(km_pure (a0 + (-1 : Int32)))
else
(km_pure (a1 - (1 : Int32)))

/-! java/util/ArrayDeque pollLast ()Ljava/lang/Object; -/
noncomputable def pm_J4_pollLast (a0 : Option Nat) : km_M (Option Nat) :=
km_bind (km_gR [(32, 0)] a0) fun r1 =>
km_bind (km_gI [(32, 2)] a0) fun i2 =>
km_bind (km_len r1) fun i3 =>
km_bind (pm_J4_dec i2 i3) fun i4 =>
km_bind (pm_J4_elementAt r1 i4) fun r5 =>
if r5 = none then
(km_pure r5)
else
(km_bind (km_pI .int [(32, 2)] a0 i4) fun _ =>
km_bind (km_stR kn_String r1 i4 none) fun _ =>
km_pure r5)

/-! java/util/ArrayDeque removeLast ()Ljava/lang/Object; -/
noncomputable def pm_J4_removeLast (a0 : Option Nat) : km_M (Option Nat) :=
km_bind (km_is 32 a0) fun _ => km_bind (pm_J4_pollLast a0) fun r1 =>
if r1 = none then
(km_fail)
else
(km_pure r1)

/-! RosaryCarvers undo ()I -/
noncomputable def pm_X0_undo (a0 : Option Nat) : km_M Int32 :=
km_bind (km_gR [(0, 2)] a0) fun r1 =>
km_bind (km_is 32 r1) fun _ => km_bind (pm_J4_isEmpty r1) fun i2 =>
if i2 = 0 then
(km_bind (km_gR [(0, 2)] a0) fun r3 =>
km_bind (km_is 32 r3) fun _ => km_bind (pm_J4_removeLast r3) fun r4 =>
km_bind (km_cast [1] r4) fun _ =>
km_bind (km_pR [(0, 0)] a0 r4) fun _ =>
km_bind (km_gR [(0, 2)] a0) fun r6 =>
km_bind (km_is 32 r6) fun _ => km_bind (pm_J4_size r6) fun i7 =>
km_pure i7)
else
(km_pure (-3 : Int32))

/-! RosaryCarversModel undo ()I -/
noncomputable def pm_X3_undo (a0 : Option Nat) : km_M Int32 :=
km_bind (km_gI [(3, 4)] a0) fun i1 =>
if ¬ i1 = 0 then
(km_bind (km_gI [(3, 4)] a0) fun i2 =>
km_bind (km_pI .int [(3, 4)] a0 (i2 - (1 : Int32))) fun _ =>
km_bind (km_gR [(3, 3)] a0) fun r4 =>
km_bind (km_gI [(3, 4)] a0) fun i5 =>
km_bind (km_gR [(3, 0)] a0) fun r6 =>
km_bind (pm_X3_copies r4 ((2188 : Int32) * i5) r6 (0 : Int32) (2188 : Int32)) fun _ =>
km_bind (km_gI [(3, 4)] a0) fun i7 =>
km_pure i7)
else
(km_pure (-3 : Int32))

/-! RosaryCarvers save ()I -/
noncomputable def pm_X0_save (a0 : Option Nat) : km_M Int32 :=
km_bind (km_new 1 17 kz_Shop) fun r1 =>
km_bind (km_gR [(0, 0)] a0) fun r2 =>
km_bind (km_nn r1) fun _ => km_bind (pm_X1_init_2 r1 r2) fun _ =>
km_bind (km_pR [(0, 1)] a0 r1) fun _ =>
km_bind (km_gR [(0, 0)] a0) fun r4 =>
km_bind (km_gR [(1, 0)] r4) fun r5 =>
km_bind (km_is 30 r5) fun _ => km_bind (pm_J2_size r5) fun i6 =>
km_pure i6

/-! RosaryCarversModel save ()I -/
noncomputable def pm_X3_save (a0 : Option Nat) : km_M Int32 :=
km_bind (km_gR [(3, 0)] a0) fun r1 =>
km_bind (km_gR [(3, 2)] a0) fun r2 =>
km_bind (pm_X3_copies r1 (0 : Int32) r2 (0 : Int32) (2188 : Int32)) fun _ =>
km_bind (km_pI .boolean [(3, 5)] a0 (1 : Int32)) fun _ =>
km_bind (km_gR [(3, 0)] a0) fun r4 =>
km_bind (km_ldI 0 r4 (9 : Int32)) fun i5 =>
km_pure i5

/-! java/util/ArrayDeque circularClear ([Ljava/lang/Object;II)V -/
noncomputable def pb_J4_circularClear_12  : Nat → Option Nat → Int32 → Int32 → Int32 → km_M Unit
| 0, _, _, _, _ => km_fail
| n + 1, x0, x1, x2, x3 =>
if x3 ≤ x1 then
(if ¬ x3 = x2 then
(pb_J4_circularClear_12 n x0 (0 : Int32) x2 x2)
else
(km_pure ()))
else
(km_bind (km_stR kn_String x0 x1 none) fun _ =>
pb_J4_circularClear_12 n x0 (x1 + (1 : Int32)) x2 x3)
noncomputable def pb_J4_circularClear_11  (x0 : Option Nat) (x1 : Int32) (x2 : Int32) (s0 : Int32) : km_M Unit :=
pb_J4_circularClear_12 km_fuel x0 x1 x2 s0
noncomputable def pm_J4_circularClear (a0 : Option Nat) (a1 : Int32) (a2 : Int32) : km_M Unit :=
if a2 < a1 then
(km_bind (km_len a0) fun i1 =>
pb_J4_circularClear_11 a0 a1 a2 i1)
else
(pb_J4_circularClear_11 a0 a1 a2 a2)

/-! java/util/ArrayDeque clear ()V -/
noncomputable def pm_J4_clear (a0 : Option Nat) : km_M Unit :=
km_bind (km_gR [(32, 0)] a0) fun r1 =>
km_bind (km_gI [(32, 1)] a0) fun i2 =>
km_bind (km_gI [(32, 2)] a0) fun i3 =>
km_bind (pm_J4_circularClear r1 i2 i3) fun _ =>
km_bind (km_pI .int [(32, 2)] a0 (0 : Int32)) fun _ =>
km_bind (km_pI .int [(32, 1)] a0 (0 : Int32)) fun _ =>
km_pure ()

/-! RosaryCarvers restore ()I -/
noncomputable def pm_X0_restore (a0 : Option Nat) : km_M Int32 :=
km_bind (km_gR [(0, 1)] a0) fun r1 =>
if r1 = none then
(km_pure (-3 : Int32))
else
(km_bind (km_new 1 17 kz_Shop) fun r2 =>
km_bind (km_gR [(0, 1)] a0) fun r3 =>
km_bind (km_nn r2) fun _ => km_bind (pm_X1_init_2 r2 r3) fun _ =>
km_bind (km_pR [(0, 0)] a0 r2) fun _ =>
km_bind (km_gR [(0, 2)] a0) fun r5 =>
km_bind (km_is 32 r5) fun _ => km_bind (pm_J4_clear r5) fun _ =>
km_bind (km_gR [(0, 0)] a0) fun r6 =>
km_bind (km_gR [(1, 0)] r6) fun r7 =>
km_bind (km_is 30 r7) fun _ => km_bind (pm_J2_size r7) fun i8 =>
km_pure i8)

/-! RosaryCarversModel restore ()I -/
noncomputable def pm_X3_restore (a0 : Option Nat) : km_M Int32 :=
km_bind (km_gI [(3, 5)] a0) fun i1 =>
if ¬ i1 = 0 then
(km_bind (km_gR [(3, 2)] a0) fun r2 =>
km_bind (km_gR [(3, 0)] a0) fun r3 =>
km_bind (pm_X3_copies r2 (0 : Int32) r3 (0 : Int32) (2188 : Int32)) fun _ =>
km_bind (km_pI .int [(3, 4)] a0 (0 : Int32)) fun _ =>
km_bind (km_gR [(3, 0)] a0) fun r5 =>
km_bind (km_ldI 0 r5 (9 : Int32)) fun i6 =>
km_pure i6)
else
(km_pure (-3 : Int32))

/-! RosaryCarversLaw law ([I)Z -/
noncomputable def pb_L_law_1304 (k18 : Option Nat → Option Nat → Option Nat → Int32 → km_M Int32) (x0 : Option Nat) (x1 : Option Nat) (x2 : Option Nat) (x3 : Int32) : km_M Int32 :=
k18 x0 x1 x2 (x3 + (5 : Int32))
noncomputable def pb_L_law_340 (k18 : Option Nat → Option Nat → Option Nat → Int32 → km_M Int32) (x0 : Option Nat) (x1 : Option Nat) (x2 : Option Nat) (x3 : Int32) (s0 : Int32) (s1 : Int32) (s2 : Option Nat) (s3 : Int32) : km_M Int32 :=
km_bind (km_ldI 0 x0 (x3 + (3 : Int32))) fun i1 =>
km_bind (km_is 3 s2) fun _ => km_bind (pm_X3_carve s2 s1 s0 i1) fun i2 =>
if s3 = i2 then
(pb_L_law_1304 k18 x0 x1 x2 x3)
else
(km_bind (km_ret .boolean (0 : Int32)) (fun v => km_pure v))
noncomputable def pb_L_law_313 (k18 : Option Nat → Option Nat → Option Nat → Int32 → km_M Int32) (x0 : Option Nat) (x1 : Option Nat) (x2 : Option Nat) (x3 : Int32) (s0 : Int32) (s1 : Int32) (s2 : Option Nat) : km_M Int32 :=
km_bind (km_ldI 0 x0 (x3 + (3 : Int32))) fun i1 =>
km_bind (km_is 0 s2) fun _ => km_bind (pm_X0_carve s2 s1 s0 i1) fun i2 =>
km_bind (km_ldI 0 x0 (x3 + (1 : Int32))) fun i3 =>
km_bind (km_ldI 0 x0 (x3 + (2 : Int32))) fun i4 =>
if i4 = 0 then
(pb_L_law_340 k18 x0 x1 x2 x3 (0 : Int32) i3 x2 i2)
else
(pb_L_law_340 k18 x0 x1 x2 x3 (1 : Int32) i3 x2 i2)
noncomputable def pb_L_law_618 (k18 : Option Nat → Option Nat → Option Nat → Int32 → km_M Int32) (x0 : Option Nat) (x1 : Option Nat) (x2 : Option Nat) (x3 : Int32) (s0 : Int32) (s1 : Int32) (s2 : Option Nat) (s3 : Int32) : km_M Int32 :=
km_bind (km_is 3 s2) fun _ => km_bind (pm_X3_lensOf s2 s1 s0) fun i1 =>
if s3 = i1 then
(pb_L_law_1304 k18 x0 x1 x2 x3)
else
(km_bind (km_ret .boolean (0 : Int32)) (fun v => km_pure v))
noncomputable def pb_L_law_596 (k18 : Option Nat → Option Nat → Option Nat → Int32 → km_M Int32) (x0 : Option Nat) (x1 : Option Nat) (x2 : Option Nat) (x3 : Int32) (s0 : Int32) (s1 : Int32) (s2 : Option Nat) : km_M Int32 :=
km_bind (km_is 0 s2) fun _ => km_bind (pm_X0_lensOf s2 s1 s0) fun i1 =>
km_bind (km_ldI 0 x0 (x3 + (1 : Int32))) fun i2 =>
km_bind (km_ldI 0 x0 (x3 + (2 : Int32))) fun i3 =>
if i3 = 0 then
(pb_L_law_618 k18 x0 x1 x2 x3 (0 : Int32) i2 x2 i1)
else
(pb_L_law_618 k18 x0 x1 x2 x3 (1 : Int32) i2 x2 i1)
noncomputable def pb_L_law_683 (k18 : Option Nat → Option Nat → Option Nat → Int32 → km_M Int32) (x0 : Option Nat) (x1 : Option Nat) (x2 : Option Nat) (x3 : Int32) (s0 : Int32) (s1 : Int32) (s2 : Option Nat) (s3 : Int32) : km_M Int32 :=
km_bind (km_is 3 s2) fun _ => km_bind (pm_X3_box s2 s1 s0) fun i1 =>
if s3 = i1 then
(pb_L_law_1304 k18 x0 x1 x2 x3)
else
(km_bind (km_ret .boolean (0 : Int32)) (fun v => km_pure v))
noncomputable def pb_L_law_670 (k18 : Option Nat → Option Nat → Option Nat → Int32 → km_M Int32) (x0 : Option Nat) (x1 : Option Nat) (x2 : Option Nat) (x3 : Int32) (s0 : Int32) (s1 : Option Nat) (s2 : Int32) : km_M Int32 :=
km_bind (km_ldI 0 x0 (x3 + (2 : Int32))) fun i1 =>
if i1 = 0 then
(pb_L_law_683 k18 x0 x1 x2 x3 (0 : Int32) s0 s1 s2)
else
(pb_L_law_683 k18 x0 x1 x2 x3 (1 : Int32) s0 s1 s2)
noncomputable def pb_L_law_653 (k18 : Option Nat → Option Nat → Option Nat → Int32 → km_M Int32) (x0 : Option Nat) (x1 : Option Nat) (x2 : Option Nat) (x3 : Int32) (s0 : Int32) (s1 : Int32) (s2 : Option Nat) : km_M Int32 :=
km_bind (km_is 0 s2) fun _ => km_bind (pm_X0_box s2 s1 s0) fun i1 =>
km_bind (km_ldI 0 x0 (x3 + (1 : Int32))) fun i2 =>
if i2 = 0 then
(pb_L_law_670 k18 x0 x1 x2 x3 (0 : Int32) x2 i1)
else
(pb_L_law_670 k18 x0 x1 x2 x3 (1 : Int32) x2 i1)
noncomputable def pb_L_law_640 (k18 : Option Nat → Option Nat → Option Nat → Int32 → km_M Int32) (x0 : Option Nat) (x1 : Option Nat) (x2 : Option Nat) (x3 : Int32) (s0 : Int32) (s1 : Option Nat) : km_M Int32 :=
km_bind (km_ldI 0 x0 (x3 + (2 : Int32))) fun i1 =>
if i1 = 0 then
(pb_L_law_653 k18 x0 x1 x2 x3 (0 : Int32) s0 s1)
else
(pb_L_law_653 k18 x0 x1 x2 x3 (1 : Int32) s0 s1)
noncomputable def pb_L_law_722 (k18 : Option Nat → Option Nat → Option Nat → Int32 → km_M Int32) (x0 : Option Nat) (x1 : Option Nat) (x2 : Option Nat) (x3 : Int32) (s0 : Int32) (s1 : Option Nat) (s2 : Int32) : km_M Int32 :=
km_bind (km_is 3 s1) fun _ => km_bind (pm_X3_finest s1 s0) fun i1 =>
if s2 = i1 then
(pb_L_law_1304 k18 x0 x1 x2 x3)
else
(km_bind (km_ret .boolean (0 : Int32)) (fun v => km_pure v))
noncomputable def pb_L_law_705 (k18 : Option Nat → Option Nat → Option Nat → Int32 → km_M Int32) (x0 : Option Nat) (x1 : Option Nat) (x2 : Option Nat) (x3 : Int32) (s0 : Int32) (s1 : Option Nat) : km_M Int32 :=
km_bind (km_is 0 s1) fun _ => km_bind (pm_X0_finest s1 s0) fun i1 =>
km_bind (km_ldI 0 x0 (x3 + (1 : Int32))) fun i2 =>
if i2 = 0 then
(pb_L_law_722 k18 x0 x1 x2 x3 (0 : Int32) x2 i1)
else
(pb_L_law_722 k18 x0 x1 x2 x3 (1 : Int32) x2 i1)
noncomputable def pb_L_law_761 (k18 : Option Nat → Option Nat → Option Nat → Int32 → km_M Int32) (x0 : Option Nat) (x1 : Option Nat) (x2 : Option Nat) (x3 : Int32) (s0 : Int32) (s1 : Option Nat) (s2 : Int32) : km_M Int32 :=
km_bind (km_is 3 s1) fun _ => km_bind (pm_X3_finestAgain s1 s0) fun i1 =>
if s2 = i1 then
(pb_L_law_1304 k18 x0 x1 x2 x3)
else
(km_bind (km_ret .boolean (0 : Int32)) (fun v => km_pure v))
noncomputable def pb_L_law_744 (k18 : Option Nat → Option Nat → Option Nat → Int32 → km_M Int32) (x0 : Option Nat) (x1 : Option Nat) (x2 : Option Nat) (x3 : Int32) (s0 : Int32) (s1 : Option Nat) : km_M Int32 :=
km_bind (km_is 0 s1) fun _ => km_bind (pm_X0_finestAgain s1 s0) fun i1 =>
km_bind (km_ldI 0 x0 (x3 + (1 : Int32))) fun i2 =>
if i2 = 0 then
(pb_L_law_761 k18 x0 x1 x2 x3 (0 : Int32) x2 i1)
else
(pb_L_law_761 k18 x0 x1 x2 x3 (1 : Int32) x2 i1)
noncomputable def pb_L_law_853 (k18 : Option Nat → Option Nat → Option Nat → Int32 → km_M Int32) (x0 : Option Nat) (x1 : Option Nat) (x2 : Option Nat) (x3 : Int32) (s0 : Int32) (s1 : Int32) (s2 : Int32) (s3 : Option Nat) (s4 : Int32) : km_M Int32 :=
km_bind (km_is 3 s3) fun _ => km_bind (pm_X3_bead s3 s2 s1 s0) fun i1 =>
if s4 = i1 then
(pb_L_law_1304 k18 x0 x1 x2 x3)
else
(km_bind (km_ret .boolean (0 : Int32)) (fun v => km_pure v))
noncomputable def pb_L_law_826 (k18 : Option Nat → Option Nat → Option Nat → Int32 → km_M Int32) (x0 : Option Nat) (x1 : Option Nat) (x2 : Option Nat) (x3 : Int32) (s0 : Int32) (s1 : Int32) (s2 : Int32) (s3 : Option Nat) : km_M Int32 :=
km_bind (km_is 0 s3) fun _ => km_bind (pm_X0_bead s3 s2 s1 s0) fun i1 =>
km_bind (km_ldI 0 x0 (x3 + (1 : Int32))) fun i2 =>
km_bind (km_ldI 0 x0 (x3 + (2 : Int32))) fun i3 =>
km_bind (km_ldI 0 x0 (x3 + (3 : Int32))) fun i4 =>
if i4 = 0 then
(pb_L_law_853 k18 x0 x1 x2 x3 (0 : Int32) i3 i2 x2 i1)
else
(pb_L_law_853 k18 x0 x1 x2 x3 (1 : Int32) i3 i2 x2 i1)
noncomputable def pb_L_law_935 (k18 : Option Nat → Option Nat → Option Nat → Int32 → km_M Int32) (x0 : Option Nat) (x1 : Option Nat) (x2 : Option Nat) (x3 : Int32) (s0 : Int32) (s1 : Option Nat) (s2 : Int32) : km_M Int32 :=
km_bind (km_ldI 0 x0 (x3 + (2 : Int32))) fun i1 =>
km_bind (km_ldI 0 x0 (x3 + (3 : Int32))) fun i2 =>
km_bind (km_is 3 s1) fun _ => km_bind (pm_X3_soldOf s1 s0 i1 i2) fun i3 =>
if s2 = i3 then
(pb_L_law_1304 k18 x0 x1 x2 x3)
else
(km_bind (km_ret .boolean (0 : Int32)) (fun v => km_pure v))
noncomputable def pb_L_law_908 (k18 : Option Nat → Option Nat → Option Nat → Int32 → km_M Int32) (x0 : Option Nat) (x1 : Option Nat) (x2 : Option Nat) (x3 : Int32) (s0 : Int32) (s1 : Option Nat) : km_M Int32 :=
km_bind (km_ldI 0 x0 (x3 + (2 : Int32))) fun i1 =>
km_bind (km_ldI 0 x0 (x3 + (3 : Int32))) fun i2 =>
km_bind (km_is 0 s1) fun _ => km_bind (pm_X0_soldOf s1 s0 i1 i2) fun i3 =>
km_bind (km_ldI 0 x0 (x3 + (1 : Int32))) fun i4 =>
if i4 = 0 then
(pb_L_law_935 k18 x0 x1 x2 x3 (0 : Int32) x2 i3)
else
(pb_L_law_935 k18 x0 x1 x2 x3 (1 : Int32) x2 i3)
noncomputable def pb_L_law_1257 (k18 : Option Nat → Option Nat → Option Nat → Int32 → km_M Int32) (x0 : Option Nat) (x1 : Option Nat) (x2 : Option Nat) (x3 : Int32) (s0 : Int32) (s1 : Int32) (s2 : Option Nat) (s3 : Int32) : km_M Int32 :=
km_bind (km_is 3 s2) fun _ => km_bind (pm_X3_reason s2 s1 s0) fun i1 =>
if s3 = i1 then
(pb_L_law_1304 k18 x0 x1 x2 x3)
else
(km_bind (km_ret .boolean (0 : Int32)) (fun v => km_pure v))
noncomputable def pb_L_law_1235 (k18 : Option Nat → Option Nat → Option Nat → Int32 → km_M Int32) (x0 : Option Nat) (x1 : Option Nat) (x2 : Option Nat) (x3 : Int32) (s0 : Int32) (s1 : Int32) (s2 : Option Nat) : km_M Int32 :=
km_bind (km_is 0 s2) fun _ => km_bind (pm_X0_reason s2 s1 s0) fun i1 =>
km_bind (km_ldI 0 x0 (x3 + (1 : Int32))) fun i2 =>
km_bind (km_ldI 0 x0 (x3 + (2 : Int32))) fun i3 =>
if i3 = 0 then
(pb_L_law_1257 k18 x0 x1 x2 x3 (0 : Int32) i2 x2 i1)
else
(pb_L_law_1257 k18 x0 x1 x2 x3 (1 : Int32) i2 x2 i1)
noncomputable def pb_L_law_18  : Nat → Option Nat → Option Nat → Option Nat → Int32 → km_M Int32
| 0, _, _, _, _ => km_fail
| n + 1, x0, x1, x2, x3 =>
km_bind (km_len x0) fun i1 =>
if (i1 - (5 : Int32)) < x3 then
(km_bind (km_ret .boolean (1 : Int32)) (fun v => km_pure v))
else
(km_bind (km_ldI 0 x0 x3) fun i2 =>
km_tsw (i2 &&& (63 : Int32)) 0 35 [(km_bind (km_ldI 0 x0 (x3 + (1 : Int32))) fun i3 =>
km_bind (km_is 0 x1) fun _ => km_bind (pm_X0_stones x1 i3) fun i4 =>
km_bind (km_ldI 0 x0 (x3 + (1 : Int32))) fun i5 =>
km_bind (km_is 3 x2) fun _ => km_bind (pm_X3_stones x2 i5) fun i6 =>
if i4 = i6 then
(pb_L_law_1304 (pb_L_law_18 n) x0 x1 x2 x3)
else
(km_bind (km_ret .boolean (0 : Int32)) (fun v => km_pure v))),
(km_bind (km_ldI 0 x0 (x3 + (1 : Int32))) fun i7 =>
km_bind (km_is 0 x1) fun _ => km_bind (pm_X0_carver x1 i7) fun i8 =>
km_bind (km_ldI 0 x0 (x3 + (1 : Int32))) fun i9 =>
km_bind (km_is 3 x2) fun _ => km_bind (pm_X3_carver x2 i9) fun i10 =>
if i8 = i10 then
(pb_L_law_1304 (pb_L_law_18 n) x0 x1 x2 x3)
else
(km_bind (km_ret .boolean (0 : Int32)) (fun v => km_pure v))),
(km_bind (km_ldI 0 x0 (x3 + (1 : Int32))) fun i11 =>
km_bind (km_is 0 x1) fun _ => km_bind (pm_X0_lens x1 i11) fun i12 =>
km_bind (km_ldI 0 x0 (x3 + (1 : Int32))) fun i13 =>
km_bind (km_is 3 x2) fun _ => km_bind (pm_X3_lens x2 i13) fun i14 =>
if i12 = i14 then
(pb_L_law_1304 (pb_L_law_18 n) x0 x1 x2 x3)
else
(km_bind (km_ret .boolean (0 : Int32)) (fun v => km_pure v))),
(km_bind (km_ldI 0 x0 (x3 + (1 : Int32))) fun i15 =>
km_bind (km_ldI 0 x0 (x3 + (2 : Int32))) fun i16 =>
km_bind (km_is 0 x1) fun _ => km_bind (pm_X0_give x1 i15 i16) fun i17 =>
km_bind (km_ldI 0 x0 (x3 + (1 : Int32))) fun i18 =>
km_bind (km_ldI 0 x0 (x3 + (2 : Int32))) fun i19 =>
km_bind (km_is 3 x2) fun _ => km_bind (pm_X3_give x2 i18 i19) fun i20 =>
if i17 = i20 then
(pb_L_law_1304 (pb_L_law_18 n) x0 x1 x2 x3)
else
(km_bind (km_ret .boolean (0 : Int32)) (fun v => km_pure v))),
(km_bind (km_ldI 0 x0 (x3 + (1 : Int32))) fun i21 =>
km_bind (km_ldI 0 x0 (x3 + (2 : Int32))) fun i22 =>
if i22 = 0 then
(pb_L_law_313 (pb_L_law_18 n) x0 x1 x2 x3 (0 : Int32) i21 x1)
else
(pb_L_law_313 (pb_L_law_18 n) x0 x1 x2 x3 (1 : Int32) i21 x1)),
(km_bind (km_ldI 0 x0 (x3 + (1 : Int32))) fun i23 =>
km_bind (km_ldI 0 x0 (x3 + (2 : Int32))) fun i24 =>
km_bind (km_is 0 x1) fun _ => km_bind (pm_X0_begin x1 i23 i24) fun i25 =>
km_bind (km_ldI 0 x0 (x3 + (1 : Int32))) fun i26 =>
km_bind (km_ldI 0 x0 (x3 + (2 : Int32))) fun i27 =>
km_bind (km_is 3 x2) fun _ => km_bind (pm_X3_begin x2 i26 i27) fun i28 =>
if i25 = i28 then
(pb_L_law_1304 (pb_L_law_18 n) x0 x1 x2 x3)
else
(km_bind (km_ret .boolean (0 : Int32)) (fun v => km_pure v))),
(km_bind (km_ldI 0 x0 (x3 + (1 : Int32))) fun i29 =>
km_bind (km_is 0 x1) fun _ => km_bind (pm_X0_thread x1 i29) fun i30 =>
km_bind (km_ldI 0 x0 (x3 + (1 : Int32))) fun i31 =>
km_bind (km_is 3 x2) fun _ => km_bind (pm_X3_thread x2 i31) fun i32 =>
if i30 = i32 then
(pb_L_law_1304 (pb_L_law_18 n) x0 x1 x2 x3)
else
(km_bind (km_ret .boolean (0 : Int32)) (fun v => km_pure v))),
(km_bind (km_ldI 0 x0 (x3 + (1 : Int32))) fun i33 =>
km_bind (km_is 0 x1) fun _ => km_bind (pm_X0_knot x1 i33) fun i34 =>
km_bind (km_ldI 0 x0 (x3 + (1 : Int32))) fun i35 =>
km_bind (km_is 3 x2) fun _ => km_bind (pm_X3_knot x2 i35) fun i36 =>
if i34 = i36 then
(pb_L_law_1304 (pb_L_law_18 n) x0 x1 x2 x3)
else
(km_bind (km_ret .boolean (0 : Int32)) (fun v => km_pure v))),
(km_bind (km_ldI 0 x0 (x3 + (1 : Int32))) fun i37 =>
km_bind (km_is 0 x1) fun _ => km_bind (pm_X0_drop x1 i37) fun i38 =>
km_bind (km_ldI 0 x0 (x3 + (1 : Int32))) fun i39 =>
km_bind (km_is 3 x2) fun _ => km_bind (pm_X3_drop x2 i39) fun i40 =>
if i38 = i40 then
(pb_L_law_1304 (pb_L_law_18 n) x0 x1 x2 x3)
else
(km_bind (km_ret .boolean (0 : Int32)) (fun v => km_pure v))),
(km_bind (km_ldI 0 x0 (x3 + (1 : Int32))) fun i41 =>
km_bind (km_ldI 0 x0 (x3 + (2 : Int32))) fun i42 =>
km_bind (km_ldI 0 x0 (x3 + (3 : Int32))) fun i43 =>
km_bind (km_ldI 0 x0 (x3 + (4 : Int32))) fun i44 =>
km_bind (km_is 0 x1) fun _ => km_bind (pm_X0_pilgrim x1 i41 i42 i43 i44) fun i45 =>
km_bind (km_ldI 0 x0 (x3 + (1 : Int32))) fun i46 =>
km_bind (km_ldI 0 x0 (x3 + (2 : Int32))) fun i47 =>
km_bind (km_ldI 0 x0 (x3 + (3 : Int32))) fun i48 =>
km_bind (km_ldI 0 x0 (x3 + (4 : Int32))) fun i49 =>
km_bind (km_is 3 x2) fun _ => km_bind (pm_X3_pilgrim x2 i46 i47 i48 i49) fun i50 =>
if i45 = i50 then
(pb_L_law_1304 (pb_L_law_18 n) x0 x1 x2 x3)
else
(km_bind (km_ret .boolean (0 : Int32)) (fun v => km_pure v))),
(km_bind (km_is 0 x1) fun _ => km_bind (pm_X0_mend x1) fun i51 =>
km_bind (km_is 3 x2) fun _ => km_bind (pm_X3_mend x2) fun i52 =>
if i51 = i52 then
(pb_L_law_1304 (pb_L_law_18 n) x0 x1 x2 x3)
else
(km_bind (km_ret .boolean (0 : Int32)) (fun v => km_pure v))),
(km_bind (km_ldI 0 x0 (x3 + (1 : Int32))) fun i53 =>
km_bind (km_is 0 x1) fun _ => km_bind (pm_X0_pass x1 i53) fun i54 =>
km_bind (km_ldI 0 x0 (x3 + (1 : Int32))) fun i55 =>
km_bind (km_is 3 x2) fun _ => km_bind (pm_X3_pass x2 i55) fun i56 =>
if i54 = i56 then
(pb_L_law_1304 (pb_L_law_18 n) x0 x1 x2 x3)
else
(km_bind (km_ret .boolean (0 : Int32)) (fun v => km_pure v))),
(km_bind (km_ldI 0 x0 (x3 + (1 : Int32))) fun i57 =>
km_bind (km_ldI 0 x0 (x3 + (2 : Int32))) fun i58 =>
km_bind (km_is 0 x1) fun _ => km_bind (pm_X0_carverOf x1 i57 i58) fun i59 =>
km_bind (km_ldI 0 x0 (x3 + (1 : Int32))) fun i60 =>
km_bind (km_ldI 0 x0 (x3 + (2 : Int32))) fun i61 =>
km_bind (km_is 3 x2) fun _ => km_bind (pm_X3_carverOf x2 i60 i61) fun i62 =>
if i59 = i62 then
(pb_L_law_1304 (pb_L_law_18 n) x0 x1 x2 x3)
else
(km_bind (km_ret .boolean (0 : Int32)) (fun v => km_pure v))),
(km_bind (km_ldI 0 x0 (x3 + (1 : Int32))) fun i63 =>
km_bind (km_ldI 0 x0 (x3 + (2 : Int32))) fun i64 =>
if i64 = 0 then
(pb_L_law_596 (pb_L_law_18 n) x0 x1 x2 x3 (0 : Int32) i63 x1)
else
(pb_L_law_596 (pb_L_law_18 n) x0 x1 x2 x3 (1 : Int32) i63 x1)),
(km_bind (km_ldI 0 x0 (x3 + (1 : Int32))) fun i65 =>
if i65 = 0 then
(pb_L_law_640 (pb_L_law_18 n) x0 x1 x2 x3 (0 : Int32) x1)
else
(pb_L_law_640 (pb_L_law_18 n) x0 x1 x2 x3 (1 : Int32) x1)),
(km_bind (km_ldI 0 x0 (x3 + (1 : Int32))) fun i66 =>
if i66 = 0 then
(pb_L_law_705 (pb_L_law_18 n) x0 x1 x2 x3 (0 : Int32) x1)
else
(pb_L_law_705 (pb_L_law_18 n) x0 x1 x2 x3 (1 : Int32) x1)),
(km_bind (km_ldI 0 x0 (x3 + (1 : Int32))) fun i67 =>
if i67 = 0 then
(pb_L_law_744 (pb_L_law_18 n) x0 x1 x2 x3 (0 : Int32) x1)
else
(pb_L_law_744 (pb_L_law_18 n) x0 x1 x2 x3 (1 : Int32) x1)),
(km_bind (km_ldI 0 x0 (x3 + (1 : Int32))) fun i68 =>
km_bind (km_ldI 0 x0 (x3 + (2 : Int32))) fun i69 =>
km_bind (km_is 0 x1) fun _ => km_bind (pm_X0_stringOf x1 i68 i69) fun i70 =>
km_bind (km_ldI 0 x0 (x3 + (1 : Int32))) fun i71 =>
km_bind (km_ldI 0 x0 (x3 + (2 : Int32))) fun i72 =>
km_bind (km_is 3 x2) fun _ => km_bind (pm_X3_stringOf x2 i71 i72) fun i73 =>
if i70 = i73 then
(pb_L_law_1304 (pb_L_law_18 n) x0 x1 x2 x3)
else
(km_bind (km_ret .boolean (0 : Int32)) (fun v => km_pure v))),
(km_bind (km_ldI 0 x0 (x3 + (1 : Int32))) fun i74 =>
km_bind (km_ldI 0 x0 (x3 + (2 : Int32))) fun i75 =>
km_bind (km_ldI 0 x0 (x3 + (3 : Int32))) fun i76 =>
if i76 = 0 then
(pb_L_law_826 (pb_L_law_18 n) x0 x1 x2 x3 (0 : Int32) i75 i74 x1)
else
(pb_L_law_826 (pb_L_law_18 n) x0 x1 x2 x3 (1 : Int32) i75 i74 x1)),
(km_bind (km_ldI 0 x0 (x3 + (1 : Int32))) fun i77 =>
km_bind (km_ldI 0 x0 (x3 + (2 : Int32))) fun i78 =>
km_bind (km_is 0 x1) fun _ => km_bind (pm_X0_pilgrimOf x1 i77 i78) fun i79 =>
km_bind (km_ldI 0 x0 (x3 + (1 : Int32))) fun i80 =>
km_bind (km_ldI 0 x0 (x3 + (2 : Int32))) fun i81 =>
km_bind (km_is 3 x2) fun _ => km_bind (pm_X3_pilgrimOf x2 i80 i81) fun i82 =>
if i79 = i82 then
(pb_L_law_1304 (pb_L_law_18 n) x0 x1 x2 x3)
else
(km_bind (km_ret .boolean (0 : Int32)) (fun v => km_pure v))),
(km_bind (km_ldI 0 x0 (x3 + (1 : Int32))) fun i83 =>
if i83 = 0 then
(pb_L_law_908 (pb_L_law_18 n) x0 x1 x2 x3 (0 : Int32) x1)
else
(pb_L_law_908 (pb_L_law_18 n) x0 x1 x2 x3 (1 : Int32) x1)),
(km_bind (km_ldI 0 x0 (x3 + (1 : Int32))) fun i84 =>
km_bind (km_ldI 0 x0 (x3 + (2 : Int32))) fun i85 =>
km_bind (km_is 0 x1) fun _ => km_bind (pm_X0_could x1 i84 i85) fun i86 =>
km_bind (km_ldI 0 x0 (x3 + (1 : Int32))) fun i87 =>
km_bind (km_ldI 0 x0 (x3 + (2 : Int32))) fun i88 =>
km_bind (km_is 3 x2) fun _ => km_bind (pm_X3_could x2 i87 i88) fun i89 =>
if i86 = i89 then
(pb_L_law_1304 (pb_L_law_18 n) x0 x1 x2 x3)
else
(km_bind (km_ret .boolean (0 : Int32)) (fun v => km_pure v))),
(km_bind (km_is 0 x1) fun _ => km_bind (pm_X0_nextBack x1) fun i90 =>
km_bind (km_is 3 x2) fun _ => km_bind (pm_X3_nextBack x2) fun i91 =>
if i90 = i91 then
(pb_L_law_1304 (pb_L_law_18 n) x0 x1 x2 x3)
else
(km_bind (km_ret .boolean (0 : Int32)) (fun v => km_pure v))),
(km_bind (km_is 0 x1) fun _ => km_bind (pm_X0_isCounted x1) fun i92 =>
km_bind (km_is 3 x2) fun _ => km_bind (pm_X3_isCounted x2) fun i93 =>
if i92 = i93 then
(pb_L_law_1304 (pb_L_law_18 n) x0 x1 x2 x3)
else
(km_bind (km_ret .boolean (0 : Int32)) (fun v => km_pure v))),
(km_bind (km_is 0 x1) fun _ => km_bind (pm_X0_meanFineness x1) fun d94 =>
km_bind (km_is 3 x2) fun _ => km_bind (pm_X3_meanFineness x2) fun d95 =>
if (Op.cmpValue (FP.dcmp d94 d95) .l) = 0 then
(pb_L_law_1304 (pb_L_law_18 n) x0 x1 x2 x3)
else
(if (Op.cmpValue (FP.dcmp d94 d94) .l) = 0 then
(km_bind (km_ret .boolean (0 : Int32)) (fun v => km_pure v))
else
(if ¬ (Op.cmpValue (FP.dcmp d95 d95) .l) = 0 then
(pb_L_law_1304 (pb_L_law_18 n) x0 x1 x2 x3)
else
(km_bind (km_ret .boolean (0 : Int32)) (fun v => km_pure v))))),
(km_bind (km_is 0 x1) fun _ => km_bind (pm_X0_spoilt x1) fun f96 =>
km_bind (km_f2d f96) fun d97 =>
km_bind (km_is 3 x2) fun _ => km_bind (pm_X3_spoilt x2) fun f98 =>
km_bind (km_f2d f98) fun d99 =>
if (Op.cmpValue (FP.dcmp d97 d99) .l) = 0 then
(pb_L_law_1304 (pb_L_law_18 n) x0 x1 x2 x3)
else
(if (Op.cmpValue (FP.dcmp d97 d97) .l) = 0 then
(km_bind (km_ret .boolean (0 : Int32)) (fun v => km_pure v))
else
(if ¬ (Op.cmpValue (FP.dcmp d99 d99) .l) = 0 then
(pb_L_law_1304 (pb_L_law_18 n) x0 x1 x2 x3)
else
(km_bind (km_ret .boolean (0 : Int32)) (fun v => km_pure v))))),
(km_bind (km_ldI 0 x0 (x3 + (1 : Int32))) fun i100 =>
km_bind (km_is 0 x1) fun _ => km_bind (pm_X0_account x1 i100) fun i101 =>
km_bind (km_ldI 0 x0 (x3 + (1 : Int32))) fun i102 =>
km_bind (km_is 3 x2) fun _ => km_bind (pm_X3_account x2 i102) fun i103 =>
if i101 = i103 then
(pb_L_law_1304 (pb_L_law_18 n) x0 x1 x2 x3)
else
(km_bind (km_ret .boolean (0 : Int32)) (fun v => km_pure v))),
(km_bind (km_ldI 0 x0 (x3 + (1 : Int32))) fun i104 =>
km_bind (km_is 0 x1) fun _ => km_bind (pm_X0_write x1 i104) fun i105 =>
km_bind (km_ldI 0 x0 (x3 + (1 : Int32))) fun i106 =>
km_bind (km_is 3 x2) fun _ => km_bind (pm_X3_write x2 i106) fun i107 =>
if i105 = i107 then
(pb_L_law_1304 (pb_L_law_18 n) x0 x1 x2 x3)
else
(km_bind (km_ret .boolean (0 : Int32)) (fun v => km_pure v))),
(km_bind (km_ldI 0 x0 (x3 + (1 : Int32))) fun i108 =>
km_bind (km_is 0 x1) fun _ => km_bind (pm_X0_written x1 i108) fun i109 =>
km_bind (km_ldI 0 x0 (x3 + (1 : Int32))) fun i110 =>
km_bind (km_is 3 x2) fun _ => km_bind (pm_X3_written x2 i110) fun i111 =>
if i109 = i111 then
(pb_L_law_1304 (pb_L_law_18 n) x0 x1 x2 x3)
else
(km_bind (km_ret .boolean (0 : Int32)) (fun v => km_pure v))),
(km_bind (km_ldI 0 x0 (x3 + (1 : Int32))) fun i112 =>
km_bind (km_is 0 x1) fun _ => km_bind (pm_X0_append x1 ((i112.toUInt32 % 65536).toInt32)) fun i113 =>
km_bind (km_ldI 0 x0 (x3 + (1 : Int32))) fun i114 =>
km_bind (km_is 3 x2) fun _ => km_bind (pm_X3_append x2 ((i114.toUInt32 % 65536).toInt32)) fun i115 =>
if i113 = i115 then
(pb_L_law_1304 (pb_L_law_18 n) x0 x1 x2 x3)
else
(km_bind (km_ret .boolean (0 : Int32)) (fun v => km_pure v))),
(km_bind (km_is 0 x1) fun _ => km_bind (pm_X0_read x1) fun i116 =>
km_bind (km_is 3 x2) fun _ => km_bind (pm_X3_read x2) fun i117 =>
if i116 = i117 then
(pb_L_law_1304 (pb_L_law_18 n) x0 x1 x2 x3)
else
(km_bind (km_ret .boolean (0 : Int32)) (fun v => km_pure v))),
(km_bind (km_is 0 x1) fun _ => km_bind (pm_X0_fault x1) fun i118 =>
km_bind (km_is 3 x2) fun _ => km_bind (pm_X3_fault x2) fun i119 =>
if i118 = i119 then
(pb_L_law_1304 (pb_L_law_18 n) x0 x1 x2 x3)
else
(km_bind (km_ret .boolean (0 : Int32)) (fun v => km_pure v))),
(km_bind (km_ldI 0 x0 (x3 + (1 : Int32))) fun i120 =>
km_bind (km_ldI 0 x0 (x3 + (2 : Int32))) fun i121 =>
if i121 = 0 then
(pb_L_law_1235 (pb_L_law_18 n) x0 x1 x2 x3 (0 : Int32) i120 x1)
else
(pb_L_law_1235 (pb_L_law_18 n) x0 x1 x2 x3 (1 : Int32) i120 x1)),
(km_bind (km_is 0 x1) fun _ => km_bind (pm_X0_undo x1) fun i122 =>
km_bind (km_is 3 x2) fun _ => km_bind (pm_X3_undo x2) fun i123 =>
if i122 = i123 then
(pb_L_law_1304 (pb_L_law_18 n) x0 x1 x2 x3)
else
(km_bind (km_ret .boolean (0 : Int32)) (fun v => km_pure v))),
(km_bind (km_is 0 x1) fun _ => km_bind (pm_X0_save x1) fun i124 =>
km_bind (km_is 3 x2) fun _ => km_bind (pm_X3_save x2) fun i125 =>
if i124 = i125 then
(pb_L_law_1304 (pb_L_law_18 n) x0 x1 x2 x3)
else
(km_bind (km_ret .boolean (0 : Int32)) (fun v => km_pure v))),
(km_bind (km_is 0 x1) fun _ => km_bind (pm_X0_restore x1) fun i126 =>
km_bind (km_is 3 x2) fun _ => km_bind (pm_X3_restore x2) fun i127 =>
if i126 = i127 then
(pb_L_law_1304 (pb_L_law_18 n) x0 x1 x2 x3)
else
(km_bind (km_ret .boolean (0 : Int32)) (fun v => km_pure v)))] (pb_L_law_1304 (pb_L_law_18 n) x0 x1 x2 x3))
noncomputable def pm_L_law (a0 : Option Nat) : km_M Int32 :=
km_bind (km_new 0 8 kz_RC) fun r1 =>
km_bind (km_nn r1) fun _ => km_bind (pm_X0_init r1) fun _ =>
km_bind (km_new 3 18 kz_Model) fun r2 =>
km_bind (km_nn r2) fun _ => km_bind (pm_X3_init r2) fun _ =>
pb_L_law_18 km_fuel a0 r1 r2 (0 : Int32)
