set_option maxRecDepth 100000
/-! java/util/AbstractCollection <init> ()V -/
noncomputable def pm_J0_init (a0 : Option Nat) : km_M Unit :=
km_bind (km_nn a0) fun _ =>
km_pure ()

/-! java/util/AbstractList <init> ()V -/
noncomputable def pm_J1_init (a0 : Option Nat) : km_M Unit :=
km_bind (km_nn a0) fun _ => km_bind (pm_J0_init a0) fun _ =>
km_bind (km_pI .int [(30, 0)] a0 (0 : Int32)) fun _ =>
km_pure ()

/-! java/util/ArrayList <init> ()V -/
noncomputable def pm_J2_init (a0 : Option Nat) : km_M Unit :=
km_bind (km_nn a0) fun _ => km_bind (pm_J1_init a0) fun _ =>
km_bind (km_k 0) fun r1 =>
km_bind (km_pR [(30, 1)] a0 r1) fun _ =>
km_pure ()

/-! RosaryCarvers$Beads <init> ()V -/
noncomputable def pm_X2_init (a0 : Option Nat) : km_M Unit :=
km_bind (km_nn a0) fun _ =>
km_bind (km_new 30 3 kz_AL) fun r1 =>
km_bind (km_nn r1) fun _ => km_bind (pm_J2_init r1) fun _ =>
km_bind (km_pR [(2, 0), (7, 0), (12, 0)] a0 r1) fun _ =>
km_pure ()

/-! java/util/BitSet wordIndex (I)I -/
noncomputable def pm_J3_wordIndex (a0 : Int32) : km_M Int32 :=
km_pure (a0 >>> ((6 : Int32) &&& 31))

/-! java/util/BitSet initWords (I)V -/
noncomputable def pm_J3_initWords (a0 : Option Nat) (a1 : Int32) : km_M Unit :=
km_bind (pm_J3_wordIndex (a1 - (1 : Int32))) fun i1 =>
km_bind (km_nJ (i1 + (1 : Int32))) fun r2 =>
km_bind (km_pR [(31, 0)] a0 r2) fun _ =>
km_pure ()

/-! java/util/BitSet <init> ()V -/
noncomputable def pm_J3_init (a0 : Option Nat) : km_M Unit :=
km_bind (km_nn a0) fun _ =>
km_bind (km_pI .int [(31, 1)] a0 (0 : Int32)) fun _ =>
km_bind (km_pI .boolean [(31, 2)] a0 (0 : Int32)) fun _ =>
km_bind (km_is 31 a0) fun _ => km_bind (pm_J3_initWords a0 (64 : Int32)) fun _ =>
km_bind (km_pI .boolean [(31, 2)] a0 (0 : Int32)) fun _ =>
km_pure ()

/-! RosaryCarvers$Shop <init> ()V -/
noncomputable def pm_X1_init (a0 : Option Nat) : km_M Unit :=
km_bind (km_nn a0) fun _ =>
km_bind (km_new 30 3 kz_AL) fun r1 =>
km_bind (km_nn r1) fun _ => km_bind (pm_J2_init r1) fun _ =>
km_bind (km_pR [(1, 0)] a0 r1) fun _ =>
km_bind (km_new 30 3 kz_AL) fun r3 =>
km_bind (km_nn r3) fun _ => km_bind (pm_J2_init r3) fun _ =>
km_bind (km_pR [(1, 1)] a0 r3) fun _ =>
km_bind (km_new 2 1 kz_Beads) fun r5 =>
km_bind (km_nn r5) fun _ => km_bind (pm_X2_init r5) fun _ =>
km_bind (km_pR [(1, 2)] a0 r5) fun _ =>
km_bind (km_new 30 3 kz_AL) fun r7 =>
km_bind (km_nn r7) fun _ => km_bind (pm_J2_init r7) fun _ =>
km_bind (km_pR [(1, 3)] a0 r7) fun _ =>
km_bind (km_new 30 3 kz_AL) fun r9 =>
km_bind (km_nn r9) fun _ => km_bind (pm_J2_init r9) fun _ =>
km_bind (km_pR [(1, 4)] a0 r9) fun _ =>
km_bind (km_new 30 3 kz_AL) fun r11 =>
km_bind (km_nn r11) fun _ => km_bind (pm_J2_init r11) fun _ =>
km_bind (km_pR [(1, 5)] a0 r11) fun _ =>
km_bind (km_new 30 3 kz_AL) fun r13 =>
km_bind (km_nn r13) fun _ => km_bind (pm_J2_init r13) fun _ =>
km_bind (km_pR [(1, 6)] a0 r13) fun _ =>
km_bind (km_new 31 3 kz_BS) fun r15 =>
km_bind (km_nn r15) fun _ => km_bind (pm_J3_init r15) fun _ =>
km_bind (km_pR [(1, 7)] a0 r15) fun _ =>
km_pure ()

/-! java/util/ArrayDeque <init> ()V -/
noncomputable def pm_J4_init (a0 : Option Nat) : km_M Unit :=
km_bind (km_nn a0) fun _ => km_bind (pm_J0_init a0) fun _ =>
km_bind (km_nR 4 (17 : Int32)) fun r1 =>
km_bind (km_pR [(32, 0)] a0 r1) fun _ =>
km_pure ()

/-! RosaryCarvers <init> ()V -/
noncomputable def pm_X0_init (a0 : Option Nat) : km_M Unit :=
km_bind (km_nn a0) fun _ =>
km_bind (km_new 1 17 kz_Shop) fun r1 =>
km_bind (km_nn r1) fun _ => km_bind (pm_X1_init r1) fun _ =>
km_bind (km_pR [(0, 0)] a0 r1) fun _ =>
km_bind (km_new 32 3 kz_AD) fun r3 =>
km_bind (km_nn r3) fun _ => km_bind (pm_J4_init r3) fun _ =>
km_bind (km_pR [(0, 2)] a0 r3) fun _ =>
km_bind (km_k 10) fun r5 =>
km_bind (km_pR [(0, 4)] a0 r5) fun _ =>
km_bind (km_nI 1 (60 : Int32)) fun r7 =>
km_bind (km_pR [(0, 5)] a0 r7) fun _ =>
km_bind (km_pI .int [(0, 7)] a0 (-1 : Int32)) fun _ =>
km_pure ()

/-! RosaryCarversModel <init> ()V -/
noncomputable def pm_X3_init (a0 : Option Nat) : km_M Unit :=
km_bind (km_nn a0) fun _ =>
km_bind (km_nI 0 (2188 : Int32)) fun r1 =>
km_bind (km_pR [(3, 0)] a0 r1) fun _ =>
km_bind (km_nI 0 (2188 : Int32)) fun r3 =>
km_bind (km_pR [(3, 1)] a0 r3) fun _ =>
km_bind (km_nI 0 (2188 : Int32)) fun r5 =>
km_bind (km_pR [(3, 2)] a0 r5) fun _ =>
km_bind (km_nI 0 (17504 : Int32)) fun r7 =>
km_bind (km_pR [(3, 3)] a0 r7) fun _ =>
km_bind (km_nI 0 (3 : Int32)) fun r9 =>
km_bind (km_pR [(3, 6)] a0 r9) fun _ =>
km_bind (km_nI 0 (3 : Int32)) fun r11 =>
km_bind (km_pR [(3, 7)] a0 r11) fun _ =>
km_bind (km_nI 0 (80 : Int32)) fun r13 =>
km_bind (km_pR [(3, 8)] a0 r13) fun _ =>
km_bind (km_nR 5 (8 : Int32)) fun r15 =>
km_bind (km_k 19) fun r16 =>
km_bind (km_stR kn_String r15 (0 : Int32) r16) fun _ =>
km_bind (km_k 22) fun r18 =>
km_bind (km_stR kn_String r15 (1 : Int32) r18) fun _ =>
km_bind (km_k 12) fun r20 =>
km_bind (km_stR kn_String r15 (2 : Int32) r20) fun _ =>
km_bind (km_k 24) fun r22 =>
km_bind (km_stR kn_String r15 (3 : Int32) r22) fun _ =>
km_bind (km_k 17) fun r24 =>
km_bind (km_stR kn_String r15 (4 : Int32) r24) fun _ =>
km_bind (km_k 14) fun r26 =>
km_bind (km_stR kn_String r15 (5 : Int32) r26) fun _ =>
km_bind (km_k 20) fun r28 =>
km_bind (km_stR kn_String r15 (6 : Int32) r28) fun _ =>
km_bind (km_k 26) fun r30 =>
km_bind (km_stR kn_String r15 (7 : Int32) r30) fun _ =>
km_bind (km_pR [(3, 10)] a0 r15) fun _ =>
km_bind (km_nI 0 (60 : Int32)) fun r33 =>
km_bind (km_pR [(3, 11)] a0 r33) fun _ =>
km_bind (km_nI 0 (63 : Int32)) fun r35 =>
km_bind (km_pR [(3, 12)] a0 r35) fun _ =>
km_bind (km_pI .int [(3, 17)] a0 (-1 : Int32)) fun _ =>
km_pure ()

/-! RosaryCarvers in (III)Z -/
noncomputable def pm_X0_in (a0 : Int32) (a1 : Int32) (a2 : Int32) : km_M Int32 :=
if a0 < a1 then
(km_bind (km_ret .boolean (0 : Int32)) (fun v => km_pure v))
else
(if a2 < a0 then
(km_bind (km_ret .boolean (0 : Int32)) (fun v => km_pure v))
else
(km_bind (km_ret .boolean (1 : Int32)) (fun v => km_pure v)))

/-! RosaryCarvers$Deed <init> (LRosaryCarvers;)V -/
noncomputable def pm_X4_init (a0 : Option Nat) (a1 : Option Nat) : km_M Unit :=
km_bind (km_pR [(4, 0), (15, 0), (16, 0), (17, 0), (18, 0), (19, 0), (20, 0), (21, 0), (22, 0), (23, 0), (24, 0), (25, 0), (29, 0)] a0 a1) fun _ =>
km_bind (km_nn a0) fun _ =>
km_pure ()

/-! RosaryCarvers$1 <init> (LRosaryCarvers;I)V -/
noncomputable def pm_X5_init (a0 : Option Nat) (a1 : Option Nat) (a2 : Int32) : km_M Unit :=
km_bind (km_pR [(4, 2)] a0 a1) fun _ =>
km_bind (km_pI .int [(4, 1)] a0 a2) fun _ =>
km_bind (km_nn a0) fun _ => km_bind (pm_X4_init a0 a1) fun _ =>
km_pure ()

/-! java/util/ArrayList$Itr <init> (Ljava/util/ArrayList;)V -/
noncomputable def pm_J5_init (a0 : Option Nat) (a1 : Option Nat) : km_M Unit :=
km_bind (km_pR [(33, 3)] a0 a1) fun _ =>
km_bind (km_nn a0) fun _ =>
km_bind (km_pI .int [(33, 1)] a0 (-1 : Int32)) fun _ =>
km_bind (km_gR [(33, 3)] a0) fun r3 =>
km_bind (km_gI [(30, 0)] r3) fun i4 =>
km_bind (km_pI .int [(33, 2)] a0 i4) fun _ =>
km_pure ()

/-! java/util/ArrayList iterator ()Ljava/util/Iterator; -/
noncomputable def pm_J2_iterator (a0 : Option Nat) : km_M (Option Nat) :=
km_bind (km_new 33 4 kz_Itr) fun r1 =>
km_bind (km_nn r1) fun _ => km_bind (pm_J5_init r1 a0) fun _ =>
km_pure r1

/-! java/util/ArrayList size ()I -/
noncomputable def pm_J2_size (a0 : Option Nat) : km_M Int32 :=
km_bind (km_gI [(30, 2)] a0) fun i1 =>
km_pure i1

/-! RosaryCarvers$Beads$1OfKind hasNext ()Z -/
noncomputable def pm_X12_hasNext (a0 : Option Nat) : km_M Int32 :=
km_bind (km_gI [(11, 0)] a0) fun i1 =>
km_bind (km_gR [(11, 2)] a0) fun r2 =>
km_bind (km_gR [(2, 0), (7, 0), (12, 0)] r2) fun r3 =>
km_bind (km_is 30 r3) fun _ => km_bind (pm_J2_size r3) fun i4 =>
if i4 ≤ i1 then
(km_bind (km_ret .boolean (0 : Int32)) (fun v => km_pure v))
else
(km_bind (km_ret .boolean (1 : Int32)) (fun v => km_pure v))

/-! java/util/ArrayList$Itr hasNext ()Z -/
noncomputable def pm_J5_hasNext (a0 : Option Nat) : km_M Int32 :=
km_bind (km_gI [(33, 0)] a0) fun i1 =>
km_bind (km_gR [(33, 3)] a0) fun r2 =>
km_bind (km_gI [(30, 2)] r2) fun i3 =>
if i1 = i3 then
(km_bind (km_ret .boolean (0 : Int32)) (fun v => km_pure v))
else
(km_bind (km_ret .boolean (1 : Int32)) (fun v => km_pure v))

/-! java/util/ArrayDeque$DeqIterator hasNext ()Z -/
noncomputable def pm_J15_hasNext (a0 : Option Nat) : km_M Int32 :=
km_bind (km_gI [(34, 1)] a0) fun i1 =>
if i1 ≤ 0 then
(km_bind (km_ret .boolean (0 : Int32)) (fun v => km_pure v))
else
(km_bind (km_ret .boolean (1 : Int32)) (fun v => km_pure v))

/-! jdk/internal/util/Preconditions checkIndex (IILjava/util/function/BiFunction;)I -/
noncomputable def pm_J11_checkIndex (a0 : Int32) (a1 : Int32) (a2 : Option Nat) : km_M Int32 :=
if a0 < 0 then
(km_fail)
else
(if a0 < a1 then
(km_pure a0)
else
(km_fail))

/-! java/util/Objects checkIndex (II)I -/
noncomputable def pm_J10_checkIndex (a0 : Int32) (a1 : Int32) : km_M Int32 :=
km_bind (pm_J11_checkIndex a0 a1 none) fun i1 =>
km_pure i1

/-! java/util/ArrayList elementData (I)Ljava/lang/Object; -/
noncomputable def pm_J2_elementData (a0 : Option Nat) (a1 : Int32) : km_M (Option Nat) :=
km_bind (km_gR [(30, 1)] a0) fun r1 =>
km_bind (km_ldR r1 a1) fun r2 =>
km_pure r2

/-! java/util/ArrayList get (I)Ljava/lang/Object; -/
noncomputable def pm_J2_get (a0 : Option Nat) (a1 : Int32) : km_M (Option Nat) :=
km_bind (km_gI [(30, 2)] a0) fun i1 =>
km_bind (pm_J10_checkIndex a1 i1) fun i2 =>
km_bind (km_is 30 a0) fun _ => km_bind (pm_J2_elementData a0 a1) fun r3 =>
km_pure r3

/-! RosaryCarvers$Beads$1OfKind next (I)I -/
noncomputable def pb_X12_next_3_2  : Nat → Option Nat → Int32 → km_M Int32
| 0, _, _ => km_fail
| n + 1, x0, x2 =>
km_bind (km_gR [(11, 2)] x0) fun r1 =>
km_bind (km_gR [(2, 0), (7, 0), (12, 0)] r1) fun r2 =>
km_bind (km_is 30 r2) fun _ => km_bind (pm_J2_size r2) fun i3 =>
if i3 ≤ x2 then
(km_pure x2)
else
(km_bind (km_gR [(11, 2)] x0) fun r4 =>
km_bind (km_gR [(2, 0), (7, 0), (12, 0)] r4) fun r5 =>
km_bind (km_is 30 r5) fun _ => km_bind (pm_J2_get r5 x2) fun r6 =>
km_bind (km_cast [14] r6) fun _ =>
km_bind (km_gI [(14, 1)] r6) fun i7 =>
km_bind (km_gI [(11, 1)] x0) fun i8 =>
if i7 = i8 then
(km_pure x2)
else
(pb_X12_next_3_2 n x0 (x2 + (1 : Int32))))
noncomputable def pm_X12_next_3 (a0 : Option Nat) (a1 : Int32) : km_M Int32 :=
pb_X12_next_3_2 km_fuel a0 a1

/-! RosaryCarvers$Beads$1OfKind next ()LRosaryCarvers$Bead; -/
noncomputable def pm_X12_next_2 (a0 : Option Nat) : km_M (Option Nat) :=
km_bind (km_is 11 a0) fun _ => km_bind (pm_X12_hasNext a0) fun i1 =>
if ¬ i1 = 0 then
(km_bind (km_gR [(11, 2)] a0) fun r2 =>
km_bind (km_gR [(2, 0), (7, 0), (12, 0)] r2) fun r3 =>
km_bind (km_gI [(11, 0)] a0) fun i4 =>
km_bind (km_is 30 r3) fun _ => km_bind (pm_J2_get r3 i4) fun r5 =>
km_bind (km_cast [14] r5) fun _ =>
km_bind (km_gI [(11, 0)] a0) fun i6 =>
km_bind (km_is 11 a0) fun _ => km_bind (pm_X12_next_3 a0 (i6 + (1 : Int32))) fun i7 =>
km_bind (km_pI .int [(11, 0)] a0 i7) fun _ =>
km_pure r5)
else
(km_fail)

/-! RosaryCarvers$Beads$1OfKind next ()Ljava/lang/Object; -/
noncomputable def pm_X12_next (a0 : Option Nat) : km_M (Option Nat) :=
km_bind (km_is 11 a0) fun _ => km_bind (pm_X12_next_2 a0) fun r1 =>
km_pure r1

/-! java/util/ArrayList$Itr checkForComodification ()V -/
noncomputable def pm_J5_checkForComodification (a0 : Option Nat) : km_M Unit :=
km_bind (km_gR [(33, 3)] a0) fun r1 =>
km_bind (km_gI [(30, 0)] r1) fun i2 =>
km_bind (km_gI [(33, 2)] a0) fun i3 =>
if i2 = i3 then
(km_pure ())
else
(km_fail)

/-! java/util/ArrayList$Itr next ()Ljava/lang/Object; -/
noncomputable def pm_J5_next (a0 : Option Nat) : km_M (Option Nat) :=
km_bind (km_is 33 a0) fun _ => km_bind (pm_J5_checkForComodification a0) fun _ =>
km_bind (km_gI [(33, 0)] a0) fun i1 =>
km_bind (km_gR [(33, 3)] a0) fun r2 =>
km_bind (km_gI [(30, 2)] r2) fun i3 =>
if i1 < i3 then
(km_bind (km_gR [(33, 3)] a0) fun r4 =>
km_bind (km_gR [(30, 1)] r4) fun r5 =>
km_bind (km_len r5) fun i6 =>
if i1 < i6 then
(km_bind (km_pI .int [(33, 0)] a0 (i1 + (1 : Int32))) fun _ =>
km_bind (km_pI .int [(33, 1)] a0 i1) fun _ =>
km_bind (km_ldR r5 i1) fun r9 =>
km_pure r9)
else
(km_fail))
else
(km_fail)

/-! java/util/ArrayDeque nonNullElementAt ([Ljava/lang/Object;I)Ljava/lang/Object; -/
noncomputable def pm_J4_nonNullElementAt (a0 : Option Nat) (a1 : Int32) : km_M (Option Nat) :=
km_bind (km_ldR a0 a1) fun r1 =>
if r1 = none then
(km_fail)
else
(km_pure r1)

/-! java/util/ArrayDeque inc (II)I -/
noncomputable def pm_J4_inc (a0 : Int32) (a1 : Int32) : km_M Int32 :=
if (a0 + (1 : Int32)) < a1 then
(km_pure (a0 + (1 : Int32)))
else
(km_pure (0 : Int32))

/-! java/util/ArrayDeque$DeqIterator next ()Ljava/lang/Object; -/
noncomputable def pm_J15_next (a0 : Option Nat) : km_M (Option Nat) :=
km_bind (km_gI [(34, 1)] a0) fun i1 =>
if 0 < i1 then
(km_bind (km_gR [(34, 3)] a0) fun r2 =>
km_bind (km_gR [(32, 0)] r2) fun r3 =>
km_bind (km_gI [(34, 0)] a0) fun i4 =>
km_bind (pm_J4_nonNullElementAt r3 i4) fun r5 =>
km_bind (km_gI [(34, 0)] a0) fun i6 =>
km_bind (km_pI .int [(34, 2)] a0 i6) fun _ =>
km_bind (km_len r3) fun i8 =>
km_bind (pm_J4_inc i6 i8) fun i9 =>
km_bind (km_pI .int [(34, 0)] a0 i9) fun _ =>
km_bind (km_gI [(34, 1)] a0) fun i11 =>
km_bind (km_pI .int [(34, 1)] a0 (i11 - (1 : Int32))) fun _ =>
km_pure r5)
else
(km_fail)

/-! RosaryCarvers$Carver <init> (I)V -/
noncomputable def pm_X6_init_2 (a0 : Option Nat) (a1 : Int32) : km_M Unit :=
km_bind (km_nn a0) fun _ =>
km_bind (km_pI .int [(5, 0)] a0 a1) fun _ =>
km_pure ()

/-! RosaryCarvers$Carver <init> (LRosaryCarvers$Carver;)V -/
noncomputable def pm_X6_init (a0 : Option Nat) (a1 : Option Nat) : km_M Unit :=
km_bind (km_gI [(5, 0)] a1) fun i1 =>
km_bind (km_nn a0) fun _ => km_bind (pm_X6_init_2 a0 i1) fun _ =>
km_bind (km_gI [(5, 1)] a1) fun i2 =>
km_bind (km_pI .int [(5, 1)] a0 i2) fun _ =>
km_bind (km_gI [(5, 2)] a1) fun i4 =>
km_bind (km_pI .int [(5, 2)] a0 i4) fun _ =>
km_bind (km_gI [(5, 3)] a1) fun i6 =>
km_bind (km_pI .int [(5, 3)] a0 i6) fun _ =>
km_pure ()

/-! jdk/internal/util/ArraysSupport newLength (III)I -/
noncomputable def pm_J12_newLength (a0 : Int32) (a1 : Int32) (a2 : Int32) : km_M Int32 :=
if (a0 + (km_max a1 a2)) ≤ (0 : Int32) then
(km_fail)
else
(if (2147483639 : Int32) < (a0 + (km_max a1 a2)) then
(km_fail)
else
(km_pure (a0 + (km_max a1 a2))))

/-! java/util/Arrays copyOf ([Ljava/lang/Object;ILjava/lang/Class;)[Ljava/lang/Object; -/
noncomputable def pm_J14_copyOf_2 (a0 : Option Nat) (a1 : Int32) (a2 : Option Nat) : km_M (Option Nat) :=
km_bind (km_k 1) fun r1 =>
if ¬ a2 = r1 then
(km_fail)
else
(km_bind (km_nR 4 a1) fun r2 =>
km_bind (km_len a0) fun i3 =>
km_bind (km_cp a0 (0 : Int32) r2 (0 : Int32) (km_min i3 a1)) fun _ =>
km_pure r2)

/-! java/util/Arrays copyOf ([Ljava/lang/Object;I)[Ljava/lang/Object; -/
noncomputable def pm_J14_copyOf (a0 : Option Nat) (a1 : Int32) : km_M (Option Nat) :=
km_bind (km_getC a0) fun r1 =>
km_bind (pm_J14_copyOf_2 a0 a1 r1) fun r2 =>
km_pure r2

/-! java/util/ArrayList grow (I)[Ljava/lang/Object; -/
noncomputable def pb_J2_grow_2_20  (x0 : Option Nat) (x1 : Int32) (x2 : Int32) : km_M (Option Nat) :=
km_bind (pm_J12_newLength x2 (x1 - x2) (x2 >>> ((1 : Int32) &&& 31))) fun i1 =>
km_bind (km_gR [(30, 1)] x0) fun r2 =>
km_bind (pm_J14_copyOf r2 i1) fun r3 =>
km_bind (km_pR [(30, 1)] x0 r3) fun _ =>
km_pure r3
noncomputable def pm_J2_grow_2 (a0 : Option Nat) (a1 : Int32) : km_M (Option Nat) :=
km_bind (km_gR [(30, 1)] a0) fun r1 =>
km_bind (km_len r1) fun i2 =>
if 0 < i2 then
(pb_J2_grow_2_20 a0 a1 i2)
else
(km_bind (km_gR [(30, 1)] a0) fun r3 =>
km_bind (km_k 0) fun r4 =>
if r3 = r4 then
(km_bind (km_nR 4 (km_max (10 : Int32) a1)) fun r5 =>
km_bind (km_pR [(30, 1)] a0 r5) fun _ =>
km_pure r5)
else
(pb_J2_grow_2_20 a0 a1 i2))

/-! java/util/ArrayList grow ()[Ljava/lang/Object; -/
noncomputable def pm_J2_grow (a0 : Option Nat) : km_M (Option Nat) :=
km_bind (km_gI [(30, 2)] a0) fun i1 =>
km_bind (km_is 30 a0) fun _ => km_bind (pm_J2_grow_2 a0 (i1 + (1 : Int32))) fun r2 =>
km_pure r2

/-! java/util/ArrayList add (Ljava/lang/Object;[Ljava/lang/Object;I)V -/
noncomputable def pb_J2_add_2_11  (x0 : Option Nat) (x1 : Option Nat) (x2 : Option Nat) (x3 : Int32) : km_M Unit :=
km_bind (km_stR kn_String x2 x3 x1) fun _ =>
km_bind (km_pI .int [(30, 2)] x0 (x3 + (1 : Int32))) fun _ =>
km_pure ()
noncomputable def pm_J2_add_2 (a0 : Option Nat) (a1 : Option Nat) (a2 : Option Nat) (a3 : Int32) : km_M Unit :=
km_bind (km_len a2) fun i1 =>
if ¬ a3 = i1 then
(pb_J2_add_2_11 a0 a1 a2 a3)
else
(km_bind (km_is 30 a0) fun _ => km_bind (pm_J2_grow a0) fun r2 =>
pb_J2_add_2_11 a0 a1 r2 a3)

/-! java/util/ArrayList add (Ljava/lang/Object;)Z -/
noncomputable def pm_J2_add (a0 : Option Nat) (a1 : Option Nat) : km_M Int32 :=
km_bind (km_gI [(30, 0)] a0) fun i1 =>
km_bind (km_pI .int [(30, 0)] a0 (i1 + (1 : Int32))) fun _ =>
km_bind (km_gR [(30, 1)] a0) fun r3 =>
km_bind (km_gI [(30, 2)] a0) fun i4 =>
km_bind (km_is 30 a0) fun _ => km_bind (pm_J2_add_2 a0 a1 r3 i4) fun _ =>
km_bind (km_ret .boolean (1 : Int32)) (fun v => km_pure v)

/-! RosaryCarvers$Lens <init> (I)V -/
noncomputable def pm_X7_init_2 (a0 : Option Nat) (a1 : Int32) : km_M Unit :=
km_bind (km_nn a0) fun _ =>
km_bind (km_pI .int [(6, 1)] a0 (-1 : Int32)) fun _ =>
km_bind (km_pI .int [(6, 0)] a0 a1) fun _ =>
km_pure ()

/-! RosaryCarvers$Lens <init> (LRosaryCarvers$Lens;)V -/
noncomputable def pm_X7_init (a0 : Option Nat) (a1 : Option Nat) : km_M Unit :=
km_bind (km_gI [(6, 0)] a1) fun i1 =>
km_bind (km_nn a0) fun _ => km_bind (pm_X7_init_2 a0 i1) fun _ =>
km_bind (km_gI [(6, 1)] a1) fun i2 =>
km_bind (km_pI .int [(6, 1)] a0 i2) fun _ =>
km_pure ()

/-! java/util/ArrayList toArray ()[Ljava/lang/Object; -/
noncomputable def pm_J2_toArray (a0 : Option Nat) : km_M (Option Nat) :=
km_bind (km_gR [(30, 1)] a0) fun r1 =>
km_bind (km_gI [(30, 2)] a0) fun i2 =>
km_bind (pm_J14_copyOf r1 i2) fun r3 =>
km_pure r3

/-! java/util/Arrays copyOfRange ([Ljava/lang/Object;IILjava/lang/Class;)[Ljava/lang/Object; -/
noncomputable def pm_J14_copyOfRange (a0 : Option Nat) (a1 : Int32) (a2 : Int32) (a3 : Option Nat) : km_M (Option Nat) :=
if 0 ≤ (a2 - a1) then
(km_bind (km_k 1) fun r1 =>
if ¬ a3 = r1 then
(km_fail)
else
(km_bind (km_nR 4 (a2 - a1)) fun r2 =>
km_bind (km_len a0) fun i3 =>
km_bind (km_cp a0 a1 r2 (0 : Int32) (km_min (i3 - a1) (a2 - a1))) fun _ =>
km_pure r2))
else
(km_fail)

/-! java/util/ArrayDeque toArray (Ljava/lang/Class;)[Ljava/lang/Object; -/
noncomputable def pb_J4_toArray_2_77  (x2 : Option Nat) (x3 : Option Nat) (x4 : Int32) (x5 : Int32) (x6 : Int32) : km_M (Option Nat) :=
if x6 = x5 then
(km_pure x3)
else
(km_bind (km_len x2) fun i1 =>
km_bind (km_cp x2 (0 : Int32) x3 (i1 - x4) x5) fun _ =>
km_pure x3)
noncomputable def pb_J4_toArray_2_32  (x1 : Option Nat) (x2 : Option Nat) (x4 : Int32) (x5 : Int32) (s0 : Int32) (s1 : Int32) : km_M (Option Nat) :=
if (s1 + s0) < 0 then
(km_bind (pm_J14_copyOfRange x2 (0 : Int32) ((s1 + s0) - x4) x1) fun r1 =>
km_bind (km_len x2) fun i2 =>
km_bind (km_cp x2 x4 r1 (0 : Int32) (i2 - x4)) fun _ =>
pb_J4_toArray_2_77 x2 r1 x4 x5 (s1 + s0))
else
(km_bind (pm_J14_copyOfRange x2 x4 (s1 + s0) x1) fun r3 =>
pb_J4_toArray_2_77 x2 r3 x4 x5 (s1 + s0))
noncomputable def pm_J4_toArray_2 (a0 : Option Nat) (a1 : Option Nat) : km_M (Option Nat) :=
km_bind (km_gR [(32, 0)] a0) fun r1 =>
km_bind (km_gI [(32, 1)] a0) fun i2 =>
km_bind (km_gI [(32, 2)] a0) fun i3 =>
if i3 < i2 then
(km_bind (km_len r1) fun i4 =>
pb_J4_toArray_2_32 a1 r1 i2 i3 i4 i3)
else
(pb_J4_toArray_2_32 a1 r1 i2 i3 (0 : Int32) i3)

/-! java/util/ArrayDeque toArray ()[Ljava/lang/Object; -/
noncomputable def pm_J4_toArray (a0 : Option Nat) : km_M (Option Nat) :=
km_bind (km_k 1) fun r1 =>
km_bind (km_is 32 a0) fun _ => km_bind (pm_J4_toArray_2 a0 r1) fun r2 =>
km_pure r2

/-! java/util/ArrayList addAll (Ljava/util/Collection;)Z -/
noncomputable def pb_J2_addAll_56  (x0 : Option Nat) (x2 : Option Nat) (x3 : Int32) (x4 : Option Nat) (x5 : Int32) : km_M Int32 :=
km_bind (km_cp x2 (0 : Int32) x4 x5 x3) fun _ =>
km_bind (km_pI .int [(30, 2)] x0 (x5 + x3)) fun _ =>
km_bind (km_ret .boolean (1 : Int32)) (fun v => km_pure v)
noncomputable def pm_J2_addAll (a0 : Option Nat) (a1 : Option Nat) : km_M Int32 :=
km_bind (km_disp a1 [(30, pm_J2_toArray a1), (32, pm_J4_toArray a1)]) fun r1 =>
km_bind (km_gI [(30, 0)] a0) fun i2 =>
km_bind (km_pI .int [(30, 0)] a0 (i2 + (1 : Int32))) fun _ =>
km_bind (km_len r1) fun i4 =>
if ¬ i4 = 0 then
(km_bind (km_gR [(30, 1)] a0) fun r5 =>
km_bind (km_len r5) fun i6 =>
km_bind (km_gI [(30, 2)] a0) fun i7 =>
if i4 ≤ (i6 - i7) then
(pb_J2_addAll_56 a0 r1 i4 r5 i7)
else
(km_bind (km_is 30 a0) fun _ => km_bind (pm_J2_grow_2 a0 (i7 + i4)) fun r8 =>
pb_J2_addAll_56 a0 r1 i4 r8 i7))
else
(km_bind (km_ret .boolean (0 : Int32)) (fun v => km_pure v))

/-! RosaryCarvers$Beads becomes (LRosaryCarvers$Beads;)V -/
noncomputable def pm_X2_becomes (a0 : Option Nat) (a1 : Option Nat) : km_M Unit :=
km_bind (km_gR [(2, 0), (7, 0), (12, 0)] a0) fun r1 =>
km_bind (km_gR [(2, 0), (7, 0), (12, 0)] a1) fun r2 =>
km_bind (km_is 30 r1) fun _ => km_bind (pm_J2_addAll r1 r2) fun i3 =>
km_pure ()

/-! RosaryCarvers$Rosary <init> (II)V -/
noncomputable def pm_X8_init_2 (a0 : Option Nat) (a1 : Int32) (a2 : Int32) : km_M Unit :=
km_bind (km_nn a0) fun _ => km_bind (pm_X2_init a0) fun _ =>
km_bind (km_pI .int [(7, 1)] a0 a1) fun _ =>
km_bind (km_pI .int [(7, 2)] a0 a2) fun _ =>
km_pure ()

/-! RosaryCarvers$Rosary <init> (LRosaryCarvers$Rosary;)V -/
noncomputable def pm_X8_init (a0 : Option Nat) (a1 : Option Nat) : km_M Unit :=
km_bind (km_gI [(7, 1)] a1) fun i1 =>
km_bind (km_gI [(7, 2)] a1) fun i2 =>
km_bind (km_nn a0) fun _ => km_bind (pm_X8_init_2 a0 i1 i2) fun _ =>
km_bind (km_gI [(7, 3)] a1) fun i3 =>
km_bind (km_pI .int [(7, 3)] a0 i3) fun _ =>
km_bind (km_is 7 a0) fun _ => km_bind (pm_X2_becomes a0 a1) fun _ =>
km_pure ()

/-! java/util/Arrays copyOf ([JI)[J -/
noncomputable def pm_J14_copyOf_3 (a0 : Option Nat) (a1 : Int32) : km_M (Option Nat) :=
km_bind (km_len a0) fun i1 =>
if ¬ a1 = i1 then
(km_bind (km_nJ a1) fun r2 =>
km_bind (km_len a0) fun i3 =>
km_bind (km_cp a0 (0 : Int32) r2 (0 : Int32) (km_min i3 a1)) fun _ =>
km_pure r2)
else
(km_fail)

/-! java/util/BitSet ensureCapacity (I)V -/
noncomputable def pm_J3_ensureCapacity (a0 : Option Nat) (a1 : Int32) : km_M Unit :=
km_bind (km_gR [(31, 0)] a0) fun r1 =>
km_bind (km_len r1) fun i2 =>
if a1 ≤ i2 then
(km_pure ())
else
(km_bind (km_gR [(31, 0)] a0) fun r3 =>
km_bind (km_len r3) fun i4 =>
km_bind (km_gR [(31, 0)] a0) fun r5 =>
km_bind (pm_J14_copyOf_3 r5 (km_max ((2 : Int32) * i4) a1)) fun r6 =>
km_bind (km_pR [(31, 0)] a0 r6) fun _ =>
km_bind (km_pI .boolean [(31, 2)] a0 (0 : Int32)) fun _ =>
km_pure ())

/-! java/util/BitSet checkInvariants ()V -/
noncomputable def pb_J3_checkInvariants_70  (x0 : Option Nat) : km_M Unit :=
if ¬ (1 : Int32) = 0 then
(km_pure ())
else
(km_fail)
noncomputable def pb_J3_checkInvariants_37  (x0 : Option Nat) : km_M Unit :=
if ¬ (1 : Int32) = 0 then
(pb_J3_checkInvariants_70 x0)
else
(km_fail)
noncomputable def pm_J3_checkInvariants (a0 : Option Nat) : km_M Unit :=
if ¬ (1 : Int32) = 0 then
(pb_J3_checkInvariants_37 a0)
else
(km_fail)

/-! java/util/BitSet or (Ljava/util/BitSet;)V -/
noncomputable def pb_J3_or_100  (x0 : Option Nat) : km_M Unit :=
km_bind (km_is 31 x0) fun _ => km_bind (pm_J3_checkInvariants x0) fun _ =>
km_pure ()
noncomputable def pb_J3_or_47  : Nat → Option Nat → Option Nat → Int32 → Int32 → km_M Unit
| 0, _, _, _, _ => km_fail
| n + 1, x0, x1, x2, x3 =>
if x2 ≤ x3 then
(km_bind (km_gI [(31, 1)] x1) fun i1 =>
if i1 ≤ x2 then
(pb_J3_or_100 x0)
else
(km_bind (km_gR [(31, 0)] x1) fun r2 =>
km_bind (km_gR [(31, 0)] x0) fun r3 =>
km_bind (km_gI [(31, 1)] x0) fun i4 =>
km_bind (km_cp r2 x2 r3 x2 (i4 - x2)) fun _ =>
pb_J3_or_100 x0))
else
(km_bind (km_gR [(31, 0)] x0) fun r5 =>
km_bind (km_ldJ r5 x3) fun j6 =>
km_bind (km_gR [(31, 0)] x1) fun r7 =>
km_bind (km_ldJ r7 x3) fun j8 =>
km_bind (km_stJ r5 x3 (j6 ||| j8)) fun _ =>
pb_J3_or_47 n x0 x1 x2 (x3 + (1 : Int32)))
noncomputable def pb_J3_or_45  (x0 : Option Nat) (x1 : Option Nat) (x2 : Int32) : km_M Unit :=
pb_J3_or_47 km_fuel x0 x1 x2 (0 : Int32)
noncomputable def pm_J3_or (a0 : Option Nat) (a1 : Option Nat) : km_M Unit :=
if ¬ a0 = a1 then
(km_bind (km_gI [(31, 1)] a0) fun i1 =>
km_bind (km_gI [(31, 1)] a1) fun i2 =>
km_bind (km_gI [(31, 1)] a0) fun i3 =>
km_bind (km_gI [(31, 1)] a1) fun i4 =>
if i4 ≤ i3 then
(pb_J3_or_45 a0 a1 (km_min i1 i2))
else
(km_bind (km_gI [(31, 1)] a1) fun i5 =>
km_bind (km_is 31 a0) fun _ => km_bind (pm_J3_ensureCapacity a0 i5) fun _ =>
km_bind (km_gI [(31, 1)] a1) fun i6 =>
km_bind (km_pI .int [(31, 1)] a0 i6) fun _ =>
pb_J3_or_45 a0 a1 (km_min i1 i2)))
else
(km_pure ())

/-! RosaryCarvers$Shop <init> (LRosaryCarvers$Shop;)V -/
noncomputable def pb_X1_init_2_203  : Nat → Option Nat → Option Nat → Option Nat → km_M Unit
| 0, _, _, _ => km_fail
| n + 1, x0, x1, x2 =>
km_bind (km_disp x2 [(11, pm_X12_hasNext x2), (33, pm_J5_hasNext x2), (34, pm_J15_hasNext x2)]) fun i1 =>
if i1 = 0 then
(km_bind (km_gR [(1, 4)] x0) fun r2 =>
km_bind (km_gR [(1, 4)] x1) fun r3 =>
km_bind (km_is 30 r2) fun _ => km_bind (pm_J2_addAll r2 r3) fun i4 =>
km_bind (km_gR [(1, 5)] x0) fun r5 =>
km_bind (km_gR [(1, 5)] x1) fun r6 =>
km_bind (km_is 30 r5) fun _ => km_bind (pm_J2_addAll r5 r6) fun i7 =>
km_bind (km_gR [(1, 6)] x0) fun r8 =>
km_bind (km_gR [(1, 6)] x1) fun r9 =>
km_bind (km_is 30 r8) fun _ => km_bind (pm_J2_addAll r8 r9) fun i10 =>
km_bind (km_gR [(1, 7)] x0) fun r11 =>
km_bind (km_gR [(1, 7)] x1) fun r12 =>
km_bind (km_is 31 r11) fun _ => km_bind (pm_J3_or r11 r12) fun _ =>
km_bind (km_gI [(1, 8)] x1) fun i13 =>
km_bind (km_pI .int [(1, 8)] x0 i13) fun _ =>
km_bind (km_gI [(1, 9)] x1) fun i15 =>
km_bind (km_pI .int [(1, 9)] x0 i15) fun _ =>
km_bind (km_gI [(1, 10)] x1) fun i17 =>
km_bind (km_pI .int [(1, 10)] x0 i17) fun _ =>
km_bind (km_gI [(1, 11)] x1) fun i19 =>
km_bind (km_pI .int [(1, 11)] x0 i19) fun _ =>
km_bind (km_gI [(1, 12)] x1) fun i21 =>
km_bind (km_pI .int [(1, 12)] x0 i21) fun _ =>
km_bind (km_gI [(1, 13)] x1) fun i23 =>
km_bind (km_pI .int [(1, 13)] x0 i23) fun _ =>
km_bind (km_gI [(1, 14)] x1) fun i25 =>
km_bind (km_pI .int [(1, 14)] x0 i25) fun _ =>
km_bind (km_gI [(1, 15)] x1) fun i27 =>
km_bind (km_pI .int [(1, 15)] x0 i27) fun _ =>
km_bind (km_gI [(1, 16)] x1) fun i29 =>
km_bind (km_pI .int [(1, 16)] x0 i29) fun _ =>
km_pure ())
else
(km_bind (km_disp x2 [(11, pm_X12_next x2), (33, pm_J5_next x2), (34, pm_J15_next x2)]) fun r31 =>
km_bind (km_cast [7] r31) fun _ =>
km_bind (km_gR [(1, 3)] x0) fun r32 =>
km_bind (km_new 7 4 kz_Rosary) fun r33 =>
km_bind (km_nn r33) fun _ => km_bind (pm_X8_init r33 r31) fun _ =>
km_bind (km_is 30 r32) fun _ => km_bind (pm_J2_add r32 r33) fun i34 =>
pb_X1_init_2_203 n x0 x1 x2)
noncomputable def pb_X1_init_2_146  : Nat → Option Nat → Option Nat → Option Nat → km_M Unit
| 0, _, _, _ => km_fail
| n + 1, x0, x1, x2 =>
km_bind (km_disp x2 [(11, pm_X12_hasNext x2), (33, pm_J5_hasNext x2), (34, pm_J15_hasNext x2)]) fun i1 =>
if i1 = 0 then
(km_bind (km_gR [(1, 2)] x0) fun r2 =>
km_bind (km_gR [(1, 2)] x1) fun r3 =>
km_bind (km_disp r2 [(2, pm_X2_becomes r2 r3), (7, pm_X2_becomes r2 r3), (12, pm_X2_becomes r2 r3)]) fun _ =>
km_bind (km_gR [(1, 3)] x1) fun r4 =>
km_bind (km_is 30 r4) fun _ => km_bind (pm_J2_iterator r4) fun r5 =>
pb_X1_init_2_203 km_fuel x0 x1 r5)
else
(km_bind (km_disp x2 [(11, pm_X12_next x2), (33, pm_J5_next x2), (34, pm_J15_next x2)]) fun r6 =>
km_bind (km_cast [6] r6) fun _ =>
km_bind (km_gR [(1, 1)] x0) fun r7 =>
km_bind (km_new 6 2 kz_Lens) fun r8 =>
km_bind (km_nn r8) fun _ => km_bind (pm_X7_init r8 r6) fun _ =>
km_bind (km_is 30 r7) fun _ => km_bind (pm_J2_add r7 r8) fun i9 =>
pb_X1_init_2_146 n x0 x1 x2)
noncomputable def pb_X1_init_2_100  : Nat → Option Nat → Option Nat → Option Nat → km_M Unit
| 0, _, _, _ => km_fail
| n + 1, x0, x1, x2 =>
km_bind (km_disp x2 [(11, pm_X12_hasNext x2), (33, pm_J5_hasNext x2), (34, pm_J15_hasNext x2)]) fun i1 =>
if i1 = 0 then
(km_bind (km_gR [(1, 1)] x1) fun r2 =>
km_bind (km_is 30 r2) fun _ => km_bind (pm_J2_iterator r2) fun r3 =>
pb_X1_init_2_146 km_fuel x0 x1 r3)
else
(km_bind (km_disp x2 [(11, pm_X12_next x2), (33, pm_J5_next x2), (34, pm_J15_next x2)]) fun r4 =>
km_bind (km_cast [5] r4) fun _ =>
km_bind (km_gR [(1, 0)] x0) fun r5 =>
km_bind (km_new 5 4 kz_Carver) fun r6 =>
km_bind (km_nn r6) fun _ => km_bind (pm_X6_init r6 r4) fun _ =>
km_bind (km_is 30 r5) fun _ => km_bind (pm_J2_add r5 r6) fun i7 =>
pb_X1_init_2_100 n x0 x1 x2)
noncomputable def pm_X1_init_2 (a0 : Option Nat) (a1 : Option Nat) : km_M Unit :=
km_bind (km_nn a0) fun _ =>
km_bind (km_new 30 3 kz_AL) fun r1 =>
km_bind (km_nn r1) fun _ => km_bind (pm_J2_init r1) fun _ =>
km_bind (km_pR [(1, 0)] a0 r1) fun _ =>
km_bind (km_new 30 3 kz_AL) fun r3 =>
km_bind (km_nn r3) fun _ => km_bind (pm_J2_init r3) fun _ =>
km_bind (km_pR [(1, 1)] a0 r3) fun _ =>
km_bind (km_new 2 1 kz_Beads) fun r5 =>
km_bind (km_nn r5) fun _ => km_bind (pm_X2_init r5) fun _ =>
km_bind (km_pR [(1, 2)] a0 r5) fun _ =>
km_bind (km_new 30 3 kz_AL) fun r7 =>
km_bind (km_nn r7) fun _ => km_bind (pm_J2_init r7) fun _ =>
km_bind (km_pR [(1, 3)] a0 r7) fun _ =>
km_bind (km_new 30 3 kz_AL) fun r9 =>
km_bind (km_nn r9) fun _ => km_bind (pm_J2_init r9) fun _ =>
km_bind (km_pR [(1, 4)] a0 r9) fun _ =>
km_bind (km_new 30 3 kz_AL) fun r11 =>
km_bind (km_nn r11) fun _ => km_bind (pm_J2_init r11) fun _ =>
km_bind (km_pR [(1, 5)] a0 r11) fun _ =>
km_bind (km_new 30 3 kz_AL) fun r13 =>
km_bind (km_nn r13) fun _ => km_bind (pm_J2_init r13) fun _ =>
km_bind (km_pR [(1, 6)] a0 r13) fun _ =>
km_bind (km_new 31 3 kz_BS) fun r15 =>
km_bind (km_nn r15) fun _ => km_bind (pm_J3_init r15) fun _ =>
km_bind (km_pR [(1, 7)] a0 r15) fun _ =>
km_bind (km_gR [(1, 0)] a1) fun r17 =>
km_bind (km_is 30 r17) fun _ => km_bind (pm_J2_iterator r17) fun r18 =>
pb_X1_init_2_100 km_fuel a0 a1 r18

/-! RosaryCarvers$Shop brings (I)I -/
noncomputable def pm_X1_brings (a0 : Option Nat) (a1 : Int32) : km_M Int32 :=
km_bind (km_gI [(1, 9)] a0) fun i1 =>
km_bind (km_pI .int [(1, 9)] a0 (km_min (999 : Int32) (i1 + a1))) fun _ =>
km_bind (km_gI [(1, 9)] a0) fun i3 =>
km_pure i3

/-! RosaryCarvers$1 does (LRosaryCarvers$Shop;)I -/
noncomputable def pm_X5_does (a0 : Option Nat) (a1 : Option Nat) : km_M (Nat ⊕ Int32) :=
km_bind (km_gI [(4, 1)] a0) fun i1 =>
km_bind (km_is 1 a1) fun _ => km_bind (pm_X1_brings a1 i1) fun i2 =>
km_pure (Sum.inr i2)

/-! java/lang/Throwable <init> (Ljava/lang/String;Ljava/lang/Throwable;ZZ)V -/
noncomputable def pm_J6_init_2 (a0 : Option Nat) (a1 : Option Nat) (a2 : Option Nat) (a3 : Int32) (a4 : Int32) : km_M Unit :=
km_bind (km_nn a0) fun _ =>
km_bind (km_pR [(8, 0), (13, 0), (27, 0)] a0 a0) fun _ =>
km_bind (km_k 4) fun r2 =>
km_bind (km_pR [(8, 1), (13, 1), (27, 1)] a0 r2) fun _ =>
km_bind (km_k 5) fun r4 =>
km_bind (km_pR [(8, 2), (13, 2), (27, 2)] a0 r4) fun _ =>
if a4 = 0 then
(km_bind (km_pR [(8, 1), (13, 1), (27, 1)] a0 none) fun _ =>
km_bind (km_pR [(8, 3), (13, 3), (27, 3)] a0 a1) fun _ =>
km_bind (km_pR [(8, 0), (13, 0), (27, 0)] a0 a2) fun _ =>
if ¬ a3 = 0 then
(km_pure ())
else
(km_bind (km_pR [(8, 2), (13, 2), (27, 2)] a0 none) fun _ =>
km_pure ()))
else
(km_fail)

/-! java/lang/Exception <init> (Ljava/lang/String;Ljava/lang/Throwable;ZZ)V -/
noncomputable def pm_J7_init_2 (a0 : Option Nat) (a1 : Option Nat) (a2 : Option Nat) (a3 : Int32) (a4 : Int32) : km_M Unit :=
km_bind (km_nn a0) fun _ => km_bind (pm_J6_init_2 a0 a1 a2 a3 a4) fun _ =>
km_pure ()

/-! RosaryCarvers$Refused <init> (IILjava/lang/Exception;)V -/
noncomputable def pm_X9_init_2 (a0 : Option Nat) (a1 : Int32) (a2 : Int32) (a3 : Option Nat) : km_M Unit :=
km_bind (km_nn a0) fun _ => km_bind (pm_J7_init_2 a0 none a3 (0 : Int32) (0 : Int32)) fun _ =>
km_bind (km_pI .int [(8, 6)] a0 a1) fun _ =>
km_bind (km_pI .int [(8, 7)] a0 a2) fun _ =>
km_pure ()

/-! RosaryCarvers$Refused <init> (II)V -/
noncomputable def pm_X9_init (a0 : Option Nat) (a1 : Int32) (a2 : Int32) : km_M Unit :=
km_bind (km_nn a0) fun _ => km_bind (pm_X9_init_2 a0 a1 a2 none) fun _ =>
km_pure ()

/-! RosaryCarvers needs (ZII)V -/
noncomputable def pm_X0_needs (a0 : Int32) (a1 : Int32) (a2 : Int32) : km_M (Nat ⊕ Unit) :=
if ¬ a0 = 0 then
(km_pure (Sum.inr ()))
else
(km_bind (km_new 8 8 kz_Refused) fun r1 =>
km_bind (km_nn r1) fun _ => km_bind (pm_X9_init r1 a1 a2) fun _ =>
km_throw r1)

/-! RosaryCarvers$Shop adds (LRosaryCarvers$Carver;)I -/
noncomputable def pb_X1_adds_16  (x0 : Option Nat) (x1 : Option Nat) (s0 : Int32) : km_M (Nat ⊕ Int32) :=
km_bind (pm_X0_needs s0 (1 : Int32) (4 : Int32)) (km_x Sum.inl fun _ =>
km_bind (km_gR [(1, 0)] x0) fun r1 =>
km_bind (km_is 30 r1) fun _ => km_bind (pm_J2_add r1 x1) fun i2 =>
km_bind (km_gR [(1, 0)] x0) fun r3 =>
km_bind (km_is 30 r3) fun _ => km_bind (pm_J2_size r3) fun i4 =>
km_pure (Sum.inr (i4 - (1 : Int32))))
noncomputable def pm_X1_adds (a0 : Option Nat) (a1 : Option Nat) : km_M (Nat ⊕ Int32) :=
km_bind (km_gR [(1, 0)] a0) fun r1 =>
km_bind (km_is 30 r1) fun _ => km_bind (pm_J2_size r1) fun i2 =>
if (4 : Int32) ≤ i2 then
(pb_X1_adds_16 a0 a1 (0 : Int32))
else
(pb_X1_adds_16 a0 a1 (1 : Int32))

/-! RosaryCarvers$2 does (LRosaryCarvers$Shop;)I -/
noncomputable def pm_X17_does (a0 : Option Nat) (a1 : Option Nat) : km_M (Nat ⊕ Int32) :=
km_bind (km_new 5 4 kz_Carver) fun r1 =>
km_bind (km_gI [(15, 1)] a0) fun i2 =>
km_bind (km_nn r1) fun _ => km_bind (pm_X6_init_2 r1 i2) fun _ =>
km_bind (km_is 1 a1) fun _ => km_bind (pm_X1_adds a1 r1) (km_x Sum.inl fun i3 =>
km_pure (Sum.inr i3))

/-! RosaryCarvers$Shop adds (LRosaryCarvers$Lens;)I -/
noncomputable def pb_X1_adds_2_16  (x0 : Option Nat) (x1 : Option Nat) (s0 : Int32) : km_M (Nat ⊕ Int32) :=
km_bind (pm_X0_needs s0 (1 : Int32) (4 : Int32)) (km_x Sum.inl fun _ =>
km_bind (km_gR [(1, 1)] x0) fun r1 =>
km_bind (km_is 30 r1) fun _ => km_bind (pm_J2_add r1 x1) fun i2 =>
km_bind (km_gR [(1, 1)] x0) fun r3 =>
km_bind (km_is 30 r3) fun _ => km_bind (pm_J2_size r3) fun i4 =>
km_pure (Sum.inr (i4 - (1 : Int32))))
noncomputable def pm_X1_adds_2 (a0 : Option Nat) (a1 : Option Nat) : km_M (Nat ⊕ Int32) :=
km_bind (km_gR [(1, 1)] a0) fun r1 =>
km_bind (km_is 30 r1) fun _ => km_bind (pm_J2_size r1) fun i2 =>
if (4 : Int32) ≤ i2 then
(pb_X1_adds_2_16 a0 a1 (0 : Int32))
else
(pb_X1_adds_2_16 a0 a1 (1 : Int32))

/-! RosaryCarvers$3 does (LRosaryCarvers$Shop;)I -/
noncomputable def pm_X18_does (a0 : Option Nat) (a1 : Option Nat) : km_M (Nat ⊕ Int32) :=
km_bind (km_new 6 2 kz_Lens) fun r1 =>
km_bind (km_gI [(16, 1)] a0) fun i2 =>
km_bind (km_nn r1) fun _ => km_bind (pm_X7_init_2 r1 i2) fun _ =>
km_bind (km_is 1 a1) fun _ => km_bind (pm_X1_adds_2 a1 r1) (km_x Sum.inl fun i3 =>
km_pure (Sum.inr i3))

/-! RosaryCarvers$Shop lensOf (I)I -/
noncomputable def pb_X1_lensOf_2  : Nat → Option Nat → Int32 → Int32 → km_M Int32
| 0, _, _, _ => km_fail
| n + 1, x0, x1, x2 =>
km_bind (km_gR [(1, 1)] x0) fun r1 =>
km_bind (km_is 30 r1) fun _ => km_bind (pm_J2_size r1) fun i2 =>
if i2 ≤ x2 then
(km_pure (-6 : Int32))
else
(km_bind (km_gR [(1, 1)] x0) fun r3 =>
km_bind (km_is 30 r3) fun _ => km_bind (pm_J2_get r3 x2) fun r4 =>
km_bind (km_cast [6] r4) fun _ =>
km_bind (km_gI [(6, 1)] r4) fun i5 =>
if ¬ i5 = x1 then
(pb_X1_lensOf_2 n x0 x1 (x2 + (1 : Int32)))
else
(km_pure x2))
noncomputable def pm_X1_lensOf (a0 : Option Nat) (a1 : Int32) : km_M Int32 :=
pb_X1_lensOf_2 km_fuel a0 a1 (0 : Int32)

/-! RosaryCarvers$Shop gives (II)I -/
noncomputable def pb_X1_gives_52  (x2 : Int32) (x3 : Option Nat) (x4 : Int32) : km_M Int32 :=
km_bind (km_pI .int [(6, 1)] x3 x2) fun _ =>
if ¬ x4 = (-1 : Int32) then
(km_pure x4)
else
(km_pure (-6 : Int32))
noncomputable def pm_X1_gives (a0 : Option Nat) (a1 : Int32) (a2 : Int32) : km_M Int32 :=
km_bind (km_gR [(1, 1)] a0) fun r1 =>
km_bind (km_is 30 r1) fun _ => km_bind (pm_J2_get r1 a1) fun r2 =>
km_bind (km_cast [6] r2) fun _ =>
km_bind (km_gI [(6, 1)] r2) fun i3 =>
if a2 = (-1 : Int32) then
(pb_X1_gives_52 a2 r2 i3)
else
(km_bind (km_is 1 a0) fun _ => km_bind (pm_X1_lensOf a0 a2) fun i4 =>
if i4 = (-6 : Int32) then
(pb_X1_gives_52 a2 r2 i3)
else
(km_bind (km_gR [(1, 1)] a0) fun r5 =>
km_bind (km_is 1 a0) fun _ => km_bind (pm_X1_lensOf a0 a2) fun i6 =>
km_bind (km_is 30 r5) fun _ => km_bind (pm_J2_get r5 i6) fun r7 =>
km_bind (km_cast [6] r7) fun _ =>
km_bind (km_pI .int [(6, 1)] r7 (-1 : Int32)) fun _ =>
pb_X1_gives_52 a2 r2 i3))

/-! RosaryCarvers$4 does (LRosaryCarvers$Shop;)I -/
noncomputable def pm_X19_does (a0 : Option Nat) (a1 : Option Nat) : km_M (Nat ⊕ Int32) :=
km_bind (km_gI [(17, 1)] a0) fun i1 =>
km_bind (km_gI [(17, 2)] a0) fun i2 =>
km_bind (km_is 1 a1) fun _ => km_bind (pm_X1_gives a1 i1 i2) fun i3 =>
km_pure (Sum.inr i3)

/-! RosaryCarvers$Beads size ()I -/
noncomputable def pm_X2_size (a0 : Option Nat) : km_M Int32 :=
km_bind (km_gR [(2, 0), (7, 0), (12, 0)] a0) fun r1 =>
km_bind (km_is 30 r1) fun _ => km_bind (pm_J2_size r1) fun i2 =>
km_pure i2

/-! RosaryCarvers$Shop sight (I)I -/
noncomputable def pb_X1_sight_46  (x2 : Option Nat) (s0 : Int32) (s1 : Int32) : km_M Int32 :=
km_bind (km_gI [(5, 1)] x2) fun i1 =>
km_bind (km_div i1 (10 : Int32)) fun i2 =>
km_pure ((s1 + s0) - i2)
noncomputable def pm_X1_sight (a0 : Option Nat) (a1 : Int32) : km_M Int32 :=
km_bind (km_gR [(1, 0)] a0) fun r1 =>
km_bind (km_is 30 r1) fun _ => km_bind (pm_J2_get r1 a1) fun r2 =>
km_bind (km_cast [5] r2) fun _ =>
km_bind (km_is 1 a0) fun _ => km_bind (pm_X1_lensOf a0 a1) fun i3 =>
km_bind (km_gI [(5, 0)] r2) fun i4 =>
if ¬ i3 = (-6 : Int32) then
(km_bind (km_gR [(1, 1)] a0) fun r5 =>
km_bind (km_is 30 r5) fun _ => km_bind (pm_J2_get r5 i3) fun r6 =>
km_bind (km_cast [6] r6) fun _ =>
km_bind (km_gI [(6, 0)] r6) fun i7 =>
pb_X1_sight_46 r2 i7 i4)
else
(pb_X1_sight_46 r2 (0 : Int32) i4)

/-! RosaryCarvers$Bead <init> (IZI)V -/
noncomputable def pm_X16_init (a0 : Option Nat) (a1 : Int32) (a2 : Int32) (a3 : Int32) : km_M Unit :=
km_bind (km_nn a0) fun _ =>
km_bind (km_pI .int [(14, 0)] a0 a1) fun _ =>
km_bind (km_pI .boolean [(14, 1)] a0 a2) fun _ =>
km_bind (km_pI .int [(14, 2)] a0 a3) fun _ =>
km_pure ()

/-! RosaryCarvers$Beads adds (LRosaryCarvers$Bead;)V -/
noncomputable def pm_X2_adds (a0 : Option Nat) (a1 : Option Nat) : km_M Unit :=
km_bind (km_gR [(2, 0), (7, 0), (12, 0)] a0) fun r1 =>
km_bind (km_is 30 r1) fun _ => km_bind (pm_J2_add r1 a1) fun i2 =>
km_pure ()

/-! RosaryCarvers$Shop carvesOne (IZ)Z -/
noncomputable def pb_X1_carvesOne_74  (x0 : Option Nat) (x2 : Int32) (x3 : Option Nat) (x4 : Int32) (x5 : Int32) (s0 : Int32) (s1 : Int32) (s2 : Int32) (s3 : Option Nat) : km_M Int32 :=
km_bind (km_pI .int [(5, 1)] s3 (km_min s2 (s1 + s0))) fun _ =>
if x5 = 0 then
(km_bind (km_gI [(1, 11)] x0) fun i2 =>
km_bind (km_pI .int [(1, 11)] x0 (i2 + (1 : Int32))) fun _ =>
km_bind (km_gI [(5, 3)] x3) fun i4 =>
km_bind (km_pI .int [(5, 3)] x3 (i4 + (1 : Int32))) fun _ =>
km_bind (km_ret .boolean x5) (fun v => km_pure v))
else
(km_bind (km_gR [(1, 2)] x0) fun r6 =>
km_bind (km_new 14 3 kz_Bead) fun r7 =>
km_bind (km_gI [(1, 10)] x0) fun i8 =>
km_bind (km_nn r7) fun _ => km_bind (pm_X16_init r7 i8 x2 (km_min (9 : Int32) x4)) fun _ =>
km_bind (km_disp r6 [(2, pm_X2_adds r6 r7), (7, pm_X2_adds r6 r7), (12, pm_X2_adds r6 r7)]) fun _ =>
km_bind (km_gI [(1, 10)] x0) fun i9 =>
km_bind (km_pI .int [(1, 10)] x0 (i9 + (1 : Int32))) fun _ =>
km_bind (km_gI [(5, 2)] x3) fun i11 =>
km_bind (km_pI .int [(5, 2)] x3 (i11 + (1 : Int32))) fun _ =>
km_bind (km_ret .boolean x5) (fun v => km_pure v))
noncomputable def pb_X1_carvesOne_54  (x0 : Option Nat) (x2 : Int32) (x3 : Option Nat) (x4 : Int32) (x5 : Int32) (s0 : Int32) (s1 : Int32) (s2 : Option Nat) : km_M Int32 :=
km_bind (km_pI .int [(1, 9)] s2 (s1 - s0)) fun _ =>
km_bind (km_gI [(5, 1)] x3) fun i2 =>
if x2 = 0 then
(pb_X1_carvesOne_74 x0 x2 x3 x4 x5 (3 : Int32) i2 (99 : Int32) x3)
else
(pb_X1_carvesOne_74 x0 x2 x3 x4 x5 (2 : Int32) i2 (99 : Int32) x3)
noncomputable def pb_X1_carvesOne_38  (x0 : Option Nat) (x2 : Int32) (x3 : Option Nat) (x4 : Int32) (s0 : Int32) : km_M Int32 :=
km_bind (km_gI [(1, 9)] x0) fun i1 =>
if x2 = 0 then
(pb_X1_carvesOne_54 x0 x2 x3 x4 s0 (1 : Int32) i1 x0)
else
(pb_X1_carvesOne_54 x0 x2 x3 x4 s0 (2 : Int32) i1 x0)
noncomputable def pb_X1_carvesOne_30  (x0 : Option Nat) (x2 : Int32) (x3 : Option Nat) (x4 : Int32) (s0 : Int32) (s1 : Int32) : km_M Int32 :=
if s1 < s0 then
(pb_X1_carvesOne_38 x0 x2 x3 x4 (0 : Int32))
else
(pb_X1_carvesOne_38 x0 x2 x3 x4 (1 : Int32))
noncomputable def pm_X1_carvesOne (a0 : Option Nat) (a1 : Int32) (a2 : Int32) : km_M Int32 :=
km_bind (km_gR [(1, 0)] a0) fun r1 =>
km_bind (km_is 30 r1) fun _ => km_bind (pm_J2_get r1 a1) fun r2 =>
km_bind (km_cast [5] r2) fun _ =>
km_bind (km_is 1 a0) fun _ => km_bind (pm_X1_sight a0 a1) fun i3 =>
if a2 = 0 then
(pb_X1_carvesOne_30 a0 a2 r2 i3 (4 : Int32) i3)
else
(pb_X1_carvesOne_30 a0 a2 r2 i3 (2 : Int32) i3)

/-! RosaryCarvers bit (Z)I -/
noncomputable def pm_X0_bit (a0 : Int32) : km_M Int32 :=
if a0 = 0 then
(km_pure (0 : Int32))
else
(km_pure (1 : Int32))

/-! RosaryCarvers$Shop carves (IZI)I -/
noncomputable def pb_X1_carves_102  : Nat → Option Nat → Int32 → Int32 → Int32 → Int32 → Int32 → km_M (Nat ⊕ Int32)
| 0, _, _, _, _, _, _ => km_fail
| n + 1, x0, x1, x2, x3, x6, x7 =>
if x3 ≤ x7 then
(km_pure (Sum.inr x6))
else
(km_bind (km_is 1 x0) fun _ => km_bind (pm_X1_carvesOne x0 x1 x2) fun i1 =>
km_bind (pm_X0_bit i1) fun i2 =>
pb_X1_carves_102 n x0 x1 x2 x3 (x6 + i2) (x7 + (1 : Int32)))
noncomputable def pb_X1_carves_90  (x0 : Option Nat) (x1 : Int32) (x2 : Int32) (x3 : Int32) (s0 : Int32) : km_M (Nat ⊕ Int32) :=
km_bind (pm_X0_needs s0 (1 : Int32) (60 : Int32)) (km_x Sum.inl fun _ =>
pb_X1_carves_102 km_fuel x0 x1 x2 x3 (0 : Int32) (0 : Int32))
noncomputable def pb_X1_carves_65  (x0 : Option Nat) (x1 : Int32) (x2 : Int32) (x3 : Int32) (x5 : Int32) (s0 : Int32) : km_M (Nat ⊕ Int32) :=
km_bind (pm_X0_needs s0 (3 : Int32) x5) (km_x Sum.inl fun _ =>
km_bind (km_gR [(1, 2)] x0) fun r1 =>
km_bind (km_disp r1 [(2, pm_X2_size r1), (7, pm_X2_size r1), (12, pm_X2_size r1)]) fun i2 =>
if (60 : Int32) < (i2 + x3) then
(pb_X1_carves_90 x0 x1 x2 x3 (0 : Int32))
else
(pb_X1_carves_90 x0 x1 x2 x3 (1 : Int32)))
noncomputable def pb_X1_carves_47  (x0 : Option Nat) (x1 : Int32) (x2 : Int32) (x3 : Int32) (s0 : Int32) (s1 : Int32) : km_M (Nat ⊕ Int32) :=
km_bind (km_gI [(1, 9)] x0) fun i1 =>
if 0 < ((s1 * s0) - i1) then
(pb_X1_carves_65 x0 x1 x2 x3 ((s1 * s0) - i1) (0 : Int32))
else
(pb_X1_carves_65 x0 x1 x2 x3 ((s1 * s0) - i1) (1 : Int32))
noncomputable def pb_X1_carves_28  (x0 : Option Nat) (x1 : Int32) (x2 : Int32) (x3 : Int32) (x4 : Option Nat) (s0 : Int32) : km_M (Nat ⊕ Int32) :=
km_bind (km_gI [(5, 1)] x4) fun i1 =>
km_bind (pm_X0_needs s0 (2 : Int32) i1) (km_x Sum.inl fun _ =>
if x2 = 0 then
(pb_X1_carves_47 x0 x1 x2 x3 (1 : Int32) x3)
else
(pb_X1_carves_47 x0 x1 x2 x3 (2 : Int32) x3))
noncomputable def pm_X1_carves (a0 : Option Nat) (a1 : Int32) (a2 : Int32) (a3 : Int32) : km_M (Nat ⊕ Int32) :=
km_bind (km_gR [(1, 0)] a0) fun r1 =>
km_bind (km_is 30 r1) fun _ => km_bind (pm_J2_get r1 a1) fun r2 =>
km_bind (km_cast [5] r2) fun _ =>
km_bind (km_gI [(5, 1)] r2) fun i3 =>
if (60 : Int32) ≤ i3 then
(pb_X1_carves_28 a0 a1 a2 a3 r2 (0 : Int32))
else
(pb_X1_carves_28 a0 a1 a2 a3 r2 (1 : Int32))

/-! RosaryCarvers$5 does (LRosaryCarvers$Shop;)I -/
noncomputable def pm_X20_does (a0 : Option Nat) (a1 : Option Nat) : km_M (Nat ⊕ Int32) :=
km_bind (km_gI [(18, 1)] a0) fun i1 =>
km_bind (km_gI [(18, 2)] a0) fun i2 =>
km_bind (km_gI [(18, 3)] a0) fun i3 =>
km_bind (km_is 1 a1) fun _ => km_bind (pm_X1_carves a1 i1 i2 i3) (km_x Sum.inl fun i4 =>
km_pure (Sum.inr i4))

/-! RosaryCarvers$Shop begins (II)I -/
noncomputable def pb_X1_begins_17  (x0 : Option Nat) (x1 : Int32) (x2 : Int32) (s0 : Int32) : km_M (Nat ⊕ Int32) :=
km_bind (pm_X0_needs s0 (1 : Int32) (6 : Int32)) (km_x Sum.inl fun _ =>
km_bind (km_gR [(1, 3)] x0) fun r1 =>
km_bind (km_new 7 4 kz_Rosary) fun r2 =>
km_bind (km_nn r2) fun _ => km_bind (pm_X8_init_2 r2 x1 x2) fun _ =>
km_bind (km_is 30 r1) fun _ => km_bind (pm_J2_add r1 r2) fun i3 =>
km_bind (km_gR [(1, 3)] x0) fun r4 =>
km_bind (km_is 30 r4) fun _ => km_bind (pm_J2_size r4) fun i5 =>
km_pure (Sum.inr (i5 - (1 : Int32))))
noncomputable def pm_X1_begins (a0 : Option Nat) (a1 : Int32) (a2 : Int32) : km_M (Nat ⊕ Int32) :=
km_bind (km_gR [(1, 3)] a0) fun r1 =>
km_bind (km_is 30 r1) fun _ => km_bind (pm_J2_size r1) fun i2 =>
if (6 : Int32) ≤ i2 then
(pb_X1_begins_17 a0 a1 a2 (0 : Int32))
else
(pb_X1_begins_17 a0 a1 a2 (1 : Int32))

/-! RosaryCarvers$6 does (LRosaryCarvers$Shop;)I -/
noncomputable def pm_X21_does (a0 : Option Nat) (a1 : Option Nat) : km_M (Nat ⊕ Int32) :=
km_bind (km_gI [(19, 1)] a0) fun i1 =>
km_bind (km_gI [(19, 2)] a0) fun i2 =>
km_bind (km_is 1 a1) fun _ => km_bind (pm_X1_begins a1 i1 i2) (km_x Sum.inl fun i3 =>
km_pure (Sum.inr i3))

/-! RosaryCarvers$Rosary isDone ()Z -/
noncomputable def pm_X8_isDone (a0 : Option Nat) : km_M Int32 :=
km_bind (km_gI [(7, 3)] a0) fun i1 =>
km_bind (km_gI [(7, 1)] a0) fun i2 =>
if ¬ i1 = i2 then
(km_bind (km_ret .boolean (0 : Int32)) (fun v => km_pure v))
else
(km_bind (km_ret .boolean (1 : Int32)) (fun v => km_pure v))

/-! RosaryCarvers$Rosary loose ()I -/
noncomputable def pm_X8_loose (a0 : Option Nat) : km_M Int32 :=
km_bind (km_is 7 a0) fun _ => km_bind (pm_X2_size a0) fun i1 =>
km_bind (km_gI [(7, 3)] a0) fun i2 =>
km_bind (km_gI [(7, 2)] a0) fun i3 =>
km_pure (i1 - (i2 * (i3 + (1 : Int32))))

/-! RosaryCarvers$Rosary isWhole ()Z -/
noncomputable def pm_X8_isWhole (a0 : Option Nat) : km_M Int32 :=
km_bind (km_is 7 a0) fun _ => km_bind (pm_X8_loose a0) fun i1 =>
km_bind (km_gI [(7, 2)] a0) fun i2 =>
if ¬ i1 = (i2 + (1 : Int32)) then
(km_bind (km_ret .boolean (0 : Int32)) (fun v => km_pure v))
else
(km_bind (km_ret .boolean (1 : Int32)) (fun v => km_pure v))

/-! RosaryCarvers$Rosary wantsLarge ()Z -/
noncomputable def pm_X8_wantsLarge (a0 : Option Nat) : km_M Int32 :=
km_bind (km_is 7 a0) fun _ => km_bind (pm_X8_loose a0) fun i1 =>
if ¬ i1 = 0 then
(km_bind (km_ret .boolean (0 : Int32)) (fun v => km_pure v))
else
(km_bind (km_ret .boolean (1 : Int32)) (fun v => km_pure v))

/-! RosaryCarvers$Beads$1 <init> (LRosaryCarvers$Beads;Z)V -/
noncomputable def pm_X11_init (a0 : Option Nat) (a1 : Option Nat) (a2 : Int32) : km_M Unit :=
km_bind (km_pR [(10, 1)] a0 a1) fun _ =>
km_bind (km_pI .boolean [(10, 0)] a0 a2) fun _ =>
km_bind (km_nn a0) fun _ =>
km_pure ()

/-! RosaryCarvers$Beads of (Z)Ljava/lang/Iterable; -/
noncomputable def pm_X2_of (a0 : Option Nat) (a1 : Int32) : km_M (Option Nat) :=
km_bind (km_new 10 2 kz_Beads1) fun r1 =>
km_bind (km_nn r1) fun _ => km_bind (pm_X11_init r1 a0 a1) fun _ =>
km_pure r1

/-! RosaryCarvers$Beads iterator ()Ljava/util/Iterator; -/
noncomputable def pm_X2_iterator (a0 : Option Nat) : km_M (Option Nat) :=
km_bind (km_gR [(2, 0), (7, 0), (12, 0)] a0) fun r1 =>
km_bind (km_is 30 r1) fun _ => km_bind (pm_J2_iterator r1) fun r2 =>
km_pure r2

/-! RosaryCarvers$Beads$1OfKind <init> (LRosaryCarvers$Beads;Z)V -/
noncomputable def pm_X12_init (a0 : Option Nat) (a1 : Option Nat) (a2 : Int32) : km_M Unit :=
km_bind (km_pR [(11, 2)] a0 a1) fun _ =>
km_bind (km_pI .boolean [(11, 1)] a0 a2) fun _ =>
km_bind (km_nn a0) fun _ =>
km_bind (km_is 11 a0) fun _ => km_bind (pm_X12_next_3 a0 (0 : Int32)) fun i3 =>
km_bind (km_pI .int [(11, 0)] a0 i3) fun _ =>
km_pure ()

/-! RosaryCarvers$Beads$1 iterator ()Ljava/util/Iterator; -/
noncomputable def pm_X11_iterator (a0 : Option Nat) : km_M (Option Nat) :=
km_bind (km_new 11 3 kz_OfKind) fun r1 =>
km_bind (km_gR [(10, 1)] a0) fun r2 =>
km_bind (km_gI [(10, 0)] a0) fun i3 =>
km_bind (km_nn r1) fun _ => km_bind (pm_X12_init r1 r2 i3) fun _ =>
km_pure r1

/-! java/util/ArrayDeque sub (III)I -/
noncomputable def pm_J4_sub (a0 : Int32) (a1 : Int32) (a2 : Int32) : km_M Int32 :=
if 0 ≤ (a0 - a1) then
(km_pure (a0 - a1))
else
(km_pure ((a0 - a1) + a2))

/-! java/util/ArrayDeque size ()I -/
noncomputable def pm_J4_size (a0 : Option Nat) : km_M Int32 :=
km_bind (km_gI [(32, 2)] a0) fun i1 =>
km_bind (km_gI [(32, 1)] a0) fun i2 =>
km_bind (km_gR [(32, 0)] a0) fun r3 =>
km_bind (km_len r3) fun i4 =>
km_bind (pm_J4_sub i1 i2 i4) fun i5 =>
km_pure i5

/-! java/util/ArrayDeque$DeqIterator <init> (Ljava/util/ArrayDeque;)V -/
noncomputable def pm_J15_init (a0 : Option Nat) (a1 : Option Nat) : km_M Unit :=
km_bind (km_pR [(34, 3)] a0 a1) fun _ =>
km_bind (km_nn a0) fun _ =>
km_bind (km_gR [(34, 3)] a0) fun r2 =>
km_bind (km_is 32 r2) fun _ => km_bind (pm_J4_size r2) fun i3 =>
km_bind (km_pI .int [(34, 1)] a0 i3) fun _ =>
km_bind (km_pI .int [(34, 2)] a0 (-1 : Int32)) fun _ =>
km_bind (km_gI [(32, 1)] a1) fun i6 =>
km_bind (km_pI .int [(34, 0)] a0 i6) fun _ =>
km_pure ()

/-! java/util/ArrayDeque iterator ()Ljava/util/Iterator; -/
noncomputable def pm_J4_iterator (a0 : Option Nat) : km_M (Option Nat) :=
km_bind (km_new 34 4 kz_DIt) fun r1 =>
km_bind (km_nn r1) fun _ => km_bind (pm_J15_init r1 a0) fun _ =>
km_pure r1

/-! RosaryCarvers$Bead fineness ()I -/
noncomputable def pm_X16_fineness (a0 : Option Nat) : km_M Int32 :=
km_bind (km_gI [(14, 2)] a0) fun i1 =>
km_pure i1

/-! RosaryCarvers$Bead number ()I -/
noncomputable def pm_X16_number (a0 : Option Nat) : km_M Int32 :=
km_bind (km_gI [(14, 0)] a0) fun i1 =>
km_pure i1

/-! RosaryCarvers$Fine isFinerThan (LRosaryCarvers$Fine;)Z -/
noncomputable def pm_X13_isFinerThan (a0 : Option Nat) (a1 : Option Nat) : km_M Int32 :=
km_bind (km_is 14 a0) fun _ => km_bind (pm_X16_fineness a0) fun i1 =>
km_bind (km_is 14 a1) fun _ => km_bind (pm_X16_fineness a1) fun i2 =>
if i2 < i1 then
(km_bind (km_ret .boolean (1 : Int32)) (fun v => km_pure v))
else
(km_bind (km_is 14 a0) fun _ => km_bind (pm_X16_fineness a0) fun i3 =>
km_bind (km_is 14 a1) fun _ => km_bind (pm_X16_fineness a1) fun i4 =>
if ¬ i3 = i4 then
(km_bind (km_ret .boolean (0 : Int32)) (fun v => km_pure v))
else
(km_bind (km_is 14 a0) fun _ => km_bind (pm_X16_number a0) fun i5 =>
km_bind (km_is 14 a1) fun _ => km_bind (pm_X16_number a1) fun i6 =>
if i6 ≤ i5 then
(km_bind (km_ret .boolean (0 : Int32)) (fun v => km_pure v))
else
(km_bind (km_ret .boolean (1 : Int32)) (fun v => km_pure v))))

/-! RosaryCarvers$Beads finest (Z)LRosaryCarvers$Bead; -/
noncomputable def pb_X2_finest_13  : Nat → Option Nat → Option Nat → km_M (Option Nat)
| 0, _, _ => km_fail
| n + 1, x2, x3 =>
km_bind (km_disp x3 [(11, pm_X12_hasNext x3), (33, pm_J5_hasNext x3), (34, pm_J15_hasNext x3)]) fun i1 =>
if i1 = 0 then
(km_pure x2)
else
(km_bind (km_disp x3 [(11, pm_X12_next x3), (33, pm_J5_next x3), (34, pm_J15_next x3)]) fun r2 =>
km_bind (km_cast [14] r2) fun _ =>
if x2 = none then
(pb_X2_finest_13 n r2 x3)
else
(km_bind (km_is 14 r2) fun _ => km_bind (pm_X13_isFinerThan r2 x2) fun i3 =>
if i3 = 0 then
(pb_X2_finest_13 n x2 x3)
else
(pb_X2_finest_13 n r2 x3)))
noncomputable def pm_X2_finest (a0 : Option Nat) (a1 : Int32) : km_M (Option Nat) :=
km_bind (km_disp a0 [(2, pm_X2_of a0 a1), (7, pm_X2_of a0 a1), (12, pm_X2_of a0 a1)]) fun r1 =>
km_bind (km_disp r1 [(2, pm_X2_iterator r1), (7, pm_X2_iterator r1), (10, pm_X11_iterator r1), (12, pm_X2_iterator r1), (30, pm_J2_iterator r1), (32, pm_J4_iterator r1)]) fun r2 =>
pb_X2_finest_13 km_fuel none r2

/-! RosaryCarvers$Beads many (Z)I -/
noncomputable def pb_X2_many_13  : Nat → Int32 → Option Nat → km_M Int32
| 0, _, _ => km_fail
| n + 1, x2, x3 =>
km_bind (km_disp x3 [(11, pm_X12_hasNext x3), (33, pm_J5_hasNext x3), (34, pm_J15_hasNext x3)]) fun i1 =>
if i1 = 0 then
(km_pure x2)
else
(km_bind (km_disp x3 [(11, pm_X12_next x3), (33, pm_J5_next x3), (34, pm_J15_next x3)]) fun r2 =>
km_bind (km_cast [14] r2) fun _ =>
pb_X2_many_13 n (x2 + (1 : Int32)) x3)
noncomputable def pm_X2_many (a0 : Option Nat) (a1 : Int32) : km_M Int32 :=
km_bind (km_disp a0 [(2, pm_X2_of a0 a1), (7, pm_X2_of a0 a1), (12, pm_X2_of a0 a1)]) fun r1 =>
km_bind (km_disp r1 [(2, pm_X2_iterator r1), (7, pm_X2_iterator r1), (10, pm_X11_iterator r1), (12, pm_X2_iterator r1), (30, pm_J2_iterator r1), (32, pm_J4_iterator r1)]) fun r2 =>
pb_X2_many_13 km_fuel (0 : Int32) r2

/-! RosaryCarvers$Shop onOthers (Z)I -/
noncomputable def pb_X1_onOthers_49 (k10 : Int32 → Int32 → Option Nat → km_M Int32) (x1 : Int32) (x3 : Option Nat) (s0 : Int32) (s1 : Int32) : km_M Int32 :=
k10 x1 (s1 + s0) x3
noncomputable def pb_X1_onOthers_10  : Nat → Int32 → Int32 → Option Nat → km_M Int32
| 0, _, _, _ => km_fail
| n + 1, x1, x2, x3 =>
km_bind (km_disp x3 [(11, pm_X12_hasNext x3), (33, pm_J5_hasNext x3), (34, pm_J15_hasNext x3)]) fun i1 =>
if i1 = 0 then
(km_pure x2)
else
(km_bind (km_disp x3 [(11, pm_X12_next x3), (33, pm_J5_next x3), (34, pm_J15_next x3)]) fun r2 =>
km_bind (km_cast [7] r2) fun _ =>
km_bind (km_is 7 r2) fun _ => km_bind (pm_X8_isDone r2) fun i3 =>
if i3 = 0 then
(km_bind (km_is 7 r2) fun _ => km_bind (pm_X2_many r2 x1) fun i4 =>
pb_X1_onOthers_49 (pb_X1_onOthers_10 n) x1 x3 i4 x2)
else
(pb_X1_onOthers_49 (pb_X1_onOthers_10 n) x1 x3 (0 : Int32) x2))
noncomputable def pm_X1_onOthers (a0 : Option Nat) (a1 : Int32) : km_M Int32 :=
km_bind (km_gR [(1, 3)] a0) fun r1 =>
km_bind (km_is 30 r1) fun _ => km_bind (pm_J2_iterator r1) fun r2 =>
pb_X1_onOthers_10 km_fuel a1 (0 : Int32) r2

/-! java/lang/Object equals (Ljava/lang/Object;)Z -/
noncomputable def pm_J25_equals (a0 : Option Nat) (a1 : Option Nat) : km_M Int32 :=
if ¬ a0 = a1 then
(km_bind (km_ret .boolean (0 : Int32)) (fun v => km_pure v))
else
(km_bind (km_ret .boolean (1 : Int32)) (fun v => km_pure v))

/-! java/lang/StringLatin1 equals ([B[B)Z -/
noncomputable def pb_J17_equals_9  : Nat → Option Nat → Option Nat → Int32 → km_M Int32
| 0, _, _, _ => km_fail
| n + 1, x0, x1, x2 =>
km_bind (km_len x0) fun i1 =>
if i1 ≤ x2 then
(km_bind (km_ret .boolean (1 : Int32)) (fun v => km_pure v))
else
(km_bind (km_ldI 2 x0 x2) fun i2 =>
km_bind (km_ldI 2 x1 x2) fun i3 =>
if i2 = i3 then
(pb_J17_equals_9 n x0 x1 (x2 + (1 : Int32)))
else
(km_bind (km_ret .boolean (0 : Int32)) (fun v => km_pure v)))
noncomputable def pm_J17_equals (a0 : Option Nat) (a1 : Option Nat) : km_M Int32 :=
km_bind (km_len a0) fun i1 =>
km_bind (km_len a1) fun i2 =>
if ¬ i1 = i2 then
(km_bind (km_ret .boolean (0 : Int32)) (fun v => km_pure v))
else
(pb_J17_equals_9 km_fuel a0 a1 (0 : Int32))

/-! java/lang/String equals (Ljava/lang/Object;)Z -/
noncomputable def pb_J16_equals_36  (x0 : Option Nat) (x2 : Option Nat) : km_M Int32 :=
km_bind (km_gR [(35, 0)] x0) fun r1 =>
km_bind (km_gR [(35, 0)] x2) fun r2 =>
km_bind (pm_J17_equals r1 r2) fun i3 =>
if i3 = 0 then
(km_bind (km_ret .boolean (0 : Int32)) (fun v => km_pure v))
else
(km_bind (km_ret .boolean (1 : Int32)) (fun v => km_pure v))
noncomputable def pm_J16_equals (a0 : Option Nat) (a1 : Option Nat) : km_M Int32 :=
if ¬ a0 = a1 then
(km_bind (km_inst [35] [] a1) fun i1 =>
if i1 = 0 then
(km_bind (km_ret .boolean (0 : Int32)) (fun v => km_pure v))
else
(km_bind (km_cast [35] a1) fun _ =>
if (1 : Int32) = 0 then
(km_fail)
else
(km_bind (km_gI [(35, 1)] a0) fun i2 =>
km_bind (km_gI [(35, 1)] a1) fun i3 =>
if ¬ i2 = i3 then
(km_bind (km_ret .boolean (0 : Int32)) (fun v => km_pure v))
else
(pb_J16_equals_36 a0 a1))))
else
(km_bind (km_ret .boolean (1 : Int32)) (fun v => km_pure v))

/-! java/util/ArrayList fastRemove ([Ljava/lang/Object;I)V -/
noncomputable def pb_J2_fastRemove_34  (x0 : Option Nat) (x1 : Option Nat) (x3 : Int32) : km_M Unit :=
km_bind (km_pI .int [(30, 2)] x0 x3) fun _ =>
km_bind (km_stR kn_String x1 x3 none) fun _ =>
km_pure ()
noncomputable def pm_J2_fastRemove (a0 : Option Nat) (a1 : Option Nat) (a2 : Int32) : km_M Unit :=
km_bind (km_gI [(30, 0)] a0) fun i1 =>
km_bind (km_pI .int [(30, 0)] a0 (i1 + (1 : Int32))) fun _ =>
km_bind (km_gI [(30, 2)] a0) fun i3 =>
if (i3 - (1 : Int32)) ≤ a2 then
(pb_J2_fastRemove_34 a0 a1 (i3 - (1 : Int32)))
else
(km_bind (km_cp a1 (a2 + (1 : Int32)) a1 a2 ((i3 - (1 : Int32)) - a2)) fun _ =>
pb_J2_fastRemove_34 a0 a1 (i3 - (1 : Int32)))

/-! java/util/ArrayList remove (Ljava/lang/Object;)Z -/
noncomputable def pb_J2_remove_67  (x0 : Option Nat) (x2 : Option Nat) (x4 : Int32) : km_M Int32 :=
km_bind (km_is 30 x0) fun _ => km_bind (pm_J2_fastRemove x0 x2 x4) fun _ =>
km_bind (km_ret .boolean (1 : Int32)) (fun v => km_pure v)
noncomputable def pb_J2_remove_17  : Nat → Option Nat → Option Nat → Int32 → Int32 → km_M Int32
| 0, _, _, _, _ => km_fail
| n + 1, x0, x2, x3, x4 =>
if x3 ≤ x4 then
(km_bind (km_ret .boolean (0 : Int32)) (fun v => km_pure v))
else
(km_bind (km_ldR x2 x4) fun r1 =>
if r1 = none then
(pb_J2_remove_67 x0 x2 x4)
else
(pb_J2_remove_17 n x0 x2 x3 (x4 + (1 : Int32))))
noncomputable def pb_J2_remove_39  : Nat → Option Nat → Option Nat → Option Nat → Int32 → Int32 → km_M Int32
| 0, _, _, _, _, _ => km_fail
| n + 1, x0, x1, x2, x3, x4 =>
if x3 ≤ x4 then
(km_bind (km_ret .boolean (0 : Int32)) (fun v => km_pure v))
else
(km_bind (km_ldR x2 x4) fun r1 =>
km_bind (km_disp x1 [(0, pm_J25_equals x1 r1), (1, pm_J25_equals x1 r1), (2, pm_J25_equals x1 r1), (3, pm_J25_equals x1 r1), (4, pm_J25_equals x1 r1), (5, pm_J25_equals x1 r1), (6, pm_J25_equals x1 r1), (7, pm_J25_equals x1 r1), (8, pm_J25_equals x1 r1), (9, pm_J25_equals x1 r1), (10, pm_J25_equals x1 r1), (11, pm_J25_equals x1 r1), (12, pm_J25_equals x1 r1), (13, pm_J25_equals x1 r1), (14, pm_J25_equals x1 r1), (15, pm_J25_equals x1 r1), (16, pm_J25_equals x1 r1), (17, pm_J25_equals x1 r1), (18, pm_J25_equals x1 r1), (19, pm_J25_equals x1 r1), (20, pm_J25_equals x1 r1), (21, pm_J25_equals x1 r1), (22, pm_J25_equals x1 r1), (23, pm_J25_equals x1 r1), (24, pm_J25_equals x1 r1), (25, pm_J25_equals x1 r1), (26, pm_J25_equals x1 r1), (27, pm_J25_equals x1 r1), (28, pm_J25_equals x1 r1), (29, pm_J25_equals x1 r1), (35, pm_J16_equals x1 r1), (36, pm_J25_equals x1 r1)]) fun i2 =>
if i2 = 0 then
(pb_J2_remove_39 n x0 x1 x2 x3 (x4 + (1 : Int32)))
else
(pb_J2_remove_67 x0 x2 x4))
noncomputable def pm_J2_remove (a0 : Option Nat) (a1 : Option Nat) : km_M Int32 :=
km_bind (km_gR [(30, 1)] a0) fun r1 =>
km_bind (km_gI [(30, 2)] a0) fun i2 =>
if a1 = none then
(pb_J2_remove_17 km_fuel a0 r1 i2 (0 : Int32))
else
(pb_J2_remove_39 km_fuel a0 a1 r1 i2 (0 : Int32))

/-! RosaryCarvers$Beads loses (LRosaryCarvers$Bead;)V -/
noncomputable def pm_X2_loses (a0 : Option Nat) (a1 : Option Nat) : km_M Unit :=
km_bind (km_gR [(2, 0), (7, 0), (12, 0)] a0) fun r1 =>
km_bind (km_is 30 r1) fun _ => km_bind (pm_J2_remove r1 a1) fun i2 =>
km_pure ()

/-! RosaryCarvers$Shop takes (Z)LRosaryCarvers$Bead; -/
noncomputable def pm_X1_takes (a0 : Option Nat) (a1 : Int32) : km_M (Nat ⊕ Option Nat) :=
km_bind (km_gR [(1, 2)] a0) fun r1 =>
km_bind (km_disp r1 [(2, pm_X2_finest r1 a1), (7, pm_X2_finest r1 a1), (12, pm_X2_finest r1 a1)]) fun r2 =>
if r2 = none then
(km_bind (km_new 8 8 kz_Refused) fun r4 =>
km_bind (pm_X0_bit a1) fun i5 =>
km_bind (km_new 8 8 kz_Refused) fun r6 =>
km_bind (km_is 1 a0) fun _ => km_bind (pm_X1_onOthers a0 a1) fun i7 =>
km_bind (km_nn r6) fun _ => km_bind (pm_X9_init r6 (10 : Int32) i7) fun _ =>
km_bind (km_nn r4) fun _ => km_bind (pm_X9_init_2 r4 (6 : Int32) i5 r6) fun _ =>
km_throw r4)
else
(km_bind (km_gR [(1, 2)] a0) fun r3 =>
km_bind (km_disp r3 [(2, pm_X2_loses r3 r2), (7, pm_X2_loses r3 r2), (12, pm_X2_loses r3 r2)]) fun _ =>
km_pure (Sum.inr r2))

/-! RosaryCarvers$Shop threads (I)I -/
noncomputable def pb_X1_threads_2_41  (x0 : Option Nat) (x2 : Option Nat) (s0 : Int32) : km_M (Nat ⊕ Int32) :=
km_bind (km_gI [(7, 3)] x2) fun i1 =>
km_bind (pm_X0_needs s0 (5 : Int32) i1) (km_x Sum.inl fun _ =>
km_bind (km_is 7 x2) fun _ => km_bind (pm_X8_wantsLarge x2) fun i2 =>
km_bind (km_is 1 x0) fun _ => km_bind (pm_X1_takes x0 i2) (km_x Sum.inl fun r3 =>
km_bind (km_is 7 x2) fun _ => km_bind (pm_X2_adds x2 r3) fun _ =>
km_bind (km_gI [(14, 0)] r3) fun i4 =>
km_pure (Sum.inr i4)))
noncomputable def pb_X1_threads_2_24  (x0 : Option Nat) (x1 : Int32) (x2 : Option Nat) (s0 : Int32) : km_M (Nat ⊕ Int32) :=
km_bind (pm_X0_needs s0 (4 : Int32) x1) (km_x Sum.inl fun _ =>
km_bind (km_is 7 x2) fun _ => km_bind (pm_X8_isWhole x2) fun i1 =>
if ¬ i1 = 0 then
(pb_X1_threads_2_41 x0 x2 (0 : Int32))
else
(pb_X1_threads_2_41 x0 x2 (1 : Int32)))
noncomputable def pm_X1_threads_2 (a0 : Option Nat) (a1 : Int32) : km_M (Nat ⊕ Int32) :=
km_bind (km_gR [(1, 3)] a0) fun r1 =>
km_bind (km_is 30 r1) fun _ => km_bind (pm_J2_get r1 a1) fun r2 =>
km_bind (km_cast [7] r2) fun _ =>
km_bind (km_is 7 r2) fun _ => km_bind (pm_X8_isDone r2) fun i3 =>
if ¬ i3 = 0 then
(pb_X1_threads_2_24 a0 a1 r2 (0 : Int32))
else
(pb_X1_threads_2_24 a0 a1 r2 (1 : Int32))

/-! RosaryCarvers$7 does (LRosaryCarvers$Shop;)I -/
noncomputable def pm_X22_does (a0 : Option Nat) (a1 : Option Nat) : km_M (Nat ⊕ Int32) :=
km_bind (km_gI [(20, 1)] a0) fun i1 =>
km_bind (km_is 1 a1) fun _ => km_bind (pm_X1_threads_2 a1 i1) (km_x Sum.inl fun i2 =>
km_pure (Sum.inr i2))

/-! RosaryCarvers$Shop ties (I)I -/
noncomputable def pb_X1_ties_24  (x1 : Int32) (x2 : Option Nat) (s0 : Int32) : km_M (Nat ⊕ Int32) :=
km_bind (pm_X0_needs s0 (4 : Int32) x1) (km_x Sum.inl fun _ =>
km_bind (km_is 7 x2) fun _ => km_bind (pm_X8_isWhole x2) fun i1 =>
km_bind (km_gI [(7, 2)] x2) fun i2 =>
km_bind (km_is 7 x2) fun _ => km_bind (pm_X8_loose x2) fun i3 =>
km_bind (pm_X0_needs i1 (7 : Int32) ((i2 + (1 : Int32)) - i3)) (km_x Sum.inl fun _ =>
km_bind (km_gI [(7, 3)] x2) fun i4 =>
km_bind (km_pI .int [(7, 3)] x2 (i4 + (1 : Int32))) fun _ =>
km_bind (km_gI [(7, 3)] x2) fun i6 =>
km_pure (Sum.inr i6)))
noncomputable def pm_X1_ties (a0 : Option Nat) (a1 : Int32) : km_M (Nat ⊕ Int32) :=
km_bind (km_gR [(1, 3)] a0) fun r1 =>
km_bind (km_is 30 r1) fun _ => km_bind (pm_J2_get r1 a1) fun r2 =>
km_bind (km_cast [7] r2) fun _ =>
km_bind (km_is 7 r2) fun _ => km_bind (pm_X8_isDone r2) fun i3 =>
if ¬ i3 = 0 then
(pb_X1_ties_24 a1 r2 (0 : Int32))
else
(pb_X1_ties_24 a1 r2 (1 : Int32))

/-! RosaryCarvers$8 does (LRosaryCarvers$Shop;)I -/
noncomputable def pm_X23_does (a0 : Option Nat) (a1 : Option Nat) : km_M (Nat ⊕ Int32) :=
km_bind (km_gI [(21, 1)] a0) fun i1 =>
km_bind (km_is 1 a1) fun _ => km_bind (pm_X1_ties a1 i1) (km_x Sum.inl fun i2 =>
km_pure (Sum.inr i2))

/-! java/util/ArrayList remove (I)Ljava/lang/Object; -/
noncomputable def pm_J2_remove_2 (a0 : Option Nat) (a1 : Int32) : km_M (Option Nat) :=
km_bind (km_gI [(30, 2)] a0) fun i1 =>
km_bind (pm_J10_checkIndex a1 i1) fun i2 =>
km_bind (km_gR [(30, 1)] a0) fun r3 =>
km_bind (km_ldR r3 a1) fun r4 =>
km_bind (km_is 30 a0) fun _ => km_bind (pm_J2_fastRemove a0 r3 a1) fun _ =>
km_pure r4

/-! RosaryCarvers$Rosary drops ()LRosaryCarvers$Bead; -/
noncomputable def pm_X8_drops (a0 : Option Nat) : km_M (Option Nat) :=
km_bind (km_gR [(2, 0), (7, 0), (12, 0)] a0) fun r1 =>
km_bind (km_is 7 a0) fun _ => km_bind (pm_X2_size a0) fun i2 =>
km_bind (km_is 30 r1) fun _ => km_bind (pm_J2_remove_2 r1 (i2 - (1 : Int32))) fun r3 =>
km_bind (km_cast [14] r3) fun _ =>
km_pure r3

/-! RosaryCarvers$Shop drops (I)I -/
noncomputable def pb_X1_drops_20  : Nat → Option Nat → Option Nat → Int32 → Int32 → km_M Int32
| 0, _, _, _, _ => km_fail
| n + 1, x0, x2, x3, x4 =>
if x3 ≤ x4 then
(km_pure x3)
else
(km_bind (km_gR [(1, 2)] x0) fun r1 =>
km_bind (km_is 7 x2) fun _ => km_bind (pm_X8_drops x2) fun r2 =>
km_bind (km_disp r1 [(2, pm_X2_adds r1 r2), (7, pm_X2_adds r1 r2), (12, pm_X2_adds r1 r2)]) fun _ =>
pb_X1_drops_20 n x0 x2 x3 (x4 + (1 : Int32)))
noncomputable def pm_X1_drops (a0 : Option Nat) (a1 : Int32) : km_M Int32 :=
km_bind (km_gR [(1, 3)] a0) fun r1 =>
km_bind (km_is 30 r1) fun _ => km_bind (pm_J2_get r1 a1) fun r2 =>
km_bind (km_cast [7] r2) fun _ =>
km_bind (km_is 7 r2) fun _ => km_bind (pm_X8_loose r2) fun i3 =>
pb_X1_drops_20 km_fuel a0 r2 i3 (0 : Int32)

/-! RosaryCarvers$9 does (LRosaryCarvers$Shop;)I -/
noncomputable def pm_X24_does (a0 : Option Nat) (a1 : Option Nat) : km_M (Nat ⊕ Int32) :=
km_bind (km_gI [(22, 1)] a0) fun i1 =>
km_bind (km_is 1 a1) fun _ => km_bind (pm_X1_drops a1 i1) fun i2 =>
km_pure (Sum.inr i2)

/-! RosaryCarvers seasonOf (I)I -/
noncomputable def pm_X0_seasonOf (a0 : Int32) : km_M Int32 :=
km_bind (km_div a0 (30 : Int32)) fun i1 =>
km_bind (km_rem i1 (4 : Int32)) fun i2 =>
km_pure i2

/-! RosaryCarvers$Pilgrim <init> (IIII)V -/
noncomputable def pm_X10_init (a0 : Option Nat) (a1 : Int32) (a2 : Int32) (a3 : Int32) (a4 : Int32) : km_M Unit :=
km_bind (km_nn a0) fun _ =>
km_bind (km_pI .int [(9, 0)] a0 a1) fun _ =>
km_bind (km_pI .int [(9, 1)] a0 a2) fun _ =>
km_bind (km_pI .int [(9, 2)] a0 a3) fun _ =>
km_bind (km_pI .int [(9, 3)] a0 a4) fun _ =>
km_pure ()

/-! RosaryCarvers$Shop tells (IIII)I -/
noncomputable def pb_X1_tells_55  (x0 : Option Nat) (x2 : Int32) (x3 : Int32) (x4 : Int32) (s0 : Int32) : km_M (Nat ⊕ Int32) :=
km_bind (km_gR [(1, 4)] x0) fun r1 =>
km_bind (km_new 9 4 kz_Pilgrim) fun r2 =>
km_bind (km_nn r2) fun _ => km_bind (pm_X10_init r2 s0 x2 x3 x4) fun _ =>
km_bind (km_is 30 r1) fun _ => km_bind (pm_J2_add r1 r2) fun i3 =>
km_bind (km_gR [(1, 4)] x0) fun r4 =>
km_bind (km_is 30 r4) fun _ => km_bind (pm_J2_size r4) fun i5 =>
km_pure (Sum.inr i5)
noncomputable def pb_X1_tells_17  (x0 : Option Nat) (x1 : Int32) (x2 : Int32) (x3 : Int32) (x4 : Int32) (s0 : Int32) : km_M (Nat ⊕ Int32) :=
km_bind (pm_X0_needs s0 (1 : Int32) (6 : Int32)) (km_x Sum.inl fun _ =>
km_bind (km_gI [(1, 8)] x0) fun i1 =>
km_bind (pm_X0_seasonOf (i1 + x1)) fun i2 =>
if ¬ i2 = (3 : Int32) then
(pb_X1_tells_55 x0 x2 x3 x4 (i1 + x1))
else
(km_bind (km_div (i1 + x1) (30 : Int32)) fun i3 =>
pb_X1_tells_55 x0 x2 x3 x4 ((i3 + (1 : Int32)) * (30 : Int32))))
noncomputable def pm_X1_tells (a0 : Option Nat) (a1 : Int32) (a2 : Int32) (a3 : Int32) (a4 : Int32) : km_M (Nat ⊕ Int32) :=
km_bind (km_gR [(1, 4)] a0) fun r1 =>
km_bind (km_is 30 r1) fun _ => km_bind (pm_J2_size r1) fun i2 =>
if (6 : Int32) ≤ i2 then
(pb_X1_tells_17 a0 a1 a2 a3 a4 (0 : Int32))
else
(pb_X1_tells_17 a0 a1 a2 a3 a4 (1 : Int32))

/-! RosaryCarvers$10 does (LRosaryCarvers$Shop;)I -/
noncomputable def pm_X25_does (a0 : Option Nat) (a1 : Option Nat) : km_M (Nat ⊕ Int32) :=
km_bind (km_gI [(23, 1)] a0) fun i1 =>
km_bind (km_gI [(23, 2)] a0) fun i2 =>
km_bind (km_gI [(23, 3)] a0) fun i3 =>
km_bind (km_gI [(23, 4)] a0) fun i4 =>
km_bind (km_is 1 a1) fun _ => km_bind (pm_X1_tells a1 i1 i2 i3 i4) (km_x Sum.inl fun i5 =>
km_pure (Sum.inr i5))

/-! java/util/ArrayList isEmpty ()Z -/
noncomputable def pm_J2_isEmpty (a0 : Option Nat) : km_M Int32 :=
km_bind (km_gI [(30, 2)] a0) fun i1 =>
if ¬ i1 = 0 then
(km_bind (km_ret .boolean (0 : Int32)) (fun v => km_pure v))
else
(km_bind (km_ret .boolean (1 : Int32)) (fun v => km_pure v))

/-! java/util/BitSet expandTo (I)V -/
noncomputable def pm_J3_expandTo (a0 : Option Nat) (a1 : Int32) : km_M Unit :=
km_bind (km_gI [(31, 1)] a0) fun i1 =>
if (a1 + (1 : Int32)) ≤ i1 then
(km_pure ())
else
(km_bind (km_is 31 a0) fun _ => km_bind (pm_J3_ensureCapacity a0 (a1 + (1 : Int32))) fun _ =>
km_bind (km_pI .int [(31, 1)] a0 (a1 + (1 : Int32))) fun _ =>
km_pure ())

/-! java/util/BitSet set (I)V -/
noncomputable def pm_J3_set (a0 : Option Nat) (a1 : Int32) : km_M Unit :=
if 0 ≤ a1 then
(km_bind (pm_J3_wordIndex a1) fun i1 =>
km_bind (km_is 31 a0) fun _ => km_bind (pm_J3_expandTo a0 i1) fun _ =>
km_bind (km_gR [(31, 0)] a0) fun r2 =>
km_bind (km_ldJ r2 i1) fun j3 =>
km_bind (km_stJ r2 i1 (j3 ||| ((1 : Int64) <<< (a1.toInt64 &&& 63)))) fun _ =>
km_bind (km_is 31 a0) fun _ => km_bind (pm_J3_checkInvariants a0) fun _ =>
km_pure ())
else
(km_fail)

/-! RosaryCarvers$Shop mends ()I -/
noncomputable def pb_X1_mends_71  : Nat → Option Nat → Option Nat → Option Nat → Option Nat → km_M (Nat ⊕ Int32)
| 0, _, _, _, _ => km_fail
| n + 1, x0, x1, x2, x3 =>
km_bind (km_disp x3 [(11, pm_X12_hasNext x3), (33, pm_J5_hasNext x3), (34, pm_J15_hasNext x3)]) fun i1 =>
if i1 = 0 then
(km_bind (km_gI [(1, 16)] x0) fun i2 =>
km_bind (km_is 12 x2) fun _ => km_bind (pm_X2_size x2) fun i3 =>
km_bind (km_pI .int [(1, 16)] x0 (i2 + (i3 + (1 : Int32)))) fun _ =>
km_bind (km_gI [(1, 13)] x0) fun i5 =>
km_bind (km_pI .int [(1, 13)] x0 (i5 + (1 : Int32))) fun _ =>
km_bind (km_gI [(1, 14)] x0) fun i7 =>
km_bind (km_pI .int [(1, 14)] x0 (i7 + (3 : Int32))) fun _ =>
km_bind (km_gI [(14, 0)] x1) fun i9 =>
km_pure (Sum.inr i9))
else
(km_bind (km_disp x3 [(11, pm_X12_next x3), (33, pm_J5_next x3), (34, pm_J15_next x3)]) fun r10 =>
km_bind (km_cast [14] r10) fun _ =>
km_bind (km_gR [(1, 7)] x0) fun r11 =>
km_bind (km_gI [(14, 0)] r10) fun i12 =>
km_bind (km_is 31 r11) fun _ => km_bind (pm_J3_set r11 i12) fun _ =>
pb_X1_mends_71 n x0 x1 x2 x3)
noncomputable def pb_X1_mends_15  (x0 : Option Nat) (s0 : Int32) : km_M (Nat ⊕ Int32) :=
km_bind (pm_X0_needs s0 (8 : Int32) (0 : Int32)) (km_x Sum.inl fun _ =>
km_bind (km_gR [(1, 6)] x0) fun r1 =>
km_bind (km_is 30 r1) fun _ => km_bind (pm_J2_get r1 (0 : Int32)) fun r2 =>
km_bind (km_cast [12] r2) fun _ =>
km_bind (km_gR [(12, 2)] r2) fun r3 =>
km_bind (km_gI [(14, 1)] r3) fun i4 =>
km_bind (km_is 1 x0) fun _ => km_bind (pm_X1_takes x0 i4) (km_x Sum.inl fun r5 =>
km_bind (km_gR [(1, 6)] x0) fun r6 =>
km_bind (km_is 30 r6) fun _ => km_bind (pm_J2_remove_2 r6 (0 : Int32)) fun r7 =>
km_bind (km_cast [12] r7) fun _ =>
km_bind (km_gR [(1, 7)] x0) fun r8 =>
km_bind (km_gI [(14, 0)] r5) fun i9 =>
km_bind (km_is 31 r8) fun _ => km_bind (pm_J3_set r8 i9) fun _ =>
km_bind (km_is 12 r7) fun _ => km_bind (pm_X2_iterator r7) fun r10 =>
pb_X1_mends_71 km_fuel x0 r5 r7 r10))
noncomputable def pm_X1_mends (a0 : Option Nat) : km_M (Nat ⊕ Int32) :=
km_bind (km_gR [(1, 6)] a0) fun r1 =>
km_bind (km_is 30 r1) fun _ => km_bind (pm_J2_isEmpty r1) fun i2 =>
if ¬ i2 = 0 then
(pb_X1_mends_15 a0 (0 : Int32))
else
(pb_X1_mends_15 a0 (1 : Int32))

/-! RosaryCarvers$11 does (LRosaryCarvers$Shop;)I -/
noncomputable def pm_X26_does (a0 : Option Nat) (a1 : Option Nat) : km_M (Nat ⊕ Int32) :=
km_bind (km_is 1 a1) fun _ => km_bind (pm_X1_mends a1) (km_x Sum.inl fun i1 =>
km_pure (Sum.inr i1))

/-! RosaryCarvers$Fine sum (Ljava/lang/Iterable;)I -/
noncomputable def pb_X13_sum_9  : Nat → Int32 → Option Nat → km_M Int32
| 0, _, _ => km_fail
| n + 1, x1, x2 =>
km_bind (km_disp x2 [(11, pm_X12_hasNext x2), (33, pm_J5_hasNext x2), (34, pm_J15_hasNext x2)]) fun i1 =>
if i1 = 0 then
(km_pure x1)
else
(km_bind (km_disp x2 [(11, pm_X12_next x2), (33, pm_J5_next x2), (34, pm_J15_next x2)]) fun r2 =>
km_bind (km_cast [14] r2) fun _ =>
km_bind (km_is 14 r2) fun _ => km_bind (pm_X16_fineness r2) fun i3 =>
pb_X13_sum_9 n (x1 + i3) x2)
noncomputable def pm_X13_sum (a0 : Option Nat) : km_M Int32 :=
km_bind (km_disp a0 [(2, pm_X2_iterator a0), (7, pm_X2_iterator a0), (10, pm_X11_iterator a0), (12, pm_X2_iterator a0), (30, pm_J2_iterator a0), (32, pm_J4_iterator a0)]) fun r1 =>
pb_X13_sum_9 km_fuel (0 : Int32) r1

/-! RosaryCarvers$Beads sum ()I -/
noncomputable def pm_X2_sum (a0 : Option Nat) : km_M Int32 :=
km_bind (pm_X13_sum a0) fun i1 =>
km_pure i1

/-! RosaryCarvers$Beads fineness ()I -/
noncomputable def pm_X2_fineness (a0 : Option Nat) : km_M Int32 :=
km_bind (km_gR [(2, 0), (7, 0), (12, 0)] a0) fun r1 =>
km_bind (km_is 30 r1) fun _ => km_bind (pm_J2_isEmpty r1) fun i2 =>
if i2 = 0 then
(km_bind (km_disp a0 [(2, pm_X2_sum a0), (7, pm_X2_sum a0), (12, pm_X2_sum a0)]) fun i3 =>
km_bind (km_disp a0 [(2, pm_X2_size a0), (7, pm_X2_size a0), (12, pm_X2_size a0)]) fun i4 =>
km_bind (km_div i3 i4) fun i5 =>
km_pure i5)
else
(km_pure (0 : Int32))

/-! RosaryCarvers$Sold last ()I -/
noncomputable def pm_X14_last (a0 : Option Nat) : km_M Int32 :=
km_bind (km_gI [(12, 1)] a0) fun i1 =>
km_bind (km_is 12 a0) fun _ => km_bind (pm_X2_fineness a0) fun i2 =>
km_pure (i1 + ((10 : Int32) * i2))

/-! java/util/ArrayList$Itr remove ()V -/
noncomputable def pm_J5_remove (a0 : Option Nat) : km_M Unit :=
km_bind (km_gI [(33, 1)] a0) fun i1 =>
if 0 ≤ i1 then
(km_bind (km_is 33 a0) fun _ => km_bind (pm_J5_checkForComodification a0) fun _ =>
km_bind (km_gR [(33, 3)] a0) fun r2 =>
km_bind (km_gI [(33, 1)] a0) fun i3 =>
km_bind (km_is 30 r2) fun _ => km_bind (pm_J2_remove_2 r2 i3) fun r4 =>
km_bind (km_gI [(33, 1)] a0) fun i5 =>
km_bind (km_pI .int [(33, 0)] a0 i5) fun _ =>
km_bind (km_pI .int [(33, 1)] a0 (-1 : Int32)) fun _ =>
km_bind (km_gR [(33, 3)] a0) fun r8 =>
km_bind (km_gI [(30, 0)] r8) fun i9 =>
km_bind (km_pI .int [(33, 2)] a0 i9) fun _ =>
km_pure ())
else
(km_fail)

/-! RosaryCarvers$Sold weakest ()LRosaryCarvers$Bead; -/
noncomputable def pb_X14_weakest_7  : Nat → Option Nat → Option Nat → km_M (Option Nat)
| 0, _, _ => km_fail
| n + 1, x1, x2 =>
km_bind (km_disp x2 [(11, pm_X12_hasNext x2), (33, pm_J5_hasNext x2), (34, pm_J15_hasNext x2)]) fun i1 =>
if i1 = 0 then
(km_pure x1)
else
(km_bind (km_disp x2 [(11, pm_X12_next x2), (33, pm_J5_next x2), (34, pm_J15_next x2)]) fun r2 =>
km_bind (km_cast [14] r2) fun _ =>
if x1 = none then
(pb_X14_weakest_7 n r2 x2)
else
(km_bind (km_gI [(14, 2)] r2) fun i3 =>
km_bind (km_gI [(14, 2)] x1) fun i4 =>
if i4 ≤ i3 then
(pb_X14_weakest_7 n x1 x2)
else
(pb_X14_weakest_7 n r2 x2)))
noncomputable def pm_X14_weakest (a0 : Option Nat) : km_M (Option Nat) :=
km_bind (km_is 12 a0) fun _ => km_bind (pm_X2_iterator a0) fun r1 =>
pb_X14_weakest_7 km_fuel none r1

/-! RosaryCarvers$Sold <init> (LRosaryCarvers$Sold;LRosaryCarvers$Bead;)V -/
noncomputable def pm_X14_init (a0 : Option Nat) (a1 : Option Nat) (a2 : Option Nat) : km_M Unit :=
km_bind (km_nn a0) fun _ => km_bind (pm_X2_init a0) fun _ =>
km_bind (km_gI [(12, 1)] a1) fun i1 =>
km_bind (km_pI .int [(12, 1)] a0 i1) fun _ =>
km_bind (km_pR [(12, 2)] a0 a2) fun _ =>
km_bind (km_is 12 a0) fun _ => km_bind (pm_X2_becomes a0 a1) fun _ =>
km_bind (km_is 12 a0) fun _ => km_bind (pm_X2_loses a0 a2) fun _ =>
km_pure ()

/-! RosaryCarvers$Shop comeBack ()V -/
noncomputable def pb_X1_comeBack_8  : Nat → Option Nat → Option Nat → km_M Unit
| 0, _, _ => km_fail
| n + 1, x0, x1 =>
km_bind (km_disp x1 [(11, pm_X12_hasNext x1), (33, pm_J5_hasNext x1), (34, pm_J15_hasNext x1)]) fun i1 =>
if i1 = 0 then
(km_pure ())
else
(km_bind (km_disp x1 [(11, pm_X12_next x1), (33, pm_J5_next x1), (34, pm_J15_next x1)]) fun r2 =>
km_bind (km_cast [12] r2) fun _ =>
km_bind (km_is 12 r2) fun _ => km_bind (pm_X14_last r2) fun i3 =>
km_bind (km_gI [(1, 8)] x0) fun i4 =>
if i4 < i3 then
(pb_X1_comeBack_8 n x0 x1)
else
(km_bind (km_is 33 x1) fun _ => km_bind (pm_J5_remove x1) fun _ =>
km_bind (km_is 12 r2) fun _ => km_bind (pm_X14_weakest r2) fun r5 =>
km_bind (km_gR [(1, 6)] x0) fun r6 =>
km_bind (km_new 12 3 kz_Sold) fun r7 =>
km_bind (km_nn r7) fun _ => km_bind (pm_X14_init r7 r2 r5) fun _ =>
km_bind (km_is 30 r6) fun _ => km_bind (pm_J2_add r6 r7) fun i8 =>
km_bind (km_gR [(1, 7)] x0) fun r9 =>
km_bind (km_gI [(14, 0)] r5) fun i10 =>
km_bind (km_is 31 r9) fun _ => km_bind (pm_J3_set r9 i10) fun _ =>
km_bind (km_gI [(1, 15)] x0) fun i11 =>
km_bind (km_pI .int [(1, 15)] x0 (i11 + (1 : Int32))) fun _ =>
pb_X1_comeBack_8 n x0 x1))
noncomputable def pm_X1_comeBack (a0 : Option Nat) : km_M Unit :=
km_bind (km_gR [(1, 5)] a0) fun r1 =>
km_bind (km_is 30 r1) fun _ => km_bind (pm_J2_iterator r1) fun r2 =>
pb_X1_comeBack_8 km_fuel a0 r2

/-! RosaryCarvers$Shop wanted (LRosaryCarvers$Pilgrim;)I -/
noncomputable def pb_X1_wanted_103 (k5 : Option Nat → Option Nat → Int32 → Int32 → km_M Int32) (x0 : Option Nat) (x1 : Option Nat) (x2 : Int32) (x3 : Int32) : km_M Int32 :=
k5 x0 x1 x2 (x3 + (1 : Int32))
noncomputable def pb_X1_wanted_101 (k5 : Option Nat → Option Nat → Int32 → Int32 → km_M Int32) (x0 : Option Nat) (x1 : Option Nat) (x3 : Int32) : km_M Int32 :=
pb_X1_wanted_103 k5 x0 x1 x3 x3
noncomputable def pb_X1_wanted_5  : Nat → Option Nat → Option Nat → Int32 → Int32 → km_M Int32
| 0, _, _, _, _ => km_fail
| n + 1, x0, x1, x2, x3 =>
km_bind (km_gR [(1, 3)] x0) fun r1 =>
km_bind (km_is 30 r1) fun _ => km_bind (pm_J2_size r1) fun i2 =>
if i2 ≤ x3 then
(km_pure x2)
else
(km_bind (km_gR [(1, 5)] x0) fun r3 =>
km_bind (km_is 30 r3) fun _ => km_bind (pm_J2_size r3) fun i4 =>
if (8 : Int32) ≤ i4 then
(km_pure x2)
else
(km_bind (km_gR [(1, 3)] x0) fun r5 =>
km_bind (km_is 30 r5) fun _ => km_bind (pm_J2_get r5 x3) fun r6 =>
km_bind (km_cast [7] r6) fun _ =>
km_bind (km_is 7 r6) fun _ => km_bind (pm_X8_isDone r6) fun i7 =>
if i7 = 0 then
(pb_X1_wanted_103 (pb_X1_wanted_5 n) x0 x1 x2 x3)
else
(km_bind (km_gI [(7, 1)] r6) fun i8 =>
km_bind (km_gI [(9, 1)] x1) fun i9 =>
if ¬ i8 = i9 then
(pb_X1_wanted_103 (pb_X1_wanted_5 n) x0 x1 x2 x3)
else
(km_bind (km_is 7 r6) fun _ => km_bind (pm_X2_fineness r6) fun i10 =>
km_bind (km_gI [(9, 2)] x1) fun i11 =>
if i10 < i11 then
(pb_X1_wanted_103 (pb_X1_wanted_5 n) x0 x1 x2 x3)
else
(if x2 = (-6 : Int32) then
(pb_X1_wanted_101 (pb_X1_wanted_5 n) x0 x1 x3)
else
(km_bind (km_is 7 r6) fun _ => km_bind (pm_X2_fineness r6) fun i12 =>
km_bind (km_gR [(1, 3)] x0) fun r13 =>
km_bind (km_is 30 r13) fun _ => km_bind (pm_J2_get r13 x2) fun r14 =>
km_bind (km_cast [7] r14) fun _ =>
km_bind (km_is 7 r14) fun _ => km_bind (pm_X2_fineness r14) fun i15 =>
if i15 ≤ i12 then
(pb_X1_wanted_103 (pb_X1_wanted_5 n) x0 x1 x2 x3)
else
(pb_X1_wanted_101 (pb_X1_wanted_5 n) x0 x1 x3)))))))
noncomputable def pm_X1_wanted (a0 : Option Nat) (a1 : Option Nat) : km_M Int32 :=
pb_X1_wanted_5 km_fuel a0 a1 (-6 : Int32) (0 : Int32)

/-! RosaryCarvers$Sold <init> (LRosaryCarvers$Beads;I)V -/
noncomputable def pm_X14_init_2 (a0 : Option Nat) (a1 : Option Nat) (a2 : Int32) : km_M Unit :=
km_bind (km_nn a0) fun _ => km_bind (pm_X2_init a0) fun _ =>
km_bind (km_pI .int [(12, 1)] a0 a2) fun _ =>
km_bind (km_pR [(12, 2)] a0 none) fun _ =>
km_bind (km_is 12 a0) fun _ => km_bind (pm_X2_becomes a0 a1) fun _ =>
km_pure ()

/-! RosaryCarvers$Shop buys (LRosaryCarvers$Pilgrim;)Z -/
noncomputable def pm_X1_buys (a0 : Option Nat) (a1 : Option Nat) : km_M Int32 :=
km_bind (km_is 1 a0) fun _ => km_bind (pm_X1_wanted a0 a1) fun i1 =>
if ¬ i1 = (-6 : Int32) then
(km_bind (km_gR [(1, 5)] a0) fun r2 =>
km_bind (km_new 12 3 kz_Sold) fun r3 =>
km_bind (km_gR [(1, 3)] a0) fun r4 =>
km_bind (km_is 30 r4) fun _ => km_bind (pm_J2_remove_2 r4 i1) fun r5 =>
km_bind (km_cast [2, 7, 12] r5) fun _ =>
km_bind (km_gI [(1, 8)] a0) fun i6 =>
km_bind (km_nn r3) fun _ => km_bind (pm_X14_init_2 r3 r5 i6) fun _ =>
km_bind (km_is 30 r2) fun _ => km_bind (pm_J2_add r2 r3) fun i7 =>
km_bind (km_gI [(1, 14)] a0) fun i8 =>
km_bind (km_gI [(9, 3)] a1) fun i9 =>
km_bind (km_pI .int [(1, 14)] a0 (i8 + i9)) fun _ =>
km_bind (km_gI [(1, 12)] a0) fun i11 =>
km_bind (km_pI .int [(1, 12)] a0 (i11 + (1 : Int32))) fun _ =>
km_bind (km_ret .boolean (1 : Int32)) (fun v => km_pure v))
else
(km_bind (km_ret .boolean (0 : Int32)) (fun v => km_pure v))

/-! RosaryCarvers$Shop goesDay ()I -/
noncomputable def pb_X1_goesDay_69  : Nat → Option Nat → Int32 → Option Nat → km_M Int32
| 0, _, _, _ => km_fail
| n + 1, x0, x1, x2 =>
km_bind (km_disp x2 [(11, pm_X12_hasNext x2), (33, pm_J5_hasNext x2), (34, pm_J15_hasNext x2)]) fun i1 =>
if i1 = 0 then
(km_pure x1)
else
(km_bind (km_disp x2 [(11, pm_X12_next x2), (33, pm_J5_next x2), (34, pm_J15_next x2)]) fun r2 =>
km_bind (km_cast [9] r2) fun _ =>
km_bind (km_gI [(9, 0)] r2) fun i3 =>
km_bind (km_gI [(1, 8)] x0) fun i4 =>
if ¬ i3 = i4 then
(pb_X1_goesDay_69 n x0 x1 x2)
else
(km_bind (km_is 33 x2) fun _ => km_bind (pm_J5_remove x2) fun _ =>
km_bind (km_is 1 x0) fun _ => km_bind (pm_X1_buys x0 r2) fun i5 =>
km_bind (pm_X0_bit i5) fun i6 =>
pb_X1_goesDay_69 n x0 (x1 + i6) x2))
noncomputable def pb_X1_goesDay_18  : Nat → Option Nat → Option Nat → km_M Int32
| 0, _, _ => km_fail
| n + 1, x0, x1 =>
km_bind (km_disp x1 [(11, pm_X12_hasNext x1), (33, pm_J5_hasNext x1), (34, pm_J15_hasNext x1)]) fun i1 =>
if i1 = 0 then
(km_bind (km_is 1 x0) fun _ => km_bind (pm_X1_comeBack x0) fun _ =>
km_bind (km_gR [(1, 4)] x0) fun r2 =>
km_bind (km_is 30 r2) fun _ => km_bind (pm_J2_iterator r2) fun r3 =>
pb_X1_goesDay_69 km_fuel x0 (0 : Int32) r3)
else
(km_bind (km_disp x1 [(11, pm_X12_next x1), (33, pm_J5_next x1), (34, pm_J15_next x1)]) fun r4 =>
km_bind (km_cast [5] r4) fun _ =>
km_bind (km_gI [(5, 1)] r4) fun i5 =>
km_bind (km_pI .int [(5, 1)] r4 (km_max (0 : Int32) (i5 - (30 : Int32)))) fun _ =>
pb_X1_goesDay_18 n x0 x1)
noncomputable def pm_X1_goesDay (a0 : Option Nat) : km_M Int32 :=
km_bind (km_gI [(1, 8)] a0) fun i1 =>
km_bind (km_pI .int [(1, 8)] a0 (i1 + (1 : Int32))) fun _ =>
km_bind (km_gR [(1, 0)] a0) fun r3 =>
km_bind (km_is 30 r3) fun _ => km_bind (pm_J2_iterator r3) fun r4 =>
pb_X1_goesDay_18 km_fuel a0 r4

/-! RosaryCarvers$Shop passes (I)I -/
noncomputable def pb_X1_passes_4  : Nat → Option Nat → Int32 → Int32 → Int32 → km_M Int32
| 0, _, _, _, _ => km_fail
| n + 1, x0, x1, x2, x3 =>
if x1 ≤ x3 then
(km_pure x2)
else
(km_bind (km_is 1 x0) fun _ => km_bind (pm_X1_goesDay x0) fun i1 =>
pb_X1_passes_4 n x0 x1 (x2 + i1) (x3 + (1 : Int32)))
noncomputable def pm_X1_passes (a0 : Option Nat) (a1 : Int32) : km_M Int32 :=
pb_X1_passes_4 km_fuel a0 a1 (0 : Int32) (0 : Int32)

/-! RosaryCarvers$12 does (LRosaryCarvers$Shop;)I -/
noncomputable def pm_X27_does (a0 : Option Nat) (a1 : Option Nat) : km_M (Nat ⊕ Int32) :=
km_bind (km_gI [(25, 1)] a0) fun i1 =>
km_bind (km_is 1 a1) fun _ => km_bind (pm_X1_passes a1 i1) fun i2 =>
km_pure (Sum.inr i2)

/-! java/lang/String isLatin1 ()Z -/
noncomputable def pm_J16_isLatin1 (a0 : Option Nat) : km_M Int32 :=
if (1 : Int32) = 0 then
(km_fail)
else
(km_bind (km_gI [(35, 1)] a0) fun i1 =>
if ¬ i1 = 0 then
(km_bind (km_ret .boolean (0 : Int32)) (fun v => km_pure v))
else
(km_bind (km_ret .boolean (1 : Int32)) (fun v => km_pure v)))

/-! java/lang/String hashCode ()I -/
noncomputable def pm_J16_hashCode (a0 : Option Nat) : km_M Int32 :=
km_bind (km_gI [(35, 2)] a0) fun i1 =>
if ¬ i1 = 0 then
(km_pure i1)
else
(km_bind (km_gI [(35, 3)] a0) fun i2 =>
if ¬ i2 = 0 then
(km_pure i1)
else
(km_bind (km_is 35 a0) fun _ => km_bind (pm_J16_isLatin1 a0) fun i3 =>
if i3 = 0 then
(km_bind (km_gR [(35, 0)] a0) fun r4 =>
km_fail)
else
(km_bind (km_gR [(35, 0)] a0) fun r5 =>
km_fail)))

/-! RosaryCarvers$Command n (I)I -/
noncomputable def pm_X30_n (a0 : Option Nat) (a1 : Int32) : km_M Int32 :=
km_bind (km_gR [(28, 1)] a0) fun r1 =>
km_bind (km_ldI 0 r1 a1) fun i2 =>
km_pure i2

/-! RosaryCarvers$Shop isCarver (I)Z -/
noncomputable def pm_X1_isCarver (a0 : Option Nat) (a1 : Int32) : km_M Int32 :=
km_bind (km_gR [(1, 0)] a0) fun r1 =>
km_bind (km_is 30 r1) fun _ => km_bind (pm_J2_size r1) fun i2 =>
km_bind (pm_X0_in a1 (0 : Int32) (i2 - (1 : Int32))) fun i3 =>
km_bind (km_ret .boolean i3) (fun v => km_pure v)

/-! RosaryCarvers isCarved (I)Z -/
noncomputable def pm_X0_isCarved (a0 : Int32) : km_M Int32 :=
km_bind (pm_X0_in a0 (1 : Int32) (10 : Int32)) fun i1 =>
km_bind (km_ret .boolean i1) (fun v => km_pure v)

/-! RosaryCarvers$OutOfRange <init> ()V -/
noncomputable def pm_X15_init (a0 : Option Nat) : km_M Unit :=
km_bind (km_nn a0) fun _ => km_bind (pm_J7_init_2 a0 none none (0 : Int32) (0 : Int32)) fun _ =>
km_pure ()

/-! RosaryCarvers inRange (Z)V -/
noncomputable def pm_X0_inRange (a0 : Int32) : km_M (Nat ⊕ Unit) :=
if ¬ a0 = 0 then
(km_pure (Sum.inr ()))
else
(km_bind (km_new 13 6 kz_OutOfRange) fun r1 =>
km_bind (km_nn r1) fun _ => km_bind (pm_X15_init r1) fun _ =>
km_throw r1)

/-! RosaryCarvers carves (LRosaryCarvers$Shop;LRosaryCarvers$Command;Z)I -/
noncomputable def pb_X0_carves_28  (x0 : Option Nat) (x1 : Option Nat) (x2 : Int32) (s0 : Int32) : km_M (Nat ⊕ Int32) :=
km_bind (pm_X0_inRange s0) (km_x Sum.inl fun _ =>
km_bind (km_is 28 x1) fun _ => km_bind (pm_X30_n x1 (0 : Int32)) fun i1 =>
km_bind (km_is 28 x1) fun _ => km_bind (pm_X30_n x1 (1 : Int32)) fun i2 =>
km_bind (km_is 1 x0) fun _ => km_bind (pm_X1_carves x0 i1 x2 i2) (km_x Sum.inl fun i3 =>
km_pure (Sum.inr i3)))
noncomputable def pb_X0_carves_27  (x0 : Option Nat) (x1 : Option Nat) (x2 : Int32) : km_M (Nat ⊕ Int32) :=
pb_X0_carves_28 x0 x1 x2 (0 : Int32)
noncomputable def pm_X0_carves (a0 : Option Nat) (a1 : Option Nat) (a2 : Int32) : km_M (Nat ⊕ Int32) :=
km_bind (km_is 28 a1) fun _ => km_bind (pm_X30_n a1 (0 : Int32)) fun i1 =>
km_bind (km_is 1 a0) fun _ => km_bind (pm_X1_isCarver a0 i1) fun i2 =>
if i2 = 0 then
(pb_X0_carves_27 a0 a1 a2)
else
(km_bind (km_is 28 a1) fun _ => km_bind (pm_X30_n a1 (1 : Int32)) fun i3 =>
km_bind (pm_X0_isCarved i3) fun i4 =>
if i4 = 0 then
(pb_X0_carves_27 a0 a1 a2)
else
(pb_X0_carves_28 a0 a1 a2 (1 : Int32)))

/-! RosaryCarvers isPattern (II)Z -/
noncomputable def pm_X0_isPattern (a0 : Int32) (a1 : Int32) : km_M Int32 :=
km_bind (pm_X0_in a0 (1 : Int32) (4 : Int32)) fun i1 =>
if i1 = 0 then
(km_bind (km_ret .boolean (0 : Int32)) (fun v => km_pure v))
else
(km_bind (pm_X0_in a1 (1 : Int32) (6 : Int32)) fun i2 =>
if i2 = 0 then
(km_bind (km_ret .boolean (0 : Int32)) (fun v => km_pure v))
else
(km_bind (km_ret .boolean (1 : Int32)) (fun v => km_pure v)))

/-! RosaryCarvers$Shop isString (I)Z -/
noncomputable def pm_X1_isString (a0 : Option Nat) (a1 : Int32) : km_M Int32 :=
km_bind (km_gR [(1, 3)] a0) fun r1 =>
km_bind (km_is 30 r1) fun _ => km_bind (pm_J2_size r1) fun i2 =>
km_bind (pm_X0_in a1 (0 : Int32) (i2 - (1 : Int32))) fun i3 =>
km_bind (km_ret .boolean i3) (fun v => km_pure v)

/-! RosaryCarvers$Shop threads (II)I -/
noncomputable def pb_X1_threads_5  : Nat → Option Nat → Int32 → Int32 → Int32 → Int32 → km_M (Nat ⊕ Int32)
| 0, _, _, _, _, _ => km_fail
| n + 1, x0, x1, x2, x3, x4 =>
if x2 ≤ x4 then
(km_pure (Sum.inr x3))
else
(km_bind (km_is 1 x0) fun _ => km_bind (pm_X1_threads_2 x0 x1) (km_x Sum.inl fun i1 =>
pb_X1_threads_5 n x0 x1 x2 i1 (x4 + (1 : Int32))))
noncomputable def pm_X1_threads (a0 : Option Nat) (a1 : Int32) (a2 : Int32) : km_M (Nat ⊕ Int32) :=
pb_X1_threads_5 km_fuel a0 a1 a2 (0 : Int32) (0 : Int32)

/-! RosaryCarvers areDays (I)Z -/
noncomputable def pm_X0_areDays (a0 : Int32) : km_M Int32 :=
km_bind (pm_X0_in a0 (1 : Int32) (60 : Int32)) fun i1 =>
km_bind (km_ret .boolean i1) (fun v => km_pure v)

/-! RosaryCarvers does (LRosaryCarvers$Shop;LRosaryCarvers$Command;)I -/
noncomputable def pb_X0_does_300  (x0 : Option Nat) (x1 : Option Nat) (s0 : Int32) : km_M (Nat ⊕ Int32) :=
km_bind (pm_X0_inRange s0) (km_x Sum.inl fun _ =>
km_bind (km_is 28 x1) fun _ => km_bind (pm_X30_n x1 (0 : Int32)) fun i1 =>
km_bind (km_is 28 x1) fun _ => km_bind (pm_X30_n x1 (1 : Int32)) fun i2 =>
km_bind (km_is 1 x0) fun _ => km_bind (pm_X1_threads x0 i1 i2) (km_x Sum.inl fun i3 =>
km_pure (Sum.inr i3)))
noncomputable def pb_X0_does_299  (x0 : Option Nat) (x1 : Option Nat) : km_M (Nat ⊕ Int32) :=
pb_X0_does_300 x0 x1 (0 : Int32)
noncomputable def pb_X0_does_179  (x0 : Option Nat) (x1 : Option Nat) (x3 : Int32) : km_M (Nat ⊕ Int32) :=
km_tsw x3 0 6 [(km_bind (pm_X0_carves x0 x1 (1 : Int32)) (km_x Sum.inl fun i1 =>
km_pure (Sum.inr i1))),
(km_bind (pm_X0_carves x0 x1 (0 : Int32)) (km_x Sum.inl fun i2 =>
km_pure (Sum.inr i2))),
(km_bind (km_is 28 x1) fun _ => km_bind (pm_X30_n x1 (0 : Int32)) fun i3 =>
km_bind (km_is 28 x1) fun _ => km_bind (pm_X30_n x1 (1 : Int32)) fun i4 =>
km_bind (pm_X0_isPattern i3 i4) fun i5 =>
km_bind (pm_X0_inRange i5) (km_x Sum.inl fun _ =>
km_bind (km_is 28 x1) fun _ => km_bind (pm_X30_n x1 (0 : Int32)) fun i6 =>
km_bind (km_is 28 x1) fun _ => km_bind (pm_X30_n x1 (1 : Int32)) fun i7 =>
km_bind (km_is 1 x0) fun _ => km_bind (pm_X1_begins x0 i6 i7) (km_x Sum.inl fun i8 =>
km_pure (Sum.inr i8)))),
(km_bind (km_is 28 x1) fun _ => km_bind (pm_X30_n x1 (0 : Int32)) fun i9 =>
km_bind (km_is 1 x0) fun _ => km_bind (pm_X1_isString x0 i9) fun i10 =>
if i10 = 0 then
(pb_X0_does_299 x0 x1)
else
(km_bind (km_is 28 x1) fun _ => km_bind (pm_X30_n x1 (1 : Int32)) fun i11 =>
km_bind (pm_X0_in i11 (1 : Int32) (28 : Int32)) fun i12 =>
if i12 = 0 then
(pb_X0_does_299 x0 x1)
else
(pb_X0_does_300 x0 x1 (1 : Int32)))),
(km_bind (km_is 28 x1) fun _ => km_bind (pm_X30_n x1 (0 : Int32)) fun i13 =>
km_bind (km_is 1 x0) fun _ => km_bind (pm_X1_isString x0 i13) fun i14 =>
km_bind (pm_X0_inRange i14) (km_x Sum.inl fun _ =>
km_bind (km_is 28 x1) fun _ => km_bind (pm_X30_n x1 (0 : Int32)) fun i15 =>
km_bind (km_is 1 x0) fun _ => km_bind (pm_X1_ties x0 i15) (km_x Sum.inl fun i16 =>
km_pure (Sum.inr i16)))),
(km_bind (km_is 28 x1) fun _ => km_bind (pm_X30_n x1 (0 : Int32)) fun i17 =>
km_bind (km_is 1 x0) fun _ => km_bind (pm_X1_isString x0 i17) fun i18 =>
km_bind (pm_X0_inRange i18) (km_x Sum.inl fun _ =>
km_bind (km_is 28 x1) fun _ => km_bind (pm_X30_n x1 (0 : Int32)) fun i19 =>
km_bind (km_is 1 x0) fun _ => km_bind (pm_X1_drops x0 i19) fun i20 =>
km_pure (Sum.inr i20))),
(km_bind (km_is 1 x0) fun _ => km_bind (pm_X1_mends x0) (km_x Sum.inl fun i21 =>
km_pure (Sum.inr i21)))] (km_bind (km_is 28 x1) fun _ => km_bind (pm_X30_n x1 (0 : Int32)) fun i22 =>
km_bind (pm_X0_areDays i22) fun i23 =>
km_bind (pm_X0_inRange i23) (km_x Sum.inl fun _ =>
km_bind (km_is 28 x1) fun _ => km_bind (pm_X30_n x1 (0 : Int32)) fun i24 =>
km_bind (km_is 1 x0) fun _ => km_bind (pm_X1_passes x0 i24) fun i25 =>
km_pure (Sum.inr i25)))
noncomputable def pm_X0_does (a0 : Option Nat) (a1 : Option Nat) : km_M (Nat ⊕ Int32) :=
km_bind (km_gR [(28, 0)] a1) fun r1 =>
km_bind (km_is 35 r1) fun _ => km_bind (pm_J16_hashCode r1) fun i2 =>
km_lsw i2 [((-874443254 : Int32), km_bind (km_k 23) fun r3 =>
km_bind (km_is 35 r1) fun _ => km_bind (pm_J16_equals r1 r3) fun i4 =>
if i4 = 0 then
(pb_X0_does_179 a0 a1 (-1 : Int32))
else
(pb_X0_does_179 a0 a1 (3 : Int32))),
((3092207 : Int32), km_bind (km_k 13) fun r5 =>
km_bind (km_is 35 r1) fun _ => km_bind (pm_J16_equals r1 r5) fun i6 =>
if i6 = 0 then
(pb_X0_does_179 a0 a1 (-1 : Int32))
else
(pb_X0_does_179 a0 a1 (5 : Int32))),
((3296904 : Int32), km_bind (km_k 16) fun r7 =>
km_bind (km_is 35 r1) fun _ => km_bind (pm_J16_equals r1 r7) fun i8 =>
if i8 = 0 then
(pb_X0_does_179 a0 a1 (-1 : Int32))
else
(pb_X0_does_179 a0 a1 (4 : Int32))),
((3347790 : Int32), km_bind (km_k 20) fun r9 =>
km_bind (km_is 35 r1) fun _ => km_bind (pm_J16_equals r1 r9) fun i10 =>
if i10 = 0 then
(pb_X0_does_179 a0 a1 (-1 : Int32))
else
(pb_X0_does_179 a0 a1 (6 : Int32))),
((93616297 : Int32), km_bind (km_k 11) fun r11 =>
km_bind (km_is 35 r1) fun _ => km_bind (pm_J16_equals r1 r11) fun i12 =>
if i12 = 0 then
(pb_X0_does_179 a0 a1 (-1 : Int32))
else
(pb_X0_does_179 a0 a1 (2 : Int32))),
((102742843 : Int32), km_bind (km_k 18) fun r13 =>
km_bind (km_is 35 r1) fun _ => km_bind (pm_J16_equals r1 r13) fun i14 =>
if i14 = 0 then
(pb_X0_does_179 a0 a1 (-1 : Int32))
else
(pb_X0_does_179 a0 a1 (0 : Int32))),
((109548807 : Int32), km_bind (km_k 21) fun r15 =>
km_bind (km_is 35 r1) fun _ => km_bind (pm_J16_equals r1 r15) fun i16 =>
if i16 = 0 then
(pb_X0_does_179 a0 a1 (-1 : Int32))
else
(pb_X0_does_179 a0 a1 (1 : Int32)))] (pb_X0_does_179 a0 a1 (-1 : Int32))

/-! RosaryCarvers doesAll (LRosaryCarvers$Shop;Ljava/util/ArrayDeque;)I -/
noncomputable def pb_X0_doesAll_38  (x2 : Int32) (s0 : Option Nat) : km_M (Nat ⊕ Int32) :=
km_bind (km_new 8 8 kz_Refused) fun r1 =>
km_bind (km_nn r1) fun _ => km_bind (pm_X9_init_2 r1 (9 : Int32) x2 s0) fun _ =>
km_throw r1
noncomputable def pb_X0_doesAll_7  : Nat → Option Nat → Int32 → Option Nat → km_M (Nat ⊕ Int32)
| 0, _, _, _ => km_fail
| n + 1, x0, x2, x3 =>
km_bind (km_disp x3 [(11, pm_X12_hasNext x3), (33, pm_J5_hasNext x3), (34, pm_J15_hasNext x3)]) fun i1 =>
if i1 = 0 then
(km_pure (Sum.inr x2))
else
(km_bind (km_disp x3 [(11, pm_X12_next x3), (33, pm_J5_next x3), (34, pm_J15_next x3)]) fun r2 =>
km_bind (km_cast [28] r2) fun _ =>
km_bind (pm_X0_does x0 r2) (km_h (fun q => km_bind (km_cls (some q)) fun c => if c = 8 then (km_bind (km_is 8 (some q)) fun _ => pb_X0_doesAll_38 x2 (some q)) else (km_bind (km_is 13 (some q)) fun _ => pb_X0_doesAll_38 x2 (some q))) fun i3 =>
pb_X0_doesAll_7 n x0 (x2 + (1 : Int32)) x3))
noncomputable def pm_X0_doesAll (a0 : Option Nat) (a1 : Option Nat) : km_M (Nat ⊕ Int32) :=
km_bind (km_is 32 a1) fun _ => km_bind (pm_J4_iterator a1) fun r1 =>
pb_X0_doesAll_7 km_fuel a0 (0 : Int32) r1

/-! RosaryCarvers$13 does (LRosaryCarvers$Shop;)I -/
noncomputable def pm_X31_does (a0 : Option Nat) (a1 : Option Nat) : km_M (Nat ⊕ Int32) :=
km_bind (km_gR [(29, 1)] a0) fun r1 =>
km_bind (pm_X0_doesAll a1 r1) (km_x Sum.inl fun i2 =>
km_pure (Sum.inr i2))

/-! java/util/ArrayDeque addLast (Ljava/lang/Object;)V -/
noncomputable def pm_J4_addLast (a0 : Option Nat) (a1 : Option Nat) : km_M Unit :=
if a1 = none then
(km_fail)
else
(km_bind (km_gR [(32, 0)] a0) fun r1 =>
km_bind (km_gI [(32, 2)] a0) fun i2 =>
km_bind (km_stR kn_String r1 i2 a1) fun _ =>
km_bind (km_gI [(32, 1)] a0) fun i4 =>
km_bind (km_gI [(32, 2)] a0) fun i5 =>
km_bind (km_len r1) fun i6 =>
km_bind (pm_J4_inc i5 i6) fun i7 =>
km_bind (km_pI .int [(32, 2)] a0 i7) fun _ =>
if ¬ i4 = i7 then
(km_pure ())
else
(km_fail))

/-! java/util/ArrayDeque elementAt ([Ljava/lang/Object;I)Ljava/lang/Object; -/
noncomputable def pm_J4_elementAt (a0 : Option Nat) (a1 : Int32) : km_M (Option Nat) :=
km_bind (km_ldR a0 a1) fun r1 =>
km_pure r1

/-! java/util/ArrayDeque pollFirst ()Ljava/lang/Object; -/
noncomputable def pm_J4_pollFirst (a0 : Option Nat) : km_M (Option Nat) :=
km_bind (km_gR [(32, 0)] a0) fun r1 =>
km_bind (km_gI [(32, 1)] a0) fun i2 =>
km_bind (pm_J4_elementAt r1 i2) fun r3 =>
if r3 = none then
(km_pure r3)
else
(km_bind (km_stR kn_String r1 i2 none) fun _ =>
km_bind (km_len r1) fun i5 =>
km_bind (pm_J4_inc i2 i5) fun i6 =>
km_bind (km_pI .int [(32, 1)] a0 i6) fun _ =>
km_pure r3)

/-! java/util/ArrayDeque removeFirst ()Ljava/lang/Object; -/
noncomputable def pm_J4_removeFirst (a0 : Option Nat) : km_M (Option Nat) :=
km_bind (km_is 32 a0) fun _ => km_bind (pm_J4_pollFirst a0) fun r1 =>
if r1 = none then
(km_fail)
else
(km_pure r1)

/-! RosaryCarvers$Deed done ()I -/
noncomputable def pb_X4_done_67  (x0 : Option Nat) (x1 : Option Nat) (x2 : Int32) : km_M Int32 :=
km_bind (km_gR [(4, 0), (15, 0), (16, 0), (17, 0), (18, 0), (19, 0), (20, 0), (21, 0), (22, 0), (23, 0), (24, 0), (25, 0), (29, 0)] x0) fun r1 =>
km_bind (km_pR [(0, 0)] r1 x1) fun _ =>
km_pure x2
noncomputable def pb_X4_done_77  (x0 : Option Nat) (s0 : Option Nat) : km_M Int32 :=
km_bind (km_gR [(4, 0), (15, 0), (16, 0), (17, 0), (18, 0), (19, 0), (20, 0), (21, 0), (22, 0), (23, 0), (24, 0), (25, 0), (29, 0)] x0) fun r1 =>
km_bind (km_pR [(0, 3)] r1 s0) fun _ =>
km_pure (-5 : Int32)
noncomputable def pm_X4_done (a0 : Option Nat) : km_M Int32 :=
km_bind (km_new 1 17 kz_Shop) fun r1 =>
km_bind (km_gR [(4, 0), (15, 0), (16, 0), (17, 0), (18, 0), (19, 0), (20, 0), (21, 0), (22, 0), (23, 0), (24, 0), (25, 0), (29, 0)] a0) fun r2 =>
km_bind (km_gR [(0, 0)] r2) fun r3 =>
km_bind (km_nn r1) fun _ => km_bind (pm_X1_init_2 r1 r3) fun _ =>
km_bind (km_disp a0 [(4, pm_X5_does a0 r1), (15, pm_X17_does a0 r1), (16, pm_X18_does a0 r1), (17, pm_X19_does a0 r1), (18, pm_X20_does a0 r1), (19, pm_X21_does a0 r1), (20, pm_X22_does a0 r1), (21, pm_X23_does a0 r1), (22, pm_X24_does a0 r1), (23, pm_X25_does a0 r1), (24, pm_X26_does a0 r1), (25, pm_X27_does a0 r1), (29, pm_X31_does a0 r1)]) (km_h (fun q => km_bind (km_is 8 (some q)) fun _ => pb_X4_done_77 a0 (some q)) fun i4 =>
km_bind (km_gR [(4, 0), (15, 0), (16, 0), (17, 0), (18, 0), (19, 0), (20, 0), (21, 0), (22, 0), (23, 0), (24, 0), (25, 0), (29, 0)] a0) fun r5 =>
km_bind (km_gR [(0, 2)] r5) fun r6 =>
km_bind (km_gR [(4, 0), (15, 0), (16, 0), (17, 0), (18, 0), (19, 0), (20, 0), (21, 0), (22, 0), (23, 0), (24, 0), (25, 0), (29, 0)] a0) fun r7 =>
km_bind (km_gR [(0, 0)] r7) fun r8 =>
km_bind (km_is 32 r6) fun _ => km_bind (pm_J4_addLast r6 r8) fun _ =>
km_bind (km_gR [(4, 0), (15, 0), (16, 0), (17, 0), (18, 0), (19, 0), (20, 0), (21, 0), (22, 0), (23, 0), (24, 0), (25, 0), (29, 0)] a0) fun r9 =>
km_bind (km_gR [(0, 2)] r9) fun r10 =>
km_bind (km_is 32 r10) fun _ => km_bind (pm_J4_size r10) fun i11 =>
if i11 ≤ (8 : Int32) then
(pb_X4_done_67 a0 r1 i4)
else
(km_bind (km_gR [(4, 0), (15, 0), (16, 0), (17, 0), (18, 0), (19, 0), (20, 0), (21, 0), (22, 0), (23, 0), (24, 0), (25, 0), (29, 0)] a0) fun r12 =>
km_bind (km_gR [(0, 2)] r12) fun r13 =>
km_bind (km_is 32 r13) fun _ => km_bind (pm_J4_removeFirst r13) fun r14 =>
km_bind (km_cast [1] r14) fun _ =>
pb_X4_done_67 a0 r1 i4))

/-! RosaryCarvers stones (I)I -/
noncomputable def pm_X0_stones (a0 : Option Nat) (a1 : Int32) : km_M Int32 :=
km_bind (pm_X0_in a1 (1 : Int32) (200 : Int32)) fun i1 =>
if ¬ i1 = 0 then
(km_bind (km_new 4 3 kz_D1) fun r2 =>
km_bind (km_nn r2) fun _ => km_bind (pm_X5_init r2 a0 a1) fun _ =>
km_bind (km_is 4 r2) fun _ => km_bind (pm_X4_done r2) fun i3 =>
km_pure i3)
else
(km_pure (-2 : Int32))

/-! RosaryCarversModel isIn (III)Z -/
noncomputable def pm_X3_isIn (a0 : Int32) (a1 : Int32) (a2 : Int32) : km_M Int32 :=
if a0 < a1 then
(km_bind (km_ret .boolean (0 : Int32)) (fun v => km_pure v))
else
(if a2 < a0 then
(km_bind (km_ret .boolean (0 : Int32)) (fun v => km_pure v))
else
(km_bind (km_ret .boolean (1 : Int32)) (fun v => km_pure v)))

/-! RosaryCarversModel copies ([II[III)V -/
noncomputable def pb_X3_copies_3  : Nat → Option Nat → Int32 → Option Nat → Int32 → Int32 → Int32 → km_M Unit
| 0, _, _, _, _, _, _ => km_fail
| n + 1, x0, x1, x2, x3, x4, x5 =>
if x4 ≤ x5 then
(km_pure ())
else
(km_bind (km_ldI 0 x0 (x1 + x5)) fun i1 =>
km_bind (km_stI 0 x2 (x3 + x5) i1) fun _ =>
pb_X3_copies_3 n x0 x1 x2 x3 x4 (x5 + (1 : Int32)))
noncomputable def pm_X3_copies (a0 : Option Nat) (a1 : Int32) (a2 : Option Nat) (a3 : Int32) (a4 : Int32) : km_M Unit :=
pb_X3_copies_3 km_fuel a0 a1 a2 a3 a4 (0 : Int32)

/-! RosaryCarversModel keeps ()V -/
noncomputable def pm_X3_keeps (a0 : Option Nat) : km_M Unit :=
km_bind (km_gR [(3, 0)] a0) fun r1 =>
km_bind (km_gR [(3, 1)] a0) fun r2 =>
km_bind (pm_X3_copies r1 (0 : Int32) r2 (0 : Int32) (2188 : Int32)) fun _ =>
km_pure ()

/-! RosaryCarversModel lesser (II)I -/
noncomputable def pm_X3_lesser (a0 : Int32) (a1 : Int32) : km_M Int32 :=
if a1 ≤ a0 then
(km_pure a1)
else
(km_pure a0)

/-! RosaryCarversModel isError (I)Z -/
noncomputable def pm_X3_isError (a0 : Int32) : km_M Int32 :=
if 0 ≤ a0 then
(km_bind (km_ret .boolean (0 : Int32)) (fun v => km_pure v))
else
(if a0 = (-6 : Int32) then
(km_bind (km_ret .boolean (0 : Int32)) (fun v => km_pure v))
else
(km_bind (km_ret .boolean (1 : Int32)) (fun v => km_pure v)))

/-! RosaryCarversModel changed ()V -/
noncomputable def pb_X3_changed_59  (x0 : Option Nat) : km_M Unit :=
km_bind (km_gR [(3, 1)] x0) fun r1 =>
km_bind (km_gR [(3, 3)] x0) fun r2 =>
km_bind (km_gI [(3, 4)] x0) fun i3 =>
km_bind (pm_X3_copies r1 (0 : Int32) r2 ((2188 : Int32) * i3) (2188 : Int32)) fun _ =>
km_bind (km_gI [(3, 4)] x0) fun i4 =>
km_bind (km_pI .int [(3, 4)] x0 (i4 + (1 : Int32))) fun _ =>
km_pure ()
noncomputable def pb_X3_changed_11  : Nat → Option Nat → Int32 → km_M Unit
| 0, _, _ => km_fail
| n + 1, x0, x1 =>
if (8 : Int32) ≤ x1 then
(km_bind (km_gI [(3, 4)] x0) fun i1 =>
km_bind (km_pI .int [(3, 4)] x0 (i1 - (1 : Int32))) fun _ =>
pb_X3_changed_59 x0)
else
(km_bind (km_gR [(3, 3)] x0) fun r3 =>
km_bind (km_gR [(3, 3)] x0) fun r4 =>
km_bind (pm_X3_copies r3 ((2188 : Int32) * x1) r4 ((2188 : Int32) * (x1 - (1 : Int32))) (2188 : Int32)) fun _ =>
pb_X3_changed_11 n x0 (x1 + (1 : Int32)))
noncomputable def pm_X3_changed (a0 : Option Nat) : km_M Unit :=
km_bind (km_gI [(3, 4)] a0) fun i1 =>
if ¬ i1 = (8 : Int32) then
(pb_X3_changed_59 a0)
else
(pb_X3_changed_11 km_fuel a0 (1 : Int32))

/-! RosaryCarversModel ends (I)I -/
noncomputable def pm_X3_ends (a0 : Option Nat) (a1 : Int32) : km_M Int32 :=
km_bind (pm_X3_isError a1) fun i1 =>
if ¬ i1 = 0 then
(km_pure a1)
else
(km_bind (km_is 3 a0) fun _ => km_bind (pm_X3_changed a0) fun _ =>
km_pure a1)

/-! RosaryCarversModel stones (I)I -/
noncomputable def pm_X3_stones (a0 : Option Nat) (a1 : Int32) : km_M Int32 :=
km_bind (pm_X3_isIn a1 (1 : Int32) (200 : Int32)) fun i1 =>
if ¬ i1 = 0 then
(km_bind (km_is 3 a0) fun _ => km_bind (pm_X3_keeps a0) fun _ =>
km_bind (km_gR [(3, 0)] a0) fun r2 =>
km_bind (km_gR [(3, 0)] a0) fun r3 =>
km_bind (km_ldI 0 r3 (1 : Int32)) fun i4 =>
km_bind (pm_X3_lesser (999 : Int32) (i4 + a1)) fun i5 =>
km_bind (km_stI 0 r2 (1 : Int32) i5) fun _ =>
km_bind (km_gR [(3, 0)] a0) fun r7 =>
km_bind (km_ldI 0 r7 (1 : Int32)) fun i8 =>
km_bind (km_is 3 a0) fun _ => km_bind (pm_X3_ends a0 i8) fun i9 =>
km_pure i9)
else
(km_pure (-2 : Int32))

/-! RosaryCarvers$2 <init> (LRosaryCarvers;I)V -/
noncomputable def pm_X17_init (a0 : Option Nat) (a1 : Option Nat) (a2 : Int32) : km_M Unit :=
km_bind (km_pR [(15, 2)] a0 a1) fun _ =>
km_bind (km_pI .int [(15, 1)] a0 a2) fun _ =>
km_bind (km_nn a0) fun _ => km_bind (pm_X4_init a0 a1) fun _ =>
km_pure ()

/-! RosaryCarvers carver (I)I -/
noncomputable def pm_X0_carver (a0 : Option Nat) (a1 : Int32) : km_M Int32 :=
km_bind (pm_X0_in a1 (1 : Int32) (9 : Int32)) fun i1 =>
if ¬ i1 = 0 then
(km_bind (km_new 15 3 kz_D2) fun r2 =>
km_bind (km_nn r2) fun _ => km_bind (pm_X17_init r2 a0 a1) fun _ =>
km_bind (km_is 15 r2) fun _ => km_bind (pm_X4_done r2) fun i3 =>
km_pure i3)
else
(km_pure (-2 : Int32))

/-! RosaryCarversModel refuses (II)I -/
noncomputable def pm_X3_refuses (a0 : Option Nat) (a1 : Int32) (a2 : Int32) : km_M Int32 :=
km_bind (km_gR [(3, 6)] a0) fun r1 =>
km_bind (km_stI 0 r1 (0 : Int32) a1) fun _ =>
km_bind (km_gR [(3, 7)] a0) fun r3 =>
km_bind (km_stI 0 r3 (0 : Int32) a2) fun _ =>
km_bind (km_gR [(3, 6)] a0) fun r5 =>
km_bind (km_stI 0 r5 (1 : Int32) (0 : Int32)) fun _ =>
km_bind (km_gR [(3, 6)] a0) fun r7 =>
km_bind (km_stI 0 r7 (2 : Int32) (0 : Int32)) fun _ =>
km_pure (-5 : Int32)

/-! RosaryCarversModel adds (IIII)I -/
noncomputable def pb_X3_adds_28  : Nat → Option Nat → Int32 → Int32 → Int32 → Int32 → Int32 → km_M Int32
| 0, _, _, _, _, _, _ => km_fail
| n + 1, x0, x1, x3, x4, x5, x6 =>
if x4 ≤ x6 then
(km_bind (km_gR [(3, 0)] x0) fun r1 =>
km_bind (km_ldI 0 r1 x1) fun i2 =>
km_bind (km_stI 0 r1 x1 (i2 + (1 : Int32))) fun _ =>
km_pure x5)
else
(km_bind (km_gR [(3, 0)] x0) fun r4 =>
km_bind (km_stI 0 r4 ((x3 + (x4 * x5)) + x6) (0 : Int32)) fun _ =>
pb_X3_adds_28 n x0 x1 x3 x4 x5 (x6 + (1 : Int32)))
noncomputable def pm_X3_adds (a0 : Option Nat) (a1 : Int32) (a2 : Int32) (a3 : Int32) (a4 : Int32) : km_M Int32 :=
km_bind (km_gR [(3, 0)] a0) fun r1 =>
km_bind (km_ldI 0 r1 a1) fun i2 =>
if ¬ i2 = a2 then
(km_bind (km_gR [(3, 0)] a0) fun r3 =>
km_bind (km_ldI 0 r3 a1) fun i4 =>
pb_X3_adds_28 km_fuel a0 a1 a3 a4 i4 (0 : Int32))
else
(km_bind (km_is 3 a0) fun _ => km_bind (pm_X3_refuses a0 (1 : Int32) a2) fun i5 =>
km_pure i5)

/-! RosaryCarversModel carverAt (II)I -/
noncomputable def pm_X3_carverAt (a0 : Int32) (a1 : Int32) : km_M Int32 :=
km_pure (((16 : Int32) + ((5 : Int32) * a0)) + a1)

/-! RosaryCarversModel carver (I)I -/
noncomputable def pb_X3_carver_55  (x0 : Option Nat) (x2 : Int32) : km_M Int32 :=
km_bind (km_is 3 x0) fun _ => km_bind (pm_X3_ends x0 x2) fun i1 =>
km_pure i1
noncomputable def pm_X3_carver (a0 : Option Nat) (a1 : Int32) : km_M Int32 :=
km_bind (pm_X3_isIn a1 (1 : Int32) (9 : Int32)) fun i1 =>
if ¬ i1 = 0 then
(km_bind (km_is 3 a0) fun _ => km_bind (pm_X3_keeps a0) fun _ =>
km_bind (km_is 3 a0) fun _ => km_bind (pm_X3_adds a0 (9 : Int32) (4 : Int32) (16 : Int32) (5 : Int32)) fun i2 =>
if i2 < 0 then
(pb_X3_carver_55 a0 i2)
else
(km_bind (km_gR [(3, 0)] a0) fun r3 =>
km_bind (pm_X3_carverAt i2 (0 : Int32)) fun i4 =>
km_bind (km_stI 0 r3 i4 a1) fun _ =>
km_bind (km_gR [(3, 0)] a0) fun r6 =>
km_bind (pm_X3_carverAt i2 (2 : Int32)) fun i7 =>
km_bind (km_stI 0 r6 i7 (-6 : Int32)) fun _ =>
pb_X3_carver_55 a0 i2))
else
(km_pure (-2 : Int32))

/-! RosaryCarvers$3 <init> (LRosaryCarvers;I)V -/
noncomputable def pm_X18_init (a0 : Option Nat) (a1 : Option Nat) (a2 : Int32) : km_M Unit :=
km_bind (km_pR [(16, 2)] a0 a1) fun _ =>
km_bind (km_pI .int [(16, 1)] a0 a2) fun _ =>
km_bind (km_nn a0) fun _ => km_bind (pm_X4_init a0 a1) fun _ =>
km_pure ()

/-! RosaryCarvers lens (I)I -/
noncomputable def pm_X0_lens (a0 : Option Nat) (a1 : Int32) : km_M Int32 :=
km_bind (pm_X0_in a1 (1 : Int32) (9 : Int32)) fun i1 =>
if ¬ i1 = 0 then
(km_bind (km_new 16 3 kz_D3) fun r2 =>
km_bind (km_nn r2) fun _ => km_bind (pm_X18_init r2 a0 a1) fun _ =>
km_bind (km_is 16 r2) fun _ => km_bind (pm_X4_done r2) fun i3 =>
km_pure i3)
else
(km_pure (-2 : Int32))

/-! RosaryCarversModel lensAt (II)I -/
noncomputable def pm_X3_lensAt (a0 : Int32) (a1 : Int32) : km_M Int32 :=
km_pure (((36 : Int32) + ((2 : Int32) * a0)) + a1)

/-! RosaryCarversModel lens (I)I -/
noncomputable def pb_X3_lens_55  (x0 : Option Nat) (x2 : Int32) : km_M Int32 :=
km_bind (km_is 3 x0) fun _ => km_bind (pm_X3_ends x0 x2) fun i1 =>
km_pure i1
noncomputable def pm_X3_lens (a0 : Option Nat) (a1 : Int32) : km_M Int32 :=
km_bind (pm_X3_isIn a1 (1 : Int32) (9 : Int32)) fun i1 =>
if ¬ i1 = 0 then
(km_bind (km_is 3 a0) fun _ => km_bind (pm_X3_keeps a0) fun _ =>
km_bind (km_is 3 a0) fun _ => km_bind (pm_X3_adds a0 (10 : Int32) (4 : Int32) (36 : Int32) (2 : Int32)) fun i2 =>
if i2 < 0 then
(pb_X3_lens_55 a0 i2)
else
(km_bind (km_gR [(3, 0)] a0) fun r3 =>
km_bind (pm_X3_lensAt i2 (0 : Int32)) fun i4 =>
km_bind (km_stI 0 r3 i4 a1) fun _ =>
km_bind (km_gR [(3, 0)] a0) fun r6 =>
km_bind (pm_X3_lensAt i2 (1 : Int32)) fun i7 =>
km_bind (km_stI 0 r6 i7 (-6 : Int32)) fun _ =>
pb_X3_lens_55 a0 i2))
else
(km_pure (-2 : Int32))

/-! RosaryCarvers$Shop isLens (I)Z -/
noncomputable def pm_X1_isLens (a0 : Option Nat) (a1 : Int32) : km_M Int32 :=
km_bind (km_gR [(1, 1)] a0) fun r1 =>
km_bind (km_is 30 r1) fun _ => km_bind (pm_J2_size r1) fun i2 =>
km_bind (pm_X0_in a1 (0 : Int32) (i2 - (1 : Int32))) fun i3 =>
km_bind (km_ret .boolean i3) (fun v => km_pure v)

/-! RosaryCarvers$4 <init> (LRosaryCarvers;II)V -/
noncomputable def pm_X19_init (a0 : Option Nat) (a1 : Option Nat) (a2 : Int32) (a3 : Int32) : km_M Unit :=
km_bind (km_pR [(17, 3)] a0 a1) fun _ =>
km_bind (km_pI .int [(17, 1)] a0 a2) fun _ =>
km_bind (km_pI .int [(17, 2)] a0 a3) fun _ =>
km_bind (km_nn a0) fun _ => km_bind (pm_X4_init a0 a1) fun _ =>
km_pure ()

/-! RosaryCarvers give (II)I -/
noncomputable def pb_X0_give_29  (x0 : Option Nat) (x1 : Int32) (x2 : Int32) : km_M Int32 :=
km_bind (km_new 17 4 kz_D4) fun r1 =>
km_bind (km_nn r1) fun _ => km_bind (pm_X19_init r1 x0 x1 x2) fun _ =>
km_bind (km_is 17 r1) fun _ => km_bind (pm_X4_done r1) fun i2 =>
km_pure i2
noncomputable def pm_X0_give (a0 : Option Nat) (a1 : Int32) (a2 : Int32) : km_M Int32 :=
km_bind (km_gR [(0, 0)] a0) fun r1 =>
km_bind (km_is 1 r1) fun _ => km_bind (pm_X1_isLens r1 a1) fun i2 =>
if i2 = 0 then
(km_pure (-1 : Int32))
else
(if a2 = (-1 : Int32) then
(pb_X0_give_29 a0 a1 a2)
else
(km_bind (km_gR [(0, 0)] a0) fun r3 =>
km_bind (km_is 1 r3) fun _ => km_bind (pm_X1_isCarver r3 a2) fun i4 =>
if ¬ i4 = 0 then
(pb_X0_give_29 a0 a1 a2)
else
(km_pure (-1 : Int32))))

/-! RosaryCarversModel isLens (I)Z -/
noncomputable def pm_X3_isLens (a0 : Option Nat) (a1 : Int32) : km_M Int32 :=
km_bind (km_gR [(3, 0)] a0) fun r1 =>
km_bind (km_ldI 0 r1 (10 : Int32)) fun i2 =>
km_bind (pm_X3_isIn a1 (0 : Int32) (i2 - (1 : Int32))) fun i3 =>
km_bind (km_ret .boolean i3) (fun v => km_pure v)

/-! RosaryCarversModel isCarver (I)Z -/
noncomputable def pm_X3_isCarver (a0 : Option Nat) (a1 : Int32) : km_M Int32 :=
km_bind (km_gR [(3, 0)] a0) fun r1 =>
km_bind (km_ldI 0 r1 (9 : Int32)) fun i2 =>
km_bind (pm_X3_isIn a1 (0 : Int32) (i2 - (1 : Int32))) fun i3 =>
km_bind (km_ret .boolean i3) (fun v => km_pure v)

/-! RosaryCarversModel give (II)I -/
noncomputable def pb_X3_give_122  (x0 : Option Nat) (x3 : Int32) : km_M Int32 :=
km_bind (km_is 3 x0) fun _ => km_bind (pm_X3_ends x0 x3) fun i1 =>
km_pure i1
noncomputable def pb_X3_give_100  (x0 : Option Nat) (x1 : Int32) (x2 : Int32) (x3 : Int32) : km_M Int32 :=
km_bind (km_gR [(3, 0)] x0) fun r1 =>
km_bind (pm_X3_carverAt x2 (2 : Int32)) fun i2 =>
km_bind (km_stI 0 r1 i2 x1) fun _ =>
km_bind (km_gR [(3, 0)] x0) fun r4 =>
km_bind (pm_X3_lensAt x1 (1 : Int32)) fun i5 =>
km_bind (km_stI 0 r4 i5 x2) fun _ =>
pb_X3_give_122 x0 x3
noncomputable def pb_X3_give_54  (x0 : Option Nat) (x1 : Int32) (x2 : Int32) (x3 : Int32) : km_M Int32 :=
km_bind (km_gR [(3, 0)] x0) fun r1 =>
km_bind (pm_X3_lensAt x1 (1 : Int32)) fun i2 =>
km_bind (km_stI 0 r1 i2 (-6 : Int32)) fun _ =>
if x2 < 0 then
(pb_X3_give_122 x0 x3)
else
(km_bind (km_gR [(3, 0)] x0) fun r4 =>
km_bind (pm_X3_carverAt x2 (2 : Int32)) fun i5 =>
km_bind (km_ldI 0 r4 i5) fun i6 =>
if i6 < 0 then
(pb_X3_give_100 x0 x1 x2 x3)
else
(km_bind (km_gR [(3, 0)] x0) fun r7 =>
km_bind (pm_X3_lensAt i6 (1 : Int32)) fun i8 =>
km_bind (km_stI 0 r7 i8 (-6 : Int32)) fun _ =>
pb_X3_give_100 x0 x1 x2 x3))
noncomputable def pb_X3_give_23  (x0 : Option Nat) (x1 : Int32) (x2 : Int32) : km_M Int32 :=
km_bind (km_is 3 x0) fun _ => km_bind (pm_X3_keeps x0) fun _ =>
km_bind (km_gR [(3, 0)] x0) fun r1 =>
km_bind (pm_X3_lensAt x1 (1 : Int32)) fun i2 =>
km_bind (km_ldI 0 r1 i2) fun i3 =>
if i3 < 0 then
(pb_X3_give_54 x0 x1 x2 i3)
else
(km_bind (km_gR [(3, 0)] x0) fun r4 =>
km_bind (pm_X3_carverAt i3 (2 : Int32)) fun i5 =>
km_bind (km_stI 0 r4 i5 (-6 : Int32)) fun _ =>
pb_X3_give_54 x0 x1 x2 i3)
noncomputable def pm_X3_give (a0 : Option Nat) (a1 : Int32) (a2 : Int32) : km_M Int32 :=
km_bind (km_is 3 a0) fun _ => km_bind (pm_X3_isLens a0 a1) fun i1 =>
if i1 = 0 then
(km_pure (-1 : Int32))
else
(if a2 = (-1 : Int32) then
(pb_X3_give_23 a0 a1 a2)
else
(km_bind (km_is 3 a0) fun _ => km_bind (pm_X3_isCarver a0 a2) fun i2 =>
if ¬ i2 = 0 then
(pb_X3_give_23 a0 a1 a2)
else
(km_pure (-1 : Int32))))

/-! RosaryCarvers$5 <init> (LRosaryCarvers;IZI)V -/
noncomputable def pm_X20_init (a0 : Option Nat) (a1 : Option Nat) (a2 : Int32) (a3 : Int32) (a4 : Int32) : km_M Unit :=
km_bind (km_pR [(18, 4)] a0 a1) fun _ =>
km_bind (km_pI .int [(18, 1)] a0 a2) fun _ =>
km_bind (km_pI .boolean [(18, 2)] a0 a3) fun _ =>
km_bind (km_pI .int [(18, 3)] a0 a4) fun _ =>
km_bind (km_nn a0) fun _ => km_bind (pm_X4_init a0 a1) fun _ =>
km_pure ()

/-! RosaryCarvers carve (IZI)I -/
noncomputable def pm_X0_carve (a0 : Option Nat) (a1 : Int32) (a2 : Int32) (a3 : Int32) : km_M Int32 :=
km_bind (km_gR [(0, 0)] a0) fun r1 =>
km_bind (km_is 1 r1) fun _ => km_bind (pm_X1_isCarver r1 a1) fun i2 =>
if ¬ i2 = 0 then
(km_bind (pm_X0_isCarved a3) fun i3 =>
if ¬ i3 = 0 then
(km_bind (km_new 18 5 kz_D5) fun r4 =>
km_bind (km_nn r4) fun _ => km_bind (pm_X20_init r4 a0 a1 a2 a3) fun _ =>
km_bind (km_is 18 r4) fun _ => km_bind (pm_X4_done r4) fun i5 =>
km_pure i5)
else
(km_pure (-2 : Int32)))
else
(km_pure (-1 : Int32))

/-! RosaryCarversModel sight (I)I -/
noncomputable def pb_X3_sight_39  (x0 : Option Nat) (x1 : Int32) (s0 : Int32) (s1 : Int32) : km_M Int32 :=
km_bind (km_gR [(3, 0)] x0) fun r1 =>
km_bind (pm_X3_carverAt x1 (1 : Int32)) fun i2 =>
km_bind (km_ldI 0 r1 i2) fun i3 =>
km_bind (km_div i3 (10 : Int32)) fun i4 =>
km_pure ((s1 + s0) - i4)
noncomputable def pm_X3_sight (a0 : Option Nat) (a1 : Int32) : km_M Int32 :=
km_bind (km_gR [(3, 0)] a0) fun r1 =>
km_bind (pm_X3_carverAt a1 (2 : Int32)) fun i2 =>
km_bind (km_ldI 0 r1 i2) fun i3 =>
km_bind (km_gR [(3, 0)] a0) fun r4 =>
km_bind (pm_X3_carverAt a1 (0 : Int32)) fun i5 =>
km_bind (km_ldI 0 r4 i5) fun i6 =>
if i3 < 0 then
(pb_X3_sight_39 a0 a1 (0 : Int32) i6)
else
(km_bind (km_gR [(3, 0)] a0) fun r7 =>
km_bind (pm_X3_lensAt i3 (0 : Int32)) fun i8 =>
km_bind (km_ldI 0 r7 i8) fun i9 =>
pb_X3_sight_39 a0 a1 i9 i6)

/-! RosaryCarversModel boxAt (II)I -/
noncomputable def pm_X3_boxAt (a0 : Int32) (a1 : Int32) : km_M Int32 :=
km_pure (((44 : Int32) + ((3 : Int32) * a0)) + a1)

/-! RosaryCarversModel comesToBox (IZI)V -/
noncomputable def pb_X3_comesToBox_40  (x0 : Option Nat) (x3 : Int32) (x4 : Int32) (s0 : Int32) (s1 : Int32) (s2 : Option Nat) : km_M Unit :=
km_bind (km_stI 0 s2 s1 s0) fun _ =>
km_bind (km_gR [(3, 0)] x0) fun r2 =>
km_bind (pm_X3_boxAt x4 (2 : Int32)) fun i3 =>
km_bind (km_stI 0 r2 i3 x3) fun _ =>
km_bind (km_gR [(3, 0)] x0) fun r5 =>
km_bind (km_ldI 0 r5 (11 : Int32)) fun i6 =>
km_bind (km_stI 0 r5 (11 : Int32) (i6 + (1 : Int32))) fun _ =>
km_pure ()
noncomputable def pm_X3_comesToBox (a0 : Option Nat) (a1 : Int32) (a2 : Int32) (a3 : Int32) : km_M Unit :=
km_bind (km_gR [(3, 0)] a0) fun r1 =>
km_bind (km_ldI 0 r1 (11 : Int32)) fun i2 =>
km_bind (km_gR [(3, 0)] a0) fun r3 =>
km_bind (pm_X3_boxAt i2 (0 : Int32)) fun i4 =>
km_bind (km_stI 0 r3 i4 a1) fun _ =>
km_bind (km_gR [(3, 0)] a0) fun r6 =>
km_bind (pm_X3_boxAt i2 (1 : Int32)) fun i7 =>
if a2 = 0 then
(pb_X3_comesToBox_40 a0 a3 i2 (0 : Int32) i7 r6)
else
(pb_X3_comesToBox_40 a0 a3 i2 (1 : Int32) i7 r6)

/-! RosaryCarversModel carvesOne (IZ)V -/
noncomputable def pb_X3_carvesOne_135  (s0 : Int32) (s1 : Int32) (s2 : Int32) (s3 : Int32) (s4 : Option Nat) : km_M Unit :=
km_bind (pm_X3_lesser s2 (s1 + s0)) fun i1 =>
km_bind (km_stI 0 s4 s3 i1) fun _ =>
km_pure ()
noncomputable def pb_X3_carvesOne_105  (x0 : Option Nat) (x1 : Int32) (x2 : Int32) : km_M Unit :=
km_bind (km_gR [(3, 0)] x0) fun r1 =>
km_bind (pm_X3_carverAt x1 (1 : Int32)) fun i2 =>
km_bind (km_gR [(3, 0)] x0) fun r3 =>
km_bind (pm_X3_carverAt x1 (1 : Int32)) fun i4 =>
km_bind (km_ldI 0 r3 i4) fun i5 =>
if x2 = 0 then
(pb_X3_carvesOne_135 (3 : Int32) i5 (99 : Int32) i2 r1)
else
(pb_X3_carvesOne_135 (2 : Int32) i5 (99 : Int32) i2 r1)
noncomputable def pb_X3_carvesOne_34  (x0 : Option Nat) (x1 : Int32) (x2 : Int32) (x3 : Int32) (s0 : Int32) (s1 : Int32) : km_M Unit :=
if s0 ≤ s1 then
(km_bind (km_gR [(3, 0)] x0) fun r1 =>
km_bind (km_ldI 0 r1 (2 : Int32)) fun i2 =>
km_bind (pm_X3_lesser (9 : Int32) x3) fun i3 =>
km_bind (km_is 3 x0) fun _ => km_bind (pm_X3_comesToBox x0 i2 x2 i3) fun _ =>
km_bind (km_gR [(3, 0)] x0) fun r4 =>
km_bind (km_ldI 0 r4 (2 : Int32)) fun i5 =>
km_bind (km_stI 0 r4 (2 : Int32) (i5 + (1 : Int32))) fun _ =>
km_bind (km_gR [(3, 0)] x0) fun r7 =>
km_bind (pm_X3_carverAt x1 (3 : Int32)) fun i8 =>
km_bind (km_ldI 0 r7 i8) fun i9 =>
km_bind (km_stI 0 r7 i8 (i9 + (1 : Int32))) fun _ =>
pb_X3_carvesOne_105 x0 x1 x2)
else
(km_bind (km_gR [(3, 0)] x0) fun r11 =>
km_bind (km_ldI 0 r11 (3 : Int32)) fun i12 =>
km_bind (km_stI 0 r11 (3 : Int32) (i12 + (1 : Int32))) fun _ =>
km_bind (km_gR [(3, 0)] x0) fun r14 =>
km_bind (pm_X3_carverAt x1 (4 : Int32)) fun i15 =>
km_bind (km_ldI 0 r14 i15) fun i16 =>
km_bind (km_stI 0 r14 i15 (i16 + (1 : Int32))) fun _ =>
pb_X3_carvesOne_105 x0 x1 x2)
noncomputable def pb_X3_carvesOne_22  (x0 : Option Nat) (x1 : Int32) (x2 : Int32) (x3 : Int32) (s0 : Int32) (s1 : Int32) (s2 : Int32) (s3 : Option Nat) : km_M Unit :=
km_bind (km_stI 0 s3 s2 (s1 - s0)) fun _ =>
if x2 = 0 then
(pb_X3_carvesOne_34 x0 x1 x2 x3 (4 : Int32) x3)
else
(pb_X3_carvesOne_34 x0 x1 x2 x3 (2 : Int32) x3)
noncomputable def pm_X3_carvesOne (a0 : Option Nat) (a1 : Int32) (a2 : Int32) : km_M Unit :=
km_bind (km_is 3 a0) fun _ => km_bind (pm_X3_sight a0 a1) fun i1 =>
km_bind (km_gR [(3, 0)] a0) fun r2 =>
km_bind (km_ldI 0 r2 (1 : Int32)) fun i3 =>
if a2 = 0 then
(pb_X3_carvesOne_22 a0 a1 a2 i1 (1 : Int32) i3 (1 : Int32) r2)
else
(pb_X3_carvesOne_22 a0 a1 a2 i1 (2 : Int32) i3 (1 : Int32) r2)
