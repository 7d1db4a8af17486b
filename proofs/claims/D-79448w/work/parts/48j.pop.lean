set_option maxRecDepth 100000
/-! ===== how many bits ===== -/
def kp_m (c : Nat) : Nat → Nat
  | 0 => 0
  | n + 1 => c + 256 * kp_m c n
def kp_t1 (n x : Nat) : Nat := x - ((x / 2) &&& kp_m 85 n)
def kp_t2 (n y : Nat) : Nat := (y &&& kp_m 51 n) + ((y / 4) &&& kp_m 51 n)
def kp_t3 (n z : Nat) : Nat := (z + z / 16) &&& kp_m 15 n
def kp_b1 (e : Nat) : Nat := e - ((e / 2) &&& 85)
def kp_b2 (y : Nat) : Nat := (y &&& 51) + ((y / 4) &&& 51)
/-- the bits below n -/
def kp_pop : Nat → Nat → Nat
  | 0, _ => 0
  | n + 1, x => x % 2 + kp_pop n (x / 2)
def kp_S : Nat → Nat → Nat
  | 0, _ => 0
  | n + 1, x => kp_pop 8 (x % 256) + 256 * kp_S n (x / 256)
theorem kp_and {e q c m : Nat} (he : e < 256) (hc : c < 256) : (e + 256 * q) &&& (c + 256 * m) = (e &&& c) + 256 * (q &&& m) := by
  have h1 := Nat.and_mod_two_pow (a := e + 256 * q) (b := c + 256 * m) (n := 8)
  have h2 := Nat.and_div_two_pow (a := e + 256 * q) (b := c + 256 * m) (n := 8)
  have e1 : (e + 256 * q) % 2 ^ 8 = e := by omega
  have e2 : (c + 256 * m) % 2 ^ 8 = c := by omega
  have e3 : (e + 256 * q) / 2 ^ 8 = q := by omega
  have e4 : (c + 256 * m) / 2 ^ 8 = m := by omega
  rw [e1, e2] at h1
  rw [e3, e4] at h2
  omega
theorem kp_d1 : ∀ e : Fin 256, ∀ b : Fin 2, (e.val / 2 + 128 * b.val) &&& 85 = (e.val / 2) &&& 85 := by decide +kernel
theorem kp_d2 : ∀ e : Fin 256, ∀ b : Fin 4, (e.val / 4 + 64 * b.val) &&& 51 = (e.val / 4) &&& 51 := by decide +kernel
theorem kp_d3 : ∀ e : Fin 256, ∀ b : Fin 5, kp_b2 (kp_b1 e.val) ≤ 68 ∧ kp_b2 (kp_b1 e.val) % 16 ≤ 4 ∧ (kp_b2 (kp_b1 e.val) + kp_b2 (kp_b1 e.val) / 16 + 16 * b.val) &&& 15 = kp_pop 8 e.val ∧ kp_pop 8 e.val ≤ 8 ∧ kp_b1 e.val < 256 := by decide +kernel
theorem kp_s1 {n e q : Nat} (he : e < 256) : kp_t1 (n + 1) (e + 256 * q) = kp_b1 e + 256 * kp_t1 n q := by
  unfold kp_t1 kp_b1
  rw [kp_m]
  have e1 : (e + 256 * q) / 2 = (e / 2 + 128 * (q % 2)) + 256 * (q / 2) := by omega
  rw [e1, kp_and (by omega) (by omega)]
  have h1 := kp_d1 ⟨e, he⟩ ⟨q % 2, by omega⟩
  dsimp only at h1
  rw [h1]
  have h2 : (e / 2) &&& 85 ≤ e / 2 := Nat.and_le_left
  have h3 : (q / 2) &&& kp_m 85 n ≤ q / 2 := Nat.and_le_left
  omega
theorem kp_s2 {n e q : Nat} (he : e < 256) : kp_t2 (n + 1) (e + 256 * q) = kp_b2 e + 256 * kp_t2 n q := by
  unfold kp_t2 kp_b2
  rw [kp_m]
  have e1 : (e + 256 * q) / 4 = (e / 4 + 64 * (q % 4)) + 256 * (q / 4) := by omega
  rw [e1, kp_and he (by omega), kp_and (by omega) (by omega)]
  have h1 := kp_d2 ⟨e, he⟩ ⟨q % 4, by omega⟩
  dsimp only at h1
  rw [h1]
  omega
theorem kp_lt (n : Nat) : 256 ^ (n + 1) = 256 * 256 ^ n := by rw [Nat.pow_succ, Nat.mul_comm]
theorem kp_nib : ∀ (n q : Nat), q < 256 ^ n → kp_t2 n (kp_t1 n q) % 16 ≤ 4 := by
  intro n q hq
  cases n with
  | zero =>
    have : q = 0 := by rw [Nat.pow_zero] at hq; omega
    subst this
    decide
  | succ n =>
    have e : q = q % 256 + 256 * (q / 256) := by omega
    obtain ⟨h1, h2, -, -, h5⟩ := kp_d3 ⟨q % 256, by omega⟩ ⟨0, by omega⟩
    dsimp only at h1 h2 h5
    rw [e, kp_s1 (by omega), kp_s2 h5]
    omega
theorem kp_all : ∀ (n x : Nat), x < 256 ^ n → kp_t3 n (kp_t2 n (kp_t1 n x)) = kp_S n x := by
  intro n
  induction n with
  | zero =>
    intro x hx
    have : x = 0 := by rw [Nat.pow_zero] at hx; omega
    subst this
    decide
  | succ n ih =>
    intro x hx
    rw [kp_lt] at hx
    have hq : x / 256 < 256 ^ n := by omega
    have hnib := kp_nib n (x / 256) hq
    have h9 := ih _ hq
    have e : x = x % 256 + 256 * (x / 256) := by omega
    obtain ⟨h1, h2, h3, -, h5⟩ := kp_d3 ⟨x % 256, by omega⟩ ⟨kp_t2 n (kp_t1 n (x / 256)) % 16, by omega⟩
    dsimp only at h1 h2 h3 h5
    have e2 : kp_t1 (n + 1) x = kp_b1 (x % 256) + 256 * kp_t1 n (x / 256) := by
      rw [← kp_s1 (by omega), ← e]
    rw [e2, kp_s2 h5, kp_S, ← h9]
    unfold kp_t3
    rw [kp_m]
    generalize kp_b2 (kp_b1 (x % 256)) = u at *
    generalize kp_t2 n (kp_t1 n (x / 256)) = v at *
    have e3 : u + 256 * v + (u + 256 * v) / 16 = (u + u / 16 + 16 * (v % 16)) + 256 * (v + v / 16) := by omega
    rw [e3, kp_and (by omega) (by omega), h3]
theorem kp_pop_add : ∀ (a b x : Nat), kp_pop (a + b) x = kp_pop a x + kp_pop b (x / 2 ^ a) := by
  intro a
  induction a with
  | zero => intro b x; rw [Nat.zero_add, Nat.pow_zero, Nat.div_one]; simp [kp_pop]
  | succ a ih =>
    intro b x
    have e : a + 1 + b = (a + b) + 1 := by omega
    rw [e, kp_pop, ih, kp_pop, Nat.pow_succ, Nat.mul_comm, ← Nat.div_div_eq_div_mul]
    omega
theorem kp_pop_mod : ∀ (a x : Nat), kp_pop a (x % 2 ^ a) = kp_pop a x := by
  intro a
  induction a with
  | zero => intro x; rfl
  | succ a ih =>
    intro x
    rw [kp_pop, kp_pop]
    have e1 : x % 2 ^ (a + 1) % 2 = x % 2 := Nat.mod_mod_of_dvd _ ⟨2 ^ a, by rw [Nat.pow_succ, Nat.mul_comm]⟩
    have e2 : x % 2 ^ (a + 1) / 2 = (x / 2) % 2 ^ a := by
      rw [Nat.pow_succ, Nat.mul_comm, Nat.mod_mul_right_div_self]
    rw [e1, e2, ih]
theorem kp_pop8 (n x : Nat) : kp_pop (8 + n) x = kp_pop 8 (x % 256) + kp_pop n (x / 256) := by
  rw [kp_pop_add, ← kp_pop_mod 8 x]
/-- the last steps: bytes are summed -/
theorem kp_q1 {a b : Nat} (h : a < 256) : (a + 256 * b) / 256 = b := by omega
theorem kp_q2 {a b : Nat} (h : a < 65536) : (a + 65536 * b) / 65536 = b := by omega
theorem kp_q4 {a b : Nat} (h : a < 4294967296) : (a + 4294967296 * b) / 4294967296 = b := by omega
theorem kp_r4 {c0 c1 c2 x1 x2 x3 : Nat} (h1 : x1 = c1 + 256 * x2) (h2 : x2 = c2 + 256 * x3) : c0 + 256 * x1 + x1 = ((c0 + c1) + 256 * (c1 + c2)) + 65536 * (x2 + x3) := by omega
theorem kp_r5 {d0 d1 d2 d3 y2 y4 : Nat} (h : y2 = d2 + 256 * d3 + 65536 * y4) : (d0 + 256 * d1) + 65536 * y2 = (d0 + 256 * d1 + 65536 * d2 + 16777216 * d3) + 4294967296 * y4 := by omega
theorem kp_r6 {c2 c3 c4 x2 x3 x4 x5 : Nat} (h2 : x2 = c2 + 256 * x3) (h3 : x3 = c3 + 256 * x4) (h4 : x4 = c4 + 256 * x5) : x2 + x3 = (c2 + c3) + 256 * (c3 + c4) + 65536 * (x4 + x5) := by omega
theorem kp_r7 (A B y4 y6 : Nat) : A + 4294967296 * y4 + (B + 4294967296 * y6) = (A + B) + 4294967296 * (y4 + y6) := by omega
theorem kp_r8 {a b c d : Nat} (h1 : a ≤ 16) (h2 : b ≤ 16) (h3 : c ≤ 16) (h4 : d ≤ 16) : a + 256 * b + 65536 * c + 16777216 * d ≤ 1000000000 := by omega
theorem kp_r9 {a b c d a' b' c' d' Y s R : Nat} (hY : Y = s + 256 * R) : (a + 256 * b + 65536 * c + 16777216 * d) + (a' + 256 * b' + 65536 * c' + 16777216 * d') + 4294967296 * Y + Y = (a + a' + s) + 128 * (2 * b + 512 * c + 131072 * d + 2 * b' + 512 * c' + 131072 * d' + 33554432 * Y + 2 * R) := by omega
theorem kp_r10 {a b y6 : Nat} (ha : a ≤ 16) (hb : b ≤ 16) (hy : y6 ≤ 2100) : a + 256 * b + 65536 * y6 ≤ 200000000 := by omega
theorem kp_r11 {A B Y : Nat} (hA : A ≤ 1000000000) (hB : B ≤ 1000000000) (hY : Y ≤ 300000000) : (A + B) + 4294967296 * Y + Y < 18446744073709551616 ∧ (A + B) + 4294967296 * Y < 18446744073709551616 := by omega
theorem kp_r12 {A Y : Nat} (hA : A ≤ 1000000000) (hY : Y ≤ 300000000) : A + 4294967296 * Y < 18446744073709551616 := by omega
theorem kp_r13 (c6 c7 : Nat) : c6 + 256 * c7 + c7 = (c6 + c7) + 256 * c7 := by omega
theorem kp_r14 (c0 c1 c2 c3 c4 c5 c6 c7 : Nat) : (c0 + c1) + (c2 + c3) + ((c4 + c5) + (c6 + c7)) = c0 + (c1 + (c2 + (c3 + (c4 + (c5 + (c6 + c7)))))) := by omega
theorem kp_r15 {d4 d5 d6 c7 y4 y6 : Nat} (h4 : y4 = d4 + 256 * d5 + 65536 * y6) (h6 : y6 = d6 + 256 * c7) : y4 + y6 = (d4 + d6) + 256 * (d5 + 256 * y6 + c7) := by omega
theorem kp_r16 {d6 c7 y6 : Nat} (h6 : y6 = d6 + 256 * c7) (hd : d6 ≤ 16) (hc : c7 ≤ 8) : y6 ≤ 2100 := by omega
theorem kp_r17 {a b c d : Nat} (h1 : a ≤ 16) (h2 : b ≤ 16) (h3 : c ≤ 16) (h4 : d ≤ 16) : a + b + (c + d) < 128 := by omega
theorem kp_r18 {a b : Nat} (h1 : a ≤ 200000000) (h2 : b ≤ 2100) : a + b ≤ 300000000 := by omega
theorem kp_r19 {d0 d1 A Y2 : Nat} (h1 : d0 ≤ 16) (h2 : d1 ≤ 16) : d0 + 256 * d1 < 65536 := by omega
theorem kp_r20 {A B : Nat} (hA : A ≤ 1000000000) (hB : B ≤ 1000000000) : A + B < 4294967296 := by omega
theorem kp_fin {d0 d1 d2 d3 d4 d5 d6 c7 y2 y4 y6 t4 t5 t6 T : Nat} (b2 : y2 = d2 + 256 * d3 + 65536 * y4) (b4 : y4 = d4 + 256 * d5 + 65536 * y6) (b6 : y6 = d6 + 256 * c7) (q0 : d0 ≤ 16) (q1 : d1 ≤ 16) (q2 : d2 ≤ 16) (q3 : d3 ≤ 16) (q4 : d4 ≤ 16) (q5 : d5 ≤ 16) (q6 : d6 ≤ 16) (h7 : c7 ≤ 8) (a4 : t4 = d0 + 256 * d1 + 65536 * y2) (e5 : t5 = t4 + t4 / 65536) (e6 : t6 = t5 + t5 / 4294967296) (hT : d0 + d2 + (d4 + d6) = T) : t6 % 128 = T ∧ t6 < 18446744073709551616 ∧ t5 < 18446744073709551616 ∧ t4 < 18446744073709551616 := by
  have a5 : t4 / 65536 = y2 := by rw [a4]; exact kp_q2 (kp_r19 (A := 0) (Y2 := 0) q0 q1)
  have f4 : t4 = (d0 + 256 * d1 + 65536 * d2 + 16777216 * d3) + 4294967296 * y4 := by rw [a4]; exact kp_r5 b2
  have f2 : y2 = (d2 + 256 * d3 + 65536 * d4 + 16777216 * d5) + 4294967296 * y6 := by rw [b2]; exact kp_r5 b4
  have hA := kp_r8 q0 q1 q2 q3
  have hB := kp_r8 q2 q3 q4 q5
  have hy6 := kp_r16 b6 q6 h7
  have hy4 : y4 ≤ 200000000 := by rw [b4]; exact kp_r10 q4 q5 hy6
  have hY := kp_r18 hy4 hy6
  have hYe := kp_r15 b4 b6
  have f5 : t5 = ((d0 + 256 * d1 + 65536 * d2 + 16777216 * d3) + (d2 + 256 * d3 + 65536 * d4 + 16777216 * d5)) + 4294967296 * (y4 + y6) := by rw [e5, a5, f4, f2]; exact kp_r7 _ _ _ _
  have f6 : t5 / 4294967296 = y4 + y6 := by rw [f5]; exact kp_q4 (kp_r20 hA hB)
  have g6 : t6 = (d0 + d2 + (d4 + d6)) + 128 * (2 * d1 + 512 * d2 + 131072 * d3 + 2 * d3 + 512 * d4 + 131072 * d5 + 33554432 * (y4 + y6) + 2 * (d5 + 256 * y6 + c7)) := by rw [e6, f6, f5]; exact kp_r9 hYe
  refine ⟨?_, ?_, ?_, ?_⟩
  · rw [g6, Nat.add_mul_mod_self_left, hT]
    rw [← hT]
    exact Nat.mod_eq_of_lt (kp_r17 q0 q2 q4 q6)
  · rw [e6, f6, f5]
    exact (kp_r11 hA hB hY).1
  · rw [f5]
    exact (kp_r11 hA hB hY).2
  · rw [f4]
    exact kp_r12 hA (Nat.le_trans (Nat.le_add_right _ _) hY)
theorem kp_sum (c0 c1 c2 c3 c4 c5 c6 c7 x1 x2 x3 x4 x5 x6 t4 t5 t6 : Nat) (h0 : c0 ≤ 8) (h1 : c1 ≤ 8) (h2 : c2 ≤ 8) (h3 : c3 ≤ 8) (h4 : c4 ≤ 8) (h5 : c5 ≤ 8) (h6 : c6 ≤ 8) (h7 : c7 ≤ 8) (w : Nat) (hw : w = c0 + 256 * x1) (g1 : x1 = c1 + 256 * x2) (g2 : x2 = c2 + 256 * x3) (g3 : x3 = c3 + 256 * x4) (g4 : x4 = c4 + 256 * x5) (g5 : x5 = c5 + 256 * x6) (g6 : x6 = c6 + 256 * c7) (e4 : t4 = w + w / 256) (e5 : t5 = t4 + t4 / 65536) (e6 : t6 = t5 + t5 / 4294967296) : t6 % 128 = c0 + (c1 + (c2 + (c3 + (c4 + (c5 + (c6 + c7)))))) ∧ t6 < 18446744073709551616 ∧ t5 < 18446744073709551616 ∧ t4 < 18446744073709551616 := by
  have hp : ∀ {a b : Nat}, a ≤ 8 → b ≤ 8 → a + b ≤ 16 := fun h k => Nat.add_le_add h k
  have a1 : w / 256 = x1 := by rw [hw]; exact kp_q1 (Nat.lt_of_le_of_lt h0 (by decide))
  have a4 : t4 = ((c0 + c1) + 256 * (c1 + c2)) + 65536 * (x2 + x3) := by rw [e4, a1, hw]; exact kp_r4 g1 g2
  have b2 : x2 + x3 = (c2 + c3) + 256 * (c3 + c4) + 65536 * (x4 + x5) := kp_r6 g2 g3 g4
  have b4 : x4 + x5 = (c4 + c5) + 256 * (c5 + c6) + 65536 * (x6 + c7) := kp_r6 g4 g5 g6
  have b6 : x6 + c7 = (c6 + c7) + 256 * c7 := by rw [g6]; exact kp_r13 c6 c7
  have q0 := hp h0 h1
  have q1 := hp h1 h2
  have q2 := hp h2 h3
  have q3 := hp h3 h4
  have q4 := hp h4 h5
  have q5 := hp h5 h6
  have q6 := hp h6 h7
  exact kp_fin b2 b4 b6 q0 q1 q2 q3 q4 q5 q6 h7 a4 e5 e6 (kp_r14 c0 c1 c2 c3 c4 c5 c6 c7)
abbrev kp_N (a : Int64) : Nat := a.toBitVec.toNat
abbrev kp_u (n : Int32) (y : Int64) : Int64 := (y.toUInt64 >>> (n.toInt64.toUInt64 &&& Int64.toUInt64 63)).toInt64
def kp_i1 (a : Int64) : Int64 := a - (kp_u 1 a &&& 6148914691236517205)
def kp_i2 (a : Int64) : Int64 := (a &&& 3689348814741910323) + (kp_u 2 a &&& 3689348814741910323)
def kp_i3 (a : Int64) : Int64 := (a + kp_u 4 a) &&& 1085102592571150095
def kp_i4 (a : Int64) : Int64 := a + kp_u 8 a
def kp_i5 (a : Int64) : Int64 := a + kp_u 16 a
def kp_i6 (a : Int64) : Int64 := a + kp_u 32 a
theorem kp_N_and (a b : Int64) : kp_N (a &&& b) = kp_N a &&& kp_N b := BitVec.toNat_and ..
theorem kp_N_add (a b : Int64) : kp_N (a + b) = (kp_N a + kp_N b) % 18446744073709551616 := BitVec.toNat_add ..
theorem kp_N_sub {a b : Int64} (h : kp_N b ≤ kp_N a) : kp_N (a - b) = kp_N a - kp_N b := by
  have h1 : kp_N (a - b) = (18446744073709551616 - kp_N b + kp_N a) % 18446744073709551616 := BitVec.toNat_sub ..
  have h2 : kp_N a < 18446744073709551616 := a.toBitVec.isLt
  omega
theorem kp_N_u {n : Int32} {k : Nat} (y : Int64) (hk : (n.toInt64.toUInt64 &&& Int64.toUInt64 63).toNat % 64 = k) : kp_N (kp_u n y) = kp_N y / 2 ^ k := by
  have h1 : kp_N (kp_u n y) = (y.toUInt64 >>> (n.toInt64.toUInt64 &&& Int64.toUInt64 63)).toNat := rfl
  rw [h1, UInt64.toNat_shiftRight, hk, Nat.shiftRight_eq_div_pow]
  rfl
theorem kp_last (t : Int64) : t.toInt32 &&& (127 : Int32) = Int32.ofNat (kp_N t % 128) := by
  apply Int32.toBitVec_inj.mp
  apply BitVec.eq_of_toNat_eq
  have h1 : (t.toInt32 &&& (127 : Int32)).toBitVec = t.toBitVec.signExtend 32 &&& 127#32 := rfl
  have h2 : (Int32.ofNat (kp_N t % 128)).toBitVec.toNat = kp_N t % 128 % 4294967296 := BitVec.toNat_ofNat ..
  rw [h1, h2, BitVec.toNat_and, BitVec.signExtend_eq_setWidth_of_le _ (by omega), BitVec.toNat_setWidth]
  have h3 : (127#32).toNat = 2 ^ 7 - 1 := rfl
  rw [h3, Nat.and_two_pow_sub_one_eq_mod]
  show kp_N t % 4294967296 % 128 = _
  omega
theorem kp_bits (a : Int64) : pm_J21_bitCount a = km_pure (Int32.ofNat (kp_pop 64 (kp_N a))) := by
  have h0 : pm_J21_bitCount a = km_pure ((kp_i6 (kp_i5 (kp_i4 (kp_i3 (kp_i2 (kp_i1 a)))))).toInt32 &&& (127 : Int32)) := rfl
  have hx : kp_N a < 256 ^ 8 := a.toBitVec.isLt
  have e1 : kp_N (kp_i1 a) = kp_t1 8 (kp_N a) := by
    unfold kp_i1 kp_t1
    have h1 : kp_N (kp_u 1 a &&& 6148914691236517205) = (kp_N a / 2) &&& kp_m 85 8 := by
      rw [kp_N_and, kp_N_u (k := 1) a (by decide)]
      rfl
    have h2 : (kp_N a / 2) &&& kp_m 85 8 ≤ kp_N a / 2 := Nat.and_le_left
    rw [kp_N_sub (by rw [h1]; omega), h1]
  have b3 : kp_m 51 8 = 3689348814741910323 := by decide
  have b15 : kp_m 15 8 = 1085102592571150095 := by decide
  have e2 : kp_N (kp_i2 (kp_i1 a)) = kp_t2 8 (kp_t1 8 (kp_N a)) := by
    unfold kp_i2 kp_t2
    have h1 : kp_N (kp_u 2 (kp_i1 a) &&& 3689348814741910323) = (kp_N (kp_i1 a) / 4) &&& kp_m 51 8 := by
      rw [kp_N_and, kp_N_u (k := 2) _ (by decide)]
      rfl
    have h2 : kp_N (kp_i1 a &&& 3689348814741910323) = kp_N (kp_i1 a) &&& kp_m 51 8 := by
      rw [kp_N_and]
      rfl
    rw [kp_N_add, h1, h2, e1]
    have h3 : kp_t1 8 (kp_N a) &&& kp_m 51 8 ≤ kp_m 51 8 := Nat.and_le_right
    have h4 : (kp_t1 8 (kp_N a) / 4) &&& kp_m 51 8 ≤ kp_m 51 8 := Nat.and_le_right
    rw [b3] at *
    omega
  have hz : kp_t2 8 (kp_t1 8 (kp_N a)) ≤ 2 * 3689348814741910323 := by
    unfold kp_t2
    have h3 : kp_t1 8 (kp_N a) &&& kp_m 51 8 ≤ kp_m 51 8 := Nat.and_le_right
    have h4 : (kp_t1 8 (kp_N a) / 4) &&& kp_m 51 8 ≤ kp_m 51 8 := Nat.and_le_right
    rw [b3] at *
    omega
  have e3 : kp_N (kp_i3 (kp_i2 (kp_i1 a))) = kp_S 8 (kp_N a) := by
    rw [← kp_all 8 _ hx]
    unfold kp_i3
    have h1 : kp_N (kp_i2 (kp_i1 a) + kp_u 4 (kp_i2 (kp_i1 a))) = kp_t2 8 (kp_t1 8 (kp_N a)) + kp_t2 8 (kp_t1 8 (kp_N a)) / 16 := by
      rw [kp_N_add, kp_N_u (k := 4) _ (by decide), e2]
      omega
    rw [kp_N_and, h1]
    rfl
  -- the eight bytes
  have hc : ∀ y, kp_pop 8 (y % 256) ≤ 8 := fun y => (kp_d3 ⟨y % 256, by omega⟩ ⟨0, by omega⟩).2.2.2.1
  have hS : kp_S 8 (kp_N a) = kp_pop 8 (kp_N a % 256) + 256 * (kp_pop 8 (kp_N a / 256 % 256) + 256 * (kp_pop 8 (kp_N a / 256 / 256 % 256) + 256 * (kp_pop 8 (kp_N a / 256 / 256 / 256 % 256) + 256 * (kp_pop 8 (kp_N a / 256 / 256 / 256 / 256 % 256) + 256 * (kp_pop 8 (kp_N a / 256 / 256 / 256 / 256 / 256 % 256) + 256 * (kp_pop 8 (kp_N a / 256 / 256 / 256 / 256 / 256 / 256 % 256) + 256 * kp_pop 8 (kp_N a / 256 / 256 / 256 / 256 / 256 / 256 / 256 % 256))))))) := by
    simp only [kp_S, Nat.mul_zero, Nat.add_zero]
  have hP : kp_pop 64 (kp_N a) = kp_pop 8 (kp_N a % 256) + (kp_pop 8 (kp_N a / 256 % 256) + (kp_pop 8 (kp_N a / 256 / 256 % 256) + (kp_pop 8 (kp_N a / 256 / 256 / 256 % 256) + (kp_pop 8 (kp_N a / 256 / 256 / 256 / 256 % 256) + (kp_pop 8 (kp_N a / 256 / 256 / 256 / 256 / 256 % 256) + (kp_pop 8 (kp_N a / 256 / 256 / 256 / 256 / 256 / 256 % 256) + kp_pop 8 (kp_N a / 256 / 256 / 256 / 256 / 256 / 256 / 256 % 256))))))) := by
    rw [show (64 : Nat) = 8 + (8 + (8 + (8 + (8 + (8 + (8 + (8 + 0))))))) from rfl]
    simp only [kp_pop8]
    simp only [kp_pop, Nat.add_zero]
  obtain ⟨s1, s2, s3, s4⟩ := kp_sum _ _ _ _ _ _ _ _ _ _ _ _ _ _ _ _ _ (hc (kp_N a)) (hc (kp_N a / 256)) (hc (kp_N a / 256 / 256)) (hc (kp_N a / 256 / 256 / 256)) (hc (kp_N a / 256 / 256 / 256 / 256)) (hc (kp_N a / 256 / 256 / 256 / 256 / 256)) (hc (kp_N a / 256 / 256 / 256 / 256 / 256 / 256)) (hc (kp_N a / 256 / 256 / 256 / 256 / 256 / 256 / 256)) (kp_S 8 (kp_N a)) hS rfl rfl rfl rfl rfl rfl rfl rfl rfl
  have e4 : kp_N (kp_i4 (kp_i3 (kp_i2 (kp_i1 a)))) = kp_S 8 (kp_N a) + kp_S 8 (kp_N a) / 256 := by
    unfold kp_i4
    rw [kp_N_add, kp_N_u (k := 8) _ (by decide), e3]
    exact Nat.mod_eq_of_lt s4
  have e5 : kp_N (kp_i5 (kp_i4 (kp_i3 (kp_i2 (kp_i1 a))))) = kp_S 8 (kp_N a) + kp_S 8 (kp_N a) / 256 + (kp_S 8 (kp_N a) + kp_S 8 (kp_N a) / 256) / 65536 := by
    unfold kp_i5
    rw [kp_N_add, kp_N_u (k := 16) _ (by decide), e4]
    exact Nat.mod_eq_of_lt s3
  have e6 : kp_N (kp_i6 (kp_i5 (kp_i4 (kp_i3 (kp_i2 (kp_i1 a)))))) % 128 = kp_pop 64 (kp_N a) := by
    unfold kp_i6
    rw [kp_N_add, kp_N_u (k := 32) _ (by decide), e5, hP, ← s1, Nat.mod_eq_of_lt s2]
  rw [h0, kp_last, e6]
/-- bits of a function -/
def kp_c (f : Nat → Bool) : Nat → Nat → Nat
  | _, 0 => 0
  | a, n + 1 => (if f a = true then 1 else 0) + kp_c f (a + 1) n
theorem kp_pop_c {f : Nat → Bool} : ∀ (n x a : Nat), (∀ i, i < n → x.testBit i = f (a + i)) → kp_pop n x = kp_c f a n := by
  intro n
  induction n with
  | zero => intro x a _; rfl
  | succ n ih =>
    intro x a h
    rw [kp_pop, kp_c, ih (x / 2) (a + 1) (fun i hi => ?_)]
    · have h0 := h 0 (by omega)
      rw [Nat.add_zero, Nat.testBit_zero] at h0
      rw [← h0]
      by_cases hx : x % 2 = 1
      · rw [hx, if_pos (by simp)]
      · rw [if_neg (by simpa using hx)]
        omega
    · have := h (i + 1) (by omega)
      rw [Nat.testBit_succ] at this
      rw [this]
      congr 1
      omega
theorem kp_c_add {f : Nat → Bool} : ∀ (n m a : Nat), kp_c f a (n + m) = kp_c f a n + kp_c f (a + n) m := by
  intro n
  induction n with
  | zero => intro m a; rw [Nat.zero_add, kp_c, Nat.zero_add, Nat.add_zero]
  | succ n ih =>
    intro m a
    have e : n + 1 + m = (n + m) + 1 := by omega
    rw [e, kp_c, ih, kp_c, show a + 1 + n = a + (n + 1) by omega]
    omega
theorem kp_c_zero {f : Nat → Bool} : ∀ (n a : Nat), (∀ i, a ≤ i → f i = false) → kp_c f a n = 0 := by
  intro n
  induction n with
  | zero => intro a _; rfl
  | succ n ih =>
    intro a h
    rw [kp_c, ih (a + 1) (fun i hi => h i (by omega)), h a (Nat.le_refl _)]
    rfl
theorem kp_c_filter {f : Nat → Bool} : ∀ (n a : Nat), kp_c f a n = ((List.range' a n).filter f).length := by
  intro n
  induction n with
  | zero => intro a; rfl
  | succ n ih =>
    intro a
    rw [kp_c, ih, List.range'_succ, List.filter_cons]
    split
    · rw [List.length_cons]
      omega
    · omega
/-- the elements of a list without doubles, counted -/
theorem kp_c_list {f : Nat → Bool} {W : List Nat} {n : Nat} (hW : W.Nodup) (hf : ∀ i, f i = true ↔ i ∈ W) (hn : ∀ i ∈ W, i < n) : kp_c f 0 n = W.length := by
  rw [kp_c_filter]
  refine List.Perm.length_eq ?_
  refine (List.perm_ext_iff_of_nodup ((List.nodup_range').filter _) hW).mpr (fun i => ?_)
  rw [List.mem_filter, hf, List.mem_range']
  constructor
  · exact fun h => h.2
  · intro h
    exact ⟨⟨i, hn i h, by omega⟩, h⟩
section KPC
variable {Z : ka_Z} {w : Nat} {H : ka_H}
theorem kp_cardLoop {l b u n : Nat} {st : Int32} {f : Nat → Bool} {g : Nat → Int64} (hl : H l = some (ka_ob 31 [.ref b, .int (Int32.ofNat u), .int st])) (hb : H b = some (ka_aJ n g)) (hW : kn_W f u n g) : ∀ (d j fuel acc : Nat), j + d = u → d < fuel → acc = kp_c f 0 (64 * j) → ka_T Z (pb_J3_cardinality_4 fuel (some l) (Int32.ofNat acc) (Int32.ofNat j)) w H (ka_V w H (Int32.ofNat (kp_c f 0 (64 * u)))) := by
  obtain ⟨⟨w1, w2⟩, w3, w4, w5, w6, w7⟩ := hW
  intro d
  induction d with
  | zero =>
    intro j fuel acc hj hf hacc
    obtain ⟨fuel, rfl⟩ : ∃ n, fuel = n + 1 := ⟨fuel - 1, by omega⟩
    unfold pb_J3_cardinality_4
    refine ka_gI hl rfl rfl (ka_ifP ((k3_le (by omega) (by omega)).mpr (by omega)) (ka_pure ⟨?_, rfl, rfl⟩))
    rw [hacc]
    have : j = u := by omega
    rw [this]
  | succ d ih =>
    intro j fuel acc hj hf hacc
    obtain ⟨fuel, rfl⟩ : ∃ n, fuel = n + 1 := ⟨fuel - 1, by omega⟩
    unfold pb_J3_cardinality_4
    refine ka_gI hl rfl rfl (ka_ifN (fun z => absurd ((k3_le (by omega) (by omega)).mp z) (by omega)) ?_)
    refine ka_gR (v := some b) hl rfl rfl (ka_ldJ hb (k3_in (by omega) (by omega)) ?_)
    rw [k3_nat (by omega), kp_bits]
    have hp : kp_pop 64 (kp_N (g j)) = kp_c f (64 * j) 64 := kp_pop_c 64 _ _ (fun i hi => by
      have := w5 j (by omega) i hi
      rw [← this]
      rfl)
    refine ka_use (v := Int32.ofNat (kp_pop 64 (kp_N (g j)))) (ka_pure ⟨rfl, rfl, rfl⟩) ?_
    rw [k3_add, k3_succ]
    refine ih (j + 1) fuel (acc + kp_pop 64 (kp_N (g j))) (by omega) (by omega) ?_
    rw [hacc, hp, show 64 * (j + 1) = 64 * j + 64 by omega, kp_c_add, Nat.zero_add]
theorem kp_card {l : Nat} {f : Nat → Bool} (hl : H l = some (ka_bs f)) : ka_T Z (pm_J3_cardinality (some l)) w H (ka_V w H (Int32.ofNat (kp_c f 0 256))) := by
  refine kn_open hl (fun b u st n g hW hst n1 n2 hb => ?_)
  unfold pm_J3_cardinality
  have hl1 : ka_up (ka_up H l (ka_ob 31 [.ref b, .int (Int32.ofNat u), .int st])) b (ka_aJ n g) l = some (ka_ob 31 [.ref b, .int (Int32.ofNat u), .int st]) := (ka_ne n2).trans ka_same
  refine ka_postE (kp_cardLoop hl1 ka_same hW u 0 km_fuel 0 (by omega) (by have := hW.1.2; unfold km_fuel; omega) rfl) (fun r w' G hp => ?_)
  obtain ⟨rfl, rfl, rfl⟩ := hp
  refine ⟨H, kn_fold_id hl (kq_ag hb) hl1 ka_same hW hst hb, ?_, rfl, rfl⟩
  have h4 := hW.1.2
  have e : 256 = 64 * u + (256 - 64 * u) := by omega
  rw [e, kp_c_add, kp_c_zero (256 - 64 * u) (0 + 64 * u) (fun i hi => hW.2.2.2.2.2 i (by omega)), Nat.add_zero]
end KPC
