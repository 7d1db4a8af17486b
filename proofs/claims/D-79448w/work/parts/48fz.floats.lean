set_option maxRecDepth 100000
/-! ===== quotients of whole numbers are no NaN ===== -/

/-! 64 -/
theorem kf_t64 : FP.Core.b64.tails = 4503599627370496 := by decide
theorem kf_e64 : FP.Core.b64.exps = 2048 := by decide
theorem kf_a64 : FP.Core.b64.qmax = 971 := by decide
theorem kf_i64 : FP.Core.b64.qmin = -1074 := by decide
theorem kf_p64 : FP.Core.b64.p = 53 := rfl
theorem kf_E64 {s : Bool} {c : Nat} {q : Int} : FP.Core.encode FP.Core.b64 (.fin s c q) = if c < 4503599627370496 then (s.toNat * 2048 + 0) * 4503599627370496 + c else (s.toNat * 2048 + ((q - (-1074)).toNat + 1)) * 4503599627370496 + (c - 4503599627370496) := by
  show (if c < FP.Core.b64.tails then FP.Core.assemble FP.Core.b64 s 0 c else FP.Core.assemble FP.Core.b64 s ((q - FP.Core.b64.qmin).toNat + 1) (c - FP.Core.b64.tails)) = _
  unfold FP.Core.assemble
  rw [kf_t64, kf_e64, kf_i64]
/-- what is settled is no NaN -/
theorem kf_enc64 {s : Bool} {c : Nat} {q : Int} (h : c < 9007199254740992) (hq : q ≤ 971) : FP.Core.encode FP.Core.b64 (.fin s c q) < 18446744073709551616 ∧ FP.Core.encode FP.Core.b64 (.fin s c q) % 9223372036854775808 < 9218868437227405312 := by
  rw [kf_E64]
  have hs : s.toNat ≤ 1 := Bool.toNat_le s
  split
  · next hc => omega
  · next hc => omega
theorem kf_encI64 {s : Bool} : FP.Core.encode FP.Core.b64 (.inf s) < 18446744073709551616 ∧ FP.Core.encode FP.Core.b64 (.inf s) % 9223372036854775808 = 9218868437227405312 := by
  cases s <;> decide
theorem kf_set64 {s : Bool} {c : Nat} {q : Int} : FP.Core.encode FP.Core.b64 (FP.Core.settle FP.Core.b64 s c q) < 18446744073709551616 ∧ FP.Core.encode FP.Core.b64 (FP.Core.settle FP.Core.b64 s c q) % 9223372036854775808 ≤ 9218868437227405312 := by
  have hb : ∀ (d : Nat) (r : Int), d < 9007199254740992 → FP.Core.encode FP.Core.b64 (FP.Core.bound FP.Core.b64 s d r) < 18446744073709551616 ∧ FP.Core.encode FP.Core.b64 (FP.Core.bound FP.Core.b64 s d r) % 9223372036854775808 ≤ 9218868437227405312 := by
    intro d r hd
    unfold FP.Core.bound
    rw [kf_a64]
    split
    · next hr =>
      have := kf_enc64 (s := s) hd hr
      omega
    · have := kf_encI64 (s := s)
      omega
  have h2 : (2 : Nat) ^ FP.Core.b64.p = 9007199254740992 := by rw [kf_p64]
  unfold FP.Core.settle
  rw [h2, kf_t64]
  split
  · next hc => exact hb _ _ hc
  · exact hb _ _ (by omega)
theorem kf_rat64 {s : Bool} {c d : Nat} {e : Int} : FP.Core.encode FP.Core.b64 (FP.Core.roundRatio FP.Core.b64 s c d e) < 18446744073709551616 ∧ FP.Core.encode FP.Core.b64 (FP.Core.roundRatio FP.Core.b64 s c d e) % 9223372036854775808 ≤ 9218868437227405312 := by
  unfold FP.Core.roundRatio
  split
  · have := kf_enc64 (s := s) (c := 0) (q := FP.Core.b64.qmin) (by omega) (by rw [kf_i64]; omega)
    omega
  · exact kf_set64
/-- the datum of an encoding -/
theorem kf_dec64 {s : Bool} {c : Nat} {q : Int} (h : c < 9007199254740992) (hq : q ≤ 971) : ∃ t d r, FP.Core.decode FP.Core.b64 (FP.Core.encode FP.Core.b64 (.fin s c q)) = .fin t d r ∧ (c ≠ 0 → d ≠ 0) := by
  have hs : s.toNat ≤ 1 := Bool.toNat_le s
  rw [kf_E64]
  unfold FP.Core.decode FP.Core.fieldE FP.Core.fieldT
  rw [kf_t64, kf_e64, kf_i64]
  by_cases hc : c < 4503599627370496
  · rw [if_pos hc, if_neg (by omega), if_pos (by omega)]
    exact ⟨_, _, _, rfl, fun hz => by omega⟩
  · rw [if_neg hc, if_neg (by omega), if_neg (by omega)]
    exact ⟨_, _, _, rfl, fun _ => by omega⟩
theorem kf_near {n d : Nat} (hd : 0 < d) (h : d ≤ n) : FP.Core.nearest n d ≠ 0 := by
  have h1 : 1 ≤ n / d := (Nat.one_le_div_iff hd).mpr h
  unfold FP.Core.nearest
  split
  · omega
  · split <;> omega
theorem kf_int64 {i : Int} (hi : i.natAbs < 2 ^ 32) : ∃ t d r, FP.Core.decode FP.Core.b64 (FP.Core.fromInt FP.Core.b64 i) = .fin t d r ∧ (i ≠ 0 → d ≠ 0) := by
  show ∃ t d r, FP.Core.decode FP.Core.b64 (FP.Core.encode FP.Core.b64 (FP.Core.roundRatio FP.Core.b64 (decide (i < 0)) i.natAbs 1 0)) = .fin t d r ∧ (i ≠ 0 → d ≠ 0)
  unfold FP.Core.roundRatio
  by_cases h0 : i.natAbs = 0
  · rw [if_pos h0]
    obtain ⟨t, d, r, h1, h2⟩ := kf_dec64 (s := decide (i < 0)) (c := 0) (q := FP.Core.b64.qmin) (by omega) (by rw [kf_i64]; omega)
    exact ⟨t, d, r, h1, fun hz => by omega⟩
  · rw [if_neg h0]
    have hlog : (i.natAbs).log2 < 32 := (Nat.log2_lt h0).mpr hi
    have hself : 2 ^ (i.natAbs).log2 ≤ i.natAbs := Nat.log2_self_le h0
    have hlead : FP.Core.leading i.natAbs 1 ≤ ((i.natAbs).log2 : Int) := by
      unfold FP.Core.leading
      have e1 : Nat.log2 1 = 0 := by decide
      rw [e1]
      dsimp only
      split <;> omega
    have hq : FP.Core.quantum FP.Core.b64 i.natAbs 1 0 ≤ ((i.natAbs).log2 : Int) ∧ FP.Core.quantum FP.Core.b64 i.natAbs 1 0 ≤ 40 := by
      unfold FP.Core.quantum
      rw [kf_i64, kf_p64]
      omega
    unfold FP.Core.roundAt
    generalize FP.Core.quantum FP.Core.b64 i.natAbs 1 0 = q at hq ⊢
    have hn : FP.Core.nearest (FP.Core.unitsNum i.natAbs 0 q) (FP.Core.unitsDen 1 0 q) ≠ 0 := by
      refine kf_near ?_ ?_
      · unfold FP.Core.unitsDen
        exact Nat.mul_pos (by omega) (Nat.two_pow_pos _)
      · unfold FP.Core.unitsDen FP.Core.unitsNum
        rw [Nat.one_mul]
        have h1 : 2 ^ (q - 0).toNat ≤ 2 ^ (i.natAbs).log2 := Nat.pow_le_pow_right (by omega) (by omega)
        have h2 : i.natAbs * 1 ≤ i.natAbs * 2 ^ (0 - q).toNat := Nat.mul_le_mul_left _ (Nat.two_pow_pos _)
        omega
    generalize FP.Core.nearest (FP.Core.unitsNum i.natAbs 0 q) (FP.Core.unitsDen 1 0 q) = n at hn ⊢
    have h2 : (2 : Nat) ^ FP.Core.b64.p = 9007199254740992 := by rw [kf_p64]
    unfold FP.Core.settle FP.Core.bound
    rw [h2, kf_t64, kf_a64]
    by_cases hc : n < 9007199254740992
    · rw [if_pos hc, if_pos (by omega)]
      obtain ⟨t, d, r, h3, h4⟩ := kf_dec64 (s := decide (i < 0)) (c := n) (q := q) hc (by omega)
      exact ⟨t, d, r, h3, fun _ => h4 hn⟩
    · rw [if_neg hc, if_pos (by omega)]
      obtain ⟨t, d, r, h3, h4⟩ := kf_dec64 (s := decide (i < 0)) (c := 4503599627370496) (q := q + 1) (by omega) (by omega)
      exact ⟨t, d, r, h3, fun _ => h4 (by omega)⟩
theorem kf_fromlt64 {i : Int} : FP.Core.fromInt FP.Core.b64 i < 18446744073709551616 := by
  unfold FP.Core.fromInt FP.Core.ofInt FP.Core.round
  exact kf_rat64.1
theorem kf_quo64 {a b : Int} (ha : a.natAbs < 2 ^ 32) (hb : b.natAbs < 2 ^ 32) (h0 : b ≠ 0) : FP.Core.div FP.Core.b64 (FP.Core.fromInt FP.Core.b64 a) (FP.Core.fromInt FP.Core.b64 b) < 18446744073709551616 ∧ FP.Core.div FP.Core.b64 (FP.Core.fromInt FP.Core.b64 a) (FP.Core.fromInt FP.Core.b64 b) % 9223372036854775808 ≤ 9218868437227405312 := by
  obtain ⟨s, c, q, h1, -⟩ := kf_int64 ha
  obtain ⟨t, d, r, h2, h3⟩ := kf_int64 hb
  unfold FP.Core.div
  rw [h1, h2]
  unfold FP.Core.quotient
  dsimp only
  rw [if_neg (h3 h0)]
  exact kf_rat64

/-! 32 -/
theorem kf_t32 : FP.Core.b32.tails = 8388608 := by decide
theorem kf_e32 : FP.Core.b32.exps = 256 := by decide
theorem kf_a32 : FP.Core.b32.qmax = 104 := by decide
theorem kf_i32 : FP.Core.b32.qmin = -149 := by decide
theorem kf_p32 : FP.Core.b32.p = 24 := rfl
theorem kf_E32 {s : Bool} {c : Nat} {q : Int} : FP.Core.encode FP.Core.b32 (.fin s c q) = if c < 8388608 then (s.toNat * 256 + 0) * 8388608 + c else (s.toNat * 256 + ((q - (-149)).toNat + 1)) * 8388608 + (c - 8388608) := by
  show (if c < FP.Core.b32.tails then FP.Core.assemble FP.Core.b32 s 0 c else FP.Core.assemble FP.Core.b32 s ((q - FP.Core.b32.qmin).toNat + 1) (c - FP.Core.b32.tails)) = _
  unfold FP.Core.assemble
  rw [kf_t32, kf_e32, kf_i32]
/-- what is settled is no NaN -/
theorem kf_enc32 {s : Bool} {c : Nat} {q : Int} (h : c < 16777216) (hq : q ≤ 104) : FP.Core.encode FP.Core.b32 (.fin s c q) < 4294967296 ∧ FP.Core.encode FP.Core.b32 (.fin s c q) % 2147483648 < 2139095040 := by
  rw [kf_E32]
  have hs : s.toNat ≤ 1 := Bool.toNat_le s
  split
  · next hc => omega
  · next hc => omega
theorem kf_encI32 {s : Bool} : FP.Core.encode FP.Core.b32 (.inf s) < 4294967296 ∧ FP.Core.encode FP.Core.b32 (.inf s) % 2147483648 = 2139095040 := by
  cases s <;> decide
theorem kf_set32 {s : Bool} {c : Nat} {q : Int} : FP.Core.encode FP.Core.b32 (FP.Core.settle FP.Core.b32 s c q) < 4294967296 ∧ FP.Core.encode FP.Core.b32 (FP.Core.settle FP.Core.b32 s c q) % 2147483648 ≤ 2139095040 := by
  have hb : ∀ (d : Nat) (r : Int), d < 16777216 → FP.Core.encode FP.Core.b32 (FP.Core.bound FP.Core.b32 s d r) < 4294967296 ∧ FP.Core.encode FP.Core.b32 (FP.Core.bound FP.Core.b32 s d r) % 2147483648 ≤ 2139095040 := by
    intro d r hd
    unfold FP.Core.bound
    rw [kf_a32]
    split
    · next hr =>
      have := kf_enc32 (s := s) hd hr
      omega
    · have := kf_encI32 (s := s)
      omega
  have h2 : (2 : Nat) ^ FP.Core.b32.p = 16777216 := by rw [kf_p32]
  unfold FP.Core.settle
  rw [h2, kf_t32]
  split
  · next hc => exact hb _ _ hc
  · exact hb _ _ (by omega)
theorem kf_rat32 {s : Bool} {c d : Nat} {e : Int} : FP.Core.encode FP.Core.b32 (FP.Core.roundRatio FP.Core.b32 s c d e) < 4294967296 ∧ FP.Core.encode FP.Core.b32 (FP.Core.roundRatio FP.Core.b32 s c d e) % 2147483648 ≤ 2139095040 := by
  unfold FP.Core.roundRatio
  split
  · have := kf_enc32 (s := s) (c := 0) (q := FP.Core.b32.qmin) (by omega) (by rw [kf_i32]; omega)
    omega
  · exact kf_set32
/-- the datum of an encoding -/
theorem kf_dec32 {s : Bool} {c : Nat} {q : Int} (h : c < 16777216) (hq : q ≤ 104) : ∃ t d r, FP.Core.decode FP.Core.b32 (FP.Core.encode FP.Core.b32 (.fin s c q)) = .fin t d r ∧ (c ≠ 0 → d ≠ 0) := by
  have hs : s.toNat ≤ 1 := Bool.toNat_le s
  rw [kf_E32]
  unfold FP.Core.decode FP.Core.fieldE FP.Core.fieldT
  rw [kf_t32, kf_e32, kf_i32]
  by_cases hc : c < 8388608
  · rw [if_pos hc, if_neg (by omega), if_pos (by omega)]
    exact ⟨_, _, _, rfl, fun hz => by omega⟩
  · rw [if_neg hc, if_neg (by omega), if_neg (by omega)]
    exact ⟨_, _, _, rfl, fun _ => by omega⟩
theorem kf_int32 {i : Int} (hi : i.natAbs < 2 ^ 32) : ∃ t d r, FP.Core.decode FP.Core.b32 (FP.Core.fromInt FP.Core.b32 i) = .fin t d r ∧ (i ≠ 0 → d ≠ 0) := by
  show ∃ t d r, FP.Core.decode FP.Core.b32 (FP.Core.encode FP.Core.b32 (FP.Core.roundRatio FP.Core.b32 (decide (i < 0)) i.natAbs 1 0)) = .fin t d r ∧ (i ≠ 0 → d ≠ 0)
  unfold FP.Core.roundRatio
  by_cases h0 : i.natAbs = 0
  · rw [if_pos h0]
    obtain ⟨t, d, r, h1, h2⟩ := kf_dec32 (s := decide (i < 0)) (c := 0) (q := FP.Core.b32.qmin) (by omega) (by rw [kf_i32]; omega)
    exact ⟨t, d, r, h1, fun hz => by omega⟩
  · rw [if_neg h0]
    have hlog : (i.natAbs).log2 < 32 := (Nat.log2_lt h0).mpr hi
    have hself : 2 ^ (i.natAbs).log2 ≤ i.natAbs := Nat.log2_self_le h0
    have hlead : FP.Core.leading i.natAbs 1 ≤ ((i.natAbs).log2 : Int) := by
      unfold FP.Core.leading
      have e1 : Nat.log2 1 = 0 := by decide
      rw [e1]
      dsimp only
      split <;> omega
    have hq : FP.Core.quantum FP.Core.b32 i.natAbs 1 0 ≤ ((i.natAbs).log2 : Int) ∧ FP.Core.quantum FP.Core.b32 i.natAbs 1 0 ≤ 40 := by
      unfold FP.Core.quantum
      rw [kf_i32, kf_p32]
      omega
    unfold FP.Core.roundAt
    generalize FP.Core.quantum FP.Core.b32 i.natAbs 1 0 = q at hq ⊢
    have hn : FP.Core.nearest (FP.Core.unitsNum i.natAbs 0 q) (FP.Core.unitsDen 1 0 q) ≠ 0 := by
      refine kf_near ?_ ?_
      · unfold FP.Core.unitsDen
        exact Nat.mul_pos (by omega) (Nat.two_pow_pos _)
      · unfold FP.Core.unitsDen FP.Core.unitsNum
        rw [Nat.one_mul]
        have h1 : 2 ^ (q - 0).toNat ≤ 2 ^ (i.natAbs).log2 := Nat.pow_le_pow_right (by omega) (by omega)
        have h2 : i.natAbs * 1 ≤ i.natAbs * 2 ^ (0 - q).toNat := Nat.mul_le_mul_left _ (Nat.two_pow_pos _)
        omega
    generalize FP.Core.nearest (FP.Core.unitsNum i.natAbs 0 q) (FP.Core.unitsDen 1 0 q) = n at hn ⊢
    have h2 : (2 : Nat) ^ FP.Core.b32.p = 16777216 := by rw [kf_p32]
    unfold FP.Core.settle FP.Core.bound
    rw [h2, kf_t32, kf_a32]
    by_cases hc : n < 16777216
    · rw [if_pos hc, if_pos (by omega)]
      obtain ⟨t, d, r, h3, h4⟩ := kf_dec32 (s := decide (i < 0)) (c := n) (q := q) hc (by omega)
      exact ⟨t, d, r, h3, fun _ => h4 hn⟩
    · rw [if_neg hc, if_pos (by omega)]
      obtain ⟨t, d, r, h3, h4⟩ := kf_dec32 (s := decide (i < 0)) (c := 8388608) (q := q + 1) (by omega) (by omega)
      exact ⟨t, d, r, h3, fun _ => h4 (by omega)⟩
theorem kf_fromlt32 {i : Int} : FP.Core.fromInt FP.Core.b32 i < 4294967296 := by
  unfold FP.Core.fromInt FP.Core.ofInt FP.Core.round
  exact kf_rat32.1
theorem kf_quo32 {a b : Int} (ha : a.natAbs < 2 ^ 32) (hb : b.natAbs < 2 ^ 32) (h0 : b ≠ 0) : FP.Core.div FP.Core.b32 (FP.Core.fromInt FP.Core.b32 a) (FP.Core.fromInt FP.Core.b32 b) < 4294967296 ∧ FP.Core.div FP.Core.b32 (FP.Core.fromInt FP.Core.b32 a) (FP.Core.fromInt FP.Core.b32 b) % 2147483648 ≤ 2139095040 := by
  obtain ⟨s, c, q, h1, -⟩ := kf_int32 ha
  obtain ⟨t, d, r, h2, h3⟩ := kf_int32 hb
  unfold FP.Core.div
  rw [h1, h2]
  unfold FP.Core.quotient
  dsimp only
  rw [if_neg (h3 h0)]
  exact kf_rat32

theorem kf_abs {a : Int32} : a.toInt.natAbs < 2 ^ 32 := by
  have h1 := Int32.toInt_lt a
  have h2 := Int32.le_toInt a
  omega
theorem kf_ne {a : Int32} (h : a ≠ 0) : a.toInt ≠ 0 := fun z => h (Int32.toInt_inj.mp (by rw [z]; rfl))
theorem kf_ddiv {a b : Int32} (hb : b ≠ 0) : (FP.ddiv (FP.i2d a) (FP.i2d b)).toNat % 9223372036854775808 ≤ 9218868437227405312 := by
  have h := kf_quo64 (kf_abs (a := a)) (kf_abs (a := b)) (kf_ne hb)
  show (UInt64.ofNat (FP.Core.div FP.Core.b64 (UInt64.ofNat (FP.Core.fromInt FP.Core.b64 a.toInt)).toNat (UInt64.ofNat (FP.Core.fromInt FP.Core.b64 b.toInt)).toNat)).toNat % _ ≤ _
  have ea := kf_fromlt64 (i := a.toInt)
  have eb := kf_fromlt64 (i := b.toInt)
  have e1 : (UInt64.ofNat (FP.Core.fromInt FP.Core.b64 a.toInt)).toNat = FP.Core.fromInt FP.Core.b64 a.toInt := UInt64.toNat_ofNat_of_lt' ea
  have e2 : (UInt64.ofNat (FP.Core.fromInt FP.Core.b64 b.toInt)).toNat = FP.Core.fromInt FP.Core.b64 b.toInt := UInt64.toNat_ofNat_of_lt' eb
  rw [e1, e2, UInt64.toNat_ofNat_of_lt' (by exact h.1)]
  exact h.2
theorem kf_fdiv {a b : Int32} (hb : b ≠ 0) : (FP.fdiv (FP.i2f a) (FP.i2f b)).toNat % 2147483648 ≤ 2139095040 := by
  have h := kf_quo32 (kf_abs (a := a)) (kf_abs (a := b)) (kf_ne hb)
  show (UInt32.ofNat (FP.Core.div FP.Core.b32 (UInt32.ofNat (FP.Core.fromInt FP.Core.b32 a.toInt)).toNat (UInt32.ofNat (FP.Core.fromInt FP.Core.b32 b.toInt)).toNat)).toNat % _ ≤ _
  have ea := kf_fromlt32 (i := a.toInt)
  have eb := kf_fromlt32 (i := b.toInt)
  have e1 : (UInt32.ofNat (FP.Core.fromInt FP.Core.b32 a.toInt)).toNat = FP.Core.fromInt FP.Core.b32 a.toInt := UInt32.toNat_ofNat_of_lt' ea
  have e2 : (UInt32.ofNat (FP.Core.fromInt FP.Core.b32 b.toInt)).toNat = FP.Core.fromInt FP.Core.b32 b.toInt := UInt32.toNat_ofNat_of_lt' eb
  rw [e1, e2, UInt32.toNat_ofNat_of_lt' (by exact h.1)]
  exact h.2
theorem kf_n64 {a : UInt64} (h : a.toNat % 9223372036854775808 ≤ 9218868437227405312) : vf_n64 a := by
  unfold vf_n64
  rw [UInt64.le_iff_toNat_le, UInt64.toNat_and]
  show a.toNat &&& 9223372036854775807 ≤ 9218868437227405312
  have e : a.toNat &&& (2 ^ 63 - 1) = a.toNat % 2 ^ 63 := Nat.and_two_pow_sub_one_eq_mod ..
  have e2 : (2 ^ 63 - 1 : Nat) = 9223372036854775807 := by decide
  rw [e2] at e
  rw [e]
  exact h
theorem kf_n32 {a : UInt32} (h : a.toNat % 2147483648 ≤ 2139095040) : vf_n32 a := by
  unfold vf_n32
  rw [UInt32.le_iff_toNat_le, UInt32.toNat_and]
  show a.toNat &&& 2147483647 ≤ 2139095040
  have e : a.toNat &&& (2 ^ 31 - 1) = a.toNat % 2 ^ 31 := Nat.and_two_pow_sub_one_eq_mod ..
  have e2 : (2 ^ 31 - 1 : Nat) = 2147483647 := by decide
  rw [e2] at e
  rw [e]
  exact h
