set_option maxRecDepth 100000
/-! ===== the start, out of the claim's words ===== -/
theorem ks_known {args : Array Value} {s : State} (hts : ∀ w ∈ lw_all, w.before args s = true) : ∀ (c : Nat) (r : vw_C), kcl[c]? = some r → ∃ p : ClassId × (Nat → Nat), u_Kn s r.1 r.2.1 r.2.2 p.1 p.2 := by
  intro c r h
  match c, h with
  | 0, h =>
    cases h
    obtain ⟨cC, iS, k⟩ := u_known (C := RX0) (T := TX0) (N := 8) (n := 8) hts in_X0 (hts _ q133)
    exact ⟨(cC, iS), k⟩
  | 1, h =>
    cases h
    obtain ⟨cC, iS, k⟩ := u_known (C := RX1) (T := TX1) (N := 17) (n := 17) hts in_X1 (hts _ q141)
    exact ⟨(cC, iS), k⟩
  | 2, h =>
    cases h
    obtain ⟨cC, iS, k⟩ := u_known (C := RX2) (T := TX2) (N := 1) (n := 1) hts in_X2 (hts _ q176)
    exact ⟨(cC, iS), k⟩
  | 3, h =>
    cases h
    obtain ⟨cC, iS, k⟩ := u_known (C := RX3) (T := TX3) (N := 18) (n := 18) hts in_X3 (hts _ q2342)
    exact ⟨(cC, iS), k⟩
  | 4, h =>
    cases h
    obtain ⟨cC, iS, k⟩ := u_known (C := RX5) (T := TX5) (N := 3) (n := 3) hts in_X5 (hts _ q343)
    exact ⟨(cC, iS), k⟩
  | 5, h =>
    cases h
    obtain ⟨cC, iS, k⟩ := u_known (C := RX6) (T := TX6) (N := 4) (n := 4) hts in_X6 (hts _ q543)
    exact ⟨(cC, iS), k⟩
  | 6, h =>
    cases h
    obtain ⟨cC, iS, k⟩ := u_known (C := RX7) (T := TX7) (N := 2) (n := 2) hts in_X7 (hts _ q660)
    exact ⟨(cC, iS), k⟩
  | 7, h =>
    cases h
    obtain ⟨cC, iS, k⟩ := u_known (C := RX8) (T := TX8) (N := 4) (n := 4) hts in_X8 (hts _ q717)
    exact ⟨(cC, iS), k⟩
  | 8, h =>
    cases h
    obtain ⟨cC, iS, k⟩ := u_known (C := RX9) (T := TX9) (N := 8) (n := 8) hts in_X9 (hts _ q797)
    exact ⟨(cC, iS), k⟩
  | 9, h =>
    cases h
    obtain ⟨cC, iS, k⟩ := u_known (C := RX10) (T := TX10) (N := 4) (n := 4) hts in_X10 (hts _ q831)
    exact ⟨(cC, iS), k⟩
  | 10, h =>
    cases h
    obtain ⟨cC, iS, k⟩ := u_known (C := RX11) (T := TX11) (N := 2) (n := 2) hts in_X11 (hts _ q889)
    exact ⟨(cC, iS), k⟩
  | 11, h =>
    cases h
    obtain ⟨cC, iS, k⟩ := u_known (C := RX12) (T := TX12) (N := 3) (n := 3) hts in_X12 (hts _ q520)
    exact ⟨(cC, iS), k⟩
  | 12, h =>
    cases h
    obtain ⟨cC, iS, k⟩ := u_known (C := RX14) (T := TX14) (N := 3) (n := 3) hts in_X14 (hts _ q1228)
    exact ⟨(cC, iS), k⟩
  | 13, h =>
    cases h
    obtain ⟨cC, iS, k⟩ := u_known (C := RX15) (T := TX15) (N := 6) (n := 6) hts in_X15 (hts _ q1371)
    exact ⟨(cC, iS), k⟩
  | 14, h =>
    cases h
    obtain ⟨cC, iS, k⟩ := u_known (C := RX16) (T := TX16) (N := 3) (n := 3) hts in_X16 (hts _ q1402)
    exact ⟨(cC, iS), k⟩
  | 15, h =>
    cases h
    obtain ⟨cC, iS, k⟩ := u_known (C := RX17) (T := TX17) (N := 3) (n := 3) hts in_X17 (hts _ q1568)
    exact ⟨(cC, iS), k⟩
  | 16, h =>
    cases h
    obtain ⟨cC, iS, k⟩ := u_known (C := RX18) (T := TX18) (N := 3) (n := 3) hts in_X18 (hts _ q1589)
    exact ⟨(cC, iS), k⟩
  | 17, h =>
    cases h
    obtain ⟨cC, iS, k⟩ := u_known (C := RX19) (T := TX19) (N := 4) (n := 4) hts in_X19 (hts _ q1614)
    exact ⟨(cC, iS), k⟩
  | 18, h =>
    cases h
    obtain ⟨cC, iS, k⟩ := u_known (C := RX20) (T := TX20) (N := 5) (n := 5) hts in_X20 (hts _ q1638)
    exact ⟨(cC, iS), k⟩
  | 19, h =>
    cases h
    obtain ⟨cC, iS, k⟩ := u_known (C := RX21) (T := TX21) (N := 4) (n := 4) hts in_X21 (hts _ q1665)
    exact ⟨(cC, iS), k⟩
  | 20, h =>
    cases h
    obtain ⟨cC, iS, k⟩ := u_known (C := RX22) (T := TX22) (N := 3) (n := 3) hts in_X22 (hts _ q1689)
    exact ⟨(cC, iS), k⟩
  | 21, h =>
    cases h
    obtain ⟨cC, iS, k⟩ := u_known (C := RX23) (T := TX23) (N := 3) (n := 3) hts in_X23 (hts _ q1710)
    exact ⟨(cC, iS), k⟩
  | 22, h =>
    cases h
    obtain ⟨cC, iS, k⟩ := u_known (C := RX24) (T := TX24) (N := 3) (n := 3) hts in_X24 (hts _ q1731)
    exact ⟨(cC, iS), k⟩
  | 23, h =>
    cases h
    obtain ⟨cC, iS, k⟩ := u_known (C := RX25) (T := TX25) (N := 6) (n := 6) hts in_X25 (hts _ q1752)
    exact ⟨(cC, iS), k⟩
  | 24, h =>
    cases h
    obtain ⟨cC, iS, k⟩ := u_known (C := RX26) (T := TX26) (N := 2) (n := 2) hts in_X26 (hts _ q1782)
    exact ⟨(cC, iS), k⟩
  | 25, h =>
    cases h
    obtain ⟨cC, iS, k⟩ := u_known (C := RX27) (T := TX27) (N := 3) (n := 3) hts in_X27 (hts _ q1800)
    exact ⟨(cC, iS), k⟩
  | 26, h =>
    cases h
    obtain ⟨cC, iS, k⟩ := u_known (C := RX28) (T := TX28) (N := 4) (n := 4) hts in_X28 (hts _ q2175)
    exact ⟨(cC, iS), k⟩
  | 27, h =>
    cases h
    obtain ⟨cC, iS, k⟩ := u_known (C := RX29) (T := TX29) (N := 7) (n := 7) hts in_X29 (hts _ q2229)
    exact ⟨(cC, iS), k⟩
  | 28, h =>
    cases h
    obtain ⟨cC, iS, k⟩ := u_known (C := RX30) (T := TX30) (N := 2) (n := 2) hts in_X30 (hts _ q2248)
    exact ⟨(cC, iS), k⟩
  | 29, h =>
    cases h
    obtain ⟨cC, iS, k⟩ := u_known (C := RX31) (T := TX31) (N := 3) (n := 3) hts in_X31 (hts _ q2273)
    exact ⟨(cC, iS), k⟩
  | 30, h =>
    cases h
    obtain ⟨cC, iS, k⟩ := u_known (C := RJ2) (T := TJ2) (N := 3) (n := 3) hts in_J2 (hts _ q147)
    exact ⟨(cC, iS), k⟩
  | 31, h =>
    cases h
    obtain ⟨cC, iS, k⟩ := u_known (C := RJ3) (T := TJ3) (N := 3) (n := 3) hts in_J3 (hts _ q190)
    exact ⟨(cC, iS), k⟩
  | 32, h =>
    cases h
    obtain ⟨cC, iS, k⟩ := u_known (C := RJ4) (T := TJ4) (N := 3) (n := 3) hts in_J4 (hts _ q283)
    exact ⟨(cC, iS), k⟩
  | 33, h =>
    cases h
    obtain ⟨cC, iS, k⟩ := u_known (C := RJ5) (T := TJ5) (N := 4) (n := 4) hts in_J5 (hts _ q377)
    exact ⟨(cC, iS), k⟩
  | 34, h =>
    cases h
    obtain ⟨cC, iS, k⟩ := u_known (C := RJ15) (T := TJ15) (N := 4) (n := 4) hts in_J15 (hts _ q946)
    exact ⟨(cC, iS), k⟩
  | 35, h =>
    cases h
    obtain ⟨cC, iS, k⟩ := u_known (C := RJ16) (T := TJ16) (N := 4) (n := 4) hts in_J16 (hts _ q2088)
    exact ⟨(cC, iS), k⟩
  | 36, h =>
    cases h
    obtain ⟨cC, iS, k⟩ := u_known (C := RJ23) (T := TJ23) (N := 4) (n := 4) hts in_J23 (hts _ q1948)
    exact ⟨(cC, iS), k⟩
  | c + 37, h => simp [kcl] at h
theorem ks_D {args : Array Value} {s : State} (hts : ∀ w ∈ lw_all, w.before args s = true) : ∃ D : va_G, ∀ (c : Nat) (r : vw_C), kcl[c]? = some r → u_Kn s r.1 r.2.1 r.2.2 (D.1 c) (D.2 c) := by
  obtain ⟨p0, -⟩ := ks_known hts 0 _ rfl
  have h : ∀ c : Nat, ∃ p : ClassId × (Nat → Nat), ∀ r : vw_C, kcl[c]? = some r → u_Kn s r.1 r.2.1 r.2.2 p.1 p.2 := by
    intro c
    cases e : kcl[c]? with
    | none => exact ⟨p0, fun r hr => by cases hr⟩
    | some r =>
      obtain ⟨p, hp⟩ := ks_known hts c r e
      exact ⟨p, fun r' hr' => by cases hr'; exact hp⟩
  obtain ⟨f, hf⟩ := Classical.axiomOfChoice h
  exact ⟨(fun c => (f c).1, fun c => (f c).2), fun c r hr => hf c r hr⟩
theorem ks_tys {args : Array Value} {s : State} (hts : ∀ w ∈ lw_tbl, w.before args s = true) : ∃ K : Nat → ClassId, ∀ (k : Nat) (q : ClassId × FieldType), ([(K 0, .int), (K 1, .char), (K 2, .byte), (K 3, .long), (K 4, .object "java/lang/Object"), (K 5, .object "java/lang/String")] : List (ClassId × FieldType))[k]? = some q → ArrOfT s q.1 q.2 ∧ va_RA s q.1 q.2 := by
  obtain ⟨c0, k0, m0, x0, y0, z0⟩ := Cond.arrayClass_spec (hts _ (lw_all_tbl q2203))
  obtain ⟨c1, k1, m1, x1, y1, z1⟩ := Cond.arrayClass_spec (hts _ (lw_all_tbl q334))
  obtain ⟨c2, k2, m2, x2, y2, z2⟩ := Cond.arrayClass_spec (hts _ (lw_all_tbl q333))
  obtain ⟨c3, k3, m3, x3, y3, z3⟩ := Cond.arrayClass_spec (hts _ (lw_all_tbl q212))
  obtain ⟨m4, c4, k4, u4, -, x4, y4, z4⟩ := Cond.arrayOver_spec (hts _ q289)
  obtain ⟨m5, c5, k5, u5, -, x5, y5, z5⟩ := Cond.arrayOver_spec (hts _ q2181)
  refine ⟨fun k => ([c0, c1, c2, c3, c4, c5] : List ClassId).getD k c0, fun k q hq => ?_⟩
  match k, hq with
  | 0, hq => cases hq; exact ⟨fun n z => ⟨fun k h => (by cases h), k0, y0, m0, z0⟩, x0⟩
  | 1, hq => cases hq; exact ⟨fun n z => ⟨fun k h => (by cases h), k1, y1, m1, z1⟩, x1⟩
  | 2, hq => cases hq; exact ⟨fun n z => ⟨fun k h => (by cases h), k2, y2, m2, z2⟩, x2⟩
  | 3, hq => cases hq; exact ⟨fun n z => ⟨fun k h => (by cases h), k3, y3, m3, z3⟩, x3⟩
  | 4, hq => cases hq; exact ⟨fun n z => ⟨fun k h => (by cases h), k4, x4, m4, y4⟩, k4, m4, x4, y4, u4, z4⟩
  | 5, hq => cases hq; exact ⟨fun n z => ⟨fun k h => (by cases h), k5, x5, m5, y5⟩, k5, m5, x5, y5, u5, z5⟩
  | k + 6, hq => cases hq
/-- the words of a text -/
def ks_words (own : String) (k : Nat) (cs : List Int32) (h z : Int32) : List Cond := Cond.exactly (.string own k) "java/lang/String" :: Cond.eq (.field (.string own k) "java/lang/String" "coder" "B") (.int 0) :: Cond.arrayOf (.field (.string own k) "java/lang/String" "value" "[B") .byte :: Cond.eq (.length (.field (.string own k) "java/lang/String" "value" "[B")) (.int (Int32.ofNat cs.length)) :: Cond.eq (.field (.string own k) "java/lang/String" "hash" "I") (.int h) :: Cond.eq (.field (.string own k) "java/lang/String" "hashIsZero" "Z") (.int z) :: (List.range cs.length).map (fun j => Cond.eq (.elem (.field (.string own k) "java/lang/String" "value" "[B") (.int (Int32.ofNat j))) (.int (cs.getD j 0)))
theorem ks_slot {s : State} {o n d : String} {v : Value} {a i : Nat} {A : Nat → Prop} {cell : Cell} (h : va_OF o n d v a A s s.heap) (hs : SlotIs s o n d i) (hc : s.heap[a]? = some cell) : cell.slots[i]? = some v ∧ cell.vm ≠ .unknown := by
  obtain ⟨cf, k, fi, f, cell', h1, -, h3, h4, h5, -⟩ := h
  obtain ⟨cf2, kf2, fi2, fd2, g1, g2⟩ := hs
  have e1 : cell' = cell := Option.some.inj (h3.symm.trans hc)
  have e2 : (cf, k, fi, f) = (cf2, kf2, fi2, fd2) := Option.some.inj (h1.symm.trans g1)
  cases e2
  subst e1
  rw [← g2]
  exact ⟨h5, h4⟩
theorem ks_text {s : State} {args : Array Value} {D : va_G} {own : String} {k : Nat} {cs : List Int32} {h z : Int32} (hs : ∀ w ∈ flatC narrow_1, w.before args s = true) (hw : ∀ w ∈ ks_words own k cs h z, w ∈ flatC narrow_1) (hD : ∀ (c : Nat) (r : vw_C), kcl[c]? = some r → u_Kn s r.1 r.2.1 r.2.2 (D.1 c) (D.2 c)) (hlen : cs.length ≤ 100) : ∃ a v : Nat, (Term.string own k).eval args s none [] s = some (.ref a) ∧ ∀ (K : Nat → ClassId) (cst : Nat → Option Nat), kw_atC (s, D, K, cst) a (.inr (35, [.ref v, .int 0, .int h, .int z])) ∧ kw_atC (s, D, K, cst) v (.inl (2, cs.length, .inl (fun j => cs.getD j 0))) := by
  have hA : ∀ a : Nat, a < s.heap.size → ¬ (fun q : Nat => s.heap.size ≤ q) a := fun a ha z => Nat.lt_irrefl _ (Nat.lt_of_lt_of_le ha z)
  have w0 := hs _ (hw _ List.mem_cons_self)
  have w1 := hs _ (hw _ (List.mem_cons_of_mem _ List.mem_cons_self))
  have w2 := hs _ (hw _ (List.mem_cons_of_mem _ (List.mem_cons_of_mem _ List.mem_cons_self)))
  have w3 := hs _ (hw _ (List.mem_cons_of_mem _ (List.mem_cons_of_mem _ (List.mem_cons_of_mem _ List.mem_cons_self))))
  have w4 := hs _ (hw _ (List.mem_cons_of_mem _ (List.mem_cons_of_mem _ (List.mem_cons_of_mem _ (List.mem_cons_of_mem _ List.mem_cons_self)))))
  have w5 := hs _ (hw _ (List.mem_cons_of_mem _ (List.mem_cons_of_mem _ (List.mem_cons_of_mem _ (List.mem_cons_of_mem _ (List.mem_cons_of_mem _ List.mem_cons_self))))))
  have we : ∀ j : Nat, j < cs.length → (Cond.eq (.elem (.field (.string own k) "java/lang/String" "value" "[B") (.int (Int32.ofNat j))) (.int (cs.getD j 0))).before args s = true := fun j hj => hs _ (hw _ (List.mem_cons_of_mem _ (List.mem_cons_of_mem _ (List.mem_cons_of_mem _ (List.mem_cons_of_mem _ (List.mem_cons_of_mem _ (List.mem_cons_of_mem _ (List.mem_map.mpr ⟨j, List.mem_range.mpr hj, rfl⟩))))))))
  obtain ⟨a, c, cA, kA9, q1, q2, q3, q4, q5, q6, -⟩ := Cond.exactly_spec (args := args) (first := s) (o := none) (s := s) (idx := []) (t := Term.string own k) (cls := "java/lang/String") w0
  obtain ⟨t, ht, hT⟩ := va_Tof (N := cs.length) (f := fun j => .int (cs.getD j 0)) (A := fun q : Nat => s.heap.size ≤ q) (by omega) w2 (va_eqt w3) (fun j hj => va_eqt (we j hj)) hA
  obtain ⟨hsl, hcl, -⟩ := hD 35 _ rfl
  have e0 := ks_slot (vk_OFof q1 ht hA) (hsl 0 (by decide)) q3
  have e1 := ks_slot (vk_OFof q1 (va_eqt w1) hA) (hsl 1 (by decide)) q3
  have e2 := ks_slot (vk_OFof q1 (va_eqt w4) hA) (hsl 2 (by decide)) q3
  have e3 := ks_slot (vk_OFof q1 (va_eqt w5) hA) (hsl 3 (by decide)) q3
  have ecls : cA.cls = D.1 35 := by
    rw [q6]
    exact Option.some.inj (q2.symm.trans hcl)
  refine ⟨a, t, q1, fun K cst => ⟨?_, ?_⟩⟩
  · unfold kw_atC
    refine ⟨_, cA, rfl, q3, ecls, q5, e0.2, fun k9 hk9 => ?_⟩
    have h4 : k9 = 0 ∨ k9 = 1 ∨ k9 = 2 ∨ k9 = 3 := by
      have : k9 < 4 := hk9
      omega
    rcases h4 with e | e | e | e <;> subst e
    · exact e0.1
    · exact e1.1
    · exact e2.1
    · exact e3.1
  · unfold kw_atC
    exact ⟨hT, Nat.le_refl 2⟩
theorem ks_eqR {args : Array Value} {s : State} {t u : Term} {a : Nat} (h : (Cond.eq t u).before args s = true) (ht : t.eval args s none [] s = some (.ref a)) : u.eval args s none [] s = some (.ref a) := by
  simp only [Cond.before, Cond.holds, Cond.value, ht] at h
  cases hu : u.eval args s none [] s with
  | none => simp [hu] at h
  | some w =>
    simp only [hu] at h
    cases w <;> simp_all
/-- a static that holds a reference or null -/
theorem ks_statR {args : Array Value} {s : State} {C n d : String} (hl : (Cond.laysStatic C n d).before args s = true) (hini : (Cond.initialized C).before args s = true) (h : (Cond.isRef (.static C n d)).before args s = true) : ∃ r : Option Nat, va_Z C n d (va_rf r) (fun q : Nat => s.heap.size ≤ q) s s.heap := by
  have hA : ∀ a : Nat, a < s.heap.size → ¬ (fun q : Nat => s.heap.size ≤ q) a := fun a ha z => Nat.lt_irrefl _ (Nat.lt_of_lt_of_le ha z)
  rcases va_Zqof (A := fun q : Nat => s.heap.size ≤ q) hl hini h hA with h1 | ⟨t, h1⟩
  · exact ⟨none, h1⟩
  · exact ⟨some t, h1⟩
theorem ks_w10 : ∀ w ∈ ks_words "RosaryCarvers" 28 [] (0) 1, w ∈ flatC narrow_1 := by decide +kernel
theorem ks_w15 : ∀ w ∈ ks_words "RosaryCarvers" 363 [101, 109, 112, 116, 121] (96634189) 0, w ∈ flatC narrow_1 := by decide +kernel
theorem ks_w18 : ∀ w ∈ ks_words "RosaryCarvers" 400 [108, 97, 114, 103, 101] (102742843) 0, w ∈ flatC narrow_1 := by decide +kernel
theorem ks_w21 : ∀ w ∈ ks_words "RosaryCarvers" 406 [115, 109, 97, 108, 108] (109548807) 0, w ∈ flatC narrow_1 := by decide +kernel
theorem ks_w11 : ∀ w ∈ ks_words "RosaryCarvers" 407 [98, 101, 103, 105, 110] (93616297) 0, w ∈ flatC narrow_1 := by decide +kernel
theorem ks_w23 : ∀ w ∈ ks_words "RosaryCarvers" 409 [116, 104, 114, 101, 97, 100] (-874443254) 0, w ∈ flatC narrow_1 := by decide +kernel
theorem ks_w16 : ∀ w ∈ ks_words "RosaryCarvers" 411 [107, 110, 111, 116] (3296904) 0, w ∈ flatC narrow_1 := by decide +kernel
theorem ks_w13 : ∀ w ∈ ks_words "RosaryCarvers" 413 [100, 114, 111, 112] (3092207) 0, w ∈ flatC narrow_1 := by decide +kernel
theorem ks_w20 : ∀ w ∈ ks_words "RosaryCarvers" 415 [109, 101, 110, 100] (3347790) 0, w ∈ flatC narrow_1 := by decide +kernel
theorem ks_w25 : ∀ w ∈ ks_words "RosaryCarvers$Reader" 31 [119, 97, 105, 116] (3641717) 0, w ∈ flatC narrow_1 := by decide +kernel
theorem ks_w19 : ∀ w ∈ ks_words "RosaryCarversModel" 33 [108, 97, 114, 103, 101, 32] (-1109939131) 0, w ∈ flatC narrow_1 := by decide +kernel
theorem ks_w22 : ∀ w ∈ ks_words "RosaryCarversModel" 35 [115, 109, 97, 108, 108, 32] (-898954247) 0, w ∈ flatC narrow_1 := by decide +kernel
theorem ks_w12 : ∀ w ∈ ks_words "RosaryCarversModel" 37 [98, 101, 103, 105, 110, 32] (-1392862057) 0, w ∈ flatC narrow_1 := by decide +kernel
theorem ks_w24 : ∀ w ∈ ks_words "RosaryCarversModel" 39 [116, 104, 114, 101, 97, 100, 32] (-1337937066) 0, w ∈ flatC narrow_1 := by decide +kernel
theorem ks_w17 : ∀ w ∈ ks_words "RosaryCarversModel" 41 [107, 110, 111, 116, 32] (102204056) 0, w ∈ flatC narrow_1 := by decide +kernel
theorem ks_w14 : ∀ w ∈ ks_words "RosaryCarversModel" 43 [100, 114, 111, 112, 32] (95858449) 0, w ∈ flatC narrow_1 := by decide +kernel
theorem ks_w26 : ∀ w ∈ ks_words "RosaryCarversModel" 47 [119, 97, 105, 116, 32] (112893259) 0, w ∈ flatC narrow_1 := by decide +kernel
theorem ks_dig : ∀ w ∈ (List.range 100).map (fun j => Cond.eq (.elem (.static "java/lang/Integer" "DigitOnes" "[B") (.int (Int32.ofNat j))) (.int (Int32.ofNat (48 + j % 10)))), w ∈ flatC narrow_1 := by decide +kernel
/-- what a cell of the start holds, in one way alone -/
def ks_norm (e : km_E) : Prop := match e with
  | .inl (k, n, .inl f) => (k = 0 ∨ k = 2) ∧ n < 2 ^ 31 ∧ (∀ j, n ≤ j → f j = 0) ∧ ∀ j, fits (km_ty k) (.int (f j)) = true
  | .inl (k, n, .inr (.inr (.inr (.inr f)))) => k = 4 ∧ n = 0 ∧ f = fun _ => none
  | .inl _ => False
  | .inr (c, fs) => c = 35 ∧ fs.length = 4
theorem ks_arr_ty {s : State} {cell : Cell} {t t' : FieldType} (h : s.isArrayOf cell t) (h' : s.isArrayOf cell t') : t = t' := by
  obtain ⟨-, k, h1, c, h2⟩ := h
  obtain ⟨-, k', h1', c', h2'⟩ := h'
  rw [h1] at h1'
  cases h1'
  rw [h2] at h2'
  cases h2'
  rfl
theorem ks_size {a b c : Nat} (ha : a < 2 ^ 31) (hb : b < 2 ^ 31) (h1 : c.toInt32 = Int32.ofNat a) (h2 : c.toInt32 = Int32.ofNat b) : a = b := by
  rw [h1] at h2
  have h3 := congrArg Int32.toNatClampNeg h2
  rwa [Int32.toNatClampNeg_ofNat_of_lt ha, Int32.toNatClampNeg_ofNat_of_lt hb] at h3
theorem ks_fun {G : kw_G} (hD : ∀ (c : Nat) (r : vw_C), kcl[c]? = some r → u_Kn G.1 r.1 r.2.1 r.2.2 (G.2.1.1 c) (G.2.1.2 c)) {a : Nat} {e e' : km_E} (h : kw_atC G a e) (h' : kw_atC G a e') (n : ks_norm e) (n' : ks_norm e') : e = e' := by
  have hmix : ∀ (ty : FieldType) (N : Nat) (f : Nat → Value) (fs : List Value), va_T ty a N f (kw_A G) G.1 G.1.heap → kw_atC G a (.inr (35, fs)) → False := by
    intro ty N f fs h1 h2
    obtain ⟨cell, g1, ⟨-, k, g2, c, g3⟩, -⟩ := h1
    obtain ⟨r, cell', -, k1, k2, -⟩ := h2
    rw [g1] at k1
    cases k1
    obtain ⟨-, -, kC, u1, u2⟩ := hD 35 _ rfl
    rw [← k2, g2] at u1
    cases u1
    rw [g3] at u2
    cases u2
  rcases e with ⟨k, m, f | f | f | f | f⟩ | ⟨c, fs⟩
  · obtain ⟨p1, p2, p3, p4⟩ := n
    obtain ⟨h, -⟩ := h
    rcases e' with ⟨k', m', f' | f' | f' | f' | f'⟩ | ⟨c', fs'⟩
    · obtain ⟨p1', p2', p3', p4'⟩ := n'
      obtain ⟨h', -⟩ := h'
      obtain ⟨cell, g1, g2, -, -, g5, g6, -⟩ := h
      obtain ⟨cell', g1', g2', -, -, g5', g6', -⟩ := h'
      rw [g1] at g1'
      cases g1'
      have et := ks_arr_ty g2 g2'
      have ek : k = k' := by
        rcases p1 with e1 | e1 <;> rcases p1' with e2 | e2 <;> subst e1 <;> subst e2
        · rfl
        · cases et
        · cases et
        · rfl
      have em := ks_size p2 p2' g5 g5'
      subst ek
      subst em
      have ef : f = f' := by
        funext j
        by_cases hj : j < m
        · have e1 := (g6 j hj).symm.trans (g6' j hj)
          exact Value.int.inj (Option.some.inj e1)
        · rw [p3 j (Nat.le_of_not_lt hj), p3' j (Nat.le_of_not_lt hj)]
      rw [ef]
    · exact n'.elim
    · exact n'.elim
    · exact n'.elim
    · obtain ⟨p1', -⟩ := n'
      obtain ⟨h', -⟩ := h'
      obtain ⟨cell, g1, g2, -⟩ := h
      obtain ⟨cell', g1', g2', -⟩ := h'
      rw [g1] at g1'
      cases g1'
      have et := ks_arr_ty g2 g2'
      subst p1'
      rcases p1 with e1 | e1 <;> subst e1 <;> cases et
    · obtain ⟨rfl, -⟩ := n'
      exact (hmix _ _ _ _ h h').elim
  · exact n.elim
  · exact n.elim
  · exact n.elim
  · obtain ⟨p1, p2, p3⟩ := n
    obtain ⟨h, -⟩ := h
    rcases e' with ⟨k', m', f' | f' | f' | f' | f'⟩ | ⟨c', fs'⟩
    · obtain ⟨p1', -⟩ := n'
      obtain ⟨h', -⟩ := h'
      obtain ⟨cell, g1, g2, -⟩ := h
      obtain ⟨cell', g1', g2', -⟩ := h'
      rw [g1] at g1'
      cases g1'
      have et := ks_arr_ty g2 g2'
      subst p1
      rcases p1' with e1 | e1 <;> subst e1 <;> cases et
    · exact n'.elim
    · exact n'.elim
    · exact n'.elim
    · obtain ⟨p1', p2', p3'⟩ := n'
      subst p1; subst p2; subst p3; subst p1'; subst p2'; subst p3'
      rfl
    · obtain ⟨rfl, -⟩ := n'
      exact (hmix _ _ _ _ h h').elim
  · obtain ⟨rfl, p2⟩ := n
    rcases e' with ⟨k', m', f' | f' | f' | f' | f'⟩ | ⟨c', fs'⟩
    · exact (hmix _ _ _ _ h'.1 h).elim
    · exact n'.elim
    · exact n'.elim
    · exact n'.elim
    · exact (hmix _ _ _ _ h'.1 h).elim
    · obtain ⟨rfl, p2'⟩ := n'
      obtain ⟨r, cell, g0, g1, g2, g3, g4, g5⟩ := h
      obtain ⟨r', cell', g0', g1', g2', g3', g4', g5'⟩ := h'
      rw [g1] at g1'
      cases g1'
      rw [g0] at g0'
      cases g0'
      have hr : r.2.2 = 4 := by
        have e1 : kcl[35]? = some (RJ16, TJ16, 4) := rfl
        rw [e1] at g0
        cases g0
        rfl
      have ef : fs = fs' := by
        refine List.ext_getElem? (fun j => ?_)
        by_cases hj : j < 4
        · have e1 := (g5 j (by rw [hr]; exact hj)).symm.trans (g5' j (by rw [hr]; exact hj))
          have e2 : fs.getD j .null = fs'.getD j .null := Option.some.inj e1
          rw [List.getElem?_eq_getElem (by omega), List.getElem?_eq_getElem (by omega)]
          rw [List.getD, List.getD, List.getElem?_eq_getElem (by omega), List.getElem?_eq_getElem (by omega)] at e2
          exact congrArg some e2
        · rw [List.getElem?_eq_none (by omega), List.getElem?_eq_none (by omega)]
      rw [ef]
theorem ks_lt {G : kw_G} {a : Nat} {e : km_E} (h : kw_atC G a e) : a < kw_base G := by
  have hc : ∃ cell : Cell, G.1.heap[a]? = some cell := by
    rcases e with ⟨k, m, f | f | f | f | f⟩ | ⟨c, fs⟩
    · obtain ⟨⟨cell, g1, -⟩, -⟩ := h
      exact ⟨cell, g1⟩
    · exact h.elim
    · exact h.elim
    · exact h.elim
    · obtain ⟨⟨cell, g1, -⟩, -⟩ := h
      exact ⟨cell, g1⟩
    · obtain ⟨r, cell, -, g1, -⟩ := h
      exact ⟨cell, g1⟩
  obtain ⟨cell, hc⟩ := hc
  exact (Array.getElem?_eq_some_iff.mp hc).1
/-- the cells of the start that are looked at -/
noncomputable def ks_Z (G : kw_G) (a : Nat) : Option km_E := @dite _ (∃ e, kw_atC G a e ∧ ks_norm e) (Classical.propDecidable _) (fun h => some (Classical.choose h)) (fun _ => none)
theorem ks_Z_at {G : kw_G} {a : Nat} {e : km_E} (h : ks_Z G a = some e) : kw_atC G a e ∧ ks_norm e := by
  unfold ks_Z at h
  split at h
  · next hx =>
    cases h
    exact Classical.choose_spec hx
  · cases h
theorem ks_Z_of {G : kw_G} (hD : ∀ (c : Nat) (r : vw_C), kcl[c]? = some r → u_Kn G.1 r.1 r.2.1 r.2.2 (G.2.1.1 c) (G.2.1.2 c)) {a : Nat} {e : km_E} (h : kw_atC G a e) (n : ks_norm e) : ks_Z G a = some e := by
  have hx : ∃ e, kw_atC G a e ∧ ks_norm e := ⟨e, h, n⟩
  have e1 : ks_Z G a = some (Classical.choose hx) := dif_pos hx
  have h2 := Classical.choose_spec hx
  rw [e1, ks_fun hD h2.1 h h2.2 n]
noncomputable def ks_m (G : kw_G) : km_Mem := fun a => (ks_Z G a).map (fun e => (false, e))
theorem ks_m_at {G : kw_G} {a : Nat} {f : Bool} {e : km_E} (h : ks_m G a = some (f, e)) : f = false ∧ kw_atC G a e ∧ ks_norm e := by
  unfold ks_m at h
  cases hz : ks_Z G a with
  | none => rw [hz] at h; cases h
  | some x =>
    rw [hz] at h
    cases h
    exact ⟨rfl, ks_Z_at hz⟩
/-- the pure machine's start -/
noncomputable def ks_S (G : kw_G) : km_S := (G.2.2.2, G.1.heap.size, 0, ks_m G)
theorem ks_P (G : kw_G) : kw_P G (ks_S G) G.1.heap := by
  refine ⟨[], fun a e h => ?_, fun k q h => ?_, ⟨fun i j p q h => ?_, fun k q h => ?_⟩, fun a e h => ?_, fun q _ => rfl, rfl, Nat.le_refl _, rfl, ⟨fun a f k n g h => ?_, fun a f k n g h => ?_, fun a f k n g h => ?_⟩, fun a fs h => ?_⟩
  · obtain ⟨h1, -⟩ := ks_m_at h
    cases h1
  · cases h
  · cases h
  · cases h
  · obtain ⟨-, h1, -⟩ := ks_m_at h
    exact ⟨ks_lt h1, h1⟩
  · obtain ⟨-, -, h1, -, -, h2⟩ := ks_m_at h
    exact ⟨by rcases h1 with e | e <;> omega, h2⟩
  · obtain ⟨-, -, h1⟩ := ks_m_at h
    exact h1.elim
  · obtain ⟨-, -, h1, -, h2⟩ := ks_m_at h
    refine ⟨Or.inl h1, fun i y hy => ?_⟩
    rw [h2] at hy
    cases hy
  · obtain ⟨h1, -⟩ := ks_m_at h
    cases h1
theorem ks_byte : ∀ n : Fin 128, fits .byte (.int (Int32.ofNat n.val)) = true := by decide +kernel
/-- a text that the start holds -/
def ks_tx (G : kw_G) (i : Nat) (cs : List Int32) (h : Int32) : Prop := ∃ (a v : Nat) (z : Int32), G.2.2.2 i = some a ∧ kw_atC G a (.inr (35, [.ref v, .int 0, .int h, .int z])) ∧ kw_atC G v (.inl (2, cs.length, .inl (fun j => cs.getD j 0)))
theorem ks_kz {G : kw_G} {N : Nat} (hD : ∀ (c : Nat) (r : vw_C), kcl[c]? = some r → u_Kn G.1 r.1 r.2.1 r.2.2 (G.2.1.1 c) (G.2.1.2 c)) {i : Nat} {cs : List Int32} {h : Int32} (ht : ks_tx G i cs h) (hl : cs.length ≤ 100) (hc : ∀ c ∈ cs, 0 ≤ c ∧ c < 128) : kz_txt (G.2.2.2, N, ks_Z G) i cs h := by
  obtain ⟨a, v, z, h1, h2, h3⟩ := ht
  have n2 : ks_norm (.inr (35, [.ref v, .int 0, .int h, .int z])) := ⟨rfl, rfl⟩
  have n3 : ks_norm (.inl (2, cs.length, .inl (fun j => cs.getD j 0))) := by
    refine ⟨Or.inr rfl, by omega, fun j hj => ?_, fun j => ?_⟩
    · show cs.getD j 0 = 0
      rw [List.getD, List.getElem?_eq_none hj]
      rfl
    · show fits .byte (.int (cs.getD j 0)) = true
      by_cases hj : j < cs.length
      · have hm : cs.getD j 0 ∈ cs := by
          rw [List.getD, List.getElem?_eq_getElem hj]
          exact List.getElem_mem hj
        obtain ⟨n, hn, e⟩ := v_c128 (hc _ hm).1 (hc _ hm).2
        rw [e]
        exact ks_byte ⟨n, hn⟩
      · rw [List.getD, List.getElem?_eq_none (by omega)]
        exact ks_byte ⟨0, by omega⟩
  have z2 := ks_Z_of hD h2 n2
  have z3 := ks_Z_of hD h3 n3
  refine ⟨a, v, z, fun j => cs.getD j 0, h1, z2, z3, fun e => ?_, hl, fun j hj => ?_, hc⟩
  · subst e
    rw [z2] at z3
    cases z3
  · show cs[j]? = some (cs.getD j 0)
    rw [List.getD, List.getElem?_eq_getElem hj]
    rfl
/-- all that the start gives -/
theorem ks_start {s : State} {b : Nat} (hts : ∀ w ∈ lw_tbl, w.before #[Value.ref b] s = true) (hn : narrow_1.before #[Value.ref b] s = true) : ∃ G : kw_G, G.1 = s ∧ kw_G0 G ∧ (∀ (c : Nat) (r : vw_C), kcl[c]? = some r → u_Kn G.1 r.1 r.2.1 r.2.2 (G.2.1.1 c) (G.2.1.2 c)) ∧ (∃ e, G.2.2.2 0 = some e ∧ kw_atC G e (.inl (4, 0, .inr (.inr (.inr (.inr (fun _ => none))))))) ∧ (∃ a, G.2.2.2 2 = some a ∧ kw_atC G a (.inl (2, 100, .inl (fun j => if j < 100 then Int32.ofNat (48 + j % 10) else 0)))) ∧
  ks_tx G 10 [] (0) ∧ ks_tx G 15 [101, 109, 112, 116, 121] (96634189) ∧ ks_tx G 18 [108, 97, 114, 103, 101] (102742843) ∧ ks_tx G 21 [115, 109, 97, 108, 108] (109548807) ∧ ks_tx G 11 [98, 101, 103, 105, 110] (93616297) ∧ ks_tx G 23 [116, 104, 114, 101, 97, 100] (-874443254) ∧ ks_tx G 16 [107, 110, 111, 116] (3296904) ∧ ks_tx G 13 [100, 114, 111, 112] (3092207) ∧ ks_tx G 20 [109, 101, 110, 100] (3347790) ∧ ks_tx G 25 [119, 97, 105, 116] (3641717) ∧ ks_tx G 19 [108, 97, 114, 103, 101, 32] (-1109939131) ∧ ks_tx G 22 [115, 109, 97, 108, 108, 32] (-898954247) ∧ ks_tx G 12 [98, 101, 103, 105, 110, 32] (-1392862057) ∧ ks_tx G 24 [116, 104, 114, 101, 97, 100, 32] (-1337937066) ∧ ks_tx G 17 [107, 110, 111, 116, 32] (102204056) ∧ ks_tx G 14 [100, 114, 111, 112, 32] (95858449) ∧ ks_tx G 26 [119, 97, 105, 116, 32] (112893259) := by
  have hts' : ∀ w ∈ lw_all, w.before #[Value.ref b] s = true := fun w h => hts w (lw_all_tbl h)
  have hs := flat_of_before _ hn
  have hA : ∀ a : Nat, a < s.heap.size → ¬ (fun q : Nat => s.heap.size ≤ q) a := fun a ha z => Nat.lt_irrefl _ (Nat.lt_of_lt_of_le ha z)
  obtain ⟨D, hD⟩ := ks_D hts'
  obtain ⟨K, hK⟩ := ks_tys hts
  obtain ⟨a0, ha0, hT0⟩ := va_Tof (tm := .static "java/util/ArrayList" "DEFAULTCAPACITY_EMPTY_ELEMENTDATA" "[Ljava/lang/Object;") (ty := .object "java/lang/Object") (N := 0) (f := fun _ => Value.null) (A := fun q : Nat => s.heap.size ≤ q) (by decide) (hs _ (by decide +kernel)) (va_eqt (z := 0) (hs _ (by decide +kernel))) (fun j hj => absurd hj (Nat.not_lt_zero j)) hA
  obtain ⟨a9, c9, cell9, k9, p1, p2, p3, p4, p5, p6, -⟩ := Cond.exactly_spec (args := #[Value.ref b]) (first := s) (o := none) (s := s) (idx := []) (t := .static "java/util/ArrayList" "DEFAULTCAPACITY_EMPTY_ELEMENTDATA" "[Ljava/lang/Object;") (cls := "[Ljava/lang/Object;") (hs _ (by decide +kernel))
  have e9 : a9 = a0 := by
    rw [ha0] at p1
    cases p1
    rfl
  subst e9
  obtain ⟨mi, hmi⟩ := va_Mi.of (C := "[Ljava/lang/Object;") (hs _ (by decide +kernel))
  obtain ⟨a2, ha2, hT2⟩ := va_Tof (tm := .static "java/lang/Integer" "DigitOnes" "[B") (ty := .byte) (N := 100) (f := fun j => Value.int (Int32.ofNat (48 + j % 10))) (A := fun q : Nat => s.heap.size ≤ q) (by decide) (hs _ (by decide +kernel)) (va_eqt (z := 100) (hs _ (by decide +kernel))) (fun j hj => va_eqt (hs _ (ks_dig _ (List.mem_map.mpr ⟨j, List.mem_range.mpr hj, rfl⟩)))) hA
  have hZ0 := va_Zof (A := fun q : Nat => s.heap.size ≤ q) (hts _ q159) (hts _ (lw_all_tbl q77)) ha0 hA
  have hZ2 := va_Zof (A := fun q : Nat => s.heap.size ≤ q) (hts _ q2062) (hts _ (lw_all_tbl q127)) ha2 hA
  obtain ⟨r3, hZ3⟩ := ks_statR (hts _ q2064) (hts _ (lw_all_tbl q127)) (hs (Cond.isRef (.static "java/lang/Integer" "DigitTens" "[B")) (by decide +kernel))
  obtain ⟨r4, hZ4⟩ := ks_statR (hts _ q462) (hts _ (lw_all_tbl q85)) (hs (Cond.isRef (.static "java/lang/Throwable" "UNASSIGNED_STACK" "[Ljava/lang/StackTraceElement;")) (by decide +kernel))
  obtain ⟨r5, hZ5⟩ := ks_statR (hts _ q464) (hts _ (lw_all_tbl q85)) (hs (Cond.isRef (.static "java/lang/Throwable" "SUPPRESSED_SENTINEL" "Ljava/util/List;")) (by decide +kernel))
  obtain ⟨r7, hZ7⟩ := ks_statR (hts _ q2031) (hts _ (lw_all_tbl q90)) (hs (Cond.isRef (.static "jdk/internal/util/Preconditions" "SIOOBE_FORMATTER" "Ljava/util/function/BiFunction;")) (by decide +kernel))
  obtain ⟨t10, v10, et10, ht10⟩ := ks_text hs ks_w10 hD (by decide)
  obtain ⟨t15, v15, et15, ht15⟩ := ks_text hs ks_w15 hD (by decide)
  obtain ⟨t18, v18, et18, ht18⟩ := ks_text hs ks_w18 hD (by decide)
  obtain ⟨t21, v21, et21, ht21⟩ := ks_text hs ks_w21 hD (by decide)
  obtain ⟨t11, v11, et11, ht11⟩ := ks_text hs ks_w11 hD (by decide)
  obtain ⟨t23, v23, et23, ht23⟩ := ks_text hs ks_w23 hD (by decide)
  obtain ⟨t16, v16, et16, ht16⟩ := ks_text hs ks_w16 hD (by decide)
  obtain ⟨t13, v13, et13, ht13⟩ := ks_text hs ks_w13 hD (by decide)
  obtain ⟨t20, v20, et20, ht20⟩ := ks_text hs ks_w20 hD (by decide)
  obtain ⟨t25, v25, et25, ht25⟩ := ks_text hs ks_w25 hD (by decide)
  obtain ⟨t19, v19, et19, ht19⟩ := ks_text hs ks_w19 hD (by decide)
  obtain ⟨t22, v22, et22, ht22⟩ := ks_text hs ks_w22 hD (by decide)
  obtain ⟨t12, v12, et12, ht12⟩ := ks_text hs ks_w12 hD (by decide)
  obtain ⟨t24, v24, et24, ht24⟩ := ks_text hs ks_w24 hD (by decide)
  obtain ⟨t17, v17, et17, ht17⟩ := ks_text hs ks_w17 hD (by decide)
  obtain ⟨t14, v14, et14, ht14⟩ := ks_text hs ks_w14 hD (by decide)
  obtain ⟨t26, v26, et26, ht26⟩ := ks_text hs ks_w26 hD (by decide)
  have hK2 : va_K D kcl (kw_tys (s, D, K, fun i => ([some a9, some mi, some a2, r3, r4, r5, none, r7, none, none, some t10, some t11, some t12, some t13, some t14, some t15, some t16, some t17, some t18, some t19, some t20, some t21, some t22, some t23, some t24, some t25, some t26] : List (Option Nat)).getD i none)) s := ⟨hD, hK⟩
  refine ⟨(s, D, K, fun i => ([some a9, some mi, some a2, r3, r4, r5, none, r7, none, none, some t10, some t11, some t12, some t13, some t14, some t15, some t16, some t17, some t18, some t19, some t20, some t21, some t22, some t23, some t24, some t25, some t26] : List (Option Nat)).getD i none), rfl, ⟨b, hts, hn, hK2, ?_, ?_, ?_, ?_, mi, rfl, hmi, va_Dc.of (hts _ q2851), a9, cell9, rfl, p3, p5, by rw [p6]; exact p2⟩, hD, ⟨a9, rfl, hT0, Or.inl rfl⟩, ⟨a2, rfl, ?_, Nat.le_refl 2⟩, ⟨t10, v10, 1, rfl, ht10 _ _⟩, ⟨t15, v15, 0, rfl, ht15 _ _⟩, ⟨t18, v18, 0, rfl, ht18 _ _⟩, ⟨t21, v21, 0, rfl, ht21 _ _⟩, ⟨t11, v11, 0, rfl, ht11 _ _⟩, ⟨t23, v23, 0, rfl, ht23 _ _⟩, ⟨t16, v16, 0, rfl, ht16 _ _⟩, ⟨t13, v13, 0, rfl, ht13 _ _⟩, ⟨t20, v20, 0, rfl, ht20 _ _⟩, ⟨t25, v25, 0, rfl, ht25 _ _⟩, ⟨t19, v19, 0, rfl, ht19 _ _⟩, ⟨t22, v22, 0, rfl, ht22 _ _⟩, ⟨t12, v12, 0, rfl, ht12 _ _⟩, ⟨t24, v24, 0, rfl, ht24 _ _⟩, ⟨t17, v17, 0, rfl, ht17 _ _⟩, ⟨t14, v14, 0, rfl, ht14 _ _⟩, ⟨t26, v26, 0, rfl, ht26 _ _⟩⟩
  · refine List.forall_mem_cons.mpr ⟨hZ0, List.forall_mem_cons.mpr ⟨hZ2, List.forall_mem_cons.mpr ⟨hZ3, List.forall_mem_cons.mpr ⟨hZ4, List.forall_mem_cons.mpr ⟨hZ5, List.forall_mem_cons.mpr ⟨hZ7, fun _ h => absurd h List.not_mem_nil⟩⟩⟩⟩⟩⟩
  · exact List.forall_mem_cons.mpr ⟨va_Zof (A := fun q : Nat => s.heap.size ≤ q) (hts _ q1076) (hts _ (lw_all_tbl q103)) (va_eqi (z := 1) (hs _ (by decide +kernel))) hA, List.forall_mem_cons.mpr ⟨va_Zof (A := fun q : Nat => s.heap.size ≤ q) (hts _ q773) (hts _ (lw_all_tbl q79)) (va_eqi (z := 1) (hs _ (by decide +kernel))) hA, List.forall_mem_cons.mpr ⟨va_Zof (A := fun q : Nat => s.heap.size ≤ q) (hts _ q1317) (hts _ (lw_all_tbl q109)) (va_eqi (z := 1) (hs _ (by decide +kernel))) hA, fun _ h => absurd h List.not_mem_nil⟩⟩⟩
  · exact List.forall_mem_cons.mpr ⟨⟨t10, rfl, vk_R.of (hts _ q302) et10⟩, List.forall_mem_cons.mpr ⟨⟨t15, rfl, vk_R.of (hts _ q2082) et15⟩, List.forall_mem_cons.mpr ⟨⟨t18, rfl, vk_R.of (hts _ q1345) et18⟩, List.forall_mem_cons.mpr ⟨⟨t21, rfl, vk_R.of (hts _ q1347) et21⟩, List.forall_mem_cons.mpr ⟨⟨t11, rfl, vk_R.of (hts _ q1348) et11⟩, List.forall_mem_cons.mpr ⟨⟨t23, rfl, vk_R.of (hts _ q1349) et23⟩, List.forall_mem_cons.mpr ⟨⟨t16, rfl, vk_R.of (hts _ q1350) et16⟩, List.forall_mem_cons.mpr ⟨⟨t13, rfl, vk_R.of (hts _ q1351) et13⟩, List.forall_mem_cons.mpr ⟨⟨t20, rfl, vk_R.of (hts _ q1352) et20⟩, List.forall_mem_cons.mpr ⟨⟨t18, rfl, vk_R.of (hts _ q2182) (ks_eqR (hs _ (show Cond.eq (.string "RosaryCarvers" 400) (.string "RosaryCarvers$Reader" 17) ∈ flatC narrow_1 by decide +kernel)) et18)⟩, List.forall_mem_cons.mpr ⟨⟨t21, rfl, vk_R.of (hts _ q2183) (ks_eqR (hs _ (show Cond.eq (.string "RosaryCarvers" 406) (.string "RosaryCarvers$Reader" 19) ∈ flatC narrow_1 by decide +kernel)) et21)⟩, List.forall_mem_cons.mpr ⟨⟨t11, rfl, vk_R.of (hts _ q2184) (ks_eqR (hs _ (show Cond.eq (.string "RosaryCarvers" 407) (.string "RosaryCarvers$Reader" 21) ∈ flatC narrow_1 by decide +kernel)) et11)⟩, List.forall_mem_cons.mpr ⟨⟨t23, rfl, vk_R.of (hts _ q2185) (ks_eqR (hs _ (show Cond.eq (.string "RosaryCarvers" 409) (.string "RosaryCarvers$Reader" 23) ∈ flatC narrow_1 by decide +kernel)) et23)⟩, List.forall_mem_cons.mpr ⟨⟨t16, rfl, vk_R.of (hts _ q2186) (ks_eqR (hs _ (show Cond.eq (.string "RosaryCarvers" 411) (.string "RosaryCarvers$Reader" 25) ∈ flatC narrow_1 by decide +kernel)) et16)⟩, List.forall_mem_cons.mpr ⟨⟨t13, rfl, vk_R.of (hts _ q2187) (ks_eqR (hs _ (show Cond.eq (.string "RosaryCarvers" 413) (.string "RosaryCarvers$Reader" 27) ∈ flatC narrow_1 by decide +kernel)) et13)⟩, List.forall_mem_cons.mpr ⟨⟨t20, rfl, vk_R.of (hts _ q2188) (ks_eqR (hs _ (show Cond.eq (.string "RosaryCarvers" 415) (.string "RosaryCarvers$Reader" 29) ∈ flatC narrow_1 by decide +kernel)) et20)⟩, List.forall_mem_cons.mpr ⟨⟨t25, rfl, vk_R.of (hts _ q2189) et25⟩, List.forall_mem_cons.mpr ⟨⟨t19, rfl, vk_R.of (hts _ q2348) et19⟩, List.forall_mem_cons.mpr ⟨⟨t22, rfl, vk_R.of (hts _ q2349) et22⟩, List.forall_mem_cons.mpr ⟨⟨t12, rfl, vk_R.of (hts _ q2350) et12⟩, List.forall_mem_cons.mpr ⟨⟨t24, rfl, vk_R.of (hts _ q2351) et24⟩, List.forall_mem_cons.mpr ⟨⟨t17, rfl, vk_R.of (hts _ q2352) et17⟩, List.forall_mem_cons.mpr ⟨⟨t14, rfl, vk_R.of (hts _ q2353) et14⟩, List.forall_mem_cons.mpr ⟨⟨t20, rfl, vk_R.of (hts _ q2354) (ks_eqR (hs _ (show Cond.eq (.string "RosaryCarvers" 415) (.string "RosaryCarversModel" 45) ∈ flatC narrow_1 by decide +kernel)) et20)⟩, List.forall_mem_cons.mpr ⟨⟨t26, rfl, vk_R.of (hts _ q2355) et26⟩, List.forall_mem_cons.mpr ⟨⟨t15, rfl, vk_R.of (hts _ q2716) (ks_eqR (hs _ (show Cond.eq (.string "RosaryCarvers" 363) (.string "RosaryCarversModel" 244) ∈ flatC narrow_1 by decide +kernel)) et15)⟩, fun _ h => absurd h List.not_mem_nil⟩⟩⟩⟩⟩⟩⟩⟩⟩⟩⟩⟩⟩⟩⟩⟩⟩⟩⟩⟩⟩⟩⟩⟩⟩⟩
  · exact List.forall_mem_cons.mpr ⟨va_Nc.of (hs _ (by decide +kernel)), fun _ h => absurd h List.not_mem_nil⟩
  · obtain ⟨cell, g1, g2, g3, g4, g5, g6, g7⟩ := hT2
    refine ⟨cell, g1, g2, g3, g4, g5, fun j hj => ?_, g7⟩
    rw [g6 j hj]
    show some (Value.int (Int32.ofNat (48 + j % 10))) = some (Value.int (if j < 100 then Int32.ofNat (48 + j % 10) else 0))
    rw [if_pos hj]
