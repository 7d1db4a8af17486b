set_option maxRecDepth 100000
/-! ===== lines: strings, builders of strings ===== -/
/-- the digits: a constant -/
def kz_dig (Z : ka_Z) : Prop := ∃ (a : Nat) (g : Nat → Int32), Z.1 2 = some a ∧ Z.2.2 a = some (.inl (2, 100, .inl g)) ∧ ∀ i, i < 10 → g i = Int32.ofNat (48 + i)
/-- a text that is a constant -/
def kz_txt (Z : ka_Z) (i : Nat) (cs : List Int32) (h : Int32) : Prop := ∃ (a b : Nat) (y : Int32) (g : Nat → Int32), Z.1 i = some a ∧ Z.2.2 a = some (.inr (35, [.ref b, .int 0, .int h, .int y])) ∧ Z.2.2 b = some (.inl (2, cs.length, .inl g)) ∧ a ≠ b ∧ cs.length ≤ 100 ∧ (∀ i, i < cs.length → cs[i]? = some (g i)) ∧ ∀ c ∈ cs, 0 ≤ c ∧ c < 128
theorem k3_shr0 : ∀ n : Fin 512, Int32.ofNat n.val >>> ((0 : Int32) &&& 31) = Int32.ofNat n.val := by decide +kernel
theorem k3_shl0 : ∀ n : Fin 512, Int32.ofNat n.val <<< ((0 : Int32) &&& 31) = Int32.ofNat n.val := by decide +kernel
theorem k3_shr {n : Nat} (h : n < 512) : Int32.ofNat n >>> ((0 : Int32) &&& 31) = Int32.ofNat n := k3_shr0 ⟨n, h⟩
theorem k3_shl {n : Nat} (h : n < 512) : Int32.ofNat n <<< ((0 : Int32) &&& 31) = Int32.ofNat n := k3_shl0 ⟨n, h⟩
theorem k3_lat : ∀ n : Fin 128, (((Int32.ofNat n.val &&& (255 : Int32)).toUInt32 % 65536).toInt32) = Int32.ofNat n.val ∧ km_fitB .char (Int32.ofNat n.val) = true ∧ vp_nar .byte (Int32.ofNat n.val) = Int32.ofNat n.val ∧ (Int32.ofNat n.val).toInt8.toInt32 = Int32.ofNat n.val := by decide +kernel
theorem v_c128 {c : Int32} (h1 : 0 ≤ c) (h2 : c < 128) : ∃ n : Nat, n < 128 ∧ c = Int32.ofNat n := by
  have h3 : c = Int32.ofNat c.toNatClampNeg := kv_neg h1
  refine ⟨c.toNatClampNeg, ?_, h3⟩
  rw [h3] at h2
  have hlt : c.toNatClampNeg < 2 ^ 31 := Int32.toNatClampNeg_lt c
  exact (k3_lt (b := 128) (by omega) (by omega)).mp h2
def vq_written (X : vX) (i : Int32) : Int32 := if v_in i 0 (Int32.ofNat X.line.length - 1) = 1 then X.line.getD i.toNatClampNeg 0 else -1
/-- what is written of a string: small ones a group m, knots n; k beads stand already -/
def v_write (m n : Nat) : Nat → List vB → List Int32
  | _, [] => []
  | k, b :: t => [if b.2.1 = 0 then 111 else 79, 48 + b.2.2] ++ ((if (k + 1) % (m + 1) = 0 ∧ (k + 1) / (m + 1) ≤ n then [43] else []) ++ v_write m n (k + 1) t)
abbrev v_empty : List Int32 := [101, 109, 112, 116, 121]
def v_line (r : vS) : List Int32 := if r.bs = [] then v_empty else v_write r.2.1.toNatClampNeg r.2.2.1.toNatClampNeg 0 r.bs
def vx_write (X : vX) (s : Int32) : Int32 × vX := if vx_isS X s = 1 then (Int32.ofNat (v_line (X.now.st.getD s.toNatClampNeg (0, 0, 0, []))).length, X.now, X.bef, X.sav, X.rf, v_line (X.now.st.getD s.toNatClampNeg (0, 0, 0, [])), X.inp, X.fault) else (-1, X)
section KXW
variable {Z : ka_Z} {w : Nat} {H : ka_H} {x dq ip cc dd : Nat} {X : vX}
theorem ka_cpI {α : Type} {Q : α → Nat → ka_H → Prop} {a b k n0 n1 s d n : Nat} {fl : Bool} {g g1 : Nat → Int32} {sp dp m : Int32} {f : Unit → km_M α} (ha : H a = some (.inl (fl, .inl (k, n0, .inl g)))) (hb : H b = some (ka_aI k n1 g1)) (hs : sp = Int32.ofNat s) (hd : dp = Int32.ofNat d) (hm : m = Int32.ofNat n) (h1 : s + n ≤ n0) (h2 : d + n ≤ n1) (h3 : n0 < 2 ^ 31) (h4 : n1 < 2 ^ 31) (kk : ka_T Z (f ()) w (ka_up H b (ka_aI k n1 (va_cpy g g1 s d n))) Q) : ka_T Z (km_bind (km_cp (some a) sp (some b) dp m) f) w H Q := ka_wrr hb (fun σ hR => by
  have e1 := ka_raw hR ha
  have e2 := ka_raw hR hb
  subst hs; subst hd; subst hm
  have c1 : ¬ Int32.ofNat s < 0 := k3_neg (by omega)
  have c2 : ¬ Int32.ofNat d < 0 := k3_neg (by omega)
  have c3 : ¬ Int32.ofNat n < 0 := k3_neg (by omega)
  have c4 : (Int32.ofNat s).toNatClampNeg = s := k3_nat (by omega)
  have c5 : (Int32.ofNat d).toNatClampNeg = d := k3_nat (by omega)
  have c6 : (Int32.ofNat n).toNatClampNeg = n := k3_nat (by omega)
  unfold km_ar
  simp only [e1, e2, c1, c2, c3, c4, c5, c6, h1, h2]
  rfl) kk
theorem ka_cln {α : Type} {Q : α → Nat → ka_H → Prop} {a n : Nat} {g : Nat → Int32} {f : Option Nat → km_M α} (ha : H a = some (ka_aI 2 n g)) (hw : n + 5 ≤ w) (k : ∀ b, H b = none → ka_T Z (f (some b)) (w - (n + 5)) (ka_up H b (ka_aI 2 n g)) Q) : ka_T Z (km_bind (km_cln (some a)) f) w H Q := ka_alr (fun σ hR => by
  have h1 := ka_raw hR ha
  unfold km_ar
  simp only [h1]) hw k
theorem ka_castA {α : Type} {Q : α → Nat → ka_H → Prop} {a kd n : Nat} {g : Nat → Int32} {f : Unit → km_M α} (ha : H a = some (ka_aI kd n g)) (k : ka_T Z (f ()) w H Q) : ka_T Z (km_bind (km_castA kd (some a)) f) w H Q := ka_rdr (fun σ hR => by
  have h1 := ka_raw hR ha
  unfold km_ar
  simp only [h1]
  rfl) k
theorem kx_strlen {a : Nat} {cs : List Int32} (h : kx_str H a cs) : ka_T Z (pm_J16_length (some a)) w H (ka_V w H (Int32.ofNat cs.length)) := by
  obtain ⟨fl, fl2, b, y, z, g, h1, h2, h3, h4, h5⟩ := h
  unfold pm_J16_length pm_J16_coder
  refine ka_gR (v := some b) h1 rfl rfl (ka_len h2 rfl (ka_is h1 rfl (ka_use (v := (0 : Int32)) (ka_ifN (by decide) (ka_gI h1 rfl rfl (ka_ret rfl (ka_pure ⟨rfl, rfl, rfl⟩)))) ?_)))
  exact ka_pure ⟨k3_shr (n := cs.length) (by omega), rfl, rfl⟩
theorem kx_charAt {a i : Nat} {cs : List Int32} {c : Int32} (h : kx_str H a cs) (hi : cs[i]? = some c) : ka_T Z (pm_J16_charAt (some a) (Int32.ofNat i)) w H (ka_V w H c) := by
  obtain ⟨fl, fl2, b, y, z, g, h1, h2, h3, h4, h5⟩ := h
  obtain ⟨hlt, -⟩ := List.getElem?_eq_some_iff.mp hi
  have hc := h5 c (List.mem_of_getElem? hi)
  obtain ⟨n, hn, rfl⟩ := v_c128 hc.1 hc.2
  have hg : g i = Int32.ofNat n := by
    have := h4 i hlt
    rw [hi] at this
    exact (Option.some.inj this).symm
  obtain ⟨l1, l2, l3, l4⟩ := k3_lat ⟨n, hn⟩
  unfold pm_J16_charAt pm_J16_isLatin1
  refine ka_is h1 rfl (ka_use (v := (1 : Int32)) (ka_ifN (by decide) (ka_gI h1 rfl rfl (ka_ifN (fun z => z rfl) (ka_ret rfl (ka_pure ⟨rfl, rfl, rfl⟩))))) ?_)
  refine ka_ifN (by decide) (ka_gR (v := some b) h1 rfl rfl (ka_use (v := Int32.ofNat n) ?_ (ka_ret l2 (ka_pure ⟨rfl, rfl, rfl⟩))))
  unfold pm_J17_charAt pm_J16_checkIndex pm_J11_checkIndex
  refine ka_len h2 rfl (ka_use (v := ()) (ka_k (ka_use (v := Int32.ofNat i) (ka_ifN (k3_neg (by omega)) (ka_ifP ((k3_lt (by omega) (by omega)).mpr hlt) (ka_pure ⟨rfl, rfl, rfl⟩))) (ka_pure ⟨rfl, rfl, rfl⟩))) ?_)
  refine ka_ldI h2 (k3_in hlt (by omega)) ?_
  rw [k3_nat (by omega), hg]
  refine ka_ret (by rw [l1]; exact l2) (ka_pure ⟨?_, rfl, rfl⟩)
  exact l1
theorem kx_written {i : Int32} (hX : kX H x dq ip cc dd X) : ka_T Z (pm_X0_written (some x) i) w H (kx_A H w 3000 (vq_written X i)) := by
  obtain ⟨now, bef, sav, rf, ln, f, hX'⟩ := id hX
  have hx := hX'.1
  have hln := hX'.2.2.2.2.2.2.2.2.2.2.1
  have hlen : X.line.length ≤ 100 := by
    obtain ⟨fl, fl2, b, y, z, g, h1, h2, h3, h4, h5⟩ := hln
    exact h3
  unfold pm_X0_written
  have hcls : ∃ o, H ln = some o ∧ ka_cls o = some 35 := by
    obtain ⟨fl, fl2, b, y, z, g, h1, h2, h3, h4, h5⟩ := hln
    exact ⟨_, h1, rfl⟩
  obtain ⟨o, ho, hoc⟩ := hcls
  refine ka_gR (v := some ln) hx rfl rfl (ka_is ho hoc (ka_use (kx_strlen hln) (ka_use kx_in ?_)))
  by_cases h : v_in i 0 (Int32.ofNat X.line.length - 1) = 1
  · unfold vq_written
    rw [if_pos h]
    refine ka_ifN (by rw [h]; decide) (ka_gR (v := some ln) hx rfl rfl ?_)
    obtain ⟨n, rfl, hn⟩ := v_in_idx (by omega) h
    rw [k3_nat (by omega)]
    refine ka_is ho hoc (ka_use (kx_charAt (c := X.line[n]) hln (List.getElem?_eq_getElem hn)) (ka_pure ⟨?_, by omega, rfl⟩))
    rw [List.getD, List.getElem?_eq_getElem hn]
    rfl
  · unfold vq_written
    rw [if_neg h]
    exact ka_ifP (v_in_no h) (ka_pure ⟨rfl, by omega, rfl⟩)
/-- a builder of a string beside what was there -/
def kb_SB (H0 K : ka_H) (sb : Nat) (cs : List Int32) : Prop := ka_le H0 K ∧ H0 sb = none ∧ ∃ b cap g, H0 b = none ∧ K sb = some (ka_ob 36 [.ref b, .int 0, .int 0, .int (Int32.ofNat cs.length)]) ∧ K b = some (ka_aI 2 cap g) ∧ cs.length ≤ cap ∧ cap ≤ 300 ∧ (∀ i, i < cs.length → cs[i]? = some (g i)) ∧ ∀ c ∈ cs, 0 ≤ c ∧ c < 128
/-- iterators are kept -/
def kb_K33 (K K' : ka_H) : Prop := ∀ a o, K a = some o → ka_kd o = 33 → K' a = some o
theorem kb_le_up2 {H0 K : ka_H} {b : Nat} {o : ka_O} (h : ka_le H0 K) (hb : H0 b = none) : ka_le H0 (ka_up K b o) := ka_le_mut h hb
theorem kb_fresh2 {H0 K : ka_H} (h : ka_le H0 K) {a : Nat} (ha : K a = none) : H0 a = none := by
  cases e : H0 a with
  | none => rfl
  | some q => rw [h _ _ e] at ha; cases ha
/-- room for m signs -/
theorem kb_ensure {H0 K : ka_H} {sb m : Nat} {cs : List Int32} (hK : kb_SB H0 K sb cs) (hm : m ≤ 120) (hw : 400 ≤ w) : ka_T Z (pm_J22_ensureCapacityInternal (some sb) (Int32.ofNat m)) w K (fun _ w' K' => w ≤ w' + 400 ∧ kb_K33 K K' ∧ ka_le H0 K' ∧ H0 sb = none ∧ ∃ b cap g, H0 b = none ∧ K' sb = some (ka_ob 36 [.ref b, .int 0, .int 0, .int (Int32.ofNat cs.length)]) ∧ K' b = some (ka_aI 2 cap g) ∧ m ≤ cap ∧ cs.length ≤ cap ∧ cap ≤ 300 ∧ (∀ i, i < cs.length → cs[i]? = some (g i)) ∧ ∀ c ∈ cs, 0 ≤ c ∧ c < 128) := by
  obtain ⟨hle, hs0, b, cap, g, hb0, hsb, hb, h1, h2, h3, h4⟩ := hK
  have hne : b ≠ sb := ka_kinds hb hsb (by simp)
  unfold pm_J22_ensureCapacityInternal
  refine ka_gR (v := some b) hsb rfl rfl (ka_len hb rfl (ka_gI hsb rfl rfl ?_))
  rw [k3_shr (n := cap) (by omega)]
  by_cases hcap : m ≤ cap
  · refine ka_ifP ?_ (ka_pure ⟨by omega, fun a o ha _ => ha, hle, hs0, b, cap, g, hb0, hsb, hb, hcap, h1, h2, h3, h4⟩)
    have e : Int32.ofNat m - Int32.ofNat cap = -Int32.ofNat (cap - m) := by
      have e2 := k3_sub hcap
      rw [← e2, Int32.neg_sub]
    rw [e]
    have : ∀ d : Fin 512, -Int32.ofNat d.val ≤ 0 := by decide +kernel
    exact this ⟨cap - m, by omega⟩
  · refine ka_ifN ?_ ?_
    · rw [k3_sub (by omega)]
      intro z
      have := (k3_le (b := 0) (by omega) (by omega)).mp z
      omega
    · refine ka_gR (v := some b) hsb rfl rfl (ka_is hsb rfl (ka_use (v := Int32.ofNat (cap + (cap + 2) + (if cap + 2 < m - cap then m - cap - (cap + 2) else 0))) ?_ ?_))
      · unfold pm_J22_newCapacity
        refine ka_gR (v := some b) hsb rfl rfl (ka_len hb rfl (ka_gI hsb rfl rfl (ka_gI hsb rfl rfl ?_)))
        rw [k3_shl (n := m) (by omega), k3_sub (by omega), show (2 : Int32) <<< ((0 : Int32) &&& 31) = Int32.ofNat 2 from by decide, k3_add]
        have hval : cap + max (m - cap) (cap + 2) = cap + (cap + 2) + (if cap + 2 < m - cap then m - cap - (cap + 2) else 0) := by
          split <;> omega
        refine ka_use (v := Int32.ofNat (cap + max (m - cap) (cap + 2))) ?_ ?_
        · unfold pm_J12_newLength
          rw [k3_max (by omega) (by omega), k3_add]
          exact ka_ifN (fun z => by have := (k3_le (b := 0) (by omega) (by omega)).mp z; omega) (ka_ifN (fun z => by have := (k3_lt (a := 2147483639) (by omega) (by omega)).mp z; omega) (ka_pure ⟨rfl, rfl, rfl⟩))
        · rw [hval]
          refine ka_ifP (fun z => by have := (k3_eq (b := 2147483647) (by split <;> omega) (by omega)).mp z; split at this <;> omega) (ka_gI hsb rfl rfl (ka_pure ⟨?_, rfl, rfl⟩))
          rw [← hval]
          by_cases hbig : cap + max (m - cap) (cap + 2) < 512
          · exact k3_shr hbig
          · omega
      · have hn : cap + (cap + 2) + (if cap + 2 < m - cap then m - cap - (cap + 2) else 0) ≤ 300 ∧ m ≤ cap + (cap + 2) + (if cap + 2 < m - cap then m - cap - (cap + 2) else 0) ∧ cap + 2 ≤ cap + (cap + 2) + (if cap + 2 < m - cap then m - cap - (cap + 2) else 0) := by
          split <;> omega
        generalize cap + (cap + 2) + (if cap + 2 < m - cap then m - cap - (cap + 2) else 0) = n at hn ⊢
        obtain ⟨n1, n2, n3⟩ := hn
        refine ka_gI hsb rfl rfl ?_
        rw [k3_shl (n := n) (by omega)]
        refine ka_call (P := fun r w' K' => w ≤ w' + 310 ∧ ∃ a g', r = some a ∧ K a = none ∧ K' = ka_up K a (ka_aI 2 n g') ∧ ∀ i, i < cap → g' i = g i) ?_ (fun r w' K' hp => ?_)
        · unfold pm_J14_copyOf_4
          refine ka_len hb rfl (ka_ifP (fun z => by have := (k3_eq (by omega) (by omega)).mp z; omega) ?_)
          refine ka_nI (m := n) (k3_neg (by omega)) (k3_nat (by omega)) (by omega) (by omega) (fun a ha => ?_)
          have hba : b ≠ a := ka_dom hb ha
          refine ka_len ((ka_ne hba).trans hb) rfl ?_
          rw [k3_min (by omega) (by omega)]
          refine ka_cpI (s := 0) (d := 0) (n := min cap n) ((ka_ne hba).trans hb) ka_same rfl rfl rfl (by omega) (by omega) (by omega) (by omega) ?_
          refine ka_pure ⟨by omega, a, _, rfl, ha, ka_up_up, fun i hi => ?_⟩
          unfold va_cpy
          simp
          omega
        · obtain ⟨hw', a, g', rfl, ha, rfl, hg⟩ := hp
          have hsa : sb ≠ a := ka_dom hsb ha
          refine ka_pR (v := some a) ((ka_ne hsa).trans hsb) rfl (Nat.le_of_ble_eq_true rfl) (ka_pure ⟨by omega, fun c o hc ho => ?_, ka_le_mut (ka_le_mut hle (kb_fresh2 hle ha)) hs0, hs0, a, n, g', kb_fresh2 hle ha, ka_same, (ka_ne hsa.symm).trans ka_same, n2, by omega, n1, fun i hi => ?_, h4⟩)
          · have hc1 := (ka_ne (o := ka_aI 2 n g') (ka_dom hc ha)).trans hc
            refine (ka_ne (ka_kinds hc hsb (fun e => ?_))).trans hc1
            rw [e] at ho
            cases ho
          · rw [hg i (by omega)]
            exact h3 i hi
theorem kb_append {H0 K : ka_H} {sb : Nat} {cs : List Int32} {c : Int32} (hK : kb_SB H0 K sb cs) (hl : cs.length ≤ 100) (hc1 : 0 ≤ c) (hc2 : c < 128) (hw : 400 ≤ w) : ka_T Z (pm_J23_append (some sb) c) w K (fun r w' K' => r = some sb ∧ w ≤ w' + 400 ∧ kb_K33 K K' ∧ kb_SB H0 K' sb (cs ++ [c])) := by
  obtain ⟨n, hn, rfl⟩ := v_c128 hc1 hc2
  have hsb0 : ∃ o, K sb = some o ∧ ka_cls o = some 36 := by
    obtain ⟨-, -, b, cap, g, -, hsb, -⟩ := hK
    exact ⟨_, hsb, rfl⟩
  obtain ⟨o, ho, hoc⟩ := hsb0
  have hcnt : ∃ b, K sb = some (ka_ob 36 [.ref b, .int 0, .int 0, .int (Int32.ofNat cs.length)]) := by
    obtain ⟨-, -, b, cap, g, -, hsb, -⟩ := hK
    exact ⟨b, hsb⟩
  obtain ⟨b0, hb0⟩ := hcnt
  unfold pm_J23_append
  refine ka_is ho hoc (ka_call (P := fun r w' K' => w ≤ w' + 400 ∧ kb_K33 K K' ∧ kb_SB H0 K' sb (cs ++ [Int32.ofNat n])) ?_ (fun r w' K' hp => ka_pure ⟨rfl, hp.1, hp.2.1, hp.2.2⟩))
  unfold pm_J22_append
  refine ka_gI hb0 rfl rfl (ka_is ho hoc ?_)
  rw [k3_succ]
  refine ka_call (kb_ensure hK (by omega) hw) (fun _ w1 K1 hp => ?_)
  obtain ⟨hw1, hk33, hle, hs0, b, cap, g, hbn, hsb, hb, g1, g2, g3, g4, g5⟩ := hp
  have hne : b ≠ sb := ka_kinds hb hsb (by simp)
  refine ka_is hsb rfl (ka_use (v := (1 : Int32)) ?_ ?_)
  · unfold pm_J22_isLatin1
    exact ka_ifN (by decide) (ka_gI hsb rfl rfl (ka_ifN (fun z => z rfl) (ka_ret rfl (ka_pure ⟨rfl, rfl, rfl⟩))))
  refine ka_ifN (by decide) (ka_use (v := (1 : Int32)) ?_ ?_)
  · unfold pm_J17_canEncode
    exact ka_ifN (fun z => by have := (k3_lt (a := 255) (by omega) (by omega)).mp z; omega) (ka_ret rfl (ka_pure ⟨rfl, rfl, rfl⟩))
  refine ka_ifN (by decide) (ka_gR (v := some b) hsb rfl rfl (ka_gI hsb rfl rfl (ka_pI hsb rfl rfl (Nat.le_of_ble_eq_true rfl) ?_)))
  rw [k3_succ]
  refine ka_stI ((ka_ne hne).trans hb) (k3_in (by omega) (by omega)) ?_
  obtain ⟨l1, l2, l3, l4⟩ := k3_lat ⟨n, hn⟩
  rw [k3_nat (by omega), show (Int32.ofNat n).toInt8.toInt32 = Int32.ofNat n from l4, show vp_nar (km_ty 2) (Int32.ofNat n) = Int32.ofNat n from l3]
  have hlen : (cs ++ [Int32.ofNat n]).length = cs.length + 1 := by rw [List.length_append]; rfl
  refine ka_pure ⟨by omega, fun a o ha hk => ?_, ka_le_mut (ka_le_mut hle hs0) hbn, hs0, b, cap, upd g cs.length (Int32.ofNat n), hbn, ?_, ka_same, by omega, g3, fun i hi => ?_, fun c hc => ?_⟩
  · have ha1 := hk33 a o ha hk
    have e1 : a ≠ sb := ka_kinds ha1 hsb (fun e => by rw [e] at hk; cases hk)
    have e2 : a ≠ b := ka_kinds ha1 hb (fun e => by rw [e] at hk; cases hk)
    exact (ka_ne e2).trans ((ka_ne e1).trans ha1)
  · refine (ka_ne hne.symm).trans ?_
    rw [hlen]
    exact ka_same
  · rw [hlen] at hi
    unfold upd
    by_cases he : i = cs.length
    · rw [if_pos he, he]
      simp
    · rw [if_neg he, List.getElem?_append_left (by omega)]
      exact g4 i (by omega)
  · rcases List.mem_append.mp hc with e | e
    · exact g5 c e
    · rw [List.mem_singleton.mp e]
      exact ⟨hc1, hc2⟩
theorem k3_dig : ∀ f : Fin 10, ¬ Int32.ofNat f.val < 0 ∧ ¬ (-Int32.ofNat f.val ≤ -10) ∧ (-100 : Int32) < -Int32.ofNat f.val ∧ -(-Int32.ofNat f.val) = Int32.ofNat f.val ∧ (-9 : Int32) ≤ -Int32.ofNat f.val ∧ 0 ≤ Int32.ofNat f.val ∧ (1 : Int32) + 0 = Int32.ofNat 1 ∧ 48 + Int32.ofNat f.val = Int32.ofNat (48 + f.val) ∧ vp_nar .byte (Int32.ofNat (48 + f.val)) = Int32.ofNat (48 + f.val) := by decide +kernel
theorem kb_appendI {H0 K : ka_H} {sb f : Nat} {cs : List Int32} (hZ : kz_dig Z) (hK : kb_SB H0 K sb cs) (hl : cs.length ≤ 100) (hf : f < 10) (hw : 400 ≤ w) : ka_T Z (pm_J23_append_2 (some sb) (Int32.ofNat f)) w K (fun r w' K' => r = some sb ∧ w ≤ w' + 400 ∧ kb_K33 K K' ∧ kb_SB H0 K' sb (cs ++ [48 + Int32.ofNat f])) := by
  obtain ⟨d1, d2, d3, d4, d5, d6, d7, d8, d9⟩ := k3_dig ⟨f, hf⟩
  have hcnt : ∃ b, K sb = some (ka_ob 36 [.ref b, .int 0, .int 0, .int (Int32.ofNat cs.length)]) := by
    obtain ⟨-, -, b, cap, g, -, hsb, -⟩ := hK
    exact ⟨b, hsb⟩
  obtain ⟨b0, hb0⟩ := hcnt
  unfold pm_J23_append_2
  refine ka_is hb0 rfl (ka_call (P := fun r w' K' => w ≤ w' + 400 ∧ kb_K33 K K' ∧ kb_SB H0 K' sb (cs ++ [48 + Int32.ofNat f])) ?_ (fun r w' K' hp => ka_pure ⟨rfl, hp.1, hp.2.1, hp.2.2⟩))
  unfold pm_J22_append_2
  refine ka_gI hb0 rfl rfl (ka_use (v := Int32.ofNat 1) ?_ ?_)
  · unfold pm_J24_stringSize pb_J24_stringSize_11
    refine ka_ifN d1 ?_
    rw [show km_fuel = 99999 + 1 from rfl]
    unfold pb_J24_stringSize_16
    exact ka_ifN (by decide) (ka_ifN d2 (ka_pure ⟨d7.symm, rfl, rfl⟩))
  rw [k3_add]
  refine ka_is hb0 rfl (ka_call (kb_ensure hK (by omega) hw) (fun _ w1 K1 hp => ?_))
  obtain ⟨hw1, hk33, hle, hs0, b, cap, g, hbn, hsb, hb, g1, g2, g3, g4, g5⟩ := hp
  have hne : b ≠ sb := ka_kinds hb hsb (by simp)
  refine ka_is hsb rfl (ka_use (v := (1 : Int32)) ?_ ?_)
  · unfold pm_J22_isLatin1
    exact ka_ifN (by decide) (ka_gI hsb rfl rfl (ka_ifN (fun z => z rfl) (ka_ret rfl (ka_pure ⟨rfl, rfl, rfl⟩))))
  refine ka_ifN (by decide) (ka_gR (v := some b) hsb rfl rfl ?_)
  obtain ⟨a, gd, z1, z2, z3⟩ := hZ
  refine ka_call (P := fun r w' K' => w' = w1 ∧ K' = ka_up K1 b (ka_aI 2 cap (upd g cs.length (Int32.ofNat (48 + f))))) ?_ (fun r w' K' hp => ?_)
  · unfold pm_J24_getChars pb_J24_getChars_12
    refine ka_ifP d6 (ka_ifN (fun z => z rfl) ?_)
    rw [show km_fuel = 99999 + 1 from rfl]
    unfold pb_J24_getChars_22
    refine ka_ifP d3 (ka_k ?_)
    rw [z1, show -(-Int32.ofNat f) = Int32.ofNat f from d4]
    refine ka_const z2 (fun hH => ?_)
    have hba : b ≠ a := fun e => by subst e; have := hH _ hb; cases this
    refine ka_ldI ka_same (k3_in (by omega) (by omega)) ?_
    rw [k3_nat (by omega), z3 f hf]
    have e1 : Int32.ofNat (cs.length + 1) + -1 = Int32.ofNat cs.length := by
      have := k3_pred (a := cs.length + 1) (by omega)
      rw [Nat.add_sub_cancel, Int32.sub_eq_add_neg] at this
      exact this
    rw [e1]
    refine ka_stI ((ka_ne hba).trans hb) (k3_in (by omega) (by omega)) ?_
    rw [k3_nat (by omega), show vp_nar (km_ty 2) (Int32.ofNat (48 + f)) = Int32.ofNat (48 + f) from d9]
    refine ka_ifP d5 ?_
    unfold pb_J24_getChars_104
    refine ka_ifP rfl (ka_pureE (ka_entle (fun c o hc => ?_)) ⟨rfl, rfl⟩)
    by_cases e2 : c = b
    · subst e2
      rw [ka_same] at hc
      rw [ka_same]
      exact hc
    · rw [ka_ne e2] at hc
      refine (ka_ne e2).trans ?_
      by_cases e3 : c = a
      · subst e3
        rw [ka_same, hH _ hc]
      · exact (ka_ne e3).trans hc
  · obtain ⟨rfl, rfl⟩ := hp
    have hlen : (cs ++ [48 + Int32.ofNat f]).length = cs.length + 1 := by rw [List.length_append]; rfl
    have hsb1 := (ka_ne (o := ka_aI 2 cap (upd g cs.length (Int32.ofNat (48 + f)))) hne.symm).trans hsb
    refine ka_pI hsb1 rfl rfl (Nat.le_of_ble_eq_true rfl) (ka_pure ⟨by omega, fun c o hc hk => ?_, ka_le_mut (ka_le_mut hle hbn) hs0, hs0, b, cap, upd g cs.length (Int32.ofNat (48 + f)), hbn, ?_, (ka_ne hne).trans ka_same, by omega, g3, fun i hi => ?_, fun c hc => ?_⟩)
    · have ha1 := hk33 c o hc hk
      have e1 : c ≠ sb := ka_kinds ha1 hsb (fun e => by rw [e] at hk; cases hk)
      have e2 : c ≠ b := ka_kinds ha1 hb (fun e => by rw [e] at hk; cases hk)
      exact (ka_ne e1).trans ((ka_ne e2).trans ha1)
    · rw [hlen]
      exact ka_same
    · rw [hlen] at hi
      unfold upd
      by_cases he : i = cs.length
      · rw [if_pos he, he]
        simp
      · rw [if_neg he, List.getElem?_append_left (by omega)]
        exact g4 i (by omega)
    · rcases List.mem_append.mp hc with e | e
      · exact g5 c e
      · rw [List.mem_singleton.mp e, show 48 + Int32.ofNat f = Int32.ofNat (48 + f) from d8]
        exact ⟨(k3_le (a := 0) (by decide) (by omega)).mpr (Nat.zero_le _), (k3_lt (b := 128) (by omega) (by decide)).mpr (by omega)⟩
theorem kb_initSB {sb : Nat} (hs : H sb = none) (hw : 21 ≤ w) : ka_T Z (pm_J23_init (some sb)) w (ka_up H sb (ka_ob 36 kz_SB)) (fun _ w' K => w' = w - 21 ∧ kb_SB H K sb [] ∧ ∀ a o, H a = some o → K a = some o) := by
  unfold pm_J23_init pm_J22_init
  refine ka_nn (ka_call (P := fun _ w' K => w' = w - 21 ∧ kb_SB H K sb [] ∧ ∀ a o, H a = some o → K a = some o) ?_ (fun _ w' K hp => ka_pure hp))
  refine ka_nn (ka_ifN (by decide) ?_)
  refine ka_nI (m := 16) (by decide) (by decide) (by decide) (by omega) (fun b hb => ?_)
  obtain ⟨hbs, hsb, hb⟩ := ka_fr hb
  refine ka_pR (by first | exact ka_same | assumption | exact ka_ne1 (by first | assumption | exact Ne.symm (by assumption)) (by first | exact ka_same | assumption | exact ka_ne1 (by first | assumption | exact Ne.symm (by assumption)) (by first | exact ka_same | assumption | exact ka_ne1 (by first | assumption | exact Ne.symm (by assumption)) (by first | exact ka_same | assumption | exact ka_ne1 (by first | assumption | exact Ne.symm (by assumption)) (by first | exact ka_same | assumption | exact ka_ne1 (by first | assumption | exact Ne.symm (by assumption)) (by first | exact ka_same | assumption | exact ka_ne1 (by first | assumption | exact Ne.symm (by assumption)) (by first | exact ka_same | assumption))))))) rfl (Nat.le_of_ble_eq_true rfl) ?_
  refine ka_pI ka_same rfl rfl (Nat.le_of_ble_eq_true rfl) ?_
  rw [ka_up_up]
  have hle : ka_le H (ka_up (ka_up (ka_up H sb (ka_ob 36 kz_SB)) b (ka_aI 2 16 (fun _ => 0))) sb (ka_ob 36 ((kz_SB.set 0 (va_rf (some b))).set 1 (.int 0)))) := ka_le_mut (ka_le_mut (ka_le_mut ka_le_refl hs) hb) hs
  exact ka_pure ⟨rfl, ⟨hle, hs, b, 16, fun _ => 0, hb, ka_same, (ka_ne hbs).trans ka_same, by simp, by omega, fun i hi => by simp at hi, fun c hc => by cases hc⟩, hle⟩
theorem kb_toString {H0 K : ka_H} {sb : Nat} {cs : List Int32} (hK : kb_SB H0 K sb cs) (hl : cs.length ≤ 100) (hw : 300 ≤ w) : ka_T Z (pm_J23_toString (some sb)) w K (fun r w' K' => ∃ a, r = some a ∧ w ≤ w' + 300 ∧ ka_le K K' ∧ kx_str K' a cs) := by
  obtain ⟨hle, hs0, b, cap, g, hb0, hsb, hb, h1, h2, h3, h4⟩ := hK
  unfold pm_J23_toString pm_J16_init pm_J16_init_2
  refine ka_new (by omega) (fun a ha => ?_)
  have hsa : sb ≠ a := ka_dom hsb ha
  have hba : b ≠ a := ka_dom hb ha
  have hsb1 := (ka_ne (o := ka_ob 35 kz_String) hsa).trans hsb
  have hb1 := (ka_ne (o := ka_ob 35 kz_String) hba).trans hb
  refine ka_nn (ka_call (P := fun _ w' K' => w ≤ w' + 300 ∧ ka_le K K' ∧ kx_str K' a cs) ?_ (fun _ w' K' hp => ka_pure ⟨a, rfl, hp.1, hp.2.1, hp.2.2⟩))
  refine ka_nn (ka_call (P := fun _ w' K' => w ≤ w' + 300 ∧ ka_le K K' ∧ kx_str K' a cs) ?_ (fun _ w' K' hp => ka_pure hp))
  refine ka_nn (ka_is hsb1 rfl (ka_use (v := some b) ?_ (ka_is hsb1 rfl (ka_use (v := Int32.ofNat cs.length) ?_ (ka_is hsb1 rfl (ka_use (v := (1 : Int32)) ?_ ?_))))))
  · unfold pm_J22_getValue
    exact ka_gR (v := some b) hsb1 rfl rfl (ka_pure ⟨rfl, rfl, rfl⟩)
  · unfold pm_J23_length pm_J22_length
    exact ka_is hsb1 rfl (ka_use (v := Int32.ofNat cs.length) (ka_gI hsb1 rfl rfl (ka_pure ⟨rfl, rfl, rfl⟩)) (ka_pure ⟨rfl, rfl, rfl⟩))
  · unfold pm_J22_isLatin1
    exact ka_ifN (by decide) (ka_gI hsb1 rfl rfl (ka_ifN (fun z => z rfl) (ka_ret rfl (ka_pure ⟨rfl, rfl, rfl⟩))))
  refine ka_ifN (by decide) (ka_pI ka_same rfl rfl (Nat.le_of_ble_eq_true rfl) ?_)
  rw [ka_up_up]
  have hb2 : ka_up K a (ka_ob 35 (kz_String.set 1 (.int 0))) b = some (ka_aI 2 cap g) := (ka_ne hba).trans hb
  have hend : ∀ (c v : Nat) (g' : Nat → Int32), ka_up K a (ka_ob 35 (kz_String.set 1 (.int 0))) c = none → w ≤ v + 300 → (∀ i, i < cs.length → g' i = g i) → ka_T Z (km_bind (km_pR [(35, 0)] (some a) (some c)) fun _ => km_pure ()) v (ka_up (ka_up K a (ka_ob 35 (kz_String.set 1 (.int 0)))) c (ka_aI 2 cs.length g')) (fun _ w' K' => w ≤ w' + 300 ∧ ka_le K K' ∧ kx_str K' a cs) := by
    intro c v g' hc hv hg
    obtain ⟨hca, hac, hc⟩ := ka_fr hc
    refine ka_pR ((ka_ne hac).trans ka_same) rfl (Nat.le_of_ble_eq_true rfl) (ka_pure ⟨hv, ka_le_mut (ka_le_mut (ka_le_mut ka_le_refl ha) hc) ha, true, true, c, 0, 0, g', ka_same, (ka_ne hca).trans ka_same, hl, fun i hi => ?_, h4⟩)
    rw [hg i hi]
    exact h3 i hi
  unfold pm_J14_copyOfRange_2
  refine ka_call (P := fun r w' K' => w ≤ w' + 250 ∧ ∃ c g', r = some c ∧ ka_up K a (ka_ob 35 (kz_String.set 1 (.int 0))) c = none ∧ K' = ka_up (ka_up K a (ka_ob 35 (kz_String.set 1 (.int 0)))) c (ka_aI 2 cs.length g') ∧ ∀ i, i < cs.length → g' i = g i) ?_ (fun r w' K' hp => ?_)
  · refine ka_ifN (fun z => z rfl) (ka_len hb2 rfl ?_)
    by_cases hcc : cs.length = cap
    · refine ka_ifP (by rw [hcc]) (ka_cln hb2 (by omega) (fun c hc => ?_))
      refine ka_castA ka_same (ka_pure ⟨by omega, c, g, rfl, hc, by rw [hcc], fun i hi => rfl⟩)
    · refine ka_ifN (fun z => hcc ((k3_eq (by omega) (by omega)).mp z)) ?_
      unfold pb_J14_copyOfRange_2_10 pm_J14_copyOfRangeByte pm_J14_checkLength
      refine ka_call (P := fun r w' K' => w ≤ w' + 250 ∧ ∃ c g', r = some c ∧ ka_up K a (ka_ob 35 (kz_String.set 1 (.int 0))) c = none ∧ K' = ka_up (ka_up K a (ka_ob 35 (kz_String.set 1 (.int 0)))) c (ka_aI 2 cs.length g') ∧ ∀ i, i < cs.length → g' i = g i) ?_ (fun r w' K' hp => ka_pure hp)
      refine ka_use (v := ()) (ka_ifP ((k3_le (a := 0) (by decide) (by omega)).mpr (Nat.zero_le _)) (ka_pure ⟨rfl, rfl, rfl⟩)) ?_
      rw [show Int32.ofNat cs.length - 0 = Int32.ofNat cs.length from Int32.sub_zero _]
      refine ka_nI (m := cs.length) (k3_neg (by omega)) (k3_nat (by omega)) (by omega) (by omega) (fun c hc => ?_)
      have hbc : b ≠ c := ka_dom hb2 hc
      refine ka_len ((ka_ne hbc).trans hb2) rfl ?_
      rw [show Int32.ofNat cap - 0 = Int32.ofNat cap from Int32.sub_zero _, k3_min (by omega) (by omega)]
      refine ka_cpI (s := 0) (d := 0) (n := min cap cs.length) ((ka_ne hbc).trans hb2) ka_same rfl rfl rfl (by omega) (by omega) (by omega) (by omega) ?_
      refine ka_pure ⟨by omega, c, _, rfl, hc, ka_up_up, fun i hi => ?_⟩
      unfold va_cpy
      simp
      omega
  · obtain ⟨hw', c, g', rfl, hc, rfl, hg⟩ := hp
    exact hend c w' g' hc (by omega) hg
end KXW
