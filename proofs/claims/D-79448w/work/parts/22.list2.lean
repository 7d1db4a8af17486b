set_option maxRecDepth 100000
/-! ===== lists that change ===== -/
theorem k3_half : ∀ n : Fin 401, Int32.ofNat n.val >>> ((1 : Int32) &&& 31) = Int32.ofNat (n.val / 2) := by decide +kernel
theorem k3_max {a b : Nat} (ha : a < 2 ^ 31) (hb : b < 2 ^ 31) : km_max (Int32.ofNat a) (Int32.ofNat b) = Int32.ofNat (max a b) := by
  unfold km_max
  by_cases h : a < b
  · rw [if_pos ((k3_lt ha hb).mpr h), Nat.max_eq_right (by omega)]
  · rw [if_neg (fun z => h ((k3_lt ha hb).mp z)), Nat.max_eq_left (by omega)]
theorem k3_min {a b : Nat} (ha : a < 2 ^ 31) (hb : b < 2 ^ 31) : km_min (Int32.ofNat a) (Int32.ofNat b) = Int32.ofNat (min a b) := by
  unfold km_min
  by_cases h : b < a
  · rw [if_pos ((k3_lt hb ha).mpr h), Nat.min_eq_right (by omega)]
  · rw [if_neg (fun z => h ((k3_lt hb ha).mp z)), Nat.min_eq_left (by omega)]
theorem ka_fr {H : ka_H} {a x : Nat} {o : ka_O} (h : ka_up H a o x = none) : x ≠ a ∧ a ≠ x ∧ H x = none := by
  by_cases e : x = a
  · subst e
    rw [ka_same] at h
    cases h
  · exact ⟨e, fun z => e z.symm, (ka_ne e).symm.trans h⟩
section KAG
variable {Z : ka_Z} {w : Nat} {H : ka_H} {l : Nat} {mc : Int32} {xs : List Nat}
/-- a copy of an array of references: a new array -/
theorem kl_copyOf {b n m : Nat} {fl : Bool} {g : Nat → Option Nat} (hb : H b = some (ka_rr fl n g)) (hz : fl = false → Z.1 0 = some b) (hn : n < 2 ^ 27) (hm : m < 2 ^ 25) (hw : m + 5 ≤ w) : ka_T Z (pm_J14_copyOf (some b) (Int32.ofNat m)) w H (fun r w' H' => ∃ (a : Nat) (g' : Nat → Option Nat), r = some a ∧ H a = none ∧ w' = w - (m + 5) ∧ H' = ka_up H a (ka_aR 4 m g') ∧ ∀ i, i < n → i < m → g' i = g i) := by
  unfold pm_J14_copyOf pm_J14_copyOf_2
  refine ka_getC hb hz ?_
  refine ka_call (P := fun r w' H' => ∃ (a : Nat) (g' : Nat → Option Nat), r = some a ∧ H a = none ∧ w' = w - (m + 5) ∧ H' = ka_up H a (ka_aR 4 m g') ∧ ∀ i, i < n → i < m → g' i = g i) ?_ (fun r w' H' hp => ka_pure hp)
  refine ka_k (ka_ifN (fun h => h rfl) ?_)
  refine ka_nR (k3_neg (by omega)) (k3_nat (by omega)) (by omega) hw (fun a ha => ?_)
  have hba : b ≠ a := ka_dom hb ha
  refine ka_len (by first | exact ka_same | assumption | exact ka_ne1 (by first | assumption | exact Ne.symm (by assumption)) (by first | exact ka_same | assumption | exact ka_ne1 (by first | assumption | exact Ne.symm (by assumption)) (by first | exact ka_same | assumption | exact ka_ne1 (by first | assumption | exact Ne.symm (by assumption)) (by first | exact ka_same | assumption | exact ka_ne1 (by first | assumption | exact Ne.symm (by assumption)) (by first | exact ka_same | assumption | exact ka_ne1 (by first | assumption | exact Ne.symm (by assumption)) (by first | exact ka_same | assumption | exact ka_ne1 (by first | assumption | exact Ne.symm (by assumption)) (by first | exact ka_same | assumption))))))) rfl ?_
  rw [k3_min (by omega) (by omega)]
  refine ka_cpR (s := 0) (d := 0) (n := min n m) (by first | exact ka_same | assumption | exact ka_ne1 (by first | assumption | exact Ne.symm (by assumption)) (by first | exact ka_same | assumption | exact ka_ne1 (by first | assumption | exact Ne.symm (by assumption)) (by first | exact ka_same | assumption | exact ka_ne1 (by first | assumption | exact Ne.symm (by assumption)) (by first | exact ka_same | assumption | exact ka_ne1 (by first | assumption | exact Ne.symm (by assumption)) (by first | exact ka_same | assumption | exact ka_ne1 (by first | assumption | exact Ne.symm (by assumption)) (by first | exact ka_same | assumption | exact ka_ne1 (by first | assumption | exact Ne.symm (by assumption)) (by first | exact ka_same | assumption))))))) ka_same rfl rfl rfl (by omega) (by omega) (by omega) (by omega) ?_
  refine ka_pure ⟨a, _, rfl, ha, rfl, ka_up_up, fun i h1 h2 => ?_⟩
  unfold va_cpy
  simp
  omega
/-- a larger array: the list is raw here -/
theorem kl_grow {b n c : Nat} {sz : Int32} {fl : Bool} {g : Nat → Option Nat} (hl : H l = some (ka_ob 30 [.int mc, .ref b, .int sz])) (hb : H b = some (ka_rr fl n g)) (hz : fl = false → Z.1 0 = some b) (hz2 : n = 0 → Z.1 0 = some b) (hc : n < c) (hc2 : c ≤ 241) (hw : 405 ≤ w) : ka_T Z (pm_J2_grow_2 (some l) (Int32.ofNat c)) w H (fun r w' H' => ∃ (a n' : Nat) (g' : Nat → Option Nat), r = some a ∧ H a = none ∧ w ≤ w' + 405 ∧ c ≤ n' ∧ n' ≤ 400 ∧ H' = ka_up (ka_up H a (ka_aR 4 n' g')) l (ka_ob 30 [.int mc, .ref a, .int sz]) ∧ ∀ i, i < n → g' i = g i) := by
  have hlb : l ≠ b := ka_kinds hl hb (by simp)
  unfold pm_J2_grow_2
  refine ka_gR (by first | exact ka_same | assumption | exact ka_ne1 (by first | assumption | exact Ne.symm (by assumption)) (by first | exact ka_same | assumption | exact ka_ne1 (by first | assumption | exact Ne.symm (by assumption)) (by first | exact ka_same | assumption | exact ka_ne1 (by first | assumption | exact Ne.symm (by assumption)) (by first | exact ka_same | assumption | exact ka_ne1 (by first | assumption | exact Ne.symm (by assumption)) (by first | exact ka_same | assumption | exact ka_ne1 (by first | assumption | exact Ne.symm (by assumption)) (by first | exact ka_same | assumption | exact ka_ne1 (by first | assumption | exact Ne.symm (by assumption)) (by first | exact ka_same | assumption))))))) rfl rfl ?_
  refine ka_len (by first | exact ka_same | assumption | exact ka_ne1 (by first | assumption | exact Ne.symm (by assumption)) (by first | exact ka_same | assumption | exact ka_ne1 (by first | assumption | exact Ne.symm (by assumption)) (by first | exact ka_same | assumption | exact ka_ne1 (by first | assumption | exact Ne.symm (by assumption)) (by first | exact ka_same | assumption | exact ka_ne1 (by first | assumption | exact Ne.symm (by assumption)) (by first | exact ka_same | assumption | exact ka_ne1 (by first | assumption | exact Ne.symm (by assumption)) (by first | exact ka_same | assumption | exact ka_ne1 (by first | assumption | exact Ne.symm (by assumption)) (by first | exact ka_same | assumption))))))) rfl ?_
  by_cases h0 : n = 0
  · subst h0
    refine ka_ifN (fun h => absurd h (by decide)) ?_
    refine ka_gR (by first | exact ka_same | assumption | exact ka_ne1 (by first | assumption | exact Ne.symm (by assumption)) (by first | exact ka_same | assumption | exact ka_ne1 (by first | assumption | exact Ne.symm (by assumption)) (by first | exact ka_same | assumption | exact ka_ne1 (by first | assumption | exact Ne.symm (by assumption)) (by first | exact ka_same | assumption | exact ka_ne1 (by first | assumption | exact Ne.symm (by assumption)) (by first | exact ka_same | assumption | exact ka_ne1 (by first | assumption | exact Ne.symm (by assumption)) (by first | exact ka_same | assumption | exact ka_ne1 (by first | assumption | exact Ne.symm (by assumption)) (by first | exact ka_same | assumption))))))) rfl rfl ?_
    refine ka_k (ka_ifP (hz2 rfl).symm ?_)
    rw [show (10 : Int32) = Int32.ofNat 10 from rfl, k3_max (by omega) (by omega)]
    refine ka_nR (m := max 10 c) (k3_neg (by omega)) (k3_nat (by omega)) (by omega) (by omega) (fun a ha => ?_)
    have hla : l ≠ a := ka_dom hl ha
    refine ka_pR (by first | exact ka_same | assumption | exact ka_ne1 (by first | assumption | exact Ne.symm (by assumption)) (by first | exact ka_same | assumption | exact ka_ne1 (by first | assumption | exact Ne.symm (by assumption)) (by first | exact ka_same | assumption | exact ka_ne1 (by first | assumption | exact Ne.symm (by assumption)) (by first | exact ka_same | assumption | exact ka_ne1 (by first | assumption | exact Ne.symm (by assumption)) (by first | exact ka_same | assumption | exact ka_ne1 (by first | assumption | exact Ne.symm (by assumption)) (by first | exact ka_same | assumption | exact ka_ne1 (by first | assumption | exact Ne.symm (by assumption)) (by first | exact ka_same | assumption))))))) rfl (Nat.le_of_ble_eq_true rfl) ?_
    exact ka_pure ⟨a, max 10 c, _, rfl, ha, by omega, by omega, by omega, rfl, fun i hi => by omega⟩
  · refine ka_ifP ((k3_lt (a := 0) (by decide) (by omega)).mpr (by omega)) ?_
    unfold pb_J2_grow_2_20 pm_J12_newLength
    rw [k3_half ⟨n, by omega⟩, k3_sub (by omega), k3_max (by omega) (by omega), k3_add]
    refine ka_use (v := Int32.ofNat (n + max (c - n) (n / 2))) (ka_ifN (fun h => absurd ((k3_le (b := 0) (by omega) (by decide)).mp h) (by omega)) (ka_ifN (fun h => absurd ((k3_lt (a := 2147483639) (by decide) (by omega)).mp h) (by omega)) (ka_pure ⟨rfl, rfl, rfl⟩))) ?_
    refine ka_gR (by first | exact ka_same | assumption | exact ka_ne1 (by first | assumption | exact Ne.symm (by assumption)) (by first | exact ka_same | assumption | exact ka_ne1 (by first | assumption | exact Ne.symm (by assumption)) (by first | exact ka_same | assumption | exact ka_ne1 (by first | assumption | exact Ne.symm (by assumption)) (by first | exact ka_same | assumption | exact ka_ne1 (by first | assumption | exact Ne.symm (by assumption)) (by first | exact ka_same | assumption | exact ka_ne1 (by first | assumption | exact Ne.symm (by assumption)) (by first | exact ka_same | assumption | exact ka_ne1 (by first | assumption | exact Ne.symm (by assumption)) (by first | exact ka_same | assumption))))))) rfl rfl ?_
    refine ka_call (kl_copyOf hb hz (by omega) (by omega) (by omega)) (fun r w' H' hp => ?_)
    obtain ⟨a, g', rfl, ha, rfl, rfl, hg⟩ := hp
    have hla : l ≠ a := ka_dom hl ha
    refine ka_pR (by first | exact ka_same | assumption | exact ka_ne1 (by first | assumption | exact Ne.symm (by assumption)) (by first | exact ka_same | assumption | exact ka_ne1 (by first | assumption | exact Ne.symm (by assumption)) (by first | exact ka_same | assumption | exact ka_ne1 (by first | assumption | exact Ne.symm (by assumption)) (by first | exact ka_same | assumption | exact ka_ne1 (by first | assumption | exact Ne.symm (by assumption)) (by first | exact ka_same | assumption | exact ka_ne1 (by first | assumption | exact Ne.symm (by assumption)) (by first | exact ka_same | assumption | exact ka_ne1 (by first | assumption | exact Ne.symm (by assumption)) (by first | exact ka_same | assumption))))))) rfl (Nat.le_of_ble_eq_true rfl) ?_
    exact ka_pure ⟨a, _, g', rfl, ha, by omega, by omega, by omega, rfl, fun i hi => hg i hi (by omega)⟩
theorem kl_grow1 {b n k : Nat} {fl : Bool} {g : Nat → Option Nat} (hl : H l = some (ka_ob 30 [.int mc, .ref b, .int (Int32.ofNat k)])) (hb : H b = some (ka_rr fl n g)) (hz : fl = false → Z.1 0 = some b) (hz2 : n = 0 → Z.1 0 = some b) (hc : n < k + 1) (hc2 : k + 1 ≤ 241) (hw : 405 ≤ w) : ka_T Z (pm_J2_grow (some l)) w H (fun r w' H' => ∃ (a n' : Nat) (g' : Nat → Option Nat), r = some a ∧ H a = none ∧ w ≤ w' + 405 ∧ k + 1 ≤ n' ∧ n' ≤ 400 ∧ H' = ka_up (ka_up H a (ka_aR 4 n' g')) l (ka_ob 30 [.int mc, .ref a, .int (Int32.ofNat k)]) ∧ ∀ i, i < n → g' i = g i) := by
  unfold pm_J2_grow
  refine ka_gI (by first | exact ka_same | assumption | exact ka_ne1 (by first | assumption | exact Ne.symm (by assumption)) (by first | exact ka_same | assumption | exact ka_ne1 (by first | assumption | exact Ne.symm (by assumption)) (by first | exact ka_same | assumption | exact ka_ne1 (by first | assumption | exact Ne.symm (by assumption)) (by first | exact ka_same | assumption | exact ka_ne1 (by first | assumption | exact Ne.symm (by assumption)) (by first | exact ka_same | assumption | exact ka_ne1 (by first | assumption | exact Ne.symm (by assumption)) (by first | exact ka_same | assumption | exact ka_ne1 (by first | assumption | exact Ne.symm (by assumption)) (by first | exact ka_same | assumption))))))) rfl rfl ?_
  refine ka_is (by first | exact ka_same | assumption | exact ka_ne1 (by first | assumption | exact Ne.symm (by assumption)) (by first | exact ka_same | assumption | exact ka_ne1 (by first | assumption | exact Ne.symm (by assumption)) (by first | exact ka_same | assumption | exact ka_ne1 (by first | assumption | exact Ne.symm (by assumption)) (by first | exact ka_same | assumption | exact ka_ne1 (by first | assumption | exact Ne.symm (by assumption)) (by first | exact ka_same | assumption | exact ka_ne1 (by first | assumption | exact Ne.symm (by assumption)) (by first | exact ka_same | assumption | exact ka_ne1 (by first | assumption | exact Ne.symm (by assumption)) (by first | exact ka_same | assumption))))))) rfl ?_
  rw [k3_succ]
  exact ka_call (kl_grow hl hb hz hz2 hc hc2 hw) (fun r w' H' hp => ka_pure hp)
theorem kl_addg {v : Nat} {i : Nat} {g : Nat → Option Nat} (h : i < (xs ++ [v]).length) (p7 : ∀ i, i < xs.length → g i = xs[i]?) : va_up g xs.length (some v) i = (xs ++ [v])[i]? := by
  unfold va_up
  by_cases e : i = xs.length
  · subst e
    simp
  · have h2 : i < xs.length := by
      rw [List.length_append] at h
      simp at h
      omega
    rw [if_neg e, List.getElem?_append_left h2]
    exact p7 i h2
theorem kl_add {v c : Nat} {o : ka_O} (hl : H l = some (ka_ls mc xs)) (hv : H v = some o) (hc : ka_cls o = some c) (hx : xs.length ≤ 240) (hw : 405 ≤ w) : ka_T Z (pm_J2_add (some l) (some v)) w H (fun r w' H' => r = 1 ∧ w ≤ w' + 405 ∧ H' = ka_up H l (ka_ls (mc + 1) (xs ++ [v]))) := by
  refine ka_open hl (fun b f n g p3 p4 p5 p6 p7 n1 n2 hn hb => ?_)
  have hvb : v ≠ b := fun e => by
    subst e
    have := hb o hv
    subst this
    cases hc
  unfold pm_J2_add
  refine ka_gI (by first | exact ka_same | assumption | exact ka_ne1 (by first | assumption | exact Ne.symm (by assumption)) (by first | exact ka_same | assumption | exact ka_ne1 (by first | assumption | exact Ne.symm (by assumption)) (by first | exact ka_same | assumption | exact ka_ne1 (by first | assumption | exact Ne.symm (by assumption)) (by first | exact ka_same | assumption | exact ka_ne1 (by first | assumption | exact Ne.symm (by assumption)) (by first | exact ka_same | assumption | exact ka_ne1 (by first | assumption | exact Ne.symm (by assumption)) (by first | exact ka_same | assumption | exact ka_ne1 (by first | assumption | exact Ne.symm (by assumption)) (by first | exact ka_same | assumption))))))) rfl rfl ?_
  refine ka_pI (by first | exact ka_same | assumption | exact ka_ne1 (by first | assumption | exact Ne.symm (by assumption)) (by first | exact ka_same | assumption | exact ka_ne1 (by first | assumption | exact Ne.symm (by assumption)) (by first | exact ka_same | assumption | exact ka_ne1 (by first | assumption | exact Ne.symm (by assumption)) (by first | exact ka_same | assumption | exact ka_ne1 (by first | assumption | exact Ne.symm (by assumption)) (by first | exact ka_same | assumption | exact ka_ne1 (by first | assumption | exact Ne.symm (by assumption)) (by first | exact ka_same | assumption | exact ka_ne1 (by first | assumption | exact Ne.symm (by assumption)) (by first | exact ka_same | assumption))))))) rfl rfl (Nat.le_of_ble_eq_true rfl) ?_
  refine ka_gR (by first | exact ka_same | assumption | exact ka_ne1 (by first | assumption | exact Ne.symm (by assumption)) (by first | exact ka_same | assumption | exact ka_ne1 (by first | assumption | exact Ne.symm (by assumption)) (by first | exact ka_same | assumption | exact ka_ne1 (by first | assumption | exact Ne.symm (by assumption)) (by first | exact ka_same | assumption | exact ka_ne1 (by first | assumption | exact Ne.symm (by assumption)) (by first | exact ka_same | assumption | exact ka_ne1 (by first | assumption | exact Ne.symm (by assumption)) (by first | exact ka_same | assumption | exact ka_ne1 (by first | assumption | exact Ne.symm (by assumption)) (by first | exact ka_same | assumption))))))) rfl rfl ?_
  refine ka_gI (by first | exact ka_same | assumption | exact ka_ne1 (by first | assumption | exact Ne.symm (by assumption)) (by first | exact ka_same | assumption | exact ka_ne1 (by first | assumption | exact Ne.symm (by assumption)) (by first | exact ka_same | assumption | exact ka_ne1 (by first | assumption | exact Ne.symm (by assumption)) (by first | exact ka_same | assumption | exact ka_ne1 (by first | assumption | exact Ne.symm (by assumption)) (by first | exact ka_same | assumption | exact ka_ne1 (by first | assumption | exact Ne.symm (by assumption)) (by first | exact ka_same | assumption | exact ka_ne1 (by first | assumption | exact Ne.symm (by assumption)) (by first | exact ka_same | assumption))))))) rfl rfl ?_
  refine ka_is (by first | exact ka_same | assumption | exact ka_ne1 (by first | assumption | exact Ne.symm (by assumption)) (by first | exact ka_same | assumption | exact ka_ne1 (by first | assumption | exact Ne.symm (by assumption)) (by first | exact ka_same | assumption | exact ka_ne1 (by first | assumption | exact Ne.symm (by assumption)) (by first | exact ka_same | assumption | exact ka_ne1 (by first | assumption | exact Ne.symm (by assumption)) (by first | exact ka_same | assumption | exact ka_ne1 (by first | assumption | exact Ne.symm (by assumption)) (by first | exact ka_same | assumption | exact ka_ne1 (by first | assumption | exact Ne.symm (by assumption)) (by first | exact ka_same | assumption))))))) rfl ?_
  refine ka_call (P := fun r w' H' => w ≤ w' + 405 ∧ H' = ka_up H l (ka_ls (mc + 1) (xs ++ [v]))) ?_ (fun r w' H' hp => by
    obtain ⟨q1, rfl⟩ := hp
    refine ka_ret rfl ?_
    exact ka_pure ⟨rfl, q1, rfl⟩)
  unfold pm_J2_add_2
  refine ka_len (by first | exact ka_same | assumption | exact ka_ne1 (by first | assumption | exact Ne.symm (by assumption)) (by first | exact ka_same | assumption | exact ka_ne1 (by first | assumption | exact Ne.symm (by assumption)) (by first | exact ka_same | assumption | exact ka_ne1 (by first | assumption | exact Ne.symm (by assumption)) (by first | exact ka_same | assumption | exact ka_ne1 (by first | assumption | exact Ne.symm (by assumption)) (by first | exact ka_same | assumption | exact ka_ne1 (by first | assumption | exact Ne.symm (by assumption)) (by first | exact ka_same | assumption | exact ka_ne1 (by first | assumption | exact Ne.symm (by assumption)) (by first | exact ka_same | assumption))))))) rfl ?_
  by_cases hfull : xs.length = n
  · refine ka_ifN (fun h => h (by rw [hfull])) ?_
    refine ka_is (by first | exact ka_same | assumption | exact ka_ne1 (by first | assumption | exact Ne.symm (by assumption)) (by first | exact ka_same | assumption | exact ka_ne1 (by first | assumption | exact Ne.symm (by assumption)) (by first | exact ka_same | assumption | exact ka_ne1 (by first | assumption | exact Ne.symm (by assumption)) (by first | exact ka_same | assumption | exact ka_ne1 (by first | assumption | exact Ne.symm (by assumption)) (by first | exact ka_same | assumption | exact ka_ne1 (by first | assumption | exact Ne.symm (by assumption)) (by first | exact ka_same | assumption | exact ka_ne1 (by first | assumption | exact Ne.symm (by assumption)) (by first | exact ka_same | assumption))))))) rfl ?_
    refine ka_call (kl_grow1 (l := l) (b := b) (mc := mc + 1) (k := xs.length) (n := n) (g := g) (fl := f) (by first | exact ka_same | assumption | exact ka_ne1 (by first | assumption | exact Ne.symm (by assumption)) (by first | exact ka_same | assumption | exact ka_ne1 (by first | assumption | exact Ne.symm (by assumption)) (by first | exact ka_same | assumption | exact ka_ne1 (by first | assumption | exact Ne.symm (by assumption)) (by first | exact ka_same | assumption | exact ka_ne1 (by first | assumption | exact Ne.symm (by assumption)) (by first | exact ka_same | assumption | exact ka_ne1 (by first | assumption | exact Ne.symm (by assumption)) (by first | exact ka_same | assumption | exact ka_ne1 (by first | assumption | exact Ne.symm (by assumption)) (by first | exact ka_same | assumption))))))) (by first | exact ka_same | assumption | exact ka_ne1 (by first | assumption | exact Ne.symm (by assumption)) (by first | exact ka_same | assumption | exact ka_ne1 (by first | assumption | exact Ne.symm (by assumption)) (by first | exact ka_same | assumption | exact ka_ne1 (by first | assumption | exact Ne.symm (by assumption)) (by first | exact ka_same | assumption | exact ka_ne1 (by first | assumption | exact Ne.symm (by assumption)) (by first | exact ka_same | assumption | exact ka_ne1 (by first | assumption | exact Ne.symm (by assumption)) (by first | exact ka_same | assumption | exact ka_ne1 (by first | assumption | exact Ne.symm (by assumption)) (by first | exact ka_same | assumption))))))) (fun h => p6 (p5 h)) p6 (by omega) (by omega) hw) (fun r w' H' hp => ?_)
    obtain ⟨a, n', g', rfl, ha, hw', q1, q2, rfl, hg⟩ := hp
    obtain ⟨-, hal, ha⟩ := ka_fr ha
    obtain ⟨-, hab, ha⟩ := ka_fr ha
    obtain ⟨-, -, haH⟩ := ka_fr ha
    have hva : v ≠ a := ka_dom hv haH
    unfold pb_J2_add_2_11
    have hvl : v ≠ l ∨ v = l := (Nat.decEq v l).byCases (fun e => Or.inr e) (fun e => Or.inl e)
    have hcls : ∃ o', ka_up (ka_up (ka_up (ka_up (ka_up H l (ka_ob 30 [.int mc, .ref b, .int (Int32.ofNat xs.length)])) b (ka_rr f n g)) l (ka_ob 30 ([Value.int mc, .ref b, .int (Int32.ofNat xs.length)].set 0 (.int (mc + 1))))) a (ka_aR 4 n' g')) l (ka_ob 30 [.int (mc + 1), .ref a, .int (Int32.ofNat xs.length)]) v = some o' ∧ ka_cls o' = some c := by
      rcases hvl with e | e
      · exact ⟨o, by rw [ka_ne e, ka_ne hva, ka_ne e, ka_ne hvb, ka_ne e]; exact hv, hc⟩
      · subst e
        rw [hl] at hv
        cases hv
        cases hc
        exact ⟨_, ka_same, rfl⟩
    obtain ⟨o', ho', hco'⟩ := hcls
    refine ka_stR (by first | exact ka_same | assumption | exact ka_ne1 (by first | assumption | exact Ne.symm (by assumption)) (by first | exact ka_same | assumption | exact ka_ne1 (by first | assumption | exact Ne.symm (by assumption)) (by first | exact ka_same | assumption | exact ka_ne1 (by first | assumption | exact Ne.symm (by assumption)) (by first | exact ka_same | assumption | exact ka_ne1 (by first | assumption | exact Ne.symm (by assumption)) (by first | exact ka_same | assumption | exact ka_ne1 (by first | assumption | exact Ne.symm (by assumption)) (by first | exact ka_same | assumption | exact ka_ne1 (by first | assumption | exact Ne.symm (by assumption)) (by first | exact ka_same | assumption))))))) ho' hco' (Or.inl rfl) (k3_in (by omega) (by omega)) ?_
    refine ka_pI (by first | exact ka_same | assumption | exact ka_ne1 (by first | assumption | exact Ne.symm (by assumption)) (by first | exact ka_same | assumption | exact ka_ne1 (by first | assumption | exact Ne.symm (by assumption)) (by first | exact ka_same | assumption | exact ka_ne1 (by first | assumption | exact Ne.symm (by assumption)) (by first | exact ka_same | assumption | exact ka_ne1 (by first | assumption | exact Ne.symm (by assumption)) (by first | exact ka_same | assumption | exact ka_ne1 (by first | assumption | exact Ne.symm (by assumption)) (by first | exact ka_same | assumption | exact ka_ne1 (by first | assumption | exact Ne.symm (by assumption)) (by first | exact ka_same | assumption))))))) rfl rfl (Nat.le_of_ble_eq_true rfl) ?_
    refine ka_pureE (ka_fold (b := a) (n := n') (f := true) (g := va_up g' xs.length (some v)) (ka_ag_l (ka_ag_new (ka_ag_l (ka_ag_new (ka_ag_l (ka_ag_b (ka_ag_l ka_ag_refl) hb)) haH)) haH)) ?_ ?_ ?_ q2 (fun h => by cases h) (fun h => by omega) ?_ (fun _ => haH)) ⟨hw', rfl⟩
    · rw [ka_same, List.length_append]
      show some (ka_ob 30 [.int (mc + 1), .ref a, .int (Int32.ofNat xs.length + 1)]) = _
      rw [k3_succ]
      rfl
    · rw [ka_ne hal.symm, k3_nat (by omega)]
      exact ka_same
    · rw [List.length_append]; simp; omega
    · intro i hi
      exact kl_addg hi (fun j hj => (hg j (by omega)).trans (p7 j hj))
  · refine ka_ifP (fun h => hfull ((k3_eq (by omega) (by omega)).mp h)) ?_
    unfold pb_J2_add_2_11
    have hft : f = true := by
      cases f with
      | true => rfl
      | false =>
        have := p5 rfl
        omega
    subst hft
    have haH := hn rfl
    have hvl : v ≠ l ∨ v = l := (Nat.decEq v l).byCases (fun e => Or.inr e) (fun e => Or.inl e)
    have hcls : ∃ o', ka_up (ka_up (ka_up H l (ka_ob 30 [.int mc, .ref b, .int (Int32.ofNat xs.length)])) b (ka_rr true n g)) l (ka_ob 30 ([Value.int mc, .ref b, .int (Int32.ofNat xs.length)].set 0 (.int (mc + 1)))) v = some o' ∧ ka_cls o' = some c := by
      rcases hvl with e | e
      · exact ⟨o, by rw [ka_ne e, ka_ne hvb, ka_ne e]; exact hv, hc⟩
      · subst e
        rw [hl] at hv
        cases hv
        cases hc
        exact ⟨_, ka_same, rfl⟩
    obtain ⟨o', ho', hco'⟩ := hcls
    refine ka_stR (by first | exact ka_same | assumption | exact ka_ne1 (by first | assumption | exact Ne.symm (by assumption)) (by first | exact ka_same | assumption | exact ka_ne1 (by first | assumption | exact Ne.symm (by assumption)) (by first | exact ka_same | assumption | exact ka_ne1 (by first | assumption | exact Ne.symm (by assumption)) (by first | exact ka_same | assumption | exact ka_ne1 (by first | assumption | exact Ne.symm (by assumption)) (by first | exact ka_same | assumption | exact ka_ne1 (by first | assumption | exact Ne.symm (by assumption)) (by first | exact ka_same | assumption | exact ka_ne1 (by first | assumption | exact Ne.symm (by assumption)) (by first | exact ka_same | assumption))))))) ho' hco' (Or.inl rfl) (k3_in (by omega) (by omega)) ?_
    refine ka_pI (by first | exact ka_same | assumption | exact ka_ne1 (by first | assumption | exact Ne.symm (by assumption)) (by first | exact ka_same | assumption | exact ka_ne1 (by first | assumption | exact Ne.symm (by assumption)) (by first | exact ka_same | assumption | exact ka_ne1 (by first | assumption | exact Ne.symm (by assumption)) (by first | exact ka_same | assumption | exact ka_ne1 (by first | assumption | exact Ne.symm (by assumption)) (by first | exact ka_same | assumption | exact ka_ne1 (by first | assumption | exact Ne.symm (by assumption)) (by first | exact ka_same | assumption | exact ka_ne1 (by first | assumption | exact Ne.symm (by assumption)) (by first | exact ka_same | assumption))))))) rfl rfl (Nat.le_of_ble_eq_true rfl) ?_
    refine ka_pureE (ka_fold (b := b) (n := n) (f := true) (g := va_up g xs.length (some v)) (ka_ag_l (ka_ag_new (ka_ag_l (ka_ag_b (ka_ag_l ka_ag_refl) hb)) haH)) ?_ ?_ ?_ p4 (fun h => by cases h) (fun h => by omega) ?_ (fun _ => haH)) ⟨by omega, rfl⟩
    · rw [ka_same, List.length_append]
      show some (ka_ob 30 [.int (mc + 1), .ref b, .int (Int32.ofNat xs.length + 1)]) = _
      rw [k3_succ]
      rfl
    · rw [ka_ne n1, k3_nat (by omega)]
      exact ka_same
    · rw [List.length_append]; simp; omega
    · intro i hi
      exact kl_addg hi p7
end KAG
