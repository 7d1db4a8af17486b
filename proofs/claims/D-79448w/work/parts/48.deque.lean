set_option maxRecDepth 100000
/-! ===== deques ===== -/
/-- what is known of the array behind a deque -/
def kq_W (h : Nat) (xs : List Nat) (g : Nat → Option Nat) : Prop := h < 17 ∧ xs.length < 16 ∧ ∀ i, i < 17 → g ((h + i) % 17) = xs[i]?
abbrev kq_ob (b h n : Nat) : ka_O := ka_ob 32 [.ref b, .int (Int32.ofNat h), .int (Int32.ofNat ((h + n) % 17))]
theorem kq_open {α : Type} {Z : ka_Z} {w : Nat} {H : ka_H} {Q : α → Nat → ka_H → Prop} {x : km_M α} {l : Nat} {xs : List Nat} (hl : H l = some (ka_dq xs)) (k : ∀ (b h : Nat) (g : Nat → Option Nat), kq_W h xs g → b ≠ l → l ≠ b → H b = none → ka_T Z x w (ka_up (ka_up H l (kq_ob b h xs.length)) b (ka_aR 4 17 g)) Q) : ka_T Z x w H Q := by
  intro σ hR
  obtain ⟨b, e, fl, e2, hP, p1, p2, n1, hn, hb, hR2⟩ := ka_openS hR hl trivial
  obtain ⟨h, g, q1, q2, q3, q4, q5⟩ := hP
  rw [p1] at q1
  cases q1
  rw [p2] at q2
  cases q2
  exact k b h g ⟨q3, q4, q5⟩ n1 n1.symm (hn rfl) σ hR2
theorem kq_fold {Z : ka_Z} {w : Nat} {H G : ka_H} {l b h : Nat} {xs : List Nat} {g : Nat → Option Nat} (hag : ka_ag H G l) (hG : G l = some (kq_ob b h xs.length)) (hb : G b = some (ka_aR 4 17 g)) (hW : kq_W h xs g) (hn : H b = none) : ka_ent Z w G (ka_up H l (ka_dq xs)) :=
  ka_foldS hag hG hb (fun m h1 h2 => ⟨h, g, h1, h2, hW.1, hW.2.1, hW.2.2⟩) trivial (fun _ => hn)
theorem kq_fold_id {Z : ka_Z} {w : Nat} {H G : ka_H} {l b h : Nat} {xs : List Nat} {g : Nat → Option Nat} (hl : H l = some (ka_dq xs)) (hag : ka_ag H G l) (hG : G l = some (kq_ob b h xs.length)) (hb : G b = some (ka_aR 4 17 g)) (hW : kq_W h xs g) (hn : H b = none) : ka_ent Z w G H := by
  have h := kq_fold (Z := Z) (w := w) hag hG hb hW hn
  rw [ka_up_id hl] at h
  exact h
theorem kq_subL : ∀ h : Fin 17, ∀ n : Fin 17, (0 ≤ Int32.ofNat ((h.val + n.val) % 17) - Int32.ofNat h.val → Int32.ofNat ((h.val + n.val) % 17) - Int32.ofNat h.val = Int32.ofNat n.val) ∧ (¬ 0 ≤ Int32.ofNat ((h.val + n.val) % 17) - Int32.ofNat h.val → Int32.ofNat ((h.val + n.val) % 17) - Int32.ofNat h.val + 17 = Int32.ofNat n.val) := by decide +kernel
theorem kq_incL : ∀ i : Fin 17, (Int32.ofNat i.val + 1 < 17 → Int32.ofNat i.val + 1 = Int32.ofNat ((i.val + 1) % 17)) ∧ (¬ Int32.ofNat i.val + 1 < 17 → (0 : Int32) = Int32.ofNat ((i.val + 1) % 17)) := by decide +kernel
theorem kq_decL : ∀ i : Fin 17, (0 ≤ Int32.ofNat i.val + -1 → Int32.ofNat i.val + -1 = Int32.ofNat ((i.val + 16) % 17)) ∧ (¬ 0 ≤ Int32.ofNat i.val + -1 → (17 : Int32) - 1 = Int32.ofNat ((i.val + 16) % 17)) := by decide +kernel
section KDQ
variable {Z : ka_Z} {w : Nat} {H : ka_H} {l : Nat} {xs : List Nat}
theorem kq_inc {i : Nat} (hi : i < 17) : ka_T Z (pm_J4_inc (Int32.ofNat i) (Int32.ofNat 17)) w H (ka_V w H (Int32.ofNat ((i + 1) % 17))) := by
  unfold pm_J4_inc
  have h := kq_incL ⟨i, hi⟩
  exact ka_ite (fun z => ka_pure ⟨h.1 z, rfl, rfl⟩) (fun z => ka_pure ⟨h.2 z, rfl, rfl⟩)
theorem kq_dec {i : Nat} (hi : i < 17) : ka_T Z (pm_J4_dec (Int32.ofNat i) (Int32.ofNat 17)) w H (ka_V w H (Int32.ofNat ((i + 16) % 17))) := by
  unfold pm_J4_dec
  have h := kq_decL ⟨i, hi⟩
  exact ka_ite (fun z => ka_pure ⟨h.1 z, rfl, rfl⟩) (fun z => ka_pure ⟨h.2 z, rfl, rfl⟩)
theorem kq_sub {h n : Nat} (hh : h < 17) (hn : n < 17) : ka_T Z (pm_J4_sub (Int32.ofNat ((h + n) % 17)) (Int32.ofNat h) (Int32.ofNat 17)) w H (ka_V w H (Int32.ofNat n)) := by
  unfold pm_J4_sub
  have h := kq_subL ⟨h, hh⟩ ⟨n, hn⟩
  exact ka_ite (fun z => ka_pure ⟨h.1 z, rfl, rfl⟩) (fun z => ka_pure ⟨h.2 z, rfl, rfl⟩)
theorem kq_init (hl : H l = some (ka_ob 32 kz_AD)) (hw : 22 ≤ w) : ka_T Z (pm_J4_init (some l)) w H (fun _ w' H' => w' = w - 22 ∧ H' = ka_up H l (ka_dq [])) := by
  unfold pm_J4_init pm_J0_init
  refine ka_nn (ka_use (v := ()) (ka_nn (ka_pure ⟨rfl, rfl, rfl⟩)) ?_)
  refine ka_nR (m := 17) (by decide) (by decide) (by decide) (by omega) (fun b hb => ?_)
  have hbl : l ≠ b := ka_dom hl hb
  have hlb := hbl.symm
  refine ka_pR (by first | exact ka_same | assumption | exact ka_ne1 (by first | assumption | exact Ne.symm (by assumption)) (by first | exact ka_same | assumption | exact ka_ne1 (by first | assumption | exact Ne.symm (by assumption)) (by first | exact ka_same | assumption | exact ka_ne1 (by first | assumption | exact Ne.symm (by assumption)) (by first | exact ka_same | assumption | exact ka_ne1 (by first | assumption | exact Ne.symm (by assumption)) (by first | exact ka_same | assumption | exact ka_ne1 (by first | assumption | exact Ne.symm (by assumption)) (by first | exact ka_same | assumption | exact ka_ne1 (by first | assumption | exact Ne.symm (by assumption)) (by first | exact ka_same | assumption))))))) rfl (Nat.le_of_ble_eq_true rfl) ?_
  refine ka_pureE (kq_fold (H := H) (b := b) (h := 0) (xs := []) (g := fun _ => none) (ka_ag_l (ka_ag_new ka_ag_refl hb)) ka_same (by first | exact ka_same | assumption | exact ka_ne1 (by first | assumption | exact Ne.symm (by assumption)) (by first | exact ka_same | assumption | exact ka_ne1 (by first | assumption | exact Ne.symm (by assumption)) (by first | exact ka_same | assumption | exact ka_ne1 (by first | assumption | exact Ne.symm (by assumption)) (by first | exact ka_same | assumption | exact ka_ne1 (by first | assumption | exact Ne.symm (by assumption)) (by first | exact ka_same | assumption | exact ka_ne1 (by first | assumption | exact Ne.symm (by assumption)) (by first | exact ka_same | assumption | exact ka_ne1 (by first | assumption | exact Ne.symm (by assumption)) (by first | exact ka_same | assumption))))))) ⟨by omega, by decide, fun i _ => by simp⟩ hb) ⟨rfl, rfl⟩
/-- what is read off the raw cells -/
theorem kq_sizeR {G : ka_H} {b h n : Nat} {g : Nat → Option Nat} (hG : G l = some (kq_ob b h n)) (hb : G b = some (ka_aR 4 17 g)) (hh : h < 17) (hn : n < 17) : ka_T Z (pm_J4_size (some l)) w G (ka_V w G (Int32.ofNat n)) := by
  unfold pm_J4_size
  refine ka_gI hG rfl rfl (ka_gI hG rfl rfl (ka_gR hG rfl rfl (ka_len hb rfl ?_)))
  exact ka_use (kq_sub hh hn) (ka_pure ⟨rfl, rfl, rfl⟩)
theorem kq_ag {b : Nat} {o1 o2 : ka_O} (hb : H b = none) : ka_ag H (ka_up (ka_up H l o1) b o2) l := fun x o hx ho => (ka_ne (ka_dom ho hb)).trans ((ka_ne hx).trans ho)
theorem kq_size (hl : H l = some (ka_dq xs)) : ka_T Z (pm_J4_size (some l)) w H (ka_V w H (Int32.ofNat xs.length)) := by
  refine kq_open hl (fun b h g hW n1 n2 hb => ?_)
  refine ka_postE (kq_sizeR (b := b) (h := h) (n := xs.length) (g := g) ((ka_ne n2).trans ka_same) ka_same hW.1 (by have := hW.2.1; omega)) (fun r w' G hp => ?_)
  obtain ⟨rfl, rfl, rfl⟩ := hp
  exact ⟨H, kq_fold_id hl (kq_ag hb) ((ka_ne n2).trans ka_same) ka_same hW hb, rfl, rfl, rfl⟩
theorem kq_isEmpty (hl : H l = some (ka_dq xs)) : ka_T Z (pm_J4_isEmpty (some l)) w H (ka_V w H (if xs = [] then 1 else 0)) := by
  refine kq_open hl (fun b h g hW n1 n2 hb => ?_)
  have hback : ∀ r : Int32, r = (if xs = [] then 1 else 0) → ka_T Z (km_bind (km_ret .boolean r) (fun v => km_pure v)) w (ka_up (ka_up H l (kq_ob b h xs.length)) b (ka_aR 4 17 g)) (ka_V w H (if xs = [] then 1 else 0)) := fun r hr => by
    refine ka_ret (kb_fit (by rw [hr]; split <;> simp)) ?_
    exact ka_pureE (kq_fold_id hl (kq_ag hb) ((ka_ne n2).trans ka_same) ka_same hW hb) ⟨hr, rfl, rfl⟩
  have hl1 : ka_up (ka_up H l (kq_ob b h xs.length)) b (ka_aR 4 17 g) l = some (kq_ob b h xs.length) := (ka_ne n2).trans ka_same
  have hh := hW.1
  have hx := hW.2.1
  unfold pm_J4_isEmpty
  refine ka_gI hl1 rfl rfl (ka_gI hl1 rfl rfl ?_)
  have hiff : Int32.ofNat h = Int32.ofNat ((h + xs.length) % 17) ↔ xs = [] := by
    rw [k3_eq (by omega) (by omega)]
    constructor
    · intro z
      exact List.eq_nil_of_length_eq_zero (by omega)
    · intro z
      rw [z]
      simp
      omega
  by_cases he : xs = []
  · exact ka_ifN (fun z => z (hiff.mpr he)) (hback 1 (by rw [if_pos he]))
  · exact ka_ifP (fun z => he (hiff.mp z)) (hback 0 (by rw [if_neg he]))
theorem kq_addLast {v c : Nat} {o : ka_O} (hl : H l = some (ka_dq xs)) (hv : H v = some o) (hc : ka_cls o = some c) (hx : xs.length < 15) : ka_T Z (pm_J4_addLast (some l) (some v)) w H (fun _ w' H' => w' = w ∧ H' = ka_up H l (ka_dq (xs ++ [v]))) := by
  refine kq_open hl (fun b h g hW n1 n2 hb => ?_)
  obtain ⟨hh, -, hg⟩ := hW
  have hl1 : ka_up (ka_up H l (kq_ob b h xs.length)) b (ka_aR 4 17 g) l = some (kq_ob b h xs.length) := (ka_ne n2).trans ka_same
  have hv1 : ∃ o', ka_up (ka_up H l (kq_ob b h xs.length)) b (ka_aR 4 17 g) v = some o' ∧ ∃ c', ka_cls o' = some c' := by
    by_cases e : v = l
    · subst e
      exact ⟨_, hl1, _, rfl⟩
    · exact ⟨o, (ka_ne (ka_dom hv hb)).trans ((ka_ne e).trans hv), c, hc⟩
  obtain ⟨o', hv2, c', hc'⟩ := hv1
  unfold pm_J4_addLast
  refine ka_ifN (by simp) ?_
  refine ka_gR hl1 rfl rfl (ka_gI hl1 rfl rfl ?_)
  refine ka_stR ka_same hv2 hc' (Or.inl rfl) (k3_in (by omega) (by omega)) ?_
  rw [ka_up_up, k3_nat (by omega)]
  have hl2 : ka_up (ka_up H l (kq_ob b h xs.length)) b (ka_aR 4 17 (va_up g ((h + xs.length) % 17) (some v))) l = some (kq_ob b h xs.length) := (ka_ne n2).trans ka_same
  refine ka_gI hl2 rfl rfl (ka_gI hl2 rfl rfl (ka_len ka_same rfl ?_))
  refine ka_use (kq_inc (by omega)) ?_
  refine ka_pI hl2 rfl rfl (Nat.le_of_ble_eq_true rfl) ?_
  refine ka_ifP (fun z => ?_) ?_
  · have := (k3_eq (by omega) (by omega)).mp z
    omega
  · rw [ka_up_comm (a := b) n1, ka_up_up]
    have e1 : Int32.ofNat (((h + xs.length) % 17 + 1) % 17) = Int32.ofNat ((h + (xs ++ [v]).length) % 17) := by
      rw [List.length_append]
      simp only [List.length_cons, List.length_nil]
      congr 1
      omega
    refine ka_pureE (kq_fold (H := H) (b := b) (h := h) (xs := xs ++ [v]) (g := va_up g ((h + xs.length) % 17) (some v)) (kq_ag hb) ?_ ka_same ⟨hh, by rw [List.length_append]; simp only [List.length_cons, List.length_nil]; omega, fun i hi => ?_⟩ hb) ⟨rfl, rfl⟩
    · refine (ka_ne n2).trans (ka_same.trans ?_)
      show some (ka_ob 32 [.ref b, .int (Int32.ofNat h), .int (Int32.ofNat (((h + xs.length) % 17 + 1) % 17))]) = _
      rw [e1]
    · unfold va_up
      by_cases e : i = xs.length
      · subst e
        rw [if_pos rfl]
        simp
      · rw [if_neg (by omega), hg i hi]
        by_cases e2 : i < xs.length
        · rw [List.getElem?_append_left e2]
        · rw [List.getElem?_eq_none (by omega), List.getElem?_eq_none (by rw [List.length_append]; simp only [List.length_cons, List.length_nil]; omega)]
theorem kq_removeFirst {v : Nat} {t : List Nat} (hl : H l = some (ka_dq (v :: t))) : ka_T Z (pm_J4_removeFirst (some l)) w H (fun r w' H' => r = some v ∧ w' = w ∧ H' = ka_up H l (ka_dq t)) := by
  unfold pm_J4_removeFirst pm_J4_pollFirst
  refine ka_is hl rfl ?_
  refine ka_call (P := fun r w' H' => r = some v ∧ w' = w ∧ H' = ka_up H l (ka_dq t)) ?_ (fun r w' H' hp => ?_)
  · refine kq_open hl (fun b h g hW n1 n2 hb => ?_)
    obtain ⟨hh, hx, hg⟩ := hW
    have hl1 : ka_up (ka_up H l (kq_ob b h (v :: t).length)) b (ka_aR 4 17 g) l = some (kq_ob b h (v :: t).length) := (ka_ne n2).trans ka_same
    refine ka_gR hl1 rfl rfl (ka_gI hl1 rfl rfl ?_)
    have hg0 : g h = some v := by
      have := hg 0 (by omega)
      rw [Nat.add_zero, Nat.mod_eq_of_lt hh] at this
      exact this
    refine ka_use (v := some v) ?_ ?_
    · unfold pm_J4_elementAt
      refine ka_ldR ka_same (k3_in hh (by omega)) (ka_pure ⟨?_, rfl, rfl⟩)
      rw [k3_nat (by omega), hg0]
    · refine ka_ifN (by simp) ?_
      refine ka_stN ka_same (k3_in hh (by omega)) ?_
      rw [ka_up_up, k3_nat (by omega)]
      have hl2 : ka_up (ka_up H l (kq_ob b h (v :: t).length)) b (ka_aR 4 17 (va_up g h none)) l = some (kq_ob b h (v :: t).length) := (ka_ne n2).trans ka_same
      refine ka_len ka_same rfl (ka_use (kq_inc hh) ?_)
      refine ka_pI hl2 rfl rfl (Nat.le_of_ble_eq_true rfl) ?_
      rw [ka_up_comm (a := b) n1, ka_up_up]
      simp only [List.length_cons] at hx
      refine ka_pureE (kq_fold (H := H) (b := b) (h := (h + 1) % 17) (xs := t) (g := va_up g h none) (kq_ag hb) ?_ ka_same ⟨by omega, by omega, fun i hi => ?_⟩ hb) ⟨rfl, rfl, rfl⟩
      · refine (ka_ne n2).trans (ka_same.trans ?_)
        show some (ka_ob 32 [.ref b, .int (Int32.ofNat ((h + 1) % 17)), .int (Int32.ofNat ((h + (t.length + 1)) % 17))]) = _
        have e1 : (h + (t.length + 1)) % 17 = ((h + 1) % 17 + t.length) % 17 := by omega
        rw [e1]
      · unfold va_up
        by_cases e : i = 16
        · subst e
          rw [if_pos (by omega), List.getElem?_eq_none (by omega)]
        · rw [if_neg (by omega)]
          have := hg (i + 1) (by omega)
          rw [List.getElem?_cons_succ] at this
          rw [← this]
          congr 1
          omega
  · obtain ⟨rfl, rfl, rfl⟩ := hp
    exact ka_ifN (by simp) (ka_pure ⟨rfl, rfl, rfl⟩)
theorem kq_removeLast {v : Nat} (hl : H l = some (ka_dq (xs ++ [v]))) : ka_T Z (pm_J4_removeLast (some l)) w H (fun r w' H' => r = some v ∧ w' = w ∧ H' = ka_up H l (ka_dq xs)) := by
  unfold pm_J4_removeLast pm_J4_pollLast
  refine ka_is hl rfl ?_
  refine ka_call (P := fun r w' H' => r = some v ∧ w' = w ∧ H' = ka_up H l (ka_dq xs)) ?_ (fun r w' H' hp => ?_)
  · refine kq_open hl (fun b h g hW n1 n2 hb => ?_)
    obtain ⟨hh, hx, hg⟩ := hW
    have hlen : (xs ++ [v]).length = xs.length + 1 := by rw [List.length_append]; rfl
    rw [hlen] at hx ⊢
    have hl1 : ka_up (ka_up H l (kq_ob b h (xs.length + 1))) b (ka_aR 4 17 g) l = some (kq_ob b h (xs.length + 1)) := (ka_ne n2).trans ka_same
    refine ka_gR hl1 rfl rfl (ka_gI hl1 rfl rfl (ka_len ka_same rfl ?_))
    refine ka_use (kq_dec (by omega)) ?_
    have e0 : ((h + (xs.length + 1)) % 17 + 16) % 17 = (h + xs.length) % 17 := by omega
    rw [e0]
    have hg0 : g ((h + xs.length) % 17) = some v := by
      rw [hg xs.length (by omega)]
      simp
    refine ka_use (v := some v) ?_ ?_
    · unfold pm_J4_elementAt
      refine ka_ldR ka_same (k3_in (by omega) (by omega)) (ka_pure ⟨?_, rfl, rfl⟩)
      rw [k3_nat (by omega), hg0]
    · refine ka_ifN (by simp) ?_
      refine ka_pI hl1 rfl rfl (Nat.le_of_ble_eq_true rfl) ?_
      rw [ka_up_comm (a := b) n1, ka_up_up]
      refine ka_stN ka_same (k3_in (by omega) (by omega)) ?_
      rw [ka_up_up, k3_nat (by omega)]
      refine ka_pureE (kq_fold (H := H) (b := b) (h := h) (xs := xs) (g := va_up g ((h + xs.length) % 17) none) (kq_ag hb) ((ka_ne n2).trans ka_same) ka_same ⟨hh, by omega, fun i hi => ?_⟩ hb) ⟨rfl, rfl, rfl⟩
      unfold va_up
      by_cases e : i = xs.length
      · subst e
        rw [if_pos rfl, List.getElem?_eq_none (Nat.le_refl _)]
      · rw [if_neg (by omega), hg i hi]
        by_cases e2 : i < xs.length
        · rw [List.getElem?_append_left e2]
        · rw [List.getElem?_eq_none (by omega), List.getElem?_eq_none (by omega)]
  · obtain ⟨rfl, rfl, rfl⟩ := hp
    exact ka_ifN (by simp) (ka_pure ⟨rfl, rfl, rfl⟩)
theorem kq_clr {G : ka_H} {b e : Nat} (he : e ≤ 17) : ∀ (d i fuel : Nat) (g : Nat → Option Nat), i + d = e → d < fuel → ka_T Z (pb_J4_circularClear_12 fuel (some b) (Int32.ofNat i) (Int32.ofNat e) (Int32.ofNat e)) w (ka_up G b (ka_aR 4 17 g)) (fun _ w' H' => w' = w ∧ ∃ g', H' = ka_up G b (ka_aR 4 17 g') ∧ ∀ j, g' j = if i ≤ j ∧ j < e then none else g j) := by
  intro d
  induction d with
  | zero =>
    intro i fuel g hi hf
    obtain ⟨fuel, rfl⟩ : ∃ n, fuel = n + 1 := ⟨fuel - 1, by omega⟩
    unfold pb_J4_circularClear_12
    refine ka_ifP ((k3_le (by omega) (by omega)).mpr (by omega)) (ka_ifN (fun z => z rfl) (ka_pure ⟨rfl, g, rfl, fun j => ?_⟩))
    rw [if_neg (by omega)]
  | succ d ih =>
    intro i fuel g hi hf
    obtain ⟨fuel, rfl⟩ : ∃ n, fuel = n + 1 := ⟨fuel - 1, by omega⟩
    unfold pb_J4_circularClear_12
    refine ka_ifN (fun z => absurd ((k3_le (by omega) (by omega)).mp z) (by omega)) ?_
    refine ka_stN ka_same (k3_in (by omega) (by omega)) ?_
    rw [ka_up_up, k3_nat (by omega), k3_succ]
    refine ka_post (ih (i + 1) fuel (va_up g i none) (by omega) (by omega)) (fun r w' H' hp => ?_)
    obtain ⟨g1, g', g2, g3⟩ := hp
    refine ⟨g1, g', g2, fun j => ?_⟩
    rw [g3]
    unfold va_up
    by_cases h1 : j = i
    · rw [if_neg (by omega), if_pos h1, if_pos (by omega)]
    · by_cases h2 : i + 1 ≤ j ∧ j < e
      · rw [if_pos h2, if_pos (by omega)]
      · rw [if_neg h2, if_neg h1, if_neg (by omega)]
theorem kq_clr17 {G : ka_H} {b e : Nat} (he : e < 17) : ∀ (d i fuel : Nat) (g : Nat → Option Nat), i + d = 17 → d + 20 < fuel → ka_T Z (pb_J4_circularClear_12 fuel (some b) (Int32.ofNat i) (Int32.ofNat e) (Int32.ofNat 17)) w (ka_up G b (ka_aR 4 17 g)) (fun _ w' H' => w' = w ∧ ∃ g', H' = ka_up G b (ka_aR 4 17 g') ∧ ∀ j, g' j = if j < e ∨ (i ≤ j ∧ j < 17) then none else g j) := by
  intro d
  induction d with
  | zero =>
    intro i fuel g hi hf
    obtain ⟨fuel, rfl⟩ : ∃ n, fuel = n + 1 := ⟨fuel - 1, by omega⟩
    unfold pb_J4_circularClear_12
    refine ka_ifP ((k3_le (by omega) (by omega)).mpr (by omega)) (ka_ifP (fun z => ?_) ?_)
    · have := (k3_eq (by omega) (by omega)).mp z
      omega
    · refine ka_post (kq_clr (by omega) e 0 fuel g (by omega) (by omega)) (fun r w' H' hp => ?_)
      obtain ⟨g1, g', g2, g3⟩ := hp
      refine ⟨g1, g', g2, fun j => ?_⟩
      rw [g3]
      by_cases h : j < e
      · rw [if_pos (by omega), if_pos (by omega)]
      · rw [if_neg (by omega), if_neg (by omega)]
  | succ d ih =>
    intro i fuel g hi hf
    obtain ⟨fuel, rfl⟩ : ∃ n, fuel = n + 1 := ⟨fuel - 1, by omega⟩
    unfold pb_J4_circularClear_12
    refine ka_ifN (fun z => absurd ((k3_le (by omega) (by omega)).mp z) (by omega)) ?_
    refine ka_stN ka_same (k3_in (by omega) (by omega)) ?_
    rw [ka_up_up, k3_nat (by omega), k3_succ]
    refine ka_post (ih (i + 1) fuel (va_up g i none) (by omega) (by omega)) (fun r w' H' hp => ?_)
    obtain ⟨g1, g', g2, g3⟩ := hp
    refine ⟨g1, g', g2, fun j => ?_⟩
    rw [g3]
    unfold va_up
    by_cases h1 : j = i
    · rw [if_pos h1, if_pos (c := j < e ∨ i ≤ j ∧ j < 17) (by omega)]
      split <;> rfl
    · by_cases h2 : j < e ∨ (i + 1 ≤ j ∧ j < 17)
      · rw [if_pos h2, if_pos (by omega)]
      · rw [if_neg h2, if_neg h1, if_neg (by omega)]
theorem kq_clear (hl : H l = some (ka_dq xs)) : ka_T Z (pm_J4_clear (some l)) w H (fun _ w' H' => w' = w ∧ H' = ka_up H l (ka_dq [])) := by
  unfold pm_J4_clear
  refine kq_open hl (fun b h g hW n1 n2 hb => ?_)
  obtain ⟨hh, hx, hg⟩ := hW
  have hl1 : ka_up (ka_up H l (kq_ob b h xs.length)) b (ka_aR 4 17 g) l = some (kq_ob b h xs.length) := (ka_ne n2).trans ka_same
  refine ka_gR hl1 rfl rfl (ka_gI hl1 rfl rfl (ka_gI hl1 rfl rfl ?_))
  refine ka_call (P := fun _ w' H' => w' = w ∧ ∃ g', H' = ka_up (ka_up H l (kq_ob b h xs.length)) b (ka_aR 4 17 g') ∧ ∀ j, j < 17 → g' j = none) ?_ (fun _ w' H' hp => ?_)
  · have hnone : ∀ j, j < 17 → ¬ (∃ i, i < xs.length ∧ j = (h + i) % 17) → g j = none := fun j hj hn => by
      have h1 := hg ((j + 17 - h) % 17) (by omega)
      have e : (h + (j + 17 - h) % 17) % 17 = j := by omega
      rw [e] at h1
      rw [h1]
      refine List.getElem?_eq_none ?_
      refine Nat.le_of_not_lt (fun z => hn ⟨_, z, by omega⟩)
    unfold pm_J4_circularClear pb_J4_circularClear_11
    by_cases hw : h + xs.length < 17
    · have e0 : (h + xs.length) % 17 = h + xs.length := Nat.mod_eq_of_lt hw
      refine ka_ifN (fun z => ?_) ?_
      · have := (k3_lt (by omega) (by omega)).mp z
        omega
      · refine ka_post (kq_clr (e := (h + xs.length) % 17) (by omega) xs.length h km_fuel g (by omega) (by unfold km_fuel; omega)) (fun r w' H' hp => ?_)
        obtain ⟨g1, g', g2, g3⟩ := hp
        refine ⟨g1, g', g2, fun j hj => ?_⟩
        rw [g3]
        split
        · rfl
        · next hz => exact hnone j hj (fun ⟨i, hi, hji⟩ => hz (by omega))
    · refine ka_ifP ((k3_lt (by omega) (by omega)).mpr (by omega)) (ka_len ka_same rfl ?_)
      refine ka_post (kq_clr17 (e := (h + xs.length) % 17) (by omega) (17 - h) h km_fuel g (by omega) (by unfold km_fuel; omega)) (fun r w' H' hp => ?_)
      obtain ⟨g1, g', g2, g3⟩ := hp
      refine ⟨g1, g', g2, fun j hj => ?_⟩
      rw [g3]
      split
      · rfl
      · next hz => exact hnone j hj (fun ⟨i, hi, hji⟩ => hz (by omega))
  · obtain ⟨rfl, g', rfl, hg'⟩ := hp
    have hl2 : ka_up (ka_up H l (kq_ob b h xs.length)) b (ka_aR 4 17 g') l = some (kq_ob b h xs.length) := (ka_ne n2).trans ka_same
    refine ka_pI hl2 rfl rfl (Nat.le_of_ble_eq_true rfl) (ka_pI ka_same rfl rfl (Nat.le_of_ble_eq_true rfl) ?_)
    rw [ka_up_up, ka_up_comm (a := b) n1, ka_up_up]
    refine ka_pureE (kq_fold (H := H) (b := b) (h := 0) (xs := []) (g := g') (kq_ag hb) ((ka_ne n2).trans ka_same) ka_same ⟨by omega, by decide, fun i hi => ?_⟩ hb) ⟨rfl, rfl⟩
    rw [hg' _ (by omega)]
    rfl
/-! the iterator, over raw cells -/
abbrev kq_it (h n i : Nat) (lr : Int32) (l : Nat) : ka_O := ka_ob 34 [.int (Int32.ofNat ((h + i) % 17)), .int (Int32.ofNat (n - i)), .int lr, .ref l]
theorem kq_iterator {b h n : Nat} {g : Nat → Option Nat} (hG : H l = some (kq_ob b h n)) (hb : H b = some (ka_aR 4 17 g)) (hh : h < 17) (hn : n < 17) (hw : 9 ≤ w) : ka_T Z (pm_J4_iterator (some l)) w H (fun r w' H' => ∃ a, r = some a ∧ H a = none ∧ w' = w - 9 ∧ H' = ka_up H a (kq_it h n 0 (-1) l)) := by
  unfold pm_J4_iterator pm_J15_init
  refine ka_new hw (fun a ha => ?_)
  have hla : l ≠ a := ka_dom hG ha
  have hba : b ≠ a := ka_dom hb ha
  refine ka_nn (ka_call (P := fun _ w' H' => w' = w - 9 ∧ H' = ka_up H a (kq_it h n 0 (-1) l)) ?_ (fun _ w' H' hp => ?_))
  · refine ka_pR (by first | exact ka_same | assumption | exact ka_ne1 (by first | assumption | exact Ne.symm (by assumption)) (by first | exact ka_same | assumption | exact ka_ne1 (by first | assumption | exact Ne.symm (by assumption)) (by first | exact ka_same | assumption | exact ka_ne1 (by first | assumption | exact Ne.symm (by assumption)) (by first | exact ka_same | assumption | exact ka_ne1 (by first | assumption | exact Ne.symm (by assumption)) (by first | exact ka_same | assumption | exact ka_ne1 (by first | assumption | exact Ne.symm (by assumption)) (by first | exact ka_same | assumption | exact ka_ne1 (by first | assumption | exact Ne.symm (by assumption)) (by first | exact ka_same | assumption))))))) rfl (Nat.le_of_ble_eq_true rfl) ?_
    refine ka_nn ?_
    refine ka_gR (by first | exact ka_same | assumption | exact ka_ne1 (by first | assumption | exact Ne.symm (by assumption)) (by first | exact ka_same | assumption | exact ka_ne1 (by first | assumption | exact Ne.symm (by assumption)) (by first | exact ka_same | assumption | exact ka_ne1 (by first | assumption | exact Ne.symm (by assumption)) (by first | exact ka_same | assumption | exact ka_ne1 (by first | assumption | exact Ne.symm (by assumption)) (by first | exact ka_same | assumption | exact ka_ne1 (by first | assumption | exact Ne.symm (by assumption)) (by first | exact ka_same | assumption | exact ka_ne1 (by first | assumption | exact Ne.symm (by assumption)) (by first | exact ka_same | assumption))))))) rfl rfl ?_
    rw [ka_up_up]
    refine ka_is ((ka_ne hla).trans hG) rfl (ka_use (kq_sizeR ((ka_ne hla).trans hG) ((ka_ne hba).trans hb) hh hn) ?_)
    refine ka_pI (by first | exact ka_same | assumption | exact ka_ne1 (by first | assumption | exact Ne.symm (by assumption)) (by first | exact ka_same | assumption | exact ka_ne1 (by first | assumption | exact Ne.symm (by assumption)) (by first | exact ka_same | assumption | exact ka_ne1 (by first | assumption | exact Ne.symm (by assumption)) (by first | exact ka_same | assumption | exact ka_ne1 (by first | assumption | exact Ne.symm (by assumption)) (by first | exact ka_same | assumption | exact ka_ne1 (by first | assumption | exact Ne.symm (by assumption)) (by first | exact ka_same | assumption | exact ka_ne1 (by first | assumption | exact Ne.symm (by assumption)) (by first | exact ka_same | assumption))))))) rfl rfl (Nat.le_of_ble_eq_true rfl) ?_
    refine ka_pI (by first | exact ka_same | assumption | exact ka_ne1 (by first | assumption | exact Ne.symm (by assumption)) (by first | exact ka_same | assumption | exact ka_ne1 (by first | assumption | exact Ne.symm (by assumption)) (by first | exact ka_same | assumption | exact ka_ne1 (by first | assumption | exact Ne.symm (by assumption)) (by first | exact ka_same | assumption | exact ka_ne1 (by first | assumption | exact Ne.symm (by assumption)) (by first | exact ka_same | assumption | exact ka_ne1 (by first | assumption | exact Ne.symm (by assumption)) (by first | exact ka_same | assumption | exact ka_ne1 (by first | assumption | exact Ne.symm (by assumption)) (by first | exact ka_same | assumption))))))) rfl rfl (Nat.le_of_ble_eq_true rfl) ?_
    rw [ka_up_up, ka_up_up]
    refine ka_gI ((ka_ne hla).trans hG) rfl rfl ?_
    refine ka_pI (by first | exact ka_same | assumption | exact ka_ne1 (by first | assumption | exact Ne.symm (by assumption)) (by first | exact ka_same | assumption | exact ka_ne1 (by first | assumption | exact Ne.symm (by assumption)) (by first | exact ka_same | assumption | exact ka_ne1 (by first | assumption | exact Ne.symm (by assumption)) (by first | exact ka_same | assumption | exact ka_ne1 (by first | assumption | exact Ne.symm (by assumption)) (by first | exact ka_same | assumption | exact ka_ne1 (by first | assumption | exact Ne.symm (by assumption)) (by first | exact ka_same | assumption | exact ka_ne1 (by first | assumption | exact Ne.symm (by assumption)) (by first | exact ka_same | assumption))))))) rfl rfl (Nat.le_of_ble_eq_true rfl) ?_
    rw [ka_up_up]
    refine ka_pure ⟨rfl, ?_⟩
    show ka_up H a (ka_ob 34 [.int (Int32.ofNat h), .int (Int32.ofNat n), .int (-1), .ref l]) = ka_up H a (ka_ob 34 [.int (Int32.ofNat ((h + 0) % 17)), .int (Int32.ofNat (n - 0)), .int (-1), .ref l])
    rw [Nat.add_zero, Nat.mod_eq_of_lt hh, Nat.sub_zero]
  · obtain ⟨rfl, rfl⟩ := hp
    exact ka_pure ⟨a, rfl, ha, rfl, rfl⟩
theorem kq_dHas {α : Type} {Q : α → Nat → ka_H → Prop} {f : Int32 → km_M α} {it h n i : Nat} {lr : Int32} (hi : H it = some (kq_it h n i lr l)) (hn : n < 17) (k : ka_T Z (f (if i < n then 1 else 0)) w H Q) : ka_T Z (km_bind (km_disp (some it) [(11, pm_X12_hasNext (some it)), (33, pm_J5_hasNext (some it)), (34, pm_J15_hasNext (some it))]) f) w H Q := by
  refine ka_disp hi rfl ?_
  refine ka_use (x := pm_J15_hasNext (some it)) (v := (if i < n then 1 else 0)) ?_ k
  unfold pm_J15_hasNext
  refine ka_gI (by first | exact ka_same | assumption | exact ka_ne1 (by first | assumption | exact Ne.symm (by assumption)) (by first | exact ka_same | assumption | exact ka_ne1 (by first | assumption | exact Ne.symm (by assumption)) (by first | exact ka_same | assumption | exact ka_ne1 (by first | assumption | exact Ne.symm (by assumption)) (by first | exact ka_same | assumption | exact ka_ne1 (by first | assumption | exact Ne.symm (by assumption)) (by first | exact ka_same | assumption | exact ka_ne1 (by first | assumption | exact Ne.symm (by assumption)) (by first | exact ka_same | assumption | exact ka_ne1 (by first | assumption | exact Ne.symm (by assumption)) (by first | exact ka_same | assumption))))))) rfl rfl ?_
  by_cases h : i < n
  · refine ka_ifN (fun z => ?_) ?_
    · have := (k3_le (b := 0) (by omega) (by omega)).mp z
      omega
    · refine ka_ret rfl (ka_pure ⟨by rw [if_pos h], rfl, rfl⟩)
  · refine ka_ifP ((k3_le (b := 0) (by omega) (by omega)).mpr (by omega)) ?_
    refine ka_ret rfl (ka_pure ⟨by rw [if_neg h], rfl, rfl⟩)
theorem kq_dNext {α : Type} {Q : α → Nat → ka_H → Prop} {f : Option Nat → km_M α} {it b h n i v : Nat} {lr : Int32} {g : Nat → Option Nat} (hi : H it = some (kq_it h n i lr l)) (hG : H l = some (kq_ob b h n)) (hb : H b = some (ka_aR 4 17 g)) (hin : i < n) (hn : n < 17) (hv : g ((h + i) % 17) = some v) (k : ka_T Z (f (some v)) w (ka_up H it (kq_it h n (i + 1) (Int32.ofNat ((h + i) % 17)) l)) Q) : ka_T Z (km_bind (km_disp (some it) [(11, pm_X12_next (some it)), (33, pm_J5_next (some it)), (34, pm_J15_next (some it))]) f) w H Q := by
  refine ka_disp hi rfl ?_
  refine ka_call (x := pm_J15_next (some it)) (P := fun r w' H' => r = some v ∧ w' = w ∧ H' = ka_up H it (kq_it h n (i + 1) (Int32.ofNat ((h + i) % 17)) l)) ?_ (fun r w' H' hp => ?_)
  · unfold pm_J15_next
    have hib : b ≠ it := ka_kinds hb hi (by simp)
    refine ka_gI (by first | exact ka_same | assumption | exact ka_ne1 (by first | assumption | exact Ne.symm (by assumption)) (by first | exact ka_same | assumption | exact ka_ne1 (by first | assumption | exact Ne.symm (by assumption)) (by first | exact ka_same | assumption | exact ka_ne1 (by first | assumption | exact Ne.symm (by assumption)) (by first | exact ka_same | assumption | exact ka_ne1 (by first | assumption | exact Ne.symm (by assumption)) (by first | exact ka_same | assumption | exact ka_ne1 (by first | assumption | exact Ne.symm (by assumption)) (by first | exact ka_same | assumption | exact ka_ne1 (by first | assumption | exact Ne.symm (by assumption)) (by first | exact ka_same | assumption))))))) rfl rfl ?_
    refine ka_ifP ((k3_lt (a := 0) (by omega) (by omega)).mpr (by omega)) ?_
    refine ka_gR (by first | exact ka_same | assumption | exact ka_ne1 (by first | assumption | exact Ne.symm (by assumption)) (by first | exact ka_same | assumption | exact ka_ne1 (by first | assumption | exact Ne.symm (by assumption)) (by first | exact ka_same | assumption | exact ka_ne1 (by first | assumption | exact Ne.symm (by assumption)) (by first | exact ka_same | assumption | exact ka_ne1 (by first | assumption | exact Ne.symm (by assumption)) (by first | exact ka_same | assumption | exact ka_ne1 (by first | assumption | exact Ne.symm (by assumption)) (by first | exact ka_same | assumption | exact ka_ne1 (by first | assumption | exact Ne.symm (by assumption)) (by first | exact ka_same | assumption))))))) rfl rfl ?_
    refine ka_gR (by first | exact ka_same | assumption | exact ka_ne1 (by first | assumption | exact Ne.symm (by assumption)) (by first | exact ka_same | assumption | exact ka_ne1 (by first | assumption | exact Ne.symm (by assumption)) (by first | exact ka_same | assumption | exact ka_ne1 (by first | assumption | exact Ne.symm (by assumption)) (by first | exact ka_same | assumption | exact ka_ne1 (by first | assumption | exact Ne.symm (by assumption)) (by first | exact ka_same | assumption | exact ka_ne1 (by first | assumption | exact Ne.symm (by assumption)) (by first | exact ka_same | assumption | exact ka_ne1 (by first | assumption | exact Ne.symm (by assumption)) (by first | exact ka_same | assumption))))))) rfl rfl ?_
    refine ka_gI (by first | exact ka_same | assumption | exact ka_ne1 (by first | assumption | exact Ne.symm (by assumption)) (by first | exact ka_same | assumption | exact ka_ne1 (by first | assumption | exact Ne.symm (by assumption)) (by first | exact ka_same | assumption | exact ka_ne1 (by first | assumption | exact Ne.symm (by assumption)) (by first | exact ka_same | assumption | exact ka_ne1 (by first | assumption | exact Ne.symm (by assumption)) (by first | exact ka_same | assumption | exact ka_ne1 (by first | assumption | exact Ne.symm (by assumption)) (by first | exact ka_same | assumption | exact ka_ne1 (by first | assumption | exact Ne.symm (by assumption)) (by first | exact ka_same | assumption))))))) rfl rfl ?_
    refine ka_use (v := some v) ?_ ?_
    · unfold pm_J4_nonNullElementAt
      refine ka_ldR hb (k3_in (by omega) (by omega)) ?_
      rw [k3_nat (by omega), hv]
      exact ka_ifN (by simp) (ka_pure ⟨rfl, rfl, rfl⟩)
    · refine ka_gI (by first | exact ka_same | assumption | exact ka_ne1 (by first | assumption | exact Ne.symm (by assumption)) (by first | exact ka_same | assumption | exact ka_ne1 (by first | assumption | exact Ne.symm (by assumption)) (by first | exact ka_same | assumption | exact ka_ne1 (by first | assumption | exact Ne.symm (by assumption)) (by first | exact ka_same | assumption | exact ka_ne1 (by first | assumption | exact Ne.symm (by assumption)) (by first | exact ka_same | assumption | exact ka_ne1 (by first | assumption | exact Ne.symm (by assumption)) (by first | exact ka_same | assumption | exact ka_ne1 (by first | assumption | exact Ne.symm (by assumption)) (by first | exact ka_same | assumption))))))) rfl rfl ?_
      refine ka_pI (by first | exact ka_same | assumption | exact ka_ne1 (by first | assumption | exact Ne.symm (by assumption)) (by first | exact ka_same | assumption | exact ka_ne1 (by first | assumption | exact Ne.symm (by assumption)) (by first | exact ka_same | assumption | exact ka_ne1 (by first | assumption | exact Ne.symm (by assumption)) (by first | exact ka_same | assumption | exact ka_ne1 (by first | assumption | exact Ne.symm (by assumption)) (by first | exact ka_same | assumption | exact ka_ne1 (by first | assumption | exact Ne.symm (by assumption)) (by first | exact ka_same | assumption | exact ka_ne1 (by first | assumption | exact Ne.symm (by assumption)) (by first | exact ka_same | assumption))))))) rfl rfl (Nat.le_of_ble_eq_true rfl) ?_
      refine ka_len ((ka_ne hib).trans hb) rfl (ka_use (kq_inc (by omega)) ?_)
      refine ka_pI (by first | exact ka_same | assumption | exact ka_ne1 (by first | assumption | exact Ne.symm (by assumption)) (by first | exact ka_same | assumption | exact ka_ne1 (by first | assumption | exact Ne.symm (by assumption)) (by first | exact ka_same | assumption | exact ka_ne1 (by first | assumption | exact Ne.symm (by assumption)) (by first | exact ka_same | assumption | exact ka_ne1 (by first | assumption | exact Ne.symm (by assumption)) (by first | exact ka_same | assumption | exact ka_ne1 (by first | assumption | exact Ne.symm (by assumption)) (by first | exact ka_same | assumption | exact ka_ne1 (by first | assumption | exact Ne.symm (by assumption)) (by first | exact ka_same | assumption))))))) rfl rfl (Nat.le_of_ble_eq_true rfl) ?_
      refine ka_gI (by first | exact ka_same | assumption | exact ka_ne1 (by first | assumption | exact Ne.symm (by assumption)) (by first | exact ka_same | assumption | exact ka_ne1 (by first | assumption | exact Ne.symm (by assumption)) (by first | exact ka_same | assumption | exact ka_ne1 (by first | assumption | exact Ne.symm (by assumption)) (by first | exact ka_same | assumption | exact ka_ne1 (by first | assumption | exact Ne.symm (by assumption)) (by first | exact ka_same | assumption | exact ka_ne1 (by first | assumption | exact Ne.symm (by assumption)) (by first | exact ka_same | assumption | exact ka_ne1 (by first | assumption | exact Ne.symm (by assumption)) (by first | exact ka_same | assumption))))))) rfl rfl ?_
      refine ka_pI (by first | exact ka_same | assumption | exact ka_ne1 (by first | assumption | exact Ne.symm (by assumption)) (by first | exact ka_same | assumption | exact ka_ne1 (by first | assumption | exact Ne.symm (by assumption)) (by first | exact ka_same | assumption | exact ka_ne1 (by first | assumption | exact Ne.symm (by assumption)) (by first | exact ka_same | assumption | exact ka_ne1 (by first | assumption | exact Ne.symm (by assumption)) (by first | exact ka_same | assumption | exact ka_ne1 (by first | assumption | exact Ne.symm (by assumption)) (by first | exact ka_same | assumption | exact ka_ne1 (by first | assumption | exact Ne.symm (by assumption)) (by first | exact ka_same | assumption))))))) rfl rfl (Nat.le_of_ble_eq_true rfl) ?_
      refine ka_pure ⟨rfl, rfl, ?_⟩
      rw [ka_up_up, ka_up_up]
      show ka_up H it (ka_ob 34 [.int (Int32.ofNat (((h + i) % 17 + 1) % 17)), .int (Int32.ofNat (n - i) - 1), .int (Int32.ofNat ((h + i) % 17)), .ref l]) = _
      have e1 : ((h + i) % 17 + 1) % 17 = (h + (i + 1)) % 17 := by omega
      rw [e1, k3_pred (by omega), Nat.sub_sub]
  · obtain ⟨rfl, rfl, rfl⟩ := hp
    exact k
end KDQ
