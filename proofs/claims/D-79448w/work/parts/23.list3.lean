set_option maxRecDepth 100000
/-! ===== lists: remove, addAll, iterators ===== -/
section KAL3
variable {Z : ka_Z} {w : Nat} {H : ka_H} {l : Nat} {mc : Int32} {xs : List Nat}
theorem ka_ls_at {σ : km_S} (hR : ka_R Z w H σ) (hl : H l = some (ka_ls mc xs)) : ∃ b, σ.2.2.2 l = some (true, .inr (30, [.int mc, .ref b, .int (Int32.ofNat xs.length)])) := by
  obtain ⟨h1, h2, h3, B, h4, h5⟩ := hR
  exact ⟨_, (h4 l _ hl).1⟩
theorem ka_lmc {α : Type} {Q : α → Nat → ka_H → Prop} {f : Int32 → km_M α} (hl : H l = some (ka_ls mc xs)) (k : ka_T Z (f mc) w H Q) : ka_T Z (km_bind (km_gI [(30, 0)] (some l)) f) w H Q := ka_rdr (fun σ hR => by
  obtain ⟨b, h1⟩ := ka_ls_at hR hl
  unfold km_fld
  rw [km_ob_mk h1]
  rfl) k
theorem ka_lsz {α : Type} {Q : α → Nat → ka_H → Prop} {f : Int32 → km_M α} (hl : H l = some (ka_ls mc xs)) (k : ka_T Z (f (Int32.ofNat xs.length)) w H Q) : ka_T Z (km_bind (km_gI [(30, 2)] (some l)) f) w H Q := ka_rdr (fun σ hR => by
  obtain ⟨b, h1⟩ := ka_ls_at hR hl
  unfold km_fld
  rw [km_ob_mk h1]
  rfl) k
/-- the elements behind i move down -/
theorem kl_cpyg {i n : Nat} {g : Nat → Option Nat} (hi : i < xs.length) (p7 : ∀ j, j < xs.length → g j = xs[j]?) (j : Nat) (hj : j < (xs.eraseIdx i).length) : va_up (va_cpy g g (i + 1) i (xs.length - 1 - i)) (xs.length - 1) none j = (xs.eraseIdx i)[j]? := by
  rw [List.length_eraseIdx_of_lt hi] at hj
  unfold va_up va_cpy
  rw [if_neg (by omega), List.getElem?_eraseIdx]
  by_cases h : j < i
  · rw [if_neg (by omega), if_pos h]
    exact p7 j (by omega)
  · rw [if_pos (by omega), if_neg h, p7 _ (by omega)]
    congr 1
    omega
theorem kl_fast {b n i : Nat} {f : Bool} {g : Nat → Option Nat} (hl : H l = some (ka_ls mc xs)) (hi : i < xs.length) (p3 : xs.length ≤ n) (p4 : n ≤ 400) (p5 : f = false → n = 0) (p6 : n = 0 → Z.1 0 = some b) (p7 : ∀ i, i < xs.length → g i = xs[i]?) (n1 : b ≠ l) (n2 : l ≠ b) (hn : f = true → H b = none) (hb : ∀ o, H b = some o → o = ka_rr f n g) : ka_T Z (pm_J2_fastRemove (some l) (some b) (Int32.ofNat i)) w (ka_up (ka_up H l (ka_ob 30 [.int mc, .ref b, .int (Int32.ofNat xs.length)])) b (ka_rr f n g)) (fun r w' H' => w' = w ∧ H' = ka_up H l (ka_ls (mc + 1) (xs.eraseIdx i))) := by
  have hft : f = true := by
    cases f with
    | true => rfl
    | false =>
      have := p5 rfl
      omega
  subst hft
  have haH := hn rfl
  have hlen : (xs.eraseIdx i).length = xs.length - 1 := List.length_eraseIdx_of_lt hi
  unfold pm_J2_fastRemove
  refine ka_gI (by first | exact ka_same | assumption | exact ka_ne1 (by first | assumption | exact Ne.symm (by assumption)) (by first | exact ka_same | assumption | exact ka_ne1 (by first | assumption | exact Ne.symm (by assumption)) (by first | exact ka_same | assumption | exact ka_ne1 (by first | assumption | exact Ne.symm (by assumption)) (by first | exact ka_same | assumption | exact ka_ne1 (by first | assumption | exact Ne.symm (by assumption)) (by first | exact ka_same | assumption | exact ka_ne1 (by first | assumption | exact Ne.symm (by assumption)) (by first | exact ka_same | assumption | exact ka_ne1 (by first | assumption | exact Ne.symm (by assumption)) (by first | exact ka_same | assumption))))))) rfl rfl ?_
  refine ka_pI (by first | exact ka_same | assumption | exact ka_ne1 (by first | assumption | exact Ne.symm (by assumption)) (by first | exact ka_same | assumption | exact ka_ne1 (by first | assumption | exact Ne.symm (by assumption)) (by first | exact ka_same | assumption | exact ka_ne1 (by first | assumption | exact Ne.symm (by assumption)) (by first | exact ka_same | assumption | exact ka_ne1 (by first | assumption | exact Ne.symm (by assumption)) (by first | exact ka_same | assumption | exact ka_ne1 (by first | assumption | exact Ne.symm (by assumption)) (by first | exact ka_same | assumption | exact ka_ne1 (by first | assumption | exact Ne.symm (by assumption)) (by first | exact ka_same | assumption))))))) rfl rfl (Nat.le_of_ble_eq_true rfl) ?_
  refine ka_gI (by first | exact ka_same | assumption | exact ka_ne1 (by first | assumption | exact Ne.symm (by assumption)) (by first | exact ka_same | assumption | exact ka_ne1 (by first | assumption | exact Ne.symm (by assumption)) (by first | exact ka_same | assumption | exact ka_ne1 (by first | assumption | exact Ne.symm (by assumption)) (by first | exact ka_same | assumption | exact ka_ne1 (by first | assumption | exact Ne.symm (by assumption)) (by first | exact ka_same | assumption | exact ka_ne1 (by first | assumption | exact Ne.symm (by assumption)) (by first | exact ka_same | assumption | exact ka_ne1 (by first | assumption | exact Ne.symm (by assumption)) (by first | exact ka_same | assumption))))))) rfl rfl ?_
  have h1 : Int32.ofNat xs.length - 1 = Int32.ofNat (xs.length - 1) := k3_pred (by omega)
  rw [h1]
  have hfin : ∀ g', (∀ j, j < (xs.eraseIdx i).length → va_up g' (xs.length - 1) none j = (xs.eraseIdx i)[j]?) → ∀ G, ka_ag H G l → G b = some (ka_aR 4 n g') → G l = some (ka_ob 30 ([Value.int mc, .ref b, .int (Int32.ofNat xs.length)].set 0 (.int (mc + 1)))) → ka_T Z (pb_J2_fastRemove_34 (some l) (some b) (Int32.ofNat (xs.length - 1))) w G (fun r w' H' => w' = w ∧ H' = ka_up H l (ka_ls (mc + 1) (xs.eraseIdx i))) := by
    intro g' hg' G hag hGb hGl
    unfold pb_J2_fastRemove_34
    refine ka_pI hGl rfl rfl (Nat.le_of_ble_eq_true rfl) ?_
    refine ka_stN (kd := 4) (n := n) (g := g') ((ka_ne n1).trans hGb) (k3_in (by omega) (by omega)) ?_
    refine ka_pureE (ka_fold (b := b) (n := n) (f := true) (g := va_up g' (xs.length - 1) none) (ka_ag_new (ka_ag_l hag) haH) ?_ ?_ (by omega) p4 (fun h => by cases h) (fun h => by omega) hg' (fun _ => haH)) ⟨rfl, rfl⟩
    · rw [ka_ne n2, ka_same, hlen]
      rfl
    · rw [ka_same, k3_nat (by omega)]
  by_cases hlast : xs.length - 1 ≤ i
  · refine ka_ifP ((k3_le (by omega) (by omega)).mpr hlast) ?_
    refine hfin g (fun j hj => ?_) _ (ka_ag_l (ka_ag_new (ka_ag_l ka_ag_refl) haH)) (by first | exact ka_same | assumption | exact ka_ne1 (by first | assumption | exact Ne.symm (by assumption)) (by first | exact ka_same | assumption | exact ka_ne1 (by first | assumption | exact Ne.symm (by assumption)) (by first | exact ka_same | assumption | exact ka_ne1 (by first | assumption | exact Ne.symm (by assumption)) (by first | exact ka_same | assumption | exact ka_ne1 (by first | assumption | exact Ne.symm (by assumption)) (by first | exact ka_same | assumption | exact ka_ne1 (by first | assumption | exact Ne.symm (by assumption)) (by first | exact ka_same | assumption | exact ka_ne1 (by first | assumption | exact Ne.symm (by assumption)) (by first | exact ka_same | assumption))))))) (by first | exact ka_same | assumption | exact ka_ne1 (by first | assumption | exact Ne.symm (by assumption)) (by first | exact ka_same | assumption | exact ka_ne1 (by first | assumption | exact Ne.symm (by assumption)) (by first | exact ka_same | assumption | exact ka_ne1 (by first | assumption | exact Ne.symm (by assumption)) (by first | exact ka_same | assumption | exact ka_ne1 (by first | assumption | exact Ne.symm (by assumption)) (by first | exact ka_same | assumption | exact ka_ne1 (by first | assumption | exact Ne.symm (by assumption)) (by first | exact ka_same | assumption | exact ka_ne1 (by first | assumption | exact Ne.symm (by assumption)) (by first | exact ka_same | assumption)))))))
    have h9 := kl_cpyg (n := n) hi p7 j hj
    rw [← h9]
    unfold va_up va_cpy
    rw [hlen] at hj
    rw [if_neg (by omega), if_neg (by omega), if_neg (by omega)]
  · refine ka_ifN (fun h => hlast ((k3_le (by omega) (by omega)).mp h)) ?_
    refine ka_cpR (s := i + 1) (d := i) (n := xs.length - 1 - i) (k := 4) (n0 := n) (n1 := n) (g := g) (g1 := g) (fl := true) (by first | exact ka_same | assumption | exact ka_ne1 (by first | assumption | exact Ne.symm (by assumption)) (by first | exact ka_same | assumption | exact ka_ne1 (by first | assumption | exact Ne.symm (by assumption)) (by first | exact ka_same | assumption | exact ka_ne1 (by first | assumption | exact Ne.symm (by assumption)) (by first | exact ka_same | assumption | exact ka_ne1 (by first | assumption | exact Ne.symm (by assumption)) (by first | exact ka_same | assumption | exact ka_ne1 (by first | assumption | exact Ne.symm (by assumption)) (by first | exact ka_same | assumption | exact ka_ne1 (by first | assumption | exact Ne.symm (by assumption)) (by first | exact ka_same | assumption))))))) (by first | exact ka_same | assumption | exact ka_ne1 (by first | assumption | exact Ne.symm (by assumption)) (by first | exact ka_same | assumption | exact ka_ne1 (by first | assumption | exact Ne.symm (by assumption)) (by first | exact ka_same | assumption | exact ka_ne1 (by first | assumption | exact Ne.symm (by assumption)) (by first | exact ka_same | assumption | exact ka_ne1 (by first | assumption | exact Ne.symm (by assumption)) (by first | exact ka_same | assumption | exact ka_ne1 (by first | assumption | exact Ne.symm (by assumption)) (by first | exact ka_same | assumption | exact ka_ne1 (by first | assumption | exact Ne.symm (by assumption)) (by first | exact ka_same | assumption))))))) k3_succ rfl (k3_sub (by omega)) (by omega) (by omega) (by omega) (by omega) ?_
    exact hfin _ (kl_cpyg (n := n) hi p7) _ (ka_ag_new (ka_ag_l (ka_ag_new (ka_ag_l ka_ag_refl) haH)) haH) ka_same ((ka_ne n2).trans (by first | exact ka_same | assumption | exact ka_ne1 (by first | assumption | exact Ne.symm (by assumption)) (by first | exact ka_same | assumption | exact ka_ne1 (by first | assumption | exact Ne.symm (by assumption)) (by first | exact ka_same | assumption | exact ka_ne1 (by first | assumption | exact Ne.symm (by assumption)) (by first | exact ka_same | assumption | exact ka_ne1 (by first | assumption | exact Ne.symm (by assumption)) (by first | exact ka_same | assumption | exact ka_ne1 (by first | assumption | exact Ne.symm (by assumption)) (by first | exact ka_same | assumption | exact ka_ne1 (by first | assumption | exact Ne.symm (by assumption)) (by first | exact ka_same | assumption))))))))
theorem kl_removeAt {i v : Nat} (hl : H l = some (ka_ls mc xs)) (hi : xs[i]? = some v) : ka_T Z (pm_J2_remove_2 (some l) (Int32.ofNat i)) w H (fun r w' H' => r = some v ∧ w' = w ∧ H' = ka_up H l (ka_ls (mc + 1) (xs.eraseIdx i))) := by
  obtain ⟨hlt, -⟩ := List.getElem?_eq_some_iff.mp hi
  refine ka_open hl (fun b f n g p3 p4 p5 p6 p7 n1 n2 hn hb => ?_)
  unfold pm_J2_remove_2
  refine ka_gI (by first | exact ka_same | assumption | exact ka_ne1 (by first | assumption | exact Ne.symm (by assumption)) (by first | exact ka_same | assumption | exact ka_ne1 (by first | assumption | exact Ne.symm (by assumption)) (by first | exact ka_same | assumption | exact ka_ne1 (by first | assumption | exact Ne.symm (by assumption)) (by first | exact ka_same | assumption | exact ka_ne1 (by first | assumption | exact Ne.symm (by assumption)) (by first | exact ka_same | assumption | exact ka_ne1 (by first | assumption | exact Ne.symm (by assumption)) (by first | exact ka_same | assumption | exact ka_ne1 (by first | assumption | exact Ne.symm (by assumption)) (by first | exact ka_same | assumption))))))) rfl rfl ?_
  refine ka_use (kl_chk hlt (by omega)) ?_
  refine ka_gR (by first | exact ka_same | assumption | exact ka_ne1 (by first | assumption | exact Ne.symm (by assumption)) (by first | exact ka_same | assumption | exact ka_ne1 (by first | assumption | exact Ne.symm (by assumption)) (by first | exact ka_same | assumption | exact ka_ne1 (by first | assumption | exact Ne.symm (by assumption)) (by first | exact ka_same | assumption | exact ka_ne1 (by first | assumption | exact Ne.symm (by assumption)) (by first | exact ka_same | assumption | exact ka_ne1 (by first | assumption | exact Ne.symm (by assumption)) (by first | exact ka_same | assumption | exact ka_ne1 (by first | assumption | exact Ne.symm (by assumption)) (by first | exact ka_same | assumption))))))) rfl rfl ?_
  refine ka_ldR (by first | exact ka_same | assumption | exact ka_ne1 (by first | assumption | exact Ne.symm (by assumption)) (by first | exact ka_same | assumption | exact ka_ne1 (by first | assumption | exact Ne.symm (by assumption)) (by first | exact ka_same | assumption | exact ka_ne1 (by first | assumption | exact Ne.symm (by assumption)) (by first | exact ka_same | assumption | exact ka_ne1 (by first | assumption | exact Ne.symm (by assumption)) (by first | exact ka_same | assumption | exact ka_ne1 (by first | assumption | exact Ne.symm (by assumption)) (by first | exact ka_same | assumption | exact ka_ne1 (by first | assumption | exact Ne.symm (by assumption)) (by first | exact ka_same | assumption))))))) (k3_in (by omega) (by omega)) ?_
  refine ka_is (by first | exact ka_same | assumption | exact ka_ne1 (by first | assumption | exact Ne.symm (by assumption)) (by first | exact ka_same | assumption | exact ka_ne1 (by first | assumption | exact Ne.symm (by assumption)) (by first | exact ka_same | assumption | exact ka_ne1 (by first | assumption | exact Ne.symm (by assumption)) (by first | exact ka_same | assumption | exact ka_ne1 (by first | assumption | exact Ne.symm (by assumption)) (by first | exact ka_same | assumption | exact ka_ne1 (by first | assumption | exact Ne.symm (by assumption)) (by first | exact ka_same | assumption | exact ka_ne1 (by first | assumption | exact Ne.symm (by assumption)) (by first | exact ka_same | assumption))))))) rfl ?_
  refine ka_call (kl_fast hl hlt p3 p4 p5 p6 p7 n1 n2 hn hb) (fun r w' H' hp => ?_)
  obtain ⟨rfl, rfl⟩ := hp
  exact ka_pure ⟨by rw [k3_nat (by omega), p7 i hlt, hi], rfl, rfl⟩
/-- the first place of v -/
theorem kl_remLoop {v b n : Nat} {f : Bool} {g : Nat → Option Nat} {fs : List Value} (hl : H l = some (ka_ls mc xs)) (hv : H v = some (ka_ob 14 fs)) (p3 : xs.length ≤ n) (p4 : n ≤ 400) (p5 : f = false → n = 0) (p6 : n = 0 → Z.1 0 = some b) (p7 : ∀ i, i < xs.length → g i = xs[i]?) (n1 : b ≠ l) (n2 : l ≠ b) (hn : f = true → H b = none) (hb : ∀ o, H b = some o → o = ka_rr f n g) {p : Nat} (hp : xs[p]? = some v) (hfirst : ∀ j, j < p → xs[j]? ≠ some v) :
    ∀ (d i fuel : Nat), i + d = p → d < fuel → ka_T Z (pb_J2_remove_39 fuel (some l) (some v) (some b) (Int32.ofNat xs.length) (Int32.ofNat i)) w (ka_up (ka_up H l (ka_ob 30 [.int mc, .ref b, .int (Int32.ofNat xs.length)])) b (ka_rr f n g)) (fun r w' H' => w' = w ∧ H' = ka_up H l (ka_ls (mc + 1) (xs.eraseIdx p))) := by
  obtain ⟨hlt, -⟩ := List.getElem?_eq_some_iff.mp hp
  have hvl : v ≠ l := ka_kinds hv hl (by simp)
  have hvb : v ≠ b := fun e => by
    subst e
    have := hb _ hv
    cases this
  intro d
  induction d with
  | zero =>
    intro i fuel hd hf
    obtain ⟨fuel, rfl⟩ : ∃ k, fuel = k + 1 := ⟨fuel - 1, by omega⟩
    have hip : i = p := by omega
    subst hip
    unfold pb_J2_remove_39
    refine ka_ifN (fun h => absurd ((k3_le (by omega) (by omega)).mp h) (by omega)) ?_
    refine ka_ldR (by first | exact ka_same | assumption | exact ka_ne1 (by first | assumption | exact Ne.symm (by assumption)) (by first | exact ka_same | assumption | exact ka_ne1 (by first | assumption | exact Ne.symm (by assumption)) (by first | exact ka_same | assumption | exact ka_ne1 (by first | assumption | exact Ne.symm (by assumption)) (by first | exact ka_same | assumption | exact ka_ne1 (by first | assumption | exact Ne.symm (by assumption)) (by first | exact ka_same | assumption | exact ka_ne1 (by first | assumption | exact Ne.symm (by assumption)) (by first | exact ka_same | assumption | exact ka_ne1 (by first | assumption | exact Ne.symm (by assumption)) (by first | exact ka_same | assumption))))))) (k3_in (by omega) (by omega)) ?_
    rw [k3_nat (by omega), p7 i hlt, hp]
    refine ka_disp (by first | exact ka_same | assumption | exact ka_ne1 (by first | assumption | exact Ne.symm (by assumption)) (by first | exact ka_same | assumption | exact ka_ne1 (by first | assumption | exact Ne.symm (by assumption)) (by first | exact ka_same | assumption | exact ka_ne1 (by first | assumption | exact Ne.symm (by assumption)) (by first | exact ka_same | assumption | exact ka_ne1 (by first | assumption | exact Ne.symm (by assumption)) (by first | exact ka_same | assumption | exact ka_ne1 (by first | assumption | exact Ne.symm (by assumption)) (by first | exact ka_same | assumption | exact ka_ne1 (by first | assumption | exact Ne.symm (by assumption)) (by first | exact ka_same | assumption))))))) rfl ?_
    refine ka_use (v := (1 : Int32)) ?_ ?_
    · show ka_T Z (pm_J25_equals (some v) (some v)) w _ _
      unfold pm_J25_equals
      refine ka_ifN (fun h => h rfl) ?_
      refine ka_ret rfl ?_
      exact ka_pure ⟨rfl, rfl, rfl⟩
    refine ka_ifN (by decide) ?_
    unfold pb_J2_remove_67
    refine ka_is (by first | exact ka_same | assumption | exact ka_ne1 (by first | assumption | exact Ne.symm (by assumption)) (by first | exact ka_same | assumption | exact ka_ne1 (by first | assumption | exact Ne.symm (by assumption)) (by first | exact ka_same | assumption | exact ka_ne1 (by first | assumption | exact Ne.symm (by assumption)) (by first | exact ka_same | assumption | exact ka_ne1 (by first | assumption | exact Ne.symm (by assumption)) (by first | exact ka_same | assumption | exact ka_ne1 (by first | assumption | exact Ne.symm (by assumption)) (by first | exact ka_same | assumption | exact ka_ne1 (by first | assumption | exact Ne.symm (by assumption)) (by first | exact ka_same | assumption))))))) rfl ?_
    refine ka_call (kl_fast hl hlt p3 p4 p5 p6 p7 n1 n2 hn hb) (fun r w' H' hp => ?_)
    refine ka_ret rfl ?_
    exact ka_pure hp
  | succ d ih =>
    intro i fuel hd hf
    obtain ⟨fuel, rfl⟩ : ∃ k, fuel = k + 1 := ⟨fuel - 1, by omega⟩
    unfold pb_J2_remove_39
    refine ka_ifN (fun h => absurd ((k3_le (by omega) (by omega)).mp h) (by omega)) ?_
    refine ka_ldR (by first | exact ka_same | assumption | exact ka_ne1 (by first | assumption | exact Ne.symm (by assumption)) (by first | exact ka_same | assumption | exact ka_ne1 (by first | assumption | exact Ne.symm (by assumption)) (by first | exact ka_same | assumption | exact ka_ne1 (by first | assumption | exact Ne.symm (by assumption)) (by first | exact ka_same | assumption | exact ka_ne1 (by first | assumption | exact Ne.symm (by assumption)) (by first | exact ka_same | assumption | exact ka_ne1 (by first | assumption | exact Ne.symm (by assumption)) (by first | exact ka_same | assumption | exact ka_ne1 (by first | assumption | exact Ne.symm (by assumption)) (by first | exact ka_same | assumption))))))) (k3_in (by omega) (by omega)) ?_
    rw [k3_nat (by omega), p7 i (by omega)]
    refine ka_disp (by first | exact ka_same | assumption | exact ka_ne1 (by first | assumption | exact Ne.symm (by assumption)) (by first | exact ka_same | assumption | exact ka_ne1 (by first | assumption | exact Ne.symm (by assumption)) (by first | exact ka_same | assumption | exact ka_ne1 (by first | assumption | exact Ne.symm (by assumption)) (by first | exact ka_same | assumption | exact ka_ne1 (by first | assumption | exact Ne.symm (by assumption)) (by first | exact ka_same | assumption | exact ka_ne1 (by first | assumption | exact Ne.symm (by assumption)) (by first | exact ka_same | assumption | exact ka_ne1 (by first | assumption | exact Ne.symm (by assumption)) (by first | exact ka_same | assumption))))))) rfl ?_
    refine ka_use (v := (0 : Int32)) ?_ ?_
    · show ka_T Z (pm_J25_equals (some v) xs[i]?) w _ _
      unfold pm_J25_equals
      refine ka_ifP (fun h => hfirst i (by omega) h.symm) ?_
      refine ka_ret rfl ?_
      exact ka_pure ⟨rfl, rfl, rfl⟩
    refine ka_ifP rfl ?_
    rw [k3_succ]
    exact ih (i + 1) fuel (by omega) (by omega)
theorem kl_remove {v p : Nat} {fs : List Value} (hl : H l = some (ka_ls mc xs)) (hv : H v = some (ka_ob 14 fs)) (hp : xs[p]? = some v) (hfirst : ∀ j, j < p → xs[j]? ≠ some v) : ka_T Z (pm_J2_remove (some l) (some v)) w H (fun r w' H' => w' = w ∧ H' = ka_up H l (ka_ls (mc + 1) (xs.eraseIdx p))) := by
  obtain ⟨hlt, -⟩ := List.getElem?_eq_some_iff.mp hp
  refine ka_open hl (fun b f n g p3 p4 p5 p6 p7 n1 n2 hn hb => ?_)
  unfold pm_J2_remove
  refine ka_gR (by first | exact ka_same | assumption | exact ka_ne1 (by first | assumption | exact Ne.symm (by assumption)) (by first | exact ka_same | assumption | exact ka_ne1 (by first | assumption | exact Ne.symm (by assumption)) (by first | exact ka_same | assumption | exact ka_ne1 (by first | assumption | exact Ne.symm (by assumption)) (by first | exact ka_same | assumption | exact ka_ne1 (by first | assumption | exact Ne.symm (by assumption)) (by first | exact ka_same | assumption | exact ka_ne1 (by first | assumption | exact Ne.symm (by assumption)) (by first | exact ka_same | assumption | exact ka_ne1 (by first | assumption | exact Ne.symm (by assumption)) (by first | exact ka_same | assumption))))))) rfl rfl ?_
  refine ka_gI (by first | exact ka_same | assumption | exact ka_ne1 (by first | assumption | exact Ne.symm (by assumption)) (by first | exact ka_same | assumption | exact ka_ne1 (by first | assumption | exact Ne.symm (by assumption)) (by first | exact ka_same | assumption | exact ka_ne1 (by first | assumption | exact Ne.symm (by assumption)) (by first | exact ka_same | assumption | exact ka_ne1 (by first | assumption | exact Ne.symm (by assumption)) (by first | exact ka_same | assumption | exact ka_ne1 (by first | assumption | exact Ne.symm (by assumption)) (by first | exact ka_same | assumption | exact ka_ne1 (by first | assumption | exact Ne.symm (by assumption)) (by first | exact ka_same | assumption))))))) rfl rfl ?_
  refine ka_ifN (by simp) ?_
  exact kl_remLoop hl hv p3 p4 p5 p6 p7 n1 n2 hn hb hp hfirst p 0 km_fuel (by omega) (by unfold km_fuel; omega)
/-- toArray: a new array with the elements -/
theorem kl_toArray (hl : H l = some (ka_ls mc xs)) (hw : xs.length + 5 ≤ w) : ka_T Z (pm_J2_toArray (some l)) w H (fun r w' H' => ∃ (a : Nat) (g : Nat → Option Nat), r = some a ∧ H a = none ∧ w' = w - (xs.length + 5) ∧ H' = ka_up H a (ka_aR 4 xs.length g) ∧ ∀ i, i < xs.length → g i = xs[i]?) := by
  refine ka_open hl (fun b f n g p3 p4 p5 p6 p7 n1 n2 hn hb => ?_)
  unfold pm_J2_toArray
  refine ka_gR (by first | exact ka_same | assumption | exact ka_ne1 (by first | assumption | exact Ne.symm (by assumption)) (by first | exact ka_same | assumption | exact ka_ne1 (by first | assumption | exact Ne.symm (by assumption)) (by first | exact ka_same | assumption | exact ka_ne1 (by first | assumption | exact Ne.symm (by assumption)) (by first | exact ka_same | assumption | exact ka_ne1 (by first | assumption | exact Ne.symm (by assumption)) (by first | exact ka_same | assumption | exact ka_ne1 (by first | assumption | exact Ne.symm (by assumption)) (by first | exact ka_same | assumption | exact ka_ne1 (by first | assumption | exact Ne.symm (by assumption)) (by first | exact ka_same | assumption))))))) rfl rfl ?_
  refine ka_gI (by first | exact ka_same | assumption | exact ka_ne1 (by first | assumption | exact Ne.symm (by assumption)) (by first | exact ka_same | assumption | exact ka_ne1 (by first | assumption | exact Ne.symm (by assumption)) (by first | exact ka_same | assumption | exact ka_ne1 (by first | assumption | exact Ne.symm (by assumption)) (by first | exact ka_same | assumption | exact ka_ne1 (by first | assumption | exact Ne.symm (by assumption)) (by first | exact ka_same | assumption | exact ka_ne1 (by first | assumption | exact Ne.symm (by assumption)) (by first | exact ka_same | assumption | exact ka_ne1 (by first | assumption | exact Ne.symm (by assumption)) (by first | exact ka_same | assumption))))))) rfl rfl ?_
  refine ka_call (kl_copyOf (n := n) (fl := f) (g := g) (by first | exact ka_same | assumption | exact ka_ne1 (by first | assumption | exact Ne.symm (by assumption)) (by first | exact ka_same | assumption | exact ka_ne1 (by first | assumption | exact Ne.symm (by assumption)) (by first | exact ka_same | assumption | exact ka_ne1 (by first | assumption | exact Ne.symm (by assumption)) (by first | exact ka_same | assumption | exact ka_ne1 (by first | assumption | exact Ne.symm (by assumption)) (by first | exact ka_same | assumption | exact ka_ne1 (by first | assumption | exact Ne.symm (by assumption)) (by first | exact ka_same | assumption | exact ka_ne1 (by first | assumption | exact Ne.symm (by assumption)) (by first | exact ka_same | assumption))))))) (fun h => p6 (p5 h)) (by omega) (by omega) hw) (fun r w' H' hp => ?_)
  obtain ⟨a, g', rfl, ha, rfl, rfl, hg⟩ := hp
  obtain ⟨hab, hba, ha⟩ := ka_fr ha
  obtain ⟨hal, hla, ha⟩ := ka_fr ha
  refine ka_pureE (ka_fold_id (H := ka_up H a (ka_aR 4 xs.length g')) (l := l) (mc := mc) (xs := xs) (b := b) (n := n) (f := f) (g := g) (by first | exact ka_same | assumption | exact ka_ne1 (by first | assumption | exact Ne.symm (by assumption)) (by first | exact ka_same | assumption | exact ka_ne1 (by first | assumption | exact Ne.symm (by assumption)) (by first | exact ka_same | assumption | exact ka_ne1 (by first | assumption | exact Ne.symm (by assumption)) (by first | exact ka_same | assumption | exact ka_ne1 (by first | assumption | exact Ne.symm (by assumption)) (by first | exact ka_same | assumption | exact ka_ne1 (by first | assumption | exact Ne.symm (by assumption)) (by first | exact ka_same | assumption | exact ka_ne1 (by first | assumption | exact Ne.symm (by assumption)) (by first | exact ka_same | assumption))))))) ?_ (by first | exact ka_same | assumption | exact ka_ne1 (by first | assumption | exact Ne.symm (by assumption)) (by first | exact ka_same | assumption | exact ka_ne1 (by first | assumption | exact Ne.symm (by assumption)) (by first | exact ka_same | assumption | exact ka_ne1 (by first | assumption | exact Ne.symm (by assumption)) (by first | exact ka_same | assumption | exact ka_ne1 (by first | assumption | exact Ne.symm (by assumption)) (by first | exact ka_same | assumption | exact ka_ne1 (by first | assumption | exact Ne.symm (by assumption)) (by first | exact ka_same | assumption | exact ka_ne1 (by first | assumption | exact Ne.symm (by assumption)) (by first | exact ka_same | assumption))))))) (by first | exact ka_same | assumption | exact ka_ne1 (by first | assumption | exact Ne.symm (by assumption)) (by first | exact ka_same | assumption | exact ka_ne1 (by first | assumption | exact Ne.symm (by assumption)) (by first | exact ka_same | assumption | exact ka_ne1 (by first | assumption | exact Ne.symm (by assumption)) (by first | exact ka_same | assumption | exact ka_ne1 (by first | assumption | exact Ne.symm (by assumption)) (by first | exact ka_same | assumption | exact ka_ne1 (by first | assumption | exact Ne.symm (by assumption)) (by first | exact ka_same | assumption | exact ka_ne1 (by first | assumption | exact Ne.symm (by assumption)) (by first | exact ka_same | assumption))))))) p3 p4 p5 p6 p7 (fun h => (ka_ne hba).trans (hn h))) ⟨a, g', rfl, ha, rfl, rfl, fun i hi => (hg i (by omega) hi).trans (p7 i hi)⟩
  intro x o hx ho
  by_cases e : x = a
  · subst e
    rw [ka_same] at ho ⊢
    exact ho
  · rw [ka_ne e] at ho ⊢
    exact ka_ag_b (ka_ag_l ka_ag_refl) hb x o hx ho
theorem kl_appg {ys : List Nat} {g g' : Nat → Option Nat} (p7 : ∀ i, i < xs.length → g i = xs[i]?) (q7 : ∀ i, i < ys.length → g' i = ys[i]?) (i : Nat) (hi : i < (xs ++ ys).length) : va_cpy g' g 0 xs.length ys.length i = (xs ++ ys)[i]? := by
  rw [List.length_append] at hi
  unfold va_cpy
  by_cases h : i < xs.length
  · rw [if_neg (by omega), List.getElem?_append_left h]
    exact p7 i h
  · rw [if_pos (by omega), List.getElem?_append_right (by omega), Nat.zero_add]
    exact q7 _ (by omega)
/-- addAll of another list -/
theorem kl_addAll {l2 : Nat} {mc2 : Int32} {ys : List Nat} (hl : H l = some (ka_ls mc xs)) (hl2 : H l2 = some (ka_ls mc2 ys)) (hx : xs.length + ys.length ≤ 240) (hw : 700 ≤ w) : ka_T Z (pm_J2_addAll (some l) (some l2)) w H (fun r w' H' => w ≤ w' + 700 ∧ H' = ka_up H l (ka_ls (mc + 1) (xs ++ ys))) := by
  unfold pm_J2_addAll
  refine ka_disp hl2 rfl ?_
  refine ka_call (kl_toArray hl2 (by omega)) (fun r w' H' hp => ?_)
  obtain ⟨a, ga, rfl, ha, rfl, rfl, hga⟩ := hp
  have hla : l ≠ a := ka_dom hl ha
  have hal := hla.symm
  refine ka_open (H := ka_up H a (ka_aR 4 ys.length ga)) (l := l) (mc := mc) (xs := xs) (by first | exact ka_same | assumption | exact ka_ne1 (by first | assumption | exact Ne.symm (by assumption)) (by first | exact ka_same | assumption | exact ka_ne1 (by first | assumption | exact Ne.symm (by assumption)) (by first | exact ka_same | assumption | exact ka_ne1 (by first | assumption | exact Ne.symm (by assumption)) (by first | exact ka_same | assumption | exact ka_ne1 (by first | assumption | exact Ne.symm (by assumption)) (by first | exact ka_same | assumption | exact ka_ne1 (by first | assumption | exact Ne.symm (by assumption)) (by first | exact ka_same | assumption | exact ka_ne1 (by first | assumption | exact Ne.symm (by assumption)) (by first | exact ka_same | assumption))))))) (fun b f n g p3 p4 p5 p6 p7 n1 n2 hn hb => ?_)
  have hab : a ≠ b := fun e => by
    subst e
    have h8 := hb _ ka_same
    have h9 : f = true := by cases h8; rfl
    have := hn h9
    rw [ka_same] at this
    cases this
  have hba := hab.symm
  have hHb : f = true → H b = none := fun h => by have := hn h; rw [ka_ne hba] at this; exact this
  have hHbo : ∀ o, H b = some o → o = ka_rr f n g := fun o ho => hb o ((ka_ne hba).trans ho)
  refine ka_gI (by first | exact ka_same | assumption | exact ka_ne1 (by first | assumption | exact Ne.symm (by assumption)) (by first | exact ka_same | assumption | exact ka_ne1 (by first | assumption | exact Ne.symm (by assumption)) (by first | exact ka_same | assumption | exact ka_ne1 (by first | assumption | exact Ne.symm (by assumption)) (by first | exact ka_same | assumption | exact ka_ne1 (by first | assumption | exact Ne.symm (by assumption)) (by first | exact ka_same | assumption | exact ka_ne1 (by first | assumption | exact Ne.symm (by assumption)) (by first | exact ka_same | assumption | exact ka_ne1 (by first | assumption | exact Ne.symm (by assumption)) (by first | exact ka_same | assumption))))))) rfl rfl ?_
  refine ka_pI (by first | exact ka_same | assumption | exact ka_ne1 (by first | assumption | exact Ne.symm (by assumption)) (by first | exact ka_same | assumption | exact ka_ne1 (by first | assumption | exact Ne.symm (by assumption)) (by first | exact ka_same | assumption | exact ka_ne1 (by first | assumption | exact Ne.symm (by assumption)) (by first | exact ka_same | assumption | exact ka_ne1 (by first | assumption | exact Ne.symm (by assumption)) (by first | exact ka_same | assumption | exact ka_ne1 (by first | assumption | exact Ne.symm (by assumption)) (by first | exact ka_same | assumption | exact ka_ne1 (by first | assumption | exact Ne.symm (by assumption)) (by first | exact ka_same | assumption))))))) rfl rfl (Nat.le_of_ble_eq_true rfl) ?_
  refine ka_len (by first | exact ka_same | assumption | exact ka_ne1 (by first | assumption | exact Ne.symm (by assumption)) (by first | exact ka_same | assumption | exact ka_ne1 (by first | assumption | exact Ne.symm (by assumption)) (by first | exact ka_same | assumption | exact ka_ne1 (by first | assumption | exact Ne.symm (by assumption)) (by first | exact ka_same | assumption | exact ka_ne1 (by first | assumption | exact Ne.symm (by assumption)) (by first | exact ka_same | assumption | exact ka_ne1 (by first | assumption | exact Ne.symm (by assumption)) (by first | exact ka_same | assumption | exact ka_ne1 (by first | assumption | exact Ne.symm (by assumption)) (by first | exact ka_same | assumption))))))) rfl ?_
  by_cases h0 : ys.length = 0
  · refine ka_ifN (fun h => h (by rw [h0]; rfl)) ?_
    refine ka_ret rfl ?_
    have hys : ys = [] := List.length_eq_zero_iff.mp h0
    refine ka_pureE (ka_fold (H := H) (l := l) (mc := mc + 1) (xs := xs ++ ys) (b := b) (n := n) (f := f) (g := g) (ka_ag_l (ka_ag_b (ka_ag_l (ka_ag_new ka_ag_refl ha)) hHbo)) ?_ ?_ (by rw [hys, List.append_nil]; exact p3) p4 p5 p6 (by rw [hys, List.append_nil]; exact p7) hHb) ⟨by omega, rfl⟩
    · rw [hys, List.append_nil]
      exact ka_same
    · first | exact ka_same | assumption | exact ka_ne1 (by first | assumption | exact Ne.symm (by assumption)) (by first | exact ka_same | assumption | exact ka_ne1 (by first | assumption | exact Ne.symm (by assumption)) (by first | exact ka_same | assumption | exact ka_ne1 (by first | assumption | exact Ne.symm (by assumption)) (by first | exact ka_same | assumption | exact ka_ne1 (by first | assumption | exact Ne.symm (by assumption)) (by first | exact ka_same | assumption | exact ka_ne1 (by first | assumption | exact Ne.symm (by assumption)) (by first | exact ka_same | assumption | exact ka_ne1 (by first | assumption | exact Ne.symm (by assumption)) (by first | exact ka_same | assumption))))))
  · refine ka_ifP (fun h => h0 ((k3_eq (b := 0) (by omega) (by decide)).mp h)) ?_
    refine ka_gR (by first | exact ka_same | assumption | exact ka_ne1 (by first | assumption | exact Ne.symm (by assumption)) (by first | exact ka_same | assumption | exact ka_ne1 (by first | assumption | exact Ne.symm (by assumption)) (by first | exact ka_same | assumption | exact ka_ne1 (by first | assumption | exact Ne.symm (by assumption)) (by first | exact ka_same | assumption | exact ka_ne1 (by first | assumption | exact Ne.symm (by assumption)) (by first | exact ka_same | assumption | exact ka_ne1 (by first | assumption | exact Ne.symm (by assumption)) (by first | exact ka_same | assumption | exact ka_ne1 (by first | assumption | exact Ne.symm (by assumption)) (by first | exact ka_same | assumption))))))) rfl rfl ?_
    refine ka_len (by first | exact ka_same | assumption | exact ka_ne1 (by first | assumption | exact Ne.symm (by assumption)) (by first | exact ka_same | assumption | exact ka_ne1 (by first | assumption | exact Ne.symm (by assumption)) (by first | exact ka_same | assumption | exact ka_ne1 (by first | assumption | exact Ne.symm (by assumption)) (by first | exact ka_same | assumption | exact ka_ne1 (by first | assumption | exact Ne.symm (by assumption)) (by first | exact ka_same | assumption | exact ka_ne1 (by first | assumption | exact Ne.symm (by assumption)) (by first | exact ka_same | assumption | exact ka_ne1 (by first | assumption | exact Ne.symm (by assumption)) (by first | exact ka_same | assumption))))))) rfl ?_
    refine ka_gI (by first | exact ka_same | assumption | exact ka_ne1 (by first | assumption | exact Ne.symm (by assumption)) (by first | exact ka_same | assumption | exact ka_ne1 (by first | assumption | exact Ne.symm (by assumption)) (by first | exact ka_same | assumption | exact ka_ne1 (by first | assumption | exact Ne.symm (by assumption)) (by first | exact ka_same | assumption | exact ka_ne1 (by first | assumption | exact Ne.symm (by assumption)) (by first | exact ka_same | assumption | exact ka_ne1 (by first | assumption | exact Ne.symm (by assumption)) (by first | exact ka_same | assumption | exact ka_ne1 (by first | assumption | exact Ne.symm (by assumption)) (by first | exact ka_same | assumption))))))) rfl rfl ?_
    rw [k3_sub p3]
    have hset : ∀ (b2 : Nat), ([Value.int (mc + 1), .ref b2, .int (Int32.ofNat xs.length)] : List Value).set 2 (.int (Int32.ofNat xs.length + Int32.ofNat ys.length)) = [.int (mc + 1), .ref b2, .int (Int32.ofNat (xs ++ ys).length)] := fun b2 => by
      rw [k3_add, List.length_append]
      rfl
    by_cases hfit : ys.length ≤ n - xs.length
    · refine ka_ifP ((k3_le (by omega) (by omega)).mpr hfit) ?_
      have hft : f = true := by
        cases f with
        | true => rfl
        | false =>
          have := p5 rfl
          omega
      subst hft
      have hbn := hHb rfl
      unfold pb_J2_addAll_56
      refine ka_cpR (s := 0) (d := xs.length) (n := ys.length) (k := 4) (n0 := ys.length) (n1 := n) (g := ga) (g1 := g) (fl := true) (by first | exact ka_same | assumption | exact ka_ne1 (by first | assumption | exact Ne.symm (by assumption)) (by first | exact ka_same | assumption | exact ka_ne1 (by first | assumption | exact Ne.symm (by assumption)) (by first | exact ka_same | assumption | exact ka_ne1 (by first | assumption | exact Ne.symm (by assumption)) (by first | exact ka_same | assumption | exact ka_ne1 (by first | assumption | exact Ne.symm (by assumption)) (by first | exact ka_same | assumption | exact ka_ne1 (by first | assumption | exact Ne.symm (by assumption)) (by first | exact ka_same | assumption | exact ka_ne1 (by first | assumption | exact Ne.symm (by assumption)) (by first | exact ka_same | assumption))))))) (by first | exact ka_same | assumption | exact ka_ne1 (by first | assumption | exact Ne.symm (by assumption)) (by first | exact ka_same | assumption | exact ka_ne1 (by first | assumption | exact Ne.symm (by assumption)) (by first | exact ka_same | assumption | exact ka_ne1 (by first | assumption | exact Ne.symm (by assumption)) (by first | exact ka_same | assumption | exact ka_ne1 (by first | assumption | exact Ne.symm (by assumption)) (by first | exact ka_same | assumption | exact ka_ne1 (by first | assumption | exact Ne.symm (by assumption)) (by first | exact ka_same | assumption | exact ka_ne1 (by first | assumption | exact Ne.symm (by assumption)) (by first | exact ka_same | assumption))))))) rfl rfl rfl (by omega) (by omega) (by omega) (by omega) ?_
      refine ka_pI (by first | exact ka_same | assumption | exact ka_ne1 (by first | assumption | exact Ne.symm (by assumption)) (by first | exact ka_same | assumption | exact ka_ne1 (by first | assumption | exact Ne.symm (by assumption)) (by first | exact ka_same | assumption | exact ka_ne1 (by first | assumption | exact Ne.symm (by assumption)) (by first | exact ka_same | assumption | exact ka_ne1 (by first | assumption | exact Ne.symm (by assumption)) (by first | exact ka_same | assumption | exact ka_ne1 (by first | assumption | exact Ne.symm (by assumption)) (by first | exact ka_same | assumption | exact ka_ne1 (by first | assumption | exact Ne.symm (by assumption)) (by first | exact ka_same | assumption))))))) rfl rfl (Nat.le_of_ble_eq_true rfl) ?_
      refine ka_ret rfl ?_
      refine ka_pureE (ka_fold (H := H) (l := l) (mc := mc + 1) (xs := xs ++ ys) (b := b) (n := n) (f := true) (g := va_cpy ga g 0 xs.length ys.length) (ka_ag_l (ka_ag_new (ka_ag_l (ka_ag_new (ka_ag_l (ka_ag_new ka_ag_refl ha)) hbn)) hbn)) ?_ (by first | exact ka_same | assumption | exact ka_ne1 (by first | assumption | exact Ne.symm (by assumption)) (by first | exact ka_same | assumption | exact ka_ne1 (by first | assumption | exact Ne.symm (by assumption)) (by first | exact ka_same | assumption | exact ka_ne1 (by first | assumption | exact Ne.symm (by assumption)) (by first | exact ka_same | assumption | exact ka_ne1 (by first | assumption | exact Ne.symm (by assumption)) (by first | exact ka_same | assumption | exact ka_ne1 (by first | assumption | exact Ne.symm (by assumption)) (by first | exact ka_same | assumption | exact ka_ne1 (by first | assumption | exact Ne.symm (by assumption)) (by first | exact ka_same | assumption))))))) (by rw [List.length_append]; omega) p4 p5 (fun h => by omega) (kl_appg p7 hga) hHb) ⟨by omega, rfl⟩
      · rw [ka_same]
        exact congrArg (fun z => some (ka_ob 30 z)) (hset b)
    · refine ka_ifN (fun h => hfit ((k3_le (by omega) (by omega)).mp h)) ?_
      refine ka_is (by first | exact ka_same | assumption | exact ka_ne1 (by first | assumption | exact Ne.symm (by assumption)) (by first | exact ka_same | assumption | exact ka_ne1 (by first | assumption | exact Ne.symm (by assumption)) (by first | exact ka_same | assumption | exact ka_ne1 (by first | assumption | exact Ne.symm (by assumption)) (by first | exact ka_same | assumption | exact ka_ne1 (by first | assumption | exact Ne.symm (by assumption)) (by first | exact ka_same | assumption | exact ka_ne1 (by first | assumption | exact Ne.symm (by assumption)) (by first | exact ka_same | assumption | exact ka_ne1 (by first | assumption | exact Ne.symm (by assumption)) (by first | exact ka_same | assumption))))))) rfl ?_
      rw [k3_add]
      refine ka_call (kl_grow (l := l) (b := b) (mc := mc + 1) (sz := Int32.ofNat xs.length) (n := n) (g := g) (fl := f) (by first | exact ka_same | assumption | exact ka_ne1 (by first | assumption | exact Ne.symm (by assumption)) (by first | exact ka_same | assumption | exact ka_ne1 (by first | assumption | exact Ne.symm (by assumption)) (by first | exact ka_same | assumption | exact ka_ne1 (by first | assumption | exact Ne.symm (by assumption)) (by first | exact ka_same | assumption | exact ka_ne1 (by first | assumption | exact Ne.symm (by assumption)) (by first | exact ka_same | assumption | exact ka_ne1 (by first | assumption | exact Ne.symm (by assumption)) (by first | exact ka_same | assumption | exact ka_ne1 (by first | assumption | exact Ne.symm (by assumption)) (by first | exact ka_same | assumption))))))) (by first | exact ka_same | assumption | exact ka_ne1 (by first | assumption | exact Ne.symm (by assumption)) (by first | exact ka_same | assumption | exact ka_ne1 (by first | assumption | exact Ne.symm (by assumption)) (by first | exact ka_same | assumption | exact ka_ne1 (by first | assumption | exact Ne.symm (by assumption)) (by first | exact ka_same | assumption | exact ka_ne1 (by first | assumption | exact Ne.symm (by assumption)) (by first | exact ka_same | assumption | exact ka_ne1 (by first | assumption | exact Ne.symm (by assumption)) (by first | exact ka_same | assumption | exact ka_ne1 (by first | assumption | exact Ne.symm (by assumption)) (by first | exact ka_same | assumption))))))) (fun h => p6 (p5 h)) p6 (by omega) (by omega) (by omega)) (fun r w' H' hp => ?_)
      obtain ⟨c, n', g', rfl, hc, hw', q1, q2, rfl, hg⟩ := hp
      obtain ⟨-, hlc, hc⟩ := ka_fr hc
      obtain ⟨-, hbc, hc⟩ := ka_fr hc
      obtain ⟨-, -, hc⟩ := ka_fr hc
      obtain ⟨-, hac, hc⟩ := ka_fr hc
      unfold pb_J2_addAll_56
      refine ka_cpR (s := 0) (d := xs.length) (n := ys.length) (k := 4) (n0 := ys.length) (n1 := n') (g := ga) (g1 := g') (fl := true) (by first | exact ka_same | assumption | exact ka_ne1 (by first | assumption | exact Ne.symm (by assumption)) (by first | exact ka_same | assumption | exact ka_ne1 (by first | assumption | exact Ne.symm (by assumption)) (by first | exact ka_same | assumption | exact ka_ne1 (by first | assumption | exact Ne.symm (by assumption)) (by first | exact ka_same | assumption | exact ka_ne1 (by first | assumption | exact Ne.symm (by assumption)) (by first | exact ka_same | assumption | exact ka_ne1 (by first | assumption | exact Ne.symm (by assumption)) (by first | exact ka_same | assumption | exact ka_ne1 (by first | assumption | exact Ne.symm (by assumption)) (by first | exact ka_same | assumption))))))) (by first | exact ka_same | assumption | exact ka_ne1 (by first | assumption | exact Ne.symm (by assumption)) (by first | exact ka_same | assumption | exact ka_ne1 (by first | assumption | exact Ne.symm (by assumption)) (by first | exact ka_same | assumption | exact ka_ne1 (by first | assumption | exact Ne.symm (by assumption)) (by first | exact ka_same | assumption | exact ka_ne1 (by first | assumption | exact Ne.symm (by assumption)) (by first | exact ka_same | assumption | exact ka_ne1 (by first | assumption | exact Ne.symm (by assumption)) (by first | exact ka_same | assumption | exact ka_ne1 (by first | assumption | exact Ne.symm (by assumption)) (by first | exact ka_same | assumption))))))) rfl rfl rfl (by omega) (by omega) (by omega) (by omega) ?_
      refine ka_pI (by first | exact ka_same | assumption | exact ka_ne1 (by first | assumption | exact Ne.symm (by assumption)) (by first | exact ka_same | assumption | exact ka_ne1 (by first | assumption | exact Ne.symm (by assumption)) (by first | exact ka_same | assumption | exact ka_ne1 (by first | assumption | exact Ne.symm (by assumption)) (by first | exact ka_same | assumption | exact ka_ne1 (by first | assumption | exact Ne.symm (by assumption)) (by first | exact ka_same | assumption | exact ka_ne1 (by first | assumption | exact Ne.symm (by assumption)) (by first | exact ka_same | assumption | exact ka_ne1 (by first | assumption | exact Ne.symm (by assumption)) (by first | exact ka_same | assumption))))))) rfl rfl (Nat.le_of_ble_eq_true rfl) ?_
      refine ka_ret rfl ?_
      refine ka_pureE (ka_fold (H := H) (l := l) (mc := mc + 1) (xs := xs ++ ys) (b := c) (n := n') (f := true) (g := va_cpy ga g' 0 xs.length ys.length) (ka_ag_l (ka_ag_new (ka_ag_l (ka_ag_new (ka_ag_l (ka_ag_b (ka_ag_l (ka_ag_new ka_ag_refl ha)) hHbo)) hc)) hc)) ?_ (by first | exact ka_same | assumption | exact ka_ne1 (by first | assumption | exact Ne.symm (by assumption)) (by first | exact ka_same | assumption | exact ka_ne1 (by first | assumption | exact Ne.symm (by assumption)) (by first | exact ka_same | assumption | exact ka_ne1 (by first | assumption | exact Ne.symm (by assumption)) (by first | exact ka_same | assumption | exact ka_ne1 (by first | assumption | exact Ne.symm (by assumption)) (by first | exact ka_same | assumption | exact ka_ne1 (by first | assumption | exact Ne.symm (by assumption)) (by first | exact ka_same | assumption | exact ka_ne1 (by first | assumption | exact Ne.symm (by assumption)) (by first | exact ka_same | assumption))))))) (by rw [List.length_append]; omega) q2 (fun h => by cases h) (fun h => by omega) (kl_appg (fun i hi => (hg i (by omega)).trans (p7 i hi)) hga) (fun _ => hc)) ⟨by omega, rfl⟩
      · rw [ka_same]
        exact congrArg (fun z => some (ka_ob 30 z)) (hset c)
end KAL3
