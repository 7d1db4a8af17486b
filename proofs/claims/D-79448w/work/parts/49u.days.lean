set_option maxRecDepth 100000
section KTU
variable {Z : ka_Z} {w : Nat} {G : ka_H} {m : Nat} {ad : Nat → Nat} {T : kT} {X : vX} {f : Nat → Int32} {V : kV} {cc dd : Nat}
theorem v_all_wb {l : List vB} (hl : l.Perm V.bx) : (v_all (V.wb l)).Perm (v_all V) := hl.append_right _
theorem v_ok_wb {l : List vB} (h : v_ok cc dd V) (hl : l.Perm V.bx) : v_ok cc dd (V.wb l) := by
  obtain ⟨h1, h2, h3, h4, h5, h6⟩ := h
  exact ⟨h1, h2, h3, fun b hb => h4 b ((v_all_wb hl).mem_iff.mp hb), h5, v_okN_perm h6 (v_all_wb hl) rfl rfl rfl rfl (Nat.le_refl _)⟩
theorem v_come_wb {l : List vB} : v_come (V.wb l) = (v_come V).wb l := by
  unfold v_come
  have e : v_back ((V.wb l).sc 0) (V.wb l).so [] (V.wb l).wa (V.wb l).aw ((V.wb l).sc 7) = v_back (V.sc 0) V.so [] V.wa V.aw (V.sc 7) := rfl
  rw [e]
  rfl
theorem v_day_wb {l : List vB} : v_day (V.wb l) = ((v_day V).1, (v_day V).2.wb l) := by
  rw [v_day_eq, v_day_eq]
  have e : v_rest (V.wb l) = (v_rest V).wb l := rfl
  rw [e, v_come_wb]
  exact v_pil_rep (l := l) (v_come (v_rest V)).ps [] 0 (v_come (v_rest V)) (v_come (v_rest V)).ps
theorem v_passes_wb {l : List vB} : ∀ (k : Nat) (n : Int32) (V : kV), v_passes k n (V.wb l) = ((v_passes k n V).1, (v_passes k n V).2.wb l) := by
  intro k
  induction k with
  | zero => intro n V; rfl
  | succ k ih =>
    intro n V
    rw [v_passes, v_passes, v_day_wb]
    exact ih _ _
theorem v_pil_n : ∀ (rest keep : List vP) (a : Nat) (V : kV), ∃ k, k ≤ rest.length ∧ (v_pil rest keep (Int32.ofNat a) V).1 = Int32.ofNat (a + k) := by
  intro rest
  induction rest with
  | nil => intro keep a V; exact ⟨0, Nat.le_refl _, rfl⟩
  | cons p t ih =>
    intro keep a V
    rw [v_pil]
    by_cases h : p.1 = V.sc 0
    · rw [if_pos h]
      by_cases h6 : v_wanted V p = -6
      · have hb : v_buys V p = (0, V) := if_pos h6
        rw [hb, Int32.add_zero]
        obtain ⟨k, h1, h2⟩ := ih keep a V
        exact ⟨k, by simp only [List.length_cons]; omega, h2⟩
      · have hb : (v_buys V p).1 = 1 := by
          unfold v_buys
          dsimp only
          rw [if_neg h6]
        rw [hb, k3_succ]
        obtain ⟨k, h1, h2⟩ := ih keep (a + 1) (v_buys V p).2
        exact ⟨k + 1, by simp only [List.length_cons]; omega, by rw [h2]; congr 1; omega⟩
    · rw [if_neg h]
      obtain ⟨k, h1, h2⟩ := ih (keep ++ [p]) a V
      exact ⟨k, by simp only [List.length_cons]; omega, h2⟩
theorem v_day_n (h : v_ok cc dd V) : ∃ k, k ≤ 6 ∧ (v_day V).1 = Int32.ofNat k := by
  rw [v_day_eq]
  obtain ⟨k, h1, h2⟩ := v_pil_n (v_come (v_rest V)).ps [] 0 (v_come (v_rest V))
  have h3 := (vk_come (vk_rest h)).1.2.2.1.2.2.2.1
  rw [Nat.zero_add] at h2
  exact ⟨k, by omega, h2⟩
theorem v_passes_n : ∀ (k : Nat) (a : Nat) (V : kV) (dd : Nat), v_ok cc dd V → ∃ b, b ≤ 6 * k ∧ (v_passes k (Int32.ofNat a) V).1 = Int32.ofNat (a + b) := by
  intro k
  induction k with
  | zero => intro a V dd _; exact ⟨0, Nat.zero_le _, rfl⟩
  | succ k ih =>
    intro a V dd h
    obtain ⟨x, h1, h2⟩ := v_day_n h
    rw [v_passes, h2, k3_add]
    obtain ⟨b, h3, h4⟩ := ih (a + x) (v_day V).2 (dd + 1) (vk_day h)
    exact ⟨x + b, by omega, by rw [h4]; congr 1; omega⟩
theorem v_sowa (h : v_ok cc dd V) (hcc : cc ≤ 240) : V.wa.length + V.so.length ≤ 120 := by
  obtain ⟨c, day, W, q1, q2, q3, q4, q5, q6, q7, q8⟩ := h.2.2.2.2.2
  have h1 := v_all_len V
  have h3 := q5.length_eq
  rw [List.length_append, List.length_map, List.length_range] at h3
  have h4 := v_fm_len (l := V.wa) (fun d hd => (h.2.1.2 d hd).2.1)
  have h5 : ∀ l : List vD, (∀ d ∈ l, 2 ≤ d.bs.length) → 2 * l.length ≤ (l.flatMap (·.bs)).length := by
    intro l
    induction l with
    | nil => intro _; exact Nat.le_refl _
    | cons d t ih =>
      intro hd
      have h6 := ih (fun x hx => hd x (List.mem_cons_of_mem _ hx))
      have h7 := hd d List.mem_cons_self
      rw [List.flatMap_cons, List.length_append, List.length_cons]
      omega
  have h6 := h5 V.so (fun d hd => (h.2.1.1 d hd).2.1)
  omega
theorem kt_comeBack (hs : kt_sep m ad) (he : ke f V) (hok : v_ok cc dd V) (hcc : cc ≤ 240) : ka_T Z (pm_X3_comeBack (some m)) w (kt G m ad (kt_set T 0 f)) (fun _ w' H' => w' = w ∧ ∃ f', H' = kt G m ad (kt_set T 0 f') ∧ ke f' (v_come V)) := by
  obtain ⟨z1, z2, z3, z4, z5, z6, z7, z8⟩ := v_sz_of hok hcc
  unfold pm_X3_comeBack
  have hb := v_sowa hok hcc
  have he2 : ke f (v_mid2 V ([] ++ V.so) V.wa V.aw (V.sc 7)) := by
    show ke f (V.cs, V.ls, V.bx, V.st, V.ps, V.so, V.wa, V.aw, v_num V.sc 7 (V.sc 7))
    rw [v_num_id]
    exact he
  have h := kt_backLoop (Z := Z) (w := w) (G := G) (T := T) (V := V) hs ⟨z1, z2, z3, z4, z5, z8⟩ V.so [] V.wa V.aw (V.sc 7) km_fuel f (by unfold km_fuel; omega) he2 (by simp only [List.length_nil]; omega) hb (fun d hd => ⟨fun z => by have := (hok.2.1.1 d hd).2.1; rw [show d.bs = [] from z] at this; simp at this, v_nd_so hok.2.2.2.2.2 hd, (hok.2.1.1 d hd).2.2⟩)
  exact h
theorem kt_restLoop (hs : kt_sep m ad) {B : List vL × List vB × List vS × List vP × List vD × List vD × (Nat → Bool) × (Nat → Int32)} {Q : Int32 → Nat → ka_H → Prop} : ∀ (rest done : List vC) (fuel : Nat) (f : Nat → Int32), rest.length < fuel → ke f (done ++ rest, B) → v_sz (done ++ rest, B) → (∀ f', ke f' (done ++ rest.map (fun c => (c.1, km_max 0 (c.2.1 - 30), c.2.2.1, c.2.2.2)), B) → ka_T Z (km_bind (km_is 3 (some m)) fun _ => km_bind (pm_X3_comeBack (some m)) fun _ => km_bind (km_is 3 (some m)) fun _ => km_bind (pm_X3_pilgrimsCome (some m)) fun i3 => km_pure i3) w (kt G m ad (kt_set T 0 f')) Q) → ka_T Z (pb_X3_dayGoes_12 fuel (some m) (Int32.ofNat done.length)) w (kt G m ad (kt_set T 0 f)) Q := by
  intro rest
  induction rest with
  | nil =>
    intro done fuel f hf he hz kk
    obtain ⟨fuel, rfl⟩ : ∃ n, fuel = n + 1 := ⟨fuel - 1, by omega⟩
    have hl : (done ++ ([] : List vC)).length = done.length := by rw [List.append_nil]
    have hz1 : (done ++ ([] : List vC)).length ≤ 4 := hz.1
    unfold pb_X3_dayGoes_12
    refine kt_g0 (kt_ls (p := 9) hs (by omega) ?_)
    rw [he.1.2.1]
    exact ka_ifP ((k3_le (by show (done ++ ([] : List vC)).length < _; omega) (by omega)).mpr (Nat.le_of_eq hl)) (kk f he)
  | cons c t ih =>
    intro done fuel f hf he hz kk
    obtain ⟨fuel, rfl⟩ : ∃ n, fuel = n + 1 := ⟨fuel - 1, by omega⟩
    simp only [List.length_cons] at hf
    have hl : (done ++ c :: t).length = done.length + (t.length + 1) := by rw [List.length_append]; rfl
    have hz1 : (done ++ c :: t).length ≤ 4 := hz.1
    have hc : (done ++ c :: t)[done.length]? = some c := by simp
    have h9 : f 9 = Int32.ofNat (done.length + (t.length + 1)) := by rw [← hl]; exact he.1.2.1
    unfold pb_X3_dayGoes_12
    refine kt_g0 (kt_ls (p := 9) hs (by omega) ?_)
    rw [h9]
    refine ka_ifN (fun z => by have := (k3_le (by omega) (by omega)).mp z; omega) (kt_g0 (kt_cAt (j := 1) (kt_g0 (kt_cAt (j := 1) (kt_ls hs (by omega) ?_)))))
    rw [(he.2.1 _ c hc).2.1]
    have hmax : ∀ {H : ka_H} {a b : Int32}, ka_T Z (pm_X3_greater a b) w H (ka_V w H (km_max a b)) := by
      intro H a b
      unfold pm_X3_greater km_max
      by_cases h : a < b
      · rw [if_pos h]
        exact ka_ifP (Int32.le_of_lt h) (ka_pure ⟨rfl, rfl, rfl⟩)
      · rw [if_neg h]
        by_cases h2 : a ≤ b
        · exact ka_ifP h2 (ka_pure ⟨(Int32.le_antisymm h2 (Int32.not_lt.mp h)).symm, rfl, rfl⟩)
        · exact ka_ifN h2 (ka_pure ⟨rfl, rfl, rfl⟩)
    refine ka_use hmax (kt_ss hs (by omega) ?_)
    rw [k3_succ]
    have k1 := ke_setC (c' := (c.1, km_max 0 (c.2.1 - 30), c.2.2.1, c.2.2.2)) (v := km_max 0 (c.2.1 - 30)) he hz hc (Or.inl rfl) rfl rfl rfl rfl
    have hset : (done ++ c :: t).set done.length (c.1, km_max 0 (c.2.1 - 30), c.2.2.1, c.2.2.2) = (done ++ [(c.1, km_max 0 (c.2.1 - 30), c.2.2.1, c.2.2.2)]) ++ t := by
      rw [List.set_append_right _ _ (Nat.le_refl _), Nat.sub_self, List.append_assoc]
      rfl
    have conv : ∀ F : Nat → Int32, ke F ((done ++ c :: t).set done.length (c.1, km_max 0 (c.2.1 - 30), c.2.2.1, c.2.2.2), B) → ke F ((done ++ [(c.1, km_max 0 (c.2.1 - 30), c.2.2.1, c.2.2.2)]) ++ t, B) := by
      intro F h
      rw [hset] at h
      exact h
    have h2 := ih (done ++ [(c.1, km_max 0 (c.2.1 - 30), c.2.2.1, c.2.2.2)]) fuel _ (by omega) (conv _ k1) ⟨by show ((done ++ [_]) ++ t).length ≤ 4; rw [List.length_append, List.length_append]; simp only [List.length_cons, List.length_nil]; omega, hz.2⟩ (fun f' hf' => kk f' (by rw [List.map_cons]; rw [List.append_assoc] at hf'; exact hf'))
    rw [List.length_append] at h2
    exact h2
theorem kt_dayGoes (hs : kt_sep m ad) (he : ke f V) (hok : v_ok cc dd V) (hcc : cc ≤ 240) : ka_T Z (pm_X3_dayGoes (some m)) w (kt G m ad (kt_set T 0 f)) (fun r w' H' => w' = w ∧ r = (v_day V).1 ∧ ∃ f', H' = kt G m ad (kt_set T 0 f') ∧ ke f' (v_day V).2) := by
  have hz := v_sz_of hok hcc
  have k1 := ke_num (k := 0) (v := V.sc 0 + 1) he (by omega) hz
  unfold pm_X3_dayGoes
  refine kt_g0 (kt_ls (p := 0) hs (by omega) (kt_ss (p := 0) hs (by omega) ?_))
  rw [he.1.1 0 (by omega)]
  refine kt_restLoop (B := (V.ls, V.bx, V.st, V.ps, V.so, V.wa, V.aw, v_num V.sc 0 (V.sc 0 + 1))) hs V.cs [] km_fuel _ (by have := hz.1; unfold km_fuel; omega) k1 hz (fun f' hf' => ?_)
  have hr : v_ok cc (dd + 1) (v_rest V) := vk_rest hok
  have he' : ke f' (v_rest V) := hf'
  refine kt_is (ka_call (kt_comeBack hs he' hr hcc) (fun _ w' H' hp => ?_))
  obtain ⟨rfl, f2, rfl, hf2⟩ := hp
  have hc := (vk_come hr).1
  refine kt_is (ka_call (kt_come hs hf2 (v_sz_of hc hcc) hc.2.2.2.2.1) (fun r w' H' hp => ?_))
  rw [v_day_eq]
  exact ka_pure hp
end KTU
