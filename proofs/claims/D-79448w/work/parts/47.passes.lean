set_option maxRecDepth 100000
/-! ===== days pass ===== -/
/-- what v_ok gives for the cells -/
theorem kh_ok {A : kAp} {cc dd : Nat} (h : v_ok cc dd A.V) (hcc : cc ≤ 240) : (A.cs.length ≤ 4 ∧ A.ls.length ≤ 4 ∧ A.st.length ≤ 6 ∧ A.ps.length ≤ 6 ∧ A.so.length ≤ 8 ∧ A.bx.length ≤ cc ∧ 2 * A.wa.length ≤ cc) ∧ (∀ r ∈ A.st, r.bs.length ≤ 28) ∧ (A.bx.map (·.2.1)).Nodup ∧ (∀ b ∈ A.bx, 0 ≤ b.2.1 ∧ b.2.1.toNatClampNeg < 256) ∧ (∀ d ∈ A.so, kd_ok d ∧ d.bs.length ≤ 28) ∧ ∀ d ∈ A.wa, kw_okp d ∧ d.bs.length ≤ 28 := by
  obtain ⟨c1, c2, c3, c4, c5⟩ := h.2.2.1
  rw [kvl_cs] at c1
  rw [kvl_ls] at c2
  rw [kvl_st] at c3
  rw [kvl_ps] at c4
  rw [kvl_so] at c5
  obtain ⟨b1, b2⟩ := v_ok_bx h
  rw [kvl_bx] at b1
  rw [kvl_wa] at b2
  refine ⟨⟨c1, c2, c3, c4, c5, b1, b2⟩, fun r hr => ?_, ?_, fun b hb => ?_, fun d hd => ?_, fun d hd => ?_⟩
  · obtain ⟨g, m, k, hs⟩ := h.2.2.2.2.1 r.V (List.mem_map_of_mem hr)
    have := (v_sok_loose hs).2.2
    have e : r.V.bs.length = r.bs.length := List.length_map ..
    omega
  · have h1 := v_nd_bx h.2.2.2.2.2
    have e : A.V.bx.map (·.1) = A.bx.map (·.2.1) := List.map_map ..
    rw [← e]
    exact h1
  · have := v_ok_lt h (v_all_bx (V := A.V) (b := b.2) (List.mem_map_of_mem hb))
    exact ⟨this.1, by omega⟩
  · have hdV : d.V ∈ A.V.so := List.mem_map_of_mem hd
    obtain ⟨-, e1, e2⟩ := h.2.1.1 _ hdV
    have e : d.V.bs.length = d.bs.length := List.length_map ..
    have hnd := v_nd_so h.2.2.2.2.2 hdV
    have e3 : d.V.bs.map (·.1) = d.bs.map (·.2.1) := List.map_map ..
    refine ⟨⟨fun z => ?_, by omega, by rw [← e3]; exact hnd, fun b hb => ?_⟩, by omega⟩
    · rw [z, List.length_nil] at e
      omega
    · have := v_ok_lt h (v_all_so (V := A.V) (b := b.2) hdV (List.mem_map_of_mem hb))
      exact ⟨this.1, by omega⟩
  · have hdV : d.V ∈ A.V.wa := List.mem_map_of_mem hd
    obtain ⟨⟨c, hc, hcb⟩, e1, e2⟩ := h.2.1.2 _ hdV
    have e : d.V.bs.length = d.bs.length := List.length_map ..
    refine ⟨⟨?_, by omega, fun b hb => ?_⟩, by omega⟩
    · have hc2 : d.2.2.2.1.map (·.2) = some c := hc
      obtain ⟨x, hx1, hx2⟩ := Option.map_eq_some_iff.mp hc2
      refine ⟨x, hx1, ?_⟩
      rw [hx2]
      exact hcb.2.1
    · have := v_ok_lt h (v_all_wa (V := A.V) (b := b.2) hdV (List.mem_map_of_mem hb))
      exact ⟨this.1, by omega⟩
section KPS
variable {Z : ka_Z} {w : Nat} {H0 H : ka_H} {s : Nat} {ad : Nat → Nat} {A : kAp} {cc dd : Nat}
noncomputable abbrev kt_tail (s : Nat) : km_M Int32 := km_bind (km_is 1 (some s)) fun _ => km_bind (pm_X1_comeBack (some s)) fun _ => km_bind (km_gR [(1, 4)] (some s)) fun r2 => km_bind (km_is 30 r2) fun _ => km_bind (pm_J2_iterator r2) fun r3 => pb_X1_goesDay_69 km_fuel (some s) (0 : Int32) r3
theorem ko_restLoop {it : Nat} {Q : Int32 → Nat → ka_H → Prop} {mc : Int32} (hit0 : H0 it = none) : ∀ (rest done : List kC) (A : kAp) (H : ka_H) (fuel : Nat) (lr : Int32), A.cs = done ++ rest → rest.length < fuel → A.cs.length ≤ 100 → kc_mut H0 H s ad A → H it = some (ka_it done.length lr mc (ad 0)) → H (ad 0) = some (ka_ls mc (A.cs.map (·.1))) → (∀ (K : ka_H) (A2 : kAp), kc_mut H0 K s ad A2 → A2.V = (done.map (·.2) ++ rest.map (fun c => (c.2.1, km_max 0 (c.2.2.1 - 30), c.2.2.2.1, c.2.2.2.2)), A.V.2) → ka_T Z (kt_tail s) w K Q) → ka_T Z (pb_X1_goesDay_18 fuel (some s) (some it)) w H Q := by
  intro rest
  induction rest with
  | nil =>
    intro done A H fuel lr hA hf hl hM hit hls hend
    obtain ⟨fuel, rfl⟩ : ∃ n, fuel = n + 1 := ⟨fuel - 1, by omega⟩
    have hA1 : done.length = A.cs.length := by rw [hA, List.append_nil]
    unfold pb_X1_goesDay_18
    refine kl_dHas hit hls (by omega) (by rw [List.length_map]; omega) ?_
    rw [List.length_map, if_pos hA1]
    refine ka_ifP rfl (hend H A hM ?_)
    show (A.cs.map (·.2), A.V.2) = (done.map (·.2) ++ [], A.V.2)
    rw [hA, List.append_nil, List.append_nil]
  | cons c t ih =>
    intro done A H fuel lr hA hf hl hM hit hls hend
    obtain ⟨fuel, rfl⟩ : ∃ n, fuel = n + 1 := ⟨fuel - 1, by omega⟩
    have hAl : A.cs.length = done.length + (t.length + 1) := by rw [hA, List.length_append]; rfl
    have hci : A.cs[done.length]? = some c := by rw [hA]; simp
    have hcm : c ∈ A.cs := List.mem_of_getElem? hci
    simp only [List.length_cons] at hf
    unfold pb_X1_goesDay_18
    refine kl_dHas hit hls (by omega) (by rw [List.length_map]; omega) ?_
    rw [List.length_map, if_neg (show ¬ done.length = A.cs.length by omega)]
    refine ka_ifN (by decide) ?_
    refine kl_dNext (v := c.1) hit hls (by rw [hA]; simp) ?_
    have hM1 := ku_it (o' := ka_it (done.length + 1) (Int32.ofNat done.length) mc (ad 0)) hM hit (Or.inl rfl) hit0
    have hc1 := kg_c hM1.2.1 hcm
    have hi0 : ad 0 ≠ it := (ka_kinds hit hls (by simp)).symm
    have hls1 : ka_up H it (ka_it (done.length + 1) (Int32.ofNat done.length) mc (ad 0)) (ad 0) = some (ka_ls mc (A.cs.map (·.1))) := (ka_ne hi0).trans hls
    refine ka_cast hc1 rfl rfl (ka_gI hc1 rfl rfl (ka_pI hc1 rfl rfl (Nat.le_of_ble_eq_true rfl) ?_))
    have hM2 := ku_setC (i := done.length) (c' := (c.1, c.2.1, km_max 0 (c.2.2.1 - 30), c.2.2.2.1, c.2.2.2.2)) hM1 hci rfl
    have hset : A.cs.set done.length (c.1, c.2.1, km_max 0 (c.2.2.1 - 30), c.2.2.2.1, c.2.2.2.2) = (done ++ [(c.1, c.2.1, km_max 0 (c.2.2.1 - 30), c.2.2.2.1, c.2.2.2.2)]) ++ t := by
      rw [hA, List.set_append_right _ _ (Nat.le_refl _), Nat.sub_self, List.append_assoc]
      rfl
    rw [hset] at hM2
    have hmap : ((done ++ [(c.1, c.2.1, km_max 0 (c.2.2.1 - 30), c.2.2.2.1, c.2.2.2.2)]) ++ t).map (fun c : kC => c.1) = A.cs.map (·.1) := by
      rw [hA]
      simp
    have e1 : it ≠ c.1 := ka_kinds (o := ka_it (done.length + 1) (Int32.ofNat done.length) mc (ad 0)) ka_same hc1 (by simp)
    have e2 : ad 0 ≠ c.1 := ka_kinds hls1 hc1 (by simp)
    refine ih (done ++ [(c.1, c.2.1, km_max 0 (c.2.2.1 - 30), c.2.2.2.1, c.2.2.2.2)]) ((done ++ [(c.1, c.2.1, km_max 0 (c.2.2.1 - 30), c.2.2.2.1, c.2.2.2.2)]) ++ t, A.2) _ fuel (Int32.ofNat done.length) rfl (by omega) ?_ hM2 ?_ ?_ (fun K A2 hK hV => hend K A2 hK ?_)
    · show ((done ++ [_]) ++ t).length ≤ 100
      rw [List.length_append, List.length_append]
      simp only [List.length_cons, List.length_nil]
      omega
    · rw [List.length_append]
      exact (ka_ne e1).trans ka_same
    · exact ((ka_ne e2).trans hls1).trans (by rw [← hmap])
    · rw [hV, List.map_append, List.append_assoc]
      rfl
theorem ko_day (hE : ka_E0 Z) (hM : kc_mut H0 H s ad A) (hok : v_ok cc dd A.V) (hcc : cc ≤ 240) (hw : 300 + 3000 * A.ps.length + 1300 * A.so.length ≤ w) : ka_T Z (pm_X1_goesDay (some s)) w H (fun r w' H' => r = (v_day A.V).1 ∧ ∃ A', kc_mut H0 H' s ad A' ∧ A'.V = (v_day A.V).2 ∧ w + 3000 * A'.ps.length + 1300 * A'.so.length ≤ w' + 300 + 3000 * A.ps.length + 1300 * A.so.length) := by
  obtain ⟨⟨c1, c2, c3, c4, c5, c6, c7⟩, -⟩ := kh_ok hok hcc
  have hs := kg_s hM.2.1
  unfold pm_X1_goesDay
  refine ka_gI (by first | exact ka_same | assumption | exact ka_ne1 (by first | assumption | exact Ne.symm (by assumption)) (by first | exact ka_same | assumption | exact ka_ne1 (by first | assumption | exact Ne.symm (by assumption)) (by first | exact ka_same | assumption | exact ka_ne1 (by first | assumption | exact Ne.symm (by assumption)) (by first | exact ka_same | assumption | exact ka_ne1 (by first | assumption | exact Ne.symm (by assumption)) (by first | exact ka_same | assumption | exact ka_ne1 (by first | assumption | exact Ne.symm (by assumption)) (by first | exact ka_same | assumption | exact ka_ne1 (by first | assumption | exact Ne.symm (by assumption)) (by first | exact ka_same | assumption))))))) rfl rfl ?_
  refine ka_pI (by first | exact ka_same | assumption | exact ka_ne1 (by first | assumption | exact Ne.symm (by assumption)) (by first | exact ka_same | assumption | exact ka_ne1 (by first | assumption | exact Ne.symm (by assumption)) (by first | exact ka_same | assumption | exact ka_ne1 (by first | assumption | exact Ne.symm (by assumption)) (by first | exact ka_same | assumption | exact ka_ne1 (by first | assumption | exact Ne.symm (by assumption)) (by first | exact ka_same | assumption | exact ka_ne1 (by first | assumption | exact Ne.symm (by assumption)) (by first | exact ka_same | assumption | exact ka_ne1 (by first | assumption | exact Ne.symm (by assumption)) (by first | exact ka_same | assumption))))))) rfl rfl (Nat.le_of_ble_eq_true rfl) ?_
  have hM1 := ku_num (sc' := v_num A.sc 0 (A.sc 0 + 1)) hM
  refine ka_gR (kg_s hM1.2.1) rfl rfl ?_
  obtain ⟨mc, hls⟩ := kg_cs hM1.2.1
  refine ka_is hls rfl (ka_call (kl_iterator hls (by omega)) (fun r v K hp => ?_))
  obtain ⟨it, rfl, hit, rfl, rfl⟩ := hp
  have hM2 := ku_new (o := ka_it 0 (-1) mc (ad 0)) hM1 hit
  refine ko_restLoop (ad := ad) (mc := mc) (kc_fresh hM1 hit) A.cs [] (A.cs, A.ls, A.bx, A.st, A.ps, A.so, A.wa, A.aw, v_num A.sc 0 (A.sc 0 + 1)) _ km_fuel (-1) rfl (by unfold km_fuel; omega) (by show A.cs.length ≤ 100; omega) hM2 ka_same ((ka_ne (ka_dom hls hit)).trans hls) (fun K A2 hK hV => ?_)
  have hV2 : A2.V = v_rest A.V := by
    rw [hV]
    show (_ ++ A.cs.map _, _) = (((A.cs.map (fun c : kC => c.2)).map _), _)
    rw [List.map_map]
    rfl
  have hok2 := vk_rest hok
  rw [← hV2] at hok2
  obtain ⟨⟨d1, d2, d3, d4, d5, d6, d7⟩, d8, d9, d10, d11, d12⟩ := kh_ok hok2 hcc
  have hps2 : A2.ps.length = A.ps.length := by
    rw [← kvl_ps, hV2, ← kvl_ps]
  have hso2 : A2.so.length = A.so.length := by
    rw [← kvl_so, hV2, ← kvl_so]
  unfold kt_tail
  refine ka_is (kg_s hK.2.1) rfl (ka_call (ko_comeBack hE hK d5 (by omega) (fun d hd => (d11 d hd).1) (by omega)) (fun _ v K3 hq => ?_))
  obtain ⟨A3, hM3, hw3, hV3⟩ := hq
  obtain ⟨hok3, hps3, hsum3⟩ := vk_come hok2
  rw [← hV3] at hok3 hps3 hsum3
  rw [kvl_so, kvl_wa, kvl_so, kvl_wa] at hsum3
  have hps3' : A3.ps.length = A2.ps.length := by rw [← kvl_ps, hps3, kvl_ps]
  obtain ⟨⟨f1, f2, f3, f4, f5, f6, f7⟩, f8, f9, f10, f11, f12⟩ := kh_ok hok3 hcc
  refine ka_gR (kg_s hM3.2.1) rfl rfl ?_
  obtain ⟨mc4, hl4⟩ := kg_ps hM3.2.1
  refine ka_is hl4 rfl (ka_call (kl_iterator hl4 (by omega)) (fun r v4 K4 hp => ?_))
  obtain ⟨it4, rfl, hit4, rfl, rfl⟩ := hp
  have hM4 := ku_new (o := ka_it 0 (-1) mc4 (ad 4)) hM3 hit4
  refine ka_post (ko_pilLoop (it := it4) hE (kc_fresh hM3 hit4) A3.ps [] A3 _ km_fuel (v - 9) (-1) mc4 0 rfl (by unfold km_fuel; omega) hM4 ka_same ((ka_ne (ka_dom hl4 hit4)).trans hl4) (by omega) f3 (fun r hr => Nat.le_trans (f8 r hr) (by omega)) f5 (by omega)) (fun r w' H' hp => ?_)
  obtain ⟨A4, g1, g2, g3, g4⟩ := hp
  have hday : v_day A.V = v_pil (A3.ps.map (·.2)) [] 0 A3.V := by
    rw [v_day_eq, ← hV2, ← hV3]
  refine ⟨by rw [g2, hday]; rfl, A4, g1, by rw [g3, hday]; rfl, by omega⟩
theorem ko_passLoop {days : Nat} (hE : ka_E0 Z) (hcc : cc ≤ 240) (hdays : days ≤ 1000) : ∀ (d j fuel w : Nat) (n : Int32) (A : kAp) (H : ka_H) (dd : Nat), j + d = days → d < fuel → kc_mut H0 H s ad A → v_ok cc dd A.V → 300 * d + 3000 * A.ps.length + 1300 * A.so.length ≤ w → ka_T Z (pb_X1_passes_4 fuel (some s) (Int32.ofNat days) n (Int32.ofNat j)) w H (fun r w' H' => r = (v_passes d n A.V).1 ∧ ∃ A', kc_mut H0 H' s ad A' ∧ A'.V = (v_passes d n A.V).2 ∧ w + 3000 * A'.ps.length + 1300 * A'.so.length ≤ w' + 300 * d + 3000 * A.ps.length + 1300 * A.so.length) := by
  intro d
  induction d with
  | zero =>
    intro j fuel w n A H dd hj hf hM hok hw
    obtain ⟨fuel, rfl⟩ : ∃ n, fuel = n + 1 := ⟨fuel - 1, by omega⟩
    unfold pb_X1_passes_4
    exact ka_ifP ((k3_le (by omega) (by omega)).mpr (by omega)) (ka_pure ⟨rfl, A, hM, rfl, by omega⟩)
  | succ d ih =>
    intro j fuel w n A H dd hj hf hM hok hw
    obtain ⟨fuel, rfl⟩ : ∃ n, fuel = n + 1 := ⟨fuel - 1, by omega⟩
    unfold pb_X1_passes_4
    refine ka_ifN (fun z => absurd ((k3_le (by omega) (by omega)).mp z) (by omega)) ?_
    refine ka_is (kg_s hM.2.1) rfl (ka_call (ko_day hE hM hok hcc (by omega)) (fun r v K hp => ?_))
    obtain ⟨rfl, A1, hM1, hV1, hw1⟩ := hp
    rw [k3_succ]
    have hok1 := vk_day hok
    rw [← hV1] at hok1
    refine ka_post (ih (j + 1) fuel v (n + (v_day A.V).1) A1 K (dd + 1) (by omega) (by omega) hM1 hok1 (by omega)) (fun r w' H' hp => ?_)
    obtain ⟨g1, A2, g2, g3, g4⟩ := hp
    refine ⟨?_, A2, g2, ?_, by omega⟩
    · rw [g1, hV1]
      rfl
    · rw [g3, hV1]
      rfl
theorem ko_passes {days : Nat} (hE : ka_E0 Z) (hM : kc_mut H0 H s ad A) (hok : v_ok cc dd A.V) (hcc : cc ≤ 240) (hdays : days ≤ 60) (hw : 47000 ≤ w) : ka_T Z (pm_X1_passes (some s) (Int32.ofNat days)) w H (kq_V H0 s ad w 47000 (v_passes days 0 A.V)) := by
  obtain ⟨⟨c1, c2, c3, c4, c5, c6, c7⟩, -⟩ := kh_ok hok hcc
  unfold pm_X1_passes
  refine ka_post (ko_passLoop hE hcc (by omega) days 0 km_fuel w 0 A H dd (by omega) (by unfold km_fuel; omega) hM hok (by omega)) (fun r w' H' hp => ?_)
  obtain ⟨g1, A2, g2, g3, g4⟩ := hp
  exact ⟨by omega, g1, A2, g2, g3⟩
end KPS
