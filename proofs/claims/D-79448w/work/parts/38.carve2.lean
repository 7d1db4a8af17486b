set_option maxRecDepth 100000
/-! ===== beads are carved ===== -/
section KCW
variable {Z : ka_Z} {w : Nat} {H0 H : ka_H} {s : Nat} {ad : Nat → Nat} {A : kAp}
theorem kv_setC {i : Nat} {c : kC} {c' : vC} (h : A.cs[i]? = some c) : kAp.V (A.cs.set i (c.1, c'), A.2) = (A.V.cs.set i c', A.V.2) := by
  show ((A.cs.set i (c.1, c')).map (fun c : kC => c.2), A.V.2) = _
  rw [List.map_set]
theorem kv_bx {bx : List kB} : kAp.V (A.cs, A.ls, bx, A.2.2.2) = (A.V.cs, A.V.ls, bx.map (·.2), A.V.2.2.2) := rfl
theorem ko_74 {i : Nat} {c : kC} {k x is t0 : Int32} (hM : kc_mut H0 H s ad A) (hi : A.cs[i]? = some c) (hk : k = 0 ∨ k = 1) (his : is = 0 ∨ is = 1) (hbx : A.bx.length ≤ 200) (hw : 500 ≤ w) : ka_T Z (pb_X1_carvesOne_74 (some s) k (some c.1) x is t0 c.2.2.1 99 (some c.1)) w H (fun r w' H' => w ≤ w' + 500 ∧ r = is ∧ ∃ A', kc_mut H0 H' s ad A' ∧ A'.V = if is = 0 then (A.V.cs.set i (c.2.1, km_min 99 (c.2.2.1 + t0), c.2.2.2.1, c.2.2.2.2 + 1), A.V.ls, A.V.bx, A.V.st, A.V.ps, A.V.so, A.V.wa, A.V.aw, v_num A.sc 3 (A.sc 3 + 1)) else (A.V.cs.set i (c.2.1, km_min 99 (c.2.2.1 + t0), c.2.2.2.1 + 1, c.2.2.2.2), A.V.ls, A.V.bx ++ [(A.sc 2, k, km_min 9 x)], A.V.st, A.V.ps, A.V.so, A.V.wa, A.V.aw, v_num A.sc 2 (A.sc 2 + 1))) := by
  have hlt := (List.getElem?_eq_some_iff.mp hi).1
  have hs := kg_s hM.2.1
  have hc := kg_c hM.2.1 (List.mem_of_getElem? hi)
  unfold pb_X1_carvesOne_74
  refine ka_pI (by first | exact ka_same | assumption | exact ka_ne1 (by first | assumption | exact Ne.symm (by assumption)) (by first | exact ka_same | assumption | exact ka_ne1 (by first | assumption | exact Ne.symm (by assumption)) (by first | exact ka_same | assumption | exact ka_ne1 (by first | assumption | exact Ne.symm (by assumption)) (by first | exact ka_same | assumption | exact ka_ne1 (by first | assumption | exact Ne.symm (by assumption)) (by first | exact ka_same | assumption | exact ka_ne1 (by first | assumption | exact Ne.symm (by assumption)) (by first | exact ka_same | assumption | exact ka_ne1 (by first | assumption | exact Ne.symm (by assumption)) (by first | exact ka_same | assumption))))))) rfl rfl (Nat.le_of_ble_eq_true rfl) ?_
  have hM1 := ku_setC (c' := (c.1, c.2.1, km_min 99 (c.2.2.1 + t0), c.2.2.2.1, c.2.2.2.2)) hM hi rfl
  have hi1 : (A.cs.set i (c.1, c.2.1, km_min 99 (c.2.2.1 + t0), c.2.2.2.1, c.2.2.2.2))[i]? = some (c.1, c.2.1, km_min 99 (c.2.2.1 + t0), c.2.2.2.1, c.2.2.2.2) := List.getElem?_set_self hlt
  by_cases h0 : is = 0
  · refine ka_ifP h0 ?_
    refine ka_gI (kg_s hM1.2.1) rfl rfl ?_
    refine ka_pI (kg_s hM1.2.1) rfl rfl (Nat.le_of_ble_eq_true rfl) ?_
    have hM2 := ku_num (sc' := v_num A.sc 3 (A.sc 3 + 1)) hM1
    have hc2 := kg_c hM2.2.1 (List.mem_of_getElem? hi1)
    refine ka_gI hc2 rfl rfl ?_
    refine ka_pI hc2 rfl rfl (Nat.le_of_ble_eq_true rfl) ?_
    have hM3 := ku_setC (c' := (c.1, c.2.1, km_min 99 (c.2.2.1 + t0), c.2.2.2.1, c.2.2.2.2 + 1)) hM2 hi1 rfl
    refine ka_ret (kb_fit his) (ka_pure ⟨by omega, rfl, _, hM3, ?_⟩)
    rw [if_pos h0]
    show (((A.cs.set i _).set i _).map (fun c : kC => c.2), _) = _
    rw [List.set_set, List.map_set]
  · refine ka_ifN h0 ?_
    refine ka_gR (kg_s hM1.2.1) rfl rfl ?_
    refine ka_new (by omega) (fun b hb => ?_)
    refine ka_gI ((ka_ne (ka_dom (kg_s hM1.2.1) hb)).trans (kg_s hM1.2.1)) rfl rfl ?_
    refine ka_nn (ka_call (kb_newBead ka_same hk) (fun _ w2 K2 hp => ?_))
    obtain ⟨rfl, rfl⟩ := hp
    rw [ka_up_up]
    have hM2 := ku_new (o := ka_ob 14 [.int (A.sc 2), .int k, .int (km_min 9 x)]) hM1 hb
    have hbox := kg_box hM2.2.1
    obtain ⟨mb, hbl⟩ := kg_bl hM2.2.1
    refine ka_dB hbox.1 (ka_call (kb_adds hbox.1 hbl ka_same rfl (by rw [List.length_map]; show A.bx.length ≤ 240; omega) (by omega)) (fun _ w3 K3 hp => ?_))
    obtain ⟨hw3, rfl⟩ := hp
    have hM3 := ku_box (mc := mb + 1) (bx := A.bx ++ [(b, A.sc 2, k, km_min 9 x)]) hM2 (fun b' hb' => by
      rcases List.mem_append.mp hb' with e | e
      · exact hbox.2.2 b' e
      · rw [List.mem_singleton.mp e]
        exact ka_same)
    have e0 : (A.bx ++ [(b, A.sc 2, k, km_min 9 x)]).map (·.1) = A.bx.map (·.1) ++ [b] := by simp
    rw [e0] at hM3
    refine ka_gI (kg_s hM3.2.1) rfl rfl ?_
    refine ka_pI (kg_s hM3.2.1) rfl rfl (Nat.le_of_ble_eq_true rfl) ?_
    have hM4 := ku_num (sc' := v_num A.sc 2 (A.sc 2 + 1)) hM3
    have hc4 := kg_c hM4.2.1 (List.mem_of_getElem? hi1)
    refine ka_gI hc4 rfl rfl ?_
    refine ka_pI hc4 rfl rfl (Nat.le_of_ble_eq_true rfl) ?_
    have hM5 := ku_setC (c' := (c.1, c.2.1, km_min 99 (c.2.2.1 + t0), c.2.2.2.1 + 1, c.2.2.2.2)) hM4 hi1 rfl
    refine ka_ret (kb_fit his) (ka_pure ⟨by omega, rfl, _, hM5, ?_⟩)
    rw [if_neg h0]
    show (((A.cs.set i _).set i _).map (fun c : kC => c.2), A.V.ls, (A.bx ++ [(b, A.sc 2, k, km_min 9 x)]).map (fun c : kB => c.2), _) = _
    rw [List.set_set, List.map_set, List.map_append]
    rfl
theorem ko_one {i : Nat} {k : Int32} (hM : kc_mut H0 H s ad A) (hi : i < A.cs.length) (hk : k = 0 ∨ k = 1) (hbx : A.bx.length ≤ 200) (hl : A.ls.length ≤ 100) (hcl : A.cs.length ≤ 100) (hw : 500 ≤ w) : ka_T Z (pm_X1_carvesOne (some s) (Int32.ofNat i) k) w H (kq_V H0 s ad w 500 (v_one A.V i k)) := by
  obtain ⟨mc2, hcs⟩ := kg_cs hM.2.1
  have hs := kg_s hM.2.1
  have hci := List.getElem?_eq_getElem hi
  have hc0 := kg_c hM.2.1 (List.getElem_mem hi)
  have hcV : A.V.cs.getD i (0, 0, 0, 0) = A.cs[i].2 := kvg_cs hci
  unfold pm_X1_carvesOne
  refine ka_gR (by first | exact ka_same | assumption | exact ka_ne1 (by first | assumption | exact Ne.symm (by assumption)) (by first | exact ka_same | assumption | exact ka_ne1 (by first | assumption | exact Ne.symm (by assumption)) (by first | exact ka_same | assumption | exact ka_ne1 (by first | assumption | exact Ne.symm (by assumption)) (by first | exact ka_same | assumption | exact ka_ne1 (by first | assumption | exact Ne.symm (by assumption)) (by first | exact ka_same | assumption | exact ka_ne1 (by first | assumption | exact Ne.symm (by assumption)) (by first | exact ka_same | assumption | exact ka_ne1 (by first | assumption | exact Ne.symm (by assumption)) (by first | exact ka_same | assumption))))))) rfl rfl ?_
  refine ka_is hcs rfl (ka_use (kl_get (v := A.cs[i].1) hcs (by rw [List.getElem?_map, hci]; rfl)) ?_)
  refine ka_cast hc0 rfl rfl ?_
  refine ka_is (by first | exact ka_same | assumption | exact ka_ne1 (by first | assumption | exact Ne.symm (by assumption)) (by first | exact ka_same | assumption | exact ka_ne1 (by first | assumption | exact Ne.symm (by assumption)) (by first | exact ka_same | assumption | exact ka_ne1 (by first | assumption | exact Ne.symm (by assumption)) (by first | exact ka_same | assumption | exact ka_ne1 (by first | assumption | exact Ne.symm (by assumption)) (by first | exact ka_same | assumption | exact ka_ne1 (by first | assumption | exact Ne.symm (by assumption)) (by first | exact ka_same | assumption | exact ka_ne1 (by first | assumption | exact Ne.symm (by assumption)) (by first | exact ka_same | assumption))))))) rfl ?_
  refine ka_use (ko_sight hM.2.1 hl hcl hi) ?_
  have h38 : ∀ is : Int32, (is = 0 ∨ is = 1) → (is = 0 ↔ v_sight A.V i < (if k = 0 then 4 else 2)) → ka_T Z (pb_X1_carvesOne_38 (some s) k (some A.cs[i].1) (v_sight A.V i) is) w H (kq_V H0 s ad w 500 (v_one A.V i k)) := by
    intro is his hiff
    unfold pb_X1_carvesOne_38
    refine ka_gI (by first | exact ka_same | assumption | exact ka_ne1 (by first | assumption | exact Ne.symm (by assumption)) (by first | exact ka_same | assumption | exact ka_ne1 (by first | assumption | exact Ne.symm (by assumption)) (by first | exact ka_same | assumption | exact ka_ne1 (by first | assumption | exact Ne.symm (by assumption)) (by first | exact ka_same | assumption | exact ka_ne1 (by first | assumption | exact Ne.symm (by assumption)) (by first | exact ka_same | assumption | exact ka_ne1 (by first | assumption | exact Ne.symm (by assumption)) (by first | exact ka_same | assumption | exact ka_ne1 (by first | assumption | exact Ne.symm (by assumption)) (by first | exact ka_same | assumption))))))) rfl rfl ?_
    have hfin : ∀ (ss tt : Int32), ss = (if k = 0 then 1 else 2) → tt = (if k = 0 then 3 else 2) → ka_T Z (pb_X1_carvesOne_74 (some s) k (some A.cs[i].1) (v_sight A.V i) is tt A.cs[i].2.2.1 99 (some A.cs[i].1)) w (ka_up H s (kc_so ad (v_num A.sc 1 (A.sc 1 - ss)))) (kq_V H0 s ad w 500 (v_one A.V i k)) := by
      intro ss tt e1 e2
      have hM1 := ku_num (sc' := v_num A.sc 1 (A.sc 1 - ss)) hM
      refine ka_post (ko_74 (A := (A.cs, A.ls, A.bx, A.st, A.ps, A.so, A.wa, A.aw, v_num A.sc 1 (A.sc 1 - ss))) (i := i) (x := v_sight A.V i) (t0 := tt) hM1 hci hk his hbx hw) (fun r w' H' hp => ?_)
      obtain ⟨hw', rfl, A', hA', hV'⟩ := hp
      subst e1
      subst e2
      unfold v_one
      simp only [hcV]
      by_cases hs0 : v_sight A.V i < (if k = 0 then 4 else 2)
      · have hr := hiff.mpr hs0
        rw [if_pos hs0]
        refine ⟨hw', hr, A', hA', ?_⟩
        rw [hV', if_pos hr]
        rfl
      · have hr : ¬ r = 0 := fun z => hs0 (hiff.mp z)
        have hr1 : r = 1 := by
          rcases his with e | e
          · exact absurd e hr
          · exact e
        rw [if_neg hs0]
        refine ⟨hw', hr1, A', hA', ?_⟩
        rw [hV', if_neg hr]
        rfl
    by_cases hk0 : k = 0
    · refine ka_ifP hk0 ?_
      unfold pb_X1_carvesOne_54
      refine ka_pI (by first | exact ka_same | assumption | exact ka_ne1 (by first | assumption | exact Ne.symm (by assumption)) (by first | exact ka_same | assumption | exact ka_ne1 (by first | assumption | exact Ne.symm (by assumption)) (by first | exact ka_same | assumption | exact ka_ne1 (by first | assumption | exact Ne.symm (by assumption)) (by first | exact ka_same | assumption | exact ka_ne1 (by first | assumption | exact Ne.symm (by assumption)) (by first | exact ka_same | assumption | exact ka_ne1 (by first | assumption | exact Ne.symm (by assumption)) (by first | exact ka_same | assumption | exact ka_ne1 (by first | assumption | exact Ne.symm (by assumption)) (by first | exact ka_same | assumption))))))) rfl rfl (Nat.le_of_ble_eq_true rfl) ?_
      refine ka_gI ((ka_ne (ka_kinds hc0 hs (by simp))).trans hc0) rfl rfl (ka_ifP hk0 ?_)
      exact hfin 1 3 (by rw [if_pos hk0]) (by rw [if_pos hk0])
    · refine ka_ifN hk0 ?_
      unfold pb_X1_carvesOne_54
      refine ka_pI (by first | exact ka_same | assumption | exact ka_ne1 (by first | assumption | exact Ne.symm (by assumption)) (by first | exact ka_same | assumption | exact ka_ne1 (by first | assumption | exact Ne.symm (by assumption)) (by first | exact ka_same | assumption | exact ka_ne1 (by first | assumption | exact Ne.symm (by assumption)) (by first | exact ka_same | assumption | exact ka_ne1 (by first | assumption | exact Ne.symm (by assumption)) (by first | exact ka_same | assumption | exact ka_ne1 (by first | assumption | exact Ne.symm (by assumption)) (by first | exact ka_same | assumption | exact ka_ne1 (by first | assumption | exact Ne.symm (by assumption)) (by first | exact ka_same | assumption))))))) rfl rfl (Nat.le_of_ble_eq_true rfl) ?_
      refine ka_gI ((ka_ne (ka_kinds hc0 hs (by simp))).trans hc0) rfl rfl (ka_ifN hk0 ?_)
      exact hfin 2 2 (by rw [if_neg hk0]) (by rw [if_neg hk0])
  have h30 : ∀ lim : Int32, lim = (if k = 0 then 4 else 2) → ka_T Z (pb_X1_carvesOne_30 (some s) k (some A.cs[i].1) (v_sight A.V i) lim (v_sight A.V i)) w H (kq_V H0 s ad w 500 (v_one A.V i k)) := by
    intro lim hlim
    unfold pb_X1_carvesOne_30
    by_cases h : v_sight A.V i < lim
    · exact ka_ifP h (h38 0 (Or.inl rfl) ⟨fun _ => by rw [← hlim]; exact h, fun _ => rfl⟩)
    · exact ka_ifN h (h38 1 (Or.inr rfl) ⟨fun z => absurd z (by decide), fun z => absurd (by rw [hlim]; exact z) h⟩)
  by_cases hk0 : k = 0
  · exact ka_ifP hk0 (h30 4 (by rw [if_pos hk0]))
  · exact ka_ifN hk0 (h30 2 (by rw [if_neg hk0]))
theorem v_one_len (V : kV) (i : Nat) (k : Int32) : (v_one V i k).2.cs.length = V.cs.length ∧ (v_one V i k).2.ls = V.ls ∧ (v_one V i k).2.bx.length ≤ V.bx.length + 1 ∧ ((v_one V i k).1 = 0 ∨ (v_one V i k).1 = 1) := by
  unfold v_one
  dsimp only
  by_cases h : v_sight V i < (if k = 0 then 4 else 2)
  · rw [if_pos h]
    exact ⟨List.length_set, rfl, Nat.le_succ _, Or.inl rfl⟩
  · rw [if_neg h]
    refine ⟨List.length_set, rfl, ?_, Or.inr rfl⟩
    show (V.bx ++ [_]).length ≤ _
    rw [List.length_append]
    exact Nat.le_refl _
theorem k3_bit {x : Int32} (h : x = 0 ∨ x = 1) : ka_T Z (pm_X0_bit x) w H (ka_V w H x) := by
  unfold pm_X0_bit
  rcases h with e | e
  · exact ka_ifP e (ka_pure ⟨e.symm, rfl, rfl⟩)
  · exact ka_ifN (by rw [e]; decide) (ka_pure ⟨e.symm, rfl, rfl⟩)
theorem ko_manyLoop {i many : Nat} {k : Int32} (hk : k = 0 ∨ k = 1) (hmany : many < 2 ^ 30) : ∀ (d j fuel w : Nat) (n : Int32) (A : kAp) (H : ka_H), j + d = many → d < fuel → kc_mut H0 H s ad A → i < A.cs.length → A.cs.length ≤ 100 → A.ls.length ≤ 100 → A.bx.length + d ≤ 200 → 500 * d ≤ w → ka_T Z (pb_X1_carves_102 fuel (some s) (Int32.ofNat i) k (Int32.ofNat many) n (Int32.ofNat j)) w H (kq_R H0 s ad w (500 * d) (.inr (v_many i k d n A.V))) := by
  intro d
  induction d with
  | zero =>
    intro j fuel w n A H hd hf hM hi hc hl hb hw
    obtain ⟨fuel, rfl⟩ : ∃ n, fuel = n + 1 := ⟨fuel - 1, by omega⟩
    unfold pb_X1_carves_102
    exact ka_ifP ((k3_le (by omega) (by omega)).mpr (by omega)) (ka_pure ⟨Nat.le_refl _, rfl, A, hM, rfl⟩)
  | succ d ih =>
    intro j fuel w n A H hd hf hM hi hc hl hb hw
    obtain ⟨fuel, rfl⟩ : ∃ n, fuel = n + 1 := ⟨fuel - 1, by omega⟩
    unfold pb_X1_carves_102
    refine ka_ifN (fun z => absurd ((k3_le (by omega) (by omega)).mp z) (by omega)) ?_
    refine ka_is (kg_s hM.2.1) rfl (ka_call (ko_one hM hi hk (by omega) hl hc (by omega)) (fun r w' H' hp => ?_))
    obtain ⟨hw', rfl, A', hA', hV'⟩ := hp
    obtain ⟨q1, q2, q3, q4⟩ := v_one_len A.V i k
    rw [← hV'] at q1 q2 q3
    rw [kvl_cs, kvl_cs] at q1
    rw [kvl_bx, kvl_bx] at q3
    have q2' : A'.ls.length = A.ls.length := by rw [← kvl_ls, q2, kvl_ls]
    refine ka_use (k3_bit q4) ?_
    rw [k3_succ]
    refine ka_post (ih (j + 1) fuel w' (n + (v_one A.V i k).1) A' H' (by omega) (by omega) hA' (by omega) (by omega) (by omega) (by omega) (by omega)) (fun r w2 H2 hp => ?_)
    obtain ⟨g1, g2⟩ := hp
    refine ⟨by omega, ?_⟩
    rw [hV'] at g2
    exact g2
theorem ko_carves {i many : Nat} {k : Int32} (hM : kc_mut H0 H s ad A) (hi : i < A.cs.length) (hk : k = 0 ∨ k = 1) (hm : many ≤ 10) (hbx : A.bx.length ≤ 240) (hl : A.ls.length ≤ 100) (hcl : A.cs.length ≤ 100) (hw : 5100 ≤ w) : ka_T Z (pm_X1_carves (some s) (Int32.ofNat i) k (Int32.ofNat many)) w H (kq_R H0 s ad w 5100 (v_carves A.V i k many)) := by
  obtain ⟨mc2, hcs⟩ := kg_cs hM.2.1
  have hs := kg_s hM.2.1
  have hci := List.getElem?_eq_getElem hi
  have hc0 := kg_c hM.2.1 (List.getElem_mem hi)
  have hcV : A.V.cs.getD i (0, 0, 0, 0) = A.cs[i].2 := kvg_cs hci
  have hscV : A.V.sc = A.sc := rfl
  unfold pm_X1_carves v_carves
  dsimp only
  rw [hcV, hscV]
  refine ka_gR (by first | exact ka_same | assumption | exact ka_ne1 (by first | assumption | exact Ne.symm (by assumption)) (by first | exact ka_same | assumption | exact ka_ne1 (by first | assumption | exact Ne.symm (by assumption)) (by first | exact ka_same | assumption | exact ka_ne1 (by first | assumption | exact Ne.symm (by assumption)) (by first | exact ka_same | assumption | exact ka_ne1 (by first | assumption | exact Ne.symm (by assumption)) (by first | exact ka_same | assumption | exact ka_ne1 (by first | assumption | exact Ne.symm (by assumption)) (by first | exact ka_same | assumption | exact ka_ne1 (by first | assumption | exact Ne.symm (by assumption)) (by first | exact ka_same | assumption))))))) rfl rfl ?_
  refine ka_is hcs rfl (ka_use (kl_get (v := A.cs[i].1) hcs (by rw [List.getElem?_map, hci]; rfl)) ?_)
  refine ka_cast hc0 rfl rfl (ka_gI hc0 rfl rfl ?_)
  by_cases h1 : 60 ≤ A.cs[i].2.2.1
  · refine ka_ifP h1 ?_
    rw [if_pos (show 60 ≤ A.cs[i].2.2.1 from h1)]
    unfold pb_X1_carves_28
    exact ka_gI hc0 rfl rfl (ka_needsF (by omega) (fun q hq => kq_no hM (by omega) rfl (by omega) q hq))
  · refine ka_ifN h1 ?_
    rw [if_neg (show ¬ 60 ≤ A.cs[i].2.2.1 from h1)]
    unfold pb_X1_carves_28
    refine ka_gI hc0 rfl rfl (ka_needsT (by decide) ?_)
    have h47 : ∀ m : Int32, m = (if k = 0 then 1 else 2) → ka_T Z (pb_X1_carves_47 (some s) (Int32.ofNat i) k (Int32.ofNat many) m (Int32.ofNat many)) w H (kq_R H0 s ad w 5100 (if 0 < Int32.ofNat many * (if k = 0 then 1 else 2) - A.sc 1 then .inl [(3, Int32.ofNat many * (if k = 0 then 1 else 2) - A.sc 1)] else if 60 < A.V.bx.length + many then .inl [(1, 60)] else .inr (v_many i k many 0 A.V))) := by
      intro m hmk
      rw [← hmk]
      unfold pb_X1_carves_47
      refine ka_gI (by first | exact ka_same | assumption | exact ka_ne1 (by first | assumption | exact Ne.symm (by assumption)) (by first | exact ka_same | assumption | exact ka_ne1 (by first | assumption | exact Ne.symm (by assumption)) (by first | exact ka_same | assumption | exact ka_ne1 (by first | assumption | exact Ne.symm (by assumption)) (by first | exact ka_same | assumption | exact ka_ne1 (by first | assumption | exact Ne.symm (by assumption)) (by first | exact ka_same | assumption | exact ka_ne1 (by first | assumption | exact Ne.symm (by assumption)) (by first | exact ka_same | assumption | exact ka_ne1 (by first | assumption | exact Ne.symm (by assumption)) (by first | exact ka_same | assumption))))))) rfl rfl ?_
      by_cases h2 : 0 < Int32.ofNat many * m - A.sc 1
      · refine ka_ifP h2 ?_
        rw [if_pos h2]
        unfold pb_X1_carves_65
        exact ka_needsF (by omega) (fun q hq => kq_no hM (by omega) rfl (by omega) q hq)
      · refine ka_ifN h2 ?_
        rw [if_neg h2]
        unfold pb_X1_carves_65
        refine ka_needsT (by decide) ?_
        refine ka_gR (by first | exact ka_same | assumption | exact ka_ne1 (by first | assumption | exact Ne.symm (by assumption)) (by first | exact ka_same | assumption | exact ka_ne1 (by first | assumption | exact Ne.symm (by assumption)) (by first | exact ka_same | assumption | exact ka_ne1 (by first | assumption | exact Ne.symm (by assumption)) (by first | exact ka_same | assumption | exact ka_ne1 (by first | assumption | exact Ne.symm (by assumption)) (by first | exact ka_same | assumption | exact ka_ne1 (by first | assumption | exact Ne.symm (by assumption)) (by first | exact ka_same | assumption | exact ka_ne1 (by first | assumption | exact Ne.symm (by assumption)) (by first | exact ka_same | assumption))))))) rfl rfl ?_
        have hbox := kg_box hM.2.1
        obtain ⟨mb, hbl⟩ := kg_bl hM.2.1
        refine ka_dB hbox.1 (ka_use (kb_size hbox.1 hbl) ?_)
        rw [List.length_map, k3_add, kvl_bx]
        by_cases h3 : 60 < A.bx.length + many
        · rw [if_pos (show 60 < A.bx.length + many from h3)]
          refine ka_ifP ((k3_lt (a := 60) (by decide) (by omega)).mpr h3) ?_
          unfold pb_X1_carves_90
          exact ka_needsF (by omega) (fun q hq => kq_no hM (by omega) rfl (by omega) q hq)
        · rw [if_neg (show ¬ 60 < A.bx.length + many from h3)]
          refine ka_ifN (fun z => h3 ((k3_lt (a := 60) (by decide) (by omega)).mp z)) ?_
          unfold pb_X1_carves_90
          refine ka_needsT (by decide) ?_
          refine ka_post (ko_manyLoop hk (by omega) many 0 km_fuel w 0 A H (by omega) (by unfold km_fuel; omega) hM hi hcl hl (by omega) (by omega)) (fun r w' H' hp => ?_)
          obtain ⟨g1, g2⟩ := hp
          exact ⟨by omega, g2⟩
    by_cases hk0 : k = 0
    · exact ka_ifP hk0 (h47 1 (by rw [if_pos hk0]))
    · exact ka_ifN hk0 (h47 2 (by rw [if_neg hk0]))
end KCW
