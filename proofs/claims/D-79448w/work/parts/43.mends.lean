set_option maxRecDepth 100000
/-! ===== a string is mended; a day goes ===== -/
section KMD
variable {Z : ka_Z} {w : Nat} {H0 H : ka_H} {s : Nat} {ad : Nat → Nat} {A : kAp}
theorem ko_awayLoop {it : Nat} {d : kDp} {c : kB} {mc : Int32} (hit0 : H0 it = none) (hdl : d.bs.length ≤ 200) (hdn : ∀ b ∈ d.bs, 0 ≤ b.2.1 ∧ b.2.1.toNatClampNeg < 256) : ∀ (rest done : List kB) (A : kAp) (H : ka_H) (fuel w : Nat) (lr : Int32), d.bs = done ++ rest → rest.length < fuel → kc_mut H0 H s ad A → H it = some (ka_it done.length lr mc d.2.1) → H d.2.1 = some (ka_ls mc (d.bs.map (·.1))) → (∀ b ∈ d.bs, kb_bead H b) → kb_bead H c → H d.1 = some (kc_D d) → 20 * rest.length ≤ w → ka_T Z (pb_X1_mends_71 fuel (some s) (some c.1) (some d.1) (some it)) w H (fun r w' H' => w ≤ w' + 20 * rest.length ∧ r = .inr c.2.1 ∧ ∃ A', kc_mut H0 H' s ad A' ∧ A'.V = (A.V.cs, A.V.ls, A.V.bx, A.V.st, A.V.ps, A.V.so, A.V.wa, v_adds A.aw (rest.map (·.2)), v_num (v_num (v_num A.sc 8 (A.sc 8 + (Int32.ofNat d.bs.length + 1))) 5 (A.sc 5 + 1)) 6 (A.sc 6 + 3))) := by
  intro rest
  induction rest with
  | nil =>
    intro done A H fuel w lr hA hf hM hit hl hb hc hd hw
    obtain ⟨fuel, rfl⟩ : ∃ n, fuel = n + 1 := ⟨fuel - 1, by omega⟩
    have hA1 : done.length = d.bs.length := by rw [hA, List.append_nil]
    unfold pb_X1_mends_71
    refine kl_dHas hit hl (by omega) (by rw [List.length_map]; omega) ?_
    rw [List.length_map, if_pos hA1]
    refine ka_ifP rfl ?_
    refine ka_gI (kg_s hM.2.1) rfl rfl ?_
    refine ka_is hd rfl (ka_use (kb_size ⟨12, _, hd, Or.inr (Or.inr rfl)⟩ hl) ?_)
    rw [List.length_map]
    refine ka_pI (kg_s hM.2.1) rfl rfl (Nat.le_of_ble_eq_true rfl) ?_
    have hM1 := ku_num (sc' := v_num A.sc 8 (A.sc 8 + (Int32.ofNat d.bs.length + 1))) hM
    refine ka_gI (kg_s hM1.2.1) rfl rfl ?_
    refine ka_pI (kg_s hM1.2.1) rfl rfl (Nat.le_of_ble_eq_true rfl) ?_
    have hM2 := ku_num (sc' := v_num (v_num A.sc 8 (A.sc 8 + (Int32.ofNat d.bs.length + 1))) 5 (A.sc 5 + 1)) hM1
    refine ka_gI (kg_s hM2.2.1) rfl rfl ?_
    refine ka_pI (kg_s hM2.2.1) rfl rfl (Nat.le_of_ble_eq_true rfl) ?_
    have hM3 := ku_num (sc' := v_num (v_num (v_num A.sc 8 (A.sc 8 + (Int32.ofNat d.bs.length + 1))) 5 (A.sc 5 + 1)) 6 (A.sc 6 + 3)) hM2
    have hcs : c.1 ≠ s := ka_kinds hc (kg_s hM.2.1) (by simp)
    exact ka_gI ((ka_ne hcs).trans ((ka_ne hcs).trans ((ka_ne hcs).trans hc))) rfl rfl (ka_pure ⟨by omega, rfl, _, hM3, rfl⟩)
  | cons b t ih =>
    intro done A H fuel w lr hA hf hM hit hl hb hc hd hw
    obtain ⟨fuel, rfl⟩ : ∃ n, fuel = n + 1 := ⟨fuel - 1, by omega⟩
    have hAl : d.bs.length = done.length + (t.length + 1) := by rw [hA, List.length_append]; rfl
    have hbm : b ∈ d.bs := by rw [hA]; simp
    simp only [List.length_cons] at hf hw
    unfold pb_X1_mends_71
    refine kl_dHas hit hl (by omega) (by rw [List.length_map]; omega) ?_
    rw [List.length_map, if_neg (show ¬ done.length = d.bs.length by omega)]
    refine ka_ifN (by decide) ?_
    refine kl_dNext (v := b.1) hit hl (by rw [hA]; simp) ?_
    have hM1 := ku_it (o' := ka_it (done.length + 1) (Int32.ofNat done.length) mc d.2.1) hM hit (Or.inl rfl) hit0
    have hk1 : ∀ {y : Nat} {o : ka_O}, H y = some o → o ≠ ka_it done.length lr mc d.2.1 → ka_up H it (ka_it (done.length + 1) (Int32.ofNat done.length) mc d.2.1) y = some o := fun {y o} hy hn => (ka_ne (ka_kinds hy hit hn)).trans hy
    have hb1 := hk1 (hb b hbm) (by simp)
    refine ka_cast hb1 rfl rfl ?_
    refine ka_gR (kg_s hM1.2.1) rfl rfl ?_
    refine ka_gI hb1 rfl rfl ?_
    have hbn := hdn b hbm
    have hbs7 := hM1.2.1.2.2.1
    refine ka_is hbs7 rfl (ka_call (ko_set hbs7 hbn.1 hbn.2 (by omega)) (fun _ v K hq => ?_))
    obtain ⟨hv, rfl⟩ := hq
    have hM2 := ku_away (f := kn_add A.aw b.2.1.toNatClampNeg) hM1
    have hk2 : ∀ {y : Nat} {o : ka_O}, ka_up H it (ka_it (done.length + 1) (Int32.ofNat done.length) mc d.2.1) y = some o → o ≠ ka_bs A.aw → ka_up (ka_up H it (ka_it (done.length + 1) (Int32.ofNat done.length) mc d.2.1)) (ad 7) (ka_bs (kn_add A.aw b.2.1.toNatClampNeg)) y = some o := fun {y o} hy hn => (ka_ne (ka_kinds hy hbs7 hn)).trans hy
    have h2 := ih (done ++ [b]) _ _ fuel v (Int32.ofNat done.length) (by rw [hA]; simp) (by omega) hM2 (by rw [List.length_append]; exact hk2 ka_same (by simp)) (hk2 (hk1 hl (by simp)) (by simp)) (fun e he => hk2 (hk1 (hb e he) (by simp)) (by simp)) (hk2 (hk1 hc (by simp)) (by simp)) (hk2 (hk1 hd (by simp)) (by simp)) (by omega)
    refine ka_post h2 (fun r w' H' hp => ?_)
    obtain ⟨g1, g2, A', g3, g4⟩ := hp
    exact ⟨by simp only [List.length_cons]; omega, g2, A', g3, g4⟩
theorem v_mends_cons {V : kV} {d : vD} {rest : List vD} {x : vB} (h : V.wa = d :: rest) (hx : d.2.1 = some x) : v_mends V = match v_takes V x.2.1 with
    | .inl ch => .inl ch
    | .inr (b, W) => .inr (b.1, W.cs, W.ls, W.bx, W.st, W.ps, W.so, rest, v_adds (kn_add W.aw b.1.toNatClampNeg) d.bs, v_num (v_num (v_num W.sc 8 (W.sc 8 + (Int32.ofNat d.bs.length + 1))) 5 (W.sc 5 + 1)) 6 (W.sc 6 + 3)) := by
  unfold v_mends
  rw [h]
  dsimp only
  rw [hx]
  rfl
/-- what waits, as mends needs it -/
def kw_okp (d : kDp) : Prop := (∃ c, d.2.2.2.1 = some c ∧ (c.2.2.1 = 0 ∨ c.2.2.1 = 1)) ∧ d.bs.length ≤ 200 ∧ ∀ b ∈ d.bs, 0 ≤ b.2.1 ∧ b.2.1.toNatClampNeg < 256
theorem ko_mends (hM : kc_mut H0 H s ad A) (hlen : A.st.length ≤ 6) (hbs : ∀ r ∈ A.st, r.bs.length ≤ 200) (hbx : A.bx.length ≤ 240) (hnd : (A.bx.map (·.2.1)).Nodup) (hbn : ∀ b ∈ A.bx, 0 ≤ b.2.1 ∧ b.2.1.toNatClampNeg < 256) (hwl : A.wa.length ≤ 240) (hok : ∀ d ∈ A.wa, kw_okp d) (hw : 5000 ≤ w) : ka_T Z (pm_X1_mends (some s)) w H (kq_R H0 s ad w 5000 (v_mends A.V)) := by
  obtain ⟨mc, hl⟩ := kg_wa hM.2.1
  have hs := kg_s hM.2.1
  unfold pm_X1_mends
  refine ka_gR (by first | exact ka_same | assumption | exact ka_ne1 (by first | assumption | exact Ne.symm (by assumption)) (by first | exact ka_same | assumption | exact ka_ne1 (by first | assumption | exact Ne.symm (by assumption)) (by first | exact ka_same | assumption | exact ka_ne1 (by first | assumption | exact Ne.symm (by assumption)) (by first | exact ka_same | assumption | exact ka_ne1 (by first | assumption | exact Ne.symm (by assumption)) (by first | exact ka_same | assumption | exact ka_ne1 (by first | assumption | exact Ne.symm (by assumption)) (by first | exact ka_same | assumption | exact ka_ne1 (by first | assumption | exact Ne.symm (by assumption)) (by first | exact ka_same | assumption))))))) rfl rfl ?_
  refine ka_is hl rfl (ka_use (kl_isEmpty hl (by rw [List.length_map]; omega)) ?_)
  cases hwa : A.wa with
  | nil =>
    rw [List.map_nil, if_pos rfl]
    refine ka_ifP (by decide) ?_
    unfold pb_X1_mends_15 v_mends
    rw [show A.V.wa = [] from by show A.wa.map kDp.V = []; rw [hwa]; rfl]
    exact ka_needsF (by omega) (fun q hq => kq_no hM (by omega) rfl (by omega) q hq)
  | cons d rest =>
    rw [if_neg (show ¬ (d :: rest).map (fun d : kDp => d.1) = [] by simp)]
    refine ka_ifN (fun z => z rfl) ?_
    have hdm : d ∈ A.wa := by rw [hwa]; exact List.mem_cons_self
    obtain ⟨⟨c0, hc0, hck⟩, hdl, hdn⟩ := hok d hdm
    have hd0 := kg_d hM.2.1 (Or.inr hdm)
    have hdb := kg_ds hM.2.1 (Or.inr hdm)
    have hcb := hdb.2.2 c0 hc0
    unfold pb_X1_mends_15
    rw [v_mends_cons (V := A.V) (d := d.V) (rest := rest.map kDp.V) (x := c0.2) (by show A.wa.map kDp.V = _; rw [hwa]; rfl) (by show d.2.2.2.1.map (fun b : kB => b.2) = _; rw [hc0]; rfl)]
    refine ka_needsT (by decide) ?_
    refine ka_gR (by first | exact ka_same | assumption | exact ka_ne1 (by first | assumption | exact Ne.symm (by assumption)) (by first | exact ka_same | assumption | exact ka_ne1 (by first | assumption | exact Ne.symm (by assumption)) (by first | exact ka_same | assumption | exact ka_ne1 (by first | assumption | exact Ne.symm (by assumption)) (by first | exact ka_same | assumption | exact ka_ne1 (by first | assumption | exact Ne.symm (by assumption)) (by first | exact ka_same | assumption | exact ka_ne1 (by first | assumption | exact Ne.symm (by assumption)) (by first | exact ka_same | assumption | exact ka_ne1 (by first | assumption | exact Ne.symm (by assumption)) (by first | exact ka_same | assumption))))))) rfl rfl ?_
    have hget : (A.wa.map (·.1))[0]? = some d.1 := by rw [hwa]; rfl
    refine ka_is hl rfl (ka_use (kl_get (i := 0) hl hget) ?_)
    refine ka_cast hd0 rfl rfl (ka_gR (v := some c0.1) hd0 rfl (by rw [hc0]; rfl) (ka_gI hcb rfl rfl ?_))
    refine ka_is hs rfl (ka_call (ko_takes hck hM.2.1 hlen (fun r hr => Nat.lt_of_le_of_lt (hbs r hr) (by omega)) (by omega) hnd (by omega)) (fun x v K hp => ?_))
    obtain ⟨hv, hp⟩ := hp
    cases hx : v_takes A.V c0.2.2.1 with
    | inl ch =>
      rw [hx] at hp
      cases x with
      | inr y => exact hp.elim
      | inl q => exact ka_pure ⟨by omega, ka_le_trans hM.1 hp.1, hp.2⟩
    | inr bV =>
      rw [hx] at hp
      cases x with
      | inl y => exact hp.elim
      | inr y =>
        obtain ⟨c, mb, bx, rfl, hcb2, hcm, hbm, rfl, hV⟩ := hp
        obtain ⟨b, W⟩ := bV
        dsimp only at hcb2 hV
        subst hcb2
        subst hV
        have hbox := kg_box hM.2.1
        have hM1 := ku_box (mc := mb) (bx := bx) hM (fun b hb => hbox.2.2 b (hbm b hb))
        obtain ⟨m8, hb8⟩ := kg_bl hM.2.1
        have hc1 : kb_bead (ka_up H (ad 8) (ka_ls mb (bx.map (·.1)))) c := (ka_ne (ka_kinds (hbox.2.2 c hcm) hb8 (by simp))).trans (hbox.2.2 c hcm)
        obtain ⟨mc1, hl1⟩ := kg_wa hM1.2.1
        show ka_T Z (km_bind (km_gR [(1, 6)] (some s)) _) _ _ _
        refine ka_gR (kg_s hM1.2.1) rfl rfl ?_
        refine ka_is hl1 rfl (ka_call (kl_removeAt (i := 0) hl1 hget) (fun x v2 K hq => ?_))
        obtain ⟨rfl, rfl, rfl⟩ := hq
        have her : (A.wa.map (·.1)).eraseIdx 0 = rest.map (·.1) := by rw [hwa]; rfl
        have her2 : ((kAp.wa (A.cs, A.ls, bx, A.2.2.2)).map (·.1)).eraseIdx 0 = rest.map (·.1) := her
        rw [her2]
        have hsub : rest.Sublist A.wa := by rw [hwa]; exact List.sublist_cons_self ..
        have hnd2 : ((kc_lists ad (A.cs, A.ls, bx, A.st, A.ps, A.so, rest, A.2.2.2.2.2.2.2)).map (·.1)).Nodup := by
          have hs2 : ((kc_lists ad (A.cs, A.ls, bx, A.st, A.ps, A.so, rest, A.2.2.2.2.2.2.2)).map (·.1)).Sublist ((kc_lists ad A).map (·.1)) := by
            have e1 : ∀ B : kAp, (kc_lists ad B).map (·.1) = [ad 0, ad 1, ad 8, ad 3, ad 4, ad 5, ad 6] ++ ((kc_inS B.st).map (·.1) ++ ((kc_inD B.so).map (·.1) ++ B.wa.map (·.2.1))) := by
              intro B
              unfold kc_lists kc_top
              simp only [List.map_append, List.map_cons, List.map_nil]
              rw [show (kc_inD B.wa).map (·.1) = B.wa.map (·.2.1) from by unfold kc_inD; rw [List.map_map]; rfl]
            rw [e1, e1]
            exact List.Sublist.append (List.Sublist.refl _) (List.Sublist.append (List.Sublist.refl _) (List.Sublist.append (List.Sublist.refl _) (hsub.map _)))
          exact hM.2.2.2.1.sublist hs2
        have hM2 := ku_wa (mc := mc1 + 1) (wa' := rest) hM1 (fun e he => kg_dok hM1.2.1 (Or.inr (hsub.subset he))) hnd2
        -- what is kept
        have hl6 : d.2.1 ≠ ad 6 := by
          have hnd := hM.2.2.2.1
          intro z
          have hq : (d.2.1, d.bs.map (·.1)) ∈ kc_inD A.wa := List.mem_map_of_mem (f := fun d : kDp => (d.2.1, d.bs.map (·.1))) hdm
          have e9 : (kc_lists ad A).map (·.1) = [ad 0, ad 1, ad 8, ad 3, ad 4, ad 5] ++ (ad 6 :: ((kc_inS A.st ++ (kc_inD A.so ++ kc_inD A.wa)).map (·.1))) := by
            unfold kc_lists kc_top
            simp only [List.map_append, List.map_cons, List.map_nil]
            rfl
          rw [e9, List.nodup_append] at hnd
          refine (List.nodup_cons.mp hnd.2.1).1 ?_
          rw [← z]
          exact List.mem_map_of_mem (f := fun q : Nat × List Nat => q.1) (List.mem_append_right _ (List.mem_append_right _ hq))
        have hk2 : ∀ {y : Nat} {o : ka_O}, ka_up H (ad 8) (ka_ls mb (bx.map (·.1))) y = some o → y ≠ ad 6 → ka_up (ka_up H (ad 8) (ka_ls mb (bx.map (·.1)))) (ad 6) (ka_ls (mc1 + 1) (rest.map (·.1))) y = some o := fun {y o} hy hn => (ka_ne hn).trans hy
        have hd1 : ka_up H (ad 8) (ka_ls mb (bx.map (·.1))) d.1 = some (kc_D d) := kg_d hM1.2.1 (Or.inr hdm)
        have hdb1 := kg_ds hM1.2.1 (Or.inr hdm)
        obtain ⟨⟨ml, hdl1⟩, hdbe⟩ := hdb1.2.1
        have hd2 := hk2 hd1 (ka_kinds hd1 hl1 (by simp))
        have hc2 := hk2 hc1 (ka_kinds hc1 hl1 (by simp))
        have hdl2 := hk2 hdl1 hl6
        refine ka_cast hd2 rfl rfl ?_
        refine ka_gR (kg_s hM2.2.1) rfl rfl ?_
        refine ka_gI hc2 rfl rfl ?_
        have hcn := hbn c hcm
        have hb7 := hM2.2.1.2.2.1
        refine ka_is hb7 rfl (ka_call (ko_set hb7 hcn.1 hcn.2 (by omega)) (fun _ v3 K hq => ?_))
        obtain ⟨hv3, rfl⟩ := hq
        have hM3 := ku_away (f := kn_add A.aw c.2.1.toNatClampNeg) hM2
        have hk3 : ∀ {y : Nat} {o : ka_O}, ka_up (ka_up H (ad 8) (ka_ls mb (bx.map (·.1)))) (ad 6) (ka_ls (mc1 + 1) (rest.map (·.1))) y = some o → o ≠ ka_bs A.aw → ka_up (ka_up (ka_up H (ad 8) (ka_ls mb (bx.map (·.1)))) (ad 6) (ka_ls (mc1 + 1) (rest.map (·.1)))) (ad 7) (ka_bs (kn_add A.aw c.2.1.toNatClampNeg)) y = some o := fun {y o} hy hn => (ka_ne (ka_kinds hy hb7 hn)).trans hy
        have hd3 := hk3 hd2 (by simp)
        have hdl3 := hk3 hdl2 (by simp)
        have hc3 := hk3 hc2 (by simp)
        refine ka_is hd3 rfl (ka_call (P := fun r w' H' => ∃ it, r = some it ∧ ka_up (ka_up (ka_up H (ad 8) (ka_ls mb (bx.map (·.1)))) (ad 6) (ka_ls (mc1 + 1) (rest.map (·.1)))) (ad 7) (ka_bs (kn_add A.aw c.2.1.toNatClampNeg)) it = none ∧ w' = v3 - 9 ∧ H' = ka_up (ka_up (ka_up (ka_up H (ad 8) (ka_ls mb (bx.map (·.1)))) (ad 6) (ka_ls (mc1 + 1) (rest.map (·.1)))) (ad 7) (ka_bs (kn_add A.aw c.2.1.toNatClampNeg))) it (ka_it 0 (-1) ml d.2.1)) ?_ (fun r v4 K hq => ?_))
        · unfold pm_X2_iterator
          refine ka_gB ⟨12, _, hd3, Or.inr (Or.inr rfl)⟩ (ka_is hdl3 rfl (ka_call (kl_iterator hdl3 (by omega)) (fun r w' H' hp => ?_)))
          obtain ⟨it, rfl, hit, rfl, rfl⟩ := hp
          exact ka_pure ⟨it, rfl, hit, rfl, rfl⟩
        · obtain ⟨it, rfl, hit, rfl, rfl⟩ := hq
          have hM4 := ku_new (o := ka_it 0 (-1) ml d.2.1) hM3 hit
          have hk4 : ∀ {y : Nat} {o : ka_O}, ka_up (ka_up (ka_up H (ad 8) (ka_ls mb (bx.map (·.1)))) (ad 6) (ka_ls (mc1 + 1) (rest.map (·.1)))) (ad 7) (ka_bs (kn_add A.aw c.2.1.toNatClampNeg)) y = some o → ka_up (ka_up (ka_up (ka_up H (ad 8) (ka_ls mb (bx.map (·.1)))) (ad 6) (ka_ls (mc1 + 1) (rest.map (·.1)))) (ad 7) (ka_bs (kn_add A.aw c.2.1.toNatClampNeg))) it (ka_it 0 (-1) ml d.2.1) y = some o := fun {y o} hy => (ka_ne (ka_dom hy hit)).trans hy
          refine ka_post (ko_awayLoop (it := it) (d := d) (c := c) (mc := ml) (kc_fresh hM3 hit) hdl hdn d.bs [] _ _ km_fuel (v3 - 9) (-1) rfl (by unfold km_fuel; omega) hM4 ka_same (hk4 hdl3) (fun e he => hk4 (hk3 (hk2 (hdbe e he) (ka_kinds (hdbe e he) hl1 (by simp))) (by simp))) (hk4 hc3) (hk4 hd3) (by omega)) (fun r w' H' hp => ?_)
          obtain ⟨g1, rfl, A', g3, g4⟩ := hp
          refine ⟨by omega, rfl, A', g3, ?_⟩
          rw [g4]
          show _ = (A.V.cs, A.V.ls, bx.map (·.2), A.V.st, A.V.ps, A.V.so, rest.map kDp.V, v_adds (kn_add A.V.aw c.2.1.toNatClampNeg) d.V.bs, v_num (v_num (v_num A.V.sc 8 (A.V.sc 8 + (Int32.ofNat (d.bs.map (·.2)).length + 1))) 5 (A.V.sc 5 + 1)) 6 (A.V.sc 6 + 3))
          rw [List.length_map]
theorem v_buys_small (V : kV) (p : vP) : (v_buys V p).2.st.Sublist V.st ∧ (v_buys V p).2.so.length ≤ max V.so.length 8 ∧ (v_buys V p).2.so.length ≤ V.so.length + 1 ∧ (v_buys V p).2.sc 0 = V.sc 0 ∧ (v_buys V p).2.wa = V.wa ∧ (v_buys V p).2.ps = V.ps := by
  unfold v_buys
  dsimp only
  by_cases h : v_wanted V p = -6
  · rw [if_pos h]
    exact ⟨List.Sublist.refl _, Nat.le_max_left _ _, Nat.le_succ _, rfl, rfl, rfl⟩
  · rw [if_neg h]
    obtain ⟨e0, -⟩ := (v_wanted_spec V p).resolve_left h
    refine ⟨List.eraseIdx_sublist .., ?_, ?_, rfl, rfl, rfl⟩
    · show (V.so ++ [_]).length ≤ _
      rw [List.length_append]
      simp only [List.length_cons, List.length_nil]
      omega
    · show (V.so ++ [_]).length ≤ _
      rw [List.length_append]
      exact Nat.le_refl _
/-- with other pilgrims -/
abbrev v_sw (V : kV) (ps : List vP) : kV := (V.cs, V.ls, V.bx, V.st, ps, V.2.2.2.2.2)
theorem v_buys_sw (V : kV) (ps : List vP) (p : vP) : v_buys (v_sw V ps) p = ((v_buys V p).1, v_sw (v_buys V p).2 ps) := by
  unfold v_buys
  have e : v_wanted (v_sw V ps) p = v_wanted V p := rfl
  dsimp only
  rw [e]
  split <;> rfl
theorem v_pil_sw : ∀ (u k : List vP) (n : Int32) (V : kV) (ps : List vP), v_pil u k n (v_sw V ps) = v_pil u k n V := by
  intro u
  induction u with
  | nil => intro k n V ps; rfl
  | cons p t ih =>
    intro k n V ps
    rw [v_pil, v_pil, v_buys_sw]
    dsimp only
    rw [ih _ _ (v_buys V p).2, ih _ _ V]
theorem ko_pilLoop {it : Nat} (hE : ka_E0 Z) (hit0 : H0 it = none) : ∀ (rest keep : List kP) (A : kAp) (H : ka_H) (fuel w : Nat) (lr mc n : Int32), A.ps = keep ++ rest → rest.length < fuel → kc_mut H0 H s ad A → H it = some (ka_it keep.length lr mc (ad 4)) → H (ad 4) = some (ka_ls mc (A.ps.map (·.1))) → A.ps.length ≤ 100 → A.st.length ≤ 6 → (∀ r ∈ A.st, r.bs.length ≤ 200) → A.so.length ≤ 8 → 1500 * rest.length ≤ w → ka_T Z (pb_X1_goesDay_69 fuel (some s) n (some it)) w H (fun r w' H' => ∃ A', kc_mut H0 H' s ad A' ∧ r = (v_pil (rest.map (·.2)) (keep.map (·.2)) n A.V).1 ∧ A'.V = (v_pil (rest.map (·.2)) (keep.map (·.2)) n A.V).2 ∧ w + 3000 * A'.ps.length + 1300 * A'.so.length ≤ w' + 3000 * A.ps.length + 1300 * A.so.length) := by
  intro rest
  induction rest with
  | nil =>
    intro keep A H fuel w lr mc n hA hf hM hit hl hps hst hbs hso hw
    obtain ⟨fuel, rfl⟩ : ∃ n, fuel = n + 1 := ⟨fuel - 1, by omega⟩
    have hA1 : keep.length = A.ps.length := by rw [hA, List.append_nil]
    unfold pb_X1_goesDay_69
    refine kl_dHas hit hl (by omega) (by rw [List.length_map]; omega) ?_
    rw [List.length_map, if_pos hA1]
    refine ka_ifP rfl (ka_pure ⟨A, hM, rfl, ?_, Nat.le_refl _⟩)
    show A.V = (A.V.cs, A.V.ls, A.V.bx, A.V.st, keep.map (·.2), A.V.2.2.2.2.2)
    have e1 : keep.map (·.2) = A.V.ps := by
      show _ = A.ps.map (·.2)
      rw [hA, List.append_nil]
    rw [e1]
  | cons p t ih =>
    intro keep A H fuel w lr mc n hA hf hM hit hl hps hst hbs hso hw
    obtain ⟨fuel, rfl⟩ : ∃ n, fuel = n + 1 := ⟨fuel - 1, by omega⟩
    have hAl : A.ps.length = keep.length + (t.length + 1) := by rw [hA, List.length_append]; rfl
    have hpm : p ∈ A.ps := by rw [hA]; simp
    simp only [List.length_cons] at hf hw
    have hi4 : ad 4 ≠ it := (ka_kinds hit hl (by simp)).symm
    unfold pb_X1_goesDay_69
    refine kl_dHas hit hl (by omega) (by rw [List.length_map]; omega) ?_
    rw [List.length_map, if_neg (show ¬ keep.length = A.ps.length by omega)]
    refine ka_ifN (by decide) ?_
    refine kl_dNext (v := p.1) hit hl (by rw [hA]; simp) ?_
    have hM1 := ku_it (o' := ka_it (keep.length + 1) (Int32.ofNat keep.length) mc (ad 4)) hM hit (Or.inl rfl) hit0
    have hl1 : ka_up H it (ka_it (keep.length + 1) (Int32.ofNat keep.length) mc (ad 4)) (ad 4) = some (ka_ls mc (A.ps.map (·.1))) := (ka_ne hi4).trans hl
    have hp1 := kg_p hM1.2.1 hpm
    refine ka_cast hp1 rfl rfl (ka_gI hp1 rfl rfl (ka_gI (kg_s hM1.2.1) rfl rfl ?_))
    by_cases h1 : p.2.1 = A.sc 0
    · refine ka_ifN (fun z => z h1) ?_
      have hit1 : ka_up H it (ka_it (keep.length + 1) (Int32.ofNat keep.length) mc (ad 4)) it = some (ka_it (keep.length + 1) (Int32.ofNat keep.length) mc (ad 4)) := ka_same
      refine ka_is hit1 rfl (ka_call (kl_itRemove (v := p.1) hit1 hl1 (by rw [List.length_map]; omega) (by rw [hA]; simp)) (fun x v1 K hq => ?_))
      obtain ⟨rfl, rfl⟩ := hq
      have hsub : (keep ++ t).Sublist A.ps := by
        rw [hA]
        exact List.Sublist.append (List.Sublist.refl _) (List.sublist_cons_self ..)
      have her : (A.ps.map (·.1)).eraseIdx keep.length = (keep ++ t).map (·.1) := by
        rw [← ks_emap, hA]
        congr 1
        rw [List.eraseIdx_append_of_length_le (Nat.le_refl _), Nat.sub_self]
        rfl
      rw [her]
      have hM2 := ku_pil (mc := mc + 1) (ps := keep ++ t) hM1 (fun e he => kg_p hM1.2.1 (hsub.subset he))
      have hit2 : ka_up (ka_up H it (ka_it (keep.length + 1) (Int32.ofNat keep.length) mc (ad 4))) (ad 4) (ka_ls (mc + 1) ((keep ++ t).map (·.1))) it = some (ka_it (keep.length + 1) (Int32.ofNat keep.length) mc (ad 4)) := (ka_ne hi4.symm).trans ka_same
      have hM3 := ku_it (o' := ka_it keep.length (-1) (mc + 1) (ad 4)) hM2 hit2 (Or.inl rfl) hit0
      have hp3 : ka_up (ka_up (ka_up H it (ka_it (keep.length + 1) (Int32.ofNat keep.length) mc (ad 4))) (ad 4) (ka_ls (mc + 1) ((keep ++ t).map (·.1)))) it (ka_it keep.length (-1) (mc + 1) (ad 4)) p.1 = some (kc_P p) := (ka_ne (ka_kinds hp1 hit1 (by simp))).trans ((ka_ne (ka_kinds hp1 hl1 (by simp))).trans hp1)
      refine ka_is (kg_s hM3.2.1) rfl (ka_call (ko_buys hE hM3 hp3 hst hbs hso (by omega)) (fun x v2 K hq => ?_))
      obtain ⟨hv2, rfl, hkeep, A', hA', hV', hps'⟩ := hq
      have hVr : (v_buys (kAp.V (A.cs, A.ls, A.bx, A.st, keep ++ t, A.2.2.2.2.2)) p.2).1 = 0 ∨ (v_buys (kAp.V (A.cs, A.ls, A.bx, A.st, keep ++ t, A.2.2.2.2.2)) p.2).1 = 1 := by
        unfold v_buys
        dsimp only
        split
        · exact Or.inl rfl
        · exact Or.inr rfl
      refine ka_use (k3_bit hVr) ?_
      have hl3 : ka_up (ka_up (ka_up H it (ka_it (keep.length + 1) (Int32.ofNat keep.length) mc (ad 4))) (ad 4) (ka_ls (mc + 1) ((keep ++ t).map (·.1)))) it (ka_it keep.length (-1) (mc + 1) (ad 4)) (ad 4) = some (ka_ls (mc + 1) ((keep ++ t).map (·.1))) := (ka_ne hi4).trans ka_same
      have h4s : ad 4 ≠ s := ka_kinds hl3 (kg_s hM3.2.1) (by simp)
      have hnd := hM.2.2.2.1
      have e9 : (kc_lists ad A).map (·.1) = [ad 0, ad 1, ad 8] ++ (ad 3 :: ad 4 :: ad 5 :: ([ad 6] ++ ((kc_inS A.st ++ (kc_inD A.so ++ kc_inD A.wa)).map (·.1)))) := by
        unfold kc_lists kc_top
        simp only [List.map_append, List.map_cons, List.map_nil]
        rfl
      rw [e9, List.nodup_append] at hnd
      have hnd2 := hnd.2.1
      rw [List.nodup_cons, List.nodup_cons] at hnd2
      have h43 : ad 4 ≠ ad 3 := fun z => hnd2.1 (by rw [z]; exact List.mem_cons_self)
      have h45 : ad 4 ≠ ad 5 := fun z => hnd2.2.1 (by rw [z]; exact List.mem_cons_self)
      have hits : it ≠ s := ka_kinds (o := ka_it keep.length (-1) (mc + 1) (ad 4)) ka_same (kg_s hM3.2.1) (by simp)
      have hit3 : it ≠ ad 3 := ka_kinds (o := ka_it keep.length (-1) (mc + 1) (ad 4)) ka_same (kg_st hM3.2.1).choose_spec (by simp)
      have hit5 : it ≠ ad 5 := ka_kinds (o := ka_it keep.length (-1) (mc + 1) (ad 4)) ka_same (kg_so hM3.2.1).choose_spec (by simp)
      have hitK := hkeep it _ hits hit3 hit5 ka_same
      have hlK := hkeep (ad 4) _ h4s h43 h45 hl3
      obtain ⟨q1, q2, q3, q4, q5, q6⟩ := v_buys_small (kAp.V (A.cs, A.ls, A.bx, A.st, keep ++ t, A.2.2.2.2.2)) p.2
      rw [← hV'] at q1 q2 q3
      have hA'ps : A'.ps = keep ++ t := hps'
      have hsoV : (kAp.V (A.cs, A.ls, A.bx, A.st, keep ++ t, A.2.2.2.2.2)).so.length = A.so.length := List.length_map ..
      rw [hsoV, kvl_so] at q2 q3
      have hstV : A'.st.length ≤ A.st.length := by
        have := q1.length_le
        rw [kvl_st] at this
        exact Nat.le_trans this (by show (A.st.map kS.V).length ≤ _; rw [List.length_map]; exact Nat.le_refl _)
      have hbs' : ∀ r ∈ A'.st, r.bs.length ≤ 200 := by
        intro r hr
        have h5 : r.V ∈ A'.V.st := List.mem_map_of_mem hr
        have h6 : r.V ∈ A.st.map kS.V := q1.subset h5
        obtain ⟨r2, h7, h8⟩ := List.mem_map.mp h6
        have h9 : r.V.bs.length = r2.V.bs.length := by rw [h8]
        have h10 : r.bs.length = r2.bs.length := by
          have e1 : r.V.bs.length = r.bs.length := List.length_map ..
          have e2 : r2.V.bs.length = r2.bs.length := List.length_map ..
          omega
        rw [h10]
        exact hbs r2 h7
      have hA'len : A'.ps.length = keep.length + t.length := by rw [hA'ps, List.length_append]
      refine ka_post (ih keep A' K fuel v2 (-1) (mc + 1) (n + (v_buys (kAp.V (A.cs, A.ls, A.bx, A.st, keep ++ t, A.2.2.2.2.2)) p.2).1) hA'ps (by omega) hA' hitK (by rw [hA'ps]; exact hlK) (by omega) (by omega) hbs' (by omega) (by omega)) (fun r w' H' hp => ?_)
      obtain ⟨A2, g1, g2, g3, g4⟩ := hp
      -- what a pilgrim buys does not look at the pilgrims
      have hsw : v_buys (kAp.V (A.cs, A.ls, A.bx, A.st, keep ++ t, A.2.2.2.2.2)) p.2 = ((v_buys A.V p.2).1, v_sw (v_buys A.V p.2).2 ((keep ++ t).map (·.2))) := v_buys_sw A.V ((keep ++ t).map (·.2)) p.2
      have hpsI : (v_buys (kAp.V (A.cs, A.ls, A.bx, A.st, keep ++ t, A.2.2.2.2.2)) p.2).1 = (v_buys A.V p.2).1 ∧ ∀ u k m, v_pil u k m (v_buys (kAp.V (A.cs, A.ls, A.bx, A.st, keep ++ t, A.2.2.2.2.2)) p.2).2 = v_pil u k m (v_buys A.V p.2).2 := by
        rw [hsw]
        exact ⟨rfl, fun u k m => v_pil_sw u k m _ _⟩
      refine ⟨A2, g1, ?_, ?_, ?_⟩
      · rw [g2, hV', hpsI.2, hpsI.1, List.map_cons]
        rw [v_pil, if_pos (show p.2.1 = A.V.sc 0 from h1)]
      · rw [g3, hV', hpsI.2, hpsI.1, List.map_cons]
        rw [v_pil, if_pos (show p.2.1 = A.V.sc 0 from h1)]
      · omega
    · refine ka_ifP h1 ?_
      refine ka_post (ih (keep ++ [p]) A _ fuel w (Int32.ofNat keep.length) mc n (by rw [hA]; simp) (by omega) hM1 (by rw [List.length_append]; exact ka_same) hl1 hps hst hbs hso (by omega)) (fun r w' H' hp => ?_)
      obtain ⟨A', g1, g2, g3, g4⟩ := hp
      refine ⟨A', g1, ?_, ?_, g4⟩
      · rw [g2, List.map_cons, List.map_append, v_pil, if_neg (show ¬ p.2.1 = A.V.sc 0 from h1)]
        rfl
      · rw [g3, List.map_cons, List.map_append, v_pil, if_neg (show ¬ p.2.1 = A.V.sc 0 from h1)]
        rfl
end KMD
