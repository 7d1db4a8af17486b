set_option maxRecDepth 100000
/-! ===== strings come back, are mended; days ===== -/
theorem kv_neg {x : Int32} (h : 0 ≤ x) : x = Int32.ofNat x.toNatClampNeg := by
  have h1 : 0 ≤ x.toInt := by simpa using (Int32.le_iff_toInt_le.mp h)
  apply Int32.toInt_inj.mp
  have h2 : x.toInt < 2 ^ 31 := Int32.toInt_lt x
  have h3 : x.toNatClampNeg = x.toInt.toNat := rfl
  rw [h3, Int32.toInt_ofNat_of_lt (by omega)]
  omega
/-- a bead of what is sold -/
def kd_ok (d : kDp) : Prop := d.bs ≠ [] ∧ d.bs.length ≤ 200 ∧ (d.bs.map (·.2.1)).Nodup ∧ ∀ b ∈ d.bs, 0 ≤ b.2.1 ∧ b.2.1.toNatClampNeg < 256
theorem kb_weak_some : ∀ (bs : List kB) (c : kB), ∃ b, kb_weak (some c) bs = some b := by
  intro bs
  induction bs with
  | nil => intro c; exact ⟨c, rfl⟩
  | cons b t ih =>
    intro c
    show ∃ b', kb_weak (if b.2.2.2 < c.2.2.2 then some b else some c) t = some b'
    split
    · exact ih b
    · exact ih c
section KCB
variable {Z : ka_Z} {w : Nat} {H0 H : ka_H} {s : Nat} {ad : Nat → Nat} {A : kAp}
theorem ko_last {d : kDp} (hd : kc_dOk H d) (hlen : d.bs.length < 2 ^ 16) (hw : 9 ≤ w) : ka_T Z (pm_X14_last (some d.1)) w H (fun r w' H' => r = v_last d.V ∧ w ≤ w' + 9 ∧ H' = H) := by
  have hd0 : H d.1 = some (kc_D d) := hd.1
  unfold pm_X14_last v_last
  refine ka_gI (by first | exact ka_same | assumption | exact ka_ne1 (by first | assumption | exact Ne.symm (by assumption)) (by first | exact ka_same | assumption | exact ka_ne1 (by first | assumption | exact Ne.symm (by assumption)) (by first | exact ka_same | assumption | exact ka_ne1 (by first | assumption | exact Ne.symm (by assumption)) (by first | exact ka_same | assumption | exact ka_ne1 (by first | assumption | exact Ne.symm (by assumption)) (by first | exact ka_same | assumption | exact ka_ne1 (by first | assumption | exact Ne.symm (by assumption)) (by first | exact ka_same | assumption | exact ka_ne1 (by first | assumption | exact Ne.symm (by assumption)) (by first | exact ka_same | assumption))))))) rfl rfl ?_
  refine ka_is hd0 rfl (ka_call (kb_fineness ⟨12, _, hd0, Or.inr (Or.inr rfl)⟩ hd.2.1 hlen hw) (fun x v K hq => ?_))
  obtain ⟨rfl, hv, rfl⟩ := hq
  exact ka_pure ⟨by rw [kv_fine], hv, rfl⟩
/-- a string without its weakest bead -/
theorem kcp_back {K : ka_H} {a r lr p : Nat} {bs : List kB} {since : Int32} {br : Option Nat} {c : kB} (hE : ka_E0 Z) (ha : K a = some (ka_ob 12 kz_Sold)) (hr : K r = some (ka_ob 12 [.ref lr, .int since, va_rf br])) (hL : kb_L K lr bs) (hn : r ≠ a) (hlen : bs.length ≤ 240) (hnd : (bs.map (·.2.1)).Nodup) (hc : bs[p]? = some c) (hw : 708 ≤ w) : ka_T Z (pm_X14_init (some a) (some r) (some c.1)) w K (fun _ w' H' => w ≤ w' + 708 ∧ ∃ l mc, K l = none ∧ l ≠ a ∧ H' = ka_up (ka_up K l (ka_ls mc ((bs.eraseIdx p).map (·.1)))) a (ka_ob 12 [.ref l, .int since, .ref c.1])) := by
  unfold pm_X14_init
  refine ka_nn (ka_call (kb_init hE ha (Or.inr (Or.inr rfl)) (by omega)) (fun _ w' H' hp => ?_))
  obtain ⟨rfl, l, mc, hl, rfl⟩ := hp
  have hal : a ≠ l := ka_dom ha hl
  have hla := hal.symm
  have hrl : r ≠ l := ka_dom hr hl
  refine ka_gI ((ka_ne hn).trans ((ka_ne hrl).trans hr)) rfl rfl ?_
  refine ka_pI (by first | exact ka_same | assumption | exact ka_ne1 (by first | assumption | exact Ne.symm (by assumption)) (by first | exact ka_same | assumption | exact ka_ne1 (by first | assumption | exact Ne.symm (by assumption)) (by first | exact ka_same | assumption | exact ka_ne1 (by first | assumption | exact Ne.symm (by assumption)) (by first | exact ka_same | assumption | exact ka_ne1 (by first | assumption | exact Ne.symm (by assumption)) (by first | exact ka_same | assumption | exact ka_ne1 (by first | assumption | exact Ne.symm (by assumption)) (by first | exact ka_same | assumption | exact ka_ne1 (by first | assumption | exact Ne.symm (by assumption)) (by first | exact ka_same | assumption))))))) rfl rfl (Nat.le_of_ble_eq_true rfl) ?_
  refine ka_pR (by first | exact ka_same | assumption | exact ka_ne1 (by first | assumption | exact Ne.symm (by assumption)) (by first | exact ka_same | assumption | exact ka_ne1 (by first | assumption | exact Ne.symm (by assumption)) (by first | exact ka_same | assumption | exact ka_ne1 (by first | assumption | exact Ne.symm (by assumption)) (by first | exact ka_same | assumption | exact ka_ne1 (by first | assumption | exact Ne.symm (by assumption)) (by first | exact ka_same | assumption | exact ka_ne1 (by first | assumption | exact Ne.symm (by assumption)) (by first | exact ka_same | assumption | exact ka_ne1 (by first | assumption | exact Ne.symm (by assumption)) (by first | exact ka_same | assumption))))))) rfl (Nat.le_of_ble_eq_true rfl) ?_
  rw [ka_up_up, ka_up_up]
  refine ka_is (by first | exact ka_same | assumption | exact ka_ne1 (by first | assumption | exact Ne.symm (by assumption)) (by first | exact ka_same | assumption | exact ka_ne1 (by first | assumption | exact Ne.symm (by assumption)) (by first | exact ka_same | assumption | exact ka_ne1 (by first | assumption | exact Ne.symm (by assumption)) (by first | exact ka_same | assumption | exact ka_ne1 (by first | assumption | exact Ne.symm (by assumption)) (by first | exact ka_same | assumption | exact ka_ne1 (by first | assumption | exact Ne.symm (by assumption)) (by first | exact ka_same | assumption | exact ka_ne1 (by first | assumption | exact Ne.symm (by assumption)) (by first | exact ka_same | assumption))))))) rfl ?_
  have hc0 := hL.2 c (List.mem_of_getElem? hc)
  obtain ⟨⟨mc2, h2⟩, hb⟩ := hL
  have hkl : lr ≠ l := ka_dom h2 hl
  have hka : lr ≠ a := ka_kinds h2 ha (by simp)
  refine ka_call (kb_becomes (l := l) (l2 := lr) (mc := mc) (mc2 := mc2) (xs := []) (ys := bs.map (·.1)) ⟨12, _, ka_same, Or.inr (Or.inr rfl)⟩ ⟨12, _, (ka_ne hn).trans ((ka_ne hrl).trans hr), Or.inr (Or.inr rfl)⟩ (by first | exact ka_same | assumption | exact ka_ne1 (by first | assumption | exact Ne.symm (by assumption)) (by first | exact ka_same | assumption | exact ka_ne1 (by first | assumption | exact Ne.symm (by assumption)) (by first | exact ka_same | assumption | exact ka_ne1 (by first | assumption | exact Ne.symm (by assumption)) (by first | exact ka_same | assumption | exact ka_ne1 (by first | assumption | exact Ne.symm (by assumption)) (by first | exact ka_same | assumption | exact ka_ne1 (by first | assumption | exact Ne.symm (by assumption)) (by first | exact ka_same | assumption | exact ka_ne1 (by first | assumption | exact Ne.symm (by assumption)) (by first | exact ka_same | assumption))))))) (by first | exact ka_same | assumption | exact ka_ne1 (by first | assumption | exact Ne.symm (by assumption)) (by first | exact ka_same | assumption | exact ka_ne1 (by first | assumption | exact Ne.symm (by assumption)) (by first | exact ka_same | assumption | exact ka_ne1 (by first | assumption | exact Ne.symm (by assumption)) (by first | exact ka_same | assumption | exact ka_ne1 (by first | assumption | exact Ne.symm (by assumption)) (by first | exact ka_same | assumption | exact ka_ne1 (by first | assumption | exact Ne.symm (by assumption)) (by first | exact ka_same | assumption | exact ka_ne1 (by first | assumption | exact Ne.symm (by assumption)) (by first | exact ka_same | assumption))))))) (by simpa using hlen) (by omega)) (fun _ w' H' hp => ?_)
  obtain ⟨hw', rfl⟩ := hp
  rw [ka_up_comm hal, ka_up_up]
  refine ka_is ka_same rfl ?_
  have hcl : c.1 ≠ l := ka_dom hc0 hl
  have hca : c.1 ≠ a := ka_kinds hc0 ha (by simp)
  refine ka_call (kb_loses (l := l) (v := c.1) (p := p) ⟨12, _, ka_same, Or.inr (Or.inr rfl)⟩ ((ka_ne hla).trans ka_same) ((ka_ne hca).trans ((ka_ne hcl).trans hc0)) (by rw [List.nil_append, List.getElem?_map, hc]; rfl) (fun j hj z => ?_)) (fun _ v3 K3 hp => ?_)
  · rw [List.nil_append, List.getElem?_map] at z
    obtain ⟨d, hd, hd2⟩ := Option.map_eq_some_iff.mp z
    have hd0 := hb d (List.mem_of_getElem? hd)
    have hdc : d.2.1 = c.2.1 := by
      unfold kb_bead at hd0 hc0
      rw [hd2, hc0] at hd0
      have h5 : ka_ob 14 [.int c.2.1, .int c.2.2.1, .int c.2.2.2] = ka_ob 14 [.int d.2.1, .int d.2.2.1, .int d.2.2.2] := Option.some.inj hd0
      simp only [Sum.inl.injEq, Prod.mk.injEq, Sum.inr.injEq, List.cons.injEq, Value.int.injEq] at h5
      exact h5.2.2.1.symm
    have hpl := (List.getElem?_eq_some_iff.mp hc).1
    have hjl : j < (bs.map (·.2.1)).length := by rw [List.length_map]; omega
    have := (List.getElem?_inj (j := p) hjl hnd).mp (by rw [List.getElem?_map, List.getElem?_map, hd, hc]; exact congrArg some hdc)
    omega
  · obtain ⟨rfl, rfl⟩ := hp
    refine ka_pure ⟨by omega, l, mc + 1 + 1, hl, hla, ?_⟩
    rw [ka_up_comm hal, ka_up_up, List.nil_append, ks_emap]
    rfl
theorem ko_set {n : Int32} {f : Nat → Bool} (hb : H (ad 7) = some (ka_bs f)) (hn : 0 ≤ n) (hn2 : n.toNatClampNeg < 256) (hw : 20 ≤ w) : ka_T Z (pm_J3_set (some (ad 7)) n) w H (fun _ w' H' => w ≤ w' + 20 ∧ H' = ka_up H (ad 7) (ka_bs (kn_add f n.toNatClampNeg))) := by
  have h := kn_set (Z := Z) (w := w) (H := H) (l := ad 7) (k := n.toNatClampNeg) (f := f) hb hn2 hw
  rw [← kv_neg hn] at h
  exact h
theorem ko_backLoop {it : Nat} (hE : ka_E0 Z) (hit0 : H0 it = none) : ∀ (rest done : List kDp) (A : kAp) (H : ka_H) (fuel w : Nat) (lr mc : Int32), A.so = done ++ rest → rest.length < fuel → kc_mut H0 H s ad A → H it = some (ka_it done.length lr mc (ad 5)) → H (ad 5) = some (ka_ls mc (A.so.map (·.1))) → A.so.length ≤ 100 → A.wa.length + rest.length ≤ 240 → (∀ d ∈ rest, kd_ok d) → 9 * rest.length + 1300 * rest.length ≤ w → ka_T Z (pb_X1_comeBack_8 fuel (some s) (some it)) w H (fun _ w' H' => ∃ A', kc_mut H0 H' s ad A' ∧ w + 1300 * A.wa.length ≤ w' + 9 * rest.length + 1300 * A'.wa.length ∧ ∃ out wa aw n, v_back (A.sc 0) (rest.map kDp.V) (done.map kDp.V) (A.wa.map kDp.V) A.aw (A.sc 7) = (out, wa, aw, n) ∧ A'.V = (A.V.cs, A.V.ls, A.V.bx, A.V.st, A.V.ps, out, wa, aw, v_num A.sc 7 n)) := by
  intro rest
  induction rest with
  | nil =>
    intro done A H fuel w lr mc hA hf hM hit hl hso hwa hok hw
    obtain ⟨fuel, rfl⟩ : ∃ n, fuel = n + 1 := ⟨fuel - 1, by omega⟩
    have hA1 : done.length = A.so.length := by rw [hA, List.append_nil]
    unfold pb_X1_comeBack_8
    refine kl_dHas hit hl (by omega) (by rw [List.length_map]; omega) ?_
    rw [List.length_map, if_pos hA1]
    refine ka_ifP rfl (ka_pure ⟨A, hM, by simp, _, _, _, _, rfl, ?_⟩)
    have e1 : done.map kDp.V = A.V.so := by
      show _ = A.so.map kDp.V
      rw [hA, List.append_nil]
    have e2 : v_num A.sc 7 (A.sc 7) = A.sc := by
      funext j
      unfold v_num
      split
      · next h => rw [h]
      · rfl
    rw [e1, e2]
  | cons d t ih =>
    intro done A H fuel w lr mc hA hf hM hit hl hso hwa hok hw
    obtain ⟨fuel, rfl⟩ : ∃ n, fuel = n + 1 := ⟨fuel - 1, by omega⟩
    have hAl : A.so.length = done.length + (t.length + 1) := by rw [hA, List.length_append]; rfl
    have hdm : d ∈ A.so := by rw [hA]; simp
    obtain ⟨ok1, ok2, ok3, ok4⟩ := hok d List.mem_cons_self
    simp only [List.length_cons] at hf hw hwa
    unfold pb_X1_comeBack_8
    refine kl_dHas hit hl (by omega) (by rw [List.length_map]; omega) ?_
    rw [List.length_map, if_neg (show ¬ done.length = A.so.length by omega)]
    refine ka_ifN (by decide) ?_
    refine kl_dNext (v := d.1) hit hl (by rw [hA]; simp) ?_
    have hM1 := ku_it (o' := ka_it (done.length + 1) (Int32.ofNat done.length) mc (ad 5)) hM hit (Or.inl rfl) hit0
    have hi5 : ad 5 ≠ it := (ka_kinds hit hl (by simp)).symm
    have hd1 := kg_dok hM1.2.1 (Or.inl hdm)
    have hl1 : ka_up H it (ka_it (done.length + 1) (Int32.ofNat done.length) mc (ad 5)) (ad 5) = some (ka_ls mc (A.so.map (·.1))) := (ka_ne hi5).trans hl
    refine ka_cast hd1.1 rfl rfl (ka_is hd1.1 rfl (ka_call (ko_last hd1 (by omega) (by omega)) (fun x v K hq => ?_)))
    obtain ⟨rfl, hv, rfl⟩ := hq
    refine ka_gI (kg_s hM1.2.1) rfl rfl ?_
    by_cases h1 : A.sc 0 < v_last d.V
    · refine ka_ifP h1 ?_
      refine ka_post (ih (done ++ [d]) A _ fuel v (Int32.ofNat done.length) mc (by rw [hA]; simp) (by omega) hM1 (by rw [List.length_append]; exact ka_same) hl1 hso (by omega) (fun e he => hok e (List.mem_cons_of_mem _ he)) (by omega)) (fun r w' H' hp => ?_)
      obtain ⟨A', g1, g2, out, wa, aw, n, g3, g4⟩ := hp
      refine ⟨A', g1, by simp only [List.length_cons]; omega, out, wa, aw, n, ?_, g4⟩
      rw [List.map_cons, v_back, if_pos h1, ← g3, List.map_append]
      rfl
    · refine ka_ifN h1 ?_
      have hit1 : ka_up H it (ka_it (done.length + 1) (Int32.ofNat done.length) mc (ad 5)) it = some (ka_it (done.length + 1) (Int32.ofNat done.length) mc (ad 5)) := ka_same
      refine ka_is hit1 rfl (ka_call (kl_itRemove (v := d.1) hit1 hl1 (by rw [List.length_map]; omega) (by rw [hA]; simp)) (fun x v1 K hq => ?_))
      obtain ⟨rfl, rfl⟩ := hq
      have hsub : (done ++ t).Sublist A.so := by
        rw [hA]
        exact List.Sublist.append (List.Sublist.refl _) (List.sublist_cons_self ..)
      have her : (A.so.map (·.1)).eraseIdx done.length = (done ++ t).map (·.1) := by
        rw [← ks_emap, hA]
        congr 1
        rw [List.eraseIdx_append_of_length_le (Nat.le_refl _), Nat.sub_self]
        rfl
      rw [her]
      have hnd2 : ((kc_lists ad (A.cs, A.ls, A.bx, A.st, A.ps, done ++ t, A.2.2.2.2.2.2)).map (·.1)).Nodup := by
        have hs2 : ((kc_lists ad (A.cs, A.ls, A.bx, A.st, A.ps, done ++ t, A.2.2.2.2.2.2)).map (·.1)).Sublist ((kc_lists ad A).map (·.1)) := by
          have e1 : ∀ B : kAp, (kc_lists ad B).map (·.1) = [ad 0, ad 1, ad 8, ad 3, ad 4, ad 5, ad 6] ++ ((kc_inS B.st).map (·.1) ++ (B.so.map (·.2.1) ++ (kc_inD B.wa).map (·.1))) := by
            intro B
            unfold kc_lists kc_top
            simp only [List.map_append, List.map_cons, List.map_nil]
            rw [show (kc_inD B.so).map (·.1) = B.so.map (·.2.1) from by unfold kc_inD; rw [List.map_map]; rfl]
          rw [e1, e1]
          exact List.Sublist.append (List.Sublist.refl _) (List.Sublist.append (List.Sublist.refl _) (List.Sublist.append (hsub.map _) (List.Sublist.refl _)))
        exact hM.2.2.2.1.sublist hs2
      have hM2 := ku_so (mc := mc + 1) (so' := done ++ t) hM1 (fun e he => kg_dok hM1.2.1 (Or.inl (hsub.subset he))) hnd2
      have hit2 : ka_up (ka_up H it (ka_it (done.length + 1) (Int32.ofNat done.length) mc (ad 5))) (ad 5) (ka_ls (mc + 1) ((done ++ t).map (·.1))) it = some (ka_it (done.length + 1) (Int32.ofNat done.length) mc (ad 5)) := (ka_ne hi5.symm).trans ka_same
      have hM3 := ku_it (o' := ka_it done.length (-1) (mc + 1) (ad 5)) hM2 hit2 (Or.inl rfl) hit0
      -- what stands where now
      have hk3 : ∀ {y : Nat} {o : ka_O}, ka_up H it (ka_it (done.length + 1) (Int32.ofNat done.length) mc (ad 5)) y = some o → y ≠ ad 5 → y ≠ it → ka_up (ka_up (ka_up H it (ka_it (done.length + 1) (Int32.ofNat done.length) mc (ad 5))) (ad 5) (ka_ls (mc + 1) ((done ++ t).map (·.1)))) it (ka_it done.length (-1) (mc + 1) (ad 5)) y = some o := fun {y o} hy h5 hi => (ka_ne hi).trans ((ka_ne h5).trans hy)
      have hd3 := hk3 hd1.1 (ka_kinds hd1.1 hl1 (by simp)) (ka_kinds hd1.1 hit1 (by simp))
      obtain ⟨⟨ml, hdl⟩, hdb⟩ := hd1.2.1
      have hl5 : d.2.1 ≠ ad 5 := by
        have hnd := hM.2.2.2.1
        intro z
        have hq : (d.2.1, d.bs.map (·.1)) ∈ kc_inD A.so := List.mem_map_of_mem (f := fun d : kDp => (d.2.1, d.bs.map (·.1))) hdm
        have e9 : (kc_lists ad A).map (·.1) = [ad 0, ad 1, ad 8, ad 3, ad 4] ++ (ad 5 :: ([ad 6] ++ ((kc_inS A.st ++ (kc_inD A.so ++ kc_inD A.wa)).map (·.1)))) := by
          unfold kc_lists kc_top
          simp only [List.map_append, List.map_cons, List.map_nil]
          rfl
        rw [e9, List.nodup_append] at hnd
        refine (List.nodup_cons.mp hnd.2.1).1 ?_
        rw [← z]
        exact List.mem_append_right _ (List.mem_map_of_mem (f := fun q : Nat × List Nat => q.1) (List.mem_append_right _ (List.mem_append_left _ hq)))
      have hdl3 := hk3 hdl hl5 (ka_kinds hdl hit1 (by simp))
      have hdb3 : ∀ b ∈ d.bs, kb_bead _ b := fun b hb => hk3 (hdb b hb) (ka_kinds (hdb b hb) hl1 (by simp)) (ka_kinds (hdb b hb) hit1 (by simp))
      refine ka_is hd3 rfl (ka_call (kb_weakest hd3 ⟨⟨ml, hdl3⟩, hdb3⟩ (by omega) (by omega)) (fun x v2 K hq => ?_))
      obtain ⟨rfl, hv2, rfl⟩ := hq
      obtain ⟨c, hc⟩ : ∃ c, kb_weak none d.bs = some c := by
        cases hbs : d.bs with
        | nil => exact absurd hbs ok1
        | cons b u => exact kb_weak_some u b
      rw [hc]
      have hcm : c ∈ d.bs := by
        rcases kb_weak_mem _ _ _ hc with e | e
        · exact e
        · cases e
      obtain ⟨p, hp⟩ := List.getElem?_of_mem hcm
      refine ka_gR (kg_s hM3.2.1) rfl rfl ?_
      refine ka_new (by omega) (fun a ha => ?_)
      have hda : d.1 ≠ a := ka_dom hd3 ha
      have hla0 : d.2.1 ≠ a := ka_dom hdl3 ha
      refine ka_nn (ka_call (kcp_back (p := p) (c := c) (bs := d.bs) (lr := d.2.1) (since := d.2.2.1) (br := d.2.2.2.1.map (·.1)) hE ka_same ((ka_ne hda).trans hd3) ⟨⟨ml, (ka_ne hla0).trans hdl3⟩, fun b hb => (ka_ne (ka_dom (hdb3 b hb) ha)).trans (hdb3 b hb)⟩ hda (by omega) ok3 hp (by omega)) (fun _ v3 K hq => ?_))
      obtain ⟨hv3, l, ml2, hl2, hla, rfl⟩ := hq
      obtain ⟨-, hal, hl2⟩ := ka_fr hl2
      rw [ka_up_comm (H := ka_up _ it (ka_it done.length (-1) (mc + 1) (ad 5))) hal, ka_up_up]
      have hM4 := ku_new (o := ka_ls ml2 ((d.bs.eraseIdx p).map (·.1))) hM3 hl2
      have ha4 := (ka_ne (o := ka_ls ml2 ((d.bs.eraseIdx p).map (·.1))) hal).trans ha
      have hM5 := ku_new (o := kc_D (a, l, d.2.2.1, some c, d.bs.eraseIdx p)) hM4 ha4
      obtain ⟨mc6, hwl⟩ := kg_wa hM5.2.1
      have hwlen : A.wa.length ≤ 240 := by omega
      refine ka_is hwl rfl (ka_call (kl_add hwl ka_same rfl (by rw [List.length_map]; exact hwlen) (by omega)) (fun _ v4 K hq => ?_))
      obtain ⟨-, hv4, rfl⟩ := hq
      have hbb : ∀ b ∈ d.bs, kb_bead (ka_up (ka_up (ka_up (ka_up (ka_up H it (ka_it (done.length + 1) (Int32.ofNat done.length) mc (ad 5))) (ad 5) (ka_ls (mc + 1) ((done ++ t).map (·.1)))) it (ka_it done.length (-1) (mc + 1) (ad 5))) l (ka_ls ml2 ((d.bs.eraseIdx p).map (·.1)))) a (kc_D (a, l, d.2.2.1, some c, d.bs.eraseIdx p))) b := fun b hb => kb_bead_up (kb_bead_up (hdb3 b hb) hl2) ha4
      have hdok : ∀ e ∈ A.wa ++ [(a, l, d.2.2.1, some c, d.bs.eraseIdx p)], kc_dOk (ka_up (ka_up (ka_up (ka_up (ka_up H it (ka_it (done.length + 1) (Int32.ofNat done.length) mc (ad 5))) (ad 5) (ka_ls (mc + 1) ((done ++ t).map (·.1)))) it (ka_it done.length (-1) (mc + 1) (ad 5))) l (ka_ls ml2 ((d.bs.eraseIdx p).map (·.1)))) a (kc_D (a, l, d.2.2.1, some c, d.bs.eraseIdx p))) e := by
        intro e he
        rcases List.mem_append.mp he with e1 | e1
        · exact kg_dok hM5.2.1 (Or.inr e1)
        · rw [List.mem_singleton.mp e1]
          refine ⟨ka_same, ⟨⟨ml2, (ka_ne hla).trans ka_same⟩, fun b hb => hbb b (List.mem_of_mem_eraseIdx hb)⟩, fun b hb => ?_⟩
          cases hb
          exact hbb c hcm
      have hnd6 : ((kc_lists ad (A.cs, A.ls, A.bx, A.st, A.ps, done ++ t, A.wa ++ [(a, l, d.2.2.1, some c, d.bs.eraseIdx p)], A.2.2.2.2.2.2.2)).map (·.1)).Nodup := by
        have hpm := kc_perm_wa (ad := ad) (A := (A.cs, A.ls, A.bx, A.st, A.ps, done ++ t, A.2.2.2.2.2.2)) (wa' := A.wa ++ [(a, l, d.2.2.1, some c, d.bs.eraseIdx p)]) (d := (a, l, d.2.2.1, some c, d.bs.eraseIdx p)) rfl
        rw [hpm.nodup_iff, List.nodup_cons]
        refine ⟨fun hz => ?_, hM3.2.2.2.1⟩
        obtain ⟨q, hq, e2⟩ := List.mem_map.mp hz
        exact (ku_notin hM3.2.1 hl2).2.2.2 q hq e2
      have hM6 := ku_wa (mc := mc6 + 1) (wa' := A.wa ++ [(a, l, d.2.2.1, some c, d.bs.eraseIdx p)]) hM5 hdok hnd6
      have e3 : (A.wa ++ [(a, l, d.2.2.1, some c, d.bs.eraseIdx p)]).map (fun d : kDp => d.1) = A.wa.map (·.1) ++ [a] := by simp
      rw [e3] at hM6
      refine ka_gR (kg_s hM6.2.1) rfl rfl ?_
      have hc6 : kb_bead _ c := kg_b hM6.2.1 (kc_beads_mem.mpr (Or.inr (Or.inr (Or.inr (kc_bD_mem.mpr ⟨(a, l, d.2.2.1, some c, d.bs.eraseIdx p), List.mem_append_right _ (List.mem_singleton.mpr rfl), Or.inl rfl⟩)))))
      refine ka_gI hc6 rfl rfl ?_
      have hcn := ok4 c hcm
      refine ka_is hM6.2.1.2.2.1 rfl (ka_call (ko_set hM6.2.1.2.2.1 hcn.1 hcn.2 (by omega)) (fun _ v5 K hq => ?_))
      obtain ⟨hv5, rfl⟩ := hq
      have hM7 := ku_away (f := kn_add A.aw c.2.1.toNatClampNeg) hM6
      refine ka_gI (kg_s hM7.2.1) rfl rfl ?_
      refine ka_pI (kg_s hM7.2.1) rfl rfl (Nat.le_of_ble_eq_true rfl) ?_
      have hM8 := ku_num (sc' := v_num A.sc 7 (A.sc 7 + 1)) hM7
      -- the iterator and its list
      have hl3 : ka_up (ka_up (ka_up H it (ka_it (done.length + 1) (Int32.ofNat done.length) mc (ad 5))) (ad 5) (ka_ls (mc + 1) ((done ++ t).map (·.1)))) it (ka_it done.length (-1) (mc + 1) (ad 5)) (ad 5) = some (ka_ls (mc + 1) ((done ++ t).map (·.1))) := (ka_ne hi5).trans ka_same
      have hit3 : ka_up (ka_up (ka_up H it (ka_it (done.length + 1) (Int32.ofNat done.length) mc (ad 5))) (ad 5) (ka_ls (mc + 1) ((done ++ t).map (·.1)))) it (ka_it done.length (-1) (mc + 1) (ad 5)) it = some (ka_it done.length (-1) (mc + 1) (ad 5)) := ka_same
      have h56 : ad 5 ≠ ad 6 := by
        have hnd := hM.2.2.2.1
        intro z
        have e9 : (kc_lists ad A).map (·.1) = [ad 0, ad 1, ad 8, ad 3, ad 4] ++ (ad 5 :: ([ad 6] ++ ((kc_inS A.st ++ (kc_inD A.so ++ kc_inD A.wa)).map (·.1)))) := by
          unfold kc_lists kc_top
          simp only [List.map_append, List.map_cons, List.map_nil]
          rfl
        rw [e9, List.nodup_append] at hnd
        refine (List.nodup_cons.mp hnd.2.1).1 ?_
        rw [← z]
        exact List.mem_append_left _ List.mem_cons_self
      have hgo : ∀ {y : Nat} {o : ka_O}, ka_up (ka_up (ka_up H it (ka_it (done.length + 1) (Int32.ofNat done.length) mc (ad 5))) (ad 5) (ka_ls (mc + 1) ((done ++ t).map (·.1)))) it (ka_it done.length (-1) (mc + 1) (ad 5)) y = some o → y ≠ ad 6 → y ≠ ad 7 → y ≠ s → ka_up (ka_up (ka_up (ka_up (ka_up (ka_up (ka_up (ka_up H it (ka_it (done.length + 1) (Int32.ofNat done.length) mc (ad 5))) (ad 5) (ka_ls (mc + 1) ((done ++ t).map (·.1)))) it (ka_it done.length (-1) (mc + 1) (ad 5))) l (ka_ls ml2 ((d.bs.eraseIdx p).map (·.1)))) a (kc_D (a, l, d.2.2.1, some c, d.bs.eraseIdx p))) (ad 6) (ka_ls (mc6 + 1) (A.wa.map (·.1) ++ [a]))) (ad 7) (ka_bs (kn_add A.aw c.2.1.toNatClampNeg))) s (kc_so ad (v_num A.sc 7 (A.sc 7 + 1))) y = some o := fun {y o} hy h6 h7 hs => by
        have hy1 := (ka_ne (o := ka_ls ml2 ((d.bs.eraseIdx p).map (·.1))) (ka_dom hy hl2)).trans hy
        have hy2 := (ka_ne (o := kc_D (a, l, d.2.2.1, some c, d.bs.eraseIdx p)) (ka_dom hy1 ha4)).trans hy1
        exact (ka_ne hs).trans ((ka_ne h7).trans ((ka_ne h6).trans hy2))
      have hs8 := kg_s hM3.2.1
      have hb8 := hM3.2.1.2.2.1
      have hw8 := (kg_wa hM3.2.1).choose_spec
      refine ka_post (ih done (A.cs, A.ls, A.bx, A.st, A.ps, done ++ t, A.wa ++ [(a, l, d.2.2.1, some c, d.bs.eraseIdx p)], kn_add A.aw c.2.1.toNatClampNeg, v_num A.sc 7 (A.sc 7 + 1)) _ fuel v5 (-1) (mc + 1) rfl (by omega) hM8 (hgo hit3 (ka_kinds hit3 hw8 (by simp)) (ka_kinds hit3 hb8 (by simp)) (ka_kinds hit3 hs8 (by simp))) (hgo hl3 h56 (ka_kinds hl3 hb8 (by simp)) (ka_kinds hl3 hs8 (by simp))) (by show (done ++ t).length ≤ 100; rw [List.length_append]; omega) (by show (A.wa ++ [_]).length + t.length ≤ 240; rw [List.length_append]; simp only [List.length_cons, List.length_nil]; omega) (fun e he => hok e (List.mem_cons_of_mem _ he)) (by omega)) (fun r w' H' hp => ?_)
      obtain ⟨A', g1, g2, out, wa, aw, n, g3, g4⟩ := hp
      refine ⟨A', g1, ?_, out, wa, aw, n, ?_, ?_⟩
      · have e4 : (kAp.wa (A.cs, A.ls, A.bx, A.st, A.ps, done ++ t, A.wa ++ [(a, l, d.2.2.1, some c, d.bs.eraseIdx p)], kn_add A.aw c.2.1.toNatClampNeg, v_num A.sc 7 (A.sc 7 + 1))).length = A.wa.length + 1 := by
          show (A.wa ++ [_]).length = _
          rw [List.length_append]
          rfl
        rw [e4] at g2
        simp only [List.length_cons]
        omega
      · have hwk : v_weak none d.V.bs = some c.2 := by
          show v_weak none (d.bs.map (·.2)) = _
          have := kv_weak d.bs none
          rw [hc] at this
          exact this.symm
        rw [List.map_cons, v_back, if_neg h1, hwk]
        rw [← g3]
        have e5 : kDp.V (a, l, d.2.2.1, some c, d.bs.eraseIdx p) = (d.V.1, some c.2, d.V.bs.filter (fun x => decide (x.1 ≠ c.2.1))) := by
          show (d.2.2.1, some c.2, (d.bs.eraseIdx p).map (·.2)) = (d.2.2.1, some c.2, (d.bs.map (·.2)).filter (fun x => decide (x.1 ≠ c.2.1)))
          rw [ks_erase (f := fun b : kB => b.2.1) ok3 hp, List.filter_map]
          rfl
        show v_back (A.sc 0) (t.map kDp.V) (done.map kDp.V) (A.wa.map kDp.V ++ [(d.V.1, some c.2, d.V.bs.filter (fun x => decide (x.1 ≠ c.2.1)))]) (kn_add A.aw c.2.1.toNatClampNeg) (A.sc 7 + 1) = v_back (v_num A.sc 7 (A.sc 7 + 1) 0) (t.map kDp.V) (done.map kDp.V) ((A.wa ++ [(a, l, d.2.2.1, some c, d.bs.eraseIdx p)]).map kDp.V) (kn_add A.aw c.2.1.toNatClampNeg) (v_num A.sc 7 (A.sc 7 + 1) 7)
        rw [List.map_append, ← e5]
        rfl
      · rw [g4]
        show (_, _, _, _, _, out, wa, aw, v_num (v_num A.sc 7 (A.sc 7 + 1)) 7 n) = (_, _, _, _, _, out, wa, aw, v_num A.sc 7 n)
        have e6 : v_num (v_num A.sc 7 (A.sc 7 + 1)) 7 n = v_num A.sc 7 n := by
          funext j
          unfold v_num
          split <;> rfl
        rw [e6]
theorem ko_comeBack (hE : ka_E0 Z) (hM : kc_mut H0 H s ad A) (hso : A.so.length ≤ 8) (hwa : A.wa.length ≤ 200) (hok : ∀ d ∈ A.so, kd_ok d) (hw : 90 + 1300 * A.so.length ≤ w) : ka_T Z (pm_X1_comeBack (some s)) w H (fun _ w' H' => ∃ A', kc_mut H0 H' s ad A' ∧ w + 1300 * A.wa.length ≤ w' + 90 + 1300 * A'.wa.length ∧ A'.V = v_come A.V) := by
  obtain ⟨mc, hl⟩ := kg_so hM.2.1
  have hs := kg_s hM.2.1
  unfold pm_X1_comeBack
  refine ka_gR (by first | exact ka_same | assumption | exact ka_ne1 (by first | assumption | exact Ne.symm (by assumption)) (by first | exact ka_same | assumption | exact ka_ne1 (by first | assumption | exact Ne.symm (by assumption)) (by first | exact ka_same | assumption | exact ka_ne1 (by first | assumption | exact Ne.symm (by assumption)) (by first | exact ka_same | assumption | exact ka_ne1 (by first | assumption | exact Ne.symm (by assumption)) (by first | exact ka_same | assumption | exact ka_ne1 (by first | assumption | exact Ne.symm (by assumption)) (by first | exact ka_same | assumption | exact ka_ne1 (by first | assumption | exact Ne.symm (by assumption)) (by first | exact ka_same | assumption))))))) rfl rfl ?_
  refine ka_is hl rfl (ka_call (kl_iterator hl (by omega)) (fun r v K hp => ?_))
  obtain ⟨it, rfl, hit, rfl, rfl⟩ := hp
  have hM1 := ku_new (o := ka_it 0 (-1) mc (ad 5)) hM hit
  refine ka_post (ko_backLoop (it := it) hE (kc_fresh hM hit) A.so [] A _ km_fuel (w - 9) (-1) mc rfl (by unfold km_fuel; omega) hM1 ka_same ((ka_ne (ka_dom hl hit)).trans hl) (by omega) (by omega) hok (by omega)) (fun r w' H' hp => ?_)
  obtain ⟨A', g1, g2, out, wa, aw, n, g3, g4⟩ := hp
  refine ⟨A', g1, by omega, ?_⟩
  unfold v_come
  have e : v_back (A.V.sc 0) A.V.so [] A.V.wa A.V.aw (A.V.sc 7) = (out, wa, aw, n) := g3
  rw [e, g4]
end KCB
