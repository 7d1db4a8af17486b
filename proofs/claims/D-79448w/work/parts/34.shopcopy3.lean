set_option maxRecDepth 100000
/-! ===== a workshop's copy: as a whole ===== -/
section KCR
variable {Z : ka_Z} {w : Nat} {H0 H K : ka_H} {s o it : Nat} {ad ad2 : Nat → Nat} {A2 : kAp} {Q : Unit → Nat → ka_H → Prop}
theorem kcp_strings {C : List kC} {Ls : List kLn} {bx : List kB} {w0 : Nat} {mc : Int32} (hE : ka_E0 Z) (hsrc : kc_shop H0 o ad2 A2) (hnd : ((kc_lists ad2 A2).map (·.1)).Nodup) (hit0 : H0 it = none) (hl : H0 (ad2 3) = some (ka_ls mc (A2.st.map (·.1)))) (hlen : A2.st.length ≤ 100) (hbs : ∀ r ∈ A2.st, r.bs.length ≤ 240) (hps : A2.ps.length ≤ 240) (hso : A2.so.length ≤ 240) (hwa : A2.wa.length ≤ 240)
    (hend : ∀ (K : ka_H) (st' : List kS) (v : Nat), kc_mut H0 K s ad (C, Ls, bx, st', A2.ps, A2.so, A2.wa, A2.aw, A2.sc) → st'.map (·.2.2) = A2.st.map (·.2.2) → w0 ≤ v → ka_T Z (km_pure ()) v K Q) :
    ∀ (rest done st' : List kS) (K : ka_H) (lr : Int32) (v fuel : Nat), A2.st = done ++ rest → rest.length < fuel → kc_mut H0 K s ad (C, Ls, bx, st', [], [], [], (fun _ => false), fun _ => 0) → st'.map (·.2.2) = done.map (·.2.2) → K it = some (ka_it done.length lr mc (ad2 3)) → w0 + 2120 + 1130 * rest.length ≤ v → ka_T Z (pb_X1_init_2_203 fuel (some s) (some o) (some it)) v K Q := by
  intro rest
  induction rest with
  | nil =>
    intro done st' K lr v fuel hA hf hM hcs hit hv
    obtain ⟨fuel, rfl⟩ : ∃ n, fuel = n + 1 := ⟨fuel - 1, by omega⟩
    have hlK := hM.1 _ _ hl
    have hA1 : done.length = A2.st.length := by rw [hA, List.append_nil]
    unfold pb_X1_init_2_203
    refine kl_dHas hit hlK (by omega) (by rw [List.length_map]; omega) ?_
    rw [List.length_map, if_pos hA1]
    refine ka_ifP rfl ?_
    refine kcp_end hsrc hnd hps hso hwa hM (by omega) (fun K1 v1 hM1 hv1 => hend K1 st' v1 hM1 ?_ (by omega))
    rw [hcs, hA, List.append_nil]
  | cons r t ih =>
    intro done st' K lr v fuel hA hf hM hcs hit hv
    obtain ⟨fuel, rfl⟩ : ∃ n, fuel = n + 1 := ⟨fuel - 1, by omega⟩
    have hlK := hM.1 _ _ hl
    have hAl : A2.st.length = done.length + (t.length + 1) := by rw [hA, List.length_append]; rfl
    have hcl : st'.length = done.length := by have := congrArg List.length hcs; simpa using this
    have hc : r ∈ A2.st := by rw [hA]; simp
    have hc0 := kg_r hsrc hc
    have hL0 := (kg_rs hsrc hc).2
    simp only [List.length_cons] at hv hf
    unfold pb_X1_init_2_203
    refine kl_dHas hit hlK (by omega) (by rw [List.length_map]; omega) ?_
    rw [List.length_map, if_neg (show ¬ done.length = A2.st.length by omega)]
    refine ka_ifN (by decide) ?_
    refine kl_dNext (v := r.1) hit hlK (by rw [hA]; simp) ?_
    have hM1 := ku_it (o' := ka_it (done.length + 1) (Int32.ofNat done.length) mc (ad2 3)) hM hit (Or.inl rfl) hit0
    have hc1 := hM1.1 _ _ hc0
    have hL1 : kb_L (ka_up K it (ka_it (done.length + 1) (Int32.ofNat done.length) mc (ad2 3))) r.2.1 r.bs := ⟨hL0.1.elim (fun mc e => ⟨mc, hM1.1 _ _ e⟩), fun b hb => hM1.1 _ _ (hL0.2 b hb)⟩
    refine ka_cast hc1 rfl rfl ?_
    refine ka_gR (kg_s hM1.2.1) rfl rfl ?_
    refine ka_new (by omega) (fun a ha => ?_)
    have hc1a : r.1 ≠ a := ka_dom hc1 ha
    refine ka_nn (ka_call (kcp_S hE ka_same ((ka_ne hc1a).trans hc1) (kb_L_up hL1 ha) hc1a (hbs r hc) (by omega)) (fun _ v2 K2 hp => ?_))
    obtain ⟨hv2, l, ml, hl2, hla, rfl⟩ := hp
    obtain ⟨-, hal, hl2⟩ := ka_fr hl2
    have hfr : ∀ x, ka_up K it (ka_it (done.length + 1) (Int32.ofNat done.length) mc (ad2 3)) x = none → H0 x = none := fun x hx => by
      cases h : H0 x with
      | none => rfl
      | some q => rw [hM1.1 _ _ h] at hx; cases hx
    rw [ka_up_comm (H := ka_up K it _) hal, ka_up_up]
    have hM2 := ku_new (o := ka_ls ml (r.bs.map (·.1))) hM1 hl2
    have hM3 := ku_new (o := kc_S (a, l, r.2.2)) hM2 ((ka_ne hal).trans ha)
    obtain ⟨mc1, hls⟩ := kg_st hM3.2.1
    refine ka_is hls rfl ?_
    refine ka_call (kl_add hls ka_same rfl (by rw [List.length_map]; show st'.length ≤ 240; omega) (by omega)) (fun _ v3 K3 hp => ?_)
    obtain ⟨-, hv3, rfl⟩ := hp
    have hLn : kb_L (ka_up (ka_up (ka_up K it (ka_it (done.length + 1) (Int32.ofNat done.length) mc (ad2 3))) l (ka_ls ml (r.bs.map (·.1)))) a (kc_S (a, l, r.2.2))) l r.bs := ⟨⟨ml, (ka_ne hla).trans ka_same⟩, fun b hb => kb_bead_up (kb_bead_up (hL1.2 b hb) hl2) ((ka_ne hal).trans ha)⟩
    have hM4 := ku_addS (mc := mc1 + 1) (r := (a, l, r.2.2)) hM3 ka_same (hfr a ha) (hfr l hl2) hLn (ku_notin hM1.2.1 ha).2.2.1 (ku_notin hM1.2.1 hl2).2.2.2
    refine ih (done ++ [r]) (st' ++ [(a, l, r.2.2)]) _ (Int32.ofNat done.length) v3 fuel (by rw [hA]; simp) (by omega) hM4 (by simp [hcs]) ?_ (by omega)
    have e1 : it ≠ a := ka_dom (o := ka_it (done.length + 1) (Int32.ofNat done.length) mc (ad2 3)) ka_same ha
    have e3 : it ≠ l := ka_dom (o := ka_it (done.length + 1) (Int32.ofNat done.length) mc (ad2 3)) ka_same hl2
    have e2 : it ≠ ad 3 := ka_kinds ((ka_ne e1).trans ((ka_ne e3).trans ka_same)) hls (by simp)
    rw [List.length_append]
    exact (ka_ne e2).trans ((ka_ne e1).trans ((ka_ne e3).trans ka_same))
/-- what every workshop keeps -/
def kc_small (A : kAp) : Prop := A.cs.length ≤ 4 ∧ A.ls.length ≤ 4 ∧ A.bx.length ≤ 240 ∧ A.st.length ≤ 6 ∧ (∀ r ∈ A.st, r.bs.length ≤ 30) ∧ A.ps.length ≤ 6 ∧ A.so.length ≤ 8 ∧ A.wa.length ≤ 240 ∧ (∀ d, d ∈ A.so ∨ d ∈ A.wa → d.bs.length ≤ 30)
/-- a copy: new cells, alike -/
theorem ks_copy (hE : ka_E0 Z) (hsrc : kc_shop H o ad2 A2) (hnd : ((kc_lists ad2 A2).map (·.1)).Nodup) (hsm : kc_small A2) (hs : H s = none) (hw : 16000 ≤ w) : ka_T Z (pm_X1_init_2 (some s) (some o)) w (ka_up H s (ka_ob 1 kz_Shop)) (fun _ w' H' => w ≤ w' + 16000 ∧ ∃ ad A, kc_mut H H' s ad A ∧ kc_like A A2) := by
  obtain ⟨z1, z2, z3, z4, z5, z6, z7, z8, z9⟩ := hsm
  have hfr : ∀ {K : ka_H} {x : Nat}, ka_le H K → K x = none → H x = none := fun {K} {x} hle hx => by
    cases h : H x with
    | none => rfl
    | some q => rw [hle _ _ h] at hx; cases hx
  show ka_T Z (kc_prefix (some s) (km_bind (km_gR [(1, 0)] (some o)) fun r17 => km_bind (km_is 30 r17) fun _ => km_bind (pm_J2_iterator r17) fun r18 => pb_X1_init_2_100 km_fuel (some s) (some o) r18)) w _ _
  refine ks_empty hE hs (by omega) (fun ad G hM => ?_)
  obtain ⟨m0, h0⟩ := kg_cs hsrc
  obtain ⟨m1, h1⟩ := kg_ls hsrc
  obtain ⟨m3, h3⟩ := kg_st hsrc
  refine ka_gR (hM.1 _ _ (kg_s hsrc)) rfl rfl ?_
  refine ka_is (hM.1 _ _ h0) rfl ?_
  refine ka_call (kl_iterator (hM.1 _ _ h0) (by omega)) (fun r v K hp => ?_)
  obtain ⟨it, rfl, hit, rfl, rfl⟩ := hp
  have hMi := ku_new (o := ka_it 0 (-1) m0 (ad2 0)) hM hit
  refine kcp_carvers (B := kA0.2) (w0 := w - 76 - 9 - 420 * A2.cs.length) hsrc (hfr hM.1 hit) h0 (by omega) (fun K1 cs' v1 hM1 hcs hv1 => ?_) A2.cs [] [] _ (-1) _ km_fuel rfl (by unfold km_fuel; omega) hMi rfl ka_same (by omega)
  refine ka_gR (hM1.1 _ _ (kg_s hsrc)) rfl rfl ?_
  refine ka_is (hM1.1 _ _ h1) rfl ?_
  refine ka_call (kl_iterator (hM1.1 _ _ h1) (by omega)) (fun r v K hp => ?_)
  obtain ⟨it1, rfl, hit1, rfl, rfl⟩ := hp
  have hMi1 := ku_new (o := ka_it 0 (-1) m1 (ad2 1)) hM1 hit1
  refine kcp_lenses (B := kA0.2.2) (w0 := v1 - 9 - 420 * A2.ls.length) hsrc (hfr hM1.1 hit1) h1 (by omega) (fun K2 ls' v2 hM2 hls hv2 => ?_) A2.ls [] [] _ (-1) _ km_fuel rfl (by unfold km_fuel; omega) hMi1 rfl ka_same (by omega)
  refine ka_gR (kg_s hM2.2.1) rfl rfl (ka_gR (hM2.1 _ _ (kg_s hsrc)) rfl rfl ?_)
  have hbox := kg_box hM2.2.1
  have hbox0 := kg_box hsrc
  obtain ⟨mb, hb1⟩ := kg_bl hM2.2.1
  obtain ⟨mb0, hb0⟩ := kg_bl hsrc
  refine ka_dB hbox.1 (ka_call (kb_becomes hbox.1 ⟨2, [], hM2.1 _ _ hsrc.2.1, Or.inl rfl⟩ hb1 (hM2.1 _ _ hb0) (by rw [List.length_map, List.length_map]; show 0 + A2.bx.length ≤ 240; omega) (by omega)) (fun _ v3 K3 hp => ?_))
  obtain ⟨hv3, rfl⟩ := hp
  have hM3 := ku_box (mc := mb + 1) (bx := A2.bx) hM2 (fun b hb => hM2.1 _ _ (hbox0.2.2 b hb))
  refine ka_gR (hM3.1 _ _ (kg_s hsrc)) rfl rfl ?_
  refine ka_is (hM3.1 _ _ h3) rfl ?_
  refine ka_call (kl_iterator (hM3.1 _ _ h3) (by omega)) (fun r v K hp => ?_)
  obtain ⟨it2, rfl, hit2, rfl, rfl⟩ := hp
  have hMi2 := ku_new (o := ka_it 0 (-1) m3 (ad2 3)) hM3 hit2
  refine kcp_strings (w0 := v3 - 9 - 2120 - 1130 * A2.st.length) hE hsrc hnd (hfr hM3.1 hit2) h3 (by omega) (fun r hr => Nat.le_trans (z5 r hr) (by omega)) (by omega) (by omega) z8 (fun K4 st' v4 hM4 hst hv4 => ?_) A2.st [] [] _ (-1) _ km_fuel rfl (by unfold km_fuel; omega) hMi2 rfl ka_same (by omega)
  exact ka_pure ⟨by omega, ad, _, hM4, hcs, hls, rfl, hst, rfl, rfl, rfl, rfl, rfl⟩
end KCR
