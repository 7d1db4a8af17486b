set_option maxRecDepth 100000
section KTO
variable {Z : ka_Z} {w : Nat} {G : ka_H} {m : Nat} {ad : Nat → Nat} {T : kT} {X : vX} {f : Nat → Int32} {V : kV} {cc dd : Nat}
theorem kt_dropLoop {i gg mm kk : Nat} {r : vS} (hs : kt_sep m ad) (hz : v_sz V) (hi : V.st[i]? = some r) (hN : v_sokN gg mm kk r) : ∀ (d p fuel : Nat) (f : Nat → Int32) (l : List vB), p + d = r.bs.length → kk * (mm + 1) ≤ p → d < fuel → ke f (V.wb l) → l.length + d ≤ 240 → ka_T Z (pb_X3_drops_26 fuel (some m) (Int32.ofNat i) (Int32.ofNat (kk * (mm + 1))) (Int32.ofNat r.bs.length) (Int32.ofNat p)) w (kt G m ad (kt_set T 0 f)) (fun x w' H' => w' = w ∧ x = Int32.ofNat (r.bs.length - kk * (mm + 1)) ∧ ∃ f', H' = kt G m ad (kt_set T 0 f') ∧ ke f' (V.cs, V.ls, l ++ r.bs.drop p, V.st.set i (r.1, r.2.1, r.2.2.1, r.bs.take (kk * (mm + 1))), V.2.2.2.2)) := by
  obtain ⟨z1, z2, z3, z4, z5, z6, z7, z8⟩ := id hz
  have hil := ke_get_lt hi
  have hlen : r.bs.length ≤ 28 := (v_sok_loose hN).2.2
  have hfrom := hN.2.2.2.2.2.2.2.2.1
  intro d
  induction d with
  | zero =>
    intro p fuel f l hp hkp hf he hl
    obtain ⟨fuel, rfl⟩ : ∃ n, fuel = n + 1 := ⟨fuel - 1, by omega⟩
    have hzl : v_sz (V.wb l) := ⟨z1, z2, by show l.length ≤ 240; omega, z4, z5, z6, z7, z8⟩
    have hS1 : ke_S1 f i r := he.2.2.2.2.1 i r hi
    unfold pb_X3_drops_26
    refine ka_ifP ((k3_le (by omega) (by omega)).mpr (by omega)) (kt_g0 (kt_sAt (j := 3) (kt_ss hs (by omega) ?_)))
    refine ka_pure ⟨rfl, k3_sub hfrom, _, rfl, ?_⟩
    have e : p = r.bs.length := by omega
    subst e
    rw [List.drop_length, List.append_nil]
    have hk1 : ke_S1 (upd f (764 + 60 * i + 3) (Int32.ofNat (kk * (mm + 1)))) i (r.1, r.2.1, r.2.2.1, r.bs.take (kk * (mm + 1))) := by
      obtain ⟨g0, g1, g2, g3, g4⟩ := hS1
      refine ⟨(upd_ne (by omega)).trans g0, (upd_ne (by omega)).trans g1, (upd_ne (by omega)).trans g2, ?_, fun q b hb => ?_⟩
      · rw [upd_same]
        show _ = Int32.ofNat (r.bs.take (kk * (mm + 1))).length
        rw [List.length_take, Nat.min_eq_left hfrom]
      · have hb2 : r.bs[q]? = some b := by
          have hb3 : (r.bs.take (kk * (mm + 1)))[q]? = some b := hb
          rw [List.getElem?_take] at hb3
          split at hb3
          · exact hb3
          · cases hb3
        exact ⟨(upd_ne (by omega)).trans (g4 q b hb2).1, (upd_ne (by omega)).trans (g4 q b hb2).2⟩
    exact ke_setS he hzl hi hk1 (fun q hq => upd_ne (by omega))
  | succ d ih =>
    intro p fuel f l hp hkp hf he hl
    obtain ⟨fuel, rfl⟩ : ∃ n, fuel = n + 1 := ⟨fuel - 1, by omega⟩
    have hzl : v_sz (V.wb l) := ⟨z1, z2, by show l.length ≤ 240; omega, z4, z5, z6, z7, z8⟩
    have hS1 : ke_S1 f i r := he.2.2.2.2.1 i r hi
    have hpl : p < r.bs.length := by omega
    obtain ⟨b, hb⟩ : ∃ b, r.bs[p]? = some b := ⟨_, List.getElem?_eq_getElem hpl⟩
    obtain ⟨q1, q2⟩ := hS1.2.2.2.2 p b hb
    have hkind := hN.2.2.2.2.2.2.2.2.2.2.2 _ _ hb
    unfold pb_X3_drops_26
    refine ka_ifN (fun z => by have := (k3_le (by omega) (by omega)).mp z; omega) (kt_g0 (kt_beAt (kt_ls hs (by omega) ?_)))
    rw [q1]
    refine kt_is (ka_use (kt_large hs (by omega) hS1 hN (by omega)) ?_)
    rw [← hkind]
    refine kt_g0 (kt_beAt ?_)
    rw [k3_succ]
    refine kt_ls hs (by omega) ?_
    rw [q2]
    refine kt_is (ka_mv (kt_comes (V := V.wb l) hs he (show l.length < 240 by omega) (by rw [hkind]; split; exact Or.inr rfl; exact Or.inl rfl)) ?_)
    have k1 := ke_addB (b := b) he hzl (show l.length < 240 by omega)
    rw [k3_succ]
    refine ka_post (ih (p + 1) fuel _ (l ++ [b]) (by omega) (by omega) (by omega) k1 (by rw [List.length_append]; simp only [List.length_cons, List.length_nil]; omega)) (fun x w' H' hq => ?_)
    obtain ⟨r1, r2, f', r3, r4⟩ := hq
    refine ⟨r1, r2, f', r3, ?_⟩
    have hd : r.bs.drop p = b :: r.bs.drop (p + 1) := by
      rw [List.drop_eq_getElem_cons hpl]
      congr 1
      exact Option.some.inj ((List.getElem?_eq_getElem hpl).symm.trans hb)
    rw [hd]
    rw [List.append_assoc] at r4
    exact r4
theorem kt_drops {a : Int32} {B : Bool} (hs : kt_sep m ad) (hf : keP f V) (hok : v_ok cc dd V) (hcc : cc ≤ 240) : ka_T Z (pm_X3_drops (some m) a) w (kt G m ad (kt_set T 0 f)) (kt_bod B (-1) w G m ad (kt_set T 0 f) (if v_isS V a = 1 then .inr (v_drops V a.toNatClampNeg) else .inl [])) := by
  have hz := v_sz_of hok hcc
  obtain ⟨hst, l, hl, he⟩ := id hf
  obtain ⟨z1, z2, z3, z4, z5, z6, z7, z8⟩ := id hz
  have e12 : f 12 = Int32.ofNat V.st.length := he.1.2.2.2.2.1
  unfold pm_X3_drops
  refine kt_is (ka_use (kt_isS hs e12) ?_)
  by_cases h : v_isS V a = 1
  · rw [if_pos h]
    refine ka_ifP (by rw [show v_in a 0 (Int32.ofNat V.st.length - 1) = 1 from h]; decide) ?_
    obtain ⟨i, rfl, hi⟩ := v_in_idx (by omega) h
    rw [k3_nat (by omega)]
    obtain ⟨r, hr⟩ : ∃ r, V.st[i]? = some r := ⟨_, List.getElem?_eq_getElem hi⟩
    have hgd : V.st.getD i (0, 0, 0, []) = r := by rw [List.getD, hr]; rfl
    have hS1 : ke_S1 f i r := he.2.2.2.2.1 i r hr
    obtain ⟨gg, mm, kk, hN⟩ := hok.2.2.2.2.1 r (List.mem_of_getElem? hr)
    obtain ⟨l1, l2, l3⟩ := v_sok_loose hN
    obtain ⟨p1, p2, p3, p4, p5, p6, p7, p8, p9, p10, p11, -⟩ := id hN
    have hcnt : V.bx.length + r.bs.length ≤ cc := by
      obtain ⟨c, W, q1, q2, q3, q4, -⟩ := v_ok_card hok
      have h1 := v_all_len V
      have h2 := (ks_sub_fm (f := vS.bs) (List.mem_of_getElem? hr)).length_le
      have h5 : (V.st.flatMap vS.bs).length = (V.st.flatMap (·.bs)).length := rfl
      omega
    refine kt_is (ka_use (kt_knotted hs (by omega) hS1) (kt_is (ka_use (kt_of (j := 3) hs (by omega) (by omega)) ?_)))
    rw [hS1.2.2.2.1, p3, p2, k3_succ, k3_mul]
    have hll := hl.length_eq
    refine ka_post (kt_dropLoop hs hz hr hN (r.bs.length - kk * (mm + 1)) (kk * (mm + 1)) km_fuel f l (by omega) (Nat.le_refl _) (by unfold km_fuel; omega) he (by omega)) (fun x w' H' hq => ?_)
    obtain ⟨rfl, rfl, f', rfl, hk⟩ := hq
    have hnat : (v_loose r).toNatClampNeg = r.bs.length - kk * (mm + 1) := by rw [l1]; exact k3_nat (by omega)
    obtain ⟨d1, d2, d3⟩ := v_drop_spec (r.bs.length - kk * (mm + 1)) V.bx r.bs (by omega)
    have e9 : r.bs.length - (r.bs.length - kk * (mm + 1)) = kk * (mm + 1) := by omega
    rw [e9] at d2
    have ev : v_drops V i = (v_loose r, V.cs, V.ls, (v_drop (r.bs.length - kk * (mm + 1)) V.bx r.bs).1, V.st.set i (r.1, r.2.1, r.2.2.1, r.bs.take (kk * (mm + 1))), V.2.2.2.2) := by
      unfold v_drops
      dsimp only
      rw [hgd, hnat, d2]
    rw [ev]
    refine ⟨rfl, l1.symm, by rw [l1]; exact vt_err_nat (by omega), f', by rw [kt_set_set], hst, l ++ r.bs.drop (kk * (mm + 1)), ?_, hk⟩
    show (l ++ r.bs.drop (kk * (mm + 1))).Perm (v_drop (r.bs.length - kk * (mm + 1)) V.bx r.bs).1
    rw [d2] at d1
    have h3 : (V.bx ++ r.bs).Perm ((V.bx ++ r.bs.drop (kk * (mm + 1))) ++ r.bs.take (kk * (mm + 1))) := by
      have e : V.bx ++ r.bs = V.bx ++ (r.bs.take (kk * (mm + 1)) ++ r.bs.drop (kk * (mm + 1))) := by rw [List.take_append_drop]
      rw [e, List.append_assoc]
      exact List.perm_append_comm.append_left V.bx
    have h4 := (List.perm_append_right_iff _).mp (d1.trans h3)
    exact (hl.append_right _).trans h4.symm
  · rw [if_neg h]
    exact ka_ifN (by rw [show v_in a 0 (Int32.ofNat V.st.length - 1) = 0 from v_in_no h]; simp) (ka_pure ⟨rfl, rfl, rfl⟩)
theorem kt_drop {a : Int32} (hs : kt_sep m ad) (hR : kR T X) (hz : vX_sz X) (hok : v_ok cc dd X.now) (hcc : cc ≤ 240) : ka_T Z (pm_X3_drop (some m) a) w (kt G m ad T) (kt_Q w G m ad (vx_drop X a)) := by
  unfold pm_X3_drop
  refine kt_keep hs hR hz (fun T0 f hf hrf h0 hw => ?_)
  refine kt_is (ka_post (kt_fin (X := X) (res := if v_isS X.now a = 1 then .inr (v_drops X.now a.toNatClampNeg) else .inl []) (e := -1) hs h0 hz hw hrf hf (by decide) (kt_drops hs hf hok hcc)) (fun r w' H' hp => ?_))
  have e : kt_out X (-1) (if v_isS X.now a = 1 then .inr (v_drops X.now a.toNatClampNeg) else .inl []) = vx_drop X a := by
    unfold vx_drop
    by_cases h : v_isS X.now a = 1
    · have h' : vx_isS X a = 1 := h
      rw [if_pos h, if_pos h']
      rfl
    · have h' : ¬ vx_isS X a = 1 := h
      rw [if_neg h, if_neg h']
      rfl
  rw [← e]
  exact hp
end KTO
