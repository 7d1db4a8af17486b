set_option maxRecDepth 100000
section KTV
variable {Z : ka_Z} {w : Nat} {G : ka_H} {m : Nat} {ad : Nat → Nat} {T : kT} {X : vX} {f : Nat → Int32} {V : kV} {cc dd : Nat}
theorem v_pil_sc1 : ∀ (rest keep : List vP) (n : Int32) (V : kV), (v_pil rest keep n V).2.sc 1 = V.sc 1 := by
  intro rest
  induction rest with
  | nil => intro keep n V; rfl
  | cons p t ih =>
    intro keep n V
    rw [v_pil]
    by_cases h : p.1 = V.sc 0
    · rw [if_pos h, ih]
      unfold v_buys
      dsimp only
      by_cases h6 : v_wanted V p = -6
      · rw [if_pos h6]
      · rw [if_neg h6]
        rfl
    · rw [if_neg h, ih]
theorem v_day_sc1 : (v_day V).2.sc 1 = V.sc 1 := by
  rw [v_day_eq, v_pil_sc1]
  rfl
theorem v_passes_sc1 : ∀ (k : Nat) (n : Int32) (V : kV), (v_passes k n V).2.sc 1 = V.sc 1 := by
  intro k
  induction k with
  | zero => intro n V; rfl
  | succ k ih =>
    intro n V
    rw [v_passes, ih, v_day_sc1]
theorem kt_passLoop {days : Nat} (hs : kt_sep m ad) (hcc : cc ≤ 240) (hdays : days ≤ 1000) : ∀ (d j fuel : Nat) (n : Int32) (f : Nat → Int32) (V : kV) (dd : Nat), j + d = days → d < fuel → ke f V → v_ok cc dd V → ka_T Z (pb_X3_passes_17 fuel (some m) (Int32.ofNat days) n (Int32.ofNat j)) w (kt G m ad (kt_set T 0 f)) (fun r w' H' => w' = w ∧ r = (v_passes d n V).1 ∧ ∃ f', H' = kt G m ad (kt_set T 0 f') ∧ ke f' (v_passes d n V).2) := by
  intro d
  induction d with
  | zero =>
    intro j fuel n f V dd hj hf he hok
    obtain ⟨fuel, rfl⟩ : ∃ n, fuel = n + 1 := ⟨fuel - 1, by omega⟩
    unfold pb_X3_passes_17
    exact ka_ifP ((k3_le (by omega) (by omega)).mpr (by omega)) (ka_pure ⟨rfl, rfl, f, rfl, he⟩)
  | succ d ih =>
    intro j fuel n f V dd hj hf he hok
    obtain ⟨fuel, rfl⟩ : ∃ n, fuel = n + 1 := ⟨fuel - 1, by omega⟩
    unfold pb_X3_passes_17
    refine ka_ifN (fun z => by have := (k3_le (by omega) (by omega)).mp z; omega) (kt_is (ka_call (kt_dayGoes hs he hok hcc) (fun r w' H' hp => ?_)))
    obtain ⟨rfl, rfl, f', rfl, hf'⟩ := hp
    rw [k3_succ, v_passes]
    exact ih (j + 1) fuel _ f' _ (dd + 1) (by omega) (by omega) hf' (vk_day hok)
theorem kt_passes {a : Int32} {B : Bool} (hs : kt_sep m ad) (hf : keP f V) (hok : v_ok cc dd V) (hcc : cc ≤ 240) : ka_T Z (pm_X3_passes (some m) a) w (kt G m ad (kt_set T 0 f)) (kt_bod B (-2) w G m ad (kt_set T 0 f) (if v_in a 1 60 = 1 then .inr (v_passes a.toNatClampNeg 0 V) else .inl [])) := by
  obtain ⟨⟨q, hq9, hq⟩, l, hl, he⟩ := id hf
  unfold pm_X3_passes
  refine ka_use kt_isIn ?_
  by_cases h : v_in a 1 60 = 1
  · rw [if_pos h]
    obtain ⟨k, rfl, hk1, hk2⟩ := v_in_nat (a := 1) (b := 60) (by omega) (by omega) h
    rw [k3_nat (by omega)]
    refine ka_ifP (by rw [h]; decide) (ka_post (kt_passLoop hs hcc (days := k) (by omega) k 0 km_fuel 0 f (V.wb l) dd (Nat.zero_add _) (by unfold km_fuel; omega) he (v_ok_wb hok hl)) (fun r w' H' hp => ?_))
    obtain ⟨rfl, rfl, f', rfl, hf'⟩ := hp
    obtain ⟨b, hb1, hb2⟩ := v_passes_n k 0 V dd hok
    have hb3 : (v_passes k 0 V).1 = Int32.ofNat (0 + b) := hb2
    rw [v_passes_wb] at hf' ⊢
    refine ⟨rfl, rfl, by rw [hb3]; exact vt_err_nat (by omega), f', by rw [kt_set_set], ⟨q, hq9, by rw [v_passes_sc1]; exact hq⟩, l, ?_, hf'⟩
    have hbx : ∀ (k : Nat) (n : Int32) (V : kV), (v_passes k n V).2.bx = V.bx := by
      have hp : ∀ (rest keep : List vP) (n : Int32) (V : kV), (v_pil rest keep n V).2.bx = V.bx := by
        intro rest
        induction rest with
        | nil => intro keep n V; rfl
        | cons p t ih =>
          intro keep n V
          rw [v_pil]
          by_cases h : p.1 = V.sc 0
          · rw [if_pos h, ih]
            unfold v_buys
            dsimp only
            by_cases h6 : v_wanted V p = -6
            · rw [if_pos h6]
            · rw [if_neg h6]
          · rw [if_neg h, ih]
      intro k
      induction k with
      | zero => intro n V; rfl
      | succ k ih =>
        intro n V
        rw [v_passes, ih, v_day_eq, hp]
        rfl
    rw [hbx]
    exact hl
  · rw [if_neg h]
    exact ka_ifN (by rw [v_in_no h]; simp) (ka_pure ⟨rfl, rfl, rfl⟩)
theorem kt_pass {a : Int32} (hs : kt_sep m ad) (hR : kR T X) (hz : vX_sz X) (hok : v_ok cc dd X.now) (hcc : cc ≤ 240) : ka_T Z (pm_X3_pass (some m) a) w (kt G m ad T) (kt_Q w G m ad (vx_pass X a)) := by
  unfold pm_X3_pass
  refine kt_keep hs hR hz (fun T0 f hf hrf h0 hw => ?_)
  refine kt_is (ka_post (kt_fin (X := X) (res := if v_in a 1 60 = 1 then .inr (v_passes a.toNatClampNeg 0 X.now) else .inl []) (e := -2) hs h0 hz hw hrf hf (by decide) (kt_passes hs hf hok hcc)) (fun r w' H' hp => ?_))
  have e : kt_out X (-2) (if v_in a 1 60 = 1 then .inr (v_passes a.toNatClampNeg 0 X.now) else .inl []) = vx_pass X a := by
    unfold vx_pass
    by_cases h : v_in a 1 60 = 1
    · rw [if_pos h, if_pos h]; rfl
    · rw [if_neg h, if_neg h]; rfl
  rw [← e]
  exact hp
theorem kt_mends {B : Bool} {e : Int32} (hs : kt_sep m ad) (hf : keP f V) (hok : v_ok cc dd V) (hcc : cc ≤ 240) : ka_T Z (pm_X3_mends (some m)) w (kt G m ad (kt_set T 0 f)) (kt_bod B e w G m ad (kt_set T 0 f) (v_mends V)) := by
  have hz := v_sz_of hok hcc
  obtain ⟨hst, l, hl, he⟩ := id hf
  obtain ⟨z1, z2, z3, z4, z5, z6, z7, z8⟩ := id hz
  have hzl := v_sz_wb hz hl
  have hl240 : l.length ≤ 240 := hzl.2.2.1
  have e15 : f 15 = Int32.ofNat V.wa.length := he.1.2.2.2.2.2.2.2
  have hbok : ∀ b ∈ l, v_bok b := fun b hb => hok.2.2.2.1 b (List.mem_append_left _ (hl.mem_iff.mp hb))
  have hndl : (l.map (·.1)).Nodup := (hl.map (·.1)).nodup_iff.mpr (v_nd_bx hok.2.2.2.2.2)
  unfold pm_X3_mends v_mends
  refine kt_g0 (kt_ls (p := 15) hs (by omega) ?_)
  rw [e15]
  cases hwa : V.wa with
  | nil => exact ka_ifN (fun z => z rfl) (kt_is (ka_mv (kt_refuse hs) (ka_pure (kt_bodN (by decide)))))
  | cons d rest =>
    have hwl : V.wa.length = rest.length + 1 := by rw [hwa]; rfl
    have hd0 : V.wa[0]? = some d := by rw [hwa]; rfl
    obtain ⟨⟨x, hx, hxok⟩, hd1, hd2⟩ := hok.2.1.2 d (List.mem_of_getElem? hd0)
    obtain ⟨g1, g2, g3⟩ := he.2.2.2.2.2.2.2 0 d hd0
    have g3x := g3 x hx
    have hk : x.2.1 = 0 ∨ x.2.1 = 1 := hxok.2.1
    refine ka_ifP (fun z => by have := (k3_eq (a := rest.length + 1) (b := 0) (by omega) (by omega)).mp z; omega) (kt_g0 (kt_ls (p := 1191) hs (by omega) ?_))
    have g3' : f 1191 = x.2.1 := g3x
    rw [g3']
    try dsimp only
    rw [hx]
    try dsimp only
    have key : ∀ k : Int32, k = x.2.1 → ka_T Z (pb_X3_mends_35 (some m) k) w (kt G m ad (kt_set T 0 f)) (kt_bod B e w G m ad (kt_set T 0 f) (match v_takes V x.2.1 with | .inl ch => .inl ch | .inr (b, W) => .inr (b.1, W.cs, W.ls, W.bx, W.st, W.ps, W.so, rest, v_adds (kn_add W.aw b.1.toNatClampNeg) d.bs, v_num (v_num (v_num W.sc 8 (W.sc 8 + (Int32.ofNat d.bs.length + 1))) 5 (W.sc 5 + 1)) 6 (W.sc 6 + 3)))) := by
      intro k hk0
      rw [← hk0] at hk ⊢
      unfold pb_X3_mends_35
      refine kt_is (ka_call (kt_finestPlace hs he.2.2.2.1 he.1.2.2.2.1 hl240 hk hbok) (fun y w' H' hp => ?_))
      obtain ⟨rfl, rfl, hy⟩ := hp
      have hperm : v_fin none (v_of k l) = v_fin none (v_of k V.bx) := v_fin_perm (hl.filter _) (hndl.sublist (List.filter_sublist.map _))
      have hy3 : vt_best l (v_fin none (v_of k l)) y := hy
      unfold v_takes
      rw [← hperm]
      cases hfin : v_fin none (v_of k l) with
      | none =>
        rw [hfin] at hy3
        have hy4 : y = -1 := hy3
        subst hy4
        exact ka_ifN (by decide) (kt_is (kt_bodE (kt_refBead hs he hzl hok.2.2.2.2.1 hk)))
      | some b =>
        rw [hfin] at hy3
        obtain ⟨j, hj, rfl⟩ := hy3
        have hjl := ke_get_lt hj
        obtain ⟨c0, c1, c2⟩ := he.2.2.2.1 j b hj
        refine ka_ifP ((k3_le (a := 0) (by omega) (by omega)).mpr (by omega)) (kt_g0 (kt_bAt (j := 0) (kt_ls hs (by omega) ?_)))
        rw [c0]
        have k1 := ke_goB (k := j) he hzl hjl
        have hz2 : v_sz (V.cs, V.ls, l.eraseIdx j, V.2.2.2) := ⟨z1, z2, by show (l.eraseIdx j).length ≤ 240; rw [List.length_eraseIdx, if_pos hjl]; omega, z4, z5, z6, z7, z8⟩
        refine kt_is (ka_mv (kt_goes (c := 11) (b := 44) (s := 3) (n := l.length) (k := j) hs (by omega) (by omega) hjl he.1.2.2.2.1) ?_)
        generalize hg : upd (vt_shift f (44 + 3 * j) (44 + 3 * (l.length - 1)) 3) 11 (Int32.ofNat (l.length - 1)) = g
        have k1' : ke g (V.cs, V.ls, l.eraseIdx j, V.2.2.2) := by rw [← hg]; exact k1
        refine kt_g0 (kt_ls (p := 8) hs (by omega) (kt_g0 (kt_ls (p := 1189) hs (by omega) ?_)))
        have h1189 : g 1189 = Int32.ofNat d.bs.length := (k1'.2.2.2.2.2.2.2 0 d hd0).1
        rw [h1189, k1'.1.1 8 (by omega)]
        refine kt_ss (p := 8) hs (by omega) (kt_g0 (kt_ls (p := 6) hs (by omega) ?_))
        have k2 := ke_num (k := 8) (v := V.sc 8 + (Int32.ofNat d.bs.length + 1)) k1' (by omega) hz2
        rw [upd_ne (by omega), k1'.1.1 6 (by omega)]
        have k3 := ke_num (k := 6) (v := V.sc 6 + 3) k2 (by omega) hz2
        refine kt_ss (p := 6) hs (by omega) (kt_g0 (kt_ls (p := 5) hs (by omega) ?_))
        rw [upd_ne (by omega), upd_ne (by omega), k1'.1.1 5 (by omega)]
        have k4 := ke_num (k := 5) (v := V.sc 5 + 1) k3 (by omega) hz2
        refine kt_ss (p := 5) hs (by omega) ?_
        have hw0 : 0 < V.wa.length := by omega
        have k5 := ke_goW (k := 0) k4 hz2 hw0
        have hgoes := kt_goes (Z := Z) (w := w') (G := G) (T := T) (c := 15) (b := 1188) (s := 5) (n := V.wa.length) (k := 0) hs (by omega) (by omega) hw0 k4.1.2.2.2.2.2.2.2
        have e7 : v_num (v_num (v_num V.sc 8 (V.sc 8 + (Int32.ofNat d.bs.length + 1))) 6 (V.sc 6 + 3)) 5 (V.sc 5 + 1) = v_num (v_num (v_num V.sc 8 (V.sc 8 + (Int32.ofNat d.bs.length + 1))) 5 (V.sc 5 + 1)) 6 (V.sc 6 + 3) := v_num_comm (by omega)
        have herase : V.wa.eraseIdx 0 = rest := by rw [hwa]; rfl
        have conv : ∀ F : Nat → Int32, ke F (V.cs, V.ls, l.eraseIdx j, V.st, V.ps, V.so, V.wa.eraseIdx 0, V.aw, v_num (v_num (v_num V.sc 8 (V.sc 8 + (Int32.ofNat d.bs.length + 1))) 6 (V.sc 6 + 3)) 5 (V.sc 5 + 1)) → ke F (V.cs, V.ls, l.eraseIdx j, V.st, V.ps, V.so, rest, v_adds (kn_add V.aw b.1.toNatClampNeg) d.bs, v_num (v_num (v_num V.sc 8 (V.sc 8 + (Int32.ofNat d.bs.length + 1))) 5 (V.sc 5 + 1)) 6 (V.sc 6 + 3)) := by
          intro F h
          rw [herase, e7] at h
          exact h
        refine kt_is (ka_mv hgoes (ka_pure ⟨rfl, rfl, if_pos (hbok b (List.mem_of_getElem? hj)).1, _, by rw [kt_set_set], hst, l.eraseIdx j, v_eraseperm hl (v_nd_bx hok.2.2.2.2.2) hj, conv _ k5⟩))
    rcases hk with e | e
    · exact ka_ifP (by rw [e]; decide) (key 0 e.symm)
    · exact ka_ifN (fun z => z e) (key 1 e.symm)
theorem kt_mend (hs : kt_sep m ad) (hR : kR T X) (hz : vX_sz X) (hok : v_ok cc dd X.now) (hcc : cc ≤ 240) : ka_T Z (pm_X3_mend (some m)) w (kt G m ad T) (kt_Q w G m ad (vx_mend X)) := by
  unfold pm_X3_mend
  refine kt_keep hs hR hz (fun T0 f hf hrf h0 hw => ?_)
  refine kt_is (ka_post (kt_fin (X := X) (res := v_mends X.now) (e := -2) hs h0 hz hw hrf hf (by decide) (kt_mends hs hf hok hcc)) (fun r w' H' hp => ?_))
  have e : kt_out X (-2) (v_mends X.now) = vx_mend X := kt_out_of (vk_mends hok)
  rw [← e]
  exact hp
end KTV
