set_option maxRecDepth 100000
section KTN
variable {Z : ka_Z} {w : Nat} {G : ka_H} {m : Nat} {ad : Nat → Nat} {T : kT} {X : vX} {f : Nat → Int32} {V : kV} {cc dd : Nat}
theorem kt_out_of {e : Int32} {res : vR} (h : v_res cc dd res) : kt_out X e res = vx_do X res := by
  cases res with
  | inl ch =>
    obtain ⟨p, e | ⟨q, e⟩⟩ := h <;> subst e <;> rfl
  | inr p => rfl
theorem v_isS_lt {a : Int32} (hok : v_ok cc dd V) (h : v_isS V a = 1) : a.toNatClampNeg < V.st.length := by
  have h6 : V.st.length ≤ 6 := hok.2.2.1.2.2.1
  obtain ⟨i, rfl, hi⟩ := v_in_idx (by omega) h
  rw [k3_nat (by omega)]
  exact hi
theorem kt_thread {a : Int32} (hs : kt_sep m ad) (hR : kR T X) (hz : vX_sz X) (hok : v_ok cc dd X.now) (hcc : cc ≤ 240) : ka_T Z (pm_X3_thread (some m) a) w (kt G m ad T) (kt_Q w G m ad (vx_thread X a)) := by
  unfold pm_X3_thread
  refine kt_keep hs hR hz (fun T0 f hf hrf h0 hw => ?_)
  refine kt_is (ka_post (kt_fin (X := X) (res := if v_isS X.now a = 1 then v_thread X.now a.toNatClampNeg else .inl []) (e := -1) hs h0 hz hw hrf hf (by decide) (kt_threads hs hf hok hcc)) (fun r w' H' hp => ?_))
  have e : kt_out X (-1) (if v_isS X.now a = 1 then v_thread X.now a.toNatClampNeg else .inl []) = vx_thread X a := by
    unfold vx_thread
    by_cases h : v_isS X.now a = 1
    · have h' : vx_isS X a = 1 := h
      rw [if_pos h, if_pos h']
      exact kt_out_of (vk_thread hok (v_isS_lt hok h))
    · have h' : ¬ vx_isS X a = 1 := h
      rw [if_neg h, if_neg h']
      rfl
  rw [← e]
  exact hp
theorem kt_bod_base {e : Int32} {f0 : Nat → Int32} {res : vR} {B : Bool} {r : Int32} {w' : Nat} {H' : ka_H} (h : kt_bod B e w G m ad (kt_set T 0 f) res r w' H') (hne : res ≠ .inl []) : kt_bod false e w G m ad (kt_set T 0 f0) res r w' H' := by
  obtain ⟨h1, h2⟩ := h
  refine ⟨h1, ?_⟩
  cases res with
  | inl ch =>
    cases ch with
    | nil => exact absurd rfl hne
    | cons p t =>
      obtain ⟨q1, f', rs, ds, q2, q3, q4⟩ := h2
      exact ⟨q1, f', rs, ds, by rw [q2, kt_set_set, kt_set_set], q3, fun z => (by cases z)⟩
  | inr p =>
    obtain ⟨q1, q2, f', q3, q4⟩ := h2
    exact ⟨q1, q2, f', by rw [q3, kt_set_set, kt_set_set], q4⟩
theorem v_ch_ne {res : vR} (h : v_res cc dd res) : res ≠ .inl [] := by
  intro e
  rw [e] at h
  obtain ⟨p, e | ⟨q, e⟩⟩ := h <;> cases e
theorem kt_manyT {i many : Nat} {e : Int32} {f0 : Nat → Int32} (hs : kt_sep m ad) (hcc : cc ≤ 240) (hmany : many ≤ 28) : ∀ (d j fuel : Nat) (last : Int32) (f : Nat → Int32) (V : kV), j + d = many → d < fuel → vt_err last = 0 → keP f V → v_ok cc dd V → i < V.st.length → ka_T Z (pb_X3_threadsMany_26 fuel (some m) (Int32.ofNat i) (Int32.ofNat many) last (Int32.ofNat j)) w (kt G m ad (kt_set T 0 f)) (kt_bod false e w G m ad (kt_set T 0 f0) (v_threads i d last V)) := by
  intro d
  induction d with
  | zero =>
    intro j fuel last f V hj hf hlast hk hok hi
    obtain ⟨fuel, rfl⟩ : ∃ n, fuel = n + 1 := ⟨fuel - 1, by omega⟩
    unfold pb_X3_threadsMany_26
    exact ka_ifP ((k3_le (by omega) (by omega)).mpr (by omega)) (ka_pure ⟨rfl, rfl, hlast, f, by rw [kt_set_set], hk⟩)
  | succ d ih =>
    intro j fuel last f V hj hf hlast hk hok hi
    obtain ⟨fuel, rfl⟩ : ∃ n, fuel = n + 1 := ⟨fuel - 1, by omega⟩
    have h6 : V.st.length ≤ 6 := hok.2.2.1.2.2.1
    have hisS : v_isS V (Int32.ofNat i) = 1 := by
      refine v_in_iff.mpr ⟨(k3_le (a := 0) (by omega) (by omega)).mpr (Nat.zero_le _), ?_⟩
      rw [k3_pred (by omega)]
      exact (k3_le (by omega) (by omega)).mpr (by omega)
    have hres := vk_thread hok hi
    unfold pb_X3_threadsMany_26
    refine ka_ifN (fun z => by have := (k3_le (by omega) (by omega)).mp z; omega) (ka_use kt_isError ?_)
    rw [hlast]
    refine ka_ifN (fun z => z rfl) (kt_is (ka_call (kt_threads (a := Int32.ofNat i) (B := true) hs hk hok hcc) (fun r w' H' hp => ?_)))
    rw [if_pos hisS, k3_nat (by omega)] at hp
    have hp2 := kt_bod_base (e := e) (f0 := f0) (by
      obtain ⟨q1, q2⟩ := hp
      refine ⟨q1, ?_⟩
      revert q2
      cases hx : v_thread V i with
      | inl ch =>
        cases ch with
        | nil => exact absurd hx (v_ch_ne hres)
        | cons p t => exact fun q => q
      | inr p => exact fun q => q : kt_bod true e w G m ad (kt_set T 0 f) (v_thread V i) r w' H') (v_ch_ne hres)
    rw [v_threads, k3_succ]
    cases hx : v_thread V i with
    | inl ch =>
      rw [hx] at hp2 hres
      have hne := v_ch_ne hres
      cases ch with
      | nil => exact absurd rfl hne
      | cons p t =>
        obtain ⟨rfl, rfl, f', rs, ds, rfl, hch, -⟩ := hp2
        obtain ⟨fuel, rfl⟩ : ∃ n, fuel = n + 1 := ⟨fuel - 1, by omega⟩
        unfold pb_X3_threadsMany_26
        refine ka_ite (fun _ => ?_) (fun _ => ?_)
        · exact ka_pure ⟨rfl, rfl, f', rs, ds, rfl, hch, fun z => (by cases z)⟩
        · exact ka_use kt_isError (ka_ifP (by decide) (ka_pure ⟨rfl, rfl, f', rs, ds, rfl, hch, fun z => (by cases z)⟩))
    | inr p =>
      obtain ⟨n, W⟩ := p
      rw [hx] at hp2 hres
      obtain ⟨rfl, rfl, hv, f', rfl, hk'⟩ := hp2
      rw [kt_set_set]
      exact ih (j + 1) fuel r f' W (by omega) (by omega) hv hk' hres (by rw [v_thread_len hx]; exact hi)
theorem kt_threadsMany {a b : Int32} (hs : kt_sep m ad) (hf : keP f V) (hok : v_ok cc dd V) (hcc : cc ≤ 240) : ka_T Z (pm_X3_threadsMany (some m) a b) w (kt G m ad (kt_set T 0 f)) (kt_bod false (-2) w G m ad (kt_set T 0 f) (if v_isS V a = 1 ∧ v_in b 1 28 = 1 then v_threads a.toNatClampNeg b.toNatClampNeg 0 V else .inl [])) := by
  obtain ⟨hst, l, hl, he⟩ := id hf
  have h6 : V.st.length ≤ 6 := hok.2.2.1.2.2.1
  have e12 : f 12 = Int32.ofNat V.st.length := he.1.2.2.2.2.1
  unfold pm_X3_threadsMany
  refine kt_is (ka_use (kt_isS hs e12) ?_)
  by_cases h : v_isS V a = 1
  · refine ka_ifN (by rw [show v_in a 0 (Int32.ofNat V.st.length - 1) = 1 from h]; decide) (ka_use kt_isIn ?_)
    by_cases h2 : v_in b 1 28 = 1
    · rw [if_pos (show v_isS V a = 1 ∧ v_in b 1 28 = 1 from ⟨h, h2⟩)]
      obtain ⟨i, rfl, hi⟩ := v_in_idx (by omega) h
      obtain ⟨j, rfl, hj1, hj2⟩ := v_in_nat (a := 1) (b := 28) (by omega) (by omega) h2
      rw [k3_nat (a := i) (by omega), k3_nat (a := j) (by omega)]
      exact ka_ifP (by rw [h2]; decide) (kt_manyT hs hcc hj2 j 0 km_fuel 0 f V (Nat.zero_add _) (by unfold km_fuel; omega) (by decide) hf hok hi)
    · rw [if_neg (show ¬ (v_isS V a = 1 ∧ v_in b 1 28 = 1) from fun z => h2 z.2)]
      exact ka_ifN (by rw [v_in_no h2]; simp) (ka_pure ⟨rfl, rfl, rfl⟩)
  · rw [if_neg (show ¬ (v_isS V a = 1 ∧ v_in b 1 28 = 1) from fun z => h z.1)]
    exact ka_ifP (v_in_no h) (ka_pure ⟨rfl, rfl, rfl⟩)
theorem kt_knots {a : Int32} {B : Bool} (hs : kt_sep m ad) (hf : keP f V) (hok : v_ok cc dd V) (hcc : cc ≤ 240) : ka_T Z (pm_X3_knots (some m) a) w (kt G m ad (kt_set T 0 f)) (kt_bod B (-1) w G m ad (kt_set T 0 f) (if v_isS V a = 1 then v_ties V a.toNatClampNeg else .inl [])) := by
  have hz := v_sz_of hok hcc
  obtain ⟨hst, l, hl, he⟩ := id hf
  obtain ⟨z1, z2, z3, z4, z5, z6, z7, z8⟩ := id hz
  have hzl := v_sz_wb hz hl
  have e12 : f 12 = Int32.ofNat V.st.length := he.1.2.2.2.2.1
  unfold pm_X3_knots
  refine kt_is (ka_use (kt_isS hs e12) ?_)
  by_cases h : v_isS V a = 1
  · rw [if_pos h]
    refine ka_ifP (by rw [show v_in a 0 (Int32.ofNat V.st.length - 1) = 1 from h]; decide) ?_
    obtain ⟨i, rfl, hi⟩ := v_in_idx (by omega) h
    rw [k3_nat (by omega)]
    obtain ⟨r, hr⟩ : ∃ r, V.st[i]? = some r := ⟨_, List.getElem?_eq_getElem hi⟩
    have hgd : V.st.getD i (0, 0, 0, []) = r := by rw [List.getD, hr]; rfl
    have hS1 : ke_S1 f i r := he.2.2.2.2.1 i r hr
    obtain ⟨gg, mm, kk, hN⟩ := hok.2.2.2.2.1 r (List.mem_of_getElem? hr)
    obtain ⟨l1, l2, l3⟩ := v_sok_loose hN
    obtain ⟨p1, p2, p3, p4, p5, p6, p7, p8, p9, p10, p11, -⟩ := id hN
    have hkm : (kk + 1) * (mm + 1) ≤ 5 * 7 := Nat.mul_le_mul (by omega) (by omega)
    have hkm2 : (kk + 1) * (mm + 1) = kk * (mm + 1) + (mm + 1) := by rw [Nat.add_mul, Nat.one_mul]
    refine kt_is (ka_use (kt_isDone hs (by omega) hS1) ?_)
    unfold v_ties
    dsimp only
    rw [hgd]
    by_cases hd : v_done r = true
    · rw [if_pos hd, if_pos hd]
      exact ka_ifN (by decide) (kt_is (ka_mv (kt_refuse hs) (ka_pure (kt_bodN (by decide)))))
    · rw [if_neg hd, if_neg hd]
      refine ka_ifP rfl (kt_is (ka_use (kt_lacks hs (by omega) hS1 hN) ?_))
      by_cases hwh : v_whole r = true
      · have e := (v_sok_whole hN).mp hwh
        have ev : (if v_whole r = false then (.inl [(7, r.2.1 + 1 - v_loose r)] : vR) else .inr (r.2.2.1 + 1, v_setS V i (r.1, r.2.1, r.2.2.1 + 1, r.bs))) = .inr (r.2.2.1 + 1, v_setS V i (r.1, r.2.1, r.2.2.1 + 1, r.bs)) := if_neg (by rw [hwh]; decide)
        rw [ev, e, Nat.sub_self]
        refine ka_ifP (by decide) (kt_g0 (kt_sAt (j := 2) (kt_ls hs (by omega) ?_)))
        rw [hS1.2.2.1]
        refine kt_ss hs (by omega) (kt_is (ka_use (kt_of (j := 2) hs (by omega) (by omega)) (ka_pure ?_)))
        rw [upd_same]
        have hk1 : ke_S1 (upd f (764 + 60 * i + 2) (r.2.2.1 + 1)) i (r.1, r.2.1, r.2.2.1 + 1, r.bs) := by
          obtain ⟨g0, g1, g2, g3, g4⟩ := hS1
          refine ⟨(upd_ne (by omega)).trans g0, (upd_ne (by omega)).trans g1, upd_same, (upd_ne (by omega)).trans g3, fun p b hb => ?_⟩
          exact ⟨(upd_ne (by omega)).trans (g4 p b hb).1, (upd_ne (by omega)).trans (g4 p b hb).2⟩
        exact ⟨rfl, rfl, by rw [p3, k3_succ]; exact vt_err_nat (by omega), _, by rw [kt_set_set], hst, l, hl, ke_setS he hzl hr hk1 (fun p hp => upd_ne (by omega))⟩
      · have hne : ¬ r.bs.length = (kk + 1) * (mm + 1) := fun z => hwh ((v_sok_whole hN).mpr z)
        have hf2 : v_whole r = false := by cases hq : v_whole r; rfl; exact absurd hq hwh
        have ev : (if v_whole r = false then (.inl [(7, r.2.1 + 1 - v_loose r)] : vR) else .inr (r.2.2.1 + 1, v_setS V i (r.1, r.2.1, r.2.2.1 + 1, r.bs))) = .inl [(7, r.2.1 + 1 - v_loose r)] := if_pos hf2
        have el : r.2.1 + 1 - v_loose r = Int32.ofNat ((kk + 1) * (mm + 1) - r.bs.length) := by
          rw [p2, l1, k3_succ, k3_sub (by omega)]
          congr 1
          omega
        rw [ev, el]
        refine ka_ifN (fun z => by have := (k3_le (b := 0) (by omega) (by omega)).mp z; omega) (kt_is (ka_use (kt_lacks hs (by omega) hS1 hN) (kt_is (ka_mv (kt_refuse hs) (ka_pure (kt_bodN (by decide)))))))
  · rw [if_neg h]
    exact ka_ifN (by rw [show v_in a 0 (Int32.ofNat V.st.length - 1) = 0 from v_in_no h]; simp) (ka_pure ⟨rfl, rfl, rfl⟩)
theorem kt_knot {a : Int32} (hs : kt_sep m ad) (hR : kR T X) (hz : vX_sz X) (hok : v_ok cc dd X.now) (hcc : cc ≤ 240) : ka_T Z (pm_X3_knot (some m) a) w (kt G m ad T) (kt_Q w G m ad (vx_knot X a)) := by
  unfold pm_X3_knot
  refine kt_keep hs hR hz (fun T0 f hf hrf h0 hw => ?_)
  refine kt_is (ka_post (kt_fin (X := X) (res := if v_isS X.now a = 1 then v_ties X.now a.toNatClampNeg else .inl []) (e := -1) hs h0 hz hw hrf hf (by decide) (kt_knots hs hf hok hcc)) (fun r w' H' hp => ?_))
  have e : kt_out X (-1) (if v_isS X.now a = 1 then v_ties X.now a.toNatClampNeg else .inl []) = vx_knot X a := by
    unfold vx_knot
    by_cases h : v_isS X.now a = 1
    · have h' : vx_isS X a = 1 := h
      rw [if_pos h, if_pos h']
      exact kt_out_of (vk_ties hok (v_isS_lt hok h))
    · have h' : ¬ vx_isS X a = 1 := h
      rw [if_neg h, if_neg h']
      rfl
  rw [← e]
  exact hp
end KTN
