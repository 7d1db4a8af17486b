set_option maxRecDepth 100000
/-! ===== the twin: commands are done; a text is read and done ===== -/
theorem kt_67 {T : kT} {a b c d : Nat → Int32} : kt_set (kt_set (kt_set (kt_set T 6 a) 7 b) 6 c) 7 d = kt_set (kt_set T 6 c) 7 d := by
  unfold kt_set
  refine Prod.ext (funext fun j => ?_) rfl
  by_cases h6 : j = 6
  · simp [h6]
  · by_cases h7 : j = 7 <;> simp [h6, h7]
theorem kc_chC {rs ds rs' ds' : Nat → Int32} {ch : List (Int32 × Int32)} {d : Int32} (h : kc_ch rs ds ch) (hl : ch.length ≤ 2) (r0 : rs' 0 = 9) (d0 : ds' 0 = d) (r1 : rs' 1 = rs 0) (r2 : rs' 2 = rs 1) (d1 : ds' 1 = ds 0) (d2 : ds' 2 = ds 1) : kc_ch rs' ds' ((9, d) :: ch) := by
  refine ⟨by simp, by simp only [List.length_cons]; omega, fun i hi => ?_⟩
  have h3 : i = 0 ∨ i = 1 ∨ i = 2 := by omega
  rcases h3 with e | e | e <;> subst e
  · exact ⟨r0, d0, (by decide : (9 : Int32) ≠ 0)⟩
  · have h0 := h.2.2 0 (by omega)
    rw [List.getElem?_cons_succ, r1, d1]
    exact h0
  · have h0 := h.2.2 1 (by omega)
    rw [List.getElem?_cons_succ, r2, d2]
    exact h0
theorem kc_chD {rs' ds' : Nat → Int32} {d : Int32} (r0 : rs' 0 = 9) (d0 : ds' 0 = d) (r1 : rs' 1 = 0) (r2 : rs' 2 = 0) : kc_ch rs' ds' [(9, d)] := by
  refine ⟨by simp, Nat.le_of_ble_eq_true rfl, fun i hi => ?_⟩
  have h3 : i = 0 ∨ i = 1 ∨ i = 2 := by omega
  rcases h3 with e | e | e <;> subst e
  · exact ⟨r0, d0, (by decide : (9 : Int32) ≠ 0)⟩
  · exact r1
  · exact r2
theorem ka_tsw7 {α : Type} {Z : ka_Z} {w : Nat} {H : ka_H} {Q : α → Nat → ka_H → Prop} {D : km_M α} {Ps : List (km_M α)} (t : ka_T Z D w H Q) : ka_T Z (km_tsw (Int32.ofNat 7) 0 6 Ps D) w H Q := by
  unfold km_tsw
  exact ka_ifP (Or.inr (by decide)) t
section KTZP
variable {Z : ka_Z} {w : Nat} {G : ka_H} {m : Nat} {ad : Nat → Nat} {T : kT} {X : vX} {f : Nat → Int32} {V : kV} {cc dd : Nat}
theorem kt_does {i a b : Int32} {c : vCm} (hs : kt_sep m ad) (hf : keP f V) (hok : v_ok cc dd V) (hcc : cc + 10 ≤ 240) (hc : kt_c1 i a b c) : ka_T Z (pm_X3_does (some m) i a b) w (kt G m ad (kt_set T 0 f)) (fun r w' H' => ∃ e, vt_err e = 1 ∧ e ≠ -5 ∧ kt_bod false e w G m ad (kt_set T 0 f) (v_does V c) r w' H') := by
  have hz : v_sz V := v_sz_of hok (by omega)
  have hbx : V.bx.length ≤ 230 := by
    obtain ⟨c', W, q1, q2, q3, q4, q5⟩ := v_ok_card hok
    have h1 := v_all_len V
    omega
  have hfin : ∀ {x : km_M Int32} {e : Int32} {res : vR}, vt_err e = 1 → e ≠ -5 → ka_T Z x w (kt G m ad (kt_set T 0 f)) (kt_bod false e w G m ad (kt_set T 0 f) res) → ka_T Z (km_bind (km_is 3 (some m)) fun _ => km_bind x fun i => km_pure i) w (kt G m ad (kt_set T 0 f)) (fun r w' H' => ∃ e, vt_err e = 1 ∧ e ≠ -5 ∧ kt_bod false e w G m ad (kt_set T 0 f) res r w' H') := by
    intro x e res h1 h2 h
    exact kt_is (ka_call h (fun r w' H' hq => ka_pure ⟨e, h1, h2, hq⟩))
  obtain ⟨j, x, y⟩ := c
  obtain ⟨hi, hj8, ha, hb⟩ := hc
  simp only at hi hj8 ha hb
  subst hi
  have h8 : j = 0 ∨ j = 1 ∨ j = 2 ∨ j = 3 ∨ j = 4 ∨ j = 5 ∨ j = 6 ∨ j = 7 := by omega
  have hce : ∀ v n : Int32, vt_err (if v_in v 0 n = 1 then -2 else -1) = 1 ∧ (if v_in v 0 n = 1 then (-2 : Int32) else -1) ≠ -5 := by
    intro v n
    split <;> decide
  unfold pm_X3_does
  rcases h8 with e | e | e | e | e | e | e | e <;> subst e
  · have e1 := ha (by omega)
    have e2 := hb (by omega)
    subst e1; subst e2
    refine ka_tswY (i := 0) (by omega) rfl ?_
    unfold pb_X3_does_44 pb_X3_does_55
    exact ka_ifN (fun z => z rfl) (hfin (hce _ _).1 (hce _ _).2 (kt_carves hs hf hz (Or.inr rfl) hbx))
  · have e1 := ha (by omega)
    have e2 := hb (by omega)
    subst e1; subst e2
    refine ka_tswY (i := 1) (by omega) rfl ?_
    unfold pb_X3_does_44 pb_X3_does_55
    exact ka_ifP (by decide) (hfin (hce _ _).1 (hce _ _).2 (kt_carves hs hf hz (Or.inl rfl) hbx))
  · have e1 := ha (by omega)
    have e2 := hb (by omega)
    subst e1; subst e2
    refine ka_tswY (i := 2) (by omega) rfl ?_
    exact hfin (by decide) (by decide) (kt_begins hs hf hz)
  · have e1 := ha (by omega)
    have e2 := hb (by omega)
    subst e1; subst e2
    refine ka_tswY (i := 3) (by omega) rfl ?_
    exact hfin (by decide) (by decide) (kt_threadsMany hs hf hok (by omega))
  · have e1 := ha (by omega)
    subst e1
    refine ka_tswY (i := 4) (by omega) rfl ?_
    exact hfin (by decide) (by decide) (kt_knots hs hf hok (by omega))
  · have e1 := ha (by omega)
    subst e1
    refine ka_tswY (i := 5) (by omega) rfl ?_
    exact hfin (by decide) (by decide) (kt_drops hs hf hok (by omega))
  · refine ka_tswY (i := 6) (by omega) rfl ?_
    exact hfin (e := -1) (by decide) (by decide) (kt_mends hs hf hok (by omega))
  · have e1 := ha (by omega)
    subst e1
    refine ka_tsw7 ?_
    exact hfin (by decide) (by decide) (kt_passes hs hf hok (by omega))
theorem kt_rc51 {s d : Int32} (hs : kt_sep m ad) : ka_T Z (pb_X3_refusesCommand_51 (some m) d s 1 (some (ad 6))) w (kt G m ad T) (ka_V w (kt G m ad (kt_set (kt_set T 6 (upd (upd (T.1 6) 1 s) 0 9)) 7 (upd (upd (T.1 7) 1 (T.1 7 0)) 0 d))) (-5)) := by
  unfold pb_X3_refusesCommand_51
  refine kt_st (j := 6) (p := 1) hs (by decide) (by decide) (kt_g7 (kt_g7 (kt_ld (j := 7) (p := 0) hs (by decide) (by decide) (kt_st (j := 7) (p := 1) hs (by decide) (by decide) (kt_g6 (kt_st (j := 6) (p := 0) hs (by decide) (by decide) (kt_g7 (kt_st (j := 7) (p := 0) hs (by decide) (by decide) (ka_pure ⟨rfl, rfl, ?_⟩)))))))))
  exact congrArg (kt G m ad) kt_67
theorem kt_refusesC {d b : Int32} (hs : kt_sep m ad) : ka_T Z (pm_X3_refusesCommand (some m) d b) w (kt G m ad T) (fun r w' H' => w' = w ∧ r = -5 ∧ ∃ rs ds, H' = kt G m ad (kt_set (kt_set T 6 rs) 7 ds) ∧ rs 0 = 9 ∧ rs 1 = (if b = 0 then 0 else T.1 6 0) ∧ rs 2 = (if b = 0 then 0 else T.1 6 1) ∧ ds 0 = d ∧ ds 1 = T.1 7 0 ∧ ds 2 = T.1 7 1) := by
  unfold pm_X3_refusesCommand
  refine kt_g6 ?_
  by_cases hb : b = 0
  · refine ka_ifP hb ?_
    unfold pb_X3_refusesCommand_19
    refine kt_st (j := 6) (p := 2) hs (by decide) (by decide) (kt_g7 (kt_g7 (kt_ld (j := 7) (p := 1) hs (by decide) (by decide) (kt_st (j := 7) (p := 2) hs (by decide) (by decide) (kt_g6 (ka_ifP hb ?_))))))
    refine ka_post (kt_rc51 hs) (fun r w' H' hq => ?_)
    obtain ⟨rfl, rfl, rfl⟩ := hq
    rw [if_pos hb, if_pos hb]
    exact ⟨rfl, rfl, _, _, congrArg (kt G m ad) kt_67, rfl, rfl, rfl, rfl, rfl, rfl⟩
  · refine ka_ifN hb (kt_g6 (kt_ld (j := 6) (p := 1) hs (by decide) (by decide) ?_))
    unfold pb_X3_refusesCommand_19
    refine kt_st (j := 6) (p := 2) hs (by decide) (by decide) (kt_g7 (kt_g7 (kt_ld (j := 7) (p := 1) hs (by decide) (by decide) (kt_st (j := 7) (p := 2) hs (by decide) (by decide) (kt_g6 (ka_ifN hb (kt_g6 (kt_ld (j := 6) (p := 0) hs (by decide) (by decide) ?_))))))))
    refine ka_post (kt_rc51 hs) (fun r w' H' hq => ?_)
    obtain ⟨rfl, rfl, rfl⟩ := hq
    rw [if_neg hb, if_neg hb]
    exact ⟨rfl, rfl, _, _, congrArg (kt G m ad) kt_67, rfl, rfl, rfl, rfl, rfl, rfl⟩
theorem kt_allLoop {all : List vCm} (hs : kt_sep m ad) (h0 : kR0 T X) (hz : vX_sz X) (hw : keP (T.1 1) X.now) (hrf : kc_rf (T.1 6) (T.1 7) X.rf) (h15 : T.2 15 = Int32.ofNat all.length) (hcm : kt_cms (T.1 12) all) (hal : all.length ≤ 20) : ∀ (rest done : List vCm) (fuel : Nat) (V : kV) (f : Nat → Int32) (cc dd : Nat), all = done ++ rest → rest.length < fuel → keP f V → v_ok cc dd V → cc + 10 * rest.length ≤ 240 → ka_T Z (pb_X3_read_31 fuel (some m) (Int32.ofNat done.length)) w (kt G m ad (kt_set T 0 f)) (kt_Q w G m ad (vx_ans (v_all2 rest done.length V), vx_done X (v_all2 rest done.length V))) := by
  have e15 : ∀ f, (kt_set T 0 f).2 15 = Int32.ofNat all.length := fun _ => h15
  intro rest
  induction rest with
  | nil =>
    intro done fuel V f cc dd hA hf hV hok hcc
    obtain ⟨fuel, rfl⟩ : ∃ n, fuel = n + 1 := ⟨fuel - 1, by omega⟩
    have hA1 : done.length = all.length := by rw [hA, List.append_nil]
    unfold pb_X3_read_31
    refine kt_gI 15 kt_n15 ?_
    rw [e15]
    refine ka_ifP ((k3_le (by omega) (by omega)).mpr (by omega)) (kt_gI 15 kt_n15 ?_)
    rw [e15, ← hA1]
    exact kt_endI (v := Int32.ofNat done.length) hs h0 hz hw hrf (if_pos ((k3_le (a := 0) (by omega) (by omega)).mpr (Nat.zero_le _))) hV
  | cons c t ih =>
    intro done fuel V f cc dd hA hf hV hok hcc
    obtain ⟨fuel, rfl⟩ : ∃ n, fuel = n + 1 := ⟨fuel - 1, by omega⟩
    have hAl : all.length = done.length + (t.length + 1) := by rw [hA, List.length_append]; rfl
    simp only [List.length_cons] at hf hcc
    have hcg : all[done.length]? = some c := by rw [hA]; simp
    have e3 : (3 : Int32) * Int32.ofNat done.length = Int32.ofNat (3 * done.length) := k3_mul (a := 3)
    have e31 : Int32.ofNat (3 * done.length) + 1 = Int32.ofNat (3 * done.length + 1) := k3_succ
    have e32 : Int32.ofNat (3 * done.length) + 2 = Int32.ofNat (3 * done.length + 2) := k3_add (b := 2)
    have hres := vk_does (c := c) hok (by omega)
    have hlast : ∀ (T1 : kT) (e : Int32) (bb : Int32) (ch : List (Int32 × Int32)), kR0 T1 X → keP (T1.1 1) X.now → (∀ rs ds, rs 0 = 9 → rs 1 = (if bb = 0 then 0 else T1.1 6 0) → rs 2 = (if bb = 0 then 0 else T1.1 6 1) → ds 0 = Int32.ofNat done.length → ds 1 = T1.1 7 0 → ds 2 = T1.1 7 1 → kc_ch rs ds ((9, Int32.ofNat done.length) :: ch)) → ka_T Z (pb_X3_read_108 bb (Int32.ofNat done.length) (some m)) w (kt G m ad (kt_set T1 0 (vt_cp (T1.1 1) (T1.1 0) 0 0 2188))) (kt_Q w G m ad (vx_ans (.inl ((9, Int32.ofNat done.length) :: ch)), vx_done X (.inl ((9, Int32.ofNat done.length) :: ch)))) := by
      intro T1 e bb ch k0 k1 k2
      unfold pb_X3_read_108
      refine kt_is (ka_call (kt_refusesC hs) (fun r w' H' hq => ?_))
      obtain ⟨rfl, rfl, rs, ds, rfl, r0, r1, r2, d0, d1, d2⟩ := hq
      refine ka_pure ⟨rfl, rfl, _, rfl, ?_, k2 rs ds r0 r1 r2 d0 d1 d2, k0⟩
      refine keP_cong k1 hz.1 (fun p hp => ?_)
      show vt_cp (T1.1 1) (T1.1 0) 0 0 2188 p = T1.1 1 p
      rw [vt_cp_in (Nat.zero_le _) (by omega), Nat.zero_add, Nat.sub_zero]
    unfold pb_X3_read_31
    refine kt_gI 15 kt_n15 ?_
    rw [e15]
    refine ka_ifN (fun z => by have := (k3_le (by omega) (by omega)).mp z; omega) (kt_g12 ?_)
    rw [e3, e31, e32]
    refine kt_ld (j := 12) (p := 3 * done.length) hs (by decide) (show 3 * done.length < 63 by omega) (kt_g12 (kt_ld (j := 12) (p := 3 * done.length + 1) hs (by decide) (show 3 * done.length + 1 < 63 by omega) (kt_g12 (kt_ld (j := 12) (p := 3 * done.length + 2) hs (by decide) (show 3 * done.length + 2 < 63 by omega) ?_))))
    refine kt_is (ka_call (kt_does hs hV hok (by omega) (hcm _ _ hcg)) (fun r w' H' hq => ?_))
    obtain ⟨e, he1, he5, rfl, hq⟩ := hq
    rw [v_all2]
    cases hd : v_does V c with
    | inr q =>
      obtain ⟨v, V'⟩ := q
      rw [hd] at hq hres
      obtain ⟨rfl, hv, f', rfl, hV'⟩ := hq
      refine ka_use kt_isError (ka_ifP hv ?_)
      rw [kt_set_set, k3_succ]
      have h2 := ih (done ++ [c]) fuel V' f' (cc + 10) (dd + 60) (by rw [hA]; simp) (by omega) hV' hres (by omega)
      rw [List.length_append] at h2
      exact h2
    | inl ch =>
      rw [hd] at hq hres
      have hl2 : ch.length ≤ 2 := hres
      cases ch with
      | nil =>
        obtain ⟨rfl, rfl⟩ := hq
        refine ka_use kt_isError (ka_ifN (by rw [he1]; decide) (kt_g1 (kt_g0 (ka_mv (kt_copies (j := 1) (k := 0) (a := 0) (b := 0) (n := 2188) hs (by decide) (by decide) (Nat.le_of_ble_eq_true rfl) (Nat.le_of_ble_eq_true rfl) (Or.inl (by decide)) (by omega)) (ka_ifP he5 ?_)))))
        exact hlast (kt_set T 0 f) 0 0 [] h0 hw (fun rs ds r0 r1 r2 d0 d1 d2 => kc_chD r0 d0 r1 r2)
      | cons p t' =>
        obtain ⟨rfl, f', rs, ds, rfl, hch, -⟩ := hq
        refine ka_use kt_isError (ka_ifN (by decide) (kt_g1 (kt_g0 (ka_mv (kt_copies (j := 1) (k := 0) (a := 0) (b := 0) (n := 2188) hs (by decide) (by decide) (Nat.le_of_ble_eq_true rfl) (Nat.le_of_ble_eq_true rfl) (Or.inl (by decide)) (by omega)) (ka_ifN (fun z => z rfl) ?_)))))
        exact hlast (kt_set (kt_set (kt_set (kt_set T 0 f) 0 f') 6 rs) 7 ds) 0 1 (p :: t') h0 hw (fun rs' ds' r0 r1 r2 d0 d1 d2 => kc_chC hch hl2 r0 d0 r1 r2 d1 d2)
theorem kt_read (hs : kt_sep m ad) (hW : kt_W Z G m ad) (hK : kz_twords Z) (hR : kR T X) (hz : vX_sz X) (hok : v_ok cc dd X.now) (hcc : cc + 10 * X.inp.length ≤ 240) (hinp : X.inp.length ≤ 60) : ka_T Z (pm_X3_read (some m)) w (kt G m ad T) (kt_Q w G m ad (vx_read X)) := by
  obtain ⟨h1, h2, h3, h4, h5, ⟨h6, h7⟩, h8⟩ := id hR
  have h17 : kt_nm 17 := Or.inr (Or.inr (Or.inr (Or.inr (Or.inr (Or.inr (Or.inr rfl))))))
  unfold pm_X3_read
  refine kt_is (ka_call (kt_isText hs ⟨h6, hinp, h7⟩ hW hK) (fun r w' H' hq => ?_))
  obtain ⟨rfl, hq⟩ := hq
  unfold vx_read
  cases hv : vr_whole X.inp with
  | inl e =>
    rw [hv] at hq
    obtain ⟨rfl, n, v, g, rfl⟩ := hq
    refine kt_pI 13 kt_n13 rfl (ka_ifN (fun z => z rfl) (kt_gI 14 kt_n14 (kt_pI 17 h17 rfl (ka_pure ⟨rfl, rfl, _, rfl, h1, h2, h3, h4, h5, ⟨rfl, fun i c hc => by cases hc⟩, rfl⟩))))
  | inr cs =>
    rw [hv] at hq
    obtain ⟨rfl, p, v, g, rfl, hcm⟩ := hq
    obtain ⟨hl5, -⟩ := vr_whole_len hv
    refine kt_pI 13 kt_n13 rfl (ka_ifP (by decide) (kt_is (ka_mv (kt_keeps hs) ?_)))
    have hX1 : ∀ res, (vx_ans res, vx_clear (vx_done X res) X.fault) = (vx_ans res, vx_done (vx_clear X X.fault) res) := by
      intro res
      cases res <;> rfl
    simp only
    rw [hX1]
    have h := kt_allLoop (Z := Z) (w := w') (G := G) (X := vx_clear X X.fault) (all := cs) (T := kt_set (kt_num (kt_rd T p cs.length v g) 13 0) 1 (vt_cp (T.1 0) (T.1 1) 0 0 2188)) hs ⟨h3, h4, h5, ⟨rfl, fun i c hc => by cases hc⟩, h8⟩ hz (keP_cong h1 hz.1 (fun p hp => by
      show vt_cp (T.1 0) (T.1 1) 0 0 2188 p = T.1 0 p
      rw [vt_cp_in (Nat.zero_le _) (by omega), Nat.zero_add, Nat.sub_zero])) h2 rfl hcm (by omega) cs [] km_fuel X.now (T.1 0) cc dd rfl (by unfold km_fuel; omega) h1 hok (by omega)
    have e : kt_set (kt_set (kt_num (kt_rd T p cs.length v g) 13 0) 1 (vt_cp (T.1 0) (T.1 1) 0 0 2188)) 0 (T.1 0) = kt_set (kt_num (kt_rd T p cs.length v g) 13 0) 1 (vt_cp (T.1 0) (T.1 1) 0 0 2188) := by
      exact kt_set_id (T := kt_set (kt_num (kt_rd T p cs.length v g) 13 0) 1 (vt_cp (T.1 0) (T.1 1) 0 0 2188)) (k := 0)
    rw [e] at h
    exact h
end KTZP
