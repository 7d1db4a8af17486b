set_option maxRecDepth 100000
/-! ===== the law's loop ===== -/
theorem vx_like_stones {X : vX} {n : Int32} : vx_like X (vx_stones X n).2 := vx_like_if vx_like_do vx_like_r
theorem vx_like_carver {X : vX} {n : Int32} : vx_like X (vx_carver X n).2 := vx_like_if vx_like_do vx_like_r
theorem vx_like_lens {X : vX} {n : Int32} : vx_like X (vx_lens X n).2 := vx_like_if vx_like_do vx_like_r
theorem vx_like_give {X : vX} {l c : Int32} : vx_like X (vx_give X l c).2 := vx_like_if vx_like_do vx_like_r
theorem vx_like_carve {X : vX} {c k b : Int32} : vx_like X (vx_carve X c k b).2 := vx_like_if (vx_like_if vx_like_do vx_like_r) vx_like_r
theorem vx_like_begin {X : vX} {l c : Int32} : vx_like X (vx_begin X l c).2 := vx_like_if vx_like_do vx_like_r
theorem vx_like_thread {X : vX} {n : Int32} : vx_like X (vx_thread X n).2 := vx_like_if vx_like_do vx_like_r
theorem vx_like_knot {X : vX} {n : Int32} : vx_like X (vx_knot X n).2 := vx_like_if vx_like_do vx_like_r
theorem vx_like_drop {X : vX} {n : Int32} : vx_like X (vx_drop X n).2 := vx_like_if vx_like_do vx_like_r
theorem vx_like_pilgrim {X : vX} {d q f c : Int32} : vx_like X (vx_pilgrim X d q f c).2 := vx_like_if vx_like_do vx_like_r
theorem vx_like_mend {X : vX} : vx_like X (vx_mend X).2 := vx_like_do
theorem vx_like_pass {X : vX} {n : Int32} : vx_like X (vx_pass X n).2 := vx_like_if vx_like_do vx_like_r
theorem vx_like_undo {X : vX} : vx_like X (vx_undo X).2 := by
  unfold vx_undo
  split <;> exact ⟨rfl, rfl⟩
theorem vx_like_save {X : vX} : vx_like X (vx_save X).2 := ⟨rfl, rfl⟩
theorem vx_like_restore {X : vX} : vx_like X (vx_restore X).2 := by
  unfold vx_restore
  split <;> exact ⟨rfl, rfl⟩
theorem vx_append_len {X : vX} {c : Int32} : (vx_append X c).2.inp.length ≤ X.inp.length + 1 ∧ (vx_append X c).2.line = X.line := by
  unfold vx_append
  split
  · split
    · exact ⟨Nat.le_succ _, rfl⟩
    · exact ⟨by show (X.inp ++ [c]).length ≤ _; rw [List.length_append]; exact Nat.le_refl _, rfl⟩
  · exact ⟨Nat.le_succ _, rfl⟩
theorem vx_read_inp {X : vX} : (vx_read X).2.inp = [] ∧ (vx_read X).2.line = X.line := by
  unfold vx_read
  cases vr_whole X.inp with
  | inl e => exact ⟨rfl, rfl⟩
  | inr cs =>
    refine ⟨rfl, ?_⟩
    show (vx_done X (v_all2 cs 0 X.now)).line = X.line
    cases v_all2 cs 0 X.now <;> rfl
theorem vx_write_len {X : vX} {s : Int32} {cc dd : Nat} (hok : v_ok cc dd X.now) (hl : X.line.length ≤ 80) : (vx_write X s).2.inp = X.inp ∧ (vx_write X s).2.line.length ≤ 80 := by
  unfold vx_write
  by_cases h : vx_isS X s = 1
  · rw [if_pos h]
    refine ⟨rfl, ?_⟩
    show (v_line (X.now.st.getD s.toNatClampNeg (0, 0, 0, []))).length ≤ 80
    have hlen : X.now.st.length ≤ 6 := hok.2.2.1.2.2.1
    obtain ⟨i, rfl, hi⟩ := v_in_idx (by omega) h
    obtain ⟨r, hr⟩ : ∃ x, X.now.st[i]? = some x := ⟨_, List.getElem?_eq_getElem hi⟩
    have hgd : X.now.st.getD (Int32.ofNat i).toNatClampNeg (0, 0, 0, []) = r := by rw [k3_nat (by omega), List.getD, hr]; rfl
    obtain ⟨gg, mm, kk, hN⟩ := hok.2.2.2.2.1 r (List.mem_of_getElem? hr)
    have hm := hN.2.2.2.2.2.2.1
    have hk1 := hN.2.2.2.2.1
    have hk2 := hN.2.2.2.2.2.2.2.1
    have hrl := (v_sok_loose hN).2.2
    rw [hgd]
    unfold v_line
    by_cases hne : r.bs = []
    · rw [if_pos hne]
      decide
    · rw [if_neg hne, hN.2.1, hN.2.2.1, k3_nat (by omega), k3_nat (by omega)]
      have := v_write_len (m := mm) (n := kk) r.bs 0
      rw [Nat.zero_div] at this
      omega
  · rw [if_neg h]
    exact ⟨rfl, hl⟩
section KTZS
variable {Z : ka_Z} {a0 n x dq ip m : Nat} {g : Nat → Int32} {ad : Nat → Nat}
theorem kl_loop (hE : ka_E0 Z) (hD : kz_dig Z) (hT : ∃ h, kz_txt Z 15 v_empty h) (hK : kz_words Z) (hTw : kz_twords Z) (hn : n ≤ 120) : ∀ (d k fuel w : Nat) (H : ka_H) (T : kT) (X : vX) (cc dd : Nat), n < 5 * k + 5 * d + 5 → k + d ≤ 24 → d < fuel → kM Z H a0 n g x dq ip m ad cc dd T X X → cc + 10 * X.inp.length ≤ 10 * k → dd + 60 * X.inp.length ≤ 60 * k → X.line.length ≤ 80 → 120000 * d + 47000 * X.inp.length + 1000 ≤ w → ka_T Z (pb_L_law_18 fuel (some a0) (some x) (some m) (Int32.ofNat (5 * k))) w H (fun r _ _ => r = 1) := by
  intro d
  induction d with
  | zero =>
    intro k fuel w H T X cc dd h1 h2 h3 h h4 h5 h6 h7
    obtain ⟨fuel, rfl⟩ : ∃ n, fuel = n + 1 := ⟨fuel - 1, by omega⟩
    have hlt := (kl_lt ⟨n, by omega⟩ ⟨5 * k, by omega⟩).mpr (by simp only; omega)
    unfold pb_L_law_18
    exact kl_len h (ka_ifP hlt (ka_ret rfl (ka_pure rfl)))
  | succ d ih =>
    intro k fuel w H T X cc dd h1 h2 h3 h h4 h5 h6 h7
    obtain ⟨fuel, rfl⟩ : ∃ n, fuel = n + 1 := ⟨fuel - 1, by omega⟩
    obtain ⟨hz, hok, hinp⟩ := kX_facts h.2.2.1 (by omega)
    have hs : kt_sep m ad := h.1.2.2.2.1
    have hR : kR T X := h.2.2.2
    have hX := h.2.2.1
    have hW := kL0_W h.1
    have hcc : cc + 10 ≤ 240 := by omega
    have hcc0 : cc ≤ 240 := by omega
    have hdd : dd ≤ 1900 := by omega
    have hccr : cc + 10 * X.inp.length ≤ 240 := by omega
    have hbx : X.now.bx.length ≤ 230 := by
      obtain ⟨c', W, q1, q2, q3, q4, q5⟩ := v_ok_card hok
      have h1 := v_all_len X.now
      omega
    have hw64 : 64000 ≤ w := by omega
    have hw40 : 40000 ≤ w := by omega
    have hw20 : 20000 ≤ w := by omega
    have hw17 : 17000 ≤ w := by omega
    have hw3 : 3000 ≤ w := by omega
    have hwr : 20000 + 47000 * X.inp.length ≤ w := by omega
    have k0 : (0 : Int32) = 0 ∨ (0 : Int32) = 1 := Or.inl rfl
    have k1 : (1 : Int32) = 0 ∨ (1 : Int32) = 1 := Or.inr rfl
    have hnext : ∀ (w1 : Nat) (H1 : ka_H) (T1 : kT) (X1 : vX) (cc1 dd1 : Nat), kM Z H1 a0 n g x dq ip m ad cc1 dd1 T1 X1 X1 → cc1 + 10 * X1.inp.length ≤ 10 * k + 10 → dd1 + 60 * X1.inp.length ≤ 60 * k + 60 → X1.line.length ≤ 80 → 120000 * d + 47000 * X1.inp.length + 1000 ≤ w1 → ka_T Z (pb_L_law_1304 (pb_L_law_18 fuel) (some a0) (some x) (some m) (Int32.ofNat (5 * k))) w1 H1 (fun r _ _ => r = 1) := by
      intro w1 H1 T1 X1 cc1 dd1 g1 g2 g3 g4 g5
      unfold pb_L_law_1304
      have e : Int32.ofNat (5 * k) + 5 = Int32.ofNat (5 * (k + 1)) := k3_add (a := 5 * k) (b := 5)
      rw [e]
      exact ih (k + 1) fuel w1 H1 T1 X1 cc1 dd1 (by omega) (by omega) (by omega) g1 (by omega) (by omega) g4 g5
    have hsame : ∀ (w1 : Nat), w ≤ w1 + 20000 → ka_T Z (pb_L_law_1304 (pb_L_law_18 fuel) (some a0) (some x) (some m) (Int32.ofNat (5 * k))) w1 H (fun r _ _ => r = 1) := fun w1 hw => hnext w1 H T X cc dd h (by omega) (by omega) h6 (by omega)
    have hnx : ∀ (w1 : Nat) (H1 : ka_H) (T1 : kT) (X1 : vX), kM Z H1 a0 n g x dq ip m ad (cc + 10) (dd + 60) T1 X1 X1 → vx_like X X1 → w ≤ w1 + 64000 → ka_T Z (pb_L_law_1304 (pb_L_law_18 fuel) (some a0) (some x) (some m) (Int32.ofNat (5 * k))) w1 H1 (fun r _ _ => r = 1) := fun w1 H1 T1 X1 q1 q2 q3 => hnext w1 H1 T1 X1 _ _ q1 (by rw [q2.1]; omega) (by rw [q2.1]; omega) (by rw [q2.2]; exact h6) (by rw [q2.1]; omega)
    have hny : ∀ (w1 : Nat) (H1 : ka_H) (T1 : kT) (X1 : vX), kM Z H1 a0 n g x dq ip m ad cc dd T1 X1 X1 → vx_like X X1 → w ≤ w1 + 64000 → ka_T Z (pb_L_law_1304 (pb_L_law_18 fuel) (some a0) (some x) (some m) (Int32.ofNat (5 * k))) w1 H1 (fun r _ _ => r = 1) := fun w1 H1 T1 X1 q1 q2 q3 => hnext w1 H1 T1 X1 _ _ q1 (by rw [q2.1]; omega) (by rw [q2.1]; omega) (by rw [q2.2]; exact h6) (by rw [q2.1]; omega)
    unfold pb_L_law_18
    refine kl_len h ?_
    by_cases hlt : n < 5 * k + 5
    · exact ka_ifP ((kl_lt ⟨n, by omega⟩ ⟨5 * k, by omega⟩).mpr hlt) (ka_ret rfl (ka_pure rfl))
    refine ka_ifN (fun z => hlt ((kl_lt ⟨n, by omega⟩ ⟨5 * k, by omega⟩).mp z)) (kl_ld0 h (by omega) (by omega) ?_)
    have hn1 : 5 * k + 1 < n := by omega
    have hn2 : 5 * k + 2 < n := by omega
    have hn3 : 5 * k + 3 < n := by omega
    have hn4 : 5 * k + 4 < n := by omega
    have hn9 : n ≤ 1000 := by omega
    refine ka_tswA rfl (fun i P hP => ?_) (hsame w (by omega))
    have hi := ke_get_lt hP
    simp only [List.length_cons, List.length_nil] at hi
    have h36 : i = 0 ∨ i = 1 ∨ i = 2 ∨ i = 3 ∨ i = 4 ∨ i = 5 ∨ i = 6 ∨ i = 7 ∨ i = 8 ∨ i = 9 ∨ i = 10 ∨ i = 11 ∨ i = 12 ∨ i = 13 ∨ i = 14 ∨ i = 15 ∨ i = 16 ∨ i = 17 ∨ i = 18 ∨ i = 19 ∨ i = 20 ∨ i = 21 ∨ i = 22 ∨ i = 23 ∨ i = 24 ∨ i = 25 ∨ i = 26 ∨ i = 27 ∨ i = 28 ∨ i = 29 ∨ i = 30 ∨ i = 31 ∨ i = 32 ∨ i = 33 ∨ i = 34 ∨ i = 35 := by omega
    rcases h36 with e | e | e | e | e | e | e | e | e | e | e | e | e | e | e | e | e | e | e | e | e | e | e | e | e | e | e | e | e | e | e | e | e | e | e | e <;> subst e <;> cases hP
    · refine kl_ld (c := 1) h hn1 hn9 ?_
      refine kl_cls (p := vx_stones X (g (5 * k + 1))) h (kx_stones hE hX hcc hw64) (fun w1 H1 hw1 h1 => ?_)
      refine kl_ld (c := 1) h1 hn1 hn9 ?_
      exact kl_tw (p := vx_stones X (g (5 * k + 1))) h1 (kt_stones hs hR hz) (fun T2 H2 h2 => ka_ifP rfl (hnx _ _ _ _ h2 vx_like_stones hw1))
    · refine kl_ld (c := 1) h hn1 hn9 ?_
      refine kl_cls (p := vx_carver X (g (5 * k + 1))) h (kx_carver hE hX hcc hw64) (fun w1 H1 hw1 h1 => ?_)
      refine kl_ld (c := 1) h1 hn1 hn9 ?_
      exact kl_tw (p := vx_carver X (g (5 * k + 1))) h1 (kt_carver hs hR hz hok) (fun T2 H2 h2 => ka_ifP rfl (hnx _ _ _ _ h2 vx_like_carver hw1))
    · refine kl_ld (c := 1) h hn1 hn9 ?_
      refine kl_cls (p := vx_lens X (g (5 * k + 1))) h (kx_lens hE hX hcc hw64) (fun w1 H1 hw1 h1 => ?_)
      refine kl_ld (c := 1) h1 hn1 hn9 ?_
      exact kl_tw (p := vx_lens X (g (5 * k + 1))) h1 (kt_lens hs hR hz) (fun T2 H2 h2 => ka_ifP rfl (hnx _ _ _ _ h2 vx_like_lens hw1))
    · refine kl_ld (c := 1) h hn1 hn9 ?_
      refine kl_ld (c := 2) h hn2 hn9 ?_
      refine kl_cls (p := vx_give X (g (5 * k + 1)) (g (5 * k + 2))) h (kx_give hE hX hcc hw64) (fun w1 H1 hw1 h1 => ?_)
      refine kl_ld (c := 1) h1 hn1 hn9 ?_
      refine kl_ld (c := 2) h1 hn2 hn9 ?_
      exact kl_tw (p := vx_give X (g (5 * k + 1)) (g (5 * k + 2))) h1 (kt_give hs hR hz hok) (fun T2 H2 h2 => ka_ifP rfl (hnx _ _ _ _ h2 vx_like_give hw1))
    · refine kl_ld (c := 1) h hn1 hn9 ?_
      refine kl_ld (c := 2) h hn2 hn9 ?_
      by_cases hb : g (5 * k + 2) = 0
      · refine ka_ifP hb ?_
        unfold pb_L_law_313
        refine kl_ld (c := 3) h hn3 hn9 ?_
        refine kl_cls (p := vx_carve X (g (5 * k + 1)) 0 (g (5 * k + 3))) h (kx_carve k0 hE hX hcc hw64) (fun w1 H1 hw1 h1 => ?_)
        refine kl_ld (c := 1) h1 hn1 hn9 ?_
        refine kl_ld (c := 2) h1 hn2 hn9 ?_
        refine ka_ifP hb ?_
        unfold pb_L_law_340
        refine kl_ld (c := 3) h1 hn3 hn9 ?_
        exact kl_tw (p := vx_carve X (g (5 * k + 1)) 0 (g (5 * k + 3))) h1 (kt_carve hs hR hz k0 hbx) (fun T2 H2 h2 => ka_ifP rfl (hnx _ _ _ _ h2 vx_like_carve hw1))
      · refine ka_ifN hb ?_
        unfold pb_L_law_313
        refine kl_ld (c := 3) h hn3 hn9 ?_
        refine kl_cls (p := vx_carve X (g (5 * k + 1)) 1 (g (5 * k + 3))) h (kx_carve k1 hE hX hcc hw64) (fun w1 H1 hw1 h1 => ?_)
        refine kl_ld (c := 1) h1 hn1 hn9 ?_
        refine kl_ld (c := 2) h1 hn2 hn9 ?_
        refine ka_ifN hb ?_
        unfold pb_L_law_340
        refine kl_ld (c := 3) h1 hn3 hn9 ?_
        exact kl_tw (p := vx_carve X (g (5 * k + 1)) 1 (g (5 * k + 3))) h1 (kt_carve hs hR hz k1 hbx) (fun T2 H2 h2 => ka_ifP rfl (hnx _ _ _ _ h2 vx_like_carve hw1))
    · refine kl_ld (c := 1) h hn1 hn9 ?_
      refine kl_ld (c := 2) h hn2 hn9 ?_
      refine kl_cls (p := vx_begin X (g (5 * k + 1)) (g (5 * k + 2))) h (kx_begin hE hX hcc hw64) (fun w1 H1 hw1 h1 => ?_)
      refine kl_ld (c := 1) h1 hn1 hn9 ?_
      refine kl_ld (c := 2) h1 hn2 hn9 ?_
      exact kl_tw (p := vx_begin X (g (5 * k + 1)) (g (5 * k + 2))) h1 (kt_begin hs hR hz) (fun T2 H2 h2 => ka_ifP rfl (hnx _ _ _ _ h2 vx_like_begin hw1))
    · refine kl_ld (c := 1) h hn1 hn9 ?_
      refine kl_cls (p := vx_thread X (g (5 * k + 1))) h (kx_thread hE hX hcc hw64) (fun w1 H1 hw1 h1 => ?_)
      refine kl_ld (c := 1) h1 hn1 hn9 ?_
      exact kl_tw (p := vx_thread X (g (5 * k + 1))) h1 (kt_thread hs hR hz hok hcc0) (fun T2 H2 h2 => ka_ifP rfl (hnx _ _ _ _ h2 vx_like_thread hw1))
    · refine kl_ld (c := 1) h hn1 hn9 ?_
      refine kl_cls (p := vx_knot X (g (5 * k + 1))) h (kx_knot hE hX hcc hw64) (fun w1 H1 hw1 h1 => ?_)
      refine kl_ld (c := 1) h1 hn1 hn9 ?_
      exact kl_tw (p := vx_knot X (g (5 * k + 1))) h1 (kt_knot hs hR hz hok hcc0) (fun T2 H2 h2 => ka_ifP rfl (hnx _ _ _ _ h2 vx_like_knot hw1))
    · refine kl_ld (c := 1) h hn1 hn9 ?_
      refine kl_cls (p := vx_drop X (g (5 * k + 1))) h (kx_drop hE hX hcc hw64) (fun w1 H1 hw1 h1 => ?_)
      refine kl_ld (c := 1) h1 hn1 hn9 ?_
      exact kl_tw (p := vx_drop X (g (5 * k + 1))) h1 (kt_drop hs hR hz hok hcc0) (fun T2 H2 h2 => ka_ifP rfl (hnx _ _ _ _ h2 vx_like_drop hw1))
    · refine kl_ld (c := 1) h hn1 hn9 ?_
      refine kl_ld (c := 2) h hn2 hn9 ?_
      refine kl_ld (c := 3) h hn3 hn9 ?_
      refine kl_ld (c := 4) h hn4 hn9 ?_
      refine kl_cls (p := vx_pilgrim X (g (5 * k + 1)) (g (5 * k + 2)) (g (5 * k + 3)) (g (5 * k + 4))) h (kx_pilgrim hE hX hcc hw64) (fun w1 H1 hw1 h1 => ?_)
      refine kl_ld (c := 1) h1 hn1 hn9 ?_
      refine kl_ld (c := 2) h1 hn2 hn9 ?_
      refine kl_ld (c := 3) h1 hn3 hn9 ?_
      refine kl_ld (c := 4) h1 hn4 hn9 ?_
      exact kl_tw (p := vx_pilgrim X (g (5 * k + 1)) (g (5 * k + 2)) (g (5 * k + 3)) (g (5 * k + 4))) h1 (kt_pilgrim hs hR hz hok hdd) (fun T2 H2 h2 => ka_ifP rfl (hnx _ _ _ _ h2 vx_like_pilgrim hw1))
    · refine kl_cls (p := vx_mend X ) h (kx_mend hE hX hcc hw64) (fun w1 H1 hw1 h1 => ?_)
      exact kl_tw (p := vx_mend X ) h1 (kt_mend hs hR hz hok hcc0) (fun T2 H2 h2 => ka_ifP rfl (hnx _ _ _ _ h2 vx_like_mend hw1))
    · refine kl_ld (c := 1) h hn1 hn9 ?_
      refine kl_cls (p := vx_pass X (g (5 * k + 1))) h (kx_pass hE hX hcc hw64) (fun w1 H1 hw1 h1 => ?_)
      refine kl_ld (c := 1) h1 hn1 hn9 ?_
      exact kl_tw (p := vx_pass X (g (5 * k + 1))) h1 (kt_pass hs hR hz hok hcc0) (fun T2 H2 h2 => ka_ifP rfl (hnx _ _ _ _ h2 vx_like_pass hw1))
    · refine kl_ld (c := 1) h hn1 hn9 ?_
      refine kl_ld (c := 2) h hn2 hn9 ?_
      refine kl_clsQ h (kx_carverOf hX hcc0 hw3) (fun w1 hw1 => ?_)
      refine kl_ld (c := 1) h hn1 hn9 ?_
      refine kl_ld (c := 2) h hn2 hn9 ?_
      exact kl_twQ h (kt_carverOf hs hR hz) (ka_ifP rfl (hsame _ (by omega)))
    · refine kl_ld (c := 1) h hn1 hn9 ?_
      refine kl_ld (c := 2) h hn2 hn9 ?_
      by_cases hb : g (5 * k + 2) = 0
      · refine ka_ifP hb ?_
        unfold pb_L_law_596
        refine kl_clsQ h (kx_lensOf hX hcc0 hw3) (fun w1 hw1 => ?_)
        refine kl_ld (c := 1) h hn1 hn9 ?_
        refine kl_ld (c := 2) h hn2 hn9 ?_
        refine ka_ifP hb ?_
        unfold pb_L_law_618
        exact kl_twQ h (kt_lensOf hs hR hz) (ka_ifP rfl (hsame _ (by omega)))
      · refine ka_ifN hb ?_
        unfold pb_L_law_596
        refine kl_clsQ h (kx_lensOf hX hcc0 hw3) (fun w1 hw1 => ?_)
        refine kl_ld (c := 1) h hn1 hn9 ?_
        refine kl_ld (c := 2) h hn2 hn9 ?_
        refine ka_ifN hb ?_
        unfold pb_L_law_618
        exact kl_twQ h (kt_lensOf hs hR hz) (ka_ifP rfl (hsame _ (by omega)))
    · refine kl_ld (c := 1) h hn1 hn9 ?_
      by_cases hb : g (5 * k + 1) = 0
      · refine ka_ifP hb ?_
        unfold pb_L_law_640
        refine kl_ld (c := 2) h hn2 hn9 ?_
        by_cases hb2 : g (5 * k + 2) = 0
        · refine ka_ifP hb2 ?_
          unfold pb_L_law_653
          refine kl_clsQ h (kx_box k0 hX hcc0 hw3) (fun w1 hw1 => ?_)
          refine kl_ld (c := 1) h hn1 hn9 ?_
          refine ka_ifP hb ?_
          unfold pb_L_law_670
          refine kl_ld (c := 2) h hn2 hn9 ?_
          refine ka_ifP hb2 ?_
          unfold pb_L_law_683
          exact kl_twQ h (kt_box hs hR hz k0) (ka_ifP rfl (hsame _ (by omega)))
        · refine ka_ifN hb2 ?_
          unfold pb_L_law_653
          refine kl_clsQ h (kx_box k0 hX hcc0 hw3) (fun w1 hw1 => ?_)
          refine kl_ld (c := 1) h hn1 hn9 ?_
          refine ka_ifP hb ?_
          unfold pb_L_law_670
          refine kl_ld (c := 2) h hn2 hn9 ?_
          refine ka_ifN hb2 ?_
          unfold pb_L_law_683
          exact kl_twQ h (kt_box hs hR hz k0) (ka_ifP rfl (hsame _ (by omega)))
      · refine ka_ifN hb ?_
        unfold pb_L_law_640
        refine kl_ld (c := 2) h hn2 hn9 ?_
        by_cases hb2 : g (5 * k + 2) = 0
        · refine ka_ifP hb2 ?_
          unfold pb_L_law_653
          refine kl_clsQ h (kx_box k1 hX hcc0 hw3) (fun w1 hw1 => ?_)
          refine kl_ld (c := 1) h hn1 hn9 ?_
          refine ka_ifN hb ?_
          unfold pb_L_law_670
          refine kl_ld (c := 2) h hn2 hn9 ?_
          refine ka_ifP hb2 ?_
          unfold pb_L_law_683
          exact kl_twQ h (kt_box hs hR hz k1) (ka_ifP rfl (hsame _ (by omega)))
        · refine ka_ifN hb2 ?_
          unfold pb_L_law_653
          refine kl_clsQ h (kx_box k1 hX hcc0 hw3) (fun w1 hw1 => ?_)
          refine kl_ld (c := 1) h hn1 hn9 ?_
          refine ka_ifN hb ?_
          unfold pb_L_law_670
          refine kl_ld (c := 2) h hn2 hn9 ?_
          refine ka_ifN hb2 ?_
          unfold pb_L_law_683
          exact kl_twQ h (kt_box hs hR hz k1) (ka_ifP rfl (hsame _ (by omega)))
    · refine kl_ld (c := 1) h hn1 hn9 ?_
      by_cases hb : g (5 * k + 1) = 0
      · refine ka_ifP hb ?_
        unfold pb_L_law_705
        refine kl_clsQ h (kx_finest k0 hX hcc0 hw3) (fun w1 hw1 => ?_)
        refine kl_ld (c := 1) h hn1 hn9 ?_
        refine ka_ifP hb ?_
        unfold pb_L_law_722
        exact kl_twQ h (kt_finest hs hR hz hok k0) (ka_ifP rfl (hsame _ (by omega)))
      · refine ka_ifN hb ?_
        unfold pb_L_law_705
        refine kl_clsQ h (kx_finest k1 hX hcc0 hw3) (fun w1 hw1 => ?_)
        refine kl_ld (c := 1) h hn1 hn9 ?_
        refine ka_ifN hb ?_
        unfold pb_L_law_722
        exact kl_twQ h (kt_finest hs hR hz hok k1) (ka_ifP rfl (hsame _ (by omega)))
    · refine kl_ld (c := 1) h hn1 hn9 ?_
      by_cases hb : g (5 * k + 1) = 0
      · refine ka_ifP hb ?_
        unfold pb_L_law_744
        refine kl_clsQ h (kx_finestAgain k0 hX hcc0 hw3) (fun w1 hw1 => ?_)
        refine kl_ld (c := 1) h hn1 hn9 ?_
        refine ka_ifP hb ?_
        unfold pb_L_law_761
        exact kl_twQ h (kt_finestAgain hs hR hz hok k0) (ka_ifP rfl (hsame _ (by omega)))
      · refine ka_ifN hb ?_
        unfold pb_L_law_744
        refine kl_clsQ h (kx_finestAgain k1 hX hcc0 hw3) (fun w1 hw1 => ?_)
        refine kl_ld (c := 1) h hn1 hn9 ?_
        refine ka_ifN hb ?_
        unfold pb_L_law_761
        exact kl_twQ h (kt_finestAgain hs hR hz hok k1) (ka_ifP rfl (hsame _ (by omega)))
    · refine kl_ld (c := 1) h hn1 hn9 ?_
      refine kl_ld (c := 2) h hn2 hn9 ?_
      refine kl_clsQ h (kx_stringOf hX hcc0 hw3) (fun w1 hw1 => ?_)
      refine kl_ld (c := 1) h hn1 hn9 ?_
      refine kl_ld (c := 2) h hn2 hn9 ?_
      exact kl_twQ h (kt_stringOf hs hR hz hok) (ka_ifP rfl (hsame _ (by omega)))
    · refine kl_ld (c := 1) h hn1 hn9 ?_
      refine kl_ld (c := 2) h hn2 hn9 ?_
      refine kl_ld (c := 3) h hn3 hn9 ?_
      by_cases hb : g (5 * k + 3) = 0
      · refine ka_ifP hb ?_
        unfold pb_L_law_826
        refine kl_clsQ h (kx_bead hX hcc0 hw3) (fun w1 hw1 => ?_)
        refine kl_ld (c := 1) h hn1 hn9 ?_
        refine kl_ld (c := 2) h hn2 hn9 ?_
        refine kl_ld (c := 3) h hn3 hn9 ?_
        refine ka_ifP hb ?_
        unfold pb_L_law_853
        exact kl_twQ h (kt_bead hs hR hz) (ka_ifP rfl (hsame _ (by omega)))
      · refine ka_ifN hb ?_
        unfold pb_L_law_826
        refine kl_clsQ h (kx_bead hX hcc0 hw3) (fun w1 hw1 => ?_)
        refine kl_ld (c := 1) h hn1 hn9 ?_
        refine kl_ld (c := 2) h hn2 hn9 ?_
        refine kl_ld (c := 3) h hn3 hn9 ?_
        refine ka_ifN hb ?_
        unfold pb_L_law_853
        exact kl_twQ h (kt_bead hs hR hz) (ka_ifP rfl (hsame _ (by omega)))
    · refine kl_ld (c := 1) h hn1 hn9 ?_
      refine kl_ld (c := 2) h hn2 hn9 ?_
      refine kl_clsQ h (kx_pilgrimOf hX hcc0 hw3) (fun w1 hw1 => ?_)
      refine kl_ld (c := 1) h hn1 hn9 ?_
      refine kl_ld (c := 2) h hn2 hn9 ?_
      exact kl_twQ h (kt_pilgrimOf hs hR hz) (ka_ifP rfl (hsame _ (by omega)))
    · refine kl_ld (c := 1) h hn1 hn9 ?_
      by_cases hb : g (5 * k + 1) = 0
      · refine ka_ifP hb ?_
        unfold pb_L_law_908
        refine kl_ld (c := 2) h hn2 hn9 ?_
        refine kl_ld (c := 3) h hn3 hn9 ?_
        refine kl_clsQ h (kx_soldOf hX hcc0 hw3) (fun w1 hw1 => ?_)
        refine kl_ld (c := 1) h hn1 hn9 ?_
        refine ka_ifP hb ?_
        unfold pb_L_law_935
        refine kl_ld (c := 2) h hn2 hn9 ?_
        refine kl_ld (c := 3) h hn3 hn9 ?_
        exact kl_twQ h (kt_soldOf hs hR hz hok) (ka_ifP rfl (hsame _ (by omega)))
      · refine ka_ifN hb ?_
        unfold pb_L_law_908
        refine kl_ld (c := 2) h hn2 hn9 ?_
        refine kl_ld (c := 3) h hn3 hn9 ?_
        refine kl_clsQ h (kx_soldOf hX hcc0 hw3) (fun w1 hw1 => ?_)
        refine kl_ld (c := 1) h hn1 hn9 ?_
        refine ka_ifN hb ?_
        unfold pb_L_law_935
        refine kl_ld (c := 2) h hn2 hn9 ?_
        refine kl_ld (c := 3) h hn3 hn9 ?_
        exact kl_twQ h (kt_soldOf hs hR hz hok) (ka_ifP rfl (hsame _ (by omega)))
    · refine kl_ld (c := 1) h hn1 hn9 ?_
      refine kl_ld (c := 2) h hn2 hn9 ?_
      refine kl_clsQ h (kx_could hX hcc0 hw3) (fun w1 hw1 => ?_)
      refine kl_ld (c := 1) h hn1 hn9 ?_
      refine kl_ld (c := 2) h hn2 hn9 ?_
      exact kl_twQ h (kt_could hs hR hz) (ka_ifP rfl (hsame _ (by omega)))
    · refine kl_clsQ h (kx_nextBack hX hcc0 hw3) (fun w1 hw1 => ?_)
      exact kl_twQ h (kt_nextBack hs hR hz) (ka_ifP rfl (hsame _ (by omega)))
    · refine kl_clsQ h (kx_isCounted hX hcc0 hw20) (fun w1 hw1 => ?_)
      exact kl_twQ h (kt_isCounted hs hR hz hok) (ka_ifP rfl (hsame _ (by omega)))
    · refine kl_clsQ h (kx_mean hX hcc0 hw3) (fun w1 hw1 => ?_)
      refine kl_twQ h (kt_mean hs hR hz hok) ?_
      by_cases hc : (Op.cmpValue (FP.dcmp (vq_mean X) (vq_mean X)) .l) = 0
      · exact ka_ifP hc (hsame _ (by omega))
      · exact ka_ifN hc (ka_ifN hc (ka_ifP hc (hsame _ (by omega))))
    · refine kl_clsQ h (kx_spoilt hX hcc0 hw3) (fun w1 hw1 => ?_)
      refine ka_f2d kf_spoilt (kl_twQ h (kt_spoilt hs hR) (ka_f2d kf_spoilt ?_))
      by_cases hc : (Op.cmpValue (FP.dcmp (FP.f2d (vq_spoilt X)) (FP.f2d (vq_spoilt X))) .l) = 0
      · exact ka_ifP hc (hsame _ (by omega))
      · exact ka_ifN hc (ka_ifN hc (ka_ifP hc (hsame _ (by omega))))
    · refine kl_ld (c := 1) h hn1 hn9 ?_
      refine kl_clsQ h (kx_account hX hcc0 hw3) (fun w1 hw1 => ?_)
      refine kl_ld (c := 1) h hn1 hn9 ?_
      exact kl_twQ h (kt_account hs hR hz) (ka_ifP rfl (hsame _ (by omega)))
    · refine kl_ld (c := 1) h hn1 hn9 ?_
      refine kl_cls (p := vx_write X (g (5 * k + 1))) h (kx_write hD hT hX hcc0 hw40) (fun w1 H1 hw1 h1 => ?_)
      refine kl_ld (c := 1) h1 hn1 hn9 ?_
      have hwl := vx_write_len (s := (g (5 * k + 1))) hok h6
      exact kl_tw (p := vx_write X (g (5 * k + 1))) h1 (kt_write hs hT hR hz hok) (fun T2 H2 h2 => ka_ifP rfl (hnext _ _ _ _ _ _ h2 (by rw [hwl.1]; omega) (by rw [hwl.1]; omega) hwl.2 (by rw [hwl.1]; omega)))
    · refine kl_ld (c := 1) h hn1 hn9 ?_
      refine kl_clsQ h (kx_written hX) (fun w1 hw1 => ?_)
      refine kl_ld (c := 1) h hn1 hn9 ?_
      exact kl_twQ h (kt_written hs hR h6) (ka_ifP rfl (hsame _ (by omega)))
    · refine kl_ld (c := 1) h hn1 hn9 ?_
      refine kl_cls (p := vx_append X (((g (5 * k + 1)).toUInt32 % 65536).toInt32)) h (kx_append hX) (fun w1 H1 hw1 h1 => ?_)
      refine kl_ld (c := 1) h1 hn1 hn9 ?_
      have hal := vx_append_len (X := X) (c := ((g (5 * k + 1)).toUInt32 % 65536).toInt32)
      exact kl_tw (p := vx_append X (((g (5 * k + 1)).toUInt32 % 65536).toInt32)) h1 (kt_append hs hR hinp) (fun T2 H2 h2 => ka_ifP rfl (hnext _ _ _ _ _ _ h2 (by omega) (by omega) (by rw [hal.2]; exact h6) (by omega)))
    · refine kl_cls (p := vx_read X) h (kx_read hE hK hX hccr hwr) (fun w1 H1 hw1 h1 => ?_)
      have hrl := vx_read_inp (X := X)
      exact kl_tw (p := vx_read X) h1 (kt_read hs (kL0_W h1.1) hTw hR hz hok hccr hinp) (fun T2 H2 h2 => ka_ifP rfl (hnext _ _ _ _ _ _ h2 (by rw [hrl.1]; simp only [List.length_nil]; omega) (by rw [hrl.1]; simp only [List.length_nil]; omega) (by rw [hrl.2]; exact h6) (by rw [hrl.1]; simp only [List.length_nil]; omega)))
    · refine kl_clsQ h (kx_fault hX) (fun w1 hw1 => ?_)
      exact kl_twQ h (kt_fault hR) (ka_ifP rfl (hsame _ (by omega)))
    · refine kl_ld (c := 1) h hn1 hn9 ?_
      refine kl_ld (c := 2) h hn2 hn9 ?_
      by_cases hb : g (5 * k + 2) = 0
      · refine ka_ifP hb ?_
        unfold pb_L_law_1235
        refine kl_clsQ h (kx_reason hX) (fun w1 hw1 => ?_)
        refine kl_ld (c := 1) h hn1 hn9 ?_
        refine kl_ld (c := 2) h hn2 hn9 ?_
        refine ka_ifP hb ?_
        unfold pb_L_law_1257
        exact kl_twQ h (kt_reason hs hR) (ka_ifP rfl (hsame _ (by omega)))
      · refine ka_ifN hb ?_
        unfold pb_L_law_1235
        refine kl_clsQ h (kx_reason hX) (fun w1 hw1 => ?_)
        refine kl_ld (c := 1) h hn1 hn9 ?_
        refine kl_ld (c := 2) h hn2 hn9 ?_
        refine ka_ifN hb ?_
        unfold pb_L_law_1257
        exact kl_twQ h (kt_reason hs hR) (ka_ifP rfl (hsame _ (by omega)))
    · refine kl_cls (p := vx_undo X) h (kx_undo hX) (fun w1 H1 hw1 h1 => ?_)
      exact kl_tw (p := vx_undo X) h1 (kt_undo hs hR hz) (fun T2 H2 h2 => ka_ifP rfl (hny _ _ _ _ h2 vx_like_undo (by omega)))
    · refine kl_cls (p := vx_save X) h (kx_save hE hX hcc0 hw17) (fun w1 H1 hw1 h1 => ?_)
      exact kl_tw (p := vx_save X) h1 (kt_save hs hR hz) (fun T2 H2 h2 => ka_ifP rfl (hny _ _ _ _ h2 vx_like_save (by omega)))
    · refine kl_cls (p := vx_restore X) h (kx_restore hE hX hcc0 hw17) (fun w1 H1 hw1 h1 => ?_)
      exact kl_tw (p := vx_restore X) h1 (kt_restore hs hR hz) (fun T2 H2 h2 => ka_ifP rfl (hny _ _ _ _ h2 vx_like_restore (by omega)))
end KTZS
