set_option maxRecDepth 100000
/-! ===== the class's changes, one by one ===== -/
abbrev vx_do (X : vX) (res : vR) : Int32 × vX := (vx_ans res, vx_done X res)
abbrev vx_isC (X : vX) (v : Int32) : Int32 := v_in v 0 (Int32.ofNat X.now.cs.length - 1)
abbrev vx_isL (X : vX) (v : Int32) : Int32 := v_in v 0 (Int32.ofNat X.now.ls.length - 1)
abbrev vx_isS (X : vX) (v : Int32) : Int32 := v_in v 0 (Int32.ofNat X.now.st.length - 1)
def vx_stones (X : vX) (n : Int32) : Int32 × vX := if v_in n 1 200 = 1 then vx_do X (.inr (v_brings X.now n)) else (-2, X)
def vx_carver (X : vX) (n : Int32) : Int32 × vX := if v_in n 1 9 = 1 then vx_do X (v_addC X.now n) else (-2, X)
def vx_lens (X : vX) (n : Int32) : Int32 × vX := if v_in n 1 9 = 1 then vx_do X (v_addL X.now n) else (-2, X)
def vx_give (X : vX) (l c : Int32) : Int32 × vX := if vx_isL X l = 1 ∧ (c = -1 ∨ vx_isC X c = 1) then vx_do X (.inr (v_gives X.now l.toNatClampNeg c)) else (-1, X)
def vx_carve (X : vX) (c k m : Int32) : Int32 × vX := if vx_isC X c = 1 then (if v_in m 1 10 = 1 then vx_do X (v_carves X.now c.toNatClampNeg k m.toNatClampNeg) else (-2, X)) else (-1, X)
def vx_begin (X : vX) (g m : Int32) : Int32 × vX := if v_pat g m = 1 then vx_do X (v_begins X.now g m) else (-2, X)
def vx_thread (X : vX) (s : Int32) : Int32 × vX := if vx_isS X s = 1 then vx_do X (v_thread X.now s.toNatClampNeg) else (-1, X)
def vx_knot (X : vX) (s : Int32) : Int32 × vX := if vx_isS X s = 1 then vx_do X (v_ties X.now s.toNatClampNeg) else (-1, X)
def vx_drop (X : vX) (s : Int32) : Int32 × vX := if vx_isS X s = 1 then vx_do X (.inr (v_drops X.now s.toNatClampNeg)) else (-1, X)
def vx_pilgrim (X : vX) (d g f c : Int32) : Int32 × vX := if v_in d 1 60 = 1 ∧ v_in g 1 4 = 1 ∧ v_in f 0 9 = 1 ∧ v_in c 1 99 = 1 then vx_do X (v_tells X.now d g f c) else (-2, X)
def vx_mend (X : vX) : Int32 × vX := vx_do X (v_mends X.now)
def vx_pass (X : vX) (d : Int32) : Int32 × vX := if v_in d 1 60 = 1 then vx_do X (.inr (v_passes d.toNatClampNeg 0 X.now)) else (-2, X)
theorem v_in_no {v lo hi : Int32} (h : ¬ v_in v lo hi = 1) : v_in v lo hi = 0 := v_in_01.resolve_right h
theorem v_res_mono {cc dd cc' dd' : Nat} {q : vR} (h : v_res cc dd q) (h1 : cc ≤ cc') (h2 : dd ≤ dd') : v_res cc' dd' q := by
  cases q with
  | inl ch => exact h
  | inr p => exact v_ok_mono h h1 h2
theorem v_pat_01 {g m : Int32} : v_pat g m = 0 ∨ v_pat g m = 1 := by
  unfold v_pat
  split
  · exact Or.inl rfl
  · exact v_in_01
theorem v_pat_nat {g m : Int32} (h : v_pat g m = 1) : ∃ a b, g = Int32.ofNat a ∧ m = Int32.ofNat b ∧ 1 ≤ a ∧ a ≤ 4 ∧ 1 ≤ b ∧ b ≤ 6 := by
  unfold v_pat at h
  split at h
  · exact absurd h (by decide)
  · next h1 =>
    obtain ⟨a, e1, e2, e3⟩ := v_in_nat (a := 1) (b := 4) (by omega) (by omega) (v_in_01.resolve_left h1)
    obtain ⟨b, f1, f2, f3⟩ := v_in_nat (a := 1) (b := 6) (by omega) (by omega) h
    exact ⟨a, b, e1, f1, e2, e3, f2, f3⟩
/-- box and a string together are no more than were carved -/
theorem kx_cnt {A : kAp} {cc dd i : Nat} (h : v_ok cc dd A.V) (hi : i < A.st.length) : A.bx.length + (A.st[i]).bs.length ≤ cc := by
  obtain ⟨c, W, q1, q2, q3, q4, -⟩ := v_ok_card h
  have h1 := v_all_len A.V
  have hm : (A.st[i]).V ∈ A.V.st := List.mem_map_of_mem (List.getElem_mem hi)
  have h2 := (ks_sub_fm (f := vS.bs) hm).length_le
  have h3 : (A.st[i]).V.bs.length = (A.st[i]).bs.length := List.length_map ..
  have h4 := kvl_bx A
  have h5 : (A.V.st.flatMap vS.bs).length = (A.V.st.flatMap (·.bs)).length := rfl
  omega
section KXG
variable {Z : ka_Z} {w : Nat} {H : ka_H} {x dq ip cc dd : Nat} {X : vX}
theorem kx_make {c n : Nat} {kz fs : List Value} {res : vR} {I : Option Nat → km_M Unit} (hE : ka_E0 Z) (hX : kX H x dq ip cc dd X) (hcc : cc + 10 ≤ 240) (hc : kx_tb.lookup c = some 0) (hchg : ka_chg c = false) (hn : n ≤ 20)
    (hI : ∀ (D : Nat) (w : Nat), H D = none → ka_T Z (I (some D)) w (ka_up H D (ka_ob c kz)) (fun _ w' H' => w' = w ∧ H' = ka_up H D (ka_ob c (.ref x :: fs))))
    (hdo : ∀ (D s : Nat) (ad : Nat → Nat) (A : kAp) (w : Nat) (H1 : ka_H), kc_mut (ka_up H D (ka_ob c (.ref x :: fs))) H1 s ad A → H1 D = some (ka_ob c (.ref x :: fs)) → A.V = X.now → v_ok cc dd A.V → 47000 ≤ w → ka_T Z (km_sel c (kx_does D s)) w H1 (kq_R (ka_up H D (ka_ob c (.ref x :: fs))) s ad w 47000 res))
    (hres : v_res (cc + 10) (dd + 60) res) (hw : 64000 ≤ w) :
    ka_T Z (km_bind (km_new c n kz) fun r => km_bind (km_nn r) fun _ => km_bind (I r) fun _ => km_bind (km_is c r) fun _ => km_bind (pm_X4_done r) fun i => km_pure i) w H (kx_Q H x dq ip (cc + 10) (dd + 60) w 64000 (vx_do X res).1 (vx_do X res).2) := by
  refine ka_new (by omega) (fun D hD => ?_)
  refine ka_nn (ka_call (hI D _ hD) (fun _ v K hp => ?_))
  obtain ⟨rfl, rfl⟩ := hp
  refine ka_post (kx_deed (cc' := cc + 10) (dd' := dd + 60) hE hX (by omega) (by omega) (by omega) hD hc hchg (hdo D) hres (by omega)) (fun r w' H' hp => ?_)
  exact ⟨by have := hp.1; omega, hp.2⟩

theorem kx_stones {n : Int32} (hE : ka_E0 Z) (hX : kX H x dq ip cc dd X) (hcc : cc + 10 ≤ 240) (hw : 64000 ≤ w) : ka_T Z (pm_X0_stones (some x) n) w H (kx_Q H x dq ip (cc + 10) (dd + 60) w 64000 (vx_stones X n).1 (vx_stones X n).2) := by
  obtain ⟨nowW, befW, savW, rfW, lnW, fW, hX'⟩ := id hX
  have hok : v_ok cc dd X.now := by
    have := hX'.2.2.2.1.2.2
    rw [hX'.2.2.2.2.2.2.2.2.2.2.2.1] at this
    exact this
  unfold pm_X0_stones vx_stones
  refine ka_use kx_in ?_
  by_cases h : v_in n 1 200 = 1
  · rw [if_pos h]
    refine ka_ifP (by rw [h]; decide) ?_
    refine kx_make (fs := [.int n, .ref x]) hE hX hcc rfl rfl (Nat.le_of_ble_eq_true rfl) ?_ ?_ ?_ hw
    · intro D w hD
      unfold pm_X5_init
      refine ka_pR ka_same rfl (Nat.le_of_ble_eq_true rfl) ?_
      rw [ka_up_up]
      refine ka_pI ka_same rfl rfl (Nat.le_of_ble_eq_true rfl) ?_
      rw [ka_up_up]
      refine ka_nn (ka_call (kx_init4 ka_same rfl) (fun _ w' H' hp => ?_))
      obtain ⟨rfl, rfl⟩ := hp
      refine ka_pure ⟨rfl, ?_⟩
      rw [ka_up_up]
      rfl
    · intro D s ad A w H1 hM hD1 hV hok hC
      show ka_T Z (pm_X5_does (some D) (some s)) w H1 _
      unfold pm_X5_does
      refine ka_gI (by first | exact ka_same | assumption | exact ka_ne1 (by first | assumption | exact Ne.symm (by assumption)) (by first | exact ka_same | assumption | exact ka_ne1 (by first | assumption | exact Ne.symm (by assumption)) (by first | exact ka_same | assumption | exact ka_ne1 (by first | assumption | exact Ne.symm (by assumption)) (by first | exact ka_same | assumption | exact ka_ne1 (by first | assumption | exact Ne.symm (by assumption)) (by first | exact ka_same | assumption | exact ka_ne1 (by first | assumption | exact Ne.symm (by assumption)) (by first | exact ka_same | assumption | exact ka_ne1 (by first | assumption | exact Ne.symm (by assumption)) (by first | exact ka_same | assumption))))))) rfl rfl ?_
      refine ka_is (kg_s hM.2.1) rfl (kq_cost (kq_VR ?_) (Nat.zero_le _))
      rw [← hV]
      exact ko_brings hM
    · exact v_ok_mono (vk_brings hok) (by omega) (by omega)
  · rw [if_neg h]
    exact ka_ifN (by rw [v_in_no h]; simp) (ka_pure (kx_same (kX_mono hX (Nat.le_add_right _ _) (Nat.le_add_right _ _)) (by omega)))

theorem kx_carver {n : Int32} (hE : ka_E0 Z) (hX : kX H x dq ip cc dd X) (hcc : cc + 10 ≤ 240) (hw : 64000 ≤ w) : ka_T Z (pm_X0_carver (some x) n) w H (kx_Q H x dq ip (cc + 10) (dd + 60) w 64000 (vx_carver X n).1 (vx_carver X n).2) := by
  obtain ⟨nowW, befW, savW, rfW, lnW, fW, hX'⟩ := id hX
  have hok : v_ok cc dd X.now := by
    have := hX'.2.2.2.1.2.2
    rw [hX'.2.2.2.2.2.2.2.2.2.2.2.1] at this
    exact this
  unfold pm_X0_carver vx_carver
  refine ka_use kx_in ?_
  by_cases h : v_in n 1 9 = 1
  · rw [if_pos h]
    refine ka_ifP (by rw [h]; decide) ?_
    refine kx_make (fs := [.int n, .ref x]) hE hX hcc rfl rfl (Nat.le_of_ble_eq_true rfl) ?_ ?_ ?_ hw
    · intro D w hD
      unfold pm_X17_init
      refine ka_pR ka_same rfl (Nat.le_of_ble_eq_true rfl) ?_
      rw [ka_up_up]
      refine ka_pI ka_same rfl rfl (Nat.le_of_ble_eq_true rfl) ?_
      rw [ka_up_up]
      refine ka_nn (ka_call (kx_init4 ka_same rfl) (fun _ w' H' hp => ?_))
      obtain ⟨rfl, rfl⟩ := hp
      refine ka_pure ⟨rfl, ?_⟩
      rw [ka_up_up]
      rfl
    · intro D s ad A w H1 hM hD1 hV hok hC
      show ka_T Z (pm_X17_does (some D) (some s)) w H1 _
      unfold pm_X17_does
      refine ka_new (by omega) (fun a ha => ?_)
      have hDa : D ≠ a := ka_dom hD1 ha
      refine ka_gI ((ka_ne hDa).trans hD1) rfl rfl ?_
      refine ka_nn (ka_call (P := fun _ w' H' => w' = w - (4 + 5) ∧ H' = ka_up H1 a (kc_C (a, n, 0, 0, 0))) ?_ (fun _ v K hp => ?_))
      · unfold pm_X6_init_2
        refine ka_nn ?_
        refine ka_pI ka_same rfl rfl (Nat.le_of_ble_eq_true rfl) ?_
        refine ka_pure ⟨rfl, ?_⟩
        rw [ka_up_up]
        rfl
      · obtain ⟨rfl, rfl⟩ := hp
        have hM1 := ku_new (o := kc_C (a, n, 0, 0, 0)) hM ha
        obtain ⟨⟨c1, c2, c3, c4, c5, c6, c7⟩, -⟩ := kh_ok hok (by omega)
        refine ka_is (kg_s hM1.2.1) rfl (ka_post (kq_RR (ko_addC hM1 ka_same (kc_fresh hM ha) (ku_notin hM.2.1 ha).1 c1 (by omega))) (fun r w' H' hp => ?_))
        rw [← hV]
        exact ⟨by have := hp.1; omega, hp.2⟩
    · exact (by have := vk_addC (e := n) hok; revert this; unfold v_addC; split <;> intro this; exact this; exact v_ok_mono this (by omega) (by omega))
  · rw [if_neg h]
    exact ka_ifN (by rw [v_in_no h]; simp) (ka_pure (kx_same (kX_mono hX (Nat.le_add_right _ _) (Nat.le_add_right _ _)) (by omega)))

theorem kx_lens {n : Int32} (hE : ka_E0 Z) (hX : kX H x dq ip cc dd X) (hcc : cc + 10 ≤ 240) (hw : 64000 ≤ w) : ka_T Z (pm_X0_lens (some x) n) w H (kx_Q H x dq ip (cc + 10) (dd + 60) w 64000 (vx_lens X n).1 (vx_lens X n).2) := by
  obtain ⟨nowW, befW, savW, rfW, lnW, fW, hX'⟩ := id hX
  have hok : v_ok cc dd X.now := by
    have := hX'.2.2.2.1.2.2
    rw [hX'.2.2.2.2.2.2.2.2.2.2.2.1] at this
    exact this
  unfold pm_X0_lens vx_lens
  refine ka_use kx_in ?_
  by_cases h : v_in n 1 9 = 1
  · rw [if_pos h]
    refine ka_ifP (by rw [h]; decide) ?_
    refine kx_make (fs := [.int n, .ref x]) hE hX hcc rfl rfl (Nat.le_of_ble_eq_true rfl) ?_ ?_ ?_ hw
    · intro D w hD
      unfold pm_X18_init
      refine ka_pR ka_same rfl (Nat.le_of_ble_eq_true rfl) ?_
      rw [ka_up_up]
      refine ka_pI ka_same rfl rfl (Nat.le_of_ble_eq_true rfl) ?_
      rw [ka_up_up]
      refine ka_nn (ka_call (kx_init4 ka_same rfl) (fun _ w' H' hp => ?_))
      obtain ⟨rfl, rfl⟩ := hp
      refine ka_pure ⟨rfl, ?_⟩
      rw [ka_up_up]
      rfl
    · intro D s ad A w H1 hM hD1 hV hok hC
      show ka_T Z (pm_X18_does (some D) (some s)) w H1 _
      unfold pm_X18_does
      refine ka_new (by omega) (fun a ha => ?_)
      have hDa : D ≠ a := ka_dom hD1 ha
      refine ka_gI ((ka_ne hDa).trans hD1) rfl rfl ?_
      refine ka_nn (ka_call (P := fun _ w' H' => w' = w - (2 + 5) ∧ H' = ka_up H1 a (kc_L (a, n, -1))) ?_ (fun _ v K hp => ?_))
      · unfold pm_X7_init_2
        refine ka_nn ?_
        refine ka_pI ka_same rfl rfl (Nat.le_of_ble_eq_true rfl) ?_
        refine ka_pI ka_same rfl rfl (Nat.le_of_ble_eq_true rfl) ?_
        refine ka_pure ⟨rfl, ?_⟩
        rw [ka_up_up, ka_up_up]
        rfl
      · obtain ⟨rfl, rfl⟩ := hp
        have hM1 := ku_new (o := kc_L (a, n, -1)) hM ha
        obtain ⟨⟨c1, c2, c3, c4, c5, c6, c7⟩, -⟩ := kh_ok hok (by omega)
        refine ka_is (kg_s hM1.2.1) rfl (ka_post (kq_RR (ko_addL hM1 ka_same (kc_fresh hM ha) (ku_notin hM.2.1 ha).2.1 c2 (by omega))) (fun r w' H' hp => ?_))
        rw [← hV]
        exact ⟨by have := hp.1; omega, hp.2⟩
    · exact (by have := vk_addL (e := n) hok; revert this; unfold v_addL; split <;> intro this; exact this; exact v_ok_mono this (by omega) (by omega))
  · rw [if_neg h]
    exact ka_ifN (by rw [v_in_no h]; simp) (ka_pure (kx_same (kX_mono hX (Nat.le_add_right _ _) (Nat.le_add_right _ _)) (by omega)))

theorem kx_thread {n : Int32} (hE : ka_E0 Z) (hX : kX H x dq ip cc dd X) (hcc : cc + 10 ≤ 240) (hw : 64000 ≤ w) : ka_T Z (pm_X0_thread (some x) n) w H (kx_Q H x dq ip (cc + 10) (dd + 60) w 64000 (vx_thread X n).1 (vx_thread X n).2) := by
  obtain ⟨nowW, befW, savW, rfW, lnW, fW, hX'⟩ := id hX
  have hok : v_ok cc dd X.now := by
    have := hX'.2.2.2.1.2.2
    rw [hX'.2.2.2.2.2.2.2.2.2.2.2.1] at this
    exact this
  have hx := hX'.1
  have hS := hX'.2.2.2.1.1
  have hVn : nowW.2.2.V = X.now := hX'.2.2.2.2.2.2.2.2.2.2.2.1
  unfold pm_X0_thread vx_thread
  refine ka_gR (v := some nowW.1) hx rfl rfl (ka_is hS.1 rfl (ka_use (kx_isString hS) ?_))
  have hlen : nowW.2.2.st.length = X.now.st.length := by rw [← hVn, kvl_st]
  rw [hlen]
  by_cases h : vx_isS X n = 1
  · rw [if_pos h]
    refine ka_ifP (by rw [show v_in n 0 (Int32.ofNat X.now.st.length - 1) = 1 from h]; decide) ?_
    obtain ⟨i, rfl, hi⟩ := v_in_idx (by have := hok.2.2.1.2.2.1; omega) h
    rw [k3_nat (by have := hok.2.2.1.2.2.1; omega)]
    refine kx_make (fs := [.int (Int32.ofNat i), .ref x]) hE hX hcc rfl rfl (Nat.le_of_ble_eq_true rfl) ?_ ?_ ?_ hw
    · intro D w hD
      unfold pm_X22_init
      refine ka_pR ka_same rfl (Nat.le_of_ble_eq_true rfl) ?_
      rw [ka_up_up]
      refine ka_pI ka_same rfl rfl (Nat.le_of_ble_eq_true rfl) ?_
      rw [ka_up_up]
      refine ka_nn (ka_call (kx_init4 ka_same rfl) (fun _ w' H' hp => ?_))
      obtain ⟨rfl, rfl⟩ := hp
      refine ka_pure ⟨rfl, ?_⟩
      rw [ka_up_up]
      rfl
    · intro D s ad A w H1 hM hD1 hV hok hC
      show ka_T Z (pm_X22_does (some D) (some s)) w H1 _
      unfold pm_X22_does
      obtain ⟨⟨c1, c2, c3, c4, c5, c6, c7⟩, c8, c9, c10, c11, c12⟩ := kh_ok hok (by omega)
      refine ka_gI (by first | exact ka_same | assumption | exact ka_ne1 (by first | assumption | exact Ne.symm (by assumption)) (by first | exact ka_same | assumption | exact ka_ne1 (by first | assumption | exact Ne.symm (by assumption)) (by first | exact ka_same | assumption | exact ka_ne1 (by first | assumption | exact Ne.symm (by assumption)) (by first | exact ka_same | assumption | exact ka_ne1 (by first | assumption | exact Ne.symm (by assumption)) (by first | exact ka_same | assumption | exact ka_ne1 (by first | assumption | exact Ne.symm (by assumption)) (by first | exact ka_same | assumption | exact ka_ne1 (by first | assumption | exact Ne.symm (by assumption)) (by first | exact ka_same | assumption))))))) rfl rfl ?_
      have hi2 : i < A.st.length := by rw [← kvl_st, hV]; exact hi
      refine ka_is (kg_s hM.2.1) rfl (kq_cost (kq_RR ?_) (Nat.le_of_ble_eq_true rfl : 700 ≤ 47000))
      rw [← hV]
      exact ko_thread hM hi2 c3 (fun r hr => Nat.le_trans (c8 r hr) (by omega)) (by omega) c9 (by omega)
    · exact v_res_mono (vk_thread hok hi) (by omega) (by omega)
  · rw [if_neg h]
    exact ka_ifN (by rw [show v_in n 0 (Int32.ofNat X.now.st.length - 1) = 0 from v_in_no h]; simp) (ka_pure (kx_same (kX_mono hX (Nat.le_add_right _ _) (Nat.le_add_right _ _)) (by omega)))

theorem kx_knot {n : Int32} (hE : ka_E0 Z) (hX : kX H x dq ip cc dd X) (hcc : cc + 10 ≤ 240) (hw : 64000 ≤ w) : ka_T Z (pm_X0_knot (some x) n) w H (kx_Q H x dq ip (cc + 10) (dd + 60) w 64000 (vx_knot X n).1 (vx_knot X n).2) := by
  obtain ⟨nowW, befW, savW, rfW, lnW, fW, hX'⟩ := id hX
  have hok : v_ok cc dd X.now := by
    have := hX'.2.2.2.1.2.2
    rw [hX'.2.2.2.2.2.2.2.2.2.2.2.1] at this
    exact this
  have hx := hX'.1
  have hS := hX'.2.2.2.1.1
  have hVn : nowW.2.2.V = X.now := hX'.2.2.2.2.2.2.2.2.2.2.2.1
  unfold pm_X0_knot vx_knot
  refine ka_gR (v := some nowW.1) hx rfl rfl (ka_is hS.1 rfl (ka_use (kx_isString hS) ?_))
  have hlen : nowW.2.2.st.length = X.now.st.length := by rw [← hVn, kvl_st]
  rw [hlen]
  by_cases h : vx_isS X n = 1
  · rw [if_pos h]
    refine ka_ifP (by rw [show v_in n 0 (Int32.ofNat X.now.st.length - 1) = 1 from h]; decide) ?_
    obtain ⟨i, rfl, hi⟩ := v_in_idx (by have := hok.2.2.1.2.2.1; omega) h
    rw [k3_nat (by have := hok.2.2.1.2.2.1; omega)]
    refine kx_make (fs := [.int (Int32.ofNat i), .ref x]) hE hX hcc rfl rfl (Nat.le_of_ble_eq_true rfl) ?_ ?_ ?_ hw
    · intro D w hD
      unfold pm_X23_init
      refine ka_pR ka_same rfl (Nat.le_of_ble_eq_true rfl) ?_
      rw [ka_up_up]
      refine ka_pI ka_same rfl rfl (Nat.le_of_ble_eq_true rfl) ?_
      rw [ka_up_up]
      refine ka_nn (ka_call (kx_init4 ka_same rfl) (fun _ w' H' hp => ?_))
      obtain ⟨rfl, rfl⟩ := hp
      refine ka_pure ⟨rfl, ?_⟩
      rw [ka_up_up]
      rfl
    · intro D s ad A w H1 hM hD1 hV hok hC
      show ka_T Z (pm_X23_does (some D) (some s)) w H1 _
      unfold pm_X23_does
      obtain ⟨⟨c1, c2, c3, c4, c5, c6, c7⟩, c8, c9, c10, c11, c12⟩ := kh_ok hok (by omega)
      refine ka_gI (by first | exact ka_same | assumption | exact ka_ne1 (by first | assumption | exact Ne.symm (by assumption)) (by first | exact ka_same | assumption | exact ka_ne1 (by first | assumption | exact Ne.symm (by assumption)) (by first | exact ka_same | assumption | exact ka_ne1 (by first | assumption | exact Ne.symm (by assumption)) (by first | exact ka_same | assumption | exact ka_ne1 (by first | assumption | exact Ne.symm (by assumption)) (by first | exact ka_same | assumption | exact ka_ne1 (by first | assumption | exact Ne.symm (by assumption)) (by first | exact ka_same | assumption | exact ka_ne1 (by first | assumption | exact Ne.symm (by assumption)) (by first | exact ka_same | assumption))))))) rfl rfl ?_
      have hi2 : i < A.st.length := by rw [← kvl_st, hV]; exact hi
      refine ka_is (kg_s hM.2.1) rfl (kq_cost (kq_RR ?_) (Nat.le_of_ble_eq_true rfl : 100 ≤ 47000))
      rw [← hV]
      exact ko_ties hM hi2 c3 (by omega)
    · exact v_res_mono (vk_ties hok hi) (by omega) (by omega)
  · rw [if_neg h]
    exact ka_ifN (by rw [show v_in n 0 (Int32.ofNat X.now.st.length - 1) = 0 from v_in_no h]; simp) (ka_pure (kx_same (kX_mono hX (Nat.le_add_right _ _) (Nat.le_add_right _ _)) (by omega)))

theorem kx_drop {n : Int32} (hE : ka_E0 Z) (hX : kX H x dq ip cc dd X) (hcc : cc + 10 ≤ 240) (hw : 64000 ≤ w) : ka_T Z (pm_X0_drop (some x) n) w H (kx_Q H x dq ip (cc + 10) (dd + 60) w 64000 (vx_drop X n).1 (vx_drop X n).2) := by
  obtain ⟨nowW, befW, savW, rfW, lnW, fW, hX'⟩ := id hX
  have hok : v_ok cc dd X.now := by
    have := hX'.2.2.2.1.2.2
    rw [hX'.2.2.2.2.2.2.2.2.2.2.2.1] at this
    exact this
  have hx := hX'.1
  have hS := hX'.2.2.2.1.1
  have hVn : nowW.2.2.V = X.now := hX'.2.2.2.2.2.2.2.2.2.2.2.1
  unfold pm_X0_drop vx_drop
  refine ka_gR (v := some nowW.1) hx rfl rfl (ka_is hS.1 rfl (ka_use (kx_isString hS) ?_))
  have hlen : nowW.2.2.st.length = X.now.st.length := by rw [← hVn, kvl_st]
  rw [hlen]
  by_cases h : vx_isS X n = 1
  · rw [if_pos h]
    refine ka_ifP (by rw [show v_in n 0 (Int32.ofNat X.now.st.length - 1) = 1 from h]; decide) ?_
    obtain ⟨i, rfl, hi⟩ := v_in_idx (by have := hok.2.2.1.2.2.1; omega) h
    rw [k3_nat (by have := hok.2.2.1.2.2.1; omega)]
    refine kx_make (fs := [.int (Int32.ofNat i), .ref x]) hE hX hcc rfl rfl (Nat.le_of_ble_eq_true rfl) ?_ ?_ ?_ hw
    · intro D w hD
      unfold pm_X24_init
      refine ka_pR ka_same rfl (Nat.le_of_ble_eq_true rfl) ?_
      rw [ka_up_up]
      refine ka_pI ka_same rfl rfl (Nat.le_of_ble_eq_true rfl) ?_
      rw [ka_up_up]
      refine ka_nn (ka_call (kx_init4 ka_same rfl) (fun _ w' H' hp => ?_))
      obtain ⟨rfl, rfl⟩ := hp
      refine ka_pure ⟨rfl, ?_⟩
      rw [ka_up_up]
      rfl
    · intro D s ad A w H1 hM hD1 hV hok hC
      show ka_T Z (pm_X24_does (some D) (some s)) w H1 _
      unfold pm_X24_does
      obtain ⟨⟨c1, c2, c3, c4, c5, c6, c7⟩, c8, c9, c10, c11, c12⟩ := kh_ok hok (by omega)
      refine ka_gI (by first | exact ka_same | assumption | exact ka_ne1 (by first | assumption | exact Ne.symm (by assumption)) (by first | exact ka_same | assumption | exact ka_ne1 (by first | assumption | exact Ne.symm (by assumption)) (by first | exact ka_same | assumption | exact ka_ne1 (by first | assumption | exact Ne.symm (by assumption)) (by first | exact ka_same | assumption | exact ka_ne1 (by first | assumption | exact Ne.symm (by assumption)) (by first | exact ka_same | assumption | exact ka_ne1 (by first | assumption | exact Ne.symm (by assumption)) (by first | exact ka_same | assumption | exact ka_ne1 (by first | assumption | exact Ne.symm (by assumption)) (by first | exact ka_same | assumption))))))) rfl rfl ?_
      have hi2 : i < A.st.length := by rw [← kvl_st, hV]; exact hi
      obtain ⟨g, m, k, hs⟩ := hok.2.2.2.2.1 _ (List.mem_map_of_mem (f := kS.V) (List.getElem_mem hi2))
      obtain ⟨l1, l2, l3⟩ := v_sok_loose hs
      have hm := hs.2.2.2.2.2.2.1
      have hbl := List.length_map (as := (A.st[i]).bs) (f := fun b : kB => b.2)
      have hcnt : A.bx.length + (A.st[i]).bs.length ≤ cc := kx_cnt hok hi2
      refine ka_is (kg_s hM.2.1) rfl (kq_cost (kq_VR ?_) (Nat.le_of_ble_eq_true rfl : 3000 ≤ 47000))
      rw [← hV]
      refine ko_drops (d := (A.st[i]).V.bs.length - k * (m + 1)) hM hi2 c3 (fun r hr => ?_) (by omega) ?_ (by omega)
      · have hr2 : A.st[i] = r := by rw [List.getElem?_eq_getElem hi2] at hr; exact Option.some.inj hr
        rw [← hr2]
        refine ⟨l1, ?_, ?_⟩
        · show (A.st[i]).V.bs.length - k * (m + 1) ≤ (A.st[i]).bs.length
          have : (A.st[i]).V.bs.length = (A.st[i]).bs.length := hbl
          omega
        · have : (A.st[i]).V.bs.length = (A.st[i]).bs.length := hbl
          omega
      · have : (A.st[i]).V.bs.length = (A.st[i]).bs.length := hbl
        omega
    · exact v_ok_mono (vk_drops hok hi) (by omega) (by omega)
  · rw [if_neg h]
    exact ka_ifN (by rw [show v_in n 0 (Int32.ofNat X.now.st.length - 1) = 0 from v_in_no h]; simp) (ka_pure (kx_same (kX_mono hX (Nat.le_add_right _ _) (Nat.le_add_right _ _)) (by omega)))

theorem kx_mend  (hE : ka_E0 Z) (hX : kX H x dq ip cc dd X) (hcc : cc + 10 ≤ 240) (hw : 64000 ≤ w) : ka_T Z (pm_X0_mend (some x)) w H (kx_Q H x dq ip (cc + 10) (dd + 60) w 64000 (vx_mend X).1 (vx_mend X).2) := by
  obtain ⟨nowW, befW, savW, rfW, lnW, fW, hX'⟩ := id hX
  have hok : v_ok cc dd X.now := by
    have := hX'.2.2.2.1.2.2
    rw [hX'.2.2.2.2.2.2.2.2.2.2.2.1] at this
    exact this
  have hx := hX'.1
  have hS := hX'.2.2.2.1.1
  have hVn : nowW.2.2.V = X.now := hX'.2.2.2.2.2.2.2.2.2.2.2.1
  unfold pm_X0_mend vx_mend
  refine kx_make (fs := [.ref x]) hE hX hcc rfl rfl (Nat.le_of_ble_eq_true rfl) ?_ ?_ ?_ hw
  · intro D w hD
    unfold pm_X26_init
    refine ka_pR ka_same rfl (Nat.le_of_ble_eq_true rfl) ?_
    rw [ka_up_up]
    refine ka_nn (ka_call (kx_init4 ka_same rfl) (fun _ w' H' hp => ?_))
    obtain ⟨rfl, rfl⟩ := hp
    refine ka_pure ⟨rfl, ?_⟩
    rw [ka_up_up]
    rfl
  · intro D s ad A w H1 hM hD1 hV hok hC
    show ka_T Z (pm_X26_does (some D) (some s)) w H1 _
    unfold pm_X26_does
    obtain ⟨⟨c1, c2, c3, c4, c5, c6, c7⟩, c8, c9, c10, c11, c12⟩ := kh_ok hok (by omega)
    refine ka_is (kg_s hM.2.1) rfl (kq_cost (kq_RR ?_) (Nat.le_of_ble_eq_true rfl : 5000 ≤ 47000))
    rw [← hV]
    exact ko_mends hM c3 (fun r hr => Nat.le_trans (c8 r hr) (by omega)) (by omega) c9 c10 (by omega) (fun d hd => (c12 d hd).1) (by omega)
  · exact v_res_mono (vk_mends hok) (by omega) (by omega)

theorem kx_pass {n : Int32} (hE : ka_E0 Z) (hX : kX H x dq ip cc dd X) (hcc : cc + 10 ≤ 240) (hw : 64000 ≤ w) : ka_T Z (pm_X0_pass (some x) n) w H (kx_Q H x dq ip (cc + 10) (dd + 60) w 64000 (vx_pass X n).1 (vx_pass X n).2) := by
  obtain ⟨nowW, befW, savW, rfW, lnW, fW, hX'⟩ := id hX
  have hok : v_ok cc dd X.now := by
    have := hX'.2.2.2.1.2.2
    rw [hX'.2.2.2.2.2.2.2.2.2.2.2.1] at this
    exact this
  have hx := hX'.1
  have hS := hX'.2.2.2.1.1
  have hVn : nowW.2.2.V = X.now := hX'.2.2.2.2.2.2.2.2.2.2.2.1
  unfold pm_X0_pass vx_pass
  refine ka_use kx_areDays ?_
  by_cases h : v_in n 1 60 = 1
  · rw [if_pos h]
    refine ka_ifP (by rw [h]; decide) ?_
    obtain ⟨i, rfl, hi, hi2⟩ := v_in_nat (a := 1) (b := 60) (by omega) (by omega) h
    rw [k3_nat (by omega)]
    refine kx_make (fs := [.int (Int32.ofNat i), .ref x]) hE hX hcc rfl rfl (Nat.le_of_ble_eq_true rfl) ?_ ?_ ?_ hw
    · intro D w hD
      unfold pm_X27_init
      refine ka_pR ka_same rfl (Nat.le_of_ble_eq_true rfl) ?_
      rw [ka_up_up]
      refine ka_pI ka_same rfl rfl (Nat.le_of_ble_eq_true rfl) ?_
      rw [ka_up_up]
      refine ka_nn (ka_call (kx_init4 ka_same rfl) (fun _ w' H' hp => ?_))
      obtain ⟨rfl, rfl⟩ := hp
      refine ka_pure ⟨rfl, ?_⟩
      rw [ka_up_up]
      rfl
    · intro D s ad A w H1 hM hD1 hV hok hC
      show ka_T Z (pm_X27_does (some D) (some s)) w H1 _
      unfold pm_X27_does
      refine ka_gI (by first | exact ka_same | assumption | exact ka_ne1 (by first | assumption | exact Ne.symm (by assumption)) (by first | exact ka_same | assumption | exact ka_ne1 (by first | assumption | exact Ne.symm (by assumption)) (by first | exact ka_same | assumption | exact ka_ne1 (by first | assumption | exact Ne.symm (by assumption)) (by first | exact ka_same | assumption | exact ka_ne1 (by first | assumption | exact Ne.symm (by assumption)) (by first | exact ka_same | assumption | exact ka_ne1 (by first | assumption | exact Ne.symm (by assumption)) (by first | exact ka_same | assumption | exact ka_ne1 (by first | assumption | exact Ne.symm (by assumption)) (by first | exact ka_same | assumption))))))) rfl rfl ?_
      refine ka_is (kg_s hM.2.1) rfl (kq_VR ?_)
      rw [← hV]
      exact ko_passes hE hM hok (by omega) hi2 (by omega)
    · exact v_ok_mono (vk_passes i 0 X.now dd hok) (by omega) (by omega)
  · rw [if_neg h]
    exact ka_ifN (by rw [v_in_no h]; simp) (ka_pure (kx_same (kX_mono hX (Nat.le_add_right _ _) (Nat.le_add_right _ _)) (by omega)))

theorem kx_begin {g m : Int32} (hE : ka_E0 Z) (hX : kX H x dq ip cc dd X) (hcc : cc + 10 ≤ 240) (hw : 64000 ≤ w) : ka_T Z (pm_X0_begin (some x) g m) w H (kx_Q H x dq ip (cc + 10) (dd + 60) w 64000 (vx_begin X g m).1 (vx_begin X g m).2) := by
  obtain ⟨nowW, befW, savW, rfW, lnW, fW, hX'⟩ := id hX
  have hok : v_ok cc dd X.now := by
    have := hX'.2.2.2.1.2.2
    rw [hX'.2.2.2.2.2.2.2.2.2.2.2.1] at this
    exact this
  have hx := hX'.1
  have hS := hX'.2.2.2.1.1
  have hVn : nowW.2.2.V = X.now := hX'.2.2.2.2.2.2.2.2.2.2.2.1
  unfold pm_X0_begin vx_begin
  refine ka_use kx_isPattern ?_
  by_cases h : v_pat g m = 1
  · rw [if_pos h]
    refine ka_ifP (by rw [h]; decide) ?_
    obtain ⟨a, b, rfl, rfl, h1, h2, h3, h4⟩ := v_pat_nat h
    refine kx_make (fs := [.int (Int32.ofNat a), .int (Int32.ofNat b), .ref x]) hE hX hcc rfl rfl (Nat.le_of_ble_eq_true rfl) ?_ ?_ ?_ hw
    · intro D w hD
      unfold pm_X21_init
      refine ka_pR ka_same rfl (Nat.le_of_ble_eq_true rfl) ?_
      rw [ka_up_up]
      refine ka_pI ka_same rfl rfl (Nat.le_of_ble_eq_true rfl) ?_
      rw [ka_up_up]
      refine ka_pI ka_same rfl rfl (Nat.le_of_ble_eq_true rfl) ?_
      rw [ka_up_up]
      refine ka_nn (ka_call (kx_init4 ka_same rfl) (fun _ w' H' hp => ?_))
      obtain ⟨rfl, rfl⟩ := hp
      refine ka_pure ⟨rfl, ?_⟩
      rw [ka_up_up]
      rfl
    · intro D s ad A w H1 hM hD1 hV hok hC
      show ka_T Z (pm_X21_does (some D) (some s)) w H1 _
      unfold pm_X21_does
      obtain ⟨⟨c1, c2, c3, c4, c5, c6, c7⟩, c8, c9, c10, c11, c12⟩ := kh_ok hok (by omega)
      refine ka_gI (by first | exact ka_same | assumption | exact ka_ne1 (by first | assumption | exact Ne.symm (by assumption)) (by first | exact ka_same | assumption | exact ka_ne1 (by first | assumption | exact Ne.symm (by assumption)) (by first | exact ka_same | assumption | exact ka_ne1 (by first | assumption | exact Ne.symm (by assumption)) (by first | exact ka_same | assumption | exact ka_ne1 (by first | assumption | exact Ne.symm (by assumption)) (by first | exact ka_same | assumption | exact ka_ne1 (by first | assumption | exact Ne.symm (by assumption)) (by first | exact ka_same | assumption | exact ka_ne1 (by first | assumption | exact Ne.symm (by assumption)) (by first | exact ka_same | assumption))))))) rfl rfl ?_
      refine ka_gI (by first | exact ka_same | assumption | exact ka_ne1 (by first | assumption | exact Ne.symm (by assumption)) (by first | exact ka_same | assumption | exact ka_ne1 (by first | assumption | exact Ne.symm (by assumption)) (by first | exact ka_same | assumption | exact ka_ne1 (by first | assumption | exact Ne.symm (by assumption)) (by first | exact ka_same | assumption | exact ka_ne1 (by first | assumption | exact Ne.symm (by assumption)) (by first | exact ka_same | assumption | exact ka_ne1 (by first | assumption | exact Ne.symm (by assumption)) (by first | exact ka_same | assumption | exact ka_ne1 (by first | assumption | exact Ne.symm (by assumption)) (by first | exact ka_same | assumption))))))) rfl rfl ?_
      refine ka_is (kg_s hM.2.1) rfl (kq_cost (kq_RR ?_) (Nat.le_of_ble_eq_true rfl : 500 ≤ 47000))
      rw [← hV]
      exact ko_begins hE hM c3 (by omega)
    · exact v_res_mono (vk_begins hok rfl rfl h1 h2 h3 h4) (by omega) (by omega)
  · rw [if_neg h]
    exact ka_ifN (fun z => h (v_pat_01.resolve_left z)) (ka_pure (kx_same (kX_mono hX (Nat.le_add_right _ _) (Nat.le_add_right _ _)) (by omega)))

theorem kx_carve {c k m : Int32} (hk : k = 0 ∨ k = 1) (hE : ka_E0 Z) (hX : kX H x dq ip cc dd X) (hcc : cc + 10 ≤ 240) (hw : 64000 ≤ w) : ka_T Z (pm_X0_carve (some x) c k m) w H (kx_Q H x dq ip (cc + 10) (dd + 60) w 64000 (vx_carve X c k m).1 (vx_carve X c k m).2) := by
  obtain ⟨nowW, befW, savW, rfW, lnW, fW, hX'⟩ := id hX
  have hok : v_ok cc dd X.now := by
    have := hX'.2.2.2.1.2.2
    rw [hX'.2.2.2.2.2.2.2.2.2.2.2.1] at this
    exact this
  have hx := hX'.1
  have hS := hX'.2.2.2.1.1
  have hVn : nowW.2.2.V = X.now := hX'.2.2.2.2.2.2.2.2.2.2.2.1
  unfold pm_X0_carve vx_carve
  refine ka_gR (v := some nowW.1) hx rfl rfl (ka_is hS.1 rfl (ka_use (kx_isCarver hS) ?_))
  have hlen : nowW.2.2.cs.length = X.now.cs.length := by rw [← hVn, kvl_cs]
  rw [hlen]
  by_cases h : vx_isC X c = 1
  · rw [if_pos h]
    refine ka_ifP (by rw [show v_in c 0 (Int32.ofNat X.now.cs.length - 1) = 1 from h]; decide) (ka_use kx_isCarved ?_)
    by_cases h2 : v_in m 1 10 = 1
    · rw [if_pos h2]
      refine ka_ifP (by rw [h2]; decide) ?_
      obtain ⟨i, rfl, hi⟩ := v_in_idx (by have := hok.2.2.1.1; omega) h
      obtain ⟨j, rfl, hj1, hj2⟩ := v_in_nat (a := 1) (b := 10) (by omega) (by omega) h2
      rw [k3_nat (by have := hok.2.2.1.1; omega), k3_nat (by omega)]
      refine kx_make (fs := [.int (Int32.ofNat i), .int k, .int (Int32.ofNat j), .ref x]) hE hX hcc rfl rfl (Nat.le_of_ble_eq_true rfl) ?_ ?_ ?_ hw
      · intro D w hD
        unfold pm_X20_init
        refine ka_pR ka_same rfl (Nat.le_of_ble_eq_true rfl) ?_
        rw [ka_up_up]
        refine ka_pI ka_same rfl rfl (Nat.le_of_ble_eq_true rfl) ?_
        rw [ka_up_up]
        refine ka_pI ka_same (kb_fit hk) rfl (Nat.le_of_ble_eq_true rfl) ?_
        rw [ka_up_up]
        refine ka_pI ka_same rfl rfl (Nat.le_of_ble_eq_true rfl) ?_
        rw [ka_up_up]
        refine ka_nn (ka_call (kx_init4 ka_same rfl) (fun _ w' H' hp => ?_))
        obtain ⟨rfl, rfl⟩ := hp
        refine ka_pure ⟨rfl, ?_⟩
        rw [ka_up_up]
        rfl
      · intro D s ad A w H1 hM hD1 hV hok hC
        show ka_T Z (pm_X20_does (some D) (some s)) w H1 _
        unfold pm_X20_does
        obtain ⟨⟨c1, c2, c3, c4, c5, c6, c7⟩, c8, c9, c10, c11, c12⟩ := kh_ok hok (by omega)
        refine ka_gI (by first | exact ka_same | assumption | exact ka_ne1 (by first | assumption | exact Ne.symm (by assumption)) (by first | exact ka_same | assumption | exact ka_ne1 (by first | assumption | exact Ne.symm (by assumption)) (by first | exact ka_same | assumption | exact ka_ne1 (by first | assumption | exact Ne.symm (by assumption)) (by first | exact ka_same | assumption | exact ka_ne1 (by first | assumption | exact Ne.symm (by assumption)) (by first | exact ka_same | assumption | exact ka_ne1 (by first | assumption | exact Ne.symm (by assumption)) (by first | exact ka_same | assumption | exact ka_ne1 (by first | assumption | exact Ne.symm (by assumption)) (by first | exact ka_same | assumption))))))) rfl rfl ?_
        refine ka_gI (by first | exact ka_same | assumption | exact ka_ne1 (by first | assumption | exact Ne.symm (by assumption)) (by first | exact ka_same | assumption | exact ka_ne1 (by first | assumption | exact Ne.symm (by assumption)) (by first | exact ka_same | assumption | exact ka_ne1 (by first | assumption | exact Ne.symm (by assumption)) (by first | exact ka_same | assumption | exact ka_ne1 (by first | assumption | exact Ne.symm (by assumption)) (by first | exact ka_same | assumption | exact ka_ne1 (by first | assumption | exact Ne.symm (by assumption)) (by first | exact ka_same | assumption | exact ka_ne1 (by first | assumption | exact Ne.symm (by assumption)) (by first | exact ka_same | assumption))))))) rfl rfl ?_
        refine ka_gI (by first | exact ka_same | assumption | exact ka_ne1 (by first | assumption | exact Ne.symm (by assumption)) (by first | exact ka_same | assumption | exact ka_ne1 (by first | assumption | exact Ne.symm (by assumption)) (by first | exact ka_same | assumption | exact ka_ne1 (by first | assumption | exact Ne.symm (by assumption)) (by first | exact ka_same | assumption | exact ka_ne1 (by first | assumption | exact Ne.symm (by assumption)) (by first | exact ka_same | assumption | exact ka_ne1 (by first | assumption | exact Ne.symm (by assumption)) (by first | exact ka_same | assumption | exact ka_ne1 (by first | assumption | exact Ne.symm (by assumption)) (by first | exact ka_same | assumption))))))) rfl rfl ?_
        have hi2 : i < A.cs.length := by rw [← kvl_cs, hV]; exact hi
        refine ka_is (kg_s hM.2.1) rfl (kq_cost (kq_RR ?_) (Nat.le_of_ble_eq_true rfl : 5100 ≤ 47000))
        rw [← hV]
        exact ko_carves hM hi2 hk hj2 (by omega) (by omega) (by omega) (by omega)
      · exact v_res_mono (vk_carves hok hk hj2 (by omega)) (by omega) (by omega)
    · rw [if_neg h2]
      exact ka_ifN (by rw [v_in_no h2]; simp) (ka_pure (kx_same (kX_mono hX (Nat.le_add_right _ _) (Nat.le_add_right _ _)) (by omega)))
  · rw [if_neg h]
    exact ka_ifN (by rw [show v_in c 0 (Int32.ofNat X.now.cs.length - 1) = 0 from v_in_no h]; simp) (ka_pure (kx_same (kX_mono hX (Nat.le_add_right _ _) (Nat.le_add_right _ _)) (by omega)))

theorem kx_pilgrim {d g f c : Int32} (hE : ka_E0 Z) (hX : kX H x dq ip cc dd X) (hcc : cc + 10 ≤ 240) (hw : 64000 ≤ w) : ka_T Z (pm_X0_pilgrim (some x) d g f c) w H (kx_Q H x dq ip (cc + 10) (dd + 60) w 64000 (vx_pilgrim X d g f c).1 (vx_pilgrim X d g f c).2) := by
  obtain ⟨nowW, befW, savW, rfW, lnW, fW, hX'⟩ := id hX
  have hok : v_ok cc dd X.now := by
    have := hX'.2.2.2.1.2.2
    rw [hX'.2.2.2.2.2.2.2.2.2.2.2.1] at this
    exact this
  have hx := hX'.1
  have hS := hX'.2.2.2.1.1
  have hVn : nowW.2.2.V = X.now := hX'.2.2.2.2.2.2.2.2.2.2.2.1
  unfold pm_X0_pilgrim
  refine ka_use kx_areDays ?_
  by_cases h1 : v_in d 1 60 = 1
  · refine ka_ifN (by rw [h1]; decide) (ka_use kx_in ?_)
    by_cases h2 : v_in g 1 4 = 1
    · refine ka_ifN (by rw [h2]; decide) (ka_use kx_in ?_)
      by_cases h3 : v_in f 0 9 = 1
      · refine ka_ifN (by rw [h3]; decide) (ka_use kx_in ?_)
        by_cases h4 : v_in c 1 99 = 1
        · rw [show vx_pilgrim X d g f c = vx_do X (v_tells X.now d g f c) from if_pos ⟨h1, h2, h3, h4⟩]
          refine ka_ifP (by rw [h4]; decide) ?_
          refine kx_make (fs := [.int d, .int g, .int f, .int c, .ref x]) hE hX hcc rfl rfl (Nat.le_of_ble_eq_true rfl) ?_ ?_ ?_ hw
          · intro D w hD
            unfold pm_X25_init
            refine ka_pR ka_same rfl (Nat.le_of_ble_eq_true rfl) ?_
            rw [ka_up_up]
            refine ka_pI ka_same rfl rfl (Nat.le_of_ble_eq_true rfl) ?_
            rw [ka_up_up]
            refine ka_pI ka_same rfl rfl (Nat.le_of_ble_eq_true rfl) ?_
            rw [ka_up_up]
            refine ka_pI ka_same rfl rfl (Nat.le_of_ble_eq_true rfl) ?_
            rw [ka_up_up]
            refine ka_pI ka_same rfl rfl (Nat.le_of_ble_eq_true rfl) ?_
            rw [ka_up_up]
            refine ka_nn (ka_call (kx_init4 ka_same rfl) (fun _ w' H' hp => ?_))
            obtain ⟨rfl, rfl⟩ := hp
            refine ka_pure ⟨rfl, ?_⟩
            rw [ka_up_up]
            rfl
          · intro D s ad A w H1 hM hD1 hV hok hC
            show ka_T Z (pm_X25_does (some D) (some s)) w H1 _
            unfold pm_X25_does
            obtain ⟨⟨c1, c2, c3, c4, c5, c6, c7⟩, c8, c9, c10, c11, c12⟩ := kh_ok hok (by omega)
            refine ka_gI (by first | exact ka_same | assumption | exact ka_ne1 (by first | assumption | exact Ne.symm (by assumption)) (by first | exact ka_same | assumption | exact ka_ne1 (by first | assumption | exact Ne.symm (by assumption)) (by first | exact ka_same | assumption | exact ka_ne1 (by first | assumption | exact Ne.symm (by assumption)) (by first | exact ka_same | assumption | exact ka_ne1 (by first | assumption | exact Ne.symm (by assumption)) (by first | exact ka_same | assumption | exact ka_ne1 (by first | assumption | exact Ne.symm (by assumption)) (by first | exact ka_same | assumption | exact ka_ne1 (by first | assumption | exact Ne.symm (by assumption)) (by first | exact ka_same | assumption))))))) rfl rfl ?_
            refine ka_gI (by first | exact ka_same | assumption | exact ka_ne1 (by first | assumption | exact Ne.symm (by assumption)) (by first | exact ka_same | assumption | exact ka_ne1 (by first | assumption | exact Ne.symm (by assumption)) (by first | exact ka_same | assumption | exact ka_ne1 (by first | assumption | exact Ne.symm (by assumption)) (by first | exact ka_same | assumption | exact ka_ne1 (by first | assumption | exact Ne.symm (by assumption)) (by first | exact ka_same | assumption | exact ka_ne1 (by first | assumption | exact Ne.symm (by assumption)) (by first | exact ka_same | assumption | exact ka_ne1 (by first | assumption | exact Ne.symm (by assumption)) (by first | exact ka_same | assumption))))))) rfl rfl ?_
            refine ka_gI (by first | exact ka_same | assumption | exact ka_ne1 (by first | assumption | exact Ne.symm (by assumption)) (by first | exact ka_same | assumption | exact ka_ne1 (by first | assumption | exact Ne.symm (by assumption)) (by first | exact ka_same | assumption | exact ka_ne1 (by first | assumption | exact Ne.symm (by assumption)) (by first | exact ka_same | assumption | exact ka_ne1 (by first | assumption | exact Ne.symm (by assumption)) (by first | exact ka_same | assumption | exact ka_ne1 (by first | assumption | exact Ne.symm (by assumption)) (by first | exact ka_same | assumption | exact ka_ne1 (by first | assumption | exact Ne.symm (by assumption)) (by first | exact ka_same | assumption))))))) rfl rfl ?_
            refine ka_gI (by first | exact ka_same | assumption | exact ka_ne1 (by first | assumption | exact Ne.symm (by assumption)) (by first | exact ka_same | assumption | exact ka_ne1 (by first | assumption | exact Ne.symm (by assumption)) (by first | exact ka_same | assumption | exact ka_ne1 (by first | assumption | exact Ne.symm (by assumption)) (by first | exact ka_same | assumption | exact ka_ne1 (by first | assumption | exact Ne.symm (by assumption)) (by first | exact ka_same | assumption | exact ka_ne1 (by first | assumption | exact Ne.symm (by assumption)) (by first | exact ka_same | assumption | exact ka_ne1 (by first | assumption | exact Ne.symm (by assumption)) (by first | exact ka_same | assumption))))))) rfl rfl ?_
            refine ka_is (kg_s hM.2.1) rfl (kq_cost (kq_RR ?_) (Nat.le_of_ble_eq_true rfl : 500 ≤ 47000))
            rw [← hV]
            exact ko_tells hM c4 (by omega)
          · exact v_res_mono (vk_tells hok) (by omega) (by omega)
        · rw [show vx_pilgrim X d g f c = (-2, X) from if_neg (fun z => h4 z.2.2.2)]
          exact ka_ifN (by rw [v_in_no h4]; simp) (ka_pure (kx_same (kX_mono hX (Nat.le_add_right _ _) (Nat.le_add_right _ _)) (by omega)))
      · rw [show vx_pilgrim X d g f c = (-2, X) from if_neg (fun z => h3 z.2.2.1)]
        exact ka_ifP (v_in_no h3) (ka_pure (kx_same (kX_mono hX (Nat.le_add_right _ _) (Nat.le_add_right _ _)) (by omega)))
    · rw [show vx_pilgrim X d g f c = (-2, X) from if_neg (fun z => h2 z.2.1)]
      exact ka_ifP (v_in_no h2) (ka_pure (kx_same (kX_mono hX (Nat.le_add_right _ _) (Nat.le_add_right _ _)) (by omega)))
  · rw [show vx_pilgrim X d g f c = (-2, X) from if_neg (fun z => h1 z.1)]
    exact ka_ifP (v_in_no h1) (ka_pure (kx_same (kX_mono hX (Nat.le_add_right _ _) (Nat.le_add_right _ _)) (by omega)))

theorem kx_give {l c : Int32} (hE : ka_E0 Z) (hX : kX H x dq ip cc dd X) (hcc : cc + 10 ≤ 240) (hw : 64000 ≤ w) : ka_T Z (pm_X0_give (some x) l c) w H (kx_Q H x dq ip (cc + 10) (dd + 60) w 64000 (vx_give X l c).1 (vx_give X l c).2) := by
  obtain ⟨nowW, befW, savW, rfW, lnW, fW, hX'⟩ := id hX
  have hok : v_ok cc dd X.now := by
    have := hX'.2.2.2.1.2.2
    rw [hX'.2.2.2.2.2.2.2.2.2.2.2.1] at this
    exact this
  have hx := hX'.1
  have hS := hX'.2.2.2.1.1
  have hVn : nowW.2.2.V = X.now := hX'.2.2.2.2.2.2.2.2.2.2.2.1
  unfold pm_X0_give
  refine ka_gR (v := some nowW.1) hx rfl rfl (ka_is hS.1 rfl (ka_use (kx_isLens hS) ?_))
  have hlen : nowW.2.2.ls.length = X.now.ls.length := by rw [← hVn, kvl_ls]
  have hlen2 : nowW.2.2.cs.length = X.now.cs.length := by rw [← hVn, kvl_cs]
  rw [hlen]
  by_cases h : vx_isL X l = 1
  · refine ka_ifN (by rw [show v_in l 0 (Int32.ofNat X.now.ls.length - 1) = 1 from h]; decide) ?_
    have hgo : (c = -1 ∨ vx_isC X c = 1) → ka_T Z (pb_X0_give_29 (some x) l c) w H (kx_Q H x dq ip (cc + 10) (dd + 60) w 64000 (vx_do X (.inr (v_gives X.now l.toNatClampNeg c))).1 (vx_do X (.inr (v_gives X.now l.toNatClampNeg c))).2) := by
      intro hc0
      have hcj : c = -1 ∨ ∃ j, j < X.now.cs.length ∧ c = Int32.ofNat j := hc0.imp id (fun z => by
        obtain ⟨j, h1, h2⟩ := v_in_idx (by have := hok.2.2.1.1; omega) z
        exact ⟨j, h2, h1⟩)
      obtain ⟨i, rfl, hi⟩ := v_in_idx (by have := hok.2.2.1.2.1; omega) h
      rw [k3_nat (by have := hok.2.2.1.2.1; omega)]
      unfold pb_X0_give_29
      refine kx_make (fs := [.int (Int32.ofNat i), .int c, .ref x]) hE hX hcc rfl rfl (Nat.le_of_ble_eq_true rfl) ?_ ?_ ?_ hw
      · intro D w hD
        unfold pm_X19_init
        refine ka_pR ka_same rfl (Nat.le_of_ble_eq_true rfl) ?_
        rw [ka_up_up]
        refine ka_pI ka_same rfl rfl (Nat.le_of_ble_eq_true rfl) ?_
        rw [ka_up_up]
        refine ka_pI ka_same rfl rfl (Nat.le_of_ble_eq_true rfl) ?_
        rw [ka_up_up]
        refine ka_nn (ka_call (kx_init4 ka_same rfl) (fun _ w' H' hp => ?_))
        obtain ⟨rfl, rfl⟩ := hp
        refine ka_pure ⟨rfl, ?_⟩
        rw [ka_up_up]
        rfl
      · intro D s ad A w H1 hM hD1 hV hok hC
        show ka_T Z (pm_X19_does (some D) (some s)) w H1 _
        unfold pm_X19_does
        obtain ⟨⟨c1, c2, c3, c4, c5, c6, c7⟩, c8, c9, c10, c11, c12⟩ := kh_ok hok (by omega)
        refine ka_gI (by first | exact ka_same | assumption | exact ka_ne1 (by first | assumption | exact Ne.symm (by assumption)) (by first | exact ka_same | assumption | exact ka_ne1 (by first | assumption | exact Ne.symm (by assumption)) (by first | exact ka_same | assumption | exact ka_ne1 (by first | assumption | exact Ne.symm (by assumption)) (by first | exact ka_same | assumption | exact ka_ne1 (by first | assumption | exact Ne.symm (by assumption)) (by first | exact ka_same | assumption | exact ka_ne1 (by first | assumption | exact Ne.symm (by assumption)) (by first | exact ka_same | assumption | exact ka_ne1 (by first | assumption | exact Ne.symm (by assumption)) (by first | exact ka_same | assumption))))))) rfl rfl ?_
        refine ka_gI (by first | exact ka_same | assumption | exact ka_ne1 (by first | assumption | exact Ne.symm (by assumption)) (by first | exact ka_same | assumption | exact ka_ne1 (by first | assumption | exact Ne.symm (by assumption)) (by first | exact ka_same | assumption | exact ka_ne1 (by first | assumption | exact Ne.symm (by assumption)) (by first | exact ka_same | assumption | exact ka_ne1 (by first | assumption | exact Ne.symm (by assumption)) (by first | exact ka_same | assumption | exact ka_ne1 (by first | assumption | exact Ne.symm (by assumption)) (by first | exact ka_same | assumption | exact ka_ne1 (by first | assumption | exact Ne.symm (by assumption)) (by first | exact ka_same | assumption))))))) rfl rfl ?_
        have hi2 : i < A.ls.length := by rw [← kvl_ls, hV]; exact hi
        refine ka_is (kg_s hM.2.1) rfl (kq_cost (kq_VR ?_) (Nat.zero_le _))
        rw [← hV]
        exact ko_gives hM hi2 (by omega)
      · exact v_ok_mono (vk_gives hok hcj) (by omega) (by omega)
    by_cases h1 : c = -1
    · rw [show vx_give X l c = vx_do X (.inr (v_gives X.now l.toNatClampNeg c)) from if_pos ⟨h, Or.inl h1⟩]
      exact ka_ifP h1 (hgo (Or.inl h1))
    · refine ka_ifN h1 ?_
      refine ka_gR (v := some nowW.1) hx rfl rfl (ka_is hS.1 rfl (ka_use (kx_isCarver hS) ?_))
      rw [hlen2]
      by_cases h2 : vx_isC X c = 1
      · rw [show vx_give X l c = vx_do X (.inr (v_gives X.now l.toNatClampNeg c)) from if_pos ⟨h, Or.inr h2⟩]
        exact ka_ifP (by rw [show v_in c 0 (Int32.ofNat X.now.cs.length - 1) = 1 from h2]; decide) (hgo (Or.inr h2))
      · rw [show vx_give X l c = (-1, X) from if_neg (fun z => z.2.elim h1 h2)]
        exact ka_ifN (by rw [show v_in c 0 (Int32.ofNat X.now.cs.length - 1) = 0 from v_in_no h2]; simp) (ka_pure (kx_same (kX_mono hX (Nat.le_add_right _ _) (Nat.le_add_right _ _)) (by omega)))
  · rw [show vx_give X l c = (-1, X) from if_neg (fun z => h z.1)]
    exact ka_ifP (v_in_no h) (ka_pure (kx_same (kX_mono hX (Nat.le_add_right _ _) (Nat.le_add_right _ _)) (by omega)))

end KXG
