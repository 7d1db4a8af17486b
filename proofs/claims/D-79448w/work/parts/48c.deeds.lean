set_option maxRecDepth 100000
/-! ===== the class's changes ===== -/
def v_in (v lo hi : Int32) : Int32 := if v < lo then 0 else if hi < v then 0 else 1
theorem v_in_01 {v lo hi : Int32} : v_in v lo hi = 0 ∨ v_in v lo hi = 1 := by
  unfold v_in
  split
  · exact Or.inl rfl
  · split
    · exact Or.inl rfl
    · exact Or.inr rfl
theorem v_in_iff {v lo hi : Int32} : v_in v lo hi = 1 ↔ lo ≤ v ∧ v ≤ hi := by
  unfold v_in
  split
  · next h => exact ⟨fun z => absurd z (by decide), fun z => absurd h (Int32.not_lt.mpr z.1)⟩
  · next h =>
    split
    · next h2 => exact ⟨fun z => absurd z (by decide), fun z => absurd h2 (Int32.not_lt.mpr z.2)⟩
    · next h2 => exact ⟨fun _ => ⟨Int32.not_lt.mp h, Int32.not_lt.mp h2⟩, fun _ => rfl⟩
theorem v_in_nat {v : Int32} {a b : Nat} (ha : a < 2 ^ 30) (hb : b < 2 ^ 30) (h : v_in v (Int32.ofNat a) (Int32.ofNat b) = 1) : ∃ n, v = Int32.ofNat n ∧ a ≤ n ∧ n ≤ b := by
  obtain ⟨h1, h2⟩ := v_in_iff.mp h
  have h0 : 0 ≤ v := Int32.le_trans ((k3_le (a := 0) (by decide) (by omega)).mpr (Nat.zero_le a)) h1
  have e := kv_neg h0
  refine ⟨v.toNatClampNeg, e, ?_, ?_⟩
  · rw [e] at h1
    have hlt : v.toNatClampNeg < 2 ^ 31 := Int32.toNatClampNeg_lt v
    exact (k3_le (by omega) (by omega)).mp h1
  · rw [e] at h2
    have hlt : v.toNatClampNeg < 2 ^ 31 := Int32.toNatClampNeg_lt v
    exact (k3_le (by omega) (by omega)).mp h2
/-- an index below a length -/
theorem v_in_idx {v : Int32} {n : Nat} (hn : n < 2 ^ 30) (h : v_in v 0 (Int32.ofNat n - 1) = 1) : ∃ i, v = Int32.ofNat i ∧ i < n := by
  cases n with
  | zero =>
    obtain ⟨h1, h2⟩ := v_in_iff.mp h
    have := Int32.le_trans h1 h2
    exact absurd this (by decide)
  | succ n =>
    rw [k3_pred (by omega), Nat.add_sub_cancel] at h
    obtain ⟨i, h1, h2, h3⟩ := v_in_nat (a := 0) (by omega) (by omega) h
    exact ⟨i, h1, by omega⟩
section KXF
variable {Z : ka_Z} {w : Nat} {H : ka_H} {x dq ip cc dd : Nat} {X : vX}
theorem kx_in {v lo hi : Int32} : ka_T Z (pm_X0_in v lo hi) w H (ka_V w H (v_in v lo hi)) := by
  unfold pm_X0_in v_in
  refine ka_ite (fun h => ?_) (fun h => ?_)
  · refine ka_ret rfl (ka_pure ⟨by rw [if_pos h], rfl, rfl⟩)
  · rw [if_neg h]
    refine ka_ite (fun h2 => ?_) (fun h2 => ?_)
    · refine ka_ret rfl (ka_pure ⟨by rw [if_pos h2], rfl, rfl⟩)
    · refine ka_ret rfl (ka_pure ⟨by rw [if_neg h2], rfl, rfl⟩)
theorem kx_isCarver {s : Nat} {ad : Nat → Nat} {A : kAp} {v : Int32} (hS : kc_shop H s ad A) : ka_T Z (pm_X1_isCarver (some s) v) w H (ka_V w H (v_in v 0 (Int32.ofNat A.cs.length - 1))) := by
  obtain ⟨mc, hl⟩ := kg_cs hS
  have hs := kg_s hS
  unfold pm_X1_isCarver
  refine ka_gR (by first | exact ka_same | assumption | exact ka_ne1 (by first | assumption | exact Ne.symm (by assumption)) (by first | exact ka_same | assumption | exact ka_ne1 (by first | assumption | exact Ne.symm (by assumption)) (by first | exact ka_same | assumption | exact ka_ne1 (by first | assumption | exact Ne.symm (by assumption)) (by first | exact ka_same | assumption | exact ka_ne1 (by first | assumption | exact Ne.symm (by assumption)) (by first | exact ka_same | assumption | exact ka_ne1 (by first | assumption | exact Ne.symm (by assumption)) (by first | exact ka_same | assumption | exact ka_ne1 (by first | assumption | exact Ne.symm (by assumption)) (by first | exact ka_same | assumption))))))) rfl rfl ?_
  refine ka_is hl rfl (ka_use (kl_size hl) (ka_use kx_in ?_))
  rw [List.length_map]
  exact ka_ret (kb_fit v_in_01) (ka_pure ⟨rfl, rfl, rfl⟩)
theorem kx_isLens {s : Nat} {ad : Nat → Nat} {A : kAp} {v : Int32} (hS : kc_shop H s ad A) : ka_T Z (pm_X1_isLens (some s) v) w H (ka_V w H (v_in v 0 (Int32.ofNat A.ls.length - 1))) := by
  obtain ⟨mc, hl⟩ := kg_ls hS
  have hs := kg_s hS
  unfold pm_X1_isLens
  refine ka_gR (by first | exact ka_same | assumption | exact ka_ne1 (by first | assumption | exact Ne.symm (by assumption)) (by first | exact ka_same | assumption | exact ka_ne1 (by first | assumption | exact Ne.symm (by assumption)) (by first | exact ka_same | assumption | exact ka_ne1 (by first | assumption | exact Ne.symm (by assumption)) (by first | exact ka_same | assumption | exact ka_ne1 (by first | assumption | exact Ne.symm (by assumption)) (by first | exact ka_same | assumption | exact ka_ne1 (by first | assumption | exact Ne.symm (by assumption)) (by first | exact ka_same | assumption | exact ka_ne1 (by first | assumption | exact Ne.symm (by assumption)) (by first | exact ka_same | assumption))))))) rfl rfl ?_
  refine ka_is hl rfl (ka_use (kl_size hl) (ka_use kx_in ?_))
  rw [List.length_map]
  exact ka_ret (kb_fit v_in_01) (ka_pure ⟨rfl, rfl, rfl⟩)
theorem kx_isString {s : Nat} {ad : Nat → Nat} {A : kAp} {v : Int32} (hS : kc_shop H s ad A) : ka_T Z (pm_X1_isString (some s) v) w H (ka_V w H (v_in v 0 (Int32.ofNat A.st.length - 1))) := by
  obtain ⟨mc, hl⟩ := kg_st hS
  have hs := kg_s hS
  unfold pm_X1_isString
  refine ka_gR (by first | exact ka_same | assumption | exact ka_ne1 (by first | assumption | exact Ne.symm (by assumption)) (by first | exact ka_same | assumption | exact ka_ne1 (by first | assumption | exact Ne.symm (by assumption)) (by first | exact ka_same | assumption | exact ka_ne1 (by first | assumption | exact Ne.symm (by assumption)) (by first | exact ka_same | assumption | exact ka_ne1 (by first | assumption | exact Ne.symm (by assumption)) (by first | exact ka_same | assumption | exact ka_ne1 (by first | assumption | exact Ne.symm (by assumption)) (by first | exact ka_same | assumption | exact ka_ne1 (by first | assumption | exact Ne.symm (by assumption)) (by first | exact ka_same | assumption))))))) rfl rfl ?_
  refine ka_is hl rfl (ka_use (kl_size hl) (ka_use kx_in ?_))
  rw [List.length_map]
  exact ka_ret (kb_fit v_in_01) (ka_pure ⟨rfl, rfl, rfl⟩)
theorem kx_isCarved {v : Int32} : ka_T Z (pm_X0_isCarved v) w H (ka_V w H (v_in v 1 10)) := by
  unfold pm_X0_isCarved
  exact ka_use kx_in (ka_ret (kb_fit v_in_01) (ka_pure ⟨rfl, rfl, rfl⟩))
theorem kx_areDays {v : Int32} : ka_T Z (pm_X0_areDays v) w H (ka_V w H (v_in v 1 60)) := by
  unfold pm_X0_areDays
  exact ka_use kx_in (ka_ret (kb_fit v_in_01) (ka_pure ⟨rfl, rfl, rfl⟩))
def v_pat (g m : Int32) : Int32 := if v_in g 1 4 = 0 then 0 else v_in m 1 6
theorem kx_isPattern {g m : Int32} : ka_T Z (pm_X0_isPattern g m) w H (ka_V w H (v_pat g m)) := by
  unfold pm_X0_isPattern v_pat
  refine ka_use kx_in ?_
  refine ka_ite (fun h => ?_) (fun h => ?_)
  · refine ka_ret rfl (ka_pure ⟨by rw [if_pos h], rfl, rfl⟩)
  · rw [if_neg h]
    refine ka_use kx_in (ka_ite (fun h2 => ?_) (fun h2 => ?_))
    · refine ka_ret rfl (ka_pure ⟨h2.symm, rfl, rfl⟩)
    · refine ka_ret rfl (ka_pure ⟨(v_in_01.resolve_left h2).symm, rfl, rfl⟩)
/-- a method that throws never, as a deed -/
theorem kq_VR {H0 : ka_H} {s : Nat} {ad : Nat → Nat} {c : Nat} {q : Int32 × kV} {y : km_M Int32} {G : ka_H} (h : ka_T Z y w G (kq_V H0 s ad w c q)) : ka_T Z (km_bind y fun i => km_pure (Sum.inr i)) w G (kq_R H0 s ad w c (.inr q)) := by
  refine ka_call h (fun r w' H' hp => ?_)
  obtain ⟨h1, rfl, h2⟩ := hp
  exact ka_pure ⟨h1, rfl, h2⟩
theorem kq_RR {H0 : ka_H} {s : Nat} {ad : Nat → Nat} {c : Nat} {q : vR} {y : km_M (Nat ⊕ Int32)} {G : ka_H} (h : ka_T Z y w G (kq_R H0 s ad w c q)) : ka_T Z (km_bind y (km_x Sum.inl fun i => km_pure (Sum.inr i))) w G (kq_R H0 s ad w c q) := by
  refine ka_call h (fun r w' H' hp => ?_)
  cases r with
  | inl e => exact ka_pure hp
  | inr e => exact ka_pure hp
theorem kq_cost {H0 : ka_H} {s : Nat} {ad : Nat → Nat} {c c' : Nat} {q : vR} {y : km_M (Nat ⊕ Int32)} {G : ka_H} (h : ka_T Z y w G (kq_R H0 s ad w c q)) (hc : c ≤ c') : ka_T Z y w G (kq_R H0 s ad w c' q) := ka_post h (fun _ _ _ hp => ⟨by have := hp.1; omega, hp.2⟩)
theorem v_ch_len {ch : List (Int32 × Int32)} (h : v_ch ch) : ch.length ≤ 3 := by
  obtain ⟨p, e | ⟨q, e⟩⟩ := h <;> rw [e]
  · exact Nat.le_of_ble_eq_true rfl
  · exact Nat.le_of_ble_eq_true rfl
theorem v_res_ok {cc dd : Nat} {q : vR} (h : v_res cc dd q) : vx_res cc dd q := by
  cases q with
  | inl ch => exact v_ch_len h
  | inr p => exact h
/-- what a change of the class answers -/
abbrev kx_Q (H : ka_H) (x dq ip cc dd w c : Nat) (v : Int32) (X' : vX) : Int32 → Nat → ka_H → Prop := fun r w' H' => w ≤ w' + c ∧ r = v ∧ kx_kp H H' x dq ip ∧ kX H' x dq ip cc dd X'
theorem kx_same (hX : kX H x dq ip cc dd X) {v : Int32} {c w' : Nat} (hw : w ≤ w' + c) : kx_Q H x dq ip cc dd w c v X v w' H := ⟨hw, rfl, fun _ _ _ _ _ h => h, hX⟩
theorem kx_dRC (hX : kX H x dq ip cc dd X) : ∃ now sv dq rf ln ip fed fa, H x = some (kx_ob now sv dq rf ln ip fed fa) := by
  obtain ⟨now, bef, sav, rf, ln, f, a1, -⟩ := hX
  exact ⟨_, _, _, _, _, _, _, _, a1⟩
theorem kX_le {G : ka_H} (hX : kX H x dq ip cc dd X) (h : ka_le H G) : kX G x dq ip cc dd X := by
  obtain ⟨now, bef, sav, rf, ln, f, hX⟩ := hX
  have a1 := hX.1
  have a2 := hX.2.1
  have a7 := hX.2.2.2.2.2.2.1
  exact ⟨now, bef, sav, rf, ln, f, kX'_im hX (ka_im_le h) ((h _ _ a1).trans a1.symm) ((h _ _ a2).trans a2.symm) ((h _ _ a7).trans a7.symm)⟩
/-- a deed is made and done: D is its cell, new -/
theorem kx_deed {D c C cc' dd' : Nat} {fs : List Value} {res : vR} (hE : ka_E0 Z) (hX : kX H x dq ip cc dd X) (hcc : cc ≤ 240) (hc1 : cc ≤ cc') (hd1 : dd ≤ dd') (hD : H D = none) (hc : kx_tb.lookup c = some 0) (hchg : ka_chg c = false)
    (hdo : ∀ (s : Nat) (ad : Nat → Nat) (A : kAp) (w : Nat) (H1 : ka_H), kc_mut (ka_up H D (ka_ob c (.ref x :: fs))) H1 s ad A → H1 D = some (ka_ob c (.ref x :: fs)) → A.V = X.now → v_ok cc dd A.V → C ≤ w → ka_T Z (km_sel c (kx_does D s)) w H1 (kq_R (ka_up H D (ka_ob c (.ref x :: fs))) s ad w C res))
    (hres : v_res cc' dd' res) (hw : C + 16030 ≤ w) :
    ka_T Z (km_bind (km_is c (some D)) fun _ => km_bind (pm_X4_done (some D)) fun i => km_pure i) w (ka_up H D (ka_ob c (.ref x :: fs))) (kx_Q H x dq ip cc' dd' w (C + 16030) (vx_ans res) (vx_done X res)) := by
  refine ka_is ka_same rfl (ka_call (kx_done hE (kX_le hX (ka_le_up hD)) hcc hc1 hd1 ka_same hc hchg (fun s ad A w H1 hM hV hok hC => hdo s ad A w H1 hM (hM.1 _ _ ka_same) hV hok hC) (v_res_ok hres) hw) (fun r w' H' hp => ?_))
  obtain ⟨h1, h2, h3, h4⟩ := hp
  exact ka_pure ⟨h1, h2, kx_kp_trans (kx_kp_le (ka_le_up hD)) h3, h4⟩
theorem kx_init4 {D c : Nat} {fs : List Value} {v : Value} (hD : H D = some (ka_ob c (v :: fs))) (hc : kx_tb.lookup c = some 0) : ka_T Z (pm_X4_init (some D) (some x)) w H (fun _ w' H' => w' = w ∧ H' = ka_up H D (ka_ob c (.ref x :: fs))) := by
  unfold pm_X4_init
  exact ka_pR hD hc (by simp) (ka_nn (ka_pure ⟨rfl, rfl⟩))
end KXF
