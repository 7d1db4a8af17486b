set_option maxRecDepth 100000
/-! ===== a new object of the class ===== -/
def vX0 : vX := (kAp.V kA0, [], none, none, [], [], -1)
section KXN
variable {Z : ka_Z} {w : Nat} {H : ka_H}
theorem ks_new {s : Nat} (hE : ka_E0 Z) (hs : H s = none) (hw : 76 ≤ w) : ka_T Z (pm_X1_init (some s)) w (ka_up H s (ka_ob 1 kz_Shop)) (fun _ w' H' => w' = w - 76 ∧ ∃ ad, kc_mut H H' s ad kA0) := by
  show ka_T Z (kc_prefix (some s) (km_pure ())) w _ _
  exact ks_empty hE hs hw (fun ad G hM => ka_pure ⟨rfl, ad, hM⟩)
theorem kx_init {x : Nat} (hE : ka_E0 Z) (hT : ∃ h, kz_txt Z 10 [] h) (hx : H x = none) (hw : 400 ≤ w) : ka_T Z (pm_X0_init (some x)) w (ka_up H x (ka_ob 0 kz_RC)) (fun _ w' H' => w ≤ w' + 400 ∧ ka_le H H' ∧ ∃ dq ip, kX H' x dq ip 0 0 vX0) := by
  obtain ⟨hh, hT⟩ := hT
  unfold pm_X0_init
  refine ka_nn (ka_new (by omega) (fun s hs => ?_))
  have hxs : x ≠ s := ka_dom ka_same hs
  refine ka_nn (ka_call (ks_new hE hs (by omega)) (fun _ w1 H1 hp => ?_))
  obtain ⟨rfl, ad, hM⟩ := hp
  have hx1 : H1 x = some (ka_ob 0 kz_RC) := hM.1 _ _ ka_same
  have hH1 : ka_le H H1 := ka_le_trans (ka_le_up hx) hM.1
  have hS1 := hM.2.1
  refine ka_pR (v := some s) hx1 rfl (Nat.le_of_ble_eq_true rfl) ?_
  refine ka_new (by omega) (fun dq hdq => ?_)
  refine ka_nn (ka_call (kq_init ka_same (by omega)) (fun _ w2 H2 hp => ?_))
  obtain ⟨rfl, rfl⟩ := hp
  rw [ka_up_up]
  have hxq : x ≠ dq := ka_dom ka_same hdq
  refine ka_pR (v := some dq) ((ka_ne hxq).trans ka_same) rfl (Nat.le_of_ble_eq_true rfl) (ka_k ?_)
  rw [ka_up_comm hxq.symm, ka_up_up]
  -- the heap: H1 with x, dq
  have hdq1 : H1 dq = none := (ka_ne hxq.symm).symm.trans hdq
  refine kx_txt hT (fun G a b y2 z1 hleG hstr hcell => ?_)
  rw [z1]
  have hxG := hleG _ _ ((ka_ne hxq).trans ka_same)
  have hqG := hleG _ _ (ka_same (a := dq))
  refine ka_pR (v := some a) hxG rfl (Nat.le_of_ble_eq_true rfl) ?_
  refine ka_nI (m := 60) (by decide) rfl (by decide) (by omega) (fun ip hip => ?_)
  have hxi : x ≠ ip := ka_dom ka_same hip
  refine ka_pR (v := some ip) ((ka_ne hxi).trans ka_same) rfl (Nat.le_of_ble_eq_true rfl) ?_
  rw [ka_up_comm hxi.symm, ka_up_up]
  refine ka_pI ((ka_ne hxi).trans ka_same) rfl rfl (Nat.le_of_ble_eq_true rfl) ?_
  rw [ka_up_comm hxi.symm, ka_up_up]
  rw [ka_up_comm hxi]
  have hqi : dq ≠ ip := ka_dom ((ka_ne hxq.symm).trans hqG) hip
  have hqx : dq ≠ x := hxq.symm
  have hipG : G ip = none := (ka_ne hxi.symm).symm.trans hip
  have imG : ka_im H1 G := ka_im_trans (ka_im_trans (ka_im_up hx1 rfl) (ka_im_le (ka_le_up ((ka_ne hxq.symm).trans hdq1)))) (ka_im_le hleG)
  have leG : ka_le H G := ka_le_trans (ka_le_mut (ka_le_mut hH1 hx) (kb_fresh2 hH1 hdq1)) hleG
  have imE : ∀ (o1 : ka_O), ka_im G (ka_up (ka_up G ip (ka_aI 1 60 (fun _ => 0))) x o1) := fun o1 => ka_im_trans (ka_im_le (ka_le_up hipG)) (ka_im_up ((ka_ne hxi).trans hxG) rfl)
  have hWk : kW_ok H1 0 0 (s, ad, kA0) := ⟨hS1, hM.2.2.2.1, v_ok_0⟩
  refine ka_pure ⟨by omega, ka_le_mut (ka_le_mut leG (kb_fresh2 leG hipG)) hx, dq, ip, (s, ad, kA0), [], none, none, a, fun _ => 0, ka_same, (ka_ne hxq.symm).trans ((ka_ne hqi).trans hqG), Nat.zero_le _, kW_ok_im (kW_ok_im hWk imG) (imE _), fun W hW => (by cases hW), fun W hW => (by cases hW), (ka_ne hxi.symm).trans ka_same, fun i hi => absurd hi (Nat.not_lt_zero i), Nat.zero_le _, trivial, kx_str_im hstr (imE _), rfl, rfl, rfl⟩
end KXN
