set_option maxRecDepth 100000
/-! ===== a deed is done ===== -/
abbrev kx_tb : List (Nat × Nat) := [(4, 0), (15, 0), (16, 0), (17, 0), (18, 0), (19, 0), (20, 0), (21, 0), (22, 0), (23, 0), (24, 0), (25, 0), (29, 0)]
noncomputable abbrev kx_does (D s : Nat) : List (Nat × km_M (Nat ⊕ Int32)) := [(4, pm_X5_does (some D) (some s)), (15, pm_X17_does (some D) (some s)), (16, pm_X18_does (some D) (some s)), (17, pm_X19_does (some D) (some s)), (18, pm_X20_does (some D) (some s)), (19, pm_X21_does (some D) (some s)), (20, pm_X22_does (some D) (some s)), (21, pm_X23_does (some D) (some s)), (22, pm_X24_does (some D) (some s)), (23, pm_X25_does (some D) (some s)), (24, pm_X26_does (some D) (some s)), (25, pm_X27_does (some D) (some s)), (29, pm_X31_does (some D) (some s))]
/-- the state behind a deed -/
def vx_done (X : vX) (res : vR) : vX := match res with
  | .inl ch => (X.now, X.bef, X.sav, some ch, X.2.2.2.2)
  | .inr (_, V') => (V', v_push X.bef X.now, X.2.2)
def vx_ans (res : vR) : Int32 := match res with
  | .inl _ => -5
  | .inr (v, _) => v
def vx_res (cc dd : Nat) (x : vR) : Prop := match x with
  | .inl ch => ch.length ≤ 3
  | .inr (_, V') => v_ok cc dd V'
section KXE
variable {Z : ka_Z} {w : Nat} {H : ka_H} {x dq ip cc dd : Nat} {X : vX}
theorem kx_done {D c C cc' dd' : Nat} {fs : List Value} {res : vR} (hE : ka_E0 Z) (hX : kX H x dq ip cc dd X) (hcc : cc ≤ 240) (hc1 : cc ≤ cc') (hd1 : dd ≤ dd') (hD : H D = some (ka_ob c (.ref x :: fs))) (hc : kx_tb.lookup c = some 0) (hchg : ka_chg c = false)
    (hdo : ∀ (s : Nat) (ad : Nat → Nat) (A : kAp) (w : Nat) (H1 : ka_H), kc_mut H H1 s ad A → A.V = X.now → v_ok cc dd A.V → C ≤ w → ka_T Z (km_sel c (kx_does D s)) w H1 (kq_R H s ad w C res))
    (hres : vx_res cc' dd' res) (hw : C + 16030 ≤ w) :
    ka_T Z (pm_X4_done (some D)) w H (fun r w' H' => w ≤ w' + (C + 16030) ∧ r = vx_ans res ∧ kx_kp H H' x dq ip ∧ kX H' x dq ip cc' dd' (vx_done X res)) := by
  obtain ⟨now, bef, sav, rf, ln, f, a1, a2, a3, a4, a5, a6, a7, a8, a9, a10, a11, a12, a13, a14⟩ := hX
  have hDx : D ≠ x := ka_kinds hD a1 (fun e => by have := congrArg ka_kd e; simp [ka_kd] at this; rw [this] at hchg; cases hchg)
  have hDdq : D ≠ dq := ka_kinds hD a2 (by simp)
  have hxdq : x ≠ dq := ka_kinds a1 a2 (by simp)
  have hxip : x ≠ ip := ka_kinds a1 a7 (by simp)
  have hdqip : dq ≠ ip := ka_kinds a2 a7 (by simp)
  unfold pm_X4_done
  refine ka_new (by omega) (fun s hs => ?_)
  have hDs : D ≠ s := ka_dom hD hs
  have hxs : x ≠ s := ka_dom a1 hs
  refine ka_gR (v := some x) ((ka_ne hDs).trans hD) hc rfl (ka_gR (v := some now.1) ((ka_ne hxs).trans a1) rfl rfl ?_)
  refine ka_nn (ka_call (kx_copy hE a4 hcc hs (by omega)) (fun _ w1 H1 hp => ?_))
  obtain ⟨hw1, ad, A, hM, hV⟩ := hp
  have hD1 := hM.1 _ _ hD
  refine ka_disp hD1 rfl (ka_call (hdo s ad A w1 H1 hM (hV.trans a12) (by rw [hV]; exact a4.2.2) (by omega)) (fun r w2 H2 hp => ?_))
  obtain ⟨hw2, hp⟩ := hp
  cases res with
  | inl ch =>
    cases r with
    | inr v => exact hp.elim
    | inl q =>
      obtain ⟨hle, hkr⟩ := hp
      obtain ⟨p, hq⟩ : ∃ fs, H2 q = some (ka_ob 8 fs) := by
        cases ch with
        | nil => exact hkr.elim
        | cons p t =>
          cases t with
          | nil =>
            obtain ⟨c, h1, -⟩ := hkr
            exact ⟨_, h1⟩
          | cons p2 t =>
            obtain ⟨y, -, h1, -⟩ := hkr
            exact ⟨_, h1⟩
      show ka_T Z (km_bind (km_is 8 (some q)) fun _ => pb_X4_done_77 (some D) (some q)) _ _ _
      unfold pb_X4_done_77
      have hx2 := hle _ _ a1
      refine ka_is hq rfl (ka_gR (v := some x) (hle _ _ hD) hc rfl (ka_pR (v := some q) hx2 rfl (Nat.le_of_ble_eq_true rfl) ?_))
      have him : ka_im H2 (ka_up H2 x (kx_ob now.1 (sav.map (·.1)) dq (some q) ln ip (Int32.ofNat X.inp.length) X.fault)) := ka_im_up hx2 rfl
      have him0 := ka_im_trans (ka_im_le hle) him
      refine ka_pure ⟨by omega, rfl, kx_kp_trans (kx_kp_le hle) kx_kp_x, now, bef, sav, some q, ln, f, ka_same, (ka_ne hxdq.symm).trans (hle _ _ a2), a3, kW_ok_mono (kW_ok_im a4 him0) hc1 hd1, fun W hW => kW_ok_mono (kW_ok_im (a5 W hW) him0) hc1 hd1, fun W hW => kW_ok_mono (kW_ok_im (a6 W hW) him0) hc1 hd1, (ka_ne hxip.symm).trans (hle _ _ a7), a8, a9, ⟨kr_im him hkr, hres⟩, kx_str_im a11 him0, a12, a13, a14⟩
  | inr vV =>
    obtain ⟨v, V'⟩ := vV
    cases r with
    | inl q => exact hp.elim
    | inr v2 =>
      obtain ⟨rfl, A', hM', hV'⟩ := hp
      have hle := hM'.1
      have hD2 := hle _ _ hD
      have hx2 := hle _ _ a1
      have hdq2 := hle _ _ a2
      have hnow2 := hle _ _ a4.1.1
      have hblen : (bef.map (fun W : kW => W.1)).length = bef.length := List.length_map ..
      refine ka_gR (v := some x) hD2 hc rfl (ka_gR (v := some dq) hx2 rfl rfl (ka_gR (v := some x) hD2 hc rfl (ka_gR (v := some now.1) hx2 rfl rfl ?_)))
      refine ka_is hdq2 rfl (ka_call (kq_addLast hdq2 hnow2 rfl (by omega)) (fun _ w3 H3 hp => ?_))
      obtain ⟨rfl, rfl⟩ := hp
      have hD3 : ka_up H2 dq (ka_dq (bef.map (·.1) ++ [now.1])) D = some (ka_ob c (.ref x :: fs)) := (ka_ne hDdq).trans hD2
      have hx3 : ka_up H2 dq (ka_dq (bef.map (·.1) ++ [now.1])) x = some (kx_ob now.1 (sav.map (·.1)) dq rf ln ip (Int32.ofNat X.inp.length) X.fault) := (ka_ne hxdq).trans hx2
      refine ka_gR (v := some x) hD3 hc rfl (ka_gR (v := some dq) hx3 rfl rfl ?_)
      refine ka_is ka_same rfl (ka_use (kq_size ka_same) ?_)
      have hWn : kW_ok H2 cc' dd' (s, ad, A') := ⟨hM'.2.1, hM'.2.2.2.1, by rw [hV']; exact hres⟩
      have hend : ∀ (bef' : List kW), bef'.length ≤ 8 → (∀ W ∈ bef', W = now ∨ W ∈ bef) → bef'.map (fun W => W.2.2.V) = v_push X.bef X.now → ka_T Z (pb_X4_done_67 (some D) (some s) v2) w3 (ka_up H2 dq (ka_dq (bef'.map (·.1)))) (fun r w' H' => w ≤ w' + (C + 16030) ∧ r = vx_ans (.inr (v2, V')) ∧ kx_kp H H' x dq ip ∧ kX H' x dq ip cc' dd' (vx_done X (.inr (v2, V')))) := by
        intro bef' hb1 hb2 hb3
        have hD4 : ka_up H2 dq (ka_dq (bef'.map (·.1))) D = some (ka_ob c (.ref x :: fs)) := (ka_ne hDdq).trans hD2
        have hx4 : ka_up H2 dq (ka_dq (bef'.map (·.1))) x = some (kx_ob now.1 (sav.map (·.1)) dq rf ln ip (Int32.ofNat X.inp.length) X.fault) := (ka_ne hxdq).trans hx2
        unfold pb_X4_done_67
        refine ka_gR (v := some x) hD4 hc rfl (ka_pR (v := some s) hx4 rfl (Nat.le_of_ble_eq_true rfl) ?_)
        have him1 : ka_im H2 (ka_up H2 dq (ka_dq (bef'.map (·.1)))) := ka_im_up hdq2 rfl
        have him2 : ka_im (ka_up H2 dq (ka_dq (bef'.map (·.1)))) (ka_up (ka_up H2 dq (ka_dq (bef'.map (·.1)))) x (kx_ob s (sav.map (·.1)) dq rf ln ip (Int32.ofNat X.inp.length) X.fault)) := ka_im_up hx4 rfl
        have him3 := ka_im_trans him1 him2
        have him0 := ka_im_trans (ka_im_le hle) him3
        refine ka_pure ⟨by omega, rfl, kx_kp_trans (kx_kp_le hle) (kx_kp_trans kx_kp_dq kx_kp_x), (s, ad, A'), bef', sav, rf, ln, f, ka_same, (ka_ne hxdq.symm).trans ka_same, hb1, kW_ok_im hWn him3, fun W hW => ?_, fun W hW => kW_ok_mono (kW_ok_im (a6 W hW) him0) hc1 hd1, (ka_ne hxip.symm).trans ((ka_ne hdqip.symm).trans (hle _ _ a7)), a8, a9, kx_rf_im a10 him0, kx_str_im a11 him0, hV', hb3, a14⟩
        rcases hb2 W hW with e | e
        · rw [e]
          exact kW_ok_mono (kW_ok_im a4 him0) hc1 hd1
        · exact kW_ok_mono (kW_ok_im (a5 W e) him0) hc1 hd1
      have hlen : (bef.map (fun W : kW => W.1) ++ [now.1]).length = bef.length + 1 := by rw [List.length_append, hblen]; rfl
      have hVl : X.bef.length = bef.length := by rw [← a13, List.length_map]
      rw [hlen]
      by_cases h8 : bef.length + 1 ≤ 8
      · refine ka_ifP ((k3_le (b := 8) (by omega) (by omega)).mpr h8) ?_
        have e0 : bef.map (fun W : kW => W.1) ++ [now.1] = (bef ++ [now]).map (fun W : kW => W.1) := by rw [List.map_append]; rfl
        show ka_T Z _ _ (ka_up H2 dq (ka_dq (bef.map (fun W : kW => W.1) ++ [now.1]))) _
        rw [e0]
        refine hend (bef ++ [now]) (by rw [List.length_append]; exact h8) (fun W hW => ?_) ?_
        · rcases List.mem_append.mp hW with e | e
          · exact Or.inr e
          · exact Or.inl (List.mem_singleton.mp e)
        · unfold v_push
          rw [if_neg (by omega), List.map_append, a13, ← a12]
          rfl
      · refine ka_ifN (fun z => h8 ((k3_le (b := 8) (by omega) (by omega)).mp z)) ?_
        cases hb : bef with
        | nil => rw [hb] at h8; simp at h8
        | cons W0 t =>
          rw [hb] at hVl h8 hblen hD3 hx3
          refine ka_gR (v := some x) hD3 hc rfl (ka_gR (v := some dq) hx3 rfl rfl ?_)
          have e0 : ka_up H2 dq (ka_dq ((W0 :: t).map (fun W : kW => W.1) ++ [now.1])) dq = some (ka_dq (W0.1 :: (t ++ [now]).map (fun W : kW => W.1))) := by
            rw [ka_same, List.map_cons, List.map_append]
            rfl
          refine ka_is e0 rfl (ka_call (kq_removeFirst e0) (fun r w4 H4 hp => ?_))
          obtain ⟨rfl, rfl, rfl⟩ := hp
          rw [ka_up_up]
          have hW0 : kW_ok H cc dd W0 := a5 W0 (by rw [hb]; exact List.mem_cons_self)
          have hW0c : ka_up H2 dq (ka_dq ((t ++ [now]).map (fun W : kW => W.1))) W0.1 = some (kc_so W0.2.1 W0.2.2.sc) := (ka_ne (ka_kinds (hle _ _ hW0.1.1) hdq2 (by simp))).trans (hle _ _ hW0.1.1)
          refine ka_cast hW0c rfl rfl ?_
          refine hend (t ++ [now]) (by rw [List.length_append]; rw [hb] at a3; simp only [List.length_cons, List.length_nil] at a3 ⊢; omega) (fun W hW => ?_) ?_
          · rcases List.mem_append.mp hW with e | e
            · exact Or.inr (by rw [hb]; exact List.mem_cons_of_mem _ e)
            · exact Or.inl (List.mem_singleton.mp e)
          · unfold v_push
            rw [if_pos (by omega), ← a13, hb, List.map_append, ← a12]
            rfl
end KXE
