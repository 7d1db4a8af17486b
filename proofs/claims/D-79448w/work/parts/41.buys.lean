set_option maxRecDepth 100000
/-! ===== pilgrims: told of, what they would buy, what they buy ===== -/
section KPB
variable {Z : ka_Z} {w : Nat} {H0 H : ka_H} {s : Nat} {ad : Nat → Nat} {A : kAp}
theorem ko_season {d : Int32} : ka_T Z (pm_X0_seasonOf d) w H (ka_V w H (v_season d)) := by
  unfold pm_X0_seasonOf
  exact ka_div (by decide) (ka_rem (by decide) (ka_pure ⟨rfl, rfl, rfl⟩))
theorem ko_tells {days g f c : Int32} (hM : kc_mut H0 H s ad A) (hl : A.ps.length ≤ 6) (hw : 500 ≤ w) : ka_T Z (pm_X1_tells (some s) days g f c) w H (kq_R H0 s ad w 500 (v_tells A.V days g f c)) := by
  obtain ⟨mc, hps⟩ := kg_ps hM.2.1
  have hs := kg_s hM.2.1
  have hVl := kvl_ps A
  unfold pm_X1_tells v_tells
  dsimp only
  refine ka_gR (by first | exact ka_same | assumption | exact ka_ne1 (by first | assumption | exact Ne.symm (by assumption)) (by first | exact ka_same | assumption | exact ka_ne1 (by first | assumption | exact Ne.symm (by assumption)) (by first | exact ka_same | assumption | exact ka_ne1 (by first | assumption | exact Ne.symm (by assumption)) (by first | exact ka_same | assumption | exact ka_ne1 (by first | assumption | exact Ne.symm (by assumption)) (by first | exact ka_same | assumption | exact ka_ne1 (by first | assumption | exact Ne.symm (by assumption)) (by first | exact ka_same | assumption | exact ka_ne1 (by first | assumption | exact Ne.symm (by assumption)) (by first | exact ka_same | assumption))))))) rfl rfl ?_
  refine ka_is hps rfl (ka_use (kl_size hps) ?_)
  rw [List.length_map]
  by_cases h6 : 6 ≤ A.ps.length
  · rw [if_pos (show 6 ≤ A.V.ps.length by omega)]
    refine ka_ifP ((k3_le (a := 6) (by decide) (by omega)).mpr h6) ?_
    unfold pb_X1_tells_17
    exact ka_needsF (by omega) (fun q hq => kq_no hM (by omega) rfl (by omega) q hq)
  · rw [if_neg (show ¬ 6 ≤ A.V.ps.length by omega)]
    refine ka_ifN (fun z => h6 ((k3_le (a := 6) (by decide) (by omega)).mp z)) ?_
    unfold pb_X1_tells_17
    refine ka_needsT (by decide) ?_
    refine ka_gI (by first | exact ka_same | assumption | exact ka_ne1 (by first | assumption | exact Ne.symm (by assumption)) (by first | exact ka_same | assumption | exact ka_ne1 (by first | assumption | exact Ne.symm (by assumption)) (by first | exact ka_same | assumption | exact ka_ne1 (by first | assumption | exact Ne.symm (by assumption)) (by first | exact ka_same | assumption | exact ka_ne1 (by first | assumption | exact Ne.symm (by assumption)) (by first | exact ka_same | assumption | exact ka_ne1 (by first | assumption | exact Ne.symm (by assumption)) (by first | exact ka_same | assumption | exact ka_ne1 (by first | assumption | exact Ne.symm (by assumption)) (by first | exact ka_same | assumption))))))) rfl rfl ?_
    refine ka_use ko_season ?_
    have hfin : ∀ t : Int32, t = (if v_season (A.sc 0 + days) = 3 then ((A.sc 0 + days) / 30 + 1) * 30 else A.sc 0 + days) → ka_T Z (pb_X1_tells_55 (some s) g f c t) w H (kq_R H0 s ad w 500 (.inr (Int32.ofNat (A.V.ps.length + 1), A.V.cs, A.V.ls, A.V.bx, A.V.st, A.V.ps ++ [(if v_season (A.sc 0 + days) = 3 then ((A.sc 0 + days) / 30 + 1) * 30 else A.sc 0 + days, g, f, c)], A.V.2.2.2.2.2))) := by
      intro t ht
      rw [← ht]
      unfold pb_X1_tells_55
      refine ka_gR (by first | exact ka_same | assumption | exact ka_ne1 (by first | assumption | exact Ne.symm (by assumption)) (by first | exact ka_same | assumption | exact ka_ne1 (by first | assumption | exact Ne.symm (by assumption)) (by first | exact ka_same | assumption | exact ka_ne1 (by first | assumption | exact Ne.symm (by assumption)) (by first | exact ka_same | assumption | exact ka_ne1 (by first | assumption | exact Ne.symm (by assumption)) (by first | exact ka_same | assumption | exact ka_ne1 (by first | assumption | exact Ne.symm (by assumption)) (by first | exact ka_same | assumption | exact ka_ne1 (by first | assumption | exact Ne.symm (by assumption)) (by first | exact ka_same | assumption))))))) rfl rfl ?_
      refine ka_new (by omega) (fun a ha => ?_)
      have hM1 := ku_new (o := kc_P (a, t, g, f, c)) hM ha
      refine ka_nn (ka_call (P := fun _ w' H' => w' = w - (4 + 5) ∧ H' = ka_up H a (kc_P (a, t, g, f, c))) ?_ (fun _ v K hp => ?_))
      · unfold pm_X10_init
        refine ka_nn ?_
        refine ka_pI (by first | exact ka_same | assumption | exact ka_ne1 (by first | assumption | exact Ne.symm (by assumption)) (by first | exact ka_same | assumption | exact ka_ne1 (by first | assumption | exact Ne.symm (by assumption)) (by first | exact ka_same | assumption | exact ka_ne1 (by first | assumption | exact Ne.symm (by assumption)) (by first | exact ka_same | assumption | exact ka_ne1 (by first | assumption | exact Ne.symm (by assumption)) (by first | exact ka_same | assumption | exact ka_ne1 (by first | assumption | exact Ne.symm (by assumption)) (by first | exact ka_same | assumption | exact ka_ne1 (by first | assumption | exact Ne.symm (by assumption)) (by first | exact ka_same | assumption))))))) rfl rfl (Nat.le_of_ble_eq_true rfl) ?_
        refine ka_pI (by first | exact ka_same | assumption | exact ka_ne1 (by first | assumption | exact Ne.symm (by assumption)) (by first | exact ka_same | assumption | exact ka_ne1 (by first | assumption | exact Ne.symm (by assumption)) (by first | exact ka_same | assumption | exact ka_ne1 (by first | assumption | exact Ne.symm (by assumption)) (by first | exact ka_same | assumption | exact ka_ne1 (by first | assumption | exact Ne.symm (by assumption)) (by first | exact ka_same | assumption | exact ka_ne1 (by first | assumption | exact Ne.symm (by assumption)) (by first | exact ka_same | assumption | exact ka_ne1 (by first | assumption | exact Ne.symm (by assumption)) (by first | exact ka_same | assumption))))))) rfl rfl (Nat.le_of_ble_eq_true rfl) ?_
        refine ka_pI (by first | exact ka_same | assumption | exact ka_ne1 (by first | assumption | exact Ne.symm (by assumption)) (by first | exact ka_same | assumption | exact ka_ne1 (by first | assumption | exact Ne.symm (by assumption)) (by first | exact ka_same | assumption | exact ka_ne1 (by first | assumption | exact Ne.symm (by assumption)) (by first | exact ka_same | assumption | exact ka_ne1 (by first | assumption | exact Ne.symm (by assumption)) (by first | exact ka_same | assumption | exact ka_ne1 (by first | assumption | exact Ne.symm (by assumption)) (by first | exact ka_same | assumption | exact ka_ne1 (by first | assumption | exact Ne.symm (by assumption)) (by first | exact ka_same | assumption))))))) rfl rfl (Nat.le_of_ble_eq_true rfl) ?_
        refine ka_pI (by first | exact ka_same | assumption | exact ka_ne1 (by first | assumption | exact Ne.symm (by assumption)) (by first | exact ka_same | assumption | exact ka_ne1 (by first | assumption | exact Ne.symm (by assumption)) (by first | exact ka_same | assumption | exact ka_ne1 (by first | assumption | exact Ne.symm (by assumption)) (by first | exact ka_same | assumption | exact ka_ne1 (by first | assumption | exact Ne.symm (by assumption)) (by first | exact ka_same | assumption | exact ka_ne1 (by first | assumption | exact Ne.symm (by assumption)) (by first | exact ka_same | assumption | exact ka_ne1 (by first | assumption | exact Ne.symm (by assumption)) (by first | exact ka_same | assumption))))))) rfl rfl (Nat.le_of_ble_eq_true rfl) ?_
        refine ka_pure ⟨rfl, ?_⟩
        simp only [ka_up_up]
        rfl
      · obtain ⟨rfl, rfl⟩ := hp
        obtain ⟨mc1, hps1⟩ := kg_ps hM1.2.1
        refine ka_is hps1 rfl (ka_call (kl_add hps1 ka_same rfl (by rw [List.length_map]; omega) (by omega)) (fun _ v K hp => ?_))
        obtain ⟨-, hv, rfl⟩ := hp
        have hM2 := ku_pil (mc := mc1 + 1) (ps := A.ps ++ [(a, t, g, f, c)]) hM1 (fun p hp => by
          rcases List.mem_append.mp hp with e | e
          · exact kg_p hM1.2.1 e
          · rw [List.mem_singleton.mp e]
            exact ka_same)
        have e0 : (A.ps ++ [(a, t, g, f, c)]).map (·.1) = A.ps.map (·.1) ++ [a] := by simp
        rw [e0] at hM2
        refine ka_gR (kg_s hM2.2.1) rfl rfl ?_
        refine ka_is ka_same rfl (ka_use (kl_size ka_same) (ka_pure ⟨by omega, ?_, _, hM2, ?_⟩))
        · rw [List.length_append, List.length_map, hVl]
          rfl
        · show (A.V.cs, A.V.ls, A.V.bx, A.V.st, (A.ps ++ [(a, t, g, f, c)]).map (fun c : kP => c.2), A.V.2.2.2.2.2) = _
          rw [List.map_append]
          rfl
    by_cases h3 : v_season (A.sc 0 + days) = 3
    · refine ka_ifN (fun z => z h3) (ka_div (by decide) (hfin _ ?_))
      rw [if_pos h3]
    · refine ka_ifP h3 (hfin _ ?_)
      rw [if_neg h3]
theorem ko_wantLoop {p : kP} (hS : kc_shop H s ad A) (hp : H p.1 = some (kc_P p)) (hlen : A.st.length ≤ 6) (hbs : ∀ r ∈ A.st, r.bs.length < 2 ^ 16) (hso : A.so.length < 8) : ∀ (rest done : List kS) (fuel w : Nat) (best : Int32), A.st = done ++ rest → rest.length < fuel → 27 * rest.length ≤ w → (best = -6 ∨ ∃ j, j < A.st.length ∧ best = Int32.ofNat j) → ka_T Z (pb_X1_wanted_5 fuel (some s) (some p.1) best (Int32.ofNat done.length)) w H (fun r w' H' => r = v_want p.2 A.V.st (rest.map kS.V) done.length best ∧ w ≤ w' + 27 * rest.length ∧ H' = H) := by
  obtain ⟨mc, hst⟩ := kg_st hS
  obtain ⟨mc5, hso5⟩ := kg_so hS
  have hs := kg_s hS
  intro rest
  induction rest with
  | nil =>
    intro done fuel w best hA hf hw hb
    obtain ⟨fuel, rfl⟩ : ∃ n, fuel = n + 1 := ⟨fuel - 1, by omega⟩
    have hA1 : done.length = A.st.length := by rw [hA, List.append_nil]
    unfold pb_X1_wanted_5
    refine ka_gR (by first | exact ka_same | assumption | exact ka_ne1 (by first | assumption | exact Ne.symm (by assumption)) (by first | exact ka_same | assumption | exact ka_ne1 (by first | assumption | exact Ne.symm (by assumption)) (by first | exact ka_same | assumption | exact ka_ne1 (by first | assumption | exact Ne.symm (by assumption)) (by first | exact ka_same | assumption | exact ka_ne1 (by first | assumption | exact Ne.symm (by assumption)) (by first | exact ka_same | assumption | exact ka_ne1 (by first | assumption | exact Ne.symm (by assumption)) (by first | exact ka_same | assumption | exact ka_ne1 (by first | assumption | exact Ne.symm (by assumption)) (by first | exact ka_same | assumption))))))) rfl rfl ?_
    refine ka_is hst rfl (ka_use (kl_size hst) ?_)
    rw [List.length_map]
    exact ka_ifP ((k3_le (by omega) (by omega)).mpr (by omega)) (ka_pure ⟨rfl, by omega, rfl⟩)
  | cons r t ih =>
    intro done fuel w best hA hf hw hb
    obtain ⟨fuel, rfl⟩ : ∃ n, fuel = n + 1 := ⟨fuel - 1, by omega⟩
    have hAl : A.st.length = done.length + (t.length + 1) := by rw [hA, List.length_append]; rfl
    have hrm : r ∈ A.st := by rw [hA]; simp
    have hr0 := kg_r hS hrm
    have hL0 := (kg_rs hS hrm)
    simp only [List.length_cons] at hf hw
    have hno : ∀ v, w ≤ v + 27 → ¬ (v_done r.V = true ∧ r.V.1 = p.2.2.1 ∧ ¬ v_fine r.V.bs < p.2.2.2.1 ∧ (best = -6 ∨ v_fine r.V.bs < v_fine (A.V.st.getD best.toNatClampNeg (0, 0, 0, [])).bs)) → ka_T Z (pb_X1_wanted_103 (pb_X1_wanted_5 fuel) (some s) (some p.1) best (Int32.ofNat done.length)) v H (fun r' w' H' => r' = v_want p.2 A.V.st ((r :: t).map kS.V) done.length best ∧ w ≤ w' + 27 * (r :: t).length ∧ H' = H) := by
      intro v hv hnot
      unfold pb_X1_wanted_103
      rw [k3_succ]
      have h2 := ih (done ++ [r]) fuel v best (by rw [hA]; simp) (by omega) (by omega) hb
      rw [List.length_append] at h2
      refine ka_post h2 (fun r' w' H' hp => ?_)
      obtain ⟨g1, g2, g3⟩ := hp
      refine ⟨?_, by simp only [List.length_cons]; omega, g3⟩
      rw [g1, List.map_cons]
      show _ = v_want p.2 A.V.st (r.V :: t.map kS.V) done.length best
      rw [v_want, if_neg hnot]
      rfl
    have hyes : ∀ v, w ≤ v + 27 → (v_done r.V = true ∧ r.V.1 = p.2.2.1 ∧ ¬ v_fine r.V.bs < p.2.2.2.1 ∧ (best = -6 ∨ v_fine r.V.bs < v_fine (A.V.st.getD best.toNatClampNeg (0, 0, 0, [])).bs)) → ka_T Z (pb_X1_wanted_101 (pb_X1_wanted_5 fuel) (some s) (some p.1) (Int32.ofNat done.length)) v H (fun r' w' H' => r' = v_want p.2 A.V.st ((r :: t).map kS.V) done.length best ∧ w ≤ w' + 27 * (r :: t).length ∧ H' = H) := by
      intro v hv hyes
      unfold pb_X1_wanted_101 pb_X1_wanted_103
      rw [k3_succ]
      have h2 := ih (done ++ [r]) fuel v (Int32.ofNat done.length) (by rw [hA]; simp) (by omega) (by omega) (Or.inr ⟨done.length, by omega, rfl⟩)
      rw [List.length_append] at h2
      refine ka_post h2 (fun r' w' H' hp => ?_)
      obtain ⟨g1, g2, g3⟩ := hp
      refine ⟨?_, by simp only [List.length_cons]; omega, g3⟩
      rw [g1, List.map_cons]
      show _ = v_want p.2 A.V.st (r.V :: t.map kS.V) done.length best
      rw [v_want, if_pos hyes]
      rfl
    unfold pb_X1_wanted_5
    refine ka_gR (by first | exact ka_same | assumption | exact ka_ne1 (by first | assumption | exact Ne.symm (by assumption)) (by first | exact ka_same | assumption | exact ka_ne1 (by first | assumption | exact Ne.symm (by assumption)) (by first | exact ka_same | assumption | exact ka_ne1 (by first | assumption | exact Ne.symm (by assumption)) (by first | exact ka_same | assumption | exact ka_ne1 (by first | assumption | exact Ne.symm (by assumption)) (by first | exact ka_same | assumption | exact ka_ne1 (by first | assumption | exact Ne.symm (by assumption)) (by first | exact ka_same | assumption | exact ka_ne1 (by first | assumption | exact Ne.symm (by assumption)) (by first | exact ka_same | assumption))))))) rfl rfl ?_
    refine ka_is hst rfl (ka_use (kl_size hst) ?_)
    rw [List.length_map]
    refine ka_ifN (fun z => absurd ((k3_le (by omega) (by omega)).mp z) (by omega)) ?_
    refine ka_gR (by first | exact ka_same | assumption | exact ka_ne1 (by first | assumption | exact Ne.symm (by assumption)) (by first | exact ka_same | assumption | exact ka_ne1 (by first | assumption | exact Ne.symm (by assumption)) (by first | exact ka_same | assumption | exact ka_ne1 (by first | assumption | exact Ne.symm (by assumption)) (by first | exact ka_same | assumption | exact ka_ne1 (by first | assumption | exact Ne.symm (by assumption)) (by first | exact ka_same | assumption | exact ka_ne1 (by first | assumption | exact Ne.symm (by assumption)) (by first | exact ka_same | assumption | exact ka_ne1 (by first | assumption | exact Ne.symm (by assumption)) (by first | exact ka_same | assumption))))))) rfl rfl ?_
    refine ka_is hso5 rfl (ka_use (kl_size hso5) ?_)
    rw [List.length_map]
    refine ka_ifN (fun z => absurd ((k3_le (a := 8) (by omega) (by omega)).mp z) (by omega)) ?_
    refine ka_gR (by first | exact ka_same | assumption | exact ka_ne1 (by first | assumption | exact Ne.symm (by assumption)) (by first | exact ka_same | assumption | exact ka_ne1 (by first | assumption | exact Ne.symm (by assumption)) (by first | exact ka_same | assumption | exact ka_ne1 (by first | assumption | exact Ne.symm (by assumption)) (by first | exact ka_same | assumption | exact ka_ne1 (by first | assumption | exact Ne.symm (by assumption)) (by first | exact ka_same | assumption | exact ka_ne1 (by first | assumption | exact Ne.symm (by assumption)) (by first | exact ka_same | assumption | exact ka_ne1 (by first | assumption | exact Ne.symm (by assumption)) (by first | exact ka_same | assumption))))))) rfl rfl ?_
    refine ka_is hst rfl (ka_use (kl_get (v := r.1) hst (by rw [hA]; simp)) ?_)
    refine ka_cast hr0 rfl rfl (ka_is hr0 rfl (ka_use (ko_isDone hr0) ?_))
    by_cases h1 : v_done r.V = true
    · rw [if_pos h1]
      refine ka_ifN (by decide) ?_
      refine ka_gI (by first | exact ka_same | assumption | exact ka_ne1 (by first | assumption | exact Ne.symm (by assumption)) (by first | exact ka_same | assumption | exact ka_ne1 (by first | assumption | exact Ne.symm (by assumption)) (by first | exact ka_same | assumption | exact ka_ne1 (by first | assumption | exact Ne.symm (by assumption)) (by first | exact ka_same | assumption | exact ka_ne1 (by first | assumption | exact Ne.symm (by assumption)) (by first | exact ka_same | assumption | exact ka_ne1 (by first | assumption | exact Ne.symm (by assumption)) (by first | exact ka_same | assumption | exact ka_ne1 (by first | assumption | exact Ne.symm (by assumption)) (by first | exact ka_same | assumption))))))) rfl rfl ?_
      refine ka_gI hp rfl rfl ?_
      by_cases h2 : r.2.2.1 = p.2.2.1
      · refine ka_ifN (fun z => z h2) ?_
        refine ka_is hr0 rfl (ka_call (kb_fineness hL0.1 hL0.2 (hbs r hrm) (by omega)) (fun x v K hq => ?_))
        obtain ⟨rfl, hv, rfl⟩ := hq
        refine ka_gI hp rfl rfl ?_
        have hfV : kb_fine r.bs = v_fine r.V.bs := kv_fine r.bs
        rw [hfV]
        by_cases h3 : v_fine r.V.bs < p.2.2.2.1
        · exact ka_ifP h3 (hno v (by omega) (fun z => z.2.2.1 h3))
        · refine ka_ifN h3 ?_
          by_cases h4 : best = -6
          · exact ka_ifP h4 (hyes v (by omega) ⟨h1, h2, h3, Or.inl h4⟩)
          · refine ka_ifN h4 ?_
            obtain ⟨j, hj, hbj⟩ := hb.resolve_left h4
            have hjr := List.getElem?_eq_getElem hj
            have hjm := List.getElem_mem hj
            have hj0 := kg_r hS hjm
            have hjL := kg_rs hS hjm
            have hjV : A.V.st.getD best.toNatClampNeg (0, 0, 0, []) = (A.st[j]).V := by
              rw [hbj, k3_nat (by omega)]
              exact kvg_st hjr
            refine ka_is hr0 rfl (ka_call (kb_fineness hL0.1 hL0.2 (hbs r hrm) (by omega)) (fun x v2 K hq => ?_))
            obtain ⟨rfl, hv2, rfl⟩ := hq
            refine ka_gR (by first | exact ka_same | assumption | exact ka_ne1 (by first | assumption | exact Ne.symm (by assumption)) (by first | exact ka_same | assumption | exact ka_ne1 (by first | assumption | exact Ne.symm (by assumption)) (by first | exact ka_same | assumption | exact ka_ne1 (by first | assumption | exact Ne.symm (by assumption)) (by first | exact ka_same | assumption | exact ka_ne1 (by first | assumption | exact Ne.symm (by assumption)) (by first | exact ka_same | assumption | exact ka_ne1 (by first | assumption | exact Ne.symm (by assumption)) (by first | exact ka_same | assumption | exact ka_ne1 (by first | assumption | exact Ne.symm (by assumption)) (by first | exact ka_same | assumption))))))) rfl rfl ?_
            subst hbj
            refine ka_is hst rfl (ka_use (kl_get (v := A.st[j].1) hst (by rw [List.getElem?_map, hjr]; rfl)) ?_)
            refine ka_cast hj0 rfl rfl (ka_is hj0 rfl (ka_call (kb_fineness hjL.1 hjL.2 (hbs _ hjm) (by omega)) (fun x v3 K hq => ?_)))
            obtain ⟨rfl, hv3, rfl⟩ := hq
            rw [hfV, kv_fine (A.st[j]).bs]
            by_cases h5 : v_fine ((A.st[j]).bs.map (·.2)) ≤ v_fine r.V.bs
            · refine ka_ifP h5 (hno v3 (by omega) (fun z => ?_))
              rcases z.2.2.2 with e | e
              · exact h4 e
              · rw [hjV] at e
                exact absurd h5 (Int32.not_le.mpr e)
            · refine ka_ifN h5 (hyes v3 (by omega) ⟨h1, h2, h3, Or.inr ?_⟩)
              rw [hjV]
              exact Int32.not_le.mp h5
      · exact ka_ifP h2 (hno w (by omega) (fun z => h2 z.2.1))
    · rw [if_neg h1]
      exact ka_ifP rfl (hno w (by omega) (fun z => h1 z.1))
theorem ko_wanted {p : kP} (hS : kc_shop H s ad A) (hp : H p.1 = some (kc_P p)) (hlen : A.st.length ≤ 6) (hbs : ∀ r ∈ A.st, r.bs.length < 2 ^ 16) (hsol : A.so.length ≤ 100) (hw : 170 ≤ w) : ka_T Z (pm_X1_wanted (some s) (some p.1)) w H (fun r w' H' => r = v_wanted A.V p.2 ∧ w ≤ w' + 170 ∧ H' = H) := by
  unfold pm_X1_wanted v_wanted
  by_cases hso : A.so.length < 8
  · rw [if_neg (show ¬ 8 ≤ A.V.so.length by rw [kvl_so]; omega)]
    refine ka_post (ko_wantLoop hS hp hlen hbs hso A.st [] km_fuel w (-6) rfl (by unfold km_fuel; omega) (by omega) (Or.inl rfl)) (fun r w' H' hq => ?_)
    obtain ⟨g1, g2, g3⟩ := hq
    exact ⟨g1, by omega, g3⟩
  · rw [if_pos (show 8 ≤ A.V.so.length by rw [kvl_so]; omega)]
    obtain ⟨mc, hst⟩ := kg_st hS
    obtain ⟨mc5, hso5⟩ := kg_so hS
    have hs := kg_s hS
    have hfu : km_fuel = 99999 + 1 := rfl
    rw [hfu]
    unfold pb_X1_wanted_5
    refine ka_gR (by first | exact ka_same | assumption | exact ka_ne1 (by first | assumption | exact Ne.symm (by assumption)) (by first | exact ka_same | assumption | exact ka_ne1 (by first | assumption | exact Ne.symm (by assumption)) (by first | exact ka_same | assumption | exact ka_ne1 (by first | assumption | exact Ne.symm (by assumption)) (by first | exact ka_same | assumption | exact ka_ne1 (by first | assumption | exact Ne.symm (by assumption)) (by first | exact ka_same | assumption | exact ka_ne1 (by first | assumption | exact Ne.symm (by assumption)) (by first | exact ka_same | assumption | exact ka_ne1 (by first | assumption | exact Ne.symm (by assumption)) (by first | exact ka_same | assumption))))))) rfl rfl ?_
    refine ka_is hst rfl (ka_use (kl_size hst) ?_)
    rw [List.length_map]
    refine ka_ite (fun _ => ka_pure ⟨rfl, by omega, rfl⟩) (fun _ => ?_)
    refine ka_gR (by first | exact ka_same | assumption | exact ka_ne1 (by first | assumption | exact Ne.symm (by assumption)) (by first | exact ka_same | assumption | exact ka_ne1 (by first | assumption | exact Ne.symm (by assumption)) (by first | exact ka_same | assumption | exact ka_ne1 (by first | assumption | exact Ne.symm (by assumption)) (by first | exact ka_same | assumption | exact ka_ne1 (by first | assumption | exact Ne.symm (by assumption)) (by first | exact ka_same | assumption | exact ka_ne1 (by first | assumption | exact Ne.symm (by assumption)) (by first | exact ka_same | assumption | exact ka_ne1 (by first | assumption | exact Ne.symm (by assumption)) (by first | exact ka_same | assumption))))))) rfl rfl ?_
    refine ka_is hso5 rfl (ka_use (kl_size hso5) ?_)
    rw [List.length_map]
    exact ka_ifP ((k3_le (a := 8) (by omega) (by omega)).mpr (by omega)) (ka_pure ⟨rfl, by omega, rfl⟩)
theorem v_want_spec {p : vP} {all : List vS} : ∀ {rest : List vS} {i : Nat} {best : Int32}, (best = -6 ∨ ∃ j, j < i ∧ best = Int32.ofNat j) → (v_want p all rest i best = -6 ∨ ∃ j, j < i + rest.length ∧ v_want p all rest i best = Int32.ofNat j) := by
  intro rest
  induction rest with
  | nil => intro i best h; exact h
  | cons r t ih =>
    intro i best h
    rw [v_want]
    split
    · rcases ih (i := i + 1) (best := Int32.ofNat i) (Or.inr ⟨i, by omega, rfl⟩) with e | ⟨j, e1, e2⟩
      · exact Or.inl e
      · exact Or.inr ⟨j, by simp only [List.length_cons]; omega, e2⟩
    · rcases ih (i := i + 1) (best := best) (h.imp id (fun ⟨j, h1, h2⟩ => ⟨j, by omega, h2⟩)) with e | ⟨j, e1, e2⟩
      · exact Or.inl e
      · exact Or.inr ⟨j, by simp only [List.length_cons]; omega, e2⟩
theorem v_wanted_spec (V : kV) (p : vP) : v_wanted V p = -6 ∨ (V.so.length < 8 ∧ ∃ j, j < V.st.length ∧ v_wanted V p = Int32.ofNat j) := by
  unfold v_wanted
  split
  · exact Or.inl rfl
  · next h =>
    rcases v_want_spec (p := p) (all := V.st) (rest := V.st) (i := 0) (best := -6) (Or.inl rfl) with e | ⟨j, e1, e2⟩
    · exact Or.inl e
    · exact Or.inr ⟨by omega, j, by omega, e2⟩
/-- a string is sold: its beads in a new object -/
theorem kcp_sold {K : ka_H} {a r lr : Nat} {bs : List kB} {day : Int32} (hE : ka_E0 Z) (ha : K a = some (ka_ob 12 kz_Sold)) (hr : kb_B K r lr) (hL : kb_L K lr bs) (hn : r ≠ a) (hlen : bs.length ≤ 240) (hw : 708 ≤ w) : ka_T Z (pm_X14_init_2 (some a) (some r) day) w K (fun _ w' H' => w ≤ w' + 708 ∧ ∃ l mc, K l = none ∧ l ≠ a ∧ H' = ka_up (ka_up K l (ka_ls mc (bs.map (·.1)))) a (kc_D (a, l, day, none, bs))) := by
  unfold pm_X14_init_2
  refine ka_nn (ka_call (kb_init hE ha (Or.inr (Or.inr rfl)) (by omega)) (fun _ w' H' hp => ?_))
  obtain ⟨rfl, l, mc, hl, rfl⟩ := hp
  have hal : a ≠ l := ka_dom ha hl
  have hla := hal.symm
  refine ka_pI (by first | exact ka_same | assumption | exact ka_ne1 (by first | assumption | exact Ne.symm (by assumption)) (by first | exact ka_same | assumption | exact ka_ne1 (by first | assumption | exact Ne.symm (by assumption)) (by first | exact ka_same | assumption | exact ka_ne1 (by first | assumption | exact Ne.symm (by assumption)) (by first | exact ka_same | assumption | exact ka_ne1 (by first | assumption | exact Ne.symm (by assumption)) (by first | exact ka_same | assumption | exact ka_ne1 (by first | assumption | exact Ne.symm (by assumption)) (by first | exact ka_same | assumption | exact ka_ne1 (by first | assumption | exact Ne.symm (by assumption)) (by first | exact ka_same | assumption))))))) rfl rfl (Nat.le_of_ble_eq_true rfl) ?_
  refine ka_pR (by first | exact ka_same | assumption | exact ka_ne1 (by first | assumption | exact Ne.symm (by assumption)) (by first | exact ka_same | assumption | exact ka_ne1 (by first | assumption | exact Ne.symm (by assumption)) (by first | exact ka_same | assumption | exact ka_ne1 (by first | assumption | exact Ne.symm (by assumption)) (by first | exact ka_same | assumption | exact ka_ne1 (by first | assumption | exact Ne.symm (by assumption)) (by first | exact ka_same | assumption | exact ka_ne1 (by first | assumption | exact Ne.symm (by assumption)) (by first | exact ka_same | assumption | exact ka_ne1 (by first | assumption | exact Ne.symm (by assumption)) (by first | exact ka_same | assumption))))))) rfl (Nat.le_of_ble_eq_true rfl) ?_
  rw [ka_up_up, ka_up_up]
  refine ka_is (by first | exact ka_same | assumption | exact ka_ne1 (by first | assumption | exact Ne.symm (by assumption)) (by first | exact ka_same | assumption | exact ka_ne1 (by first | assumption | exact Ne.symm (by assumption)) (by first | exact ka_same | assumption | exact ka_ne1 (by first | assumption | exact Ne.symm (by assumption)) (by first | exact ka_same | assumption | exact ka_ne1 (by first | assumption | exact Ne.symm (by assumption)) (by first | exact ka_same | assumption | exact ka_ne1 (by first | assumption | exact Ne.symm (by assumption)) (by first | exact ka_same | assumption | exact ka_ne1 (by first | assumption | exact Ne.symm (by assumption)) (by first | exact ka_same | assumption))))))) rfl ?_
  obtain ⟨c, fs, hr1, hr2⟩ := hr
  have hrl : r ≠ l := ka_dom hr1 hl
  obtain ⟨⟨mc2, h2⟩, hb⟩ := hL
  have hkl : lr ≠ l := ka_dom h2 hl
  have hka : lr ≠ a := ka_kinds h2 ha (by simp)
  refine ka_call (kb_becomes (l := l) (l2 := lr) (mc := mc) (mc2 := mc2) (xs := []) (ys := bs.map (·.1)) ⟨12, _, ka_same, Or.inr (Or.inr rfl)⟩ ⟨c, fs, (ka_ne hn).trans ((ka_ne hrl).trans hr1), hr2⟩ (by first | exact ka_same | assumption | exact ka_ne1 (by first | assumption | exact Ne.symm (by assumption)) (by first | exact ka_same | assumption | exact ka_ne1 (by first | assumption | exact Ne.symm (by assumption)) (by first | exact ka_same | assumption | exact ka_ne1 (by first | assumption | exact Ne.symm (by assumption)) (by first | exact ka_same | assumption | exact ka_ne1 (by first | assumption | exact Ne.symm (by assumption)) (by first | exact ka_same | assumption | exact ka_ne1 (by first | assumption | exact Ne.symm (by assumption)) (by first | exact ka_same | assumption | exact ka_ne1 (by first | assumption | exact Ne.symm (by assumption)) (by first | exact ka_same | assumption))))))) (by first | exact ka_same | assumption | exact ka_ne1 (by first | assumption | exact Ne.symm (by assumption)) (by first | exact ka_same | assumption | exact ka_ne1 (by first | assumption | exact Ne.symm (by assumption)) (by first | exact ka_same | assumption | exact ka_ne1 (by first | assumption | exact Ne.symm (by assumption)) (by first | exact ka_same | assumption | exact ka_ne1 (by first | assumption | exact Ne.symm (by assumption)) (by first | exact ka_same | assumption | exact ka_ne1 (by first | assumption | exact Ne.symm (by assumption)) (by first | exact ka_same | assumption | exact ka_ne1 (by first | assumption | exact Ne.symm (by assumption)) (by first | exact ka_same | assumption))))))) (by simpa using hlen) (by omega)) (fun _ w' H' hp => ?_)
  obtain ⟨hw', rfl⟩ := hp
  refine ka_pure ⟨by omega, l, mc + 1, hl, hla, ?_⟩
  rw [ka_up_comm hal, ka_up_up]
  rfl
theorem kc_perm_so {so' : List kDp} {d : kDp} (e : so' = A.so ++ [d]) : ((kc_lists ad (A.cs, A.ls, A.bx, A.st, A.ps, so', A.2.2.2.2.2.2)).map (·.1)).Perm (d.2.1 :: (kc_lists ad A).map (·.1)) := by
  subst e
  have hin : kc_inD (A.so ++ [d]) = kc_inD A.so ++ [(d.2.1, d.bs.map (·.1))] := by simp [kc_inD]
  have e1 : (kc_lists ad (A.cs, A.ls, A.bx, A.st, A.ps, A.so ++ [d], A.2.2.2.2.2.2)).map (·.1) = ((kc_top ad A).map (·.1) ++ ((kc_inS A.st).map (·.1) ++ (kc_inD A.so).map (·.1))) ++ d.2.1 :: (kc_inD A.wa).map (·.1) := by
    unfold kc_lists
    rw [show kc_inD (kAp.so (A.cs, A.ls, A.bx, A.st, A.ps, A.so ++ [d], A.2.2.2.2.2.2)) = kc_inD A.so ++ [(d.2.1, d.bs.map (·.1))] from hin]
    simp only [List.map_append, List.map_cons, List.map_nil, List.append_assoc, List.cons_append, List.nil_append]
    rfl
  have e2 : (kc_lists ad A).map (·.1) = ((kc_top ad A).map (·.1) ++ ((kc_inS A.st).map (·.1) ++ (kc_inD A.so).map (·.1))) ++ (kc_inD A.wa).map (·.1) := by
    unfold kc_lists
    simp only [List.map_append, List.append_assoc]
  rw [e1, e2]
  exact List.perm_middle
theorem kc_perm_wa {wa' : List kDp} {d : kDp} (e : wa' = A.wa ++ [d]) : ((kc_lists ad (A.cs, A.ls, A.bx, A.st, A.ps, A.so, wa', A.2.2.2.2.2.2.2)).map (·.1)).Perm (d.2.1 :: (kc_lists ad A).map (·.1)) := by
  subst e
  have hin : kc_inD (A.wa ++ [d]) = kc_inD A.wa ++ [(d.2.1, d.bs.map (·.1))] := by simp [kc_inD]
  have e1 : (kc_lists ad (A.cs, A.ls, A.bx, A.st, A.ps, A.so, A.wa ++ [d], A.2.2.2.2.2.2.2)).map (·.1) = ((kc_top ad A).map (·.1) ++ ((kc_inS A.st).map (·.1) ++ ((kc_inD A.so).map (·.1) ++ (kc_inD A.wa).map (·.1)))) ++ d.2.1 :: [] := by
    unfold kc_lists
    rw [show kc_inD (kAp.wa (A.cs, A.ls, A.bx, A.st, A.ps, A.so, A.wa ++ [d], A.2.2.2.2.2.2.2)) = kc_inD A.wa ++ [(d.2.1, d.bs.map (·.1))] from hin]
    simp only [List.map_append, List.map_cons, List.map_nil, List.append_assoc, List.cons_append, List.nil_append]
    rfl
  have e2 : (kc_lists ad A).map (·.1) = ((kc_top ad A).map (·.1) ++ ((kc_inS A.st).map (·.1) ++ ((kc_inD A.so).map (·.1) ++ (kc_inD A.wa).map (·.1)))) ++ [] := by
    unfold kc_lists
    simp only [List.map_append, List.append_assoc, List.append_nil]
  rw [e1, e2]
  exact List.perm_middle
/-- some strings go -/
theorem ku_subS {st' : List kS} {mc : Int32} (h : kc_mut H0 H s ad A) (hsub : st'.Sublist A.st) : kc_mut H0 (ka_up H (ad 3) (ka_ls mc (st'.map (·.1)))) s ad (A.cs, A.ls, A.bx, st', A.2.2.2.2) := by
  obtain ⟨mc0, hx⟩ := kg_st h.2.1
  have hnd : ((kc_lists ad (A.cs, A.ls, A.bx, st', A.2.2.2.2)).map (·.1)).Nodup := by
    have hs2 : ((kc_lists ad (A.cs, A.ls, A.bx, st', A.2.2.2.2)).map (·.1)).Sublist ((kc_lists ad A).map (·.1)) := by
      have e1 : ∀ B : kAp, (kc_lists ad B).map (·.1) = [ad 0, ad 1, ad 8, ad 3, ad 4, ad 5, ad 6] ++ (B.st.map (·.2.1) ++ ((kc_inD B.so ++ kc_inD B.wa).map (·.1))) := by
        intro B
        unfold kc_lists kc_top kc_inS
        simp only [List.map_append, List.map_cons, List.map_nil, List.map_map]
        rfl
      rw [e1, e1]
      exact List.Sublist.append (List.Sublist.refl _) (List.Sublist.append (hsub.map _) (List.Sublist.refl _))
    exact h.2.2.2.1.sublist hs2
  have hon := ks_only (key := (·.1)) (i := 3) (a := (ad 3, st'.map (·.1))) hnd rfl
  have hmem : ∀ r ∈ st', r ∈ A.st := fun r hr => hsub.subset hr
  refine ku_listG h hx (h.2.2.1 _ (by simp [kc_mine])) rfl rfl (fun q hq => ?_) hnd (fun q hq => ?_) (fun a ha => ?_) h.2.2.2.2.1 h.2.2.2.2.2.1 (h.2.2.2.2.2.2.sublist (hsub.map _))
  · rcases hon q hq with e | e
    · exact Or.inl e
    · refine Or.inr ⟨e, ?_⟩
      rcases kc_lists_mem.mp hq with e1 | e1 | e1 | e1 | e1 | e1 | e1 | e1 | e1 | e1
      · exact h.2.1.2.2.2.1 q (kc_lists_mem.mpr (by simp [e1]))
      · exact h.2.1.2.2.2.1 q (kc_lists_mem.mpr (by simp [e1]))
      · exact h.2.1.2.2.2.1 q (kc_lists_mem.mpr (by simp [e1]))
      · exact absurd (by rw [e1]) e
      · exact h.2.1.2.2.2.1 q (kc_lists_mem.mpr (by simp [e1]))
      · exact h.2.1.2.2.2.1 q (kc_lists_mem.mpr (by simp [e1]))
      · exact h.2.1.2.2.2.1 q (kc_lists_mem.mpr (by simp [e1]))
      · obtain ⟨r, hr, rfl⟩ := List.mem_map.mp e1
        exact (kg_rs h.2.1 (hmem r hr)).2.1
      · exact h.2.1.2.2.2.1 q (kc_lists_mem.mpr (Or.inr (Or.inr (Or.inr (Or.inr (Or.inr (Or.inr (Or.inr (Or.inr (Or.inl e1))))))))))
      · exact h.2.1.2.2.2.1 q (kc_lists_mem.mpr (Or.inr (Or.inr (Or.inr (Or.inr (Or.inr (Or.inr (Or.inr (Or.inr (Or.inr e1))))))))))
  · rcases kc_mem.mp hq with e | e | ⟨b, hb2, e⟩ | e | e | e | ⟨b, hb2, e⟩
    · exact h.2.1.2.2.2.2 q (kc_mem.mpr (Or.inl e))
    · exact h.2.1.2.2.2.2 q (kc_mem.mpr (Or.inr (Or.inl e)))
    · exact h.2.1.2.2.2.2 q (kc_mem.mpr (Or.inr (Or.inr (Or.inl ⟨b, hmem b hb2, e⟩))))
    · exact h.2.1.2.2.2.2 q (kc_mem.mpr (Or.inr (Or.inr (Or.inr (Or.inl e)))))
    · exact h.2.1.2.2.2.2 q (kc_mem.mpr (Or.inr (Or.inr (Or.inr (Or.inr (Or.inl e))))))
    · exact h.2.1.2.2.2.2 q (kc_mem.mpr (Or.inr (Or.inr (Or.inr (Or.inr (Or.inr (Or.inl e)))))))
    · rw [← e]
      rcases kc_beads_mem.mp hb2 with e5 | ⟨r', hr', e5⟩ | e5
      · exact kg_b h.2.1 (kc_beads_mem.mpr (Or.inl e5))
      · exact kg_b h.2.1 (kc_beads_mem.mpr (Or.inr (Or.inl ⟨r', hmem r' hr', e5⟩)))
      · exact kg_b h.2.1 (kc_beads_mem.mpr (Or.inr (Or.inr e5)))
  · rcases kc_mine_mem.mp ha with e1 | e1 | e1 | e1 | ⟨b, hb, e1⟩ | ⟨b, hb, e1⟩
    · exact h.2.2.1 a (kc_mine_mem.mpr (Or.inl e1))
    · exact h.2.2.1 a (kc_mine_mem.mpr (Or.inr (Or.inl e1)))
    · exact h.2.2.1 a (kc_mine_mem.mpr (Or.inr (Or.inr (Or.inl e1))))
    · exact h.2.2.1 a (kc_mine_mem.mpr (Or.inr (Or.inr (Or.inr (Or.inl e1)))))
    · exact h.2.2.1 a (kc_mine_mem.mpr (Or.inr (Or.inr (Or.inr (Or.inr (Or.inl ⟨b, hmem b hb, e1⟩))))))
    · exact h.2.2.1 a (kc_mine_mem.mpr (Or.inr (Or.inr (Or.inr (Or.inr (Or.inr ⟨b, hmem b hb, e1⟩))))))
/-- a pilgrim buys: all but the workshop's cell, the strings and what is sold is as it was -/
theorem ko_buys {p : kP} (hE : ka_E0 Z) (hM : kc_mut H0 H s ad A) (hp : H p.1 = some (kc_P p)) (hlen : A.st.length ≤ 6) (hbs : ∀ r ∈ A.st, r.bs.length ≤ 200) (hsol : A.so.length ≤ 8) (hw : 1400 ≤ w) : ka_T Z (pm_X1_buys (some s) (some p.1)) w H (fun r w' H' => w ≤ w' + 1400 ∧ r = (v_buys A.V p.2).1 ∧ (∀ x o, x ≠ s → x ≠ ad 3 → x ≠ ad 5 → H x = some o → H' x = some o) ∧ ∃ A', kc_mut H0 H' s ad A' ∧ A'.V = (v_buys A.V p.2).2 ∧ A'.ps = A.ps) := by
  have hs := kg_s hM.2.1
  unfold pm_X1_buys
  refine ka_is hs rfl (ka_call (ko_wanted hM.2.1 hp hlen (fun r hr => Nat.lt_of_le_of_lt (hbs r hr) (by omega)) (by omega) (by omega)) (fun x v K hq => ?_))
  obtain ⟨rfl, hv, rfl⟩ := hq
  unfold v_buys
  dsimp only
  rcases v_wanted_spec A.V p.2 with e | ⟨e0, j, hj, e⟩
  · rw [e, if_pos rfl]
    refine ka_ifN (fun z => z rfl) ?_
    refine ka_ret rfl ?_
    exact ka_pure ⟨by omega, rfl, fun _ _ _ _ _ h => h, A, hM, rfl, rfl⟩
  · rw [kvl_st] at hj
    rw [kvl_so] at e0
    rw [e, if_neg (k3_m6 (by omega)), k3_nat (by omega)]
    refine ka_ifP (k3_m6 (by omega)) ?_
    have hrj := List.getElem?_eq_getElem hj
    have hrm := List.getElem_mem hj
    have hr0 := kg_r hM.2.1 hrm
    have hLr := kg_rs hM.2.1 hrm
    obtain ⟨mc, hst⟩ := kg_st hM.2.1
    refine ka_gR (by first | exact ka_same | assumption | exact ka_ne1 (by first | assumption | exact Ne.symm (by assumption)) (by first | exact ka_same | assumption | exact ka_ne1 (by first | assumption | exact Ne.symm (by assumption)) (by first | exact ka_same | assumption | exact ka_ne1 (by first | assumption | exact Ne.symm (by assumption)) (by first | exact ka_same | assumption | exact ka_ne1 (by first | assumption | exact Ne.symm (by assumption)) (by first | exact ka_same | assumption | exact ka_ne1 (by first | assumption | exact Ne.symm (by assumption)) (by first | exact ka_same | assumption | exact ka_ne1 (by first | assumption | exact Ne.symm (by assumption)) (by first | exact ka_same | assumption))))))) rfl rfl ?_
    refine ka_new (by omega) (fun a ha => ?_)
    have hM1 := ku_new (o := ka_ob 12 kz_Sold) hM ha
    refine ka_gR (kg_s hM1.2.1) rfl rfl ?_
    have hst1 : ka_up K a (ka_ob 12 kz_Sold) (ad 3) = some (ka_ls mc (A.st.map (·.1))) := (ka_ne (ka_dom hst ha)).trans hst
    refine ka_is hst1 rfl (ka_call (kl_removeAt (v := A.st[j].1) hst1 (by rw [List.getElem?_map, hrj]; rfl)) (fun x v2 K2 hq => ?_))
    obtain ⟨rfl, rfl, rfl⟩ := hq
    have hM2 := ku_subS (mc := mc + 1) (st' := A.st.eraseIdx j) hM1 (List.eraseIdx_sublist ..)
    rw [← ks_emap]
    have hne3 : ∀ {x : Nat} {o : ka_O}, K x = some o → x ≠ ad 3 → ka_up (ka_up K a (ka_ob 12 kz_Sold)) (ad 3) (ka_ls (mc + 1) ((A.st.eraseIdx j).map (·.1))) x = some o := fun {x o} hx h3 => (ka_ne h3).trans ((ka_ne (ka_dom hx ha)).trans hx)
    have hr2 := hne3 hr0 (ka_kinds hr0 hst (by simp))
    have hdist := ks_only (key := (·.1)) (i := 3) (a := (ad 3, A.st.map (·.1))) hM.2.2.2.1 rfl
    obtain ⟨⟨ml, hl0⟩, hlb⟩ := hLr.2
    have hl3 : A.st[j].2.1 ≠ ad 3 := by
      have hnd := hM.2.2.2.1
      intro z
      have hq : (A.st[j].2.1, (A.st[j]).bs.map (·.1)) ∈ kc_inS A.st := List.mem_map_of_mem (f := fun r : kS => (r.2.1, r.bs.map (·.1))) hrm
      have e9 : (kc_lists ad A).map (·.1) = [ad 0, ad 1, ad 8] ++ (ad 3 :: ([ad 4, ad 5, ad 6] ++ ((kc_inS A.st ++ (kc_inD A.so ++ kc_inD A.wa)).map (·.1)))) := by
        unfold kc_lists kc_top
        simp only [List.map_append, List.map_cons, List.map_nil]
        rfl
      rw [e9, List.nodup_append] at hnd
      refine (List.nodup_cons.mp hnd.2.1).1 ?_
      rw [← z]
      exact List.mem_append_right _ (List.mem_map_of_mem (f := fun q : Nat × List Nat => q.1) (List.mem_append_left _ hq))
    have hl2 := hne3 hl0 hl3
    refine ka_cast hr2 rfl rfl ?_
    refine ka_gI (kg_s hM2.2.1) rfl rfl ?_
    have hB2 : kb_B (ka_up (ka_up K a (ka_ob 12 kz_Sold)) (ad 3) (ka_ls (mc + 1) ((A.st.eraseIdx j).map (·.1)))) A.st[j].1 A.st[j].2.1 := ⟨7, _, hr2, Or.inr (Or.inl rfl)⟩
    have hL2 : kb_L (ka_up (ka_up K a (ka_ob 12 kz_Sold)) (ad 3) (ka_ls (mc + 1) ((A.st.eraseIdx j).map (·.1)))) A.st[j].2.1 (A.st[j]).bs := ⟨⟨ml, hl2⟩, fun b hb => hne3 (hlb b hb) (ka_kinds (hlb b hb) hst (by simp))⟩
    have ha3 : a ≠ ad 3 := (ka_dom hst ha).symm
    have ha2 : ka_up (ka_up K a (ka_ob 12 kz_Sold)) (ad 3) (ka_ls (mc + 1) ((A.st.eraseIdx j).map (·.1))) a = some (ka_ob 12 kz_Sold) := (ka_ne ha3).trans ka_same
    refine ka_nn (ka_call (kcp_sold hE ha2 hB2 hL2 (ka_dom hr0 ha) (Nat.le_trans (hbs _ hrm) (by omega)) (by omega)) (fun _ v3 K3 hq => ?_))
    obtain ⟨hv3, l, ml2, hl, hla, rfl⟩ := hq
    have hal : a ≠ l := hla.symm
    -- the new object and its list, beside the workshop
    have hK3 : ka_up (ka_up (ka_up (ka_up K a (ka_ob 12 kz_Sold)) (ad 3) (ka_ls (mc + 1) ((A.st.eraseIdx j).map (·.1)))) l (ka_ls ml2 ((A.st[j]).bs.map (·.1)))) a (kc_D (a, l, A.sc 0, none, (A.st[j]).bs)) = ka_up (ka_up (ka_up K (ad 3) (ka_ls (mc + 1) ((A.st.eraseIdx j).map (·.1)))) l (ka_ls ml2 ((A.st[j]).bs.map (·.1)))) a (kc_D (a, l, A.sc 0, none, (A.st[j]).bs)) := by
      rw [ka_up_comm (H := K) ha3, ka_up_comm (H := ka_up K (ad 3) _) hal, ka_up_up]
    have hl' : ka_up K (ad 3) (ka_ls (mc + 1) ((A.st.eraseIdx j).map (·.1))) l = none := by
      have hl3' : l ≠ ad 3 := by
        intro z
        rw [z, ka_same] at hl
        cases hl
      rw [ka_ne hl3', ka_ne hla] at hl
      exact (ka_ne hl3').trans hl
    have hM2' := ku_subS (mc := mc + 1) (st' := A.st.eraseIdx j) hM (List.eraseIdx_sublist ..)
    have hM3 := ku_new (o := ka_ls ml2 ((A.st[j]).bs.map (·.1))) hM2' hl'
    have ha' : ka_up (ka_up K (ad 3) (ka_ls (mc + 1) ((A.st.eraseIdx j).map (·.1)))) l (ka_ls ml2 ((A.st[j]).bs.map (·.1))) a = none := (ka_ne hal).trans ((ka_ne ha3).trans ha)
    have hM4 := ku_new (o := kc_D (a, l, A.sc 0, none, (A.st[j]).bs)) hM3 ha'
    show ka_T Z _ v3 (ka_up (ka_up (ka_up (ka_up K a (ka_ob 12 kz_Sold)) (ad 3) (ka_ls (mc + 1) ((A.st.eraseIdx j).map (·.1)))) l (ka_ls ml2 ((A.st[j]).bs.map (·.1)))) a (kc_D (a, l, A.sc 0, none, (A.st[j]).bs))) _
    rw [hK3]
    obtain ⟨mc5, hso⟩ := kg_so hM4.2.1
    refine ka_is hso rfl (ka_call (kl_add hso ka_same rfl (by rw [List.length_map]; show A.so.length ≤ 240; omega) (by omega)) (fun _ v4 K4 hq => ?_))
    obtain ⟨-, hv4, rfl⟩ := hq
    have hdok : ∀ d ∈ A.so ++ [(a, l, A.sc 0, none, (A.st[j]).bs)], kc_dOk (ka_up (ka_up (ka_up K (ad 3) (ka_ls (mc + 1) ((A.st.eraseIdx j).map (·.1)))) l (ka_ls ml2 ((A.st[j]).bs.map (·.1)))) a (kc_D (a, l, A.sc 0, none, (A.st[j]).bs))) d := by
      intro d hd
      rcases List.mem_append.mp hd with e1 | e1
      · exact kg_dok hM4.2.1 (Or.inl e1)
      · rw [List.mem_singleton.mp e1]
        refine ⟨ka_same, ⟨⟨ml2, (ka_ne hla).trans ka_same⟩, fun b hb => ?_⟩, fun b hb => by cases hb⟩
        have hb0 := hlb b hb
        have hb1 : ka_up K (ad 3) (ka_ls (mc + 1) ((A.st.eraseIdx j).map (·.1))) b.1 = some (kc_B b) := (ka_ne (ka_kinds hb0 hst (by simp))).trans hb0
        have hb2 : ka_up (ka_up K (ad 3) (ka_ls (mc + 1) ((A.st.eraseIdx j).map (·.1)))) l (ka_ls ml2 ((A.st[j]).bs.map (·.1))) b.1 = some (kc_B b) := (ka_ne (ka_dom hb1 hl')).trans hb1
        exact (ka_ne (ka_dom hb2 ha')).trans hb2
    have hnd5 : ((kc_lists ad (A.cs, A.ls, A.bx, A.st.eraseIdx j, A.ps, A.so ++ [(a, l, A.sc 0, none, (A.st[j]).bs)], A.2.2.2.2.2.2)).map (·.1)).Nodup := by
      have hpm := kc_perm_so (ad := ad) (A := (A.cs, A.ls, A.bx, A.st.eraseIdx j, A.2.2.2.2)) (so' := A.so ++ [(a, l, A.sc 0, none, (A.st[j]).bs)]) (d := (a, l, A.sc 0, none, (A.st[j]).bs)) rfl
      rw [hpm.nodup_iff, List.nodup_cons]
      refine ⟨fun hz => ?_, hM2'.2.2.2.1⟩
      obtain ⟨q, hq, e2⟩ := List.mem_map.mp hz
      exact (ku_notin hM2'.2.1 hl').2.2.2 q hq e2
    have hM5 := ku_so (mc := mc5 + 1) (so' := A.so ++ [(a, l, A.sc 0, none, (A.st[j]).bs)]) hM4 hdok hnd5
    have e3 : (A.so ++ [(a, l, A.sc 0, none, (A.st[j]).bs)]).map (fun d : kDp => d.1) = A.so.map (·.1) ++ [a] := by simp
    rw [e3] at hM5
    have hM6 := ku_num (sc' := v_num A.sc 6 (A.sc 6 + p.2.2.2.2)) hM5
    have hM7 := ku_num (sc' := v_num (v_num A.sc 6 (A.sc 6 + p.2.2.2.2)) 4 (A.sc 4 + 1)) hM6
    have hkeep : ∀ x o, x ≠ s → x ≠ ad 3 → x ≠ ad 5 → K x = some o → ka_up (ka_up (ka_up (ka_up K (ad 3) (ka_ls (mc + 1) ((A.st.eraseIdx j).map (·.1)))) l (ka_ls ml2 ((A.st[j]).bs.map (·.1)))) a (kc_D (a, l, A.sc 0, none, (A.st[j]).bs))) (ad 5) (ka_ls (mc5 + 1) (A.so.map (·.1) ++ [a])) x = some o := by
      intro x o _ h3 h5 hx
      have hx1 : ka_up K (ad 3) (ka_ls (mc + 1) ((A.st.eraseIdx j).map (·.1))) x = some o := (ka_ne h3).trans hx
      have hx2 := (ka_ne (o := ka_ls ml2 ((A.st[j]).bs.map (·.1))) (ka_dom hx1 hl')).trans hx1
      exact (ka_ne h5).trans ((ka_ne (ka_dom hx2 ha')).trans hx2)
    have hps5 : p.1 ≠ s := ka_kinds hp hs (by simp)
    have hp3 : p.1 ≠ ad 3 := ka_kinds hp hst (by simp)
    have hp5 : p.1 ≠ ad 5 := ka_kinds hp (kg_so hM.2.1).choose_spec (by simp)
    refine ka_gI (kg_s hM5.2.1) rfl rfl (ka_gI (hkeep _ _ hps5 hp3 hp5 hp) rfl rfl ?_)
    refine ka_pI (kg_s hM5.2.1) rfl rfl (Nat.le_of_ble_eq_true rfl) ?_
    refine ka_gI (kg_s hM6.2.1) rfl rfl ?_
    refine ka_pI (kg_s hM6.2.1) rfl rfl (Nat.le_of_ble_eq_true rfl) ?_
    refine ka_ret rfl ?_
    refine ka_pure ⟨by omega, rfl, fun x o h1 h3 h5 hx => (ka_ne h1).trans ((ka_ne h1).trans (hkeep x o h1 h3 h5 hx)), _, hM7, ?_, rfl⟩
    have hgV : A.V.st.getD j (0, 0, 0, []) = (A.st[j]).V := kvg_st hrj
    rw [hgV]
    show (A.V.cs, A.V.ls, A.V.bx, (A.st.eraseIdx j).map kS.V, A.V.ps, (A.so ++ [(a, l, A.sc 0, none, (A.st[j]).bs)]).map kDp.V, _) = (A.V.cs, A.V.ls, A.V.bx, (A.st.map kS.V).eraseIdx j, A.V.ps, A.so.map kDp.V ++ [(A.sc 0, none, (A.st[j]).V.bs)], _)
    rw [List.map_append, ks_emap]
    rfl
end KPB
