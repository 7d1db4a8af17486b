set_option maxRecDepth 100000
/-! ===== the twin: pilgrims ===== -/
section KTP2
variable {Z : ka_Z} {w : Nat} {G : ka_H} {m : Nat} {ad : Nat → Nat} {T : kT} {X : vX} {f : Nat → Int32} {V : kV} {cc dd : Nat}
theorem kt_sumLoop {i : Nat} {r : vS} (hs : kt_sep m ad) (hi : i < 6) (h : ke_S1 f i r) (hlen : r.bs.length ≤ 28) : ∀ (rest done : List vB) (fuel : Nat) (n : Int32), r.bs = done ++ rest → rest.length < fuel → ka_T Z (pb_X3_sumOn_4 fuel (some m) (Int32.ofNat i) n (Int32.ofNat done.length)) w (kt G m ad (kt_set T 0 f)) (ka_V w (kt G m ad (kt_set T 0 f)) (v_fsum n rest)) := by
  intro rest
  induction rest with
  | nil =>
    intro done fuel n hA hf
    obtain ⟨fuel, rfl⟩ : ∃ n, fuel = n + 1 := ⟨fuel - 1, by omega⟩
    have hA1 : done.length = r.bs.length := by rw [hA, List.append_nil]
    unfold pb_X3_sumOn_4
    refine kt_is (ka_use (kt_of (j := 3) hs hi (by omega)) ?_)
    rw [h.2.2.2.1]
    exact ka_ifP ((k3_le (by omega) (by omega)).mpr (by omega)) (ka_pure ⟨rfl, rfl, rfl⟩)
  | cons b t ih =>
    intro done fuel n hA hf
    obtain ⟨fuel, rfl⟩ : ∃ n, fuel = n + 1 := ⟨fuel - 1, by omega⟩
    have hAl : r.bs.length = done.length + (t.length + 1) := by rw [hA, List.length_append]; rfl
    simp only [List.length_cons] at hf
    have hb : r.bs[done.length]? = some b := by rw [hA]; simp
    unfold pb_X3_sumOn_4
    refine kt_is (ka_use (kt_of (j := 3) hs hi (by omega)) ?_)
    rw [h.2.2.2.1]
    refine ka_ifN (fun z => by have := (k3_le (by omega) (by omega)).mp z; omega) (kt_g0 (kt_beAt ?_))
    rw [k3_succ]
    refine kt_ls hs (by omega) ?_
    rw [(h.2.2.2.2 _ b hb).2, k3_succ, v_fsum]
    have h2 := ih (done ++ [b]) fuel (n + b.2.2) (by rw [hA]; simp) (by omega)
    rw [List.length_append] at h2
    exact h2
theorem kt_sumOn {i : Nat} {r : vS} (hs : kt_sep m ad) (hi : i < 6) (h : ke_S1 f i r) (hlen : r.bs.length ≤ 28) : ka_T Z (pm_X3_sumOn (some m) (Int32.ofNat i)) w (kt G m ad (kt_set T 0 f)) (ka_V w (kt G m ad (kt_set T 0 f)) (v_fsum 0 r.bs)) := by
  unfold pm_X3_sumOn
  exact kt_sumLoop hs hi h hlen r.bs [] km_fuel 0 rfl (by unfold km_fuel; omega)
theorem kt_fineness {i : Nat} {r : vS} (hs : kt_sep m ad) (hi : i < 6) (h : ke_S1 f i r) (hlen : r.bs.length ≤ 28) : ka_T Z (pm_X3_fineness (some m) (Int32.ofNat i)) w (kt G m ad (kt_set T 0 f)) (ka_V w (kt G m ad (kt_set T 0 f)) (v_fine r.bs)) := by
  unfold pm_X3_fineness v_fine
  refine kt_is (ka_use (kt_of (j := 3) hs hi (by omega)) ?_)
  rw [h.2.2.2.1]
  by_cases h0 : r.bs = []
  · rw [if_pos h0]
    exact ka_ifN (fun z => z (by rw [h0]; rfl)) (ka_pure ⟨rfl, rfl, rfl⟩)
  · rw [if_neg h0]
    have hpos : 0 < r.bs.length := List.length_pos_iff.mpr h0
    have hne : ¬ Int32.ofNat r.bs.length = 0 := fun z => by have := (k3_eq (b := 0) (by omega) (by omega)).mp z; omega
    exact ka_ifP hne (kt_is (ka_use (kt_sumOn hs hi h hlen) (ka_div hne (ka_pure ⟨rfl, rfl, rfl⟩))))
theorem kt_season {H : ka_H} {d : Int32} : ka_T Z (pm_X3_season d) w H (ka_V w H (v_season d)) := by
  unfold pm_X3_season v_season
  exact ka_div (by decide) (ka_rem (by decide) (ka_pure ⟨rfl, rfl, rfl⟩))
theorem kt_buyLoop {j : Nat} {p : vP} {st : List vS} (hs : kt_sep m ad) (hS : ke_S f st) (h12 : f 12 = Int32.ofNat st.length) (hn : st.length ≤ 6) (hr : ∀ r ∈ st, r.bs.length ≤ 28) {so : Nat} (h14 : f 14 = Int32.ofNat so) (hso : so < 8) (hj : j < 6) (hp1 : f (1124 + 4 * j + 1) = p.2.1) (hp2 : f (1124 + 4 * j + 2) = p.2.2.1) : ∀ (rest done : List vS) (fuel : Nat) (best : Int32), st = done ++ rest → rest.length < fuel → (best = -6 ∨ ∃ b, b < st.length ∧ best = Int32.ofNat b) → ka_T Z (pb_X3_wouldBuy_5 fuel (some m) (Int32.ofNat j) best (Int32.ofNat done.length)) w (kt G m ad (kt_set T 0 f)) (ka_V w (kt G m ad (kt_set T 0 f)) (v_want p st rest done.length best)) := by
  intro rest
  induction rest with
  | nil =>
    intro done fuel best hA hf hb
    obtain ⟨fuel, rfl⟩ : ∃ n, fuel = n + 1 := ⟨fuel - 1, by omega⟩
    have hA1 : done.length = st.length := by rw [hA, List.append_nil]
    unfold pb_X3_wouldBuy_5
    refine kt_g0 (kt_ls (p := 12) hs (by omega) ?_)
    rw [h12]
    exact ka_ifP ((k3_le (by omega) (by omega)).mpr (by omega)) (ka_pure ⟨rfl, rfl, rfl⟩)
  | cons r t ih =>
    intro done fuel best hA hf hb
    obtain ⟨fuel, rfl⟩ : ∃ n, fuel = n + 1 := ⟨fuel - 1, by omega⟩
    have hAl : st.length = done.length + (t.length + 1) := by rw [hA, List.length_append]; rfl
    simp only [List.length_cons] at hf
    have hri : st[done.length]? = some r := by rw [hA]; simp
    have h1 := hS _ _ hri
    have hrl := hr r (List.mem_of_getElem? hri)
    have hi : done.length < 6 := by omega
    have hnext : ∀ best', (best' = -6 ∨ ∃ b, b < st.length ∧ best' = Int32.ofNat b) → ka_T Z (pb_X3_wouldBuy_5 fuel (some m) (Int32.ofNat j) best' (Int32.ofNat done.length + 1)) w (kt G m ad (kt_set T 0 f)) (ka_V w (kt G m ad (kt_set T 0 f)) (v_want p st t (done.length + 1) best')) := by
      intro best' hb'
      rw [k3_succ]
      have h2 := ih (done ++ [r]) fuel best' (by rw [hA]; simp) (by omega) hb'
      rw [List.length_append] at h2
      exact h2
    unfold pb_X3_wouldBuy_5
    refine kt_g0 (kt_ls (p := 12) hs (by omega) ?_)
    rw [h12]
    refine ka_ifN (fun z => by have := (k3_le (by omega) (by omega)).mp z; omega) (kt_g0 (kt_ls (p := 14) hs (by omega) ?_))
    rw [h14]
    refine ka_ifN (fun z => by have := (k3_le (a := 8) (by omega) (by omega)).mp z; omega) (kt_is (ka_use (kt_isDone hs hi h1) ?_))
    have hno : ¬ (v_done r = true ∧ r.1 = p.2.1 ∧ ¬ v_fine r.bs < p.2.2.1 ∧ (best = -6 ∨ v_fine r.bs < v_fine (st.getD best.toNatClampNeg (0, 0, 0, [])).bs)) → ka_T Z (pb_X3_wouldBuy_5 fuel (some m) (Int32.ofNat j) best (Int32.ofNat done.length + 1)) w (kt G m ad (kt_set T 0 f)) (ka_V w (kt G m ad (kt_set T 0 f)) (v_want p st (r :: t) done.length best)) := by
      intro hq
      rw [v_want, if_neg hq]
      exact hnext best hb
    have h77 : ¬ (v_done r = true ∧ r.1 = p.2.1 ∧ ¬ v_fine r.bs < p.2.2.1 ∧ (best = -6 ∨ v_fine r.bs < v_fine (st.getD best.toNatClampNeg (0, 0, 0, [])).bs)) → ka_T Z (pb_X3_wouldBuy_77 (pb_X3_wouldBuy_5 fuel) (some m) (Int32.ofNat j) best (Int32.ofNat done.length)) w (kt G m ad (kt_set T 0 f)) (ka_V w (kt G m ad (kt_set T 0 f)) (v_want p st (r :: t) done.length best)) := by
      intro hq
      unfold pb_X3_wouldBuy_77 pb_X3_wouldBuy_78 pb_X3_wouldBuy_108 pb_X3_wouldBuy_109
      exact ka_ifP rfl (hno hq)
    by_cases hd : v_done r = true
    · rw [if_pos hd]
      refine ka_ifN (by decide) (kt_is (ka_use (kt_of (j := 0) hs hi (by omega)) (kt_g0 (kt_pAt (j := 1) (kt_ls hs (by omega) ?_)))))
      rw [h1.1, hp1]
      by_cases hg : r.1 = p.2.1
      · refine ka_ifN (fun z => z hg) (kt_is (ka_use (kt_fineness hs hi h1 hrl) (kt_g0 (kt_pAt (j := 2) (kt_ls hs (by omega) ?_)))))
        rw [hp2]
        by_cases hfl : v_fine r.bs < p.2.2.1
        · exact ka_ifP hfl (h77 (fun z => z.2.2.1 hfl))
        · refine ka_ifN hfl ?_
          unfold pb_X3_wouldBuy_78
          refine ka_ifN (by decide) ?_
          by_cases h6 : best = -6
          · refine ka_ifP h6 ?_
            unfold pb_X3_wouldBuy_109
            rw [v_want, if_pos ⟨hd, hg, hfl, Or.inl h6⟩]
            exact hnext _ (Or.inr ⟨done.length, by omega, rfl⟩)
          · refine ka_ifN h6 (kt_is (ka_use (kt_fineness hs hi h1 hrl) ?_))
            obtain ⟨b, hb1, hb2⟩ := hb.resolve_left h6
            obtain ⟨rb, hrb⟩ : ∃ rb, st[b]? = some rb := ⟨_, List.getElem?_eq_getElem hb1⟩
            subst hb2
            have hgd : st.getD (Int32.ofNat b).toNatClampNeg (0, 0, 0, []) = rb := by rw [k3_nat (by omega), List.getD, hrb]; rfl
            refine kt_is (ka_use (kt_fineness hs (by omega) (hS _ _ hrb) (hr rb (List.mem_of_getElem? hrb))) ?_)
            by_cases hlt : v_fine r.bs < v_fine rb.bs
            · refine ka_ifN (Int32.not_le.mpr hlt) ?_
              unfold pb_X3_wouldBuy_109
              rw [v_want, if_pos ⟨hd, hg, hfl, Or.inr (by rw [hgd]; exact hlt)⟩]
              exact hnext _ (Or.inr ⟨done.length, by omega, rfl⟩)
            · refine ka_ifP (Int32.not_lt.mp hlt) ?_
              unfold pb_X3_wouldBuy_108 pb_X3_wouldBuy_109
              exact hno (fun z => by
                rcases z.2.2.2 with e | e
                · exact h6 e
                · rw [hgd] at e
                  exact hlt e)
      · exact ka_ifP hg (h77 (fun z => hg z.2.1))
    · rw [if_neg hd]
      exact ka_ifP rfl (h77 (fun z => hd z.1))
theorem kt_wouldBuy {j : Nat} {p : vP} (hs : kt_sep m ad) (he : ke f V) (hz : v_sz V) (hj : V.ps[j]? = some p) : ka_T Z (pm_X3_wouldBuy (some m) (Int32.ofNat j)) w (kt G m ad (kt_set T 0 f)) (ka_V w (kt G m ad (kt_set T 0 f)) (v_wanted V p)) := by
  obtain ⟨z1, z2, z3, z4, z5, z6, z7, z8⟩ := hz
  have hjl := ke_get_lt hj
  obtain ⟨g0, g1, g2, g3⟩ := he.2.2.2.2.2.1 j p hj
  have h14 : f 14 = Int32.ofNat V.so.length := he.1.2.2.2.2.2.2.1
  have h12 : f 12 = Int32.ofNat V.st.length := he.1.2.2.2.2.1
  unfold pm_X3_wouldBuy v_wanted
  by_cases h8 : 8 ≤ V.so.length
  · rw [if_pos h8]
    show ka_T Z (pb_X3_wouldBuy_5 (99999 + 1) (some m) (Int32.ofNat j) (-6) 0) _ _ _
    unfold pb_X3_wouldBuy_5
    refine kt_g0 (kt_ls (p := 12) hs (by omega) ?_)
    rw [h12]
    refine ka_ite (fun _ => ka_pure ⟨rfl, rfl, rfl⟩) (fun _ => kt_g0 (kt_ls (p := 14) hs (by omega) ?_))
    rw [h14]
    exact ka_ifP ((k3_le (a := 8) (by omega) (by omega)).mpr h8) (ka_pure ⟨rfl, rfl, rfl⟩)
  · rw [if_neg h8]
    exact kt_buyLoop hs he.2.2.2.2.1 h12 z4 z8 h14 (by omega) (by omega) g1 g2 V.st [] km_fuel (-6) rfl (by unfold km_fuel; omega) (Or.inl rfl)
end KTP2
