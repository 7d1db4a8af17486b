set_option maxRecDepth 100000
section KTZI
variable {Z : ka_Z} {w : Nat} {G : ka_H} {m : Nat} {ad : Nat → Nat} {T : kT} {X : vX}
theorem kt_account {k : Int32} (hs : kt_sep m ad) (hR : kR T X) (hz : vX_sz X) : ka_T Z (pm_X3_account (some m) k) w (kt G m ad T) (ka_V w (kt G m ad T) (vq_account X k)) := by
  have h4 : T.2 4 = Int32.ofNat X.bef.length := hR.2.2.1.2.1
  have h13 : T.2 13 = Int32.ofNat X.inp.length := hR.2.2.2.2.2.1.1
  refine kt_row (P := fun _ _ => True) (fun T0 f hf hT => ?_)
  rw [hT] at h4 h13
  obtain ⟨hst, l, hl, he⟩ := hR.1
  rw [← hf] at he
  have hz4 := hz.1.2.2.2.1
  unfold pm_X3_account vq_account
  refine kt_tsw rfl rfl (fun j P y hv hP hy => ?_) (ka_pure ⟨rfl, rfl, rfl⟩)
  have hj : j < 21 := by have := ke_get_lt hP; simpa using this
  have hj2 : j = 0 ∨ j = 1 ∨ j = 2 ∨ j = 3 ∨ j = 4 ∨ j = 5 ∨ j = 6 ∨ j = 7 ∨ j = 8 ∨ j = 9 ∨ j = 10 ∨ j = 11 ∨ j = 12 ∨ j = 13 ∨ j = 14 ∨ j = 15 ∨ j = 16 ∨ j = 17 ∨ j = 18 ∨ j = 19 ∨ j = 20 := by omega
  rcases hj2 with e | e | e | e | e | e | e | e | e | e | e | e | e | e | e | e | e | e | e | e | e <;> subst e <;> cases hP <;> cases hy
  · exact kt_g0 (kt_ls (p := 0) hs (by omega) (ka_pure ⟨he.1.1 0 (by omega), rfl, rfl⟩))
  · refine kt_g0 (kt_ls (p := 0) hs (by omega) ?_)
    rw [he.1.1 0 (by omega)]
    exact ka_use kt_season (ka_pure ⟨rfl, rfl, rfl⟩)
  · exact kt_g0 (kt_ls (p := 1) hs (by omega) (ka_pure ⟨he.1.1 1 (by omega), rfl, rfl⟩))
  · exact kt_g0 (kt_ls (p := 9) hs (by omega) (ka_pure ⟨he.1.2.1, rfl, rfl⟩))
  · exact kt_g0 (kt_ls (p := 10) hs (by omega) (ka_pure ⟨he.1.2.2.1, rfl, rfl⟩))
  · exact kt_g0 (kt_ls (p := 11) hs (by omega) (ka_pure ⟨by rw [he.1.2.2.2.1, ← hl.length_eq]; rfl, rfl, rfl⟩))
  · exact kt_g0 (kt_ls (p := 2) hs (by omega) (ka_pure ⟨he.1.1 2 (by omega), rfl, rfl⟩))
  · exact kt_g0 (kt_ls (p := 3) hs (by omega) (ka_pure ⟨he.1.1 3 (by omega), rfl, rfl⟩))
  · exact kt_g0 (kt_ls (p := 12) hs (by omega) (ka_pure ⟨he.1.2.2.2.2.1, rfl, rfl⟩))
  · exact kt_is (ka_use (by unfold pm_X3_doneOnes; exact kt_doneLoop hs he.2.2.2.2.1 he.1.2.2.2.2.1 hz4 X.now.st [] km_fuel 0 rfl (by unfold km_fuel; omega)) (ka_pure ⟨rfl, rfl, rfl⟩))
  · exact kt_is (ka_use (by unfold pm_X3_onStrings; exact kt_sizesLoop hs he.2.2.2.2.1 he.1.2.2.2.2.1 hz4 X.now.st [] km_fuel 0 rfl (by unfold km_fuel; omega)) (ka_pure ⟨rfl, rfl, rfl⟩))
  · exact kt_g0 (kt_ls (p := 13) hs (by omega) (ka_pure ⟨he.1.2.2.2.2.2.1, rfl, rfl⟩))
  · exact kt_g0 (kt_ls (p := 4) hs (by omega) (ka_pure ⟨he.1.1 4 (by omega), rfl, rfl⟩))
  · exact kt_g0 (kt_ls (p := 14) hs (by omega) (ka_pure ⟨he.1.2.2.2.2.2.2.1, rfl, rfl⟩))
  · exact kt_g0 (kt_ls (p := 15) hs (by omega) (ka_pure ⟨he.1.2.2.2.2.2.2.2, rfl, rfl⟩))
  · exact kt_g0 (kt_ls (p := 5) hs (by omega) (ka_pure ⟨he.1.1 5 (by omega), rfl, rfl⟩))
  · exact kt_g0 (kt_ls (p := 6) hs (by omega) (ka_pure ⟨he.1.1 6 (by omega), rfl, rfl⟩))
  · exact kt_g0 (kt_ls (p := 7) hs (by omega) (ka_pure ⟨he.1.1 7 (by omega), rfl, rfl⟩))
  · exact kt_g0 (kt_ls (p := 8) hs (by omega) (ka_pure ⟨he.1.1 8 (by omega), rfl, rfl⟩))
  · exact kt_gI 13 (Or.inr (Or.inr (Or.inr (Or.inl rfl)))) (ka_pure ⟨h13, rfl, rfl⟩)
  · exact kt_gI 4 (Or.inl rfl) (ka_pure ⟨h4, rfl, rfl⟩)
end KTZI
