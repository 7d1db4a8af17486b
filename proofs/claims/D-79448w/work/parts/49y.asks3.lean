set_option maxRecDepth 100000
section KTY
variable {Z : ka_Z} {w : Nat} {G : ka_H} {m : Nat} {ad : Nat → Nat} {T : kT} {X : vX} {f : Nat → Int32} {V : kV} {cc dd : Nat}
theorem kt_pilgrimOf {c k : Int32} (hs : kt_sep m ad) (hR : kR T X) (hz : vX_sz X) : ka_T Z (pm_X3_pilgrimOf (some m) c k) w (kt G m ad T) (ka_V w (kt G m ad T) (vq_pilgrimOf X c k)) := by
  refine kt_row (P := fun _ _ => True) (fun T0 f hf hT => ?_)
  obtain ⟨hst, l, hl, he⟩ := hR.1
  rw [← hf] at he
  have hz1 := hz.1.2.2.2.2.1
  have e13 : f 13 = Int32.ofNat X.now.ps.length := he.1.2.2.2.2.2.1
  unfold pm_X3_pilgrimOf vq_pilgrimOf
  refine kt_g0 (kt_ls (p := 13) hs (by omega) ?_)
  rw [e13]
  refine ka_use kt_isIn ?_
  by_cases h : v_in c 0 (Int32.ofNat X.now.ps.length - 1) = 1
  · rw [if_pos h]
    refine ka_ifP (by rw [h]; decide) ?_
    obtain ⟨i, rfl, hi⟩ := v_in_idx (by omega) h
    rw [k3_nat (by omega)]
    obtain ⟨p, hp⟩ : ∃ x, X.now.ps[i]? = some x := ⟨_, List.getElem?_eq_getElem hi⟩
    have hgd : X.now.ps.getD i (0, 0, 0, 0) = p := by rw [List.getD, hp]; rfl
    rw [hgd]
    obtain ⟨g0, g1, g2, g3⟩ := he.2.2.2.2.2.1 i p hp
    have h74 : ∀ j : Nat, j < 4 → ka_T Z (pb_X3_pilgrimOf_74 (some m) (Int32.ofNat i) (Int32.ofNat j)) w (kt G m ad (kt_set T0 0 f)) (ka_V w (kt G m ad (kt_set T0 0 f)) (f (1124 + 4 * i + j))) := by
      intro j hj
      unfold pb_X3_pilgrimOf_74
      exact kt_g0 (kt_pAt (kt_ls hs (by omega) (ka_pure ⟨rfl, rfl, rfl⟩)))
    refine kt_tsw rfl rfl (fun j P y hv hP hy => ?_) (ka_pure ⟨rfl, rfl, rfl⟩)
    have hj : j = 0 ∨ j = 1 ∨ j = 2 ∨ j = 3 ∨ j = 4 := by have := ke_get_lt hP; simp only [List.length_cons, List.length_nil] at this; omega
    subst hv
    rcases hj with e | e | e | e | e <;> subst e <;> cases hP <;> cases hy
    · refine kt_g0 (kt_pAt (j := 0) (kt_ls hs (by omega) (kt_g0 (kt_ls (p := 0) hs (by omega) ?_))))
      rw [g0, he.1.1 0 (by omega)]
      exact ka_pure ⟨rfl, rfl, rfl⟩
    · rw [← g1]; exact h74 1 (by omega)
    · rw [← g2]; exact h74 2 (by omega)
    · rw [← g3]; exact h74 3 (by omega)
    · exact kt_is (ka_use (kt_wouldBuy hs he (v_sz_wb hz.1 hl) hp) (ka_pure ⟨rfl, rfl, rfl⟩))
  · rw [if_neg h]
    exact ka_ifN (by rw [v_in_no h]; simp) (ka_pure ⟨rfl, rfl, rfl⟩)
theorem kt_could {g s : Int32} (hs : kt_sep m ad) (hR : kR T X) (hz : vX_sz X) : ka_T Z (pm_X3_could (some m) g s) w (kt G m ad T) (ka_V w (kt G m ad T) (vq_could X g s)) := by
  refine kt_row (P := fun _ _ => True) (fun T0 f hf hT => ?_)
  have h1 := hR.1
  rw [← hf] at h1
  unfold pm_X3_could vq_could
  have hpat : v_pat g s = (if v_in g 1 4 = 0 then 0 else v_in s 1 6) := rfl
  refine ka_use kt_isIn ?_
  by_cases h : v_in g 1 4 = 1
  · refine ka_ifN (by rw [h]; decide) (ka_use kt_isIn ?_)
    by_cases h2 : v_in s 1 6 = 1
    · have hp : v_pat g s = 1 := by rw [hpat, if_neg (by rw [h]; decide), h2]
      rw [if_pos hp]
      obtain ⟨a, b, rfl, rfl, q1, q2, q3, q4⟩ := v_pat_nat hp
      have hne : ∀ {x : Nat}, 1 ≤ x → x ≤ 24 → ¬ Int32.ofNat x = 0 := fun h1 h2 z => by have := (k3_eq (b := 0) (by omega) (by omega)).mp z; omega
      have hab1 : 1 ≤ a * b := Nat.mul_le_mul q1 q3
      have hab2 : a * b ≤ 4 * 6 := Nat.mul_le_mul q2 q4
      refine ka_ifP (by rw [h2]; decide) (kt_is (ka_use (kt_box0 hs h1 hz.1 (Or.inr rfl)) (ka_div (hne q1 (by omega)) (kt_is (ka_use (kt_box0 hs h1 hz.1 (Or.inl rfl)) (ka_div (by rw [k3_mul]; exact hne hab1 (by omega)) (ka_use kt_less (ka_pure ⟨rfl, rfl, rfl⟩))))))))
    · have hp : ¬ v_pat g s = 1 := by rw [hpat, if_neg (by rw [h]; decide)]; exact h2
      rw [if_neg hp]
      exact ka_ifN (by rw [v_in_no h2]; simp) (ka_pure ⟨rfl, rfl, rfl⟩)
  · have hp : ¬ v_pat g s = 1 := by rw [hpat, if_pos (v_in_no h)]; decide
    rw [if_neg hp]
    exact ka_ifP (v_in_no h) (ka_pure ⟨rfl, rfl, rfl⟩)
end KTY
