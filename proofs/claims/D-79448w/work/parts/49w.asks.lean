set_option maxRecDepth 100000
/-! ===== the twin: what it is asked ===== -/
section KTW
variable {Z : ka_Z} {w : Nat} {G : ka_H} {m : Nat} {ad : Nat → Nat} {T : kT} {X : vX} {f : Nat → Int32} {V : kV} {cc dd : Nat}
theorem kt_tsw {H : ka_H} {v d : Int32} {Ps : List (km_M Int32)} {l : List Int32} {D : km_M Int32} {hi : Int} (hhi : hi = (Ps.length : Int) - 1) (hl : l.length = Ps.length) (hP : ∀ (i : Nat) (P : km_M Int32) (y : Int32), v = Int32.ofNat i → Ps[i]? = some P → l[i]? = some y → ka_T Z P w H (ka_V w H y)) (hD : ka_T Z D w H (ka_V w H d)) : ka_T Z (km_tsw v 0 hi Ps D) w H (ka_V w H (v_sw' v l d)) := by
  subst hhi
  unfold km_tsw v_sw'
  rw [hl]
  by_cases h : v.toInt < 0 ∨ ((Ps.length : Int) - 1) < v.toInt
  · rw [if_pos h, if_pos h]
    exact hD
  · rw [if_neg h, if_neg h]
    have hlt : v.toInt.toNat < Ps.length := by omega
    have hv0 : (0 : Int32) ≤ v := Int32.le_iff_toInt_le.mpr (by show (0 : Int) ≤ v.toInt; omega)
    have hv : v = Int32.ofNat v.toInt.toNat := kv_neg hv0
    rw [show (v.toInt - 0).toNat = v.toInt.toNat by omega]
    have e1 : Ps.getD v.toInt.toNat D = Ps[v.toInt.toNat] := by rw [List.getD, List.getElem?_eq_getElem hlt]; rfl
    have e2 : l.getD v.toInt.toNat d = l[v.toInt.toNat]'(by omega) := by rw [List.getD, List.getElem?_eq_getElem (by omega)]; rfl
    rw [e1, e2]
    exact hP _ _ _ hv (List.getElem?_eq_getElem hlt) (List.getElem?_eq_getElem (by omega))
/-- the row of a twin -/
theorem kt_row {α : Type} {P : (Nat → Int32) → ka_H → Prop} {x : km_M α} {v : α} (h : ∀ T0 f, f = T.1 0 → T = kt_set T0 0 f → ka_T Z x w (kt G m ad (kt_set T0 0 f)) (ka_V w (kt G m ad (kt_set T0 0 f)) v)) : ka_T Z x w (kt G m ad T) (ka_V w (kt G m ad T) v) := by
  have h2 := h T (T.1 0) rfl kt_set_id.symm
  rw [kt_set_id] at h2
  exact h2
theorem kt_carverOf {c k : Int32} (hs : kt_sep m ad) (hR : kR T X) (hz : vX_sz X) : ka_T Z (pm_X3_carverOf (some m) c k) w (kt G m ad T) (ka_V w (kt G m ad T) (vq_carverOf X c k)) := by
  refine kt_row (P := fun _ _ => True) (fun T0 f hf hT => ?_)
  obtain ⟨hst, l, hl, he⟩ := hR.1
  rw [← hf] at he
  have hz1 := hz.1.1
  have e9 : f 9 = Int32.ofNat X.now.cs.length := he.1.2.1
  unfold pm_X3_carverOf vq_carverOf
  refine kt_is (ka_use (kt_isC hs e9) ?_)
  by_cases h : vx_isC X c = 1
  · rw [if_pos h]
    refine ka_ifP (by rw [show v_in c 0 (Int32.ofNat X.now.cs.length - 1) = 1 from h]; decide) ?_
    obtain ⟨i, rfl, hi⟩ := v_in_idx (by omega) h
    rw [k3_nat (by omega)]
    obtain ⟨x, hx⟩ : ∃ x, X.now.cs[i]? = some x := ⟨_, List.getElem?_eq_getElem hi⟩
    have hgd : X.now.cs.getD i (0, 0, 0, 0) = x := by rw [List.getD, hx]; rfl
    rw [hgd]
    obtain ⟨g0, g1, g2, g3, g4⟩ := he.2.1 i x hx
    have h48 : ∀ j : Nat, j < 3 → ka_T Z (pb_X3_carverOf_48 (some m) (Int32.ofNat i) (Int32.ofNat j)) w (kt G m ad (kt_set T0 0 f)) (ka_V w (kt G m ad (kt_set T0 0 f)) (f (16 + 5 * i + j))) := by
      intro j hj
      unfold pb_X3_carverOf_48
      exact kt_g0 (kt_cAt (kt_ls hs (by omega) (ka_pure ⟨rfl, rfl, rfl⟩)))
    have h65 : ∀ j : Nat, 1 ≤ j → j < 6 → ka_T Z (pb_X3_carverOf_65 (some m) (Int32.ofNat i) (Int32.ofNat j)) w (kt G m ad (kt_set T0 0 f)) (ka_V w (kt G m ad (kt_set T0 0 f)) (f (16 + 5 * i + (j - 1)))) := by
      intro j hj1 hj
      unfold pb_X3_carverOf_65
      refine kt_g0 ?_
      rw [k3_pred hj1]
      exact kt_cAt (kt_ls hs (by omega) (ka_pure ⟨rfl, rfl, rfl⟩))
    refine kt_tsw rfl rfl (fun j P y hv hP hy => ?_) (ka_pure ⟨rfl, rfl, rfl⟩)
    have hj : j = 0 ∨ j = 1 ∨ j = 2 ∨ j = 3 ∨ j = 4 ∨ j = 5 := by have := ke_get_lt hP; simp only [List.length_cons, List.length_nil] at this; omega
    subst hv
    rcases hj with e | e | e | e | e | e <;> subst e <;> cases hP <;> cases hy
    · rw [← g0]; exact h48 0 (by omega)
    · rw [← g1]; exact h48 1 (by omega)
    · have e2 : v_lensOf X.now (Int32.ofNat i) = f (16 + 5 * i + 2) := g2.symm
      rw [e2]; exact h48 2 (by omega)
    · exact kt_is (ka_use (kt_sight hs he (v_sz_wb hz.1 hl) hi) (ka_pure ⟨rfl, rfl, rfl⟩))
    · rw [← g3]; exact h65 4 (by omega) (by omega)
    · rw [← g4]; exact h65 5 (by omega) (by omega)
  · rw [if_neg h]
    exact ka_ifN (by rw [show v_in c 0 (Int32.ofNat X.now.cs.length - 1) = 0 from v_in_no h]; simp) (ka_pure ⟨rfl, rfl, rfl⟩)
theorem kt_lensOf {c k : Int32} (hs : kt_sep m ad) (hR : kR T X) (hz : vX_sz X) : ka_T Z (pm_X3_lensOf (some m) c k) w (kt G m ad T) (ka_V w (kt G m ad T) (vq_lensOf X c k)) := by
  refine kt_row (P := fun _ _ => True) (fun T0 f hf hT => ?_)
  obtain ⟨hst, l, hl, he⟩ := hR.1
  rw [← hf] at he
  have hz1 := hz.1.2.1
  have e10 : f 10 = Int32.ofNat X.now.ls.length := he.1.2.2.1
  unfold pm_X3_lensOf vq_lensOf
  refine kt_is (ka_use (kt_isL hs e10) ?_)
  by_cases h : vx_isL X c = 1
  · rw [if_pos h]
    refine ka_ifN (by rw [show v_in c 0 (Int32.ofNat X.now.ls.length - 1) = 1 from h]; decide) ?_
    obtain ⟨i, rfl, hi⟩ := v_in_idx (by omega) h
    rw [k3_nat (by omega)]
    obtain ⟨x, hx⟩ : ∃ x, X.now.ls[i]? = some x := ⟨_, List.getElem?_eq_getElem hi⟩
    have hgd : X.now.ls.getD i (0, 0) = x := by rw [List.getD, hx]; rfl
    rw [hgd]
    obtain ⟨g0, g1⟩ := he.2.2.1 i x hx
    refine kt_g0 (ka_ite (fun hk => ?_) (fun hk => ?_))
    · have e : (if k = 0 then (if x.2 = -1 then (-6 : Int32) else x.2) else x.1) = f (36 + 2 * i + 1) := by rw [if_pos hk, g1]
      rw [e]
      unfold pb_X3_lensOf_22
      exact kt_lAt (j := 1) (kt_ls hs (by omega) (ka_pure ⟨rfl, rfl, rfl⟩))
    · have e : (if k = 0 then (if x.2 = -1 then (-6 : Int32) else x.2) else x.1) = f (36 + 2 * i + 0) := by rw [if_neg hk, g0]
      rw [e]
      unfold pb_X3_lensOf_22
      exact kt_lAt (j := 0) (kt_ls hs (by omega) (ka_pure ⟨rfl, rfl, rfl⟩))
  · rw [if_neg h]
    exact ka_ifP (v_in_no h) (ka_pure ⟨rfl, rfl, rfl⟩)
theorem kt_stringOf {c k : Int32} (hs : kt_sep m ad) (hR : kR T X) (hz : vX_sz X) (hok : v_ok cc dd X.now) : ka_T Z (pm_X3_stringOf (some m) c k) w (kt G m ad T) (ka_V w (kt G m ad T) (vq_stringOf X c k)) := by
  refine kt_row (P := fun _ _ => True) (fun T0 f hf hT => ?_)
  obtain ⟨hst, l, hl, he⟩ := hR.1
  rw [← hf] at he
  have hz1 := hz.1.2.2.2.1
  have e12 : f 12 = Int32.ofNat X.now.st.length := he.1.2.2.2.2.1
  unfold pm_X3_stringOf vq_stringOf
  refine kt_is (ka_use (kt_isS hs e12) ?_)
  by_cases h : vx_isS X c = 1
  · rw [if_pos h]
    refine ka_ifP (by rw [show v_in c 0 (Int32.ofNat X.now.st.length - 1) = 1 from h]; decide) ?_
    obtain ⟨i, rfl, hi⟩ := v_in_idx (by omega) h
    rw [k3_nat (by omega)]
    obtain ⟨r, hr⟩ : ∃ x, X.now.st[i]? = some x := ⟨_, List.getElem?_eq_getElem hi⟩
    have hgd : X.now.st.getD i (0, 0, 0, []) = r := by rw [List.getD, hr]; rfl
    rw [hgd]
    have hS1 : ke_S1 f i r := he.2.2.2.2.1 i r hr
    have hrl := hz.1.2.2.2.2.2.2.2 r (List.mem_of_getElem? hr)
    obtain ⟨gg, mm, kk, hN⟩ := hok.2.2.2.2.1 r (List.mem_of_getElem? hr)
    have hi6 : i < 6 := by omega
    refine kt_tsw rfl rfl (fun j P y hv hP hy => ?_) (ka_pure ⟨rfl, rfl, rfl⟩)
    have hj : j = 0 ∨ j = 1 ∨ j = 2 ∨ j = 3 ∨ j = 4 ∨ j = 5 ∨ j = 6 := by have := ke_get_lt hP; simp only [List.length_cons, List.length_nil] at this; omega
    rcases hj with e | e | e | e | e | e | e <;> subst e <;> cases hP <;> cases hy
    · rw [← hS1.1]; exact kt_is (ka_use (kt_of (j := 0) hs hi6 (by omega)) (ka_pure ⟨rfl, rfl, rfl⟩))
    · rw [← hS1.2.1]; exact kt_is (ka_use (kt_of (j := 1) hs hi6 (by omega)) (ka_pure ⟨rfl, rfl, rfl⟩))
    · rw [← hS1.2.2.2.1]; exact kt_is (ka_use (kt_of (j := 3) hs hi6 (by omega)) (ka_pure ⟨rfl, rfl, rfl⟩))
    · rw [← hS1.2.2.1]; exact kt_is (ka_use (kt_of (j := 2) hs hi6 (by omega)) (ka_pure ⟨rfl, rfl, rfl⟩))
    · exact kt_is (ka_use (kt_fineness hs hi6 hS1 hrl) (ka_pure ⟨rfl, rfl, rfl⟩))
    · refine kt_is (ka_use (kt_isDone hs hi6 hS1) ?_)
      by_cases hd : v_done r = true
      · rw [if_pos hd]; exact ka_ifN (by decide) (ka_pure ⟨rfl, rfl, rfl⟩)
      · rw [if_neg hd]; exact ka_ifP rfl (ka_pure ⟨rfl, rfl, rfl⟩)
    · exact kt_is (ka_use (kt_wants hs hi6 hS1 hN) (ka_pure ⟨rfl, rfl, rfl⟩))
  · rw [if_neg h]
    exact ka_ifN (by rw [show v_in c 0 (Int32.ofNat X.now.st.length - 1) = 0 from v_in_no h]; simp) (ka_pure ⟨rfl, rfl, rfl⟩)
end KTW
