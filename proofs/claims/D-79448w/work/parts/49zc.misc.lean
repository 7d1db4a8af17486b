set_option maxRecDepth 100000
section KTZC
variable {Z : ka_Z} {w : Nat} {G : ka_H} {m : Nat} {ad : Nat → Nat} {T : kT} {X : vX} {f : Nat → Int32} {V : kV} {cc dd : Nat}
theorem kt_fault (hR : kR T X) : ka_T Z (pm_X3_fault (some m)) w (kt G m ad T) (ka_V w (kt G m ad T) (vq_fault X)) := by
  have hfa : T.2 17 = X.fault := hR.2.2.2.2.2.2
  have hn : kt_nm 17 := Or.inr (Or.inr (Or.inr (Or.inr (Or.inr (Or.inr (Or.inr rfl))))))
  unfold pm_X3_fault vq_fault
  refine kt_gI 17 hn ?_
  rw [hfa]
  by_cases h : 0 ≤ X.fault
  · rw [if_pos (show 0 ≤ X.fault from h)]
    refine kt_gI 17 hn ?_
    rw [hfa]
    exact ka_pure ⟨by rw [if_pos h], rfl, rfl⟩
  · rw [if_neg (show ¬ 0 ≤ X.fault from h)]
    exact ka_pure ⟨by rw [if_neg h], rfl, rfl⟩
theorem kt_written {i : Int32} (hs : kt_sep m ad) (hR : kR T X) (hl : X.line.length ≤ 80) : ka_T Z (pm_X3_written (some m) i) w (kt G m ad T) (ka_V w (kt G m ad T) (vq_written X i)) := by
  obtain ⟨h9, hline⟩ := hR.2.2.2.2.1
  unfold pm_X3_written vq_written
  refine kt_gI 9 (Or.inr (Or.inr (Or.inl rfl))) ?_
  rw [h9]
  refine ka_use kt_isIn ?_
  by_cases h : v_in i 0 (Int32.ofNat X.line.length - 1) = 1
  · rw [if_pos h]
    obtain ⟨n, rfl, hn⟩ := v_in_idx (by omega) h
    refine ka_ifN (by rw [h]; decide) (kt_g8 (kt_ld (j := 8) hs (by decide) (show n < 80 by omega) (ka_pure ⟨?_, rfl, rfl⟩)))
    obtain ⟨c, hc⟩ : ∃ c, X.line[n]? = some c := ⟨_, List.getElem?_eq_getElem hn⟩
    rw [hline n c hc, k3_nat (by omega), List.getD, hc]
    rfl
  · rw [if_neg h]
    exact ka_ifP (v_in_no h) (ka_pure ⟨rfl, rfl, rfl⟩)
theorem kt_save (hs : kt_sep m ad) (hR : kR T X) (hz : vX_sz X) : ka_T Z (pm_X3_save (some m)) w (kt G m ad T) (kt_Q w G m ad (vx_save X)) := by
  obtain ⟨h1, h2, h3, h4, h5⟩ := hR
  obtain ⟨hst, l, hl, he⟩ := id h1
  unfold pm_X3_save
  refine kt_g0 (kt_g2 (ka_mv (kt_copies (j := 0) (k := 2) (a := 0) (b := 0) (n := 2188) hs (by decide) (by decide) (Nat.le_of_ble_eq_true rfl) (Nat.le_of_ble_eq_true rfl) (Or.inl (by decide)) (by omega)) ?_))
  refine kt_pI 5 (Or.inr (Or.inl rfl)) rfl (kt_g0 (kt_ld (j := 0) (p := 9) hs (by decide) (by decide) ?_))
  have e9 : (kt_num (kt_set T 2 (vt_cp (T.1 0) (T.1 2) 0 0 2188)) 5 1).1 0 9 = Int32.ofNat X.now.cs.length := he.1.2.1
  rw [e9]
  refine ka_pure ⟨rfl, rfl, _, rfl, h1, h2, h3, ⟨rfl, fun V hV => ?_⟩, h5⟩
  have hV2 : V = X.now := by cases hV; rfl
  subst hV2
  refine keP_cong h1 hz.1 (fun p hp => ?_)
  show vt_cp (T.1 0) (T.1 2) 0 0 2188 p = T.1 0 p
  rw [vt_cp_in (Nat.zero_le _) (by omega), Nat.zero_add, Nat.sub_zero]
end KTZC
