set_option maxRecDepth 100000
section KTZG
variable {Z : ka_Z} {w : Nat} {G : ka_H} {m : Nat} {ad : Nat → Nat} {T : kT} {X : vX}
theorem kt_reason {d k : Int32} (hs : kt_sep m ad) (hR : kR T X) : ka_T Z (pm_X3_reason (some m) d k) w (kt G m ad T) (ka_V w (kt G m ad T) (vq_reason X d k)) := by
  have hrf := hR.2.1
  unfold pm_X3_reason vq_reason
  refine ka_use kt_isIn ?_
  by_cases h : v_in d 0 2 = 1
  · rw [if_pos h]
    obtain ⟨i, rfl, -, hi⟩ := v_in_nat (a := 0) (b := 2) (by omega) (by omega) h
    rw [k3_nat (by omega)]
    refine ka_ifP (by rw [h]; decide) (kt_g6 (kt_ld (j := 6) (p := 0) hs (by decide) (by decide) ?_))
    cases hx : X.rf with
    | none =>
      rw [hx] at hrf
      exact ka_ifN (fun z => z hrf) (ka_pure ⟨rfl, rfl, rfl⟩)
    | some ch =>
      rw [hx] at hrf
      obtain ⟨hne, hl, hch⟩ := hrf
      have h0 : T.1 6 0 ≠ 0 := by
        have h9 := hch 0 (by omega)
        cases ch with
        | nil => exact absurd rfl hne
        | cons p t => rw [h9.1]; exact h9.2.2
      refine ka_ifP h0 (kt_g6 (kt_ld (j := 6) hs (by decide) (show i < 3 by omega) ?_))
      have hci := hch i (by omega)
      cases hc : ch[i]? with
      | none =>
        rw [hc] at hci
        exact ka_ifN (fun z => z hci) (ka_pure ⟨by simp only [hc], rfl, rfl⟩)
      | some p =>
        rw [hc] at hci
        obtain ⟨q1, q2, q3⟩ := hci
        refine ka_ifP (by rw [q1]; exact q3) (ka_ite (fun hk => ?_) (fun hk => ?_))
        · refine kt_g6 (kt_ld (j := 6) hs (by decide) (show i < 3 by omega) (ka_pure ⟨?_, rfl, rfl⟩))
          rw [q1]
          simp only [hc]
          exact (if_pos hk).symm
        · refine kt_g7 (kt_ld (j := 7) hs (by decide) (show i < 3 by omega) (ka_pure ⟨?_, rfl, rfl⟩))
          rw [q2]
          simp only [hc]
          exact (if_neg hk).symm
  · rw [if_neg h]
    exact ka_ifN (by rw [v_in_no h]; simp) (ka_pure ⟨rfl, rfl, rfl⟩)
end KTZG
