set_option maxRecDepth 100000
section KTZE
variable {Z : ka_Z} {w : Nat} {G : ka_H} {m : Nat} {ad : Nat → Nat} {T : kT} {X : vX}
theorem kt_restore (hs : kt_sep m ad) (hR : kR T X) (hz : vX_sz X) : ka_T Z (pm_X3_restore (some m)) w (kt G m ad T) (kt_Q w G m ad (vx_restore X)) := by
  obtain ⟨h1, h2, h3, ⟨hs1, hs2⟩, h5⟩ := id hR
  unfold pm_X3_restore vx_restore
  refine kt_gI 5 (Or.inr (Or.inl rfl)) ?_
  rw [hs1]
  cases hsv : X.sav with
  | none => exact ka_ifN (fun z => z rfl) (ka_pure ⟨rfl, rfl, T, rfl, hR⟩)
  | some V =>
    have hk := hs2 V hsv
    have hzV := hz.2.2 V hsv
    obtain ⟨-, l, hl, he⟩ := id hk
    have e9 : T.1 2 9 = Int32.ofNat V.cs.length := he.1.2.1
    refine ka_ifP (show ¬ (1 : Int32) = 0 by decide) (kt_g2 (kt_g0 (ka_mv (kt_copies (j := 2) (k := 0) (a := 0) (b := 0) (n := 2188) hs (by decide) (by decide) (Nat.le_of_ble_eq_true rfl) (Nat.le_of_ble_eq_true rfl) (Or.inl (by decide)) (by omega)) ?_)))
    refine kt_pI 4 (Or.inl rfl) rfl (kt_g0 (kt_ld (j := 0) (p := 9) hs (by decide) (by decide) ?_))
    have e : (kt_num (kt_set T 0 (vt_cp (T.1 2) (T.1 0) 0 0 2188)) 4 0).1 0 9 = Int32.ofNat V.cs.length := by
      show vt_cp (T.1 2) (T.1 0) 0 0 2188 9 = _
      rw [vt_cp_in (Nat.zero_le _) (by omega), Nat.zero_add, Nat.sub_zero, e9]
    rw [e]
    refine ka_pure ⟨rfl, rfl, _, rfl, ?_, h2, ⟨Nat.zero_le _, rfl, fun i W hW => (by cases hW)⟩, ⟨hs1, hs2⟩, h5⟩
    refine keP_cong hk hzV (fun p hp => ?_)
    show vt_cp (T.1 2) (T.1 0) 0 0 2188 p = T.1 2 p
    rw [vt_cp_in (Nat.zero_le _) (by omega), Nat.zero_add, Nat.sub_zero]
end KTZE
