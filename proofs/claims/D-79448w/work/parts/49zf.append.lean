set_option maxRecDepth 100000
section KTZF
variable {Z : ka_Z} {w : Nat} {G : ka_H} {m : Nat} {ad : Nat → Nat} {T : kT} {X : vX}
theorem kt_append {c : Int32} (hs : kt_sep m ad) (hR : kR T X) (hl : X.inp.length ≤ 60) : ka_T Z (pm_X3_append (some m) c) w (kt G m ad T) (kt_Q w G m ad (vx_append X c)) := by
  obtain ⟨h1, h2, h3, h4, h5, ⟨h6, h7⟩, h8⟩ := id hR
  have hn : kt_nm 13 := Or.inr (Or.inr (Or.inr (Or.inl rfl)))
  unfold pm_X3_append vx_append
  refine ka_use kt_isIn ?_
  by_cases h : v_in c 32 126 = 1
  · rw [if_pos h]
    refine ka_ifP (by rw [h]; decide) (kt_gI 13 hn ?_)
    rw [h6]
    by_cases h60 : X.inp.length = 60
    · rw [if_pos h60]
      exact ka_ifN (fun z => z (by rw [h60]; rfl)) (ka_pure ⟨rfl, rfl, T, rfl, hR⟩)
    · rw [if_neg h60]
      refine ka_ifP (fun z => h60 ((k3_eq (b := 60) (by omega) (by omega)).mp z)) (kt_g11 (kt_gI 13 hn ?_))
      rw [h6]
      refine kt_st (j := 11) hs (by decide) (show X.inp.length < 60 by omega) (kt_gI 13 hn ?_)
      have e : (kt_set T 11 (upd (T.1 11) X.inp.length c)).2 13 = Int32.ofNat X.inp.length := h6
      rw [e, k3_succ]
      refine kt_pI 13 hn rfl (kt_gI 13 hn ?_)
      refine ka_pure ⟨rfl, rfl, _, rfl, h1, h2, h3, h4, h5, ⟨?_, fun i x hx => ?_⟩, h8⟩
      · show Int32.ofNat (X.inp.length + 1) = Int32.ofNat (X.inp ++ [c]).length
        rw [List.length_append]
        rfl
      · have hx2 : (X.inp ++ [c])[i]? = some x := hx
        show upd (T.1 11) X.inp.length c i = x
        by_cases hi : i < X.inp.length
        · rw [List.getElem?_append_left hi] at hx2
          rw [upd_ne (by omega), h7 i x hx2]
        · have hi2 := ke_get_lt hx2
          rw [List.length_append] at hi2
          simp only [List.length_cons, List.length_nil] at hi2
          have e : i = X.inp.length := by omega
          subst e
          rw [List.getElem?_append_right (Nat.le_refl _), Nat.sub_self] at hx2
          rw [upd_same]
          exact Option.some.inj hx2
  · rw [if_neg h]
    exact ka_ifN (by rw [v_in_no h]; simp) (ka_pure ⟨rfl, rfl, T, rfl, hR⟩)
end KTZF
