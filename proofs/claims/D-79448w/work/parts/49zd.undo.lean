set_option maxRecDepth 100000
section KTZD
variable {Z : ka_Z} {w : Nat} {G : ka_H} {m : Nat} {ad : Nat → Nat} {T : kT} {X : vX}
theorem kt_undo (hs : kt_sep m ad) (hR : kR T X) (hz : vX_sz X) : ka_T Z (pm_X3_undo (some m)) w (kt G m ad T) (kt_Q w G m ad (vx_undo X)) := by
  obtain ⟨h1, h2, ⟨hb1, hb2, hb3⟩, h4, h5⟩ := id hR
  unfold pm_X3_undo vx_undo
  refine kt_gI 4 (Or.inl rfl) ?_
  rw [hb2]
  cases hb : X.bef.getLast? with
  | none =>
    have h0 : X.bef = [] := List.getLast?_eq_none_iff.mp hb
    exact ka_ifN (fun z => z (by rw [h0]; rfl)) (ka_pure ⟨rfl, rfl, T, rfl, hR⟩)
  | some V =>
    obtain ⟨ys, hys⟩ := List.getLast?_eq_some_iff.mp hb
    have hlen : X.bef.length = ys.length + 1 := by rw [hys, List.length_append]; rfl
    have hV : X.bef[ys.length]? = some V := by rw [hys]; simp
    have hzV := hz.2.1 V (List.mem_of_getElem? hV)
    refine ka_ifP (fun z => by have := (k3_eq (b := 0) (by omega) (by omega)).mp z; omega) (kt_gI 4 (Or.inl rfl) ?_)
    rw [hb2, hlen, k3_pred (by omega), Nat.add_sub_cancel]
    refine kt_pI 4 (Or.inl rfl) rfl (kt_g3 (kt_gI 4 (Or.inl rfl) ?_))
    have e4 : (kt_num T 4 (Int32.ofNat ys.length)).2 4 = Int32.ofNat ys.length := rfl
    have e5 : (2188 : Int32) * Int32.ofNat ys.length = Int32.ofNat (2188 * ys.length) := k3_mul (a := 2188)
    rw [e4, e5]
    refine kt_g0 (ka_mv (kt_copies (j := 3) (k := 0) (a := 2188 * ys.length) (b := 0) (n := 2188) hs (by decide) (by decide) (by show _ ≤ 17504; omega) (Nat.le_of_ble_eq_true rfl) (Or.inl (by decide)) (by omega)) (kt_gI 4 (Or.inl rfl) ?_))
    have hdl : X.bef.dropLast = ys := by rw [hys]; simp
    refine ka_pure ⟨rfl, rfl, _, rfl, ?_, h2, ⟨?_, ?_, fun i W hW => ?_⟩, h4, h5⟩
    · refine keP_cong (hb3 _ V hV) hzV (fun p hp => ?_)
      show vt_cp (T.1 3) (T.1 0) (2188 * ys.length) 0 2188 p = T.1 3 (2188 * ys.length + p)
      rw [vt_cp_in (Nat.zero_le _) (by omega), Nat.sub_zero]
    · show X.bef.dropLast.length ≤ 8
      rw [hdl]; omega
    · show Int32.ofNat ys.length = Int32.ofNat X.bef.dropLast.length
      rw [hdl]
    · have hW2 : X.bef.dropLast[i]? = some W := hW
      rw [hdl] at hW2
      exact hb3 i W (by rw [hys, List.getElem?_append_left (ke_get_lt hW2)]; exact hW2)
end KTZD
