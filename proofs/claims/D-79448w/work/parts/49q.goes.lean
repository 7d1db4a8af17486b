set_option maxRecDepth 100000
/-! ===== the twin: one of a row goes ===== -/
section KTQ
variable {f : Nat → Int32} {V : kV}
theorem ke_S1_sh {f' : Nat → Int32} {i : Nat} {r : vS} (h : ke_S1 f (i + 1) r) (hr : r.bs.length ≤ 28) (k : ∀ p, p < 60 → f' (764 + 60 * i + p) = f (764 + 60 * (i + 1) + p)) : ke_S1 f' i r := by
  obtain ⟨h0, h1, h2, h3, h4⟩ := h
  refine ⟨(k 0 (by omega)).trans h0, (k 1 (by omega)).trans h1, (k 2 (by omega)).trans h2, (k 3 (by omega)).trans h3, fun p b hb => ?_⟩
  have hp := ke_get_lt hb
  obtain ⟨q1, q2⟩ := h4 p b hb
  exact ⟨(k (4 + 2 * p) (by omega)).trans q1, (k (4 + 2 * p + 1) (by omega)).trans q2⟩
theorem ke_goS {k : Nat} (h : ke f V) (hz : v_sz V) (hk : k < V.st.length) : ke (upd (vt_shift f (764 + 60 * k) (764 + 60 * (V.st.length - 1)) 60) 12 (Int32.ofNat (V.st.length - 1))) (V.cs, V.ls, V.bx, V.st.eraseIdx k, V.2.2.2.2) := by
  obtain ⟨h0, h1, h2, h3, h4, h5, h6, h7⟩ := h
  obtain ⟨z1, z2, z3, z4, z5, z6, z7, z8⟩ := hz
  obtain ⟨n0, n1, n2, n3, n4, n5, n6, n7⟩ := h0
  have ho : ∀ p, p ≠ 12 → (p < 764 ∨ 1124 ≤ p) → (upd (vt_shift f (764 + 60 * k) (764 + 60 * (V.st.length - 1)) 60) 12 (Int32.ofNat (V.st.length - 1))) p = f p := fun p h9 hp => (upd_ne h9).trans (vt_shift_out (by omega))
  have hlow : ∀ i p, p < 60 → i < k → (upd (vt_shift f (764 + 60 * k) (764 + 60 * (V.st.length - 1)) 60) 12 (Int32.ofNat (V.st.length - 1))) (764 + 60 * i + p) = f (764 + 60 * i + p) := fun i p hp hi => (upd_ne (by omega)).trans (vt_shift_out (Or.inl (by omega)))
  have hup : ∀ i p, p < 60 → k ≤ i → i + 1 < V.st.length → (upd (vt_shift f (764 + 60 * k) (764 + 60 * (V.st.length - 1)) 60) 12 (Int32.ofNat (V.st.length - 1))) (764 + 60 * i + p) = f (764 + 60 * (i + 1) + p) := fun i p hp hi hi2 => (upd_ne (by omega)).trans ((vt_shift_in (by omega) (by omega)).trans (by congr 1; omega))
  refine ⟨⟨fun j hj => (ho j (by omega) (by omega)).trans (n0 j hj), (ho _ (by omega) (by omega)).trans n1, (ho _ (by omega) (by omega)).trans n2, (ho _ (by omega) (by omega)).trans n3, ?_, (ho _ (by omega) (by omega)).trans n5, (ho _ (by omega) (by omega)).trans n6, (ho _ (by omega) (by omega)).trans n7⟩, ke_C_cong h1 z1 (fun p _ _ => ho p (by omega) (by omega)), ke_L_cong h2 z2 (fun p _ _ => ho p (by omega) (by omega)), ke_B_cong h3 z3 (fun p _ _ => ho p (by omega) (by omega)), fun i x hx => ?_, ke_P_cong h5 z5 (fun p _ _ => ho p (by omega) (by omega)), ke_D_cong h6 z6 (fun p _ _ => ho p (by omega) (by omega)), ke_W_cong h7 (Nat.le_trans z7 (by omega)) (fun p _ _ => ho p (by omega) (by omega))⟩
  · show _ = Int32.ofNat (V.st.eraseIdx k).length
    rw [upd_same, List.length_eraseIdx, if_pos hk]
  · rcases ke_erase hx with ⟨hi, hx2⟩ | ⟨hi, hx2⟩
    · obtain ⟨g0, g1, g2, g3, g4⟩ := h4 i x hx2
      have hl := z8 x (List.mem_of_getElem? hx2)
      refine ⟨(hlow i 0 (by omega) hi).trans g0, (hlow i 1 (by omega) hi).trans g1, (hlow i 2 (by omega) hi).trans g2, (hlow i 3 (by omega) hi).trans g3, fun p b hb => ?_⟩
      have hp := ke_get_lt hb
      exact ⟨(hlow i (4 + 2 * p) (by omega) hi).trans (g4 p b hb).1, (hlow i (4 + 2 * p + 1) (by omega) hi).trans (g4 p b hb).2⟩
    · exact ke_S1_sh (h4 (i + 1) x hx2) (z8 x (List.mem_of_getElem? hx2)) (fun p hp => hup i p hp hi (ke_get_lt hx2))
theorem ke_goP {k : Nat} (h : ke f V) (hz : v_sz V) (hk : k < V.ps.length) : ke (upd (vt_shift f (1124 + 4 * k) (1124 + 4 * (V.ps.length - 1)) 4) 13 (Int32.ofNat (V.ps.length - 1))) (V.cs, V.ls, V.bx, V.st, V.ps.eraseIdx k, V.2.2.2.2.2) := by
  obtain ⟨h0, h1, h2, h3, h4, h5, h6, h7⟩ := h
  obtain ⟨z1, z2, z3, z4, z5, z6, z7, z8⟩ := hz
  obtain ⟨n0, n1, n2, n3, n4, n5, n6, n7⟩ := h0
  have ho : ∀ p, p ≠ 13 → (p < 1124 ∨ 1148 ≤ p) → (upd (vt_shift f (1124 + 4 * k) (1124 + 4 * (V.ps.length - 1)) 4) 13 (Int32.ofNat (V.ps.length - 1))) p = f p := fun p h9 hp => (upd_ne h9).trans (vt_shift_out (by omega))
  have hlow : ∀ i p, p < 4 → i < k → (upd (vt_shift f (1124 + 4 * k) (1124 + 4 * (V.ps.length - 1)) 4) 13 (Int32.ofNat (V.ps.length - 1))) (1124 + 4 * i + p) = f (1124 + 4 * i + p) := fun i p hp hi => (upd_ne (by omega)).trans (vt_shift_out (Or.inl (by omega)))
  have hup : ∀ i p, p < 4 → k ≤ i → i + 1 < V.ps.length → (upd (vt_shift f (1124 + 4 * k) (1124 + 4 * (V.ps.length - 1)) 4) 13 (Int32.ofNat (V.ps.length - 1))) (1124 + 4 * i + p) = f (1124 + 4 * (i + 1) + p) := fun i p hp hi hi2 => (upd_ne (by omega)).trans ((vt_shift_in (by omega) (by omega)).trans (by congr 1; omega))
  refine ⟨⟨fun j hj => (ho j (by omega) (by omega)).trans (n0 j hj), (ho _ (by omega) (by omega)).trans n1, (ho _ (by omega) (by omega)).trans n2, (ho _ (by omega) (by omega)).trans n3, (ho _ (by omega) (by omega)).trans n4, ?_, (ho _ (by omega) (by omega)).trans n6, (ho _ (by omega) (by omega)).trans n7⟩, ke_C_cong h1 z1 (fun p _ _ => ho p (by omega) (by omega)), ke_L_cong h2 z2 (fun p _ _ => ho p (by omega) (by omega)), ke_B_cong h3 z3 (fun p _ _ => ho p (by omega) (by omega)), ke_S_cong h4 z4 z8 (fun p _ _ => ho p (by omega) (by omega)), fun i x hx => ?_, ke_D_cong h6 z6 (fun p _ _ => ho p (by omega) (by omega)), ke_W_cong h7 (Nat.le_trans z7 (by omega)) (fun p _ _ => ho p (by omega) (by omega))⟩
  · show _ = Int32.ofNat (V.ps.eraseIdx k).length
    rw [upd_same, List.length_eraseIdx, if_pos hk]
  · rcases ke_erase hx with ⟨hi, hx2⟩ | ⟨hi, hx2⟩
    · obtain ⟨g0, g1, g2, g3⟩ := h5 i x hx2
      exact ⟨(hlow i 0 (by omega) hi).trans g0, (hlow i 1 (by omega) hi).trans g1, (hlow i 2 (by omega) hi).trans g2, (hlow i 3 (by omega) hi).trans g3⟩
    · obtain ⟨g0, g1, g2, g3⟩ := h5 (i + 1) x hx2
      have hl := ke_get_lt hx2
      exact ⟨(hup i 0 (by omega) hi hl).trans g0, (hup i 1 (by omega) hi hl).trans g1, (hup i 2 (by omega) hi hl).trans g2, (hup i 3 (by omega) hi hl).trans g3⟩
theorem ke_goD {k : Nat} (h : ke f V) (hz : v_sz V) (hk : k < V.so.length) : ke (upd (vt_shift f (1148 + 5 * k) (1148 + 5 * (V.so.length - 1)) 5) 14 (Int32.ofNat (V.so.length - 1))) (V.cs, V.ls, V.bx, V.st, V.ps, V.so.eraseIdx k, V.2.2.2.2.2.2) := by
  obtain ⟨h0, h1, h2, h3, h4, h5, h6, h7⟩ := h
  obtain ⟨z1, z2, z3, z4, z5, z6, z7, z8⟩ := hz
  obtain ⟨n0, n1, n2, n3, n4, n5, n6, n7⟩ := h0
  have ho : ∀ p, p ≠ 14 → (p < 1148 ∨ 1188 ≤ p) → (upd (vt_shift f (1148 + 5 * k) (1148 + 5 * (V.so.length - 1)) 5) 14 (Int32.ofNat (V.so.length - 1))) p = f p := fun p h9 hp => (upd_ne h9).trans (vt_shift_out (by omega))
  have hlow : ∀ i p, p < 5 → i < k → (upd (vt_shift f (1148 + 5 * k) (1148 + 5 * (V.so.length - 1)) 5) 14 (Int32.ofNat (V.so.length - 1))) (1148 + 5 * i + p) = f (1148 + 5 * i + p) := fun i p hp hi => (upd_ne (by omega)).trans (vt_shift_out (Or.inl (by omega)))
  have hup : ∀ i p, p < 5 → k ≤ i → i + 1 < V.so.length → (upd (vt_shift f (1148 + 5 * k) (1148 + 5 * (V.so.length - 1)) 5) 14 (Int32.ofNat (V.so.length - 1))) (1148 + 5 * i + p) = f (1148 + 5 * (i + 1) + p) := fun i p hp hi hi2 => (upd_ne (by omega)).trans ((vt_shift_in (by omega) (by omega)).trans (by congr 1; omega))
  refine ⟨⟨fun j hj => (ho j (by omega) (by omega)).trans (n0 j hj), (ho _ (by omega) (by omega)).trans n1, (ho _ (by omega) (by omega)).trans n2, (ho _ (by omega) (by omega)).trans n3, (ho _ (by omega) (by omega)).trans n4, (ho _ (by omega) (by omega)).trans n5, ?_, (ho _ (by omega) (by omega)).trans n7⟩, ke_C_cong h1 z1 (fun p _ _ => ho p (by omega) (by omega)), ke_L_cong h2 z2 (fun p _ _ => ho p (by omega) (by omega)), ke_B_cong h3 z3 (fun p _ _ => ho p (by omega) (by omega)), ke_S_cong h4 z4 z8 (fun p _ _ => ho p (by omega) (by omega)), ke_P_cong h5 z5 (fun p _ _ => ho p (by omega) (by omega)), fun i x hx => ?_, ke_W_cong h7 (Nat.le_trans z7 (by omega)) (fun p _ _ => ho p (by omega) (by omega))⟩
  · show _ = Int32.ofNat (V.so.eraseIdx k).length
    rw [upd_same, List.length_eraseIdx, if_pos hk]
  · rcases ke_erase hx with ⟨hi, hx2⟩ | ⟨hi, hx2⟩
    · obtain ⟨g0, g1, g2, g3⟩ := h6 i x hx2
      exact ⟨(hlow i 0 (by omega) hi).trans g0, (hlow i 1 (by omega) hi).trans g1, (hlow i 2 (by omega) hi).trans g2, fun b hb => ⟨(hlow i 3 (by omega) hi).trans (g3 b hb).1, (hlow i 4 (by omega) hi).trans (g3 b hb).2⟩⟩
    · obtain ⟨g0, g1, g2, g3⟩ := h6 (i + 1) x hx2
      have hl := ke_get_lt hx2
      exact ⟨(hup i 0 (by omega) hi hl).trans g0, (hup i 1 (by omega) hi hl).trans g1, (hup i 2 (by omega) hi hl).trans g2, fun b hb => ⟨(hup i 3 (by omega) hi hl).trans (g3 b hb).1, (hup i 4 (by omega) hi hl).trans (g3 b hb).2⟩⟩
theorem ke_goW {k : Nat} (h : ke f V) (hz : v_sz V) (hk : k < V.wa.length) : ke (upd (vt_shift f (1188 + 5 * k) (1188 + 5 * (V.wa.length - 1)) 5) 15 (Int32.ofNat (V.wa.length - 1))) (V.cs, V.ls, V.bx, V.st, V.ps, V.so, V.wa.eraseIdx k, V.2.2.2.2.2.2.2) := by
  obtain ⟨h0, h1, h2, h3, h4, h5, h6, h7⟩ := h
  obtain ⟨z1, z2, z3, z4, z5, z6, z7, z8⟩ := hz
  obtain ⟨n0, n1, n2, n3, n4, n5, n6, n7⟩ := h0
  have ho : ∀ p, p ≠ 15 → (p < 1188 ∨ 2188 ≤ p) → (upd (vt_shift f (1188 + 5 * k) (1188 + 5 * (V.wa.length - 1)) 5) 15 (Int32.ofNat (V.wa.length - 1))) p = f p := fun p h9 hp => (upd_ne h9).trans (vt_shift_out (by omega))
  have hlow : ∀ i p, p < 5 → i < k → (upd (vt_shift f (1188 + 5 * k) (1188 + 5 * (V.wa.length - 1)) 5) 15 (Int32.ofNat (V.wa.length - 1))) (1188 + 5 * i + p) = f (1188 + 5 * i + p) := fun i p hp hi => (upd_ne (by omega)).trans (vt_shift_out (Or.inl (by omega)))
  have hup : ∀ i p, p < 5 → k ≤ i → i + 1 < V.wa.length → (upd (vt_shift f (1188 + 5 * k) (1188 + 5 * (V.wa.length - 1)) 5) 15 (Int32.ofNat (V.wa.length - 1))) (1188 + 5 * i + p) = f (1188 + 5 * (i + 1) + p) := fun i p hp hi hi2 => (upd_ne (by omega)).trans ((vt_shift_in (by omega) (by omega)).trans (by congr 1; omega))
  refine ⟨⟨fun j hj => (ho j (by omega) (by omega)).trans (n0 j hj), (ho _ (by omega) (by omega)).trans n1, (ho _ (by omega) (by omega)).trans n2, (ho _ (by omega) (by omega)).trans n3, (ho _ (by omega) (by omega)).trans n4, (ho _ (by omega) (by omega)).trans n5, (ho _ (by omega) (by omega)).trans n6, ?_⟩, ke_C_cong h1 z1 (fun p _ _ => ho p (by omega) (by omega)), ke_L_cong h2 z2 (fun p _ _ => ho p (by omega) (by omega)), ke_B_cong h3 z3 (fun p _ _ => ho p (by omega) (by omega)), ke_S_cong h4 z4 z8 (fun p _ _ => ho p (by omega) (by omega)), ke_P_cong h5 z5 (fun p _ _ => ho p (by omega) (by omega)), ke_D_cong h6 z6 (fun p _ _ => ho p (by omega) (by omega)), fun i x hx => ?_⟩
  · show _ = Int32.ofNat (V.wa.eraseIdx k).length
    rw [upd_same, List.length_eraseIdx, if_pos hk]
  · rcases ke_erase hx with ⟨hi, hx2⟩ | ⟨hi, hx2⟩
    · obtain ⟨g1, g2, g3⟩ := h7 i x hx2
      exact ⟨(hlow i 1 (by omega) hi).trans g1, (hlow i 2 (by omega) hi).trans g2, fun b hb => (hlow i 3 (by omega) hi).trans (g3 b hb)⟩
    · obtain ⟨g1, g2, g3⟩ := h7 (i + 1) x hx2
      have hl := ke_get_lt hx2
      exact ⟨(hup i 1 (by omega) hi hl).trans g1, (hup i 2 (by omega) hi hl).trans g2, fun b hb => (hup i 3 (by omega) hi hl).trans (g3 b hb)⟩
theorem ke_addD {f' : Nat → Int32} {d : vD} (h : ke f V) (hz : v_sz V) (hn : V.so.length < 8) (ho : ∀ p, p ≠ 14 → (p < 1148 + 5 * V.so.length ∨ 1148 + 5 * V.so.length + 5 ≤ p) → f' p = f p) (hc : f' 14 = Int32.ofNat (V.so.length + 1)) (g0 : f' (1148 + 5 * V.so.length + 0) = v_last d) (g1 : f' (1148 + 5 * V.so.length + 1) = Int32.ofNat d.bs.length) (g2 : f' (1148 + 5 * V.so.length + 2) = v_fsum 0 d.bs) (g3 : ∀ b, v_weak none d.bs = some b → f' (1148 + 5 * V.so.length + 3) = b.2.1 ∧ f' (1148 + 5 * V.so.length + 4) = b.2.2) : ke f' (V.cs, V.ls, V.bx, V.st, V.ps, V.so ++ [d], V.2.2.2.2.2.2) := by
  obtain ⟨h0, h1, h2, h3, h4, h5, h6, h7⟩ := h
  obtain ⟨z1, z2, z3, z4, z5, z6, z7, z8⟩ := hz
  obtain ⟨n0, n1, n2, n3, n4, n5, n6, n7⟩ := h0
  refine ⟨⟨fun j hj => (ho j (by omega) (by omega)).trans (n0 j hj), (ho _ (by omega) (by omega)).trans n1, (ho _ (by omega) (by omega)).trans n2, (ho _ (by omega) (by omega)).trans n3, (ho _ (by omega) (by omega)).trans n4, (ho _ (by omega) (by omega)).trans n5, ?_, (ho _ (by omega) (by omega)).trans n7⟩, ke_C_cong h1 z1 (fun p _ _ => ho p (by omega) (by omega)), ke_L_cong h2 z2 (fun p _ _ => ho p (by omega) (by omega)), ke_B_cong h3 z3 (fun p _ _ => ho p (by omega) (by omega)), ke_S_cong h4 z4 z8 (fun p _ _ => ho p (by omega) (by omega)), ke_P_cong h5 z5 (fun p _ _ => ho p (by omega) (by omega)), fun i x hx => ?_, ke_W_cong h7 (Nat.le_trans z7 (by omega)) (fun p _ _ => ho p (by omega) (by omega))⟩
  · show _ = Int32.ofNat (V.so ++ [d]).length
    rw [hc, List.length_append]
    rfl
  · by_cases hi : i < V.so.length
    · have hx2 : V.so[i]? = some x := by rw [← hx]; exact (List.getElem?_append_left hi).symm
      obtain ⟨q0, q1, q2, q3⟩ := h6 i x hx2
      exact ⟨(ho _ (by omega) (by omega)).trans q0, (ho _ (by omega) (by omega)).trans q1, (ho _ (by omega) (by omega)).trans q2, fun b hb => ⟨(ho _ (by omega) (by omega)).trans (q3 b hb).1, (ho _ (by omega) (by omega)).trans (q3 b hb).2⟩⟩
    · have hi3 : i < (V.so ++ [d]).length := ke_get_lt hx
      rw [List.length_append] at hi3
      simp only [List.length_cons, List.length_nil] at hi3
      have e : i = V.so.length := by omega
      subst e
      have hx2 : d = x := by
        have h9 : (V.so ++ [d])[V.so.length]? = some x := hx
        rw [List.getElem?_append_right (Nat.le_refl _), Nat.sub_self] at h9
        exact Option.some.inj h9
      subst hx2
      exact ⟨g0, g1, g2, g3⟩
theorem ke_addW {f' : Nat → Int32} {d : vD} (h : ke f V) (hz : v_sz V) (hn : V.wa.length < 120) (ho : ∀ p, p ≠ 15 → (p < 1188 + 5 * V.wa.length ∨ 1188 + 5 * V.wa.length + 5 ≤ p) → f' p = f p) (hc : f' 15 = Int32.ofNat (V.wa.length + 1)) (g1 : f' (1188 + 5 * V.wa.length + 1) = Int32.ofNat d.bs.length) (g2 : f' (1188 + 5 * V.wa.length + 2) = v_fsum 0 d.bs) (g3 : ∀ b, d.2.1 = some b → f' (1188 + 5 * V.wa.length + 3) = b.2.1) : ke f' (V.cs, V.ls, V.bx, V.st, V.ps, V.so, V.wa ++ [d], V.2.2.2.2.2.2.2) := by
  obtain ⟨h0, h1, h2, h3, h4, h5, h6, h7⟩ := h
  obtain ⟨z1, z2, z3, z4, z5, z6, z7, z8⟩ := hz
  obtain ⟨n0, n1, n2, n3, n4, n5, n6, n7⟩ := h0
  refine ⟨⟨fun j hj => (ho j (by omega) (by omega)).trans (n0 j hj), (ho _ (by omega) (by omega)).trans n1, (ho _ (by omega) (by omega)).trans n2, (ho _ (by omega) (by omega)).trans n3, (ho _ (by omega) (by omega)).trans n4, (ho _ (by omega) (by omega)).trans n5, (ho _ (by omega) (by omega)).trans n6, ?_⟩, ke_C_cong h1 z1 (fun p _ _ => ho p (by omega) (by omega)), ke_L_cong h2 z2 (fun p _ _ => ho p (by omega) (by omega)), ke_B_cong h3 z3 (fun p _ _ => ho p (by omega) (by omega)), ke_S_cong h4 z4 z8 (fun p _ _ => ho p (by omega) (by omega)), ke_P_cong h5 z5 (fun p _ _ => ho p (by omega) (by omega)), ke_D_cong h6 z6 (fun p _ _ => ho p (by omega) (by omega)), fun i x hx => ?_⟩
  · show _ = Int32.ofNat (V.wa ++ [d]).length
    rw [hc, List.length_append]
    rfl
  · by_cases hi : i < V.wa.length
    · have hx2 : V.wa[i]? = some x := by rw [← hx]; exact (List.getElem?_append_left hi).symm
      obtain ⟨q1, q2, q3⟩ := h7 i x hx2
      exact ⟨(ho _ (by omega) (by omega)).trans q1, (ho _ (by omega) (by omega)).trans q2, fun b hb => (ho _ (by omega) (by omega)).trans (q3 b hb)⟩
    · have hi3 : i < (V.wa ++ [d]).length := ke_get_lt hx
      rw [List.length_append] at hi3
      simp only [List.length_cons, List.length_nil] at hi3
      have e : i = V.wa.length := by omega
      subst e
      have hx2 : d = x := by
        have h9 : (V.wa ++ [d])[V.wa.length]? = some x := hx
        rw [List.getElem?_append_right (Nat.le_refl _), Nat.sub_self] at h9
        exact Option.some.inj h9
      subst hx2
      exact ⟨g1, g2, g3⟩
theorem ke_addP {f' : Nat → Int32} {d : vP} (h : ke f V) (hz : v_sz V) (hn : V.ps.length < 6) (ho : ∀ p, p ≠ 13 → (p < 1124 + 4 * V.ps.length ∨ 1124 + 4 * V.ps.length + 4 ≤ p) → f' p = f p) (hc : f' 13 = Int32.ofNat (V.ps.length + 1)) (g0 : f' (1124 + 4 * V.ps.length + 0) = d.1) (g1 : f' (1124 + 4 * V.ps.length + 1) = d.2.1) (g2 : f' (1124 + 4 * V.ps.length + 2) = d.2.2.1) (g3 : f' (1124 + 4 * V.ps.length + 3) = d.2.2.2) : ke f' (V.cs, V.ls, V.bx, V.st, V.ps ++ [d], V.2.2.2.2.2) := by
  obtain ⟨h0, h1, h2, h3, h4, h5, h6, h7⟩ := h
  obtain ⟨z1, z2, z3, z4, z5, z6, z7, z8⟩ := hz
  obtain ⟨n0, n1, n2, n3, n4, n5, n6, n7⟩ := h0
  refine ⟨⟨fun j hj => (ho j (by omega) (by omega)).trans (n0 j hj), (ho _ (by omega) (by omega)).trans n1, (ho _ (by omega) (by omega)).trans n2, (ho _ (by omega) (by omega)).trans n3, (ho _ (by omega) (by omega)).trans n4, ?_, (ho _ (by omega) (by omega)).trans n6, (ho _ (by omega) (by omega)).trans n7⟩, ke_C_cong h1 z1 (fun p _ _ => ho p (by omega) (by omega)), ke_L_cong h2 z2 (fun p _ _ => ho p (by omega) (by omega)), ke_B_cong h3 z3 (fun p _ _ => ho p (by omega) (by omega)), ke_S_cong h4 z4 z8 (fun p _ _ => ho p (by omega) (by omega)), fun i x hx => ?_, ke_D_cong h6 z6 (fun p _ _ => ho p (by omega) (by omega)), ke_W_cong h7 (Nat.le_trans z7 (by omega)) (fun p _ _ => ho p (by omega) (by omega))⟩
  · show _ = Int32.ofNat (V.ps ++ [d]).length
    rw [hc, List.length_append]
    rfl
  · by_cases hi : i < V.ps.length
    · have hx2 : V.ps[i]? = some x := by rw [← hx]; exact (List.getElem?_append_left hi).symm
      obtain ⟨q0, q1, q2, q3⟩ := h5 i x hx2
      exact ⟨(ho _ (by omega) (by omega)).trans q0, (ho _ (by omega) (by omega)).trans q1, (ho _ (by omega) (by omega)).trans q2, (ho _ (by omega) (by omega)).trans q3⟩
    · have hi3 : i < (V.ps ++ [d]).length := ke_get_lt hx
      rw [List.length_append] at hi3
      simp only [List.length_cons, List.length_nil] at hi3
      have e : i = V.ps.length := by omega
      subst e
      have hx2 : d = x := by
        have h9 : (V.ps ++ [d])[V.ps.length]? = some x := hx
        rw [List.getElem?_append_right (Nat.le_refl _), Nat.sub_self] at h9
        exact Option.some.inj h9
      subst hx2
      exact ⟨g0, g1, g2, g3⟩
end KTQ
