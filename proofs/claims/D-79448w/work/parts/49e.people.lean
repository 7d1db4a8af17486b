set_option maxRecDepth 100000
/-! ===== the twin: stones, carvers, lenses ===== -/
section KTP
variable {Z : ka_Z} {w : Nat} {G : ka_H} {m : Nat} {ad : Nat → Nat} {T : kT} {X : vX} {f : Nat → Int32} {V : kV} {cc dd : Nat}
theorem kt_less {H : ka_H} {a b : Int32} : ka_T Z (pm_X3_lesser a b) w H (ka_V w H (km_min a b)) := by
  refine ka_post kt_lesser (fun r w' H' hp => ?_)
  obtain ⟨rfl, rfl, rfl⟩ := hp
  refine ⟨?_, rfl, rfl⟩
  unfold km_min
  by_cases h : b < a
  · rw [if_pos h, if_pos (Int32.le_of_lt h)]
  · rw [if_neg h]
    by_cases h2 : b ≤ a
    · rw [if_pos h2]
      exact Int32.le_antisymm h2 (Int32.not_lt.mp h)
    · rw [if_neg h2]
theorem ke_num {k : Nat} {v : Int32} (h : ke f V) (hk : k < 9) (hz : v_sz V) : ke (upd f k v) (V.cs, V.ls, V.bx, V.st, V.ps, V.so, V.wa, V.aw, v_num V.sc k v) := by
  obtain ⟨h0, h1, h2, h3, h4, h5, h6, h7⟩ := h
  obtain ⟨z1, z2, z3, z4, z5, z6, z7, z8⟩ := hz
  obtain ⟨n0, n1, n2, n3, n4, n5, n6, n7⟩ := h0
  refine ⟨⟨fun j hj => ?_, (upd_ne (by omega)).trans n1, (upd_ne (by omega)).trans n2, (upd_ne (by omega)).trans n3, (upd_ne (by omega)).trans n4, (upd_ne (by omega)).trans n5, (upd_ne (by omega)).trans n6, (upd_ne (by omega)).trans n7⟩, ke_C_cong h1 z1 (fun p _ _ => upd_ne (by omega)), ke_L_cong h2 z2 (fun p _ _ => upd_ne (by omega)), ke_B_cong h3 z3 (fun p _ _ => upd_ne (by omega)), ke_S_cong h4 z4 z8 (fun p _ _ => upd_ne (by omega)), ke_P_cong h5 z5 (fun p _ _ => upd_ne (by omega)), ke_D_cong h6 z6 (fun p _ _ => upd_ne (by omega)), ke_W_cong h7 (Nat.le_trans z7 (by omega)) (fun p _ _ => upd_ne (by omega))⟩
  show upd f k v j = v_num V.sc k v j
  unfold upd v_num
  by_cases e : j = k
  · rw [if_pos e, if_pos e]
  · rw [if_neg e, if_neg e]
    exact n0 j hj
theorem vt_err_nat {n : Nat} (h : n < 2 ^ 31) : vt_err (Int32.ofNat n) = 0 := if_pos ((k3_le (a := 0) (by omega) h).mpr (Nat.zero_le _))
theorem v_min_nat {a b : Nat} (ha : a < 2 ^ 31) (hb : b < 2 ^ 31) : km_min (Int32.ofNat a) (Int32.ofNat b) = Int32.ofNat (min a b) := k3_min ha hb
theorem kt_stones {n : Int32} (hs : kt_sep m ad) (hR : kR T X) (hz : vX_sz X) : ka_T Z (pm_X3_stones (some m) n) w (kt G m ad T) (kt_Q w G m ad (vx_stones X n)) := by
  unfold pm_X3_stones vx_stones
  refine ka_use kt_isIn ?_
  by_cases h : v_in n 1 200 = 1
  · rw [if_pos h]
    refine ka_ifP (by rw [h]; decide) (kt_keep hs hR hz (fun T0 f hf hrf h0 hw => ?_))
    obtain ⟨⟨s1, hs1, hs2⟩, l, hl, he⟩ := hf
    have e1 : f 1 = X.now.sc 1 := he.1.1 1 (by omega)
    refine kt_g0 (kt_g0 (kt_ls (p := 1) hs (by omega) (ka_use kt_less (kt_ss (p := 1) hs (by omega) (kt_g0 (kt_ls (p := 1) hs (by omega) ?_))))))
    rw [upd_same, e1]
    obtain ⟨k, rfl, hk1, hk2⟩ := v_in_nat (a := 1) (b := 200) (by omega) (by omega) h
    have hv : km_min 999 (X.now.sc 1 + Int32.ofNat k) = Int32.ofNat (min 999 (s1 + k)) := by
      rw [hs2, k3_add]
      exact v_min_nat (a := 999) (by omega) (by omega)
    refine kt_endI (V' := (v_brings X.now (Int32.ofNat k)).2) hs h0 hz hw hrf (by rw [hv]; exact vt_err_nat (by omega)) ⟨⟨min 999 (s1 + k), by omega, hv⟩, l, hl, ?_⟩
    exact ke_num he (k := 1) (by omega) (v_sz_wb hz.1 hl)
  · rw [if_neg h]
    exact ka_ifN (by rw [v_in_no h]; simp) (ka_pure ⟨rfl, rfl, T, rfl, hR⟩)
theorem v_lens_no {c : Int32} : ∀ {ls : List vL} {i : Nat}, (∀ l ∈ ls, l.2 ≠ c) → v_lens c ls i = -6 := by
  intro ls
  induction ls with
  | nil => intro i _; rfl
  | cons l t ih =>
    intro i h
    rw [v_lens, if_neg (h l List.mem_cons_self)]
    exact ih (fun l hl => h l (List.mem_cons_of_mem _ hl))
theorem v_lens_app {c : Int32} {x : vL} (h : x.2 ≠ c) : ∀ {ls : List vL} {i : Nat}, v_lens c (ls ++ [x]) i = v_lens c ls i := by
  intro ls
  induction ls with
  | nil =>
    intro i
    show v_lens c [x] i = -6
    rw [v_lens, if_neg h]
    rfl
  | cons l t ih =>
    intro i
    show v_lens c (l :: (t ++ [x])) i = _
    rw [v_lens, v_lens, ih]
theorem ke_addC {eye : Int32} (h : ke f V) (hz : v_sz V) (hn : V.cs.length < 4) (hL : v_okL V) : ke (upd (upd (upd (vt_zero f (16 + 5 * V.cs.length) 5) 9 (Int32.ofNat (V.cs.length + 1))) (16 + 5 * V.cs.length + 0) eye) (16 + 5 * V.cs.length + 2) (-6)) (V.cs ++ [(eye, 0, 0, 0)], V.2) := by
  obtain ⟨h0, h1, h2, h3, h4, h5, h6, h7⟩ := h
  obtain ⟨z1, z2, z3, z4, z5, z6, z7, z8⟩ := hz
  obtain ⟨n0, n1, n2, n3, n4, n5, n6, n7⟩ := h0
  have ho : ∀ p, p ≠ 9 → (p < 16 + 5 * V.cs.length ∨ 16 + 5 * V.cs.length + 5 ≤ p) → (upd (upd (upd (vt_zero f (16 + 5 * V.cs.length) 5) 9 (Int32.ofNat (V.cs.length + 1))) (16 + 5 * V.cs.length + 0) eye) (16 + 5 * V.cs.length + 2) (-6)) p = f p := fun p h9 hp => (upd_ne (by omega)).trans ((upd_ne (by omega)).trans ((upd_ne h9).trans (vt_zero_out (by omega))))
  refine ⟨⟨fun j hj => (ho j (by omega) (by omega)).trans (n0 j hj), ?_, (ho _ (by omega) (by omega)).trans n2, (ho _ (by omega) (by omega)).trans n3, (ho _ (by omega) (by omega)).trans n4, (ho _ (by omega) (by omega)).trans n5, (ho _ (by omega) (by omega)).trans n6, (ho _ (by omega) (by omega)).trans n7⟩, fun i c hc => ?_, ke_L_cong h2 z2 (fun p _ _ => ho p (by omega) (by omega)), ke_B_cong h3 z3 (fun p _ _ => ho p (by omega) (by omega)), ke_S_cong h4 z4 z8 (fun p _ _ => ho p (by omega) (by omega)), ke_P_cong h5 z5 (fun p _ _ => ho p (by omega) (by omega)), ke_D_cong h6 z6 (fun p _ _ => ho p (by omega) (by omega)), ke_W_cong h7 (Nat.le_trans z7 (by omega)) (fun p _ _ => ho p (by omega) (by omega))⟩
  · show _ = Int32.ofNat (V.cs ++ [(eye, 0, 0, 0)]).length
    rw [upd_ne (by omega), upd_ne (by omega), upd_same, List.length_append]
    rfl
  · by_cases hi : i < V.cs.length
    · have hc2 : V.cs[i]? = some c := by rw [← hc]; exact (List.getElem?_append_left hi).symm
      obtain ⟨g0, g1, g2, g3, g4⟩ := h1 i c hc2
      exact ⟨(ho _ (by omega) (by omega)).trans g0, (ho _ (by omega) (by omega)).trans g1, (ho _ (by omega) (by omega)).trans g2, (ho _ (by omega) (by omega)).trans g3, (ho _ (by omega) (by omega)).trans g4⟩
    · have hi2 := ke_get_lt hc
      have hi3 : i < (V.cs ++ [(eye, 0, 0, 0)]).length := hi2
      rw [List.length_append] at hi3
      simp only [List.length_cons, List.length_nil] at hi3
      have e : i = V.cs.length := by omega
      subst e
      have hc2 : (eye, 0, 0, 0) = c := by
        have h9 : (V.cs ++ [(eye, 0, 0, 0)])[V.cs.length]? = some c := hc
        rw [List.getElem?_append_right (Nat.le_refl _), Nat.sub_self] at h9
        exact Option.some.inj h9
      subst hc2
      refine ⟨?_, ?_, ?_, ?_, ?_⟩
      · rw [upd_ne (by omega), upd_same]
      · rw [upd_ne (by omega), upd_ne (by omega), upd_ne (by omega), vt_zero_in (by omega) (by omega)]
      · rw [upd_same]
        refine (v_lens_no (fun l hl => ?_)).symm
        rcases hL.1 l hl with e | ⟨j, hj, e⟩
        · rw [e]
          exact fun z => by
            have h9 : (-1 : Int32) < 0 := by decide
            rw [z] at h9
            exact k3_neg (by omega) h9
        · rw [e]
          exact fun z => by have := (k3_eq (by omega) (by omega)).mp z; omega
      · rw [upd_ne (by omega), upd_ne (by omega), upd_ne (by omega), vt_zero_in (by omega) (by omega)]
      · rw [upd_ne (by omega), upd_ne (by omega), upd_ne (by omega), vt_zero_in (by omega) (by omega)]
theorem kt_carver {n : Int32} (hs : kt_sep m ad) (hR : kR T X) (hz : vX_sz X) (hok : v_ok cc dd X.now) : ka_T Z (pm_X3_carver (some m) n) w (kt G m ad T) (kt_Q w G m ad (vx_carver X n)) := by
  unfold pm_X3_carver vx_carver
  refine ka_use kt_isIn ?_
  by_cases h : v_in n 1 9 = 1
  · rw [if_pos h]
    refine ka_ifP (by rw [h]; decide) (kt_keep hs hR hz (fun T0 f hf hrf h0 hw => ?_))
    obtain ⟨hst, l, hl, he⟩ := id hf
    have e1 : f 9 = Int32.ofNat X.now.cs.length := he.1.2.1
    have hz1 := hz.1.1
    refine kt_is ?_
    unfold v_addC
    by_cases h4 : X.now.cs.length = 4
    · rw [if_pos (by omega)]
      refine ka_mv (kt_addsN (c := 9) (k := 4) hs (by omega) (by rw [e1, h4])) (ka_ifP (by decide) ?_)
      obtain ⟨q1, q2, q3, q4⟩ := kt_no_spec (T := kt_set T0 0 f) (X := X) (why := 1) (d := Int32.ofNat 4) (by decide) h0 hw hf
      unfold pb_X3_carver_55
      exact kt_endE hs q1 hz q2 q4 q3
    · rw [if_neg (by omega)]
      refine ka_mv (kt_addsY (c := 9) (b := 16) (s := 5) (k := 4) hs (by omega) (by omega) e1 h4 (by omega) (by omega)) (ka_ifN (k3_neg (by omega)) (kt_g0 (kt_cAt (j := 0) (kt_ss hs (by omega) (kt_g0 (kt_cAt (j := 2) (kt_ss hs (by omega) ?_)))))))
      unfold pb_X3_carver_55
      refine kt_endI hs h0 hz hw hrf (vt_err_nat (by omega)) ⟨hst, l, hl, ?_⟩
      exact ke_addC (V := X.now.wb l) he (v_sz_wb hz.1 hl) (show X.now.cs.length < 4 by omega) hok.1
  · rw [if_neg h]
    exact ka_ifN (by rw [v_in_no h]; simp) (ka_pure ⟨rfl, rfl, T, rfl, hR⟩)
end KTP
