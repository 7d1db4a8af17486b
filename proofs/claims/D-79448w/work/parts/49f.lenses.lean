set_option maxRecDepth 100000
/-! ===== the twin: lenses ===== -/
section KTL
variable {Z : ka_Z} {w : Nat} {G : ka_H} {m : Nat} {ad : Nat → Nat} {T : kT} {X : vX} {f : Nat → Int32} {V : kV} {cc dd : Nat}
theorem k3_m1 {a : Nat} (ha : a < 2 ^ 31) : Int32.ofNat a ≠ -1 := fun h => by
  have := k3_neg ha
  rw [h] at this
  exact this (by decide)
theorem ke_addL {pw : Int32} (h : ke f V) (hz : v_sz V) (hn : V.ls.length < 4) : ke (upd (upd (upd (vt_zero f (36 + 2 * V.ls.length) 2) 10 (Int32.ofNat (V.ls.length + 1))) (36 + 2 * V.ls.length + 0) pw) (36 + 2 * V.ls.length + 1) (-6)) (V.cs, V.ls ++ [(pw, -1)], V.2.2) := by
  obtain ⟨h0, h1, h2, h3, h4, h5, h6, h7⟩ := h
  obtain ⟨z1, z2, z3, z4, z5, z6, z7, z8⟩ := hz
  obtain ⟨n0, n1, n2, n3, n4, n5, n6, n7⟩ := h0
  have ho : ∀ p, p ≠ 10 → (p < 36 + 2 * V.ls.length ∨ 36 + 2 * V.ls.length + 2 ≤ p) → (upd (upd (upd (vt_zero f (36 + 2 * V.ls.length) 2) 10 (Int32.ofNat (V.ls.length + 1))) (36 + 2 * V.ls.length + 0) pw) (36 + 2 * V.ls.length + 1) (-6)) p = f p := fun p h9 hp => (upd_ne (by omega)).trans ((upd_ne (by omega)).trans ((upd_ne h9).trans (vt_zero_out (by omega))))
  have hC := ke_C_cong (f' := upd (upd (upd (vt_zero f (36 + 2 * V.ls.length) 2) 10 (Int32.ofNat (V.ls.length + 1))) (36 + 2 * V.ls.length + 0) pw) (36 + 2 * V.ls.length + 1) (-6)) h1 z1 (fun p _ _ => ho p (by omega) (by omega))
  refine ⟨⟨fun j hj => (ho j (by omega) (by omega)).trans (n0 j hj), (ho _ (by omega) (by omega)).trans n1, ?_, (ho _ (by omega) (by omega)).trans n3, (ho _ (by omega) (by omega)).trans n4, (ho _ (by omega) (by omega)).trans n5, (ho _ (by omega) (by omega)).trans n6, (ho _ (by omega) (by omega)).trans n7⟩, fun i c hc => ?_, fun i c hc => ?_, ke_B_cong h3 z3 (fun p _ _ => ho p (by omega) (by omega)), ke_S_cong h4 z4 z8 (fun p _ _ => ho p (by omega) (by omega)), ke_P_cong h5 z5 (fun p _ _ => ho p (by omega) (by omega)), ke_D_cong h6 z6 (fun p _ _ => ho p (by omega) (by omega)), ke_W_cong h7 (Nat.le_trans z7 (by omega)) (fun p _ _ => ho p (by omega) (by omega))⟩
  · show _ = Int32.ofNat (V.ls ++ [(pw, -1)]).length
    rw [upd_ne (by omega), upd_ne (by omega), upd_same, List.length_append]
    rfl
  · have hi := ke_get_lt hc
    have hi2 : i < V.cs.length := hi
    obtain ⟨g0, g1, g2, g3, g4⟩ := hC i c hc
    refine ⟨g0, g1, ?_, g3, g4⟩
    show _ = v_lens (Int32.ofNat i) (V.ls ++ [(pw, -1)]) 0
    rw [v_lens_app (fun z => k3_m1 (a := i) (by omega) z.symm)]
    exact g2
  · by_cases hi : i < V.ls.length
    · have hc2 : V.ls[i]? = some c := by rw [← hc]; exact (List.getElem?_append_left hi).symm
      obtain ⟨g0, g1⟩ := h2 i c hc2
      exact ⟨(ho _ (by omega) (by omega)).trans g0, (ho _ (by omega) (by omega)).trans g1⟩
    · have hi3 : i < (V.ls ++ [(pw, -1)]).length := ke_get_lt hc
      rw [List.length_append] at hi3
      simp only [List.length_cons, List.length_nil] at hi3
      have e : i = V.ls.length := by omega
      subst e
      have hc2 : (pw, -1) = c := by
        have h9 : (V.ls ++ [(pw, -1)])[V.ls.length]? = some c := hc
        rw [List.getElem?_append_right (Nat.le_refl _), Nat.sub_self] at h9
        exact Option.some.inj h9
      subst hc2
      refine ⟨?_, ?_⟩
      · rw [upd_ne (by omega), upd_same]
      · rw [upd_same]
        rfl
theorem kt_lens {n : Int32} (hs : kt_sep m ad) (hR : kR T X) (hz : vX_sz X) : ka_T Z (pm_X3_lens (some m) n) w (kt G m ad T) (kt_Q w G m ad (vx_lens X n)) := by
  unfold pm_X3_lens vx_lens
  refine ka_use kt_isIn ?_
  by_cases h : v_in n 1 9 = 1
  · rw [if_pos h]
    refine ka_ifP (by rw [h]; decide) (kt_keep hs hR hz (fun T0 f hf hrf h0 hw => ?_))
    obtain ⟨hst, l, hl, he⟩ := id hf
    have e1 : f 10 = Int32.ofNat X.now.ls.length := he.1.2.2.1
    have hz1 := hz.1.2.1
    refine kt_is ?_
    unfold v_addL
    by_cases h4 : X.now.ls.length = 4
    · rw [if_pos (by omega)]
      refine ka_mv (kt_addsN (c := 10) (k := 4) hs (by omega) (by rw [e1, h4])) (ka_ifP (by decide) ?_)
      obtain ⟨q1, q2, q3, q4⟩ := kt_no_spec (T := kt_set T0 0 f) (X := X) (why := 1) (d := Int32.ofNat 4) (by decide) h0 hw hf
      unfold pb_X3_lens_55
      exact kt_endE hs q1 hz q2 q4 q3
    · rw [if_neg (by omega)]
      refine ka_mv (kt_addsY (c := 10) (b := 36) (s := 2) (k := 4) hs (by omega) (by omega) e1 h4 (by omega) (by omega)) (ka_ifN (k3_neg (by omega)) (kt_g0 (kt_lAt (j := 0) (kt_ss hs (by omega) (kt_g0 (kt_lAt (j := 1) (kt_ss hs (by omega) ?_)))))))
      unfold pb_X3_lens_55
      refine kt_endI hs h0 hz hw hrf (vt_err_nat (by omega)) ⟨hst, l, hl, ?_⟩
      exact ke_addL (V := X.now.wb l) he (v_sz_wb hz.1 hl) (show X.now.ls.length < 4 by omega)
  · rw [if_neg h]
    exact ka_ifN (by rw [v_in_no h]; simp) (ka_pure ⟨rfl, rfl, T, rfl, hR⟩)
/-- what the lenses are, one being given -/
abbrev v_gls (ls : List vL) (i : Nat) (c : Int32) : List vL := v_setL (if c = -1 ∨ v_lens c ls 0 = -6 then ls else v_setL ls (v_lens c ls 0).toNatClampNeg (-1)) i c
theorem v_gls_spec {ls : List vL} {i : Nat} {c : Int32} (hi : i < ls.length) (hn : ls.length ≤ 4) (hu : ∀ (i j : Nat) (l l' : vL), ls[i]? = some l → ls[j]? = some l' → l.2 = l'.2 → l.2 ≠ -1 → i = j) : (v_gls ls i c).length = ls.length ∧ ∀ j l', (v_gls ls i c)[j]? = some l' → ∃ l, ls[j]? = some l ∧ l'.1 = l.1 ∧ l'.2 = (if j = i then c else if c ≠ -1 ∧ l.2 = c then -1 else l.2) := by
  have hset : ∀ (ls : List vL) (k : Nat) (c : Int32), (v_setL ls k c).length = ls.length := fun ls k c => List.length_set
  have hget : ∀ (ls : List vL) (k j : Nat) (c : Int32) (l' : vL), (v_setL ls k c)[j]? = some l' → ∃ l, ls[j]? = some l ∧ l'.1 = l.1 ∧ l'.2 = (if j = k then c else l.2) := by
    intro ls k j c l' h
    unfold v_setL at h
    rw [List.getElem?_set] at h
    by_cases e : k = j
    · subst e
      rw [if_pos rfl] at h
      by_cases hk : k < ls.length
      · rw [if_pos hk] at h
        cases h
        exact ⟨ls[k], List.getElem?_eq_getElem hk, by rw [List.getD, List.getElem?_eq_getElem hk]; rfl, by rw [if_pos rfl]⟩
      · rw [if_neg hk] at h
        cases h
    · rw [if_neg e] at h
      exact ⟨l', h, rfl, by rw [if_neg (Ne.symm e)]⟩
  unfold v_gls
  by_cases hc : c = -1 ∨ v_lens c ls 0 = -6
  · rw [if_pos hc]
    refine ⟨hset _ _ _, fun j l' h => ?_⟩
    obtain ⟨l, h1, h2, h3⟩ := hget _ _ _ _ _ h
    refine ⟨l, h1, h2, ?_⟩
    rw [h3]
    by_cases e : j = i
    · rw [if_pos e, if_pos e]
    · rw [if_neg e, if_neg e, if_neg]
      rintro ⟨z1, z2⟩
      rcases v_lens_spec (c := c) (ls := ls) (i := 0) (by omega) with ⟨-, e3⟩ | ⟨j2, l2, f1, f2, f3⟩
      · exact e3 l (List.mem_of_getElem? h1) z2
      · rcases hc with hc | hc
        · exact z1 hc
        · rw [hc] at f3
          exact k3_m6 (by have := ke_get_lt f1; omega) f3.symm
  · rw [if_neg hc]
    refine ⟨by rw [hset, hset], fun j l' h => ?_⟩
    obtain ⟨l1, h1, h2, h3⟩ := hget _ _ _ _ _ h
    obtain ⟨l, h4, h5, h6⟩ := hget _ _ _ _ _ h1
    refine ⟨l, h4, by rw [h2, h5], ?_⟩
    rw [h3]
    by_cases e : j = i
    · rw [if_pos e, if_pos e]
    · rw [if_neg e, if_neg e, h6]
      rcases v_lens_spec (c := c) (ls := ls) (i := 0) (by omega) with ⟨e1, -⟩ | ⟨j2, l2, f1, f2, f3⟩
      · exact absurd (Or.inr e1) hc
      · have hj2 := ke_get_lt f1
        rw [f3, Nat.zero_add, k3_nat (by omega)]
        have hc1 : c ≠ -1 := fun z => hc (Or.inl z)
        by_cases e2 : j = j2
        · subst e2
          rw [h4] at f1
          cases f1
          rw [if_pos rfl, if_pos ⟨hc1, f2⟩]
        · rw [if_neg e2, if_neg]
          rintro ⟨-, z2⟩
          exact e2 (hu j j2 l l2 h4 f1 (by rw [z2, f2]) (by rw [z2]; exact hc1))
/-- the row when lens i is given -/
theorem ke_gives {f' : Nat → Int32} {i : Nat} {c : Int32} {li : vL} (h : ke f V) (hz : v_sz V) (hL : v_okL V) (hi : V.ls[i]? = some li) (hc : c = -1 ∨ ∃ b, b < V.cs.length ∧ c = Int32.ofNat b)
    (hrest : ∀ p, (∀ a, a < 4 → p ≠ 16 + 5 * a + 2) → (∀ j, j < 4 → p ≠ 36 + 2 * j + 1) → f' p = f p)
    (hw : ∀ j l, V.ls[j]? = some l → f' (36 + 2 * j + 1) = (if j = i then (if c = -1 then -6 else c) else if c ≠ -1 ∧ l.2 = c then -6 else f (36 + 2 * j + 1)))
    (hcl : ∀ a, a < V.cs.length → f' (16 + 5 * a + 2) = (if c = Int32.ofNat a then Int32.ofNat i else if li.2 = Int32.ofNat a then -6 else f (16 + 5 * a + 2))) : ke f' (V.cs, v_gls V.ls i c, V.2.2) := by
  obtain ⟨h0, h1, h2, h3, h4, h5, h6, h7⟩ := h
  obtain ⟨z1, z2, z3, z4, z5, z6, z7, z8⟩ := hz
  obtain ⟨n0, n1, n2, n3, n4, n5, n6, n7⟩ := h0
  have hilt := ke_get_lt hi
  obtain ⟨g1, g2⟩ := v_gls_spec (c := c) hilt z2 hL.2
  have ho : ∀ p, (p < 16 ∨ 44 ≤ p) → f' p = f p := fun p hp => hrest p (fun a ha => by omega) (fun j hj => by omega)
  refine ⟨⟨fun j hj => (ho j (by omega)).trans (n0 j hj), (ho _ (by omega)).trans n1, ?_, (ho _ (by omega)).trans n3, (ho _ (by omega)).trans n4, (ho _ (by omega)).trans n5, (ho _ (by omega)).trans n6, (ho _ (by omega)).trans n7⟩, fun a x hx => ?_, fun j l' hl' => ?_, ke_B_cong h3 z3 (fun p _ _ => ho p (by omega)), ke_S_cong h4 z4 z8 (fun p _ _ => ho p (by omega)), ke_P_cong h5 z5 (fun p _ _ => ho p (by omega)), ke_D_cong h6 z6 (fun p _ _ => ho p (by omega)), ke_W_cong h7 (Nat.le_trans z7 (by omega)) (fun p _ _ => ho p (by omega))⟩
  · show _ = Int32.ofNat (v_gls V.ls i c).length
    rw [g1, ho 10 (by omega), n2]
  · have ha : a < V.cs.length := ke_get_lt hx
    obtain ⟨q0, q1, q2, q3, q4⟩ := h1 a x hx
    refine ⟨(hrest _ (fun b hb => by omega) (fun j hj => by omega)).trans q0, (hrest _ (fun b hb => by omega) (fun j hj => by omega)).trans q1, ?_, (hrest _ (fun b hb => by omega) (fun j hj => by omega)).trans q3, (hrest _ (fun b hb => by omega) (fun j hj => by omega)).trans q4⟩
    show _ = v_lens (Int32.ofNat a) (v_gls V.ls i c) 0
    rw [hcl a ha]
    have ham1 : Int32.ofNat a ≠ -1 := k3_m1 (by omega)
    by_cases hca : c = Int32.ofNat a
    · rw [if_pos hca]
      rcases v_lens_spec (c := Int32.ofNat a) (ls := v_gls V.ls i c) (i := 0) (by omega) with ⟨-, e2⟩ | ⟨j, l', e1, e2, e3⟩
      · exfalso
        obtain ⟨l', hl'⟩ : ∃ l', (v_gls V.ls i c)[i]? = some l' := ⟨_, List.getElem?_eq_getElem (by omega)⟩
        obtain ⟨l, p1, p2, p3⟩ := g2 i l' hl'
        rw [if_pos rfl] at p3
        exact e2 l' (List.mem_of_getElem? hl') (by rw [p3, hca])
      · rw [e3, Nat.zero_add]
        obtain ⟨l, p1, p2, p3⟩ := g2 j l' e1
        by_cases hji : j = i
        · rw [hji]
        · exfalso
          rw [if_neg hji] at p3
          by_cases hlc : c ≠ -1 ∧ l.2 = c
          · rw [if_pos hlc, e2] at p3
            exact ham1 p3
          · rw [if_neg hlc, e2] at p3
            exact hlc ⟨by rw [hca]; exact ham1, by rw [← p3, hca]⟩
    · rw [if_neg hca]
      rcases v_lens_spec (c := Int32.ofNat a) (ls := v_gls V.ls i c) (i := 0) (by omega) with ⟨e1, e2⟩ | ⟨j, l', e1, e2, e3⟩
      · rw [e1]
        by_cases hla : li.2 = Int32.ofNat a
        · rw [if_pos hla]
        · rw [if_neg hla, q2]
          rcases v_lens_spec (c := Int32.ofNat a) (ls := V.ls) (i := 0) (by omega) with ⟨r1, -⟩ | ⟨j2, l2, r1, r2, r3⟩
          · exact r1
          · exfalso
            have hj2 := ke_get_lt r1
            obtain ⟨l', hl'⟩ : ∃ l', (v_gls V.ls i c)[j2]? = some l' := ⟨_, List.getElem?_eq_getElem (by omega)⟩
            obtain ⟨l, p1, p2, p3⟩ := g2 j2 l' hl'
            rw [r1] at p1
            cases p1
            have hji : j2 ≠ i := fun z => by
              rw [z, hi] at r1
              cases r1
              exact hla r2
            rw [if_neg hji, if_neg (fun z => hca (by rw [← z.2, r2])), r2] at p3
            exact e2 l' (List.mem_of_getElem? hl') p3
      · rw [e3, Nat.zero_add]
        obtain ⟨l, p1, p2, p3⟩ := g2 j l' e1
        have hji : j ≠ i := fun z => by
          rw [if_pos z, e2] at p3
          exact hca p3.symm
        rw [if_neg hji] at p3
        have hlc : ¬ (c ≠ -1 ∧ l.2 = c) := fun z => by
          rw [if_pos z, e2] at p3
          exact ham1 p3
        rw [if_neg hlc, e2] at p3
        have hla : li.2 ≠ Int32.ofNat a := fun z => hji (hL.2 j i l li p1 hi (by rw [z, ← p3]) (by rw [← p3]; exact ham1))
        rw [if_neg hla, q2]
        rcases v_lens_spec (c := Int32.ofNat a) (ls := V.ls) (i := 0) (by omega) with ⟨-, r1⟩ | ⟨j2, l2, r1, r2, r3⟩
        · exact absurd p3.symm (r1 l (List.mem_of_getElem? p1))
        · rw [r3, Nat.zero_add, hL.2 j2 j l2 l r1 p1 (by rw [r2, ← p3]) (by rw [r2]; exact ham1)]
  · obtain ⟨l, p1, p2, p3⟩ := g2 j l' hl'
    have hj := ke_get_lt p1
    obtain ⟨q0, q1⟩ := h2 j l p1
    refine ⟨by rw [hrest _ (fun a ha => by omega) (fun k hk => by omega), q0, p2], ?_⟩
    rw [hw j l p1, p3]
    by_cases hji : j = i
    · rw [if_pos hji, if_pos hji]
    · rw [if_neg hji, if_neg hji]
      by_cases hlc : c ≠ -1 ∧ l.2 = c
      · rw [if_pos hlc, if_pos hlc, if_pos rfl]
      · rw [if_neg hlc, if_neg hlc, q1]
end KTL
