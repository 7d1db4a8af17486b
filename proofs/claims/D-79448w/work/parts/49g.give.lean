set_option maxRecDepth 100000
section KTG
variable {Z : ka_Z} {w : Nat} {G : ka_H} {m : Nat} {ad : Nat → Nat} {T : kT} {X : vX} {f : Nat → Int32} {V : kV} {cc dd : Nat}
theorem kt_give54 {i : Nat} {c v : Int32} {li : vL} {f1 : Nat → Int32} {l : List vB} (hs : kt_sep m ad) (h0 : kR0 T X) (hz : vX_sz X) (hw : keP (T.1 1) X.now) (hrf : kc_rf (T.1 6) (T.1 7) X.rf) (hst : v_st X.now) (hl : l.Perm X.now.bx) (he : ke f (X.now.wb l)) (hL : v_okL X.now) (hi : X.now.ls[i]? = some li) (hc : c = -1 ∨ ∃ b, b < X.now.cs.length ∧ c = Int32.ofNat b) (hv : v = (if li.2 = -1 then -6 else li.2)) (hv0 : vt_err v = 0)
    (ha : ∀ p, (∀ a, a < 4 → p ≠ 16 + 5 * a + 2) → f1 p = f p) (hb : ∀ a, a < X.now.cs.length → f1 (16 + 5 * a + 2) = (if li.2 = Int32.ofNat a then -6 else f (16 + 5 * a + 2))) : ka_T Z (pb_X3_give_54 (some m) (Int32.ofNat i) c v) w (kt G m ad (kt_set T 0 f1)) (kt_Q w G m ad (vx_do X (.inr (v_gives X.now i c)))) := by
  have hz0 := hz.1
  obtain ⟨z1, z2, z3, z4, z5, z6, z7, z8⟩ := hz.1
  have hilt := ke_get_lt hi
  have hgd : X.now.ls.getD i (0, 0) = li := by rw [List.getD, hi]; rfl
  have hans : v_gives X.now i c = (v, X.now.cs, v_gls X.now.ls i c, X.now.2.2) := by
    unfold v_gives
    rw [hgd, hv]
    rfl
  have hend : ∀ f', ke f' (X.now.cs, v_gls X.now.ls i c, (X.now.wb l).2.2) → ka_T Z (pb_X3_give_122 (some m) v) w (kt G m ad (kt_set T 0 f')) (kt_Q w G m ad (vx_do X (.inr (v_gives X.now i c)))) := by
    intro f' hf'
    rw [hans]
    unfold pb_X3_give_122
    exact kt_endI (V' := (X.now.cs, v_gls X.now.ls i c, X.now.2.2)) hs h0 hz hw hrf hv0 ⟨hst, l, hl, hf'⟩
  unfold pb_X3_give_54
  refine kt_g0 (kt_lAt (j := 1) (kt_ss hs (by omega) ?_))
  rcases hc with hc | ⟨b, hb1, hb2⟩
  · subst hc
    refine ka_ifP (by decide) (hend _ (ke_gives (V := X.now.wb l) (c := -1) he (v_sz_wb hz0 hl) hL hi (Or.inl rfl) (fun p hp1 hp2 => ?_) (fun j l' hj => ?_) (fun a hla => ?_)))
    · exact (upd_ne (hp2 i (by omega))).trans (ha p hp1)
    · have hj4 := ke_get_lt hj
      by_cases hji : j = i
      · rw [if_pos hji, if_pos rfl, hji, upd_same]
      · rw [if_neg hji, if_neg (fun z => z.1 rfl), upd_ne (by omega)]
        exact ha _ (fun a ha4 => by omega)
    · have hla2 : a < X.now.cs.length := hla
      rw [if_neg (fun z => k3_m1 (a := a) (by omega) z.symm), upd_ne (by omega)]
      exact hb a hla
  · subst hb2
    refine ka_ifN (k3_neg (by omega)) (kt_g0 (kt_cAt (j := 2) (kt_ls hs (by omega) ?_)))
    rw [upd_ne (by omega), hb b hb1]
    have hbm1 : Int32.ofNat b ≠ -1 := k3_m1 (by omega)
    obtain ⟨xb, hxb⟩ : ∃ x, X.now.cs[b]? = some x := ⟨_, List.getElem?_eq_getElem hb1⟩
    have hfb : f (16 + 5 * b + 2) = v_lens (Int32.ofNat b) X.now.ls 0 := (he.2.1 b xb hxb).2.2.1
    -- the end, once the other lens is known
    have h100 : ∀ f3, (∀ p, (∀ a, a < 4 → p ≠ 16 + 5 * a + 2) → (∀ j, j < 4 → p ≠ 36 + 2 * j + 1) → f3 p = f p) → (∀ j l', j ≠ i → X.now.ls[j]? = some l' → f3 (36 + 2 * j + 1) = (if l'.2 = Int32.ofNat b then -6 else f (36 + 2 * j + 1))) → (∀ a, a < X.now.cs.length → f3 (16 + 5 * a + 2) = (if li.2 = Int32.ofNat a then -6 else f (16 + 5 * a + 2))) → ka_T Z (pb_X3_give_100 (some m) (Int32.ofNat i) (Int32.ofNat b) v) w (kt G m ad (kt_set T 0 f3)) (kt_Q w G m ad (vx_do X (.inr (v_gives X.now i (Int32.ofNat b))))) := by
      intro f3 r1 r2 r3
      unfold pb_X3_give_100
      refine kt_g0 (kt_cAt (j := 2) (kt_ss hs (by omega) (kt_g0 (kt_lAt (j := 1) (kt_ss hs (by omega) ?_)))))
      refine hend _ (ke_gives (V := X.now.wb l) (c := Int32.ofNat b) he (v_sz_wb hz0 hl) hL hi (Or.inr ⟨b, hb1, rfl⟩) (fun p hp1 hp2 => ?_) (fun j l' hj => ?_) (fun a hla => ?_))
      · exact (upd_ne (hp2 i (by omega))).trans ((upd_ne (hp1 b (by omega))).trans (r1 p hp1 hp2))
      · have hj4 : j < X.now.ls.length := ke_get_lt hj
        by_cases hji : j = i
        · rw [if_pos hji, if_neg hbm1, hji, upd_same]
        · rw [if_neg hji, upd_ne (by omega), upd_ne (by omega), r2 j l' hji hj]
          by_cases hlb : l'.2 = Int32.ofNat b
          · rw [if_pos hlb, if_pos ⟨hbm1, hlb⟩]
          · rw [if_neg hlb, if_neg (fun z => hlb z.2)]
      · have hla2 : a < X.now.cs.length := hla
        by_cases hab : a = b
        · subst hab
          rw [if_pos rfl, upd_ne (by omega), upd_same]
        · rw [if_neg (fun z => hab ((k3_eq (by omega) (by omega)).mp z).symm), upd_ne (by omega), upd_ne (by omega)]
          exact r3 a hla
    have hf2a : ∀ p, (∀ a, a < 4 → p ≠ 16 + 5 * a + 2) → (∀ j, j < 4 → p ≠ 36 + 2 * j + 1) → upd f1 (36 + 2 * i + 1) (-6) p = f p := fun p hp1 hp2 => (upd_ne (hp2 i (by omega))).trans (ha p hp1)
    have hf2c : ∀ a, a < X.now.cs.length → upd f1 (36 + 2 * i + 1) (-6) (16 + 5 * a + 2) = (if li.2 = Int32.ofNat a then -6 else f (16 + 5 * a + 2)) := fun a hla => (upd_ne (by omega)).trans (hb a hla)
    have hf2w : ∀ j, j < 4 → j ≠ i → upd f1 (36 + 2 * i + 1) (-6) (36 + 2 * j + 1) = f (36 + 2 * j + 1) := fun j hj hji => (upd_ne (by omega)).trans (ha _ (fun a _ => by omega))
    by_cases hlb : li.2 = Int32.ofNat b
    · rw [if_pos hlb]
      refine ka_ifP (by decide) (h100 _ hf2a (fun j l' hji hj => ?_) hf2c)
      have hj4 := ke_get_lt hj
      rw [hf2w j (by omega) hji, if_neg]
      exact fun z => hji (hL.2 j i l' li hj hi (by rw [z, hlb]) (by rw [z]; exact hbm1))
    · rw [if_neg hlb, hfb]
      rcases v_lens_spec (c := Int32.ofNat b) (ls := X.now.ls) (i := 0) (by omega) with ⟨e1, e2⟩ | ⟨o, lo, e1, e2, e3⟩
      · rw [e1]
        refine ka_ifP (by decide) (h100 _ hf2a (fun j l' hji hj => ?_) hf2c)
        have hj4 := ke_get_lt hj
        rw [hf2w j (by omega) hji, if_neg (e2 l' (List.mem_of_getElem? hj))]
      · have ho4 := ke_get_lt e1
        have hoi : o ≠ i := fun z => by
          rw [z, hi] at e1
          cases e1
          exact hlb e2
        rw [e3, Nat.zero_add]
        refine ka_ifN (k3_neg (by omega)) (kt_g0 (kt_lAt (j := 1) (kt_ss hs (by omega) ?_)))
        refine h100 _ (fun p hp1 hp2 => (upd_ne (hp2 o (by omega))).trans (hf2a p hp1 hp2)) (fun j l' hji hj => ?_) (fun a hla => (upd_ne (by omega)).trans (hf2c a hla))
        have hj4 := ke_get_lt hj
        by_cases hjo : j = o
        · subst hjo
          rw [hj] at e1
          cases e1
          rw [upd_same, if_pos e2]
        · rw [upd_ne (by omega), hf2w j (by omega) hji, if_neg]
          exact fun z => hjo (hL.2 j o l' lo hj e1 (by rw [z, e2]) (by rw [z]; exact hbm1))
theorem kt_give {l c : Int32} (hs : kt_sep m ad) (hR : kR T X) (hz : vX_sz X) (hok : v_ok cc dd X.now) : ka_T Z (pm_X3_give (some m) l c) w (kt G m ad T) (kt_Q w G m ad (vx_give X l c)) := by
  obtain ⟨z1, z2, z3, z4, z5, z6, z7, z8⟩ := hz.1
  have hT : T = kt_set T 0 (T.1 0) := kt_set_id.symm
  obtain ⟨hst, lb, hlb, he⟩ := id hR.1
  have e10 : T.1 0 10 = Int32.ofNat X.now.ls.length := he.1.2.2.1
  have e9 : T.1 0 9 = Int32.ofNat X.now.cs.length := he.1.2.1
  have hisL : ka_T Z (pm_X3_isLens (some m) l) w (kt G m ad T) (ka_V w (kt G m ad T) (v_in l 0 (Int32.ofNat X.now.ls.length - 1))) := by
    have := kt_isL (Z := Z) (w := w) (G := G) (T := T) (v := l) hs e10
    rw [← hT] at this
    exact this
  have hisC : ka_T Z (pm_X3_isCarver (some m) c) w (kt G m ad T) (ka_V w (kt G m ad T) (v_in c 0 (Int32.ofNat X.now.cs.length - 1))) := by
    have := kt_isC (Z := Z) (w := w) (G := G) (T := T) (v := c) hs e9
    rw [← hT] at this
    exact this
  unfold pm_X3_give
  refine kt_is (ka_use hisL ?_)
  by_cases h : vx_isL X l = 1
  · refine ka_ifN (by rw [show v_in l 0 (Int32.ofNat X.now.ls.length - 1) = 1 from h]; decide) ?_
    obtain ⟨i, rfl, hi⟩ := v_in_idx (by omega) h
    obtain ⟨li, hli⟩ : ∃ li, X.now.ls[i]? = some li := ⟨_, List.getElem?_eq_getElem hi⟩
    have hgo : (c = -1 ∨ ∃ b, b < X.now.cs.length ∧ c = Int32.ofNat b) → ka_T Z (pb_X3_give_23 (some m) (Int32.ofNat i) c) w (kt G m ad T) (kt_Q w G m ad (vx_do X (.inr (v_gives X.now i c)))) := by
      intro hc
      unfold pb_X3_give_23
      refine kt_keep hs hR hz (fun T0 f hf hrf h0 hw => ?_)
      obtain ⟨hst, lb, hlb, he⟩ := hf
      refine kt_g0 (kt_lAt (j := 1) (kt_ls hs (by omega) ?_))
      rw [(he.2.2.1 i li hli).2]
      rcases hok.1.1 li (List.mem_of_getElem? hli) with e | ⟨a, ha, e⟩
      · rw [if_pos e]
        refine ka_ifP (by decide) ?_
        exact kt_give54 hs h0 hz hw hrf hst hlb he hok.1 hli hc (by rw [if_pos e]) (by decide) (fun p _ => rfl) (fun a ha => by rw [if_neg]; rw [e]; exact fun z => k3_m1 (a := a) (by omega) z.symm)
      · have hm1 : ¬ li.2 = -1 := by rw [e]; exact k3_m1 (by omega)
        rw [if_neg hm1, e]
        refine ka_ifN (k3_neg (by omega)) (kt_g0 (kt_cAt (j := 2) (kt_ss hs (by omega) ?_)))
        refine kt_give54 hs h0 hz hw hrf hst hlb he hok.1 hli hc (by rw [if_neg hm1, e]) (vt_err_nat (by omega)) (fun p hp => upd_ne (hp a (by omega))) (fun a' ha' => ?_)
        by_cases haa : a' = a
        · subst haa
          rw [if_pos e, upd_same]
        · rw [if_neg (by rw [e]; exact fun z => haa ((k3_eq (by omega) (by omega)).mp z).symm), upd_ne (by omega)]
    have hnat : (Int32.ofNat i).toNatClampNeg = i := k3_nat (by omega)
    by_cases h1 : c = -1
    · have e : vx_give X (Int32.ofNat i) c = vx_do X (.inr (v_gives X.now i c)) := by
        unfold vx_give
        rw [hnat]
        exact if_pos ⟨h, Or.inl h1⟩
      rw [e]
      exact ka_ifP h1 (hgo (Or.inl h1))
    · refine ka_ifN h1 (kt_is (ka_use hisC ?_))
      by_cases h2 : vx_isC X c = 1
      · have e : vx_give X (Int32.ofNat i) c = vx_do X (.inr (v_gives X.now i c)) := by
          unfold vx_give
          rw [hnat]
          exact if_pos ⟨h, Or.inr h2⟩
        rw [e]
        obtain ⟨b, hb1, hb2⟩ := v_in_idx (by omega) h2
        exact ka_ifP (by rw [show v_in c 0 (Int32.ofNat X.now.cs.length - 1) = 1 from h2]; decide) (hgo (Or.inr ⟨b, hb2, hb1⟩))
      · rw [show vx_give X (Int32.ofNat i) c = (-1, X) from if_neg (fun z => z.2.elim h1 h2)]
        exact ka_ifN (by rw [show v_in c 0 (Int32.ofNat X.now.cs.length - 1) = 0 from v_in_no h2]; simp) (ka_pure ⟨rfl, rfl, T, rfl, hR⟩)
  · rw [show vx_give X l c = (-1, X) from if_neg (fun z => h z.1)]
    exact ka_ifP (v_in_no h) (ka_pure ⟨rfl, rfl, T, rfl, hR⟩)
end KTG
