set_option maxRecDepth 100000
section KTI
variable {Z : ka_Z} {w : Nat} {G : ka_H} {m : Nat} {ad : Nat → Nat} {T : kT} {X : vX} {f : Nat → Int32} {V : kV} {cc dd : Nat}
theorem v_sz_setC {i : Nat} {c : vC} (h : v_sz V) : v_sz (V.cs.set i c, V.2) := by
  obtain ⟨z1, z⟩ := h
  exact ⟨by show (V.cs.set i c).length ≤ 4; rw [List.length_set]; exact z1, z⟩
theorem v_sz_addB {b : vB} (h : v_sz V) (hn : V.bx.length < 240) : v_sz (V.cs, V.ls, V.bx ++ [b], V.2.2.2) := by
  obtain ⟨z1, z2, z3, z⟩ := h
  exact ⟨z1, z2, by show (V.bx ++ [b]).length ≤ 240; rw [List.length_append]; simp only [List.length_cons, List.length_nil]; omega, z⟩
theorem kt_105 {i : Nat} {k : Int32} {c : vC} (hs : kt_sep m ad) (h : ke f V) (hz : v_sz V) (hc : V.cs[i]? = some c) (hk : k = 0 ∨ k = 1) : ka_T Z (pb_X3_carvesOne_105 (some m) (Int32.ofNat i) k) w (kt G m ad (kt_set T 0 f)) (fun _ w' H' => w' = w ∧ ∃ f', H' = kt G m ad (kt_set T 0 f') ∧ ke f' (V.cs.set i (c.1, km_min 99 (c.2.1 + (if k = 0 then 3 else 2)), c.2.2.1, c.2.2.2), V.2)) := by
  have hi := ke_get_lt hc
  have hz1 := hz.1
  unfold pb_X3_carvesOne_105
  refine kt_g0 (kt_cAt (j := 1) (kt_g0 (kt_cAt (j := 1) (kt_ls hs (by omega) ?_))))
  rw [(h.2.1 i c hc).2.1]
  have h135 : ∀ t : Int32, t = (if k = 0 then 3 else 2) → ka_T Z (pb_X3_carvesOne_135 t c.2.1 99 (Int32.ofNat (16 + 5 * i + 1)) (some (ad 0))) w (kt G m ad (kt_set T 0 f)) (fun _ w' H' => w' = w ∧ ∃ f', H' = kt G m ad (kt_set T 0 f') ∧ ke f' (V.cs.set i (c.1, km_min 99 (c.2.1 + (if k = 0 then 3 else 2)), c.2.2.1, c.2.2.2), V.2)) := by
    intro t ht
    unfold pb_X3_carvesOne_135
    refine ka_use kt_less (kt_ss hs (by omega) (ka_pure ⟨rfl, _, rfl, ?_⟩))
    rw [ht]
    exact ke_setC h hz hc (Or.inl rfl) rfl rfl rfl rfl
  rcases hk with e | e <;> subst e
  · exact ka_ifP rfl (h135 3 rfl)
  · exact ka_ifN (by decide) (h135 2 rfl)
theorem kt_one {i : Nat} {k : Int32} {l : List vB} (hs : kt_sep m ad) (he : ke f (V.wb l)) (hl : l.Perm V.bx) (hz : v_sz V) (hi : i < V.cs.length) (hn : V.bx.length < 240) (hk : k = 0 ∨ k = 1) : ka_T Z (pm_X3_carvesOne (some m) (Int32.ofNat i) k) w (kt G m ad (kt_set T 0 f)) (fun _ w' H' => w' = w ∧ ∃ f' l', H' = kt G m ad (kt_set T 0 f') ∧ l'.Perm (v_one V i k).2.bx ∧ ke f' ((v_one V i k).2.wb l')) := by
  obtain ⟨c, hc⟩ : ∃ c, V.cs[i]? = some c := ⟨_, List.getElem?_eq_getElem hi⟩
  have hgd : V.cs.getD i (0, 0, 0, 0) = c := by rw [List.getD, hc]; rfl
  have hz1 := hz.1
  have hzl : v_sz (V.wb l) := v_sz_wb hz hl
  have hln : l.length < 240 := by rw [hl.length_eq]; exact hn
  unfold pm_X3_carvesOne
  refine kt_is (ka_use (kt_sight hs he hzl hi) (kt_g0 (kt_ls (p := 1) hs (by omega) ?_)))
  have e1 : f 1 = V.sc 1 := he.1.1 1 (by omega)
  rw [e1]
  have hsight : v_sight (V.wb l) i = v_sight V i := rfl
  rw [hsight]
  have key : ∀ s lim : Int32, s = (if k = 0 then 1 else 2) → lim = (if k = 0 then 4 else 2) → ka_T Z (pb_X3_carvesOne_34 (some m) (Int32.ofNat i) k (v_sight V i) lim (v_sight V i)) w (kt G m ad (kt_set T 0 (upd f 1 (V.sc 1 - s)))) (fun _ w' H' => w' = w ∧ ∃ f' l', H' = kt G m ad (kt_set T 0 f') ∧ l'.Perm (v_one V i k).2.bx ∧ ke f' ((v_one V i k).2.wb l')) := by
    intro s lim hs1 hlim
    have k1 := ke_num (k := 1) (v := V.sc 1 - s) he (by omega) hzl
    unfold pb_X3_carvesOne_34
    by_cases hx : v_sight V i < lim
    · have hone : v_one V i k = (0, V.cs.set i (c.1, km_min 99 (c.2.1 + (if k = 0 then 3 else 2)), c.2.2.1, c.2.2.2 + 1), V.ls, V.bx, V.st, V.ps, V.so, V.wa, V.aw, v_num (v_num V.sc 1 (V.sc 1 - s)) 3 (V.sc 3 + 1)) := by
        unfold v_one
        rw [hgd, hs1]
        rw [hlim] at hx
        exact if_pos hx
      rw [hone]
      refine ka_ifN (Int32.not_le.mpr hx) (kt_g0 (kt_ls (p := 3) hs (by omega) (kt_ss (p := 3) hs (by omega) ?_)))
      rw [k1.1.1 3 (by omega)]
      have k2 := ke_num (k := 3) (v := V.sc 3 + 1) k1 (by omega) hzl
      refine kt_g0 (kt_cAt (j := 4) (kt_ls hs (by omega) ?_))
      have e4 : (upd (upd f 1 (V.sc 1 - s)) 3 (V.sc 3 + 1)) (16 + 5 * i + 4) = c.2.2.2 := (k2.2.1 i c hc).2.2.2.2
      refine kt_ss hs (by omega) ?_
      have k3 := ke_setC (c' := (c.1, c.2.1, c.2.2.1, c.2.2.2 + 1)) (v := c.2.2.2 + 1) k2 hzl hc (Or.inr (Or.inr rfl)) rfl rfl rfl rfl
      have e5 : ((kt_set T 0 (upd (upd f 1 (V.sc 1 - s)) 3 (V.sc 3 + 1))).1 0) (16 + 5 * i + 4) = c.2.2.2 := e4
      show ka_T Z (pb_X3_carvesOne_105 (some m) (Int32.ofNat i) k) w (kt G m ad (kt_set T 0 (upd (upd (upd f 1 (V.sc 1 - s)) 3 (V.sc 3 + 1)) (16 + 5 * i + 4) ((upd (upd f 1 (V.sc 1 - s)) 3 (V.sc 3 + 1)) (16 + 5 * i + 4) + 1)))) _
      rw [e4]
      refine ka_post (kt_105 hs k3 (v_sz_setC hzl) (List.getElem?_set_self hi) hk) (fun r w' H' hp => ?_)
      obtain ⟨rfl, f', rfl, hf'⟩ := hp
      refine ⟨rfl, f', l, rfl, hl, ?_⟩
      have e6 : (V.cs.set i (c.1, c.2.1, c.2.2.1, c.2.2.2 + 1)).set i (c.1, km_min 99 (c.2.1 + (if k = 0 then 3 else 2)), c.2.2.1, c.2.2.2 + 1) = V.cs.set i (c.1, km_min 99 (c.2.1 + (if k = 0 then 3 else 2)), c.2.2.1, c.2.2.2 + 1) := List.set_set ..
      have hf2 : ke f' ((V.cs.set i (c.1, c.2.1, c.2.2.1, c.2.2.2 + 1)).set i (c.1, km_min 99 (c.2.1 + (if k = 0 then 3 else 2)), c.2.2.1, c.2.2.2 + 1), V.ls, l, V.st, V.ps, V.so, V.wa, V.aw, v_num (v_num V.sc 1 (V.sc 1 - s)) 3 (V.sc 3 + 1)) := hf'
      rw [e6] at hf2
      exact hf2
    · have hone : v_one V i k = (1, V.cs.set i (c.1, km_min 99 (c.2.1 + (if k = 0 then 3 else 2)), c.2.2.1 + 1, c.2.2.2), V.ls, V.bx ++ [(V.sc 2, k, km_min 9 (v_sight V i))], V.st, V.ps, V.so, V.wa, V.aw, v_num (v_num V.sc 1 (V.sc 1 - s)) 2 (V.sc 2 + 1)) := by
        unfold v_one
        rw [hgd, hs1]
        rw [hlim] at hx
        exact if_neg hx
      rw [hone]
      refine ka_ifP (Int32.not_lt.mp hx) (kt_g0 (kt_ls (p := 2) hs (by omega) (ka_use kt_less ?_)))
      rw [k1.1.1 2 (by omega)]
      refine kt_is (ka_mv (kt_comes (V := (V.cs, V.ls, l, V.st, V.ps, V.so, V.wa, V.aw, v_num V.sc 1 (V.sc 1 - s))) hs k1 hln hk) ?_)
      have k2 := ke_addB (b := (V.sc 2, k, km_min 9 (v_sight V i))) k1 hzl hln
      have hz2 := v_sz_addB (b := (V.sc 2, k, km_min 9 (v_sight V i))) hzl hln
      refine kt_g0 (kt_ls (p := 2) hs (by omega) (kt_ss (p := 2) hs (by omega) ?_))
      have e2 : v_num V.sc 1 (V.sc 1 - s) 2 = V.sc 2 := rfl
      generalize hg : (upd (upd (upd (upd (upd f 1 (V.sc 1 - s)) (44 + 3 * l.length + 0) (V.sc 2)) (44 + 3 * l.length + 1) k) (44 + 3 * l.length + 2) (km_min 9 (v_sight V i))) 11 (Int32.ofNat (l.length + 1))) = g
      have k2' : ke g (V.cs, V.ls, l ++ [(V.sc 2, k, km_min 9 (v_sight V i))], V.st, V.ps, V.so, V.wa, V.aw, v_num V.sc 1 (V.sc 1 - s)) := by rw [← hg]; exact k2
      show ka_T Z _ w (kt G m ad (kt_set T 0 (upd (upd (upd (upd (upd (upd f 1 (V.sc 1 - s)) (44 + 3 * l.length + 0) (V.sc 2)) (44 + 3 * l.length + 1) k) (44 + 3 * l.length + 2) (km_min 9 (v_sight V i))) 11 (Int32.ofNat (l.length + 1))) 2 ((upd (upd (upd (upd (upd f 1 (V.sc 1 - s)) (44 + 3 * l.length + 0) (V.sc 2)) (44 + 3 * l.length + 1) k) (44 + 3 * l.length + 2) (km_min 9 (v_sight V i))) 11 (Int32.ofNat (l.length + 1))) 2 + 1)))) _
      rw [hg]
      have e3 : g 2 = V.sc 2 := k2'.1.1 2 (by omega)
      rw [e3]
      have k3 := ke_num (k := 2) (v := V.sc 2 + 1) k2' (by omega) hz2
      refine kt_g0 (kt_cAt (j := 3) (kt_ls hs (by omega) ?_))
      have e4 : (upd g 2 (V.sc 2 + 1)) (16 + 5 * i + 3) = c.2.2.1 := (k3.2.1 i c hc).2.2.2.1
      rw [e4]
      refine kt_ss hs (by omega) ?_
      have k4 := ke_setC (c' := (c.1, c.2.1, c.2.2.1 + 1, c.2.2.2)) (v := c.2.2.1 + 1) k3 hz2 hc (Or.inr (Or.inl rfl)) rfl rfl rfl rfl
      refine ka_post (kt_105 hs k4 (v_sz_setC hz2) (List.getElem?_set_self hi) hk) (fun r w' H' hp => ?_)
      obtain ⟨rfl, f', rfl, hf'⟩ := hp
      refine ⟨rfl, f', l ++ [(V.sc 2, k, km_min 9 (v_sight V i))], rfl, hl.append_right _, ?_⟩
      have e6 : (V.cs.set i (c.1, c.2.1, c.2.2.1 + 1, c.2.2.2)).set i (c.1, km_min 99 (c.2.1 + (if k = 0 then 3 else 2)), c.2.2.1 + 1, c.2.2.2) = V.cs.set i (c.1, km_min 99 (c.2.1 + (if k = 0 then 3 else 2)), c.2.2.1 + 1, c.2.2.2) := List.set_set ..
      have hf2 : ke f' ((V.cs.set i (c.1, c.2.1, c.2.2.1 + 1, c.2.2.2)).set i (c.1, km_min 99 (c.2.1 + (if k = 0 then 3 else 2)), c.2.2.1 + 1, c.2.2.2), V.ls, l ++ [(V.sc 2, k, km_min 9 (v_sight V i))], V.st, V.ps, V.so, V.wa, V.aw, v_num (v_num V.sc 1 (V.sc 1 - s)) 2 (V.sc 2 + 1)) := hf'
      rw [e6] at hf2
      exact hf2
  rcases hk with e | e
  · subst e
    refine ka_ifP rfl ?_
    unfold pb_X3_carvesOne_22
    exact kt_ss (p := 1) hs (by omega) (ka_ifP rfl (key 1 4 rfl rfl))
  · subst e
    refine ka_ifN (by decide) ?_
    unfold pb_X3_carvesOne_22
    exact kt_ss (p := 1) hs (by omega) (ka_ifN (by decide) (key 2 2 rfl rfl))
end KTI
