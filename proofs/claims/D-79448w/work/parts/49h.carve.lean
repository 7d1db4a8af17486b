set_option maxRecDepth 100000
/-! ===== the twin: bodies of changes; carving ===== -/
/-- what a body of a change answers: a number out of range, told by e; a refusal; done -/
def kt_bod (b : Bool) (e : Int32) (w : Nat) (G : ka_H) (m : Nat) (ad : Nat → Nat) (T : kT) (res : vR) : Int32 → Nat → ka_H → Prop := fun r w' H' => w' = w ∧ match res with
  | .inl [] => r = e ∧ H' = kt G m ad T
  | .inl (p :: t) => r = -5 ∧ ∃ f' rs ds, H' = kt G m ad (kt_set (kt_set (kt_set T 0 f') 6 rs) 7 ds) ∧ kc_ch rs ds (p :: t) ∧ (b = true → f' = T.1 0)
  | .inr (v, V') => r = v ∧ vt_err v = 0 ∧ ∃ f', H' = kt G m ad (kt_set T 0 f') ∧ keP f' V'
def kt_out (X : vX) (e : Int32) (res : vR) : Int32 × vX := match res with
  | .inl [] => (e, X)
  | r => vx_do X r
section KTH
variable {Z : ka_Z} {w : Nat} {G : ka_H} {m : Nat} {ad : Nat → Nat} {T : kT} {X : vX} {f : Nat → Int32} {V : kV} {cc dd : Nat}
theorem kt_fin {x : km_M Int32} {e : Int32} {res : vR} (hs : kt_sep m ad) (h0 : kR0 T X) (hz : vX_sz X) (hw : keP (T.1 1) X.now) (hrf : kc_rf (T.1 6) (T.1 7) X.rf) (hf : keP f X.now) (he : vt_err e = 1) (hx : ka_T Z x w (kt G m ad (kt_set T 0 f)) (kt_bod true e w G m ad (kt_set T 0 f) res)) : ka_T Z (km_bind x fun i => km_bind (km_is 3 (some m)) fun _ => km_bind (pm_X3_ends (some m) i) fun j => km_pure j) w (kt G m ad (kt_set T 0 f)) (kt_Q w G m ad (kt_out X e res)) := by
  refine ka_call hx (fun r w' H' hp => ?_)
  obtain ⟨rfl, hp⟩ := hp
  cases res with
  | inl ch =>
    cases ch with
    | nil =>
      obtain ⟨rfl, rfl⟩ := hp
      exact kt_endX (T := kt_set T 0 f) h0 hrf he hf
    | cons p t =>
      obtain ⟨rfl, f', rs, ds, rfl, hch, hb⟩ := hp
      have hb2 : f' = f := hb rfl
      subst hb2
      exact kt_endE (T := kt_set (kt_set (kt_set (kt_set T 0 f') 0 f') 6 rs) 7 ds) hs h0 hz hw hch hf
  | inr p =>
    obtain ⟨v, V'⟩ := p
    obtain ⟨rfl, hv, f', rfl, hk⟩ := hp
    rw [kt_set_set]
    exact kt_endI hs h0 hz hw hrf hv hk
theorem kt_bodN {why d : Int32} {b : Bool} {e : Int32} (h : why ≠ 0) : kt_bod b e w G m ad T (.inl [(why, d)]) (-5) w (kt G m ad (kt_no T why d)) := by
  refine ⟨rfl, rfl, T.1 0, upd (upd (upd (T.1 6) 0 why) 1 0) 2 0, upd (T.1 7) 0 d, ?_, kc_ch1 h, fun _ => rfl⟩
  rw [kt_set_id]
  rfl
theorem kt_sight {i : Nat} (hs : kt_sep m ad) (h : ke f V) (hz : v_sz V) (hi : i < V.cs.length) : ka_T Z (pm_X3_sight (some m) (Int32.ofNat i)) w (kt G m ad (kt_set T 0 f)) (ka_V w (kt G m ad (kt_set T 0 f)) (v_sight V i)) := by
  obtain ⟨z1, z2, -⟩ := hz
  obtain ⟨c, hc⟩ : ∃ c, V.cs[i]? = some c := ⟨_, List.getElem?_eq_getElem hi⟩
  obtain ⟨g0, g1, g2, g3, g4⟩ := h.2.1 i c hc
  have hgd : V.cs.getD i (0, 0, 0, 0) = c := by rw [List.getD, hc]; rfl
  have h39 : ∀ s0, s0 = (if v_lensOf V (Int32.ofNat i) = -6 then 0 else (V.ls.getD (v_lensOf V (Int32.ofNat i)).toNatClampNeg (0, 0)).1) → ka_T Z (pb_X3_sight_39 (some m) (Int32.ofNat i) s0 c.1) w (kt G m ad (kt_set T 0 f)) (ka_V w (kt G m ad (kt_set T 0 f)) (v_sight V i)) := by
    intro s0 hs0
    unfold pb_X3_sight_39
    refine kt_g0 (kt_cAt (j := 1) (kt_ls hs (by omega) ?_))
    rw [g1]
    refine ka_div (by decide) (ka_pure ⟨?_, rfl, rfl⟩)
    unfold v_sight
    rw [hgd, hs0]
  unfold pm_X3_sight
  refine kt_g0 (kt_cAt (j := 2) (kt_ls hs (by omega) (kt_g0 (kt_cAt (j := 0) (kt_ls hs (by omega) ?_)))))
  rw [g0, g2]
  rcases v_lens_spec (c := Int32.ofNat i) (ls := V.ls) (i := 0) (by omega) with ⟨e1, -⟩ | ⟨j, l, e1, e2, e3⟩
  · rw [e1]
    refine ka_ifP (by decide) (h39 0 ?_)
    unfold v_lensOf
    rw [if_pos e1]
  · have hj := ke_get_lt e1
    rw [e3, Nat.zero_add]
    refine ka_ifN (k3_neg (by omega)) (kt_g0 (kt_lAt (j := 0) (kt_ls hs (by omega) ?_)))
    rw [(h.2.2.1 j l e1).1]
    refine h39 _ ?_
    unfold v_lensOf
    rw [e3, Nat.zero_add, if_neg (k3_m6 (by omega)), k3_nat (by omega), List.getD, e1]
    rfl
theorem ke_addB {b : vB} (h : ke f V) (hz : v_sz V) (hn : V.bx.length < 240) : ke (upd (upd (upd (upd f (44 + 3 * V.bx.length + 0) b.1) (44 + 3 * V.bx.length + 1) b.2.1) (44 + 3 * V.bx.length + 2) b.2.2) 11 (Int32.ofNat (V.bx.length + 1))) (V.cs, V.ls, V.bx ++ [b], V.2.2.2) := by
  obtain ⟨h0, h1, h2, h3, h4, h5, h6, h7⟩ := h
  obtain ⟨z1, z2, z3, z4, z5, z6, z7, z8⟩ := hz
  obtain ⟨n0, n1, n2, n3, n4, n5, n6, n7⟩ := h0
  have ho : ∀ p, p ≠ 11 → (p < 44 + 3 * V.bx.length ∨ 44 + 3 * V.bx.length + 3 ≤ p) → (upd (upd (upd (upd f (44 + 3 * V.bx.length + 0) b.1) (44 + 3 * V.bx.length + 1) b.2.1) (44 + 3 * V.bx.length + 2) b.2.2) 11 (Int32.ofNat (V.bx.length + 1))) p = f p := fun p h9 hp => (upd_ne h9).trans ((upd_ne (by omega)).trans ((upd_ne (by omega)).trans (upd_ne (by omega))))
  refine ⟨⟨fun j hj => (ho j (by omega) (by omega)).trans (n0 j hj), (ho _ (by omega) (by omega)).trans n1, (ho _ (by omega) (by omega)).trans n2, ?_, (ho _ (by omega) (by omega)).trans n4, (ho _ (by omega) (by omega)).trans n5, (ho _ (by omega) (by omega)).trans n6, (ho _ (by omega) (by omega)).trans n7⟩, ke_C_cong h1 z1 (fun p _ _ => ho p (by omega) (by omega)), ke_L_cong h2 z2 (fun p _ _ => ho p (by omega) (by omega)), fun i c hc => ?_, ke_S_cong h4 z4 z8 (fun p _ _ => ho p (by omega) (by omega)), ke_P_cong h5 z5 (fun p _ _ => ho p (by omega) (by omega)), ke_D_cong h6 z6 (fun p _ _ => ho p (by omega) (by omega)), ke_W_cong h7 (Nat.le_trans z7 (by omega)) (fun p _ _ => ho p (by omega) (by omega))⟩
  · show _ = Int32.ofNat (V.bx ++ [b]).length
    rw [upd_same, List.length_append]
    rfl
  · by_cases hi : i < V.bx.length
    · have hc2 : V.bx[i]? = some c := by rw [← hc]; exact (List.getElem?_append_left hi).symm
      obtain ⟨g0, g1, g2⟩ := h3 i c hc2
      exact ⟨(ho _ (by omega) (by omega)).trans g0, (ho _ (by omega) (by omega)).trans g1, (ho _ (by omega) (by omega)).trans g2⟩
    · have hi3 : i < (V.bx ++ [b]).length := ke_get_lt hc
      rw [List.length_append] at hi3
      simp only [List.length_cons, List.length_nil] at hi3
      have e : i = V.bx.length := by omega
      subst e
      have hc2 : b = c := by
        have h9 : (V.bx ++ [b])[V.bx.length]? = some c := hc
        rw [List.getElem?_append_right (Nat.le_refl _), Nat.sub_self] at h9
        exact Option.some.inj h9
      subst hc2
      refine ⟨?_, ?_, ?_⟩
      · rw [upd_ne (by omega), upd_ne (by omega), upd_ne (by omega), upd_same]
      · rw [upd_ne (by omega), upd_ne (by omega), upd_same]
      · rw [upd_ne (by omega), upd_same]
theorem ke_setC {i j : Nat} {v : Int32} {c c' : vC} (h : ke f V) (hz : v_sz V) (hc : V.cs[i]? = some c) (hj : j = 1 ∨ j = 3 ∨ j = 4) (e0 : c'.1 = c.1) (e1 : c'.2.1 = if j = 1 then v else c.2.1) (e3 : c'.2.2.1 = if j = 3 then v else c.2.2.1) (e4 : c'.2.2.2 = if j = 4 then v else c.2.2.2) : ke (upd f (16 + 5 * i + j) v) (V.cs.set i c', V.2) := by
  obtain ⟨h0, h1, h2, h3, h4, h5, h6, h7⟩ := h
  obtain ⟨z1, z2, z3, z4, z5, z6, z7, z8⟩ := hz
  obtain ⟨n0, n1, n2, n3, n4, n5, n6, n7⟩ := h0
  have hi := ke_get_lt hc
  have ho : ∀ p, p ≠ 16 + 5 * i + j → upd f (16 + 5 * i + j) v p = f p := fun p hp => upd_ne hp
  refine ⟨⟨fun k hk => (ho k (by omega)).trans (n0 k hk), ?_, (ho _ (by omega)).trans n2, (ho _ (by omega)).trans n3, (ho _ (by omega)).trans n4, (ho _ (by omega)).trans n5, (ho _ (by omega)).trans n6, (ho _ (by omega)).trans n7⟩, fun a x hx => ?_, ke_L_cong h2 z2 (fun p _ _ => ho p (by omega)), ke_B_cong h3 z3 (fun p _ _ => ho p (by omega)), ke_S_cong h4 z4 z8 (fun p _ _ => ho p (by omega)), ke_P_cong h5 z5 (fun p _ _ => ho p (by omega)), ke_D_cong h6 z6 (fun p _ _ => ho p (by omega)), ke_W_cong h7 (Nat.le_trans z7 (by omega)) (fun p _ _ => ho p (by omega))⟩
  · show _ = Int32.ofNat (V.cs.set i c').length
    rw [List.length_set]
    exact (ho 9 (by omega)).trans n1
  · have hx2 : (V.cs.set i c')[a]? = some x := hx
    by_cases ha : a = i
    · subst ha
      rw [List.getElem?_set_self hi] at hx2
      cases hx2
      obtain ⟨g0, g1, g2, g3, g4⟩ := h1 a c hc
      refine ⟨(ho _ (by omega)).trans (g0.trans e0.symm), ?_, (ho _ (by omega)).trans g2, ?_, ?_⟩
      · rw [e1]
        by_cases hj1 : j = 1
        · rw [if_pos hj1, hj1, upd_same]
        · rw [if_neg hj1, ho _ (by omega), g1]
      · rw [e3]
        by_cases hj1 : j = 3
        · rw [if_pos hj1, hj1, upd_same]
        · rw [if_neg hj1, ho _ (by omega), g3]
      · rw [e4]
        by_cases hj1 : j = 4
        · rw [if_pos hj1, hj1, upd_same]
        · rw [if_neg hj1, ho _ (by omega), g4]
    · rw [List.getElem?_set_ne (Ne.symm ha)] at hx2
      obtain ⟨g0, g1, g2, g3, g4⟩ := h1 a x hx2
      exact ⟨(ho _ (by omega)).trans g0, (ho _ (by omega)).trans g1, (ho _ (by omega)).trans g2, (ho _ (by omega)).trans g3, (ho _ (by omega)).trans g4⟩
theorem kt_comes {a k x : Int32} (hs : kt_sep m ad) (h : ke f V) (hn : V.bx.length < 240) (hk : k = 0 ∨ k = 1) : ka_T Z (pm_X3_comesToBox (some m) a k x) w (kt G m ad (kt_set T 0 f)) (ka_V w (kt G m ad (kt_set T 0 (upd (upd (upd (upd f (44 + 3 * V.bx.length + 0) a) (44 + 3 * V.bx.length + 1) k) (44 + 3 * V.bx.length + 2) x) 11 (Int32.ofNat (V.bx.length + 1))))) ()) := by
  have e11 : f 11 = Int32.ofNat V.bx.length := h.1.2.2.2.1
  unfold pm_X3_comesToBox
  refine kt_g0 (kt_ls (p := 11) hs (by omega) ?_)
  rw [e11]
  refine kt_g0 (kt_bAt (j := 0) (kt_ss hs (by omega) (kt_g0 (kt_bAt (j := 1) ?_))))
  have h40 : ka_T Z (pb_X3_comesToBox_40 (some m) x (Int32.ofNat V.bx.length) k (Int32.ofNat (44 + 3 * V.bx.length + 1)) (some (ad 0))) w (kt G m ad (kt_set T 0 (upd f (44 + 3 * V.bx.length + 0) a))) (ka_V w (kt G m ad (kt_set T 0 (upd (upd (upd (upd f (44 + 3 * V.bx.length + 0) a) (44 + 3 * V.bx.length + 1) k) (44 + 3 * V.bx.length + 2) x) 11 (Int32.ofNat (V.bx.length + 1))))) ()) := by
    unfold pb_X3_comesToBox_40
    refine kt_ss hs (by omega) (kt_g0 (kt_bAt (j := 2) (kt_ss hs (by omega) (kt_g0 (kt_ls (p := 11) hs (by omega) ?_)))))
    rw [upd_ne (by omega), upd_ne (by omega), upd_ne (by omega), e11, k3_succ]
    exact kt_ss (p := 11) hs (by omega) (ka_pure ⟨rfl, rfl, rfl⟩)
  rcases hk with e | e <;> subst e
  · exact ka_ifP rfl h40
  · exact ka_ifN (by decide) h40
end KTH
