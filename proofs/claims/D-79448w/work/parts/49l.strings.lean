set_option maxRecDepth 100000
/-! ===== the twin: strings ===== -/
section KTL2
variable {Z : ka_Z} {w : Nat} {G : ka_H} {m : Nat} {ad : Nat → Nat} {T : kT} {X : vX} {f : Nat → Int32} {V : kV} {cc dd : Nat}
theorem ke_addS {g s : Int32} (h : ke f V) (hz : v_sz V) (hn : V.st.length < 6) : ke (upd (upd (upd (vt_zero f (764 + 60 * V.st.length) 60) 12 (Int32.ofNat (V.st.length + 1))) (764 + 60 * V.st.length + 0) g) (764 + 60 * V.st.length + 1) s) (V.cs, V.ls, V.bx, V.st ++ [(g, s, 0, [])], V.2.2.2.2) := by
  obtain ⟨h0, h1, h2, h3, h4, h5, h6, h7⟩ := h
  obtain ⟨z1, z2, z3, z4, z5, z6, z7, z8⟩ := hz
  obtain ⟨n0, n1, n2, n3, n4, n5, n6, n7⟩ := h0
  have ho : ∀ p, p ≠ 12 → (p < 764 + 60 * V.st.length ∨ 764 + 60 * V.st.length + 60 ≤ p) → (upd (upd (upd (vt_zero f (764 + 60 * V.st.length) 60) 12 (Int32.ofNat (V.st.length + 1))) (764 + 60 * V.st.length + 0) g) (764 + 60 * V.st.length + 1) s) p = f p := fun p h9 hp => (upd_ne (by omega)).trans ((upd_ne (by omega)).trans ((upd_ne h9).trans (vt_zero_out (by omega))))
  refine ⟨⟨fun j hj => (ho j (by omega) (by omega)).trans (n0 j hj), (ho _ (by omega) (by omega)).trans n1, (ho _ (by omega) (by omega)).trans n2, (ho _ (by omega) (by omega)).trans n3, ?_, (ho _ (by omega) (by omega)).trans n5, (ho _ (by omega) (by omega)).trans n6, (ho _ (by omega) (by omega)).trans n7⟩, ke_C_cong h1 z1 (fun p _ _ => ho p (by omega) (by omega)), ke_L_cong h2 z2 (fun p _ _ => ho p (by omega) (by omega)), ke_B_cong h3 z3 (fun p _ _ => ho p (by omega) (by omega)), fun i c hc => ?_, ke_P_cong h5 z5 (fun p _ _ => ho p (by omega) (by omega)), ke_D_cong h6 z6 (fun p _ _ => ho p (by omega) (by omega)), ke_W_cong h7 (Nat.le_trans z7 (by omega)) (fun p _ _ => ho p (by omega) (by omega))⟩
  · show _ = Int32.ofNat (V.st ++ [(g, s, 0, [])]).length
    rw [upd_ne (by omega), upd_ne (by omega), upd_same, List.length_append]
    rfl
  · by_cases hi : i < V.st.length
    · have hc2 : V.st[i]? = some c := by rw [← hc]; exact (List.getElem?_append_left hi).symm
      exact ke_S1_cong (h4 i c hc2) (z8 c (List.mem_of_getElem? hc2)) (fun p h1 h2 => ho p (by omega) (by omega))
    · have hi3 : i < (V.st ++ [(g, s, 0, [])]).length := ke_get_lt hc
      rw [List.length_append] at hi3
      simp only [List.length_cons, List.length_nil] at hi3
      have e : i = V.st.length := by omega
      subst e
      have hc2 : (g, s, 0, []) = c := by
        have h9 : (V.st ++ [(g, s, 0, [])])[V.st.length]? = some c := hc
        rw [List.getElem?_append_right (Nat.le_refl _), Nat.sub_self] at h9
        exact Option.some.inj h9
      subst hc2
      refine ⟨?_, ?_, ?_, ?_, fun p b hb => by cases hb⟩
      · rw [upd_ne (by omega), upd_same]
      · rw [upd_same]
      · rw [upd_ne (by omega), upd_ne (by omega), upd_ne (by omega), vt_zero_in (by omega) (by omega)]
      · rw [upd_ne (by omega), upd_ne (by omega), upd_ne (by omega), vt_zero_in (by omega) (by omega)]
        rfl
theorem kt_begins {g s : Int32} {B : Bool} (hs : kt_sep m ad) (hf : keP f V) (hz : v_sz V) : ka_T Z (pm_X3_begins (some m) g s) w (kt G m ad (kt_set T 0 f)) (kt_bod B (-2) w G m ad (kt_set T 0 f) (if v_pat g s = 1 then v_begins V g s else .inl [])) := by
  obtain ⟨hst, l, hl, he⟩ := id hf
  have hz4 := hz.2.2.2.1
  have e12 : f 12 = Int32.ofNat V.st.length := he.1.2.2.2.2.1
  unfold pm_X3_begins
  refine ka_use kt_isIn ?_
  have hpat : v_pat g s = (if v_in g 1 4 = 0 then 0 else v_in s 1 6) := rfl
  by_cases h : v_in g 1 4 = 1
  · refine ka_ifN (by rw [h]; decide) (ka_use kt_isIn ?_)
    by_cases h2 : v_in s 1 6 = 1
    · have hp : v_pat g s = 1 := by rw [hpat, if_neg (by rw [h]; decide), h2]
      have e : (if v_pat g s = 1 then v_begins V g s else (.inl [] : vR)) = v_begins V g s := if_pos hp
      rw [e]
      refine ka_ifP (by rw [h2]; decide) (kt_is ?_)
      unfold v_begins
      by_cases h6 : V.st.length = 6
      · have e2 : (if 6 ≤ V.st.length then (.inl [(1, 6)] : vR) else .inr (Int32.ofNat V.st.length, V.cs, V.ls, V.bx, V.st ++ [(g, s, 0, [])], V.2.2.2.2)) = .inl [(1, 6)] := if_pos (by omega)
        rw [e2]
        exact ka_mv (kt_addsN (c := 12) (k := 6) hs (by omega) (by rw [e12, h6])) (ka_ifP (by decide) (ka_pure (kt_bodN (by decide))))
      · have e2 : (if 6 ≤ V.st.length then (.inl [(1, 6)] : vR) else .inr (Int32.ofNat V.st.length, V.cs, V.ls, V.bx, V.st ++ [(g, s, 0, [])], V.2.2.2.2)) = .inr (Int32.ofNat V.st.length, V.cs, V.ls, V.bx, V.st ++ [(g, s, 0, [])], V.2.2.2.2) := if_neg (by omega)
        rw [e2]
        refine ka_mv (kt_addsY (c := 12) (b := 764) (s := 60) (k := 6) hs (by omega) (by omega) e12 h6 (by omega) (by omega)) (ka_ifN (k3_neg (by omega)) (kt_g0 (kt_sAt (j := 0) (kt_ss hs (by omega) (kt_g0 (kt_sAt (j := 1) (kt_ss hs (by omega) (ka_pure ?_))))))))
        exact ⟨rfl, rfl, vt_err_nat (by omega), _, by rw [kt_set_set]; rfl, hst, l, hl, ke_addS (V := V.wb l) he (v_sz_wb hz hl) (show V.st.length < 6 by omega)⟩
    · have hp : ¬ v_pat g s = 1 := by rw [hpat, if_neg (by rw [h]; decide)]; exact h2
      have e : (if v_pat g s = 1 then v_begins V g s else (.inl [] : vR)) = .inl [] := if_neg hp
      rw [e]
      exact ka_ifN (by rw [v_in_no h2]; simp) (ka_pure ⟨rfl, rfl, rfl⟩)
  · have hp : ¬ v_pat g s = 1 := by rw [hpat, if_pos (v_in_no h)]; decide
    have e : (if v_pat g s = 1 then v_begins V g s else (.inl [] : vR)) = .inl [] := if_neg hp
    rw [e]
    exact ka_ifP (v_in_no h) (ka_pure ⟨rfl, rfl, rfl⟩)
theorem kt_begin {g s : Int32} (hs : kt_sep m ad) (hR : kR T X) (hz : vX_sz X) : ka_T Z (pm_X3_begin (some m) g s) w (kt G m ad T) (kt_Q w G m ad (vx_begin X g s)) := by
  unfold pm_X3_begin
  refine kt_keep hs hR hz (fun T0 f hf hrf h0 hw => ?_)
  refine kt_is (ka_post (kt_fin (X := X) (res := if v_pat g s = 1 then v_begins X.now g s else .inl []) (e := -2) hs h0 hz hw hrf hf (by decide) (kt_begins hs hf hz.1)) (fun r w' H' hp => ?_))
  have e : kt_out X (-2) (if v_pat g s = 1 then v_begins X.now g s else .inl []) = vx_begin X g s := by
    unfold vx_begin
    by_cases h : v_pat g s = 1
    · rw [if_pos h, if_pos h]
      unfold v_begins
      by_cases h6 : 6 ≤ X.now.st.length
      · rw [if_pos h6]; rfl
      · rw [if_neg h6]; rfl
    · rw [if_neg h, if_neg h]; rfl
  rw [← e]
  exact hp
/-! a string's numbers -/
theorem kt_of {i j : Nat} (hs : kt_sep m ad) (hi : i < 6) (hj : j < 60) : ka_T Z (pm_X3_ofString (some m) (Int32.ofNat i) (Int32.ofNat j)) w (kt G m ad (kt_set T 0 f)) (ka_V w (kt G m ad (kt_set T 0 f)) (f (764 + 60 * i + j))) := by
  unfold pm_X3_ofString
  exact kt_g0 (kt_sAt (kt_ls hs (by omega) (ka_pure ⟨rfl, rfl, rfl⟩)))
theorem kt_isDone {i : Nat} {r : vS} (hs : kt_sep m ad) (hi : i < 6) (h : ke_S1 f i r) : ka_T Z (pm_X3_isDone (some m) (Int32.ofNat i)) w (kt G m ad (kt_set T 0 f)) (ka_V w (kt G m ad (kt_set T 0 f)) (if v_done r = true then 1 else 0)) := by
  obtain ⟨g0, g1, g2, g3, -⟩ := h
  unfold pm_X3_isDone
  refine kt_is (ka_use (kt_of (j := 2) hs hi (by omega)) (kt_is (ka_use (kt_of (j := 0) hs hi (by omega)) ?_)))
  rw [g0, g2]
  by_cases h : r.2.2.1 = r.1
  · refine ka_ifN (fun z => z h) (ka_ret rfl (ka_pure ⟨?_, rfl, rfl⟩))
    rw [if_pos (show v_done r = true from decide_eq_true h)]
  · refine ka_ifP h (ka_ret rfl (ka_pure ⟨?_, rfl, rfl⟩))
    rw [if_neg (show ¬ v_done r = true from fun z => h (of_decide_eq_true z))]
theorem kt_knotted {i : Nat} {r : vS} (hs : kt_sep m ad) (hi : i < 6) (h : ke_S1 f i r) : ka_T Z (pm_X3_knotted (some m) (Int32.ofNat i)) w (kt G m ad (kt_set T 0 f)) (ka_V w (kt G m ad (kt_set T 0 f)) (r.2.2.1 * (r.2.1 + 1))) := by
  obtain ⟨g0, g1, g2, g3, -⟩ := h
  unfold pm_X3_knotted
  refine kt_is (ka_use (kt_of (j := 2) hs hi (by omega)) (kt_is (ka_use (kt_of (j := 1) hs hi (by omega)) (ka_pure ⟨?_, rfl, rfl⟩))))
  rw [g2, g1]
theorem kt_lacks {i gg mm kk : Nat} {r : vS} (hs : kt_sep m ad) (hi : i < 6) (h : ke_S1 f i r) (hN : v_sokN gg mm kk r) : ka_T Z (pm_X3_lacks (some m) (Int32.ofNat i)) w (kt G m ad (kt_set T 0 f)) (ka_V w (kt G m ad (kt_set T 0 f)) (Int32.ofNat ((kk + 1) * (mm + 1) - r.bs.length))) := by
  obtain ⟨p1, p2, p3, p4, p5, p6, p7, p8, p9, p10, p11, -⟩ := hN
  have hk := kt_knotted (Z := Z) (w := w) (G := G) (T := T) hs hi h
  obtain ⟨g0, g1, g2, g3, -⟩ := h
  unfold pm_X3_lacks
  refine kt_is (ka_use hk (kt_is (ka_use (kt_of (j := 1) hs hi (by omega)) (kt_is (ka_use (kt_of (j := 3) hs hi (by omega)) (ka_pure ⟨?_, rfl, rfl⟩))))))
  rw [g1, g3, p2, p3, k3_succ, k3_mul, k3_add, k3_succ]
  have e : (kk + 1) * (mm + 1) = kk * (mm + 1) + mm + 1 := by rw [Nat.add_mul, Nat.one_mul]; omega
  rw [e, k3_sub (by omega)]
theorem kt_large {i gg mm kk p : Nat} {r : vS} (hs : kt_sep m ad) (hi : i < 6) (h : ke_S1 f i r) (hN : v_sokN gg mm kk r) (hp : p < 64) : ka_T Z (pm_X3_isLargeAt (some m) (Int32.ofNat i) (Int32.ofNat p)) w (kt G m ad (kt_set T 0 f)) (ka_V w (kt G m ad (kt_set T 0 f)) (if p % (mm + 1) = 0 then 1 else 0)) := by
  obtain ⟨p1, p2, p3, p4, p5, p6, p7, p8, p9, p10, p11, -⟩ := hN
  obtain ⟨g0, g1, g2, g3, -⟩ := h
  unfold pm_X3_isLargeAt
  refine kt_is (ka_use (kt_of (j := 1) hs hi (by omega)) ?_)
  rw [g1, p2, k3_succ]
  obtain ⟨e1, e2⟩ := k3_divS (a := p) (b := mm + 1) (by omega) (by omega) (by omega)
  refine ka_rem (fun z => by have := (k3_eq (b := 0) (by omega) (by omega)).mp z; omega) ?_
  rw [e2]
  have hlt := Nat.mod_lt p (show 0 < mm + 1 by omega)
  by_cases h0 : p % (mm + 1) = 0
  · rw [if_pos h0]
    exact ka_ifN (fun z => z (by rw [h0]; rfl)) (ka_ret rfl (ka_pure ⟨rfl, rfl, rfl⟩))
  · rw [if_neg h0]
    exact ka_ifP (fun z => h0 ((k3_eq (b := 0) (by omega) (by omega)).mp z)) (ka_ret rfl (ka_pure ⟨rfl, rfl, rfl⟩))
def vt_wants (r : vS) : Int32 := if v_done r = true then 3 else if v_whole r = true then 2 else if v_loose r = 0 then 1 else 0
theorem kt_wants {i gg mm kk : Nat} {r : vS} (hs : kt_sep m ad) (hi : i < 6) (h : ke_S1 f i r) (hN : v_sokN gg mm kk r) : ka_T Z (pm_X3_wants (some m) (Int32.ofNat i)) w (kt G m ad (kt_set T 0 f)) (ka_V w (kt G m ad (kt_set T 0 f)) (vt_wants r)) := by
  obtain ⟨p1, p2, p3, p4, p5, p6, p7, p8, p9, p10, p11, -⟩ := id hN
  have hlen : r.bs.length ≤ 28 := (v_sok_loose hN).2.2
  unfold pm_X3_wants vt_wants
  refine kt_is (ka_use (kt_isDone hs hi h) ?_)
  by_cases hd : v_done r = true
  · rw [if_pos hd, if_pos hd]
    exact ka_ifN (by decide) (ka_pure ⟨rfl, rfl, rfl⟩)
  · rw [if_neg hd, if_neg hd]
    refine ka_ifP rfl (kt_is (ka_use (kt_lacks hs hi h hN) ?_))
    have hkm : (kk + 1) * (mm + 1) ≤ 5 * 7 := Nat.mul_le_mul (by omega) (by omega)
    by_cases hw : v_whole r = true
    · rw [if_pos hw]
      have e := (v_sok_whole hN).mp hw
      exact ka_ifN (fun z => z (by rw [e, Nat.sub_self]; rfl)) (ka_pure ⟨rfl, rfl, rfl⟩)
    · rw [if_neg hw]
      have hne : ¬ r.bs.length = (kk + 1) * (mm + 1) := fun z => hw ((v_sok_whole hN).mpr z)
      refine ka_ifP (fun z => hne (by have := (k3_eq (b := 0) (by omega) (by omega)).mp z; omega)) (kt_is (ka_use (kt_of (j := 3) hs hi (by omega)) ?_))
      rw [h.2.2.2.1]
      refine kt_is (ka_use (kt_large hs hi h hN (by omega)) ?_)
      by_cases hl : v_loose r = 0
      · rw [if_pos hl, if_pos ((v_sok_large hN hne).mp hl)]
        exact ka_ifN (by decide) (ka_pure ⟨rfl, rfl, rfl⟩)
      · rw [if_neg hl, if_neg (fun z => hl ((v_sok_large hN hne).mpr z))]
        exact ka_ifP rfl (ka_pure ⟨rfl, rfl, rfl⟩)
/-! beads of a kind on strings that are not done -/
theorem kt_onInner {i gg mm kk : Nat} {r : vS} {k : Int32} {k4 : Option Nat → Int32 → Int32 → Int32 → km_M Int32} {Q : Int32 → Nat → ka_H → Prop} (hs : kt_sep m ad) (hi : i < 6) (h : ke_S1 f i r) (hN : v_sokN gg mm kk r) (hnd : ¬ v_done r = true) (hk : k = 0 ∨ k = 1) : ∀ (rest done : List vB) (fuel : Nat) (n : Int32), r.bs = done ++ rest → rest.length < fuel → ka_T Z (k4 (some m) k (n + Int32.ofNat (v_of k rest).length) (Int32.ofNat i + 1)) w (kt G m ad (kt_set T 0 f)) Q → ka_T Z (pb_X3_onOthers_18 k4 fuel (some m) k n (Int32.ofNat i) (Int32.ofNat done.length)) w (kt G m ad (kt_set T 0 f)) Q := by
  have hlen : r.bs.length ≤ 28 := (v_sok_loose hN).2.2
  intro rest
  induction rest with
  | nil =>
    intro done fuel n hA hf kk2
    obtain ⟨fuel, rfl⟩ : ∃ n, fuel = n + 1 := ⟨fuel - 1, by omega⟩
    have hA1 : done.length = r.bs.length := by rw [hA, List.append_nil]
    unfold pb_X3_onOthers_18
    refine kt_is (ka_use (kt_of (j := 3) hs hi (by omega)) ?_)
    rw [h.2.2.2.1]
    refine ka_ifP ((k3_le (by omega) (by omega)).mpr (by omega)) ?_
    unfold pb_X3_onOthers_62
    have e : n + Int32.ofNat (v_of k []).length = n := Int32.add_zero n
    rw [e] at kk2
    exact kk2
  | cons b t ih =>
    intro done fuel n hA hf kk2
    obtain ⟨fuel, rfl⟩ : ∃ n, fuel = n + 1 := ⟨fuel - 1, by omega⟩
    have hAl : r.bs.length = done.length + (t.length + 1) := by rw [hA, List.length_append]; rfl
    simp only [List.length_cons] at hf
    have hb : r.bs[done.length]? = some b := by rw [hA]; simp
    have hkind := hN.2.2.2.2.2.2.2.2.2.2.2 _ _ hb
    unfold pb_X3_onOthers_18
    refine kt_is (ka_use (kt_of (j := 3) hs hi (by omega)) ?_)
    rw [h.2.2.2.1]
    refine ka_ifN (fun z => by have := (k3_le (by omega) (by omega)).mp z; omega) (kt_is (ka_use (kt_isDone hs hi h) ?_))
    rw [if_neg hnd]
    refine ka_ifN (fun z => z rfl) (kt_is (ka_use (kt_large hs hi h hN (by omega)) ?_))
    rw [← hkind]
    have hnext : ∀ (s : Int32), n + s + Int32.ofNat (v_of k t).length = n + Int32.ofNat (v_of k (b :: t)).length → ka_T Z (pb_X3_onOthers_54 k4 (pb_X3_onOthers_18 k4 fuel) (some m) k (Int32.ofNat i) (Int32.ofNat done.length) s n) w (kt G m ad (kt_set T 0 f)) Q := by
      intro s hs2
      unfold pb_X3_onOthers_54
      rw [k3_succ]
      have h2 := ih (done ++ [b]) fuel (n + s) (by rw [hA]; simp) (by omega) (by rw [hs2]; exact kk2)
      rw [List.length_append] at h2
      exact h2
    by_cases hbk : b.2.1 = k
    · refine ka_ifN (fun z => z hbk) (hnext 1 ?_)
      have ev : v_of k (b :: t) = b :: v_of k t := by unfold v_of; rw [List.filter_cons_of_pos (by simpa using hbk)]
      rw [ev, List.length_cons, Int32.add_assoc, Int32.add_comm 1, k3_succ]
    · refine ka_ifP hbk (hnext 0 ?_)
      have ev : v_of k (b :: t) = v_of k t := by unfold v_of; rw [List.filter_cons_of_neg (by simpa using hbk)]
      rw [ev, Int32.add_zero]
theorem kt_onLoop {st : List vS} {k : Int32} (hs : kt_sep m ad) (hS : ke_S f st) (h12 : f 12 = Int32.ofNat st.length) (hn : st.length ≤ 6) (hok : ∀ r ∈ st, v_sok r) (hk : k = 0 ∨ k = 1) : ∀ (rest done : List vS) (fuel : Nat) (n : Int32), st = done ++ rest → rest.length < fuel → ka_T Z (pb_X3_onOthers_4 fuel (some m) k n (Int32.ofNat done.length)) w (kt G m ad (kt_set T 0 f)) (ka_V w (kt G m ad (kt_set T 0 f)) (v_on k rest n)) := by
  intro rest
  induction rest with
  | nil =>
    intro done fuel n hA hf
    obtain ⟨fuel, rfl⟩ : ∃ n, fuel = n + 1 := ⟨fuel - 1, by omega⟩
    have hA1 : done.length = st.length := by rw [hA, List.append_nil]
    unfold pb_X3_onOthers_4
    refine kt_g0 (kt_ls (p := 12) hs (by omega) ?_)
    rw [h12]
    exact ka_ifP ((k3_le (by omega) (by omega)).mpr (by omega)) (ka_pure ⟨rfl, rfl, rfl⟩)
  | cons r t ih =>
    intro done fuel n hA hf
    obtain ⟨fuel, rfl⟩ : ∃ n, fuel = n + 1 := ⟨fuel - 1, by omega⟩
    have hAl : st.length = done.length + (t.length + 1) := by rw [hA, List.length_append]; rfl
    simp only [List.length_cons] at hf
    have hb : st[done.length]? = some r := by rw [hA]; simp
    have h := hS _ _ hb
    obtain ⟨gg, mm, kk, hN⟩ := hok r (List.mem_of_getElem? hb)
    have hlen : r.bs.length ≤ 28 := (v_sok_loose hN).2.2
    have hi : done.length < 6 := by omega
    unfold pb_X3_onOthers_4
    refine kt_g0 (kt_ls (p := 12) hs (by omega) ?_)
    rw [h12]
    refine ka_ifN (fun z => by have := (k3_le (by omega) (by omega)).mp z; omega) ?_
    rw [v_on]
    have h2 : ∀ n', ka_T Z (pb_X3_onOthers_4 fuel (some m) k n' (Int32.ofNat done.length + 1)) w (kt G m ad (kt_set T 0 f)) (ka_V w (kt G m ad (kt_set T 0 f)) (v_on k t n')) := by
      intro n'
      rw [k3_succ]
      have h3 := ih (done ++ [r]) fuel n' (by rw [hA]; simp) (by omega)
      rw [List.length_append] at h3
      exact h3
    by_cases hd : v_done r = true
    · rw [if_pos hd, Int32.add_zero]
      show ka_T Z (pb_X3_onOthers_18 (pb_X3_onOthers_4 fuel) (99999 + 1) (some m) k n (Int32.ofNat done.length) 0) _ _ _
      unfold pb_X3_onOthers_18
      refine kt_is (ka_use (kt_of (j := 3) hs hi (by omega)) ?_)
      rw [h.2.2.2.1]
      by_cases h0 : r.bs.length = 0
      · refine ka_ifP (by rw [h0]; decide) ?_
        exact h2 n
      · refine ka_ifN (fun z => by have := (k3_le (b := 0) (by omega) (by omega)).mp z; omega) (kt_is (ka_use (kt_isDone hs hi h) ?_))
        rw [if_pos hd]
        refine ka_ifP (by decide) ?_
        exact h2 n
    · rw [if_neg hd]
      exact kt_onInner hs hi h hN hd hk r.bs [] km_fuel n rfl (by unfold km_fuel; omega) (h2 _)
theorem kt_onOthers {k : Int32} (hs : kt_sep m ad) (he : ke f V) (hz : v_sz V) (hok : ∀ r ∈ V.st, v_sok r) (hk : k = 0 ∨ k = 1) : ka_T Z (pm_X3_onOthers (some m) k) w (kt G m ad (kt_set T 0 f)) (ka_V w (kt G m ad (kt_set T 0 f)) (v_on k V.st 0)) := by
  unfold pm_X3_onOthers
  exact kt_onLoop hs he.2.2.2.2.1 he.1.2.2.2.2.1 hz.2.2.2.1 hok hk V.st [] km_fuel 0 rfl (by have := hz.2.2.2.1; unfold km_fuel; omega)
end KTL2
