set_option maxRecDepth 100000
section KTM
variable {Z : ka_Z} {w : Nat} {G : ka_H} {m : Nat} {ad : Nat → Nat} {T : kT} {X : vX} {f : Nat → Int32} {V : kV} {cc dd : Nat}
theorem kt_beAt {α : Type} {Q : α → Nat → ka_H → Prop} {H : ka_H} {i p : Nat} {k : Int32 → km_M α} (kk : ka_T Z (k (Int32.ofNat (764 + 60 * i + (4 + 2 * p)))) w H Q) : ka_T Z (km_bind (pm_X3_beadAt (Int32.ofNat i) (Int32.ofNat p)) k) w H Q := by
  refine ka_use (v := Int32.ofNat (764 + 60 * i + (4 + 2 * p))) ?_ kk
  unfold pm_X3_beadAt
  have e : (4 : Int32) + 2 * Int32.ofNat p = Int32.ofNat (4 + 2 * p) := by
    rw [show (4 : Int32) = Int32.ofNat 4 from rfl, show (2 : Int32) = Int32.ofNat 2 from rfl, k3_mul, k3_add]
  rw [e]
  exact kt_sAt (ka_pure ⟨rfl, rfl, rfl⟩)
theorem ke_erase {α : Type} {l : List α} {k i : Nat} {x : α} (h : (l.eraseIdx k)[i]? = some x) : (i < k ∧ l[i]? = some x) ∨ (k ≤ i ∧ l[i + 1]? = some x) := by
  rw [List.getElem?_eraseIdx] at h
  split at h
  · next h1 => exact Or.inl ⟨h1, h⟩
  · next h1 => exact Or.inr ⟨by omega, h⟩
theorem ke_goB {k : Nat} (h : ke f V) (hz : v_sz V) (hk : k < V.bx.length) : ke (upd (vt_shift f (44 + 3 * k) (44 + 3 * (V.bx.length - 1)) 3) 11 (Int32.ofNat (V.bx.length - 1))) (V.cs, V.ls, V.bx.eraseIdx k, V.2.2.2) := by
  obtain ⟨h0, h1, h2, h3, h4, h5, h6, h7⟩ := h
  obtain ⟨z1, z2, z3, z4, z5, z6, z7, z8⟩ := hz
  obtain ⟨n0, n1, n2, n3, n4, n5, n6, n7⟩ := h0
  have ho : ∀ p, p ≠ 11 → (p < 44 ∨ 764 ≤ p) → (upd (vt_shift f (44 + 3 * k) (44 + 3 * (V.bx.length - 1)) 3) 11 (Int32.ofNat (V.bx.length - 1))) p = f p := fun p h9 hp => (upd_ne h9).trans (vt_shift_out (by omega))
  refine ⟨⟨fun j hj => (ho j (by omega) (by omega)).trans (n0 j hj), (ho _ (by omega) (by omega)).trans n1, (ho _ (by omega) (by omega)).trans n2, ?_, (ho _ (by omega) (by omega)).trans n4, (ho _ (by omega) (by omega)).trans n5, (ho _ (by omega) (by omega)).trans n6, (ho _ (by omega) (by omega)).trans n7⟩, ke_C_cong h1 z1 (fun p _ _ => ho p (by omega) (by omega)), ke_L_cong h2 z2 (fun p _ _ => ho p (by omega) (by omega)), fun i c hc => ?_, ke_S_cong h4 z4 z8 (fun p _ _ => ho p (by omega) (by omega)), ke_P_cong h5 z5 (fun p _ _ => ho p (by omega) (by omega)), ke_D_cong h6 z6 (fun p _ _ => ho p (by omega) (by omega)), ke_W_cong h7 (Nat.le_trans z7 (by omega)) (fun p _ _ => ho p (by omega) (by omega))⟩
  · show _ = Int32.ofNat (V.bx.eraseIdx k).length
    rw [upd_same, List.length_eraseIdx, if_pos hk]
  · rcases ke_erase hc with ⟨hi, hc2⟩ | ⟨hi, hc2⟩
    · obtain ⟨g0, g1, g2⟩ := h3 i c hc2
      refine ⟨?_, ?_, ?_⟩
      · rw [upd_ne (by omega), vt_shift_out (Or.inl (by omega)), g0]
      · rw [upd_ne (by omega), vt_shift_out (Or.inl (by omega)), g1]
      · rw [upd_ne (by omega), vt_shift_out (Or.inl (by omega)), g2]
    · have hi2 := ke_get_lt hc2
      obtain ⟨g0, g1, g2⟩ := h3 (i + 1) c hc2
      refine ⟨?_, ?_, ?_⟩
      · rw [upd_ne (by omega), vt_shift_in (by omega) (by omega), ← g0]
        congr 1
      · rw [upd_ne (by omega), vt_shift_in (by omega) (by omega), ← g1]
        congr 1
      · rw [upd_ne (by omega), vt_shift_in (by omega) (by omega), ← g2]
        congr 1
/-- a string is another, what lies elsewhere is as it was -/
theorem ke_setS {f' : Nat → Int32} {i : Nat} {r r' : vS} (h : ke f V) (hz : v_sz V) (hi : V.st[i]? = some r) (h1 : ke_S1 f' i r') (ho : ∀ p, (p < 764 + 60 * i ∨ 764 + 60 * i + 60 ≤ p) → f' p = f p) : ke f' (V.cs, V.ls, V.bx, V.st.set i r', V.2.2.2.2) := by
  obtain ⟨h0, hC, h2, h3, h4, h5, h6, h7⟩ := h
  obtain ⟨z1, z2, z3, z4, z5, z6, z7, z8⟩ := hz
  obtain ⟨n0, n1, n2, n3, n4, n5, n6, n7⟩ := h0
  have hil := ke_get_lt hi
  refine ⟨⟨fun j hj => (ho j (by omega)).trans (n0 j hj), (ho _ (by omega)).trans n1, (ho _ (by omega)).trans n2, (ho _ (by omega)).trans n3, ?_, (ho _ (by omega)).trans n5, (ho _ (by omega)).trans n6, (ho _ (by omega)).trans n7⟩, ke_C_cong hC z1 (fun p _ _ => ho p (by omega)), ke_L_cong h2 z2 (fun p _ _ => ho p (by omega)), ke_B_cong h3 z3 (fun p _ _ => ho p (by omega)), fun j c hc => ?_, ke_P_cong h5 z5 (fun p _ _ => ho p (by omega)), ke_D_cong h6 z6 (fun p _ _ => ho p (by omega)), ke_W_cong h7 (Nat.le_trans z7 (by omega)) (fun p _ _ => ho p (by omega))⟩
  · show _ = Int32.ofNat (V.st.set i r').length
    rw [List.length_set]
    exact (ho 12 (by omega)).trans n4
  · have hc2 : (V.st.set i r')[j]? = some c := hc
    by_cases hj : j = i
    · subst hj
      rw [List.getElem?_set_self hil] at hc2
      cases hc2
      exact h1
    · rw [List.getElem?_set_ne (Ne.symm hj)] at hc2
      exact ke_S1_cong (h4 j c hc2) (z8 c (List.mem_of_getElem? hc2)) (fun p q1 q2 => ho p (by omega))
theorem ke_addBead {i : Nat} {r : vS} {b : vB} (h : ke_S1 f i r) (hr : r.bs.length < 28) : ke_S1 (upd (upd (upd f (764 + 60 * i + (4 + 2 * r.bs.length)) b.1) (764 + 60 * i + (4 + 2 * r.bs.length) + 1) b.2.2) (764 + 60 * i + 3) (Int32.ofNat (r.bs.length + 1))) i (r.1, r.2.1, r.2.2.1, r.bs ++ [b]) := by
  obtain ⟨g0, g1, g2, g3, g4⟩ := h
  refine ⟨?_, ?_, ?_, ?_, fun p c hc => ?_⟩
  · rw [upd_ne (by omega), upd_ne (by omega), upd_ne (by omega)]; exact g0
  · rw [upd_ne (by omega), upd_ne (by omega), upd_ne (by omega)]; exact g1
  · rw [upd_ne (by omega), upd_ne (by omega), upd_ne (by omega)]; exact g2
  · rw [upd_same]
    show _ = Int32.ofNat (r.bs ++ [b]).length
    rw [List.length_append]
    rfl
  · have hc2 : (r.bs ++ [b])[p]? = some c := hc
    by_cases hp : p < r.bs.length
    · rw [List.getElem?_append_left hp] at hc2
      obtain ⟨q1, q2⟩ := g4 p c hc2
      refine ⟨?_, ?_⟩
      · rw [upd_ne (by omega), upd_ne (by omega), upd_ne (by omega)]; exact q1
      · rw [upd_ne (by omega), upd_ne (by omega), upd_ne (by omega)]; exact q2
    · have hp2 := ke_get_lt hc2
      rw [List.length_append] at hp2
      simp only [List.length_cons, List.length_nil] at hp2
      have e : p = r.bs.length := by omega
      subst e
      rw [List.getElem?_append_right (Nat.le_refl _), Nat.sub_self] at hc2
      have e2 : b = c := Option.some.inj hc2
      subst e2
      exact ⟨by rw [upd_ne (by omega), upd_ne (by omega), upd_same], by rw [upd_ne (by omega), upd_same]⟩
theorem kt_onT {k : Int32} (hs : kt_sep m ad) (he : ke (T.1 0) V) (hz : v_sz V) (hok : ∀ r ∈ V.st, v_sok r) (hk : k = 0 ∨ k = 1) : ka_T Z (pm_X3_onOthers (some m) k) w (kt G m ad T) (ka_V w (kt G m ad T) (v_on k V.st 0)) := by
  have h := kt_onOthers (Z := Z) (w := w) (G := G) (T := T) hs he hz hok hk
  rw [kt_set_id] at h
  exact h
/-- there is no such bead -/
theorem kt_refBead {k e : Int32} {B : Bool} {l : List vB} (hs : kt_sep m ad) (he : ke f (V.wb l)) (hz : v_sz (V.wb l)) (hok : ∀ r ∈ V.st, v_sok r) (hk : k = 0 ∨ k = 1) : ka_T Z (pm_X3_refusesBead (some m) k) w (kt G m ad (kt_set T 0 f)) (kt_bod B e w G m ad (kt_set T 0 f) (.inl [(6, v_bit k), (10, v_on k V.st 0)])) := by
  have h12 : ∀ s0 : Int32, s0 = v_bit k → ka_T Z (pb_X3_refusesBead_12 (some m) k s0 6 (some m)) w (kt G m ad (kt_set T 0 f)) (kt_bod B e w G m ad (kt_set T 0 f) (.inl [(6, v_bit k), (10, v_on k V.st 0)])) := by
    intro s0 hs0
    subst hs0
    unfold pb_X3_refusesBead_12
    refine kt_is (ka_mv (kt_refuse hs) (kt_g6 (kt_st (j := 6) (p := 1) hs (by decide) (by decide) (kt_g7 (kt_is (ka_use (kt_onT hs he hz hok hk) (kt_st (j := 7) (p := 1) hs (by decide) (by decide) (ka_pure ⟨rfl, rfl, ?_⟩))))))))
    refine ⟨f, upd (upd (upd (upd (T.1 6) 0 6) 1 0) 2 0) 1 10, upd (upd (T.1 7) 0 (v_bit k)) 1 (v_on k V.st 0), ?_, ?_, fun _ => rfl⟩
    · congr 1
      unfold kt_no kt_set
      refine Prod.ext (funext fun j => ?_) rfl
      by_cases h7 : j = 7
      · simp [h7]
        rfl
      · by_cases h6 : j = 6
        · simp [h6]
        · by_cases h0 : j = 0
          · simp [h0]
          · simp [h0, h6, h7]
    · refine ⟨by simp, Nat.le_of_ble_eq_true rfl, fun i hi => ?_⟩
      have h3 : i = 0 ∨ i = 1 ∨ i = 2 := by omega
      rcases h3 with e | e | e <;> subst e
      · exact ⟨rfl, rfl, show (6 : Int32) ≠ 0 by decide⟩
      · exact ⟨rfl, rfl, show (10 : Int32) ≠ 0 by decide⟩
      · rfl
  unfold pm_X3_refusesBead
  rcases hk with e | e
  · subst e
    exact ka_ifP rfl (h12 0 rfl)
  · subst e
    exact ka_ifN (by decide) (h12 1 rfl)
theorem kt_bodE {x : km_M Int32} {H : ka_H} {B : Bool} {e : Int32} {res : vR} (h : ka_T Z x w H (kt_bod B e w G m ad T res)) : ka_T Z (km_bind x fun i => km_pure i) w H (kt_bod B e w G m ad T res) := by
  refine ka_call h (fun r w' H' hp => ?_)
  obtain ⟨rfl, hp⟩ := hp
  exact ka_pure ⟨rfl, hp⟩
theorem v_eraseperm {l bx : List vB} {b : vB} {at_ : Nat} (hl : l.Perm bx) (hn : (bx.map (·.1)).Nodup) (hb : l[at_]? = some b) : (l.eraseIdx at_).Perm (bx.filter (fun c => decide (c.1 ≠ b.1))) := by
  have h1 := kp_erase hb
  have h2 := kp_filter hn (hl.mem_iff.mp (List.mem_of_getElem? hb))
  exact (h1.symm.trans (hl.trans h2)).cons_inv
theorem kt_threads {a : Int32} {B : Bool} (hs : kt_sep m ad) (hf : keP f V) (hok : v_ok cc dd V) (hcc : cc ≤ 240) : ka_T Z (pm_X3_threads (some m) a) w (kt G m ad (kt_set T 0 f)) (kt_bod B (-1) w G m ad (kt_set T 0 f) (if v_isS V a = 1 then v_thread V a.toNatClampNeg else .inl [])) := by
  have hz := v_sz_of hok hcc
  obtain ⟨hst, l, hl, he⟩ := id hf
  obtain ⟨z1, z2, z3, z4, z5, z6, z7, z8⟩ := id hz
  have hzl := v_sz_wb hz hl
  have e12 : f 12 = Int32.ofNat V.st.length := he.1.2.2.2.2.1
  have hbok : ∀ b ∈ l, v_bok b := fun b hb => hok.2.2.2.1 b (List.mem_append_left _ (hl.mem_iff.mp hb))
  have hndl : (l.map (·.1)).Nodup := (hl.map (·.1)).nodup_iff.mpr (v_nd_bx hok.2.2.2.2.2)
  unfold pm_X3_threads
  refine kt_is (ka_use (kt_isS hs e12) ?_)
  by_cases h : v_isS V a = 1
  · rw [if_pos h]
    refine ka_ifP (by rw [show v_in a 0 (Int32.ofNat V.st.length - 1) = 1 from h]; decide) ?_
    obtain ⟨i, rfl, hi⟩ := v_in_idx (by omega) h
    rw [k3_nat (by omega)]
    obtain ⟨r, hr⟩ : ∃ r, V.st[i]? = some r := ⟨_, List.getElem?_eq_getElem hi⟩
    have hgd : V.st.getD i (0, 0, 0, []) = r := by rw [List.getD, hr]; rfl
    have hS1 : ke_S1 f i r := he.2.2.2.2.1 i r hr
    obtain ⟨gg, mm, kk, hN⟩ := hok.2.2.2.2.1 r (List.mem_of_getElem? hr)
    have hlen : r.bs.length ≤ 28 := (v_sok_loose hN).2.2
    refine kt_is (ka_use (kt_wants hs (by omega) hS1 hN) ?_)
    unfold v_thread vt_wants
    dsimp only
    rw [hgd]
    by_cases hd : v_done r = true
    · have e : (if v_done r = true then (3 : Int32) else if v_whole r = true then 2 else if v_loose r = 0 then 1 else 0) = 3 := if_pos hd
      rw [e, if_pos hd]
      exact ka_ifN (by decide) (kt_is (ka_mv (kt_refuse hs) (ka_pure (kt_bodN (by decide)))))
    · have e : (if v_done r = true then (3 : Int32) else if v_whole r = true then 2 else if v_loose r = 0 then 1 else 0) = if v_whole r = true then 2 else if v_loose r = 0 then 1 else 0 := if_neg hd
      rw [e, if_neg hd]
      by_cases hwh : v_whole r = true
      · have e : (if v_whole r = true then (2 : Int32) else if v_loose r = 0 then 1 else 0) = 2 := if_pos hwh
        rw [e, if_pos hwh]
        refine ka_ifP (by decide) (ka_ifN (by decide) (kt_is (ka_use (kt_of (j := 2) hs (by omega) (by omega)) ?_)))
        rw [hS1.2.2.1]
        exact kt_is (ka_mv (kt_refuse hs) (ka_pure (kt_bodN (by decide))))
      · have e : (if v_whole r = true then (2 : Int32) else if v_loose r = 0 then 1 else 0) = if v_loose r = 0 then 1 else 0 := if_neg hwh
        rw [e, if_neg hwh]
        have hlt : r.bs.length < 28 := by
          obtain ⟨p1, p2, p3, p4, p5, p6, p7, p8, p9, p10, p11, -⟩ := id hN
          have h1 : ¬ kk = gg := fun z => hd ((v_sok_done hN).mpr z)
          have h2 : ¬ r.bs.length = (kk + 1) * (mm + 1) := fun z => hwh ((v_sok_whole hN).mpr z)
          have h3 : (kk + 1) * (mm + 1) ≤ 4 * 7 := Nat.mul_le_mul (by omega) (by omega)
          omega
        -- a bead of kind k is looked for
        have key : ∀ k : Int32, k = (if v_loose r = 0 then 1 else 0) → ka_T Z (pb_X3_threads_56 (some m) (Int32.ofNat i) k k (some m)) w (kt G m ad (kt_set T 0 f)) (kt_bod B (-1) w G m ad (kt_set T 0 f) (match v_takes V k with | .inl ch => .inl ch | .inr (b, W) => .inr (b.1, v_setS W i (r.1, r.2.1, r.2.2.1, r.bs ++ [b])))) := by
          intro k hk0
          have hk : k = 0 ∨ k = 1 := by rw [hk0]; split; exact Or.inr rfl; exact Or.inl rfl
          unfold pb_X3_threads_56
          refine kt_is (ka_call (kt_finestPlace hs he.2.2.2.1 he.1.2.2.2.1 hzl.2.2.1 hk hbok) (fun x w' H' hp => ?_))
          obtain ⟨rfl, rfl, hx⟩ := hp
          have hperm : v_fin none (v_of k l) = v_fin none (v_of k V.bx) := v_fin_perm (hl.filter _) (hndl.sublist (List.filter_sublist.map _))
          unfold v_takes
          rw [← hperm]
          cases hfin : v_fin none (v_of k l) with
          | none =>
            have hx2 : x = -1 := by
              have hx3 : vt_best l (v_fin none (v_of k l)) x := hx
              rw [hfin] at hx3
              exact hx3
            subst hx2
            refine ka_ifN (by decide) ?_
            rcases hk with e | e
            · subst e
              refine ka_ifP (by decide) ?_
              unfold pb_X3_threads_75
              exact kt_is (kt_bodE (kt_refBead hs he hzl hok.2.2.2.2.1 (Or.inl rfl)))
            · subst e
              refine ka_ifN (by decide) ?_
              unfold pb_X3_threads_75
              exact kt_is (kt_bodE (kt_refBead hs he hzl hok.2.2.2.2.1 (Or.inr rfl)))
          | some b =>
            have hx3 : vt_best l (v_fin none (v_of k l)) x := hx
            rw [hfin] at hx3
            obtain ⟨j, hj, rfl⟩ := hx3
            have hjl := ke_get_lt hj
            have hl240 : l.length ≤ 240 := hzl.2.2.1
            obtain ⟨c0, c1, c2⟩ := he.2.2.2.1 j b hj
            refine ka_ifP ((k3_le (a := 0) (by omega) (by omega)).mpr (by omega)) (kt_is (ka_use (kt_of (j := 3) hs (by omega) (by omega)) ?_))
            rw [hS1.2.2.2.1]
            refine kt_beAt (kt_g0 (kt_bAt (j := 0) (kt_ls hs (by omega) ?_)))
            rw [c0]
            refine kt_g0 (kt_ss hs (by omega) (kt_g0 (kt_g0 (kt_bAt (j := 2) (kt_ls hs (by omega) ?_)))))
            rw [upd_ne (by omega), c2, k3_succ]
            refine kt_ss hs (by omega) (kt_g0 (kt_sAt (j := 3) (kt_ls hs (by omega) ?_)))
            rw [upd_ne (by omega), upd_ne (by omega), hS1.2.2.2.1, k3_succ]
            refine kt_ss hs (by omega) ?_
            have k1 := ke_setS (r' := (r.1, r.2.1, r.2.2.1, r.bs ++ [b])) he hzl hr (ke_addBead (b := b) hS1 hlt) (fun p hp => by rw [upd_ne (by omega), upd_ne (by omega), upd_ne (by omega)])
            have hz2 : v_sz (V.cs, V.ls, l, V.st.set i (r.1, r.2.1, r.2.2.1, r.bs ++ [b]), V.2.2.2.2) := by
              refine ⟨z1, z2, hl240, by show (V.st.set i _).length ≤ 6; rw [List.length_set]; exact z4, z5, z6, z7, fun q hq => ?_⟩
              rcases List.mem_or_eq_of_mem_set hq with e | e
              · exact z8 q e
              · rw [e]
                show (r.bs ++ [b]).length ≤ 28
                rw [List.length_append]
                simp only [List.length_cons, List.length_nil]
                omega
            have k2 := ke_goB (k := j) k1 hz2 hjl
            refine kt_is (ka_mv (kt_goes (c := 11) (b := 44) (s := 3) (n := l.length) (k := j) hs (by omega) (by omega) hjl k1.1.2.2.2.1) (ka_pure ⟨rfl, rfl, if_pos (hbok b (List.mem_of_getElem? hj)).1, _, by rw [kt_set_set]; rfl, hst, l.eraseIdx j, v_eraseperm hl (v_nd_bx hok.2.2.2.2.2) hj, k2⟩))
        by_cases hlo : v_loose r = 0
        · have e : (if v_loose r = 0 then (1 : Int32) else 0) = 1 := if_pos hlo
          rw [e]
          refine ka_ifP (by decide) (ka_ifP (by decide) (ka_ifN (fun z => z rfl) ?_))
          exact key 1 e.symm
        · have e : (if v_loose r = 0 then (1 : Int32) else 0) = 0 := if_neg hlo
          rw [e]
          refine ka_ifP (by decide) (ka_ifP (by decide) (ka_ifP (by decide) ?_))
          exact key 0 e.symm
  · rw [if_neg h]
    exact ka_ifN (by rw [show v_in a 0 (Int32.ofNat V.st.length - 1) = 0 from v_in_no h]; simp) (ka_pure ⟨rfl, rfl, rfl⟩)
end KTM
