set_option maxRecDepth 100000
section KAL
variable {Z : ka_Z} {w : Nat} {H0 H : ka_H} {s : Nat} {ad : Nat → Nat} {A : kAp} {cc dd : Nat}
/-- the word of a command picks what is done -/
theorem kx_pick {Q : (Nat ⊕ Int32) → Nat → ka_H → Prop} {s c : Nat} {cm : vCm} (hc : kr_c Z H c cm) (k : ka_T Z (pb_X0_does_179 (some s) (some c) (if cm.1 = 7 then -1 else Int32.ofNat cm.1)) w H Q) : ka_T Z (pm_X0_does (some s) (some c)) w H Q := by
  obtain ⟨h1, wd, nu, g, ⟨h2, hstr, fl, b, y, h3⟩, h4, h5, h6⟩ := hc
  obtain ⟨i, n1, n2⟩ := cm
  simp only at h1 h2 h3 k
  unfold pm_X0_does
  refine ka_gR (v := some wd) h4 rfl rfl (ka_is h3 rfl (ka_use (v := kr_h i) ?_ ?_))
  · unfold pm_J16_hashCode
    refine ka_gI h3 rfl rfl (ka_ifP ?_ (ka_pure ⟨rfl, rfl, rfl⟩))
    have : ∀ j : Fin 8, ¬ kr_h j.val = 0 := by decide
    exact this ⟨i, h1⟩
  · have heq : ∀ {f : Int32 → km_M (Nat ⊕ Int32)}, ka_T Z (f 1) w H Q → ka_T Z (km_bind (km_is 35 (some wd)) fun _ => km_bind (pm_J16_equals (some wd) (some wd)) f) w H Q := by
      intro f hf
      refine ka_is h3 rfl (ka_use (v := 1) ?_ hf)
      unfold pm_J16_equals
      exact ka_ifN (fun z => z rfl) (ka_ret rfl (ka_pure ⟨rfl, rfl, rfl⟩))
    have hi : i = 0 ∨ i = 1 ∨ i = 2 ∨ i = 3 ∨ i = 4 ∨ i = 5 ∨ i = 6 ∨ i = 7 := by omega
    rcases hi with e | e | e | e | e | e | e | e <;> subst e
    · have z : Z.1 18 = some wd := h2
      refine ka_lswN (by decide) (ka_lswN (by decide) (ka_lswN (by decide) (ka_lswN (by decide) (ka_lswN (by decide) (ka_lswY rfl (ka_k ?_))))))
      rw [z]
      exact heq (ka_ifN (by decide) k)
    · have z : Z.1 21 = some wd := h2
      refine ka_lswN (by decide) (ka_lswN (by decide) (ka_lswN (by decide) (ka_lswN (by decide) (ka_lswN (by decide) (ka_lswN (by decide) (ka_lswY rfl (ka_k ?_)))))))
      rw [z]
      exact heq (ka_ifN (by decide) k)
    · have z : Z.1 11 = some wd := h2
      refine ka_lswN (by decide) (ka_lswN (by decide) (ka_lswN (by decide) (ka_lswN (by decide) (ka_lswY rfl (ka_k ?_)))))
      rw [z]
      exact heq (ka_ifN (by decide) k)
    · have z : Z.1 23 = some wd := h2
      refine ka_lswY rfl (ka_k ?_)
      rw [z]
      exact heq (ka_ifN (by decide) k)
    · have z : Z.1 16 = some wd := h2
      refine ka_lswN (by decide) (ka_lswN (by decide) (ka_lswY rfl (ka_k ?_)))
      rw [z]
      exact heq (ka_ifN (by decide) k)
    · have z : Z.1 13 = some wd := h2
      refine ka_lswN (by decide) (ka_lswY rfl (ka_k ?_))
      rw [z]
      exact heq (ka_ifN (by decide) k)
    · have z : Z.1 20 = some wd := h2
      refine ka_lswN (by decide) (ka_lswN (by decide) (ka_lswN (by decide) (ka_lswY rfl (ka_k ?_))))
      rw [z]
      exact heq (ka_ifN (by decide) k)
    · refine ka_lswN (by decide) (ka_lswN (by decide) (ka_lswN (by decide) (ka_lswN (by decide) (ka_lswN (by decide) (ka_lswN (by decide) (ka_lswN (by decide) (ka_lswD ?_)))))))
      exact k
theorem kx_dost {a : Int32} (hM : kc_mut H0 H s ad A) (hok : v_ok cc dd A.V) (h : v_in a 0 (Int32.ofNat A.st.length - 1) = 1) : ∃ i, a = Int32.ofNat i ∧ i < A.st.length ∧ a.toNatClampNeg = i := by
  have h6 : A.V.st.length ≤ 6 := hok.2.2.1.2.2.1
  rw [kvl_st] at h6
  obtain ⟨i, rfl, hi⟩ := v_in_idx (by omega) h
  exact ⟨i, rfl, hi, k3_nat (by omega)⟩
theorem kx_does1 {c : Nat} {cm : vCm} (hE : ka_E0 Z) (hM : kc_mut H0 H s ad A) (hok : v_ok cc dd A.V) (hcc : cc + 10 ≤ 240) (hc : kr_c Z H c cm) (hw : 47000 ≤ w) : ka_T Z (pm_X0_does (some s) (some c)) w H (kq_C H0 s ad w 47000 (v_does A.V cm)) := by
  refine kx_pick hc ?_
  have h1 := hc.1
  obtain ⟨⟨c1, c2, c3, c4, c5, c6, c7⟩, c8, c9, c10, c11, c12⟩ := kh_ok hok (by omega)
  have hS := hM.2.1
  have hs := kg_s hS
  have hlen : A.V.st.length = A.st.length := kvl_st A
  obtain ⟨i, n1, n2⟩ := cm
  simp only at h1
  unfold pb_X0_does_179
  have hi : i = 0 ∨ i = 1 ∨ i = 2 ∨ i = 3 ∨ i = 4 ∨ i = 5 ∨ i = 6 ∨ i = 7 := by omega
  rcases hi with e | e | e | e | e | e | e | e <;> subst e
  · exact ka_tswY (i := 0) (by omega) rfl (kx_CR (kx_carves hM hok hcc hc (Or.inr rfl) hw))
  · exact ka_tswY (i := 1) (by omega) rfl (kx_CR (kx_carves hM hok hcc hc (Or.inl rfl) hw))
  · refine ka_tswY (i := 2) (by omega) rfl (kx_n0 hc (kx_n1 hc (ka_use kx_isPattern ?_)))
    show ka_T Z _ w H (kq_C H0 s ad w 47000 (if v_pat n1 n2 = 1 then v_begins A.V n1 n2 else .inl []))
    by_cases h : v_pat n1 n2 = 1
    · have e : (if v_pat n1 n2 = 1 then v_begins A.V n1 n2 else (.inl [] : vR)) = v_begins A.V n1 n2 := if_pos h
      rw [e]
      exact ka_inT h (kx_n0 hc (kx_n1 hc (ka_is hs rfl (ka_post (kq_RR (ko_begins hE hM c3 (by omega))) (fun r w' H' hp => kq_CR hp (by omega))))))
    · have e : (if v_pat n1 n2 = 1 then v_begins A.V n1 n2 else (.inl [] : vR)) = .inl [] := if_neg h
      rw [e]
      exact ka_inF (v_pat_01.resolve_right h) hM (by omega) hw
  · refine ka_tswY (i := 3) (by omega) rfl (kx_n0 hc (ka_is hs rfl (ka_use (kx_isString hS) ?_)))
    show ka_T Z _ w H (kq_C H0 s ad w 47000 (if v_in n1 0 (Int32.ofNat A.V.st.length - 1) = 1 ∧ v_in n2 1 28 = 1 then v_threads n1.toNatClampNeg n2.toNatClampNeg 0 A.V else .inl []))
    rw [hlen]
    by_cases h : v_in n1 0 (Int32.ofNat A.st.length - 1) = 1
    · refine ka_ifN (by rw [h]; decide) (kx_n1 hc (ka_use kx_in ?_))
      by_cases h2 : v_in n2 1 28 = 1
      · have e : (if v_in n1 0 (Int32.ofNat A.st.length - 1) = 1 ∧ v_in n2 1 28 = 1 then v_threads n1.toNatClampNeg n2.toNatClampNeg 0 A.V else (.inl [] : vR)) = v_threads n1.toNatClampNeg n2.toNatClampNeg 0 A.V := if_pos ⟨h, h2⟩
        rw [e]
        obtain ⟨i, hi1, hi2, hi3⟩ := kx_dost hM hok h
        obtain ⟨j, hj, hj1, hj2⟩ := v_in_nat (a := 1) (b := 28) (by omega) (by omega) h2
        refine ka_ifN (by rw [h2]; decide) ?_
        unfold pb_X0_does_300
        refine ka_inT rfl (kx_n0 hc (kx_n1 hc (ka_is hs rfl ?_)))
        rw [hi3, hj, k3_nat (by omega)]
        show ka_T Z (km_bind (pm_X1_threads (some s) n1 (Int32.ofNat j)) _) _ _ _
        rw [hi1]
        exact ka_post (kq_RR (ko_threads hM hok hj2 (by omega) hi2 (by omega))) (fun r w' H' hp => kq_CR hp (by omega))
      · have e : (if v_in n1 0 (Int32.ofNat A.st.length - 1) = 1 ∧ v_in n2 1 28 = 1 then v_threads n1.toNatClampNeg n2.toNatClampNeg 0 A.V else (.inl [] : vR)) = .inl [] := if_neg (fun z => h2 z.2)
        rw [e]
        refine ka_ifP (v_in_no h2) ?_
        unfold pb_X0_does_299 pb_X0_does_300
        exact ka_inF rfl hM (by omega) hw
    · have e : (if v_in n1 0 (Int32.ofNat A.st.length - 1) = 1 ∧ v_in n2 1 28 = 1 then v_threads n1.toNatClampNeg n2.toNatClampNeg 0 A.V else (.inl [] : vR)) = .inl [] := if_neg (fun z => h z.1)
      rw [e]
      refine ka_ifP (v_in_no h) ?_
      unfold pb_X0_does_299 pb_X0_does_300
      exact ka_inF rfl hM (by omega) hw
  · refine ka_tswY (i := 4) (by omega) rfl (kx_n0 hc (ka_is hs rfl (ka_use (kx_isString hS) ?_)))
    show ka_T Z _ w H (kq_C H0 s ad w 47000 (if v_in n1 0 (Int32.ofNat A.V.st.length - 1) = 1 then v_ties A.V n1.toNatClampNeg else .inl []))
    rw [hlen]
    by_cases h : v_in n1 0 (Int32.ofNat A.st.length - 1) = 1
    · have e : (if v_in n1 0 (Int32.ofNat A.st.length - 1) = 1 then v_ties A.V n1.toNatClampNeg else (.inl [] : vR)) = v_ties A.V n1.toNatClampNeg := if_pos h
      rw [e]
      obtain ⟨i, hi1, hi2, hi3⟩ := kx_dost hM hok h
      refine ka_inT h (kx_n0 hc (ka_is hs rfl ?_))
      rw [hi3]
      show ka_T Z (km_bind (pm_X1_ties (some s) n1) _) _ _ _
      rw [hi1]
      exact ka_post (kq_RR (ko_ties hM hi2 c3 (by omega))) (fun r w' H' hp => kq_CR hp (by omega))
    · have e : (if v_in n1 0 (Int32.ofNat A.st.length - 1) = 1 then v_ties A.V n1.toNatClampNeg else (.inl [] : vR)) = .inl [] := if_neg h
      rw [e]
      exact ka_inF (v_in_no h) hM (by omega) hw
  · refine ka_tswY (i := 5) (by omega) rfl (kx_n0 hc (ka_is hs rfl (ka_use (kx_isString hS) ?_)))
    show ka_T Z _ w H (kq_C H0 s ad w 47000 (if v_in n1 0 (Int32.ofNat A.V.st.length - 1) = 1 then .inr (v_drops A.V n1.toNatClampNeg) else .inl []))
    rw [hlen]
    by_cases h : v_in n1 0 (Int32.ofNat A.st.length - 1) = 1
    · have e : (if v_in n1 0 (Int32.ofNat A.st.length - 1) = 1 then .inr (v_drops A.V n1.toNatClampNeg) else (.inl [] : vR)) = .inr (v_drops A.V n1.toNatClampNeg) := if_pos h
      rw [e]
      obtain ⟨i, hi1, hi2, hi3⟩ := kx_dost hM hok h
      refine ka_inT h (kx_n0 hc (ka_is hs rfl ?_))
      rw [hi3]
      show ka_T Z (km_bind (pm_X1_drops (some s) n1) _) _ _ _
      rw [hi1]
      obtain ⟨g, m, k, hsk⟩ := hok.2.2.2.2.1 _ (List.mem_map_of_mem (f := kS.V) (List.getElem_mem hi2))
      obtain ⟨l1, l2, l3⟩ := v_sok_loose hsk
      have hm := hsk.2.2.2.2.2.2.1
      have hbl : (A.st[i]).V.bs.length = (A.st[i]).bs.length := List.length_map ..
      have hcnt : A.bx.length + (A.st[i]).bs.length ≤ cc := kx_cnt hok hi2
      refine ka_post (kq_VR (ko_drops (d := (A.st[i]).V.bs.length - k * (m + 1)) hM hi2 c3 (fun r hr => ?_) (by omega) (by omega) (by omega))) (fun r w' H' hp => kq_CR hp (by omega))
      have hr2 : A.st[i] = r := by rw [List.getElem?_eq_getElem hi2] at hr; exact Option.some.inj hr
      rw [← hr2]
      exact ⟨l1, by omega, by omega⟩
    · have e : (if v_in n1 0 (Int32.ofNat A.st.length - 1) = 1 then .inr (v_drops A.V n1.toNatClampNeg) else (.inl [] : vR)) = .inl [] := if_neg h
      rw [e]
      exact ka_inF (v_in_no h) hM (by omega) hw
  · refine ka_tswY (i := 6) (by omega) rfl (ka_is hs rfl ?_)
    exact ka_post (kq_RR (ko_mends hM c3 (fun r hr => Nat.le_trans (c8 r hr) (by omega)) (by omega) c9 c10 (by omega) (fun d hd => (c12 d hd).1) (by omega))) (fun r w' H' hp => kq_CR hp (by omega))
  · refine ka_tswM (kx_n0 hc (ka_use kx_areDays ?_))
    show ka_T Z _ w H (kq_C H0 s ad w 47000 (if v_in n1 1 60 = 1 then .inr (v_passes n1.toNatClampNeg 0 A.V) else .inl []))
    by_cases h : v_in n1 1 60 = 1
    · have e : (if v_in n1 1 60 = 1 then .inr (v_passes n1.toNatClampNeg 0 A.V) else (.inl [] : vR)) = .inr (v_passes n1.toNatClampNeg 0 A.V) := if_pos h
      rw [e]
      obtain ⟨j, hj, hj1, hj2⟩ := v_in_nat (a := 1) (b := 60) (by omega) (by omega) h
      refine ka_inT h (kx_n0 hc (ka_is hs rfl ?_))
      show ka_T Z (km_bind (pm_X1_passes (some s) n1) _) _ _ _
      rw [hj, k3_nat (by omega)]
      exact ka_post (kq_VR (ko_passes hE hM hok (by omega) hj2 (by omega))) (fun r w' H' hp => kq_CR hp (by omega))
    · have e : (if v_in n1 1 60 = 1 then .inr (v_passes n1.toNatClampNeg 0 A.V) else (.inl [] : vR)) = .inl [] := if_neg h
      rw [e]
      exact ka_inF (v_in_no h) hM (by omega) hw
/-- the commands of an opened deque, one after the other -/
theorem kx_allLoop {it l b h : Nat} {g : Nat → Option Nat} {all : List (Nat × vCm)} (hE : ka_E0 Z) (hl : H0 l = some (kq_ob b h all.length)) (hb : H0 b = some (ka_aR 4 17 g)) (hW : kq_W h (all.map (·.1)) g) (hcs : ∀ z ∈ all, kr_c Z H0 z.1 z.2) (hit0 : H0 it = none) : ∀ (rest done : List (Nat × vCm)) (A : kAp) (H : ka_H) (fuel w cc dd : Nat) (lr : Int32), all = done ++ rest → rest.length < fuel → kc_mut H0 H s ad A → H it = some (kq_it h all.length done.length lr l) → v_ok cc dd A.V → cc + 10 * rest.length ≤ 240 → 47000 * rest.length + 20 ≤ w → ka_T Z (pb_X0_doesAll_7 fuel (some s) (Int32.ofNat done.length) (some it)) w H (kq_R H0 s ad w (47000 * rest.length + 20) (v_all2 (rest.map (·.2)) done.length A.V)) := by
  have h17 : all.length < 16 := by have := hW.2.1; rw [List.length_map] at this; exact this
  intro rest
  induction rest with
  | nil =>
    intro done A H fuel w cc dd lr hA hf hM hit hok hcc hw
    obtain ⟨fuel, rfl⟩ : ∃ n, fuel = n + 1 := ⟨fuel - 1, by omega⟩
    have hA1 : done.length = all.length := by rw [hA, List.append_nil]
    unfold pb_X0_doesAll_7
    refine kq_dHas hit (by omega) ?_
    rw [if_neg (show ¬ done.length < all.length by omega)]
    exact ka_ifP rfl (ka_pure ⟨by omega, rfl, A, hM, rfl⟩)
  | cons z t ih =>
    intro done A H fuel w cc dd lr hA hf hM hit hok hcc hw
    obtain ⟨fuel, rfl⟩ : ∃ n, fuel = n + 1 := ⟨fuel - 1, by omega⟩
    have hAl : all.length = done.length + (t.length + 1) := by rw [hA, List.length_append]; rfl
    simp only [List.length_cons] at hf hcc hw ⊢
    unfold pb_X0_doesAll_7
    refine kq_dHas hit (by omega) ?_
    rw [if_pos (show done.length < all.length by omega)]
    refine ka_ifN (by decide) ?_
    have hz : all[done.length]? = some z := by rw [hA]; simp
    have hg : g ((h + done.length) % 17) = some z.1 := by
      rw [hW.2.2 done.length (by omega), List.getElem?_map, hz]
      rfl
    refine kq_dNext (v := z.1) hit (hM.1 _ _ hl) (hM.1 _ _ hb) (by omega) (by omega) hg ?_
    have hM1 : kc_mut H0 (ka_up H it (kq_it h all.length (done.length + 1) (Int32.ofNat ((h + done.length) % 17)) l)) s ad A := ku_it hM hit (Or.inr (Or.inl rfl)) hit0
    have hM2 := kc_in34 hM1 ka_same
    have hle0 : ka_le H0 (ka_up H0 it (kq_it h all.length (done.length + 1) (Int32.ofNat ((h + done.length) % 17)) l)) := ka_le_up hit0
    have hc := kr_c_le (hcs z (by rw [hA]; simp)) hM1.1
    obtain ⟨q1, wd, nu, g9, q2, q3, q4, q5⟩ := id hc
    refine ka_cast q3 rfl rfl (ka_call (kx_does1 hE hM2 hok (by omega) hc (by omega)) (fun r w1 H1 hp => ?_))
    obtain ⟨hw1, hp⟩ := hp
    have hres := vk_does (c := z.2) hok (by omega)
    rw [List.map_cons, v_all2]
    cases hd : v_does A.V z.2 with
    | inl ch =>
      rw [hd] at hp
      cases r with
      | inr v => exact hp.elim
      | inl q =>
        obtain ⟨hle, hch⟩ := hp
        have hwrap : ∀ w2, w ≤ w2 + 47000 → ka_T Z (pb_X0_doesAll_38 (Int32.ofNat done.length) (some q)) w2 H1 (kq_R H0 s ad w (47000 * (t.length + 1) + 20) (.inl ((9, Int32.ofNat done.length) :: ch))) := by
          intro w2 hw2
          unfold pb_X0_doesAll_38
          refine ka_new (by omega) (fun r1 hr1 => ?_)
          refine ka_nn (ka_call (kr_new ka_same) (fun _ w' H' hp => ?_))
          obtain ⟨rfl, rfl⟩ := hp
          rw [ka_up_up]
          have hle2 : ka_le H1 (ka_up H1 r1 (kr_ob (some q) 9 (Int32.ofNat done.length))) := ka_le_up hr1
          refine ka_throw ka_same ⟨by omega, ka_le_trans (ka_le_trans hle0 hle) hle2, ?_⟩
          cases ch with
          | nil =>
            obtain ⟨fs, hq⟩ := hch
            exact ⟨some q, ka_same, Or.inr ⟨q, fs, rfl, hle2 _ _ hq⟩⟩
          | cons p t2 =>
            have hq2 : kr H1 q (p :: t2) := hch
            refine ⟨q, ?_, ka_same, kr_le hle2 hq2⟩
            cases t2 with
            | nil => obtain ⟨c9, e9, _⟩ := hq2; exact ka_dom e9 hr1
            | cons p2 t3 => obtain ⟨x9, _, e9, _⟩ := hq2; exact ka_dom e9 hr1
        show ka_T Z (km_bind (km_cls (some q)) fun c => if c = 8 then (km_bind (km_is 8 (some q)) fun _ => pb_X0_doesAll_38 (Int32.ofNat done.length) (some q)) else (km_bind (km_is 13 (some q)) fun _ => pb_X0_doesAll_38 (Int32.ofNat done.length) (some q))) _ _ _
        cases ch with
        | nil =>
          obtain ⟨fs, hq⟩ := id hch
          exact ka_clsR hq (ka_ifN (by decide) (ka_is hq rfl (hwrap w1 hw1)))
        | cons p t2 =>
          have hq2 : kr H1 q (p :: t2) := hch
          have hq3 : ∃ fs, H1 q = some (ka_ob 8 fs) := by
            cases t2 with
            | nil => obtain ⟨c9, e9, _⟩ := hq2; exact ⟨_, e9⟩
            | cons p2 t3 => obtain ⟨x9, _, e9, _⟩ := hq2; exact ⟨_, e9⟩
          obtain ⟨fs, hq⟩ := hq3
          exact ka_clsR hq (ka_ifP rfl (ka_is hq rfl (hwrap w1 hw1)))
    | inr p =>
      obtain ⟨v, W⟩ := p
      rw [hd] at hp hres
      cases r with
      | inl q => exact hp.elim
      | inr v2 =>
        obtain ⟨rfl, A', hM', rfl⟩ := hp
        show ka_T Z (pb_X0_doesAll_7 fuel (some s) (Int32.ofNat done.length + 1) (some it)) _ _ _
        rw [k3_succ]
        have h2 := ih (done ++ [z]) A' H1 fuel w1 (cc + 10) (dd + 60) (Int32.ofNat ((h + done.length) % 17)) (by rw [hA]; simp) (by omega) (kc_sub hM' hle0) (by rw [List.length_append]; exact hM'.1 _ _ ka_same) hres (by omega) (by omega)
        rw [List.length_append] at h2
        exact ka_post h2 (fun r w' H' hq => ⟨by have := hq.1; omega, hq.2⟩)
end KAL
