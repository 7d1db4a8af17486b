set_option maxRecDepth 100000
section KTZB
variable {Z : ka_Z} {w : Nat} {G : ka_H} {m : Nat} {ad : Nat → Nat} {T : kT} {X : vX} {f : Nat → Int32} {V : kV} {cc dd : Nat}
theorem kt_sold41 {i b0 : Nat} {wz k : Int32} {d : vD} {day : Int32} (hs : kt_sep m ad) (hb : b0 + 5 * i + 5 ≤ 2188) (h0 : f 0 = day) (hne : d.bs ≠ []) (hl : d.bs.length ≤ 28) (g1 : f (b0 + 5 * i + 1) = Int32.ofNat d.bs.length) (g2 : f (b0 + 5 * i + 2) = v_fsum 0 d.bs) (g0 : wz = 0 → f (b0 + 5 * i + 0) = v_last d) (g3 : wz ≠ 0 → f (b0 + 5 * i + 3) = v_brk d) : ka_T Z (pb_X3_soldOf_41 (some m) wz (Int32.ofNat i) k (Int32.ofNat b0)) w (kt G m ad (kt_set T 0 f)) (ka_V w (kt G m ad (kt_set T 0 f)) (v_sw' k [Int32.ofNat d.bs.length, v_fine d.bs, if wz = 0 then v_last d - day else 0, if wz = 0 then -6 else v_brk d] (-2))) := by
  have e5 : Int32.ofNat b0 + 5 * Int32.ofNat i = Int32.ofNat (b0 + 5 * i) := by
    rw [show (5 : Int32) = Int32.ofNat 5 from rfl, k3_mul, k3_add]
  have c0 : Int32.ofNat (b0 + 5 * i) + 0 = Int32.ofNat (b0 + 5 * i + 0) := k3_add (b := 0)
  have c1 : Int32.ofNat (b0 + 5 * i) + 1 = Int32.ofNat (b0 + 5 * i + 1) := k3_add (b := 1)
  have c2 : Int32.ofNat (b0 + 5 * i) + 2 = Int32.ofNat (b0 + 5 * i + 2) := k3_add (b := 2)
  have c3 : Int32.ofNat (b0 + 5 * i) + 3 = Int32.ofNat (b0 + 5 * i + 3) := k3_add (b := 3)
  have hpos : 0 < d.bs.length := List.length_pos_iff.mpr hne
  have hnz : ¬ Int32.ofNat d.bs.length = 0 := fun z => by have := (k3_eq (b := 0) (by omega) (by omega)).mp z; omega
  unfold pb_X3_soldOf_41
  rw [e5, c0, c1, c2, c3]
  refine kt_tsw rfl rfl (fun j P y hv hP hy => ?_) (ka_pure ⟨rfl, rfl, rfl⟩)
  have hj : j = 0 ∨ j = 1 ∨ j = 2 ∨ j = 3 := by have := ke_get_lt hP; simp only [List.length_cons, List.length_nil] at this; omega
  rcases hj with e | e | e | e <;> subst e <;> cases hP <;> cases hy
  · refine kt_g0 (kt_ls hs (by omega) ?_)
    rw [g1]
    exact ka_pure ⟨rfl, rfl, rfl⟩
  · refine kt_g0 (kt_ls hs (by omega) (kt_g0 (kt_ls hs (by omega) ?_)))
    rw [g1, g2]
    refine ka_div hnz (ka_pure ⟨?_, rfl, rfl⟩)
    unfold v_fine
    rw [if_neg hne]
  · by_cases hz : wz = 0
    · rw [if_pos (show wz = 0 from hz)]
      refine kt_g0 (kt_ls hs (by omega) (kt_g0 (kt_ls (p := 0) hs (by omega) ?_)))
      rw [g0 hz, h0]
      exact ka_pure ⟨by rw [if_pos hz], rfl, rfl⟩
    · rw [if_neg (show ¬ wz = 0 from hz)]
      exact ka_pure ⟨by rw [if_neg hz], rfl, rfl⟩
  · by_cases hz : wz = 0
    · rw [if_pos (show wz = 0 from hz)]
      exact ka_pure ⟨by rw [if_pos hz], rfl, rfl⟩
    · rw [if_neg (show ¬ wz = 0 from hz)]
      refine kt_g0 (kt_ls hs (by omega) ?_)
      rw [g3 hz]
      exact ka_pure ⟨by rw [if_neg hz], rfl, rfl⟩
theorem kt_soldOf {wz p k : Int32} (hs : kt_sep m ad) (hR : kR T X) (hz : vX_sz X) (hok : v_ok cc dd X.now) : ka_T Z (pm_X3_soldOf (some m) wz p k) w (kt G m ad T) (ka_V w (kt G m ad T) (vq_soldOf X wz p k)) := by
  refine kt_row (P := fun _ _ => True) (fun T0 f hf hT => ?_)
  obtain ⟨hst, l, hl, he⟩ := hR.1
  rw [← hf] at he
  have hz6 := hz.1.2.2.2.2.2.1
  have hz7 := hz.1.2.2.2.2.2.2.1
  unfold pm_X3_soldOf vq_soldOf
  dsimp only
  refine kt_g0 ?_
  by_cases hw : wz = 0
  · have e : (if wz = 0 then X.now.so else X.now.wa) = X.now.so := if_pos hw
    rw [e]
    refine ka_ifP hw ?_
    unfold pb_X3_soldOf_17
    refine kt_ls (p := 14) hs (by omega) ?_
    rw [he.1.2.2.2.2.2.2.1]
    refine ka_use kt_isIn ?_
    show ka_T Z (if ¬ v_in p 0 (Int32.ofNat X.now.so.length - 1) = 0 then _ else _) _ _ _
    by_cases h : v_in p 0 (Int32.ofNat X.now.so.length - 1) = 1
    · rw [if_pos h]
      refine ka_ifP (by rw [h]; decide) (ka_ifP hw ?_)
      obtain ⟨i, rfl, hi⟩ := v_in_idx (by omega) h
      rw [k3_nat (by omega)]
      obtain ⟨d, hd⟩ : ∃ x, X.now.so[i]? = some x := ⟨_, List.getElem?_eq_getElem hi⟩
      have hgd : X.now.so.getD i (0, none, []) = d := by rw [List.getD, hd]; rfl
      rw [hgd]
      obtain ⟨g0, g1, g2, g3⟩ := he.2.2.2.2.2.2.1 i d hd
      obtain ⟨q1, q2, q3⟩ := hok.2.1.1 d (List.mem_of_getElem? hd)
      exact kt_sold41 (b0 := 1148) hs (by omega) (he.1.1 0 (by omega)) (fun z => by rw [show d.bs = [] from z] at q2; simp at q2) q3 g1 g2 (fun _ => g0) (fun z => absurd hw z)
    · rw [if_neg h]
      exact ka_ifN (by rw [v_in_no h]; simp) (ka_pure ⟨rfl, rfl, rfl⟩)
  · have e : (if wz = 0 then X.now.so else X.now.wa) = X.now.wa := if_neg hw
    rw [e]
    refine ka_ifN hw ?_
    unfold pb_X3_soldOf_17
    refine kt_ls (p := 15) hs (by omega) ?_
    rw [he.1.2.2.2.2.2.2.2]
    refine ka_use kt_isIn ?_
    show ka_T Z (if ¬ v_in p 0 (Int32.ofNat X.now.wa.length - 1) = 0 then _ else _) _ _ _
    by_cases h : v_in p 0 (Int32.ofNat X.now.wa.length - 1) = 1
    · rw [if_pos h]
      refine ka_ifP (by rw [h]; decide) (ka_ifN hw ?_)
      obtain ⟨i, rfl, hi⟩ := v_in_idx (by omega) h
      rw [k3_nat (by omega)]
      obtain ⟨d, hd⟩ : ∃ x, X.now.wa[i]? = some x := ⟨_, List.getElem?_eq_getElem hi⟩
      have hgd : X.now.wa.getD i (0, none, []) = d := by rw [List.getD, hd]; rfl
      rw [hgd]
      obtain ⟨g1, g2, g3⟩ := he.2.2.2.2.2.2.2 i d hd
      obtain ⟨⟨c, hc, hcb⟩, q2, q3⟩ := hok.2.1.2 d (List.mem_of_getElem? hd)
      exact kt_sold41 (b0 := 1188) hs (by omega) (he.1.1 0 (by omega)) (fun z => by rw [show d.bs = [] from z] at q2; simp at q2) q3 g1 g2 (fun z => absurd z hw) (fun _ => by unfold v_brk; rw [hc]; exact g3 c hc)
    · rw [if_neg h]
      exact ka_ifN (by rw [v_in_no h]; simp) (ka_pure ⟨rfl, rfl, rfl⟩)
end KTZB
