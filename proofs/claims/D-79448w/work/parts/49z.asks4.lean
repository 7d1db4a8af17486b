set_option maxRecDepth 100000
section KTZ
variable {Z : ka_Z} {w : Nat} {G : ka_H} {m : Nat} {ad : Nat → Nat} {T : kT} {X : vX} {f : Nat → Int32} {V : kV} {cc dd : Nat}
theorem kt_bead {c p k : Int32} (hs : kt_sep m ad) (hR : kR T X) (hz : vX_sz X) : ka_T Z (pm_X3_bead (some m) c p k) w (kt G m ad T) (ka_V w (kt G m ad T) (vq_bead X c p k)) := by
  refine kt_row (P := fun _ _ => True) (fun T0 f hf hT => ?_)
  obtain ⟨hst, l, hl, he⟩ := hR.1
  rw [← hf] at he
  have hz1 := hz.1.2.2.2.1
  have e12 : f 12 = Int32.ofNat X.now.st.length := he.1.2.2.2.2.1
  unfold pm_X3_bead
  refine kt_is (ka_use (kt_isS hs e12) ?_)
  by_cases h : vx_isS X c = 1
  · refine ka_ifN (by rw [show v_in c 0 (Int32.ofNat X.now.st.length - 1) = 1 from h]; decide) ?_
    obtain ⟨i, rfl, hi⟩ := v_in_idx (by omega) h
    obtain ⟨r, hr⟩ : ∃ x, X.now.st[i]? = some x := ⟨_, List.getElem?_eq_getElem hi⟩
    have hgd : X.now.st.getD (Int32.ofNat i).toNatClampNeg (0, 0, 0, []) = r := by rw [k3_nat (by omega), List.getD, hr]; rfl
    have hS1 : ke_S1 f i r := he.2.2.2.2.1 i r hr
    have hrl := hz.1.2.2.2.2.2.2.2 r (List.mem_of_getElem? hr)
    refine kt_is (ka_use (kt_of (j := 3) hs (by omega) (by omega)) ?_)
    rw [hS1.2.2.2.1]
    refine ka_use kt_isIn ?_
    unfold vq_bead
    by_cases hp : v_in p 0 (Int32.ofNat r.bs.length - 1) = 1
    · obtain ⟨q, rfl, hq⟩ := v_in_idx (by omega) hp
      have h0 : (0 : Int32) ≤ Int32.ofNat q := (k3_le (a := 0) (by omega) (by omega)).mpr (Nat.zero_le _)
      obtain ⟨b, hb⟩ : ∃ b, r.bs[q]? = some b := ⟨_, List.getElem?_eq_getElem hq⟩
      obtain ⟨q1, q2⟩ := hS1.2.2.2.2 q b hb
      rw [if_pos (show vx_isS X (Int32.ofNat i) = 1 ∧ (0 : Int32) ≤ Int32.ofNat q from ⟨h, h0⟩), hgd, k3_nat (by omega), hb]
      refine ka_ifP (by rw [hp]; decide) (kt_g0 (kt_beAt (ka_ite (fun hk => ?_) (fun hk => ?_))))
      · unfold pb_X3_bead_44
        have e0 : Int32.ofNat (764 + 60 * i + (4 + 2 * q)) + 0 = Int32.ofNat (764 + 60 * i + (4 + 2 * q)) := Int32.add_zero _
        rw [e0]
        refine kt_ls hs (by omega) (ka_pure ⟨?_, rfl, rfl⟩)
        rw [q1]
        exact (if_pos hk).symm
      · unfold pb_X3_bead_44
        rw [k3_succ]
        refine kt_ls hs (by omega) (ka_pure ⟨?_, rfl, rfl⟩)
        rw [q2]
        exact (if_neg hk).symm
    · refine ka_ifN (by rw [v_in_no hp]; simp) (ka_pure ⟨?_, rfl, rfl⟩)
      by_cases h0 : (0 : Int32) ≤ p
      · rw [if_pos (show vx_isS X (Int32.ofNat i) = 1 ∧ (0 : Int32) ≤ p from ⟨h, h0⟩), hgd]
        have hnone : r.bs[p.toNatClampNeg]? = none := by
          refine List.getElem?_eq_none (Nat.le_of_not_lt (fun z => hp (v_in_iff.mpr ⟨h0, ?_⟩)))
          have e := kv_neg h0
          have hlt : p.toNatClampNeg < 2 ^ 31 := Int32.toNatClampNeg_lt p
          rw [e, k3_pred (by omega)]
          exact (k3_le (by omega) (by omega)).mpr (by omega)
        rw [hnone]
      · rw [if_neg (fun z => h0 z.2)]
  · have e : vq_bead X c p k = -1 := if_neg (fun z => h z.1)
    rw [e]
    exact ka_ifP (v_in_no h) (ka_pure ⟨rfl, rfl, rfl⟩)
end KTZ
