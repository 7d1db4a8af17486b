set_option maxRecDepth 100000
section KTZJ
variable {Z : ka_Z} {w : Nat} {G : ka_H} {m : Nat} {ad : Nat → Nat} {T : kT} {X : vX} {f : Nat → Int32} {cc dd : Nat}
theorem v_fsum_split : ∀ (bs : List vB), (∀ b ∈ bs, b.2.1 = 0 ∨ b.2.1 = 1) → v_fsum 0 (v_of 1 bs) + v_fsum 0 (v_of 0 bs) = v_fsum 0 bs := by
  intro bs
  induction bs with
  | nil => intro _; rfl
  | cons b t ih =>
    intro h
    have h1 := ih (fun x hx => h x (List.mem_cons_of_mem _ hx))
    have h0 : v_fsum 0 (b :: t) = b.2.2 + v_fsum 0 t := by rw [v_fsum, v_fsum_add, Int32.zero_add]
    rw [h0, ← h1]
    rcases h b List.mem_cons_self with e | e
    · have e1 : v_of 1 (b :: t) = v_of 1 t := by unfold v_of; rw [List.filter_cons_of_neg (by rw [e]; decide)]
      have e2 : v_of 0 (b :: t) = b :: v_of 0 t := by unfold v_of; rw [List.filter_cons_of_pos (by rw [e]; decide)]
      rw [e1, e2, v_fsum, v_fsum_add _ (0 + b.2.2), Int32.zero_add, ← Int32.add_assoc, ← Int32.add_assoc, Int32.add_comm (v_fsum 0 (v_of 1 t))]
    · have e1 : v_of 1 (b :: t) = b :: v_of 1 t := by unfold v_of; rw [List.filter_cons_of_pos (by rw [e]; decide)]
      have e2 : v_of 0 (b :: t) = v_of 0 t := by unfold v_of; rw [List.filter_cons_of_neg (by rw [e]; decide)]
      rw [e1, e2, v_fsum, v_fsum_add _ (0 + b.2.2), Int32.zero_add, Int32.add_assoc]
theorem kt_rowF {α : Type} {x : km_M α} {v : α} (h : ∀ T0 f, f = T.1 0 → T = kt_set T0 0 f → ka_T Z x w (kt G m ad (kt_set T0 0 f)) (ka_V w (kt G m ad (kt_set T0 0 f)) v)) : ka_T Z x w (kt G m ad T) (ka_V w (kt G m ad T) v) := kt_row (P := fun _ _ => True) h
theorem kt_mean (hs : kt_sep m ad) (hR : kR T X) (hz : vX_sz X) (hok : v_ok cc dd X.now) : ka_T Z (pm_X3_meanFineness (some m)) w (kt G m ad T) (ka_V w (kt G m ad T) (vq_mean X)) := by
  refine kt_rowF (fun T0 f hf hT => ?_)
  have h1 := hR.1
  rw [← hf] at h1
  obtain ⟨hst, l, hl, he⟩ := id h1
  have hz3 := hz.1.2.2.1
  have e11 : f 11 = Int32.ofNat X.now.bx.length := by rw [he.1.2.2.2.1, ← hl.length_eq]; rfl
  unfold pm_X3_meanFineness vq_mean
  refine kt_is (ka_use (kt_box0 hs h1 hz.1 (Or.inr rfl)) (kt_is (ka_use (kt_box0 hs h1 hz.1 (Or.inl rfl)) (kt_g0 (kt_ls (p := 11) hs (by omega) ?_)))))
  rw [e11, if_neg (show ¬ (1 : Int32) = 0 by decide), if_neg (show ¬ (1 : Int32) = 0 by decide), v_fsum_split X.now.bx (fun b hb => (hok.2.2.2.1 b (List.mem_append_left _ hb)).2.1)]
  by_cases h : X.now.bx = []
  · refine ka_ifN (fun z => z (by rw [h]; rfl)) (ka_pure ⟨?_, rfl, rfl⟩)
    rw [if_pos h]
  · have hpos : 0 < X.now.bx.length := List.length_pos_iff.mpr h
    have hne : ¬ Int32.ofNat X.now.bx.length = 0 := fun z => by have := (k3_eq (b := 0) (by omega) (by omega)).mp z; omega
    refine ka_ifP hne (kt_g0 (kt_ls (p := 11) hs (by omega) ?_))
    rw [e11]
    refine ka_ddiv hne (ka_pure ⟨?_, rfl, rfl⟩)
    rw [if_neg h]
theorem kt_spoilt (hs : kt_sep m ad) (hR : kR T X) : ka_T Z (pm_X3_spoilt (some m)) w (kt G m ad T) (ka_V w (kt G m ad T) (vq_spoilt X)) := by
  refine kt_rowF (fun T0 f hf hT => ?_)
  obtain ⟨hst, l, hl, he⟩ := hR.1
  rw [← hf] at he
  have e2 : f 2 = X.now.sc 2 := he.1.1 2 (by omega)
  have e3 : f 3 = X.now.sc 3 := he.1.1 3 (by omega)
  unfold pm_X3_spoilt vq_spoilt
  refine kt_g0 (kt_ls (p := 2) hs (by omega) (kt_g0 (kt_ls (p := 3) hs (by omega) ?_)))
  rw [e2, e3]
  by_cases h : X.now.sc 2 + X.now.sc 3 = 0
  · refine ka_ifN (fun z => z h) (ka_pure ⟨?_, rfl, rfl⟩)
    rw [if_pos h]
  · refine ka_ifP h (kt_g0 (kt_ls (p := 3) hs (by omega) ?_))
    rw [e3]
    refine ka_fdiv h (ka_pure ⟨?_, rfl, rfl⟩)
    rw [if_neg h]
end KTZJ
