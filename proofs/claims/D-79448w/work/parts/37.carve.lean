set_option maxRecDepth 100000
/-! ===== lenses are given, beads are carved ===== -/
section KSC
variable {H0 H : ka_H} {s : Nat} {ad : Nat → Nat} {A : kAp}
theorem ku_setC {i : Nat} {c c' : kC} (h : kc_mut H0 H s ad A) (hi : A.cs[i]? = some c) (hc : c'.1 = c.1) : kc_mut H0 (ka_up H c.1 (kc_C c')) s ad (A.cs.set i c', A.2) := by
  have hm := List.mem_of_getElem? hi
  have hx := kg_c h.2.1 hm
  have e1 : (A.cs.set i c').map (·.1) = A.cs.map (·.1) := ks_map (f := (·.1)) hi hc
  have hl : kc_lists ad (A.cs.set i c', A.2) = kc_lists ad A := by
    unfold kc_lists kc_top
    rw [show (kAp.cs (A.cs.set i c', A.2)).map (·.1) = A.cs.map (·.1) from e1]
  refine ku_obj h hx (Or.inl rfl) (h.2.2.1 _ (kc_mine_mem.mpr (Or.inr (Or.inr (Or.inl ⟨c, hm, rfl⟩))))) hl rfl rfl (fun q hq => ?_) ?_ (by rw [e1]; exact h.2.2.2.2.1) h.2.2.2.2.2.1 h.2.2.2.2.2.2
  · rcases kc_mem.mp hq with ⟨b, hb, e⟩ | e
    · rcases ks_set (key := (·.1)) h.2.2.2.2.1 hi hc b hb with e2 | ⟨e2, e3⟩
      · rw [← e, e2, hc]
        exact Or.inl rfl
      · rw [← e]
        exact Or.inr ⟨kg_c h.2.1 e2, e3⟩
    · have hq2 := h.2.1.2.2.2.2 q (kc_mem.mpr (Or.inr e))
      refine Or.inr ⟨hq2, ka_kinds hq2 hx ?_⟩
      rcases e with ⟨b, -, e⟩ | ⟨b, -, e⟩ | ⟨b, -, e⟩ | ⟨b, -, e⟩ | ⟨b, -, e⟩ | ⟨b, -, e⟩ <;> rw [← e] <;> simp
  · rw [kc_mine_same (A := A) (A' := (A.cs.set i c', A.2)) e1 rfl rfl rfl]
    exact h.2.2.1
theorem ku_setL {i : Nat} {c c' : kLn} (h : kc_mut H0 H s ad A) (hi : A.ls[i]? = some c) (hc : c'.1 = c.1) : kc_mut H0 (ka_up H c.1 (kc_L c')) s ad (A.cs, A.ls.set i c', A.2.2) := by
  have hm := List.mem_of_getElem? hi
  have hx := kg_l h.2.1 hm
  have e1 : (A.ls.set i c').map (·.1) = A.ls.map (·.1) := ks_map (f := (·.1)) hi hc
  have hl : kc_lists ad (A.cs, A.ls.set i c', A.2.2) = kc_lists ad A := by
    unfold kc_lists kc_top
    rw [show (kAp.ls (A.cs, A.ls.set i c', A.2.2)).map (·.1) = A.ls.map (·.1) from e1]
  refine ku_obj h hx (Or.inr (Or.inl rfl)) (h.2.2.1 _ (kc_mine_mem.mpr (Or.inr (Or.inr (Or.inr (Or.inl ⟨c, hm, rfl⟩)))))) hl rfl rfl (fun q hq => ?_) ?_ h.2.2.2.2.1 (by rw [e1]; exact h.2.2.2.2.2.1) h.2.2.2.2.2.2
  · rcases kc_mem.mp hq with e | ⟨b, hb, e⟩ | e
    · have hq2 := h.2.1.2.2.2.2 q (kc_mem.mpr (Or.inl e))
      refine Or.inr ⟨hq2, ka_kinds hq2 hx ?_⟩
      obtain ⟨b, -, e⟩ := e
      rw [← e]
      simp
    · rcases ks_set (key := (·.1)) h.2.2.2.2.2.1 hi hc b hb with e2 | ⟨e2, e3⟩
      · rw [← e, e2, hc]
        exact Or.inl rfl
      · rw [← e]
        exact Or.inr ⟨kg_l h.2.1 e2, e3⟩
    · have hq2 := h.2.1.2.2.2.2 q (kc_mem.mpr (Or.inr (Or.inr e)))
      refine Or.inr ⟨hq2, ka_kinds hq2 hx ?_⟩
      rcases e with ⟨b, -, e⟩ | ⟨b, -, e⟩ | ⟨b, -, e⟩ | ⟨b, -, e⟩ | ⟨b, -, e⟩ <;> rw [← e] <;> simp
  · rw [kc_mine_same (A := A) (A' := (A.cs, A.ls.set i c', A.2.2)) rfl e1 rfl rfl]
    exact h.2.2.1
end KSC
section KCV
variable {Z : ka_Z} {w : Nat} {H0 H : ka_H} {s : Nat} {ad : Nat → Nat} {A : kAp}
theorem kv_setL {i : Nat} {l : kLn} {c : Int32} (h : A.ls[i]? = some l) : (A.ls.set i (l.1, l.2.1, c)).map (·.2) = v_setL A.V.ls i c := by
  unfold v_setL
  rw [kvg_ls h, List.map_set]
theorem ko_giveEnd {i : Nat} {l : kLn} {c was : Int32} (hM : kc_mut H0 H s ad A) (hi : A.ls[i]? = some l) : ka_T Z (pb_X1_gives_52 c (some l.1) was) w H (fun r w' H' => w' = w ∧ r = (if was = -1 then -6 else was) ∧ ∃ A', kc_mut H0 H' s ad A' ∧ A'.V = (A.V.cs, v_setL A.V.ls i c, A.V.2.2)) := by
  have hl := kg_l hM.2.1 (List.mem_of_getElem? hi)
  have hM2 := ku_setL (c' := (l.1, l.2.1, c)) hM hi rfl
  have hV : kAp.V (A.cs, A.ls.set i (l.1, l.2.1, c), A.2.2) = (A.V.cs, v_setL A.V.ls i c, A.V.2.2) := by
    rw [← kv_setL hi]
  unfold pb_X1_gives_52
  refine ka_pI (by first | exact ka_same | assumption | exact ka_ne1 (by first | assumption | exact Ne.symm (by assumption)) (by first | exact ka_same | assumption | exact ka_ne1 (by first | assumption | exact Ne.symm (by assumption)) (by first | exact ka_same | assumption | exact ka_ne1 (by first | assumption | exact Ne.symm (by assumption)) (by first | exact ka_same | assumption | exact ka_ne1 (by first | assumption | exact Ne.symm (by assumption)) (by first | exact ka_same | assumption | exact ka_ne1 (by first | assumption | exact Ne.symm (by assumption)) (by first | exact ka_same | assumption | exact ka_ne1 (by first | assumption | exact Ne.symm (by assumption)) (by first | exact ka_same | assumption))))))) rfl rfl (Nat.le_of_ble_eq_true rfl) ?_
  by_cases h : was = -1
  · exact ka_ifN (fun z => z h) (ka_pure ⟨rfl, by rw [if_pos h], _, hM2, hV⟩)
  · exact ka_ifP h (ka_pure ⟨rfl, by rw [if_neg h], _, hM2, hV⟩)
theorem ko_gives {i : Nat} {c : Int32} (hM : kc_mut H0 H s ad A) (hi : i < A.ls.length) (hl : A.ls.length ≤ 100) : ka_T Z (pm_X1_gives (some s) (Int32.ofNat i) c) w H (kq_V H0 s ad w 0 (v_gives A.V i c)) := by
  obtain ⟨mc, hls⟩ := kg_ls hM.2.1
  have hs := kg_s hM.2.1
  have hli := List.getElem?_eq_getElem hi
  have hl0 := kg_l hM.2.1 (List.getElem_mem hi)
  have hwas : (A.V.ls.getD i (0, 0)).2 = A.ls[i].2.2 := by rw [kvg_ls hli]
  unfold pm_X1_gives
  refine ka_gR (by first | exact ka_same | assumption | exact ka_ne1 (by first | assumption | exact Ne.symm (by assumption)) (by first | exact ka_same | assumption | exact ka_ne1 (by first | assumption | exact Ne.symm (by assumption)) (by first | exact ka_same | assumption | exact ka_ne1 (by first | assumption | exact Ne.symm (by assumption)) (by first | exact ka_same | assumption | exact ka_ne1 (by first | assumption | exact Ne.symm (by assumption)) (by first | exact ka_same | assumption | exact ka_ne1 (by first | assumption | exact Ne.symm (by assumption)) (by first | exact ka_same | assumption | exact ka_ne1 (by first | assumption | exact Ne.symm (by assumption)) (by first | exact ka_same | assumption))))))) rfl rfl ?_
  refine ka_is hls rfl (ka_use (kl_get (v := A.ls[i].1) hls (by rw [List.getElem?_map, hli]; rfl)) ?_)
  refine ka_cast hl0 rfl rfl (ka_gI hl0 rfl rfl ?_)
  have hend : ∀ (A1 : kAp) (G : ka_H) (l : kLn), kc_mut H0 G s ad A1 → A1.ls[i]? = some l → l.1 = A.ls[i].1 → A1.V = (A.V.cs, (if c = -1 ∨ v_lensOf A.V c = -6 then A.V.ls else v_setL A.V.ls (v_lensOf A.V c).toNatClampNeg (-1)), A.V.2.2) → ka_T Z (pb_X1_gives_52 c (some A.ls[i].1) A.ls[i].2.2) w G (kq_V H0 s ad w 0 (v_gives A.V i c)) := by
    intro A1 G l h1 h2 h3 h4
    rw [← h3]
    refine ka_post (ko_giveEnd h1 h2) (fun r w' H' hp => ?_)
    obtain ⟨rfl, rfl, A', q1, q2⟩ := hp
    refine ⟨by omega, by unfold v_gives; rw [hwas], A', q1, ?_⟩
    rw [q2, h4]
    rfl
  by_cases h1 : c = -1
  · refine ka_ifP h1 (hend A H A.ls[i] hM hli rfl ?_)
    rw [if_pos (Or.inl h1)]
  · refine ka_ifN h1 ?_
    refine ka_is (by first | exact ka_same | assumption | exact ka_ne1 (by first | assumption | exact Ne.symm (by assumption)) (by first | exact ka_same | assumption | exact ka_ne1 (by first | assumption | exact Ne.symm (by assumption)) (by first | exact ka_same | assumption | exact ka_ne1 (by first | assumption | exact Ne.symm (by assumption)) (by first | exact ka_same | assumption | exact ka_ne1 (by first | assumption | exact Ne.symm (by assumption)) (by first | exact ka_same | assumption | exact ka_ne1 (by first | assumption | exact Ne.symm (by assumption)) (by first | exact ka_same | assumption | exact ka_ne1 (by first | assumption | exact Ne.symm (by assumption)) (by first | exact ka_same | assumption))))))) rfl ?_
    refine ka_use (ko_lensOf hM.2.1 hl) ?_
    rcases v_lens_spec (c := c) (ls := A.V.ls) (i := 0) (by rw [kvl_ls]; omega) with ⟨e, -⟩ | ⟨j, l, e1, e2, e3⟩
    · have e' : v_lensOf A.V c = -6 := e
      refine ka_ifP e' (hend A H A.ls[i] hM hli rfl ?_)
      rw [if_pos (Or.inr e')]
    · have e' : v_lensOf A.V c = Int32.ofNat j := by rw [Nat.zero_add] at e3; exact e3
      have hjl : j < A.ls.length := by
        have := (List.getElem?_eq_some_iff.mp e1).1
        rwa [kvl_ls] at this
      have hj6 : Int32.ofNat j ≠ -6 := k3_m6 (by omega)
      have hlj := List.getElem?_eq_getElem hjl
      have hl1 := kg_l hM.2.1 (List.getElem_mem hjl)
      refine ka_ifN (by rw [e']; exact hj6) ?_
      refine ka_gR (by first | exact ka_same | assumption | exact ka_ne1 (by first | assumption | exact Ne.symm (by assumption)) (by first | exact ka_same | assumption | exact ka_ne1 (by first | assumption | exact Ne.symm (by assumption)) (by first | exact ka_same | assumption | exact ka_ne1 (by first | assumption | exact Ne.symm (by assumption)) (by first | exact ka_same | assumption | exact ka_ne1 (by first | assumption | exact Ne.symm (by assumption)) (by first | exact ka_same | assumption | exact ka_ne1 (by first | assumption | exact Ne.symm (by assumption)) (by first | exact ka_same | assumption | exact ka_ne1 (by first | assumption | exact Ne.symm (by assumption)) (by first | exact ka_same | assumption))))))) rfl rfl ?_
      refine ka_is (by first | exact ka_same | assumption | exact ka_ne1 (by first | assumption | exact Ne.symm (by assumption)) (by first | exact ka_same | assumption | exact ka_ne1 (by first | assumption | exact Ne.symm (by assumption)) (by first | exact ka_same | assumption | exact ka_ne1 (by first | assumption | exact Ne.symm (by assumption)) (by first | exact ka_same | assumption | exact ka_ne1 (by first | assumption | exact Ne.symm (by assumption)) (by first | exact ka_same | assumption | exact ka_ne1 (by first | assumption | exact Ne.symm (by assumption)) (by first | exact ka_same | assumption | exact ka_ne1 (by first | assumption | exact Ne.symm (by assumption)) (by first | exact ka_same | assumption))))))) rfl ?_
      refine ka_use (ko_lensOf hM.2.1 hl) ?_
      rw [e']
      refine ka_is hls rfl (ka_use (kl_get (v := A.ls[j].1) hls (by rw [List.getElem?_map, hlj]; rfl)) ?_)
      refine ka_cast hl1 rfl rfl ?_
      refine ka_pI (by first | exact ka_same | assumption | exact ka_ne1 (by first | assumption | exact Ne.symm (by assumption)) (by first | exact ka_same | assumption | exact ka_ne1 (by first | assumption | exact Ne.symm (by assumption)) (by first | exact ka_same | assumption | exact ka_ne1 (by first | assumption | exact Ne.symm (by assumption)) (by first | exact ka_same | assumption | exact ka_ne1 (by first | assumption | exact Ne.symm (by assumption)) (by first | exact ka_same | assumption | exact ka_ne1 (by first | assumption | exact Ne.symm (by assumption)) (by first | exact ka_same | assumption | exact ka_ne1 (by first | assumption | exact Ne.symm (by assumption)) (by first | exact ka_same | assumption))))))) rfl rfl (Nat.le_of_ble_eq_true rfl) ?_
      have hM1 := ku_setL (c' := (A.ls[j].1, A.ls[j].2.1, -1)) hM hlj rfl
      have hV1 : kAp.V (A.cs, A.ls.set j (A.ls[j].1, A.ls[j].2.1, -1), A.2.2) = (A.V.cs, (if c = -1 ∨ v_lensOf A.V c = -6 then A.V.ls else v_setL A.V.ls (v_lensOf A.V c).toNatClampNeg (-1)), A.V.2.2) := by
        rw [if_neg (show ¬ (c = -1 ∨ v_lensOf A.V c = -6) by rw [e']; simp [h1, hj6]), e', k3_nat (by omega), ← kv_setL hlj]
      by_cases hij : j = i
      · subst hij
        exact hend _ _ (A.ls[j].1, A.ls[j].2.1, -1) hM1 (List.getElem?_set_self hjl) rfl hV1
      · exact hend _ _ A.ls[i] hM1 ((List.getElem?_set_ne hij).trans hli) rfl hV1
end KCV
