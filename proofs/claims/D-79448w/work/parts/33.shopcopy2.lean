set_option maxRecDepth 100000
/-! ===== a workshop's copy: strings and the rest ===== -/
theorem ks_only {α : Type} {key : α → Nat} : ∀ {l : List α} {i : Nat} {a : α}, (l.map key).Nodup → l[i]? = some a → ∀ b ∈ l, b = a ∨ key b ≠ key a := by
  intro l
  induction l with
  | nil => intro i a _ h; cases h
  | cons x t ih =>
    intro i a hn hi b hb
    obtain ⟨hn1, hn2⟩ := List.nodup_cons.mp hn
    cases i with
    | zero =>
      cases hi
      rcases List.mem_cons.mp hb with e | e
      · exact Or.inl e
      · exact Or.inr (fun z => hn1 (by rw [← z]; exact List.mem_map_of_mem e))
    | succ i =>
      rcases List.mem_cons.mp hb with e | e
      · refine Or.inr (fun z => hn1 ?_)
        rw [← e, z]
        exact List.mem_map_of_mem (List.mem_of_getElem? (i := i) hi)
      · exact ih hn2 hi b e
/-- what is sold stands in the cells -/
def kc_dOk (H : ka_H) (d : kDp) : Prop := H d.1 = some (kc_D d) ∧ kb_L H d.2.1 d.bs ∧ ∀ b, d.2.2.2.1 = some b → kb_bead H b
theorem kc_bD_mem {so : List kDp} {b : kB} : b ∈ kc_bD so ↔ ∃ d ∈ so, d.2.2.2.1 = some b ∨ b ∈ d.bs := by
  simp only [kc_bD, List.mem_flatMap, List.mem_append, Option.mem_toList]
theorem kc_dOk_bead {H : ka_H} {so : List kDp} (h : ∀ d ∈ so, kc_dOk H d) {b : kB} (hb : b ∈ kc_bD so) : kb_bead H b := by
  obtain ⟨d, hd, e | e⟩ := kc_bD_mem.mp hb
  · exact (h d hd).2.2 b e
  · exact (h d hd).2.1.2 b e
section KSX
variable {H0 H : ka_H} {s : Nat} {ad : Nat → Nat} {A : kAp} {mc : Int32}
theorem kg_dok (h : kc_shop H s ad A) {d : kDp} (hd : d ∈ A.so ∨ d ∈ A.wa) : kc_dOk H d := ⟨kg_d h hd, (kg_ds h hd).2.1, (kg_ds h hd).2.2⟩
/-- the strings that are sold are others -/
theorem ku_so {so' : List kDp} (h : kc_mut H0 H s ad A) (hd : ∀ d ∈ so', kc_dOk H d) (hnd : ((kc_lists ad (A.cs, A.ls, A.bx, A.st, A.ps, so', A.2.2.2.2.2.2)).map (·.1)).Nodup) : kc_mut H0 (ka_up H (ad 5) (ka_ls mc (so'.map (·.1)))) s ad (A.cs, A.ls, A.bx, A.st, A.ps, so', A.2.2.2.2.2.2) := by
  obtain ⟨mc0, hx⟩ := kg_so h.2.1
  have hon := ks_only (key := (·.1)) (i := 5) (a := (ad 5, so'.map (·.1))) hnd rfl
  refine ku_listG h hx (h.2.2.1 _ (by simp [kc_mine])) rfl rfl (fun q hq => ?_) hnd (fun q hq => ?_) h.2.2.1 h.2.2.2.2.1 h.2.2.2.2.2.1 h.2.2.2.2.2.2
  · rcases hon q hq with e | e
    · exact Or.inl e
    · refine Or.inr ⟨e, ?_⟩
      rcases kc_lists_mem.mp hq with e1 | e1 | e1 | e1 | e1 | e1 | e1 | e1 | e1 | e1
      · exact h.2.1.2.2.2.1 q (kc_lists_mem.mpr (by simp [e1]))
      · exact h.2.1.2.2.2.1 q (kc_lists_mem.mpr (by simp [e1]))
      · exact h.2.1.2.2.2.1 q (kc_lists_mem.mpr (by simp [e1]))
      · exact h.2.1.2.2.2.1 q (kc_lists_mem.mpr (by simp [e1]))
      · exact h.2.1.2.2.2.1 q (kc_lists_mem.mpr (by simp [e1]))
      · exact absurd (by rw [e1]) e
      · exact h.2.1.2.2.2.1 q (kc_lists_mem.mpr (by simp [e1]))
      · exact h.2.1.2.2.2.1 q (kc_lists_mem.mpr (Or.inr (Or.inr (Or.inr (Or.inr (Or.inr (Or.inr (Or.inr (Or.inl e1)))))))))
      · obtain ⟨d, hd2, rfl⟩ := List.mem_map.mp e1
        exact (hd d hd2).2.1.1
      · exact h.2.1.2.2.2.1 q (kc_lists_mem.mpr (Or.inr (Or.inr (Or.inr (Or.inr (Or.inr (Or.inr (Or.inr (Or.inr (Or.inr e1))))))))))
  · rcases kc_mem.mp hq with e | e | e | e | ⟨d, hd2, e⟩ | e | ⟨b, hb, e⟩
    · exact h.2.1.2.2.2.2 q (kc_mem.mpr (Or.inl e))
    · exact h.2.1.2.2.2.2 q (kc_mem.mpr (Or.inr (Or.inl e)))
    · exact h.2.1.2.2.2.2 q (kc_mem.mpr (Or.inr (Or.inr (Or.inl e))))
    · exact h.2.1.2.2.2.2 q (kc_mem.mpr (Or.inr (Or.inr (Or.inr (Or.inl e)))))
    · rw [← e]
      exact (hd d hd2).1
    · exact h.2.1.2.2.2.2 q (kc_mem.mpr (Or.inr (Or.inr (Or.inr (Or.inr (Or.inr (Or.inl e)))))))
    · rw [← e]
      rcases kc_beads_mem.mp hb with e1 | e1 | e1 | e1
      · exact kg_b h.2.1 (kc_beads_mem.mpr (Or.inl e1))
      · exact kg_b h.2.1 (kc_beads_mem.mpr (Or.inr (Or.inl e1)))
      · exact kc_dOk_bead hd e1
      · exact kg_b h.2.1 (kc_beads_mem.mpr (Or.inr (Or.inr (Or.inr e1))))
/-- the strings that wait are others -/
theorem ku_wa {wa' : List kDp} (h : kc_mut H0 H s ad A) (hd : ∀ d ∈ wa', kc_dOk H d) (hnd : ((kc_lists ad (A.cs, A.ls, A.bx, A.st, A.ps, A.so, wa', A.2.2.2.2.2.2.2)).map (·.1)).Nodup) : kc_mut H0 (ka_up H (ad 6) (ka_ls mc (wa'.map (·.1)))) s ad (A.cs, A.ls, A.bx, A.st, A.ps, A.so, wa', A.2.2.2.2.2.2.2) := by
  obtain ⟨mc0, hx⟩ := kg_wa h.2.1
  have hon := ks_only (key := (·.1)) (i := 6) (a := (ad 6, wa'.map (·.1))) hnd rfl
  refine ku_listG h hx (h.2.2.1 _ (by simp [kc_mine])) rfl rfl (fun q hq => ?_) hnd (fun q hq => ?_) h.2.2.1 h.2.2.2.2.1 h.2.2.2.2.2.1 h.2.2.2.2.2.2
  · rcases hon q hq with e | e
    · exact Or.inl e
    · refine Or.inr ⟨e, ?_⟩
      rcases kc_lists_mem.mp hq with e1 | e1 | e1 | e1 | e1 | e1 | e1 | e1 | e1 | e1
      · exact h.2.1.2.2.2.1 q (kc_lists_mem.mpr (by simp [e1]))
      · exact h.2.1.2.2.2.1 q (kc_lists_mem.mpr (by simp [e1]))
      · exact h.2.1.2.2.2.1 q (kc_lists_mem.mpr (by simp [e1]))
      · exact h.2.1.2.2.2.1 q (kc_lists_mem.mpr (by simp [e1]))
      · exact h.2.1.2.2.2.1 q (kc_lists_mem.mpr (by simp [e1]))
      · exact h.2.1.2.2.2.1 q (kc_lists_mem.mpr (by simp [e1]))
      · exact absurd (by rw [e1]) e
      · exact h.2.1.2.2.2.1 q (kc_lists_mem.mpr (Or.inr (Or.inr (Or.inr (Or.inr (Or.inr (Or.inr (Or.inr (Or.inl e1)))))))))
      · exact h.2.1.2.2.2.1 q (kc_lists_mem.mpr (Or.inr (Or.inr (Or.inr (Or.inr (Or.inr (Or.inr (Or.inr (Or.inr (Or.inl e1))))))))))
      · obtain ⟨d, hd2, rfl⟩ := List.mem_map.mp e1
        exact (hd d hd2).2.1.1
  · rcases kc_mem.mp hq with e | e | e | e | e | ⟨d, hd2, e⟩ | ⟨b, hb, e⟩
    · exact h.2.1.2.2.2.2 q (kc_mem.mpr (Or.inl e))
    · exact h.2.1.2.2.2.2 q (kc_mem.mpr (Or.inr (Or.inl e)))
    · exact h.2.1.2.2.2.2 q (kc_mem.mpr (Or.inr (Or.inr (Or.inl e))))
    · exact h.2.1.2.2.2.2 q (kc_mem.mpr (Or.inr (Or.inr (Or.inr (Or.inl e)))))
    · exact h.2.1.2.2.2.2 q (kc_mem.mpr (Or.inr (Or.inr (Or.inr (Or.inr (Or.inl e))))))
    · rw [← e]
      exact (hd d hd2).1
    · rw [← e]
      rcases kc_beads_mem.mp hb with e1 | e1 | e1 | e1
      · exact kg_b h.2.1 (kc_beads_mem.mpr (Or.inl e1))
      · exact kg_b h.2.1 (kc_beads_mem.mpr (Or.inr (Or.inl e1)))
      · exact kg_b h.2.1 (kc_beads_mem.mpr (Or.inr (Or.inr (Or.inl e1))))
      · exact kc_dOk_bead hd e1
end KSX
section KCQ
variable {Z : ka_Z} {w : Nat} {H0 H K : ka_H} {s o it : Nat} {ad ad2 : Nat → Nat} {A2 : kAp} {Q : Unit → Nat → ka_H → Prop}
/-- the end: pilgrims, sold, waiting, away, numbers -/
theorem kcp_end {C : List kC} {Ls : List kLn} {bx : List kB} {st : List kS} (hsrc : kc_shop H0 o ad2 A2) (hnd : ((kc_lists ad2 A2).map (·.1)).Nodup) (hp : A2.ps.length ≤ 240) (hso : A2.so.length ≤ 240) (hwa : A2.wa.length ≤ 240) (hM : kc_mut H0 K s ad (C, Ls, bx, st, [], [], [], (fun _ => false), fun _ => 0)) (hw : 2120 ≤ w) (hend : ∀ (K : ka_H) (v : Nat), kc_mut H0 K s ad (C, Ls, bx, st, A2.ps, A2.so, A2.wa, A2.aw, A2.sc) → w ≤ v + 2120 → ka_T Z (km_pure ()) v K Q) : ka_T Z (km_bind (km_gR [(1, 4)] (some s)) fun r2 =>
km_bind (km_gR [(1, 4)] (some o)) fun r3 =>
km_bind (km_is 30 r2) fun _ => km_bind (pm_J2_addAll r2 r3) fun i4 =>
km_bind (km_gR [(1, 5)] (some s)) fun r5 =>
km_bind (km_gR [(1, 5)] (some o)) fun r6 =>
km_bind (km_is 30 r5) fun _ => km_bind (pm_J2_addAll r5 r6) fun i7 =>
km_bind (km_gR [(1, 6)] (some s)) fun r8 =>
km_bind (km_gR [(1, 6)] (some o)) fun r9 =>
km_bind (km_is 30 r8) fun _ => km_bind (pm_J2_addAll r8 r9) fun i10 =>
km_bind (km_gR [(1, 7)] (some s)) fun r11 =>
km_bind (km_gR [(1, 7)] (some o)) fun r12 =>
km_bind (km_is 31 r11) fun _ => km_bind (pm_J3_or r11 r12) fun _ =>
km_bind (km_gI [(1, 8)] (some o)) fun i13 =>
km_bind (km_pI .int [(1, 8)] (some s) i13) fun _ =>
km_bind (km_gI [(1, 9)] (some o)) fun i15 =>
km_bind (km_pI .int [(1, 9)] (some s) i15) fun _ =>
km_bind (km_gI [(1, 10)] (some o)) fun i17 =>
km_bind (km_pI .int [(1, 10)] (some s) i17) fun _ =>
km_bind (km_gI [(1, 11)] (some o)) fun i19 =>
km_bind (km_pI .int [(1, 11)] (some s) i19) fun _ =>
km_bind (km_gI [(1, 12)] (some o)) fun i21 =>
km_bind (km_pI .int [(1, 12)] (some s) i21) fun _ =>
km_bind (km_gI [(1, 13)] (some o)) fun i23 =>
km_bind (km_pI .int [(1, 13)] (some s) i23) fun _ =>
km_bind (km_gI [(1, 14)] (some o)) fun i25 =>
km_bind (km_pI .int [(1, 14)] (some s) i25) fun _ =>
km_bind (km_gI [(1, 15)] (some o)) fun i27 =>
km_bind (km_pI .int [(1, 15)] (some s) i27) fun _ =>
km_bind (km_gI [(1, 16)] (some o)) fun i29 =>
km_bind (km_pI .int [(1, 16)] (some s) i29) fun _ =>
km_pure ()) w K Q := by
  have hso0 := kg_s hsrc
  obtain ⟨m4, h4⟩ := kg_ps hsrc
  obtain ⟨m5, h5⟩ := kg_so hsrc
  obtain ⟨m6, h6⟩ := kg_wa hsrc
  have h7 := hsrc.2.2.1
  have hmine : ∀ i ∈ [0, 1, 2, 3, 4, 5, 6, 7, 8], H0 (ad i) = none := fun i hi => hM.2.2.1 (ad i) (by
    simp only [List.mem_cons, List.not_mem_nil, or_false] at hi
    rcases hi with e | e | e | e | e | e | e | e | e <;> subst e <;> simp [kc_mine])
  refine ka_gR (kg_s hM.2.1) rfl rfl (ka_gR (hM.1 _ _ hso0) rfl rfl ?_)
  obtain ⟨n4, k4⟩ := kg_ps hM.2.1
  refine ka_is k4 rfl (ka_call (kl_addAll k4 (hM.1 _ _ h4) (by rw [List.length_map, List.length_map]; show 0 + A2.ps.length ≤ 240; omega) (by omega)) (fun _ v1 K1 hq => ?_))
  obtain ⟨hv1, rfl⟩ := hq
  have hM1 := ku_pil (mc := n4 + 1) (ps := A2.ps) hM (fun p hp2 => hM.1 _ _ (kg_p hsrc hp2))
  simp only [List.map_nil, List.nil_append] at *
  refine ka_gR (kg_s hM1.2.1) rfl rfl (ka_gR (hM1.1 _ _ hso0) rfl rfl ?_)
  obtain ⟨n5, k5⟩ := kg_so hM1.2.1
  refine ka_is k5 rfl (ka_call (kl_addAll k5 (hM1.1 _ _ h5) (by rw [List.length_map, List.length_map]; show 0 + A2.so.length ≤ 240; omega) (by omega)) (fun _ v2 K2 hq => ?_))
  obtain ⟨hv2, rfl⟩ := hq
  have hin : ∀ d, d ∈ A2.so ∨ d ∈ A2.wa → ∃ mc, H0 d.2.1 = some (ka_ls mc (d.bs.map (·.1))) := fun d hd => (kg_ds hsrc hd).2.1.1
  have hnd0 := hM.2.2.2.1
  have hapart : ∀ x ∈ (kc_top ad (C, Ls, bx, st, A2.ps, [], [], (fun _ => false), fun _ => 0)).map (·.1) ++ (kc_inS st).map (·.1), H0 x = none := fun x hx => by
    rcases List.mem_append.mp hx with e | e
    · simp only [kc_top, List.map_cons, List.map_nil, List.mem_cons, List.not_mem_nil, or_false] at e
      rcases e with e | e | e | e | e | e | e <;> subst e <;> exact hmine _ (by simp)
    · refine hM.2.2.1 x (kc_mine_mem.mpr (Or.inr (Or.inr (Or.inr (Or.inr (Or.inr ?_))))))
      obtain ⟨q, hq, e1⟩ := List.mem_map.mp e
      obtain ⟨r, hr, e2⟩ := List.mem_map.mp hq
      exact ⟨r, hr, by rw [← e1, ← e2]⟩
  have hsrcnd : ((kc_inD A2.so).map (·.1) ++ (kc_inD A2.wa).map (·.1)).Nodup := by
    have e : (kc_lists ad2 A2).map (·.1) = ((kc_top ad2 A2).map (·.1) ++ (kc_inS A2.st).map (·.1)) ++ ((kc_inD A2.so).map (·.1) ++ (kc_inD A2.wa).map (·.1)) := by
      unfold kc_lists
      simp only [List.map_append, List.append_assoc]
    rw [e] at hnd
    exact (List.nodup_append.mp hnd).2.1
  have hbase : ((kc_top ad (C, Ls, bx, st, A2.ps, [], [], (fun _ => false), fun _ => 0)).map (·.1) ++ (kc_inS st).map (·.1)).Nodup := by
    have e : (kc_lists ad (C, Ls, bx, st, [], [], [], (fun _ => false), fun _ => 0)).map (·.1) = (kc_top ad (C, Ls, bx, st, A2.ps, [], [], (fun _ => false), fun _ => 0)).map (·.1) ++ (kc_inS st).map (·.1) := by
      unfold kc_lists
      simp only [List.map_append]
      show (kc_top ad (C, Ls, bx, st, A2.ps, [], [], (fun _ => false), fun _ => 0)).map (·.1) ++ ((kc_inS st).map (·.1) ++ (([] : List Nat) ++ ([] : List Nat))) = _
      rw [List.append_nil, List.append_nil]
    rw [← e]
    exact hnd0
  have hcross : ∀ x ∈ (kc_top ad (C, Ls, bx, st, A2.ps, [], [], (fun _ => false), fun _ => 0)).map (·.1) ++ (kc_inS st).map (·.1), ∀ y ∈ (kc_inD A2.so).map (·.1) ++ (kc_inD A2.wa).map (·.1), x ≠ y := fun x hx y hy e => by
    have hx0 := hapart x hx
    have hy0 : ∃ d, (d ∈ A2.so ∨ d ∈ A2.wa) ∧ d.2.1 = y := by
      rcases List.mem_append.mp hy with e1 | e1
      · obtain ⟨q, hq, e2⟩ := List.mem_map.mp e1
        obtain ⟨d, hd, e3⟩ := List.mem_map.mp hq
        exact ⟨d, Or.inl hd, by rw [← e2, ← e3]⟩
      · obtain ⟨q, hq, e2⟩ := List.mem_map.mp e1
        obtain ⟨d, hd, e3⟩ := List.mem_map.mp hq
        exact ⟨d, Or.inr hd, by rw [← e2, ← e3]⟩
    obtain ⟨d, hd, e2⟩ := hy0
    obtain ⟨mc, e3⟩ := hin d hd
    rw [e2, ← e, hx0] at e3
    cases e3
  have hM2 := ku_so (mc := n5 + 1) (so' := A2.so) hM1 (fun d hd => by
    have q := kg_dok hsrc (Or.inl hd)
    exact ⟨hM1.1 _ _ q.1, ⟨q.2.1.1.elim (fun mc e => ⟨mc, hM1.1 _ _ e⟩), fun b hb => hM1.1 _ _ (q.2.1.2 b hb)⟩, fun b hb => hM1.1 _ _ (q.2.2 b hb)⟩) (by
    have e : (kc_lists ad (C, Ls, bx, st, A2.ps, A2.so, [], (fun _ => false), fun _ => 0)).map (·.1) = ((kc_top ad (C, Ls, bx, st, A2.ps, [], [], (fun _ => false), fun _ => 0)).map (·.1) ++ (kc_inS st).map (·.1)) ++ (kc_inD A2.so).map (·.1) := by
      unfold kc_lists
      simp only [List.map_append, List.append_assoc]
      show (kc_top ad (C, Ls, bx, st, A2.ps, [], [], (fun _ => false), fun _ => 0)).map (·.1) ++ ((kc_inS st).map (·.1) ++ ((kc_inD A2.so).map (·.1) ++ ([] : List Nat))) = _
      rw [List.append_nil]
    show ((kc_lists ad (C, Ls, bx, st, A2.ps, A2.so, [], (fun _ => false), fun _ => 0)).map (·.1)).Nodup
    rw [e, List.nodup_append]
    exact ⟨hbase, (List.nodup_append.mp hsrcnd).1, fun x hx y hy => hcross x hx y (List.mem_append_left _ hy)⟩)
  refine ka_gR (kg_s hM2.2.1) rfl rfl (ka_gR (hM2.1 _ _ hso0) rfl rfl ?_)
  obtain ⟨n6, k6⟩ := kg_wa hM2.2.1
  refine ka_is k6 rfl (ka_call (kl_addAll k6 (hM2.1 _ _ h6) (by rw [List.length_map, List.length_map]; show 0 + A2.wa.length ≤ 240; omega) (by omega)) (fun _ v3 K3 hq => ?_))
  obtain ⟨hv3, rfl⟩ := hq
  have hM3 := ku_wa (mc := n6 + 1) (wa' := A2.wa) hM2 (fun d hd => by
    have q := kg_dok hsrc (Or.inr hd)
    exact ⟨hM2.1 _ _ q.1, ⟨q.2.1.1.elim (fun mc e => ⟨mc, hM2.1 _ _ e⟩), fun b hb => hM2.1 _ _ (q.2.1.2 b hb)⟩, fun b hb => hM2.1 _ _ (q.2.2 b hb)⟩) (by
    have e : (kc_lists ad (C, Ls, bx, st, A2.ps, A2.so, A2.wa, (fun _ => false), fun _ => 0)).map (·.1) = ((kc_top ad (C, Ls, bx, st, A2.ps, [], [], (fun _ => false), fun _ => 0)).map (·.1) ++ (kc_inS st).map (·.1)) ++ ((kc_inD A2.so).map (·.1) ++ (kc_inD A2.wa).map (·.1)) := by
      unfold kc_lists
      simp only [List.map_append, List.append_assoc]
      rfl
    show ((kc_lists ad (C, Ls, bx, st, A2.ps, A2.so, A2.wa, (fun _ => false), fun _ => 0)).map (·.1)).Nodup
    rw [e, List.nodup_append]
    exact ⟨hbase, hsrcnd, fun x hx y hy => hcross x hx y hy⟩)
  refine ka_gR (kg_s hM3.2.1) rfl rfl (ka_gR (hM3.1 _ _ hso0) rfl rfl ?_)
  refine ka_is hM3.2.1.2.2.1 rfl ?_
  have h77 : ad 7 ≠ ad2 7 := fun e => by have := hmine 7 (by simp); rw [e, h7] at this; cases this
  refine ka_call (kn_or hM3.2.1.2.2.1 (hM3.1 _ _ h7) h77 (by omega)) (fun _ v4 K4 hq => ?_)
  obtain ⟨hv4, rfl⟩ := hq
  have hM4 := ku_away (f := A2.aw) hM3
  have hff : (fun i => kAp.aw (C, Ls, bx, st, A2.ps, A2.so, A2.wa, (fun _ => false), fun _ => 0) i || A2.aw i) = A2.aw := by funext i; simp
  have hs4 := kg_s hM4.2.1
  have ho4 := hM4.1 _ _ hso0
  have hos : o ≠ s := fun e => by have := hM.2.2.1 s List.mem_cons_self; rw [← e, hso0] at this; cases this
  have hso' := hos.symm
  refine ka_pre (G := ka_up (ka_up (ka_up (ka_up K (ad 4) (ka_ls (n4 + 1) (A2.ps.map (·.1)))) (ad 5) (ka_ls (n5 + 1) (A2.so.map (·.1)))) (ad 6) (ka_ls (n6 + 1) (A2.wa.map (·.1)))) (ad 7) (ka_bs A2.aw)) (fun a q hq => by rw [← hff] at hq; exact hq) (Nat.le_refl _) ?_
  generalize ka_up (ka_up (ka_up (ka_up K (ad 4) (ka_ls (n4 + 1) (A2.ps.map (·.1)))) (ad 5) (ka_ls (n5 + 1) (A2.so.map (·.1)))) (ad 6) (ka_ls (n6 + 1) (A2.wa.map (·.1)))) (ad 7) (ka_bs A2.aw) = K4 at *
  refine ka_gI (by first | exact ka_same | assumption | exact ka_ne1 (by first | assumption | exact Ne.symm (by assumption)) (by first | exact ka_same | assumption | exact ka_ne1 (by first | assumption | exact Ne.symm (by assumption)) (by first | exact ka_same | assumption | exact ka_ne1 (by first | assumption | exact Ne.symm (by assumption)) (by first | exact ka_same | assumption | exact ka_ne1 (by first | assumption | exact Ne.symm (by assumption)) (by first | exact ka_same | assumption | exact ka_ne1 (by first | assumption | exact Ne.symm (by assumption)) (by first | exact ka_same | assumption | exact ka_ne1 (by first | assumption | exact Ne.symm (by assumption)) (by first | exact ka_same | assumption))))))) rfl rfl ?_
  refine ka_pI (by first | exact ka_same | assumption | exact ka_ne1 (by first | assumption | exact Ne.symm (by assumption)) (by first | exact ka_same | assumption | exact ka_ne1 (by first | assumption | exact Ne.symm (by assumption)) (by first | exact ka_same | assumption | exact ka_ne1 (by first | assumption | exact Ne.symm (by assumption)) (by first | exact ka_same | assumption | exact ka_ne1 (by first | assumption | exact Ne.symm (by assumption)) (by first | exact ka_same | assumption | exact ka_ne1 (by first | assumption | exact Ne.symm (by assumption)) (by first | exact ka_same | assumption | exact ka_ne1 (by first | assumption | exact Ne.symm (by assumption)) (by first | exact ka_same | assumption))))))) rfl rfl (Nat.le_of_ble_eq_true rfl) ?_
  rw [show ∀ x, ([Value.ref (ad 0), .ref (ad 1), .ref (ad 2), .ref (ad 3), .ref (ad 4), .ref (ad 5), .ref (ad 6), .ref (ad 7), .int 0, .int 0, .int 0, .int 0, .int 0, .int 0, .int 0, .int 0, .int 0] : List Value).set 8 x = [.ref (ad 0), .ref (ad 1), .ref (ad 2), .ref (ad 3), .ref (ad 4), .ref (ad 5), .ref (ad 6), .ref (ad 7), x, .int 0, .int 0, .int 0, .int 0, .int 0, .int 0, .int 0, .int 0] from fun _ => rfl]
  refine ka_gI (by first | exact ka_same | assumption | exact ka_ne1 (by first | assumption | exact Ne.symm (by assumption)) (by first | exact ka_same | assumption | exact ka_ne1 (by first | assumption | exact Ne.symm (by assumption)) (by first | exact ka_same | assumption | exact ka_ne1 (by first | assumption | exact Ne.symm (by assumption)) (by first | exact ka_same | assumption | exact ka_ne1 (by first | assumption | exact Ne.symm (by assumption)) (by first | exact ka_same | assumption | exact ka_ne1 (by first | assumption | exact Ne.symm (by assumption)) (by first | exact ka_same | assumption | exact ka_ne1 (by first | assumption | exact Ne.symm (by assumption)) (by first | exact ka_same | assumption))))))) rfl rfl ?_
  refine ka_pI (by first | exact ka_same | assumption | exact ka_ne1 (by first | assumption | exact Ne.symm (by assumption)) (by first | exact ka_same | assumption | exact ka_ne1 (by first | assumption | exact Ne.symm (by assumption)) (by first | exact ka_same | assumption | exact ka_ne1 (by first | assumption | exact Ne.symm (by assumption)) (by first | exact ka_same | assumption | exact ka_ne1 (by first | assumption | exact Ne.symm (by assumption)) (by first | exact ka_same | assumption | exact ka_ne1 (by first | assumption | exact Ne.symm (by assumption)) (by first | exact ka_same | assumption | exact ka_ne1 (by first | assumption | exact Ne.symm (by assumption)) (by first | exact ka_same | assumption))))))) rfl rfl (Nat.le_of_ble_eq_true rfl) ?_
  rw [ka_up_up]
  refine ka_gI (by first | exact ka_same | assumption | exact ka_ne1 (by first | assumption | exact Ne.symm (by assumption)) (by first | exact ka_same | assumption | exact ka_ne1 (by first | assumption | exact Ne.symm (by assumption)) (by first | exact ka_same | assumption | exact ka_ne1 (by first | assumption | exact Ne.symm (by assumption)) (by first | exact ka_same | assumption | exact ka_ne1 (by first | assumption | exact Ne.symm (by assumption)) (by first | exact ka_same | assumption | exact ka_ne1 (by first | assumption | exact Ne.symm (by assumption)) (by first | exact ka_same | assumption | exact ka_ne1 (by first | assumption | exact Ne.symm (by assumption)) (by first | exact ka_same | assumption))))))) rfl rfl ?_
  refine ka_pI (by first | exact ka_same | assumption | exact ka_ne1 (by first | assumption | exact Ne.symm (by assumption)) (by first | exact ka_same | assumption | exact ka_ne1 (by first | assumption | exact Ne.symm (by assumption)) (by first | exact ka_same | assumption | exact ka_ne1 (by first | assumption | exact Ne.symm (by assumption)) (by first | exact ka_same | assumption | exact ka_ne1 (by first | assumption | exact Ne.symm (by assumption)) (by first | exact ka_same | assumption | exact ka_ne1 (by first | assumption | exact Ne.symm (by assumption)) (by first | exact ka_same | assumption | exact ka_ne1 (by first | assumption | exact Ne.symm (by assumption)) (by first | exact ka_same | assumption))))))) rfl rfl (Nat.le_of_ble_eq_true rfl) ?_
  rw [ka_up_up]
  refine ka_gI (by first | exact ka_same | assumption | exact ka_ne1 (by first | assumption | exact Ne.symm (by assumption)) (by first | exact ka_same | assumption | exact ka_ne1 (by first | assumption | exact Ne.symm (by assumption)) (by first | exact ka_same | assumption | exact ka_ne1 (by first | assumption | exact Ne.symm (by assumption)) (by first | exact ka_same | assumption | exact ka_ne1 (by first | assumption | exact Ne.symm (by assumption)) (by first | exact ka_same | assumption | exact ka_ne1 (by first | assumption | exact Ne.symm (by assumption)) (by first | exact ka_same | assumption | exact ka_ne1 (by first | assumption | exact Ne.symm (by assumption)) (by first | exact ka_same | assumption))))))) rfl rfl ?_
  refine ka_pI (by first | exact ka_same | assumption | exact ka_ne1 (by first | assumption | exact Ne.symm (by assumption)) (by first | exact ka_same | assumption | exact ka_ne1 (by first | assumption | exact Ne.symm (by assumption)) (by first | exact ka_same | assumption | exact ka_ne1 (by first | assumption | exact Ne.symm (by assumption)) (by first | exact ka_same | assumption | exact ka_ne1 (by first | assumption | exact Ne.symm (by assumption)) (by first | exact ka_same | assumption | exact ka_ne1 (by first | assumption | exact Ne.symm (by assumption)) (by first | exact ka_same | assumption | exact ka_ne1 (by first | assumption | exact Ne.symm (by assumption)) (by first | exact ka_same | assumption))))))) rfl rfl (Nat.le_of_ble_eq_true rfl) ?_
  rw [ka_up_up]
  refine ka_gI (by first | exact ka_same | assumption | exact ka_ne1 (by first | assumption | exact Ne.symm (by assumption)) (by first | exact ka_same | assumption | exact ka_ne1 (by first | assumption | exact Ne.symm (by assumption)) (by first | exact ka_same | assumption | exact ka_ne1 (by first | assumption | exact Ne.symm (by assumption)) (by first | exact ka_same | assumption | exact ka_ne1 (by first | assumption | exact Ne.symm (by assumption)) (by first | exact ka_same | assumption | exact ka_ne1 (by first | assumption | exact Ne.symm (by assumption)) (by first | exact ka_same | assumption | exact ka_ne1 (by first | assumption | exact Ne.symm (by assumption)) (by first | exact ka_same | assumption))))))) rfl rfl ?_
  refine ka_pI (by first | exact ka_same | assumption | exact ka_ne1 (by first | assumption | exact Ne.symm (by assumption)) (by first | exact ka_same | assumption | exact ka_ne1 (by first | assumption | exact Ne.symm (by assumption)) (by first | exact ka_same | assumption | exact ka_ne1 (by first | assumption | exact Ne.symm (by assumption)) (by first | exact ka_same | assumption | exact ka_ne1 (by first | assumption | exact Ne.symm (by assumption)) (by first | exact ka_same | assumption | exact ka_ne1 (by first | assumption | exact Ne.symm (by assumption)) (by first | exact ka_same | assumption | exact ka_ne1 (by first | assumption | exact Ne.symm (by assumption)) (by first | exact ka_same | assumption))))))) rfl rfl (Nat.le_of_ble_eq_true rfl) ?_
  rw [ka_up_up]
  refine ka_gI (by first | exact ka_same | assumption | exact ka_ne1 (by first | assumption | exact Ne.symm (by assumption)) (by first | exact ka_same | assumption | exact ka_ne1 (by first | assumption | exact Ne.symm (by assumption)) (by first | exact ka_same | assumption | exact ka_ne1 (by first | assumption | exact Ne.symm (by assumption)) (by first | exact ka_same | assumption | exact ka_ne1 (by first | assumption | exact Ne.symm (by assumption)) (by first | exact ka_same | assumption | exact ka_ne1 (by first | assumption | exact Ne.symm (by assumption)) (by first | exact ka_same | assumption | exact ka_ne1 (by first | assumption | exact Ne.symm (by assumption)) (by first | exact ka_same | assumption))))))) rfl rfl ?_
  refine ka_pI (by first | exact ka_same | assumption | exact ka_ne1 (by first | assumption | exact Ne.symm (by assumption)) (by first | exact ka_same | assumption | exact ka_ne1 (by first | assumption | exact Ne.symm (by assumption)) (by first | exact ka_same | assumption | exact ka_ne1 (by first | assumption | exact Ne.symm (by assumption)) (by first | exact ka_same | assumption | exact ka_ne1 (by first | assumption | exact Ne.symm (by assumption)) (by first | exact ka_same | assumption | exact ka_ne1 (by first | assumption | exact Ne.symm (by assumption)) (by first | exact ka_same | assumption | exact ka_ne1 (by first | assumption | exact Ne.symm (by assumption)) (by first | exact ka_same | assumption))))))) rfl rfl (Nat.le_of_ble_eq_true rfl) ?_
  rw [ka_up_up]
  refine ka_gI (by first | exact ka_same | assumption | exact ka_ne1 (by first | assumption | exact Ne.symm (by assumption)) (by first | exact ka_same | assumption | exact ka_ne1 (by first | assumption | exact Ne.symm (by assumption)) (by first | exact ka_same | assumption | exact ka_ne1 (by first | assumption | exact Ne.symm (by assumption)) (by first | exact ka_same | assumption | exact ka_ne1 (by first | assumption | exact Ne.symm (by assumption)) (by first | exact ka_same | assumption | exact ka_ne1 (by first | assumption | exact Ne.symm (by assumption)) (by first | exact ka_same | assumption | exact ka_ne1 (by first | assumption | exact Ne.symm (by assumption)) (by first | exact ka_same | assumption))))))) rfl rfl ?_
  refine ka_pI (by first | exact ka_same | assumption | exact ka_ne1 (by first | assumption | exact Ne.symm (by assumption)) (by first | exact ka_same | assumption | exact ka_ne1 (by first | assumption | exact Ne.symm (by assumption)) (by first | exact ka_same | assumption | exact ka_ne1 (by first | assumption | exact Ne.symm (by assumption)) (by first | exact ka_same | assumption | exact ka_ne1 (by first | assumption | exact Ne.symm (by assumption)) (by first | exact ka_same | assumption | exact ka_ne1 (by first | assumption | exact Ne.symm (by assumption)) (by first | exact ka_same | assumption | exact ka_ne1 (by first | assumption | exact Ne.symm (by assumption)) (by first | exact ka_same | assumption))))))) rfl rfl (Nat.le_of_ble_eq_true rfl) ?_
  rw [ka_up_up]
  refine ka_gI (by first | exact ka_same | assumption | exact ka_ne1 (by first | assumption | exact Ne.symm (by assumption)) (by first | exact ka_same | assumption | exact ka_ne1 (by first | assumption | exact Ne.symm (by assumption)) (by first | exact ka_same | assumption | exact ka_ne1 (by first | assumption | exact Ne.symm (by assumption)) (by first | exact ka_same | assumption | exact ka_ne1 (by first | assumption | exact Ne.symm (by assumption)) (by first | exact ka_same | assumption | exact ka_ne1 (by first | assumption | exact Ne.symm (by assumption)) (by first | exact ka_same | assumption | exact ka_ne1 (by first | assumption | exact Ne.symm (by assumption)) (by first | exact ka_same | assumption))))))) rfl rfl ?_
  refine ka_pI (by first | exact ka_same | assumption | exact ka_ne1 (by first | assumption | exact Ne.symm (by assumption)) (by first | exact ka_same | assumption | exact ka_ne1 (by first | assumption | exact Ne.symm (by assumption)) (by first | exact ka_same | assumption | exact ka_ne1 (by first | assumption | exact Ne.symm (by assumption)) (by first | exact ka_same | assumption | exact ka_ne1 (by first | assumption | exact Ne.symm (by assumption)) (by first | exact ka_same | assumption | exact ka_ne1 (by first | assumption | exact Ne.symm (by assumption)) (by first | exact ka_same | assumption | exact ka_ne1 (by first | assumption | exact Ne.symm (by assumption)) (by first | exact ka_same | assumption))))))) rfl rfl (Nat.le_of_ble_eq_true rfl) ?_
  rw [ka_up_up]
  refine ka_gI (by first | exact ka_same | assumption | exact ka_ne1 (by first | assumption | exact Ne.symm (by assumption)) (by first | exact ka_same | assumption | exact ka_ne1 (by first | assumption | exact Ne.symm (by assumption)) (by first | exact ka_same | assumption | exact ka_ne1 (by first | assumption | exact Ne.symm (by assumption)) (by first | exact ka_same | assumption | exact ka_ne1 (by first | assumption | exact Ne.symm (by assumption)) (by first | exact ka_same | assumption | exact ka_ne1 (by first | assumption | exact Ne.symm (by assumption)) (by first | exact ka_same | assumption | exact ka_ne1 (by first | assumption | exact Ne.symm (by assumption)) (by first | exact ka_same | assumption))))))) rfl rfl ?_
  refine ka_pI (by first | exact ka_same | assumption | exact ka_ne1 (by first | assumption | exact Ne.symm (by assumption)) (by first | exact ka_same | assumption | exact ka_ne1 (by first | assumption | exact Ne.symm (by assumption)) (by first | exact ka_same | assumption | exact ka_ne1 (by first | assumption | exact Ne.symm (by assumption)) (by first | exact ka_same | assumption | exact ka_ne1 (by first | assumption | exact Ne.symm (by assumption)) (by first | exact ka_same | assumption | exact ka_ne1 (by first | assumption | exact Ne.symm (by assumption)) (by first | exact ka_same | assumption | exact ka_ne1 (by first | assumption | exact Ne.symm (by assumption)) (by first | exact ka_same | assumption))))))) rfl rfl (Nat.le_of_ble_eq_true rfl) ?_
  rw [ka_up_up]
  exact hend _ v4 (ku_num (sc' := A2.sc) hM4) (by omega)
end KCQ
