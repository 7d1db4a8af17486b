set_option maxRecDepth 100000
/-! ===== something more in a workshop ===== -/
theorem kc_mem {A : kAp} {q : Nat × ka_O} : q ∈ kc_objs A ↔ (∃ c ∈ A.cs, (c.1, kc_C c) = q) ∨ (∃ c ∈ A.ls, (c.1, kc_L c) = q) ∨ (∃ c ∈ A.st, (c.1, kc_S c) = q) ∨ (∃ c ∈ A.ps, (c.1, kc_P c) = q) ∨ (∃ c ∈ A.so, (c.1, kc_D c) = q) ∨ (∃ c ∈ A.wa, (c.1, kc_D c) = q) ∨ (∃ b ∈ kc_beads A, (b.1, kc_B b) = q) := by
  simp only [kc_objs, List.mem_append, List.mem_map]
theorem kc_mine_mem {s : Nat} {ad : Nat → Nat} {A : kAp} {a : Nat} : a ∈ kc_mine s ad A ↔ a = s ∨ a ∈ [ad 0, ad 1, ad 2, ad 3, ad 4, ad 5, ad 6, ad 7, ad 8] ∨ (∃ c ∈ A.cs, c.1 = a) ∨ (∃ c ∈ A.ls, c.1 = a) ∨ (∃ c ∈ A.st, c.1 = a) ∨ (∃ c ∈ A.st, c.2.1 = a) := by
  unfold kc_mine
  rw [List.mem_cons, List.mem_append, List.mem_append, List.mem_append, List.mem_append, List.mem_map, List.mem_map, List.mem_map, List.mem_map]
section KSA
variable {H0 H : ka_H} {s : Nat} {ad : Nat → Nat} {A A' : kAp} {mc : Int32}
/-- no new cell of its own -/
theorem ku_notin {x : Nat} (h : kc_shop H s ad A) (hx : H x = none) : (∀ c ∈ A.cs, c.1 ≠ x) ∧ (∀ c ∈ A.ls, c.1 ≠ x) ∧ (∀ c ∈ A.st, c.1 ≠ x) ∧ (∀ q ∈ kc_lists ad A, q.1 ≠ x) := ⟨fun c hc => ka_dom (kg_c h hc) hx, fun c hc => ka_dom (kg_l h hc) hx, fun c hc => ka_dom (kg_r h hc) hx, fun q hq => by
  obtain ⟨mc, e⟩ := h.2.2.2.1 q hq
  exact ka_dom e hx⟩
theorem ku_snoc {α : Type} {key : α → Nat} {l : List α} {a : α} (h : (l.map key).Nodup) (k : ∀ b ∈ l, key b ≠ key a) : ((l ++ [a]).map key).Nodup := by
  rw [List.map_append, List.nodup_append]
  refine ⟨h, by simp, fun x hx y hy => ?_⟩
  obtain ⟨b, hb, rfl⟩ := List.mem_map.mp hx
  simp only [List.map_cons, List.map_nil, List.mem_cons, List.not_mem_nil, or_false] at hy
  rw [hy]
  exact k b hb
theorem ku_addC {c : kC} (h : kc_mut H0 H s ad A) (hc : H c.1 = some (kc_C c)) (hc0 : H0 c.1 = none) (hn : ∀ b ∈ A.cs, b.1 ≠ c.1) : kc_mut H0 (ka_up H (ad 0) (ka_ls mc (A.cs.map (·.1) ++ [c.1]))) s ad (A.cs ++ [c], A.2) := by
  have e : A.cs.map (·.1) ++ [c.1] = (A.cs ++ [c]).map (·.1) := by simp
  rw [e]
  refine ku_list (k := 0) h rfl rfl (h.2.2.1 _ (by simp [kc_mine])) rfl rfl (fun q hq => ?_) (fun a ha => ?_) (ku_snoc h.2.2.2.2.1 hn) h.2.2.2.2.2.1 h.2.2.2.2.2.2
  · rcases kc_mem.mp hq with ⟨b, hb, e⟩ | e
    · rcases List.mem_append.mp hb with e1 | e1
      · exact h.2.1.2.2.2.2 q (kc_mem.mpr (Or.inl ⟨b, e1, e⟩))
      · rw [List.mem_singleton.mp e1] at e
        rw [← e]
        exact hc
    · exact h.2.1.2.2.2.2 q (kc_mem.mpr (Or.inr e))
  · rcases kc_mine_mem.mp ha with e1 | e1 | ⟨b, hb, e1⟩ | e1
    · exact h.2.2.1 a (kc_mine_mem.mpr (Or.inl e1))
    · exact h.2.2.1 a (kc_mine_mem.mpr (Or.inr (Or.inl e1)))
    · rcases List.mem_append.mp hb with e2 | e2
      · exact h.2.2.1 a (kc_mine_mem.mpr (Or.inr (Or.inr (Or.inl ⟨b, e2, e1⟩))))
      · rw [← e1, List.mem_singleton.mp e2]
        exact hc0
    · exact h.2.2.1 a (kc_mine_mem.mpr (Or.inr (Or.inr (Or.inr e1))))
theorem ku_addL {c : kLn} (h : kc_mut H0 H s ad A) (hc : H c.1 = some (kc_L c)) (hc0 : H0 c.1 = none) (hn : ∀ b ∈ A.ls, b.1 ≠ c.1) : kc_mut H0 (ka_up H (ad 1) (ka_ls mc (A.ls.map (·.1) ++ [c.1]))) s ad (A.cs, A.ls ++ [c], A.2.2) := by
  have e : A.ls.map (·.1) ++ [c.1] = (A.ls ++ [c]).map (·.1) := by simp
  rw [e]
  refine ku_list (k := 1) h rfl rfl (h.2.2.1 _ (by simp [kc_mine])) rfl rfl (fun q hq => ?_) (fun a ha => ?_) h.2.2.2.2.1 (ku_snoc h.2.2.2.2.2.1 hn) h.2.2.2.2.2.2
  · rcases kc_mem.mp hq with e | ⟨b, hb, e⟩ | e
    · exact h.2.1.2.2.2.2 q (kc_mem.mpr (Or.inl e))
    · rcases List.mem_append.mp hb with e1 | e1
      · exact h.2.1.2.2.2.2 q (kc_mem.mpr (Or.inr (Or.inl ⟨b, e1, e⟩)))
      · rw [List.mem_singleton.mp e1] at e
        rw [← e]
        exact hc
    · exact h.2.1.2.2.2.2 q (kc_mem.mpr (Or.inr (Or.inr e)))
  · rcases kc_mine_mem.mp ha with e1 | e1 | e1 | ⟨b, hb, e1⟩ | e1
    · exact h.2.2.1 a (kc_mine_mem.mpr (Or.inl e1))
    · exact h.2.2.1 a (kc_mine_mem.mpr (Or.inr (Or.inl e1)))
    · exact h.2.2.1 a (kc_mine_mem.mpr (Or.inr (Or.inr (Or.inl e1))))
    · rcases List.mem_append.mp hb with e2 | e2
      · exact h.2.2.1 a (kc_mine_mem.mpr (Or.inr (Or.inr (Or.inr (Or.inl ⟨b, e2, e1⟩)))))
      · rw [← e1, List.mem_singleton.mp e2]
        exact hc0
    · exact h.2.2.1 a (kc_mine_mem.mpr (Or.inr (Or.inr (Or.inr (Or.inr e1)))))
theorem kc_mine_same {A A' : kAp} (h1 : A'.cs.map (·.1) = A.cs.map (·.1)) (h2 : A'.ls.map (·.1) = A.ls.map (·.1)) (h3 : A'.st.map (·.1) = A.st.map (·.1)) (h4 : A'.st.map (·.2.1) = A.st.map (·.2.1)) : kc_mine s ad A' = kc_mine s ad A := by
  unfold kc_mine
  rw [h1, h2, h3, h4]
theorem kc_beads_mem {A : kAp} {b : kB} : b ∈ kc_beads A ↔ b ∈ A.bx ∨ (∃ r ∈ A.st, b ∈ r.bs) ∨ b ∈ kc_bD A.so ∨ b ∈ kc_bD A.wa := by
  simp only [kc_beads, List.mem_append, List.mem_flatMap]
/-- the box holds other beads -/
theorem ku_box {bx : List kB} (h : kc_mut H0 H s ad A) (hb : ∀ b ∈ bx, kb_bead H b) : kc_mut H0 (ka_up H (ad 8) (ka_ls mc (bx.map (·.1)))) s ad (A.cs, A.ls, bx, A.2.2.2) := by
  refine ku_list (k := 2) h rfl rfl (h.2.2.1 _ (by simp [kc_mine])) rfl rfl (fun q hq => ?_) h.2.2.1 h.2.2.2.2.1 h.2.2.2.2.2.1 h.2.2.2.2.2.2
  rcases kc_mem.mp hq with e | e | e | e | e | e | ⟨b, hb2, e⟩
  · exact h.2.1.2.2.2.2 q (kc_mem.mpr (Or.inl e))
  · exact h.2.1.2.2.2.2 q (kc_mem.mpr (Or.inr (Or.inl e)))
  · exact h.2.1.2.2.2.2 q (kc_mem.mpr (Or.inr (Or.inr (Or.inl e))))
  · exact h.2.1.2.2.2.2 q (kc_mem.mpr (Or.inr (Or.inr (Or.inr (Or.inl e)))))
  · exact h.2.1.2.2.2.2 q (kc_mem.mpr (Or.inr (Or.inr (Or.inr (Or.inr (Or.inl e))))))
  · exact h.2.1.2.2.2.2 q (kc_mem.mpr (Or.inr (Or.inr (Or.inr (Or.inr (Or.inr (Or.inl e)))))))
  · rw [← e]
    rcases kc_beads_mem.mp hb2 with e1 | e1
    · exact hb b e1
    · exact kg_b h.2.1 (kc_beads_mem.mpr (Or.inr e1))
/-- the list of pilgrims is another one -/
theorem ku_pil {ps : List kP} (h : kc_mut H0 H s ad A) (hp : ∀ p ∈ ps, H p.1 = some (kc_P p)) : kc_mut H0 (ka_up H (ad 4) (ka_ls mc (ps.map (·.1)))) s ad (A.cs, A.ls, A.bx, A.st, ps, A.2.2.2.2.2) := by
  refine ku_list (k := 4) h rfl rfl (h.2.2.1 _ (by simp [kc_mine])) rfl rfl (fun q hq => ?_) h.2.2.1 h.2.2.2.2.1 h.2.2.2.2.2.1 h.2.2.2.2.2.2
  rcases kc_mem.mp hq with e | e | e | ⟨p, hp2, e⟩ | e | e | e
  · exact h.2.1.2.2.2.2 q (kc_mem.mpr (Or.inl e))
  · exact h.2.1.2.2.2.2 q (kc_mem.mpr (Or.inr (Or.inl e)))
  · exact h.2.1.2.2.2.2 q (kc_mem.mpr (Or.inr (Or.inr (Or.inl e))))
  · rw [← e]
    exact hp p hp2
  · exact h.2.1.2.2.2.2 q (kc_mem.mpr (Or.inr (Or.inr (Or.inr (Or.inr (Or.inl e))))))
  · exact h.2.1.2.2.2.2 q (kc_mem.mpr (Or.inr (Or.inr (Or.inr (Or.inr (Or.inr (Or.inl e)))))))
  · exact h.2.1.2.2.2.2 q (kc_mem.mpr (Or.inr (Or.inr (Or.inr (Or.inr (Or.inr (Or.inr e)))))))
/-- a list changes, in general -/
theorem ku_listG {x : Nat} {mc0 : Int32} {old new : List Nat} (h : kc_mut H0 H s ad A) (hx : H x = some (ka_ls mc0 old)) (hx0 : H0 x = none) (haw : A'.aw = A.aw) (hsc : A'.sc = A.sc) (hq : ∀ q ∈ kc_lists ad A', q = (x, new) ∨ (q.1 ≠ x ∧ ∃ mc, H q.1 = some (ka_ls mc q.2))) (hnd : ((kc_lists ad A').map (·.1)).Nodup) (hobjs : ∀ q ∈ kc_objs A', H q.1 = some q.2) (hm : ∀ a ∈ kc_mine s ad A', H0 a = none) (n1 : (A'.cs.map (·.1)).Nodup) (n2 : (A'.ls.map (·.1)).Nodup) (n3 : (A'.st.map (·.1)).Nodup) : kc_mut H0 (ka_up H x (ka_ls mc new)) s ad A' := by
  obtain ⟨h0, ⟨h1, h2, h3, h4, h5⟩, g1, g2, g3, g4, g5⟩ := h
  refine ⟨ka_le_mut h0 hx0, ⟨?_, ?_, ?_, fun q hq2 => ?_, fun q hq2 => ?_⟩, hm, hnd, n1, n2, n3⟩
  · rw [hsc]
    exact (ka_ne (ka_kinds h1 hx (by simp))).trans h1
  · exact (ka_ne (ka_kinds h2 hx (by simp))).trans h2
  · rw [haw]
    exact (ka_ne (ka_kinds h3 hx (by simp))).trans h3
  · rcases hq q hq2 with e | ⟨e1, mc1, e2⟩
    · rw [e]
      exact ⟨mc, ka_same⟩
    · exact ⟨mc1, (ka_ne e1).trans e2⟩
  · have e := hobjs q hq2
    obtain ⟨c, fs, e2, -⟩ := kc_kind hq2
    refine (ka_ne (ka_kinds e hx ?_)).trans e
    rw [e2]
    simp
theorem kc_lists_mem {A : kAp} {q : Nat × List Nat} : q ∈ kc_lists ad A ↔ q = (ad 0, A.cs.map (·.1)) ∨ q = (ad 1, A.ls.map (·.1)) ∨ q = (ad 8, A.bx.map (·.1)) ∨ q = (ad 3, A.st.map (·.1)) ∨ q = (ad 4, A.ps.map (·.1)) ∨ q = (ad 5, A.so.map (·.1)) ∨ q = (ad 6, A.wa.map (·.1)) ∨ q ∈ kc_inS A.st ∨ q ∈ kc_inD A.so ∨ q ∈ kc_inD A.wa := by
  simp only [kc_lists, kc_top, List.mem_append, List.mem_cons, List.not_mem_nil, or_false]
  constructor
  · rintro ((h | h | h | h | h | h | h) | h | h | h) <;> simp [h]
  · rintro (h | h | h | h | h | h | h | h | h | h) <;> simp [h]
/-- a new string -/
theorem ku_addS {r : kS} (h : kc_mut H0 H s ad A) (hr : H r.1 = some (kc_S r)) (hr0 : H0 r.1 = none) (hi0 : H0 r.2.1 = none) (hl : kb_L H r.2.1 r.bs) (hn : ∀ b ∈ A.st, b.1 ≠ r.1) (hn2 : ∀ q ∈ kc_lists ad A, q.1 ≠ r.2.1) : kc_mut H0 (ka_up H (ad 3) (ka_ls mc (A.st.map (·.1) ++ [r.1]))) s ad (A.cs, A.ls, A.bx, A.st ++ [r], A.2.2.2.2) := by
  have e : A.st.map (·.1) ++ [r.1] = (A.st ++ [r]).map (·.1) := by simp
  rw [e]
  obtain ⟨mc0, hx⟩ := kg_st h.2.1
  have hold : ∀ q ∈ kc_lists ad A, q.1 ≠ ad 3 → ∃ mc, H q.1 = some (ka_ls mc q.2) := fun q hq _ => h.2.1.2.2.2.1 q hq
  have hset := ks_set (key := (·.1)) (l := kc_lists ad A) (i := 3) (a := (ad 3, A.st.map (·.1))) (a' := (ad 3, (A.st ++ [r]).map (·.1))) h.2.2.2.1 rfl rfl
  have hin : kc_inS (A.st ++ [r]) = kc_inS A.st ++ [(r.2.1, r.bs.map (·.1))] := by simp [kc_inS]
  refine ku_listG h hx (h.2.2.1 _ (by simp [kc_mine])) rfl rfl (fun q hq => ?_) ?_ (fun q hq => ?_) (fun a ha => ?_) h.2.2.2.2.1 h.2.2.2.2.2.1 (ku_snoc h.2.2.2.2.2.2 hn)
  · by_cases hqn : q = (r.2.1, r.bs.map (·.1))
    · subst hqn
      exact Or.inr ⟨fun z => hn2 _ (kc_lists_mem.mpr (Or.inr (Or.inr (Or.inr (Or.inl rfl))))) z.symm, hl.1⟩
    · have hq3 : q ∈ (kc_lists ad A).set 3 (ad 3, (A.st ++ [r]).map (·.1)) := by
        have e2 : (kc_lists ad A).set 3 (ad 3, (A.st ++ [r]).map (·.1)) = [(ad 0, A.cs.map (·.1)), (ad 1, A.ls.map (·.1)), (ad 8, A.bx.map (·.1)), (ad 3, (A.st ++ [r]).map (·.1)), (ad 4, A.ps.map (·.1)), (ad 5, A.so.map (·.1)), (ad 6, A.wa.map (·.1))] ++ (kc_inS A.st ++ (kc_inD A.so ++ kc_inD A.wa)) := rfl
        rw [e2]
        rcases kc_lists_mem.mp hq with e | e | e | e | e | e | e | e | e | e
        · simp [e]
        · simp [e]
        · simp [e]
        · rw [e]
          exact List.mem_append_left _ (List.mem_cons_of_mem _ (List.mem_cons_of_mem _ (List.mem_cons_of_mem _ List.mem_cons_self)))
        · simp [e]
        · simp [e]
        · simp [e]
        · rw [hin] at e
          rcases List.mem_append.mp e with e1 | e1
          · simp [e1]
          · exact absurd (List.mem_singleton.mp e1) hqn
        · have e9 : q ∈ kc_inD A.so := e
          simp [e9]
        · have e9 : q ∈ kc_inD A.wa := e
          simp [e9]
      rcases hset q hq3 with e3 | ⟨e3, e4⟩
      · exact Or.inl e3
      · exact Or.inr ⟨e4, h.2.1.2.2.2.1 q e3⟩
  · have hp : ((kc_lists ad (A.cs, A.ls, A.bx, A.st ++ [r], A.2.2.2.2)).map (·.1)).Perm (r.2.1 :: (kc_lists ad A).map (·.1)) := by
      have e1 : (kc_lists ad (A.cs, A.ls, A.bx, A.st ++ [r], A.2.2.2.2)).map (·.1) = ((kc_top ad A).map (·.1) ++ (kc_inS A.st).map (·.1)) ++ r.2.1 :: ((kc_inD A.so).map (·.1) ++ (kc_inD A.wa).map (·.1)) := by
        unfold kc_lists
        rw [show kc_inS (kAp.st (A.cs, A.ls, A.bx, A.st ++ [r], A.2.2.2.2)) = kc_inS A.st ++ [(r.2.1, r.bs.map (·.1))] from hin]
        simp only [List.map_append, List.map_cons, List.map_nil, List.append_assoc, List.cons_append, List.nil_append]
        rfl
      have e2 : (kc_lists ad A).map (·.1) = ((kc_top ad A).map (·.1) ++ (kc_inS A.st).map (·.1)) ++ ((kc_inD A.so).map (·.1) ++ (kc_inD A.wa).map (·.1)) := by
        unfold kc_lists
        simp only [List.map_append, List.append_assoc]
      rw [e1, e2]
      exact List.perm_middle
    rw [hp.nodup_iff, List.nodup_cons]
    refine ⟨fun hz => ?_, h.2.2.2.1⟩
    obtain ⟨q, hq, e⟩ := List.mem_map.mp hz
    exact hn2 q hq e
  · rcases kc_mem.mp hq with e | e | ⟨b, hb, e⟩ | e | e | e | ⟨b, hb, e⟩
    · exact h.2.1.2.2.2.2 q (kc_mem.mpr (Or.inl e))
    · exact h.2.1.2.2.2.2 q (kc_mem.mpr (Or.inr (Or.inl e)))
    · rcases List.mem_append.mp hb with e1 | e1
      · exact h.2.1.2.2.2.2 q (kc_mem.mpr (Or.inr (Or.inr (Or.inl ⟨b, e1, e⟩))))
      · rw [List.mem_singleton.mp e1] at e
        rw [← e]
        exact hr
    · exact h.2.1.2.2.2.2 q (kc_mem.mpr (Or.inr (Or.inr (Or.inr (Or.inl e)))))
    · exact h.2.1.2.2.2.2 q (kc_mem.mpr (Or.inr (Or.inr (Or.inr (Or.inr (Or.inl e))))))
    · exact h.2.1.2.2.2.2 q (kc_mem.mpr (Or.inr (Or.inr (Or.inr (Or.inr (Or.inr (Or.inl e)))))))
    · rw [← e]
      rcases kc_beads_mem.mp hb with e1 | ⟨r', hr', e1⟩ | e1
      · exact kg_b h.2.1 (kc_beads_mem.mpr (Or.inl e1))
      · rcases List.mem_append.mp hr' with e2 | e2
        · exact kg_b h.2.1 (kc_beads_mem.mpr (Or.inr (Or.inl ⟨r', e2, e1⟩)))
        · rw [List.mem_singleton.mp e2] at e1
          exact hl.2 b e1
      · exact kg_b h.2.1 (kc_beads_mem.mpr (Or.inr (Or.inr e1)))
  · rcases kc_mine_mem.mp ha with e1 | e1 | e1 | e1 | ⟨b, hb, e1⟩ | ⟨b, hb, e1⟩
    · exact h.2.2.1 a (kc_mine_mem.mpr (Or.inl e1))
    · exact h.2.2.1 a (kc_mine_mem.mpr (Or.inr (Or.inl e1)))
    · exact h.2.2.1 a (kc_mine_mem.mpr (Or.inr (Or.inr (Or.inl e1))))
    · exact h.2.2.1 a (kc_mine_mem.mpr (Or.inr (Or.inr (Or.inr (Or.inl e1)))))
    · rcases List.mem_append.mp hb with e2 | e2
      · exact h.2.2.1 a (kc_mine_mem.mpr (Or.inr (Or.inr (Or.inr (Or.inr (Or.inl ⟨b, e2, e1⟩))))))
      · rw [← e1, List.mem_singleton.mp e2]
        exact hr0
    · rcases List.mem_append.mp hb with e2 | e2
      · exact h.2.2.1 a (kc_mine_mem.mpr (Or.inr (Or.inr (Or.inr (Or.inr (Or.inr ⟨b, e2, e1⟩))))))
      · rw [← e1, List.mem_singleton.mp e2]
        exact hi0
/-- an iterator beside it moves -/
theorem ku_it {x c : Nat} {fs : List Value} {o' : ka_O} (h : kc_mut H0 H s ad A) (hx : H x = some (ka_ob c fs)) (hc : c = 33 ∨ c = 34 ∨ c = 11 ∨ c = 8 ∨ c = 36 ∨ c = 35) (hx0 : H0 x = none) : kc_mut H0 (ka_up H x o') s ad A := by
  obtain ⟨h0, ⟨h1, h2, h3, h4, h5⟩, g⟩ := h
  refine ⟨ka_le_mut h0 hx0, ⟨?_, ?_, ?_, fun q hq => ?_, fun q hq => ?_⟩, g⟩
  · exact (ka_ne (ka_kinds h1 hx (by rcases hc with e | e | e | e | e | e <;> subst e <;> simp))).trans h1
  · exact (ka_ne (ka_kinds h2 hx (by rcases hc with e | e | e | e | e | e <;> subst e <;> simp))).trans h2
  · exact (ka_ne (ka_kinds h3 hx (by simp))).trans h3
  · obtain ⟨mc1, e3⟩ := h4 q hq
    exact ⟨mc1, (ka_ne (ka_kinds e3 hx (by simp))).trans e3⟩
  · have e := h5 q hq
    obtain ⟨c', fs', e2, e4⟩ := kc_kind hq
    refine (ka_ne (ka_kinds e hx ?_)).trans e
    rw [e2]
    rcases e4 with e | e | e | e | e | e <;> subst e <;> rcases hc with e | e | e | e | e | e <;> subst e <;> simp
end KSA
