set_option maxRecDepth 100000
/-! ===== the workshop: what its cells are ===== -/
/-- carver: address, eye, tired, carved, spoilt; lens: address, power, carver; string: address, list, groups, small, knots, beads; pilgrim: address, day, groups, fineness, coins; sold: address, list, since, broken, beads -/
abbrev kC : Type := Nat × Int32 × Int32 × Int32 × Int32
abbrev kLn : Type := Nat × Int32 × Int32
abbrev kS : Type := Nat × Nat × Int32 × Int32 × Int32 × List kB
abbrev kP : Type := Nat × Int32 × Int32 × Int32 × Int32
abbrev kDp : Type := Nat × Nat × Int32 × Option kB × List kB
/-- carvers, lenses, box, strings, pilgrims, sold, waiting, away, numbers (day, stones, carved, spoilt, sales, mended, coins, broken, gone) -/
abbrev kAp : Type := List kC × List kLn × List kB × List kS × List kP × List kDp × List kDp × (Nat → Bool) × (Nat → Int32)
abbrev kAp.cs (A : kAp) : List kC := A.1
abbrev kAp.ls (A : kAp) : List kLn := A.2.1
abbrev kAp.bx (A : kAp) : List kB := A.2.2.1
abbrev kAp.st (A : kAp) : List kS := A.2.2.2.1
abbrev kAp.ps (A : kAp) : List kP := A.2.2.2.2.1
abbrev kAp.so (A : kAp) : List kDp := A.2.2.2.2.2.1
abbrev kAp.wa (A : kAp) : List kDp := A.2.2.2.2.2.2.1
abbrev kAp.aw (A : kAp) : Nat → Bool := A.2.2.2.2.2.2.2.1
abbrev kAp.sc (A : kAp) : Nat → Int32 := A.2.2.2.2.2.2.2.2
abbrev kS.bs (r : kS) : List kB := r.2.2.2.2.2
abbrev kDp.bs (d : kDp) : List kB := d.2.2.2.2
abbrev kc_C (c : kC) : ka_O := ka_ob 5 [.int c.2.1, .int c.2.2.1, .int c.2.2.2.1, .int c.2.2.2.2]
abbrev kc_L (l : kLn) : ka_O := ka_ob 6 [.int l.2.1, .int l.2.2]
abbrev kc_S (r : kS) : ka_O := ka_ob 7 [.ref r.2.1, .int r.2.2.1, .int r.2.2.2.1, .int r.2.2.2.2.1]
abbrev kc_P (p : kP) : ka_O := ka_ob 9 [.int p.2.1, .int p.2.2.1, .int p.2.2.2.1, .int p.2.2.2.2]
abbrev kc_D (d : kDp) : ka_O := ka_ob 12 [.ref d.2.1, .int d.2.2.1, va_rf (d.2.2.2.1.map (·.1))]
abbrev kc_B (b : kB) : ka_O := ka_ob 14 [.int b.2.1, .int b.2.2.1, .int b.2.2.2]
abbrev kc_so (ad : Nat → Nat) (sc : Nat → Int32) : ka_O := ka_ob 1 [.ref (ad 0), .ref (ad 1), .ref (ad 2), .ref (ad 3), .ref (ad 4), .ref (ad 5), .ref (ad 6), .ref (ad 7), .int (sc 0), .int (sc 1), .int (sc 2), .int (sc 3), .int (sc 4), .int (sc 5), .int (sc 6), .int (sc 7), .int (sc 8)]
def kc_top (ad : Nat → Nat) (A : kAp) : List (Nat × List Nat) := [(ad 0, A.cs.map (·.1)), (ad 1, A.ls.map (·.1)), (ad 8, A.bx.map (·.1)), (ad 3, A.st.map (·.1)), (ad 4, A.ps.map (·.1)), (ad 5, A.so.map (·.1)), (ad 6, A.wa.map (·.1))]
def kc_inS (st : List kS) : List (Nat × List Nat) := st.map (fun r => (r.2.1, r.bs.map (·.1)))
def kc_inD (so : List kDp) : List (Nat × List Nat) := so.map (fun d => (d.2.1, d.bs.map (·.1)))
def kc_lists (ad : Nat → Nat) (A : kAp) : List (Nat × List Nat) := kc_top ad A ++ (kc_inS A.st ++ (kc_inD A.so ++ kc_inD A.wa))
def kc_bD (so : List kDp) : List kB := so.flatMap (fun d => d.2.2.2.1.toList ++ d.bs)
def kc_beads (A : kAp) : List kB := A.bx ++ (A.st.flatMap (·.bs) ++ (kc_bD A.so ++ kc_bD A.wa))
def kc_objs (A : kAp) : List (Nat × ka_O) := A.cs.map (fun c => (c.1, kc_C c)) ++ (A.ls.map (fun l => (l.1, kc_L l)) ++ (A.st.map (fun r => (r.1, kc_S r)) ++ (A.ps.map (fun p => (p.1, kc_P p)) ++ (A.so.map (fun d => (d.1, kc_D d)) ++ (A.wa.map (fun d => (d.1, kc_D d)) ++ (kc_beads A).map (fun b => (b.1, kc_B b)))))))
def kc_shop (H : ka_H) (s : Nat) (ad : Nat → Nat) (A : kAp) : Prop := H s = some (kc_so ad A.sc) ∧ H (ad 2) = some (ka_ob 2 [.ref (ad 8)]) ∧ H (ad 7) = some (ka_bs A.aw) ∧ (∀ q ∈ kc_lists ad A, ∃ mc, H q.1 = some (ka_ls mc q.2)) ∧ (∀ q ∈ kc_objs A, H q.1 = some q.2)
def kc_mine (s : Nat) (ad : Nat → Nat) (A : kAp) : List Nat := s :: ([ad 0, ad 1, ad 2, ad 3, ad 4, ad 5, ad 6, ad 7, ad 8] ++ (A.cs.map (·.1) ++ (A.ls.map (·.1) ++ (A.st.map (·.1) ++ A.st.map (·.2.1)))))
def kc_sep (H0 : ka_H) (s : Nat) (ad : Nat → Nat) (A : kAp) : Prop := (∀ a ∈ kc_mine s ad A, H0 a = none) ∧ ((kc_lists ad A).map (·.1)).Nodup ∧ (A.cs.map (·.1)).Nodup ∧ (A.ls.map (·.1)).Nodup ∧ (A.st.map (·.1)).Nodup
/-- a workshop of its own: nothing of it was there at H0, all that was is as it was -/
def kc_mut (H0 H : ka_H) (s : Nat) (ad : Nat → Nat) (A : kAp) : Prop := ka_le H0 H ∧ kc_shop H s ad A ∧ kc_sep H0 s ad A
theorem kc_shop_le {H G : ka_H} {s : Nat} {ad : Nat → Nat} {A : kAp} (h : kc_shop H s ad A) (k : ka_le H G) : kc_shop G s ad A := by
  obtain ⟨h1, h2, h3, h4, h5⟩ := h
  exact ⟨k _ _ h1, k _ _ h2, k _ _ h3, fun q hq => by obtain ⟨mc, h⟩ := h4 q hq; exact ⟨mc, k _ _ h⟩, fun q hq => k _ _ (h5 q hq)⟩
/-- one row of a list is replaced by one with the same key -/
theorem ks_set {α : Type} {key : α → Nat} : ∀ {l : List α} {i : Nat} {a a' : α}, (l.map key).Nodup → l[i]? = some a → key a' = key a → ∀ b ∈ l.set i a', b = a' ∨ (b ∈ l ∧ key b ≠ key a) := by
  intro l
  induction l with
  | nil => intro i a a' _ h; cases h
  | cons x t ih =>
    intro i a a' hn hi hk b hb
    obtain ⟨hn1, hn2⟩ := List.nodup_cons.mp hn
    cases i with
    | zero =>
      cases hi
      rcases List.mem_cons.mp hb with e | e
      · exact Or.inl e
      · exact Or.inr ⟨List.mem_cons_of_mem _ e, fun z => hn1 (by rw [← z]; exact List.mem_map_of_mem e)⟩
    | succ i =>
      rcases List.mem_cons.mp hb with e | e
      · refine Or.inr ⟨by rw [e]; exact List.mem_cons_self, fun z => hn1 ?_⟩
        have : a ∈ t := List.mem_of_getElem? (i := i) hi
        rw [← e, z]
        exact List.mem_map_of_mem this
      · rcases ih hn2 hi hk b e with e1 | ⟨e1, e2⟩
        · exact Or.inl e1
        · exact Or.inr ⟨List.mem_cons_of_mem _ e1, e2⟩
theorem ks_map {α β : Type} {f : α → β} {l : List α} {i : Nat} {a a' : α} (hi : l[i]? = some a) (h : f a' = f a) : (l.set i a').map f = l.map f := by
  rw [List.map_set, h]
  apply List.ext_getElem?
  intro j
  rw [List.getElem?_set]
  split
  · next e =>
    subst e
    obtain ⟨hl, -⟩ := List.getElem?_eq_some_iff.mp hi
    rw [List.length_map, if_pos hl, List.getElem?_map, hi]
    rfl
  · rfl
/-- the kinds of a workshop's objects -/
theorem kc_kind {A : kAp} {q : Nat × ka_O} (h : q ∈ kc_objs A) : ∃ c fs, q.2 = ka_ob c fs ∧ (c = 5 ∨ c = 6 ∨ c = 7 ∨ c = 9 ∨ c = 12 ∨ c = 14) := by
  simp only [kc_objs, List.mem_append, List.mem_map] at h
  rcases h with ⟨c, -, rfl⟩ | ⟨c, -, rfl⟩ | ⟨c, -, rfl⟩ | ⟨c, -, rfl⟩ | ⟨c, -, rfl⟩ | ⟨c, -, rfl⟩ | ⟨c, -, rfl⟩
  · exact ⟨_, _, rfl, Or.inl rfl⟩
  · exact ⟨_, _, rfl, Or.inr (Or.inl rfl)⟩
  · exact ⟨_, _, rfl, Or.inr (Or.inr (Or.inl rfl))⟩
  · exact ⟨_, _, rfl, Or.inr (Or.inr (Or.inr (Or.inl rfl)))⟩
  · exact ⟨_, _, rfl, Or.inr (Or.inr (Or.inr (Or.inr (Or.inl rfl))))⟩
  · exact ⟨_, _, rfl, Or.inr (Or.inr (Or.inr (Or.inr (Or.inl rfl))))⟩
  · exact ⟨_, _, rfl, Or.inr (Or.inr (Or.inr (Or.inr (Or.inr rfl))))⟩
theorem ka_le_mut {H0 H : ka_H} {x : Nat} {o : ka_O} (h : ka_le H0 H) (hx : H0 x = none) : ka_le H0 (ka_up H x o) := fun a q ha => (ka_ne (ka_dom ha hx)).trans (h a q ha)
section KSH
variable {H0 H : ka_H} {s : Nat} {ad : Nat → Nat} {A A' : kAp}
/-- a list changes -/
theorem ku_list {k x : Nat} {mc : Int32} {old new : List Nat} (h : kc_mut H0 H s ad A) (hk : (kc_lists ad A)[k]? = some (x, old)) (hl : kc_lists ad A' = (kc_lists ad A).set k (x, new)) (hx0 : H0 x = none) (haw : A'.aw = A.aw) (hsc : A'.sc = A.sc) (hobjs : ∀ q ∈ kc_objs A', H q.1 = some q.2) (hm : ∀ a ∈ kc_mine s ad A', H0 a = none) (n1 : (A'.cs.map (·.1)).Nodup) (n2 : (A'.ls.map (·.1)).Nodup) (n3 : (A'.st.map (·.1)).Nodup) : kc_mut H0 (ka_up H x (ka_ls mc new)) s ad A' := by
  obtain ⟨h0, ⟨h1, h2, h3, h4, h5⟩, g1, g2, g3, g4, g5⟩ := h
  obtain ⟨mc0, hx⟩ := h4 _ (List.mem_of_getElem? hk)
  refine ⟨ka_le_mut h0 hx0, ⟨?_, ?_, ?_, fun q hq => ?_, fun q hq => ?_⟩, hm, ?_, n1, n2, n3⟩
  · rw [hsc]
    exact (ka_ne (ka_kinds h1 hx (by simp))).trans h1
  · exact (ka_ne (ka_kinds h2 hx (by simp))).trans h2
  · rw [haw]
    exact (ka_ne (ka_kinds h3 hx (by simp))).trans h3
  · rw [hl] at hq
    rcases ks_set (key := (·.1)) (a' := (x, new)) g2 hk rfl q hq with e | ⟨e1, e2⟩
    · rw [e]
      exact ⟨mc, ka_same⟩
    · obtain ⟨mc1, e3⟩ := h4 q e1
      exact ⟨mc1, (ka_ne e2).trans e3⟩
  · have e := hobjs q hq
    obtain ⟨c, fs, e2, -⟩ := kc_kind hq
    refine (ka_ne (ka_kinds e hx ?_)).trans e
    rw [e2]
    simp
  · rw [hl, ks_map (f := (·.1)) (a' := (x, new)) hk rfl]
    exact g2
/-- an object changes: a carver, a lens, a string's own cell -/
theorem ku_obj {x c : Nat} {fs : List Value} {o' : ka_O} (h : kc_mut H0 H s ad A) (hx : H x = some (ka_ob c fs)) (hc : c = 5 ∨ c = 6 ∨ c = 7) (hx0 : H0 x = none) (hl : kc_lists ad A' = kc_lists ad A) (haw : A'.aw = A.aw) (hsc : A'.sc = A.sc) (hobjs : ∀ q ∈ kc_objs A', q = (x, o') ∨ (H q.1 = some q.2 ∧ q.1 ≠ x)) (hm : ∀ a ∈ kc_mine s ad A', H0 a = none) (n1 : (A'.cs.map (·.1)).Nodup) (n2 : (A'.ls.map (·.1)).Nodup) (n3 : (A'.st.map (·.1)).Nodup) : kc_mut H0 (ka_up H x o') s ad A' := by
  obtain ⟨h0, ⟨h1, h2, h3, h4, h5⟩, g1, g2, g3, g4, g5⟩ := h
  refine ⟨ka_le_mut h0 hx0, ⟨?_, ?_, ?_, fun q hq => ?_, fun q hq => ?_⟩, hm, ?_, n1, n2, n3⟩
  · rw [hsc]
    exact (ka_ne (ka_kinds h1 hx (by rcases hc with e | e | e <;> subst e <;> simp))).trans h1
  · exact (ka_ne (ka_kinds h2 hx (by rcases hc with e | e | e <;> subst e <;> simp))).trans h2
  · rw [haw]
    exact (ka_ne (ka_kinds h3 hx (by simp))).trans h3
  · rw [hl] at hq
    obtain ⟨mc1, e3⟩ := h4 q hq
    exact ⟨mc1, (ka_ne (ka_kinds e3 hx (by simp))).trans e3⟩
  · rcases hobjs q hq with e | ⟨e1, e2⟩
    · rw [e]
      exact ka_same
    · exact (ka_ne e2).trans e1
  · rw [hl]
    exact g2
/-- a number of the workshop changes -/
theorem ku_num {sc' : Nat → Int32} (h : kc_mut H0 H s ad A) : kc_mut H0 (ka_up H s (kc_so ad sc')) s ad (A.cs, A.ls, A.bx, A.st, A.ps, A.so, A.wa, A.aw, sc') := by
  obtain ⟨h0, ⟨h1, h2, h3, h4, h5⟩, g1, g2, g3, g4, g5⟩ := h
  refine ⟨ka_le_mut h0 (g1 s List.mem_cons_self), ⟨ka_same, ?_, ?_, fun q hq => ?_, fun q hq => ?_⟩, g1, g2, g3, g4, g5⟩
  · exact (ka_ne (ka_kinds h2 h1 (by simp))).trans h2
  · exact (ka_ne (ka_kinds h3 h1 (by simp))).trans h3
  · obtain ⟨mc1, e3⟩ := h4 q hq
    exact ⟨mc1, (ka_ne (ka_kinds e3 h1 (by simp))).trans e3⟩
  · have e := h5 q hq
    obtain ⟨c, fs, e2, e4⟩ := kc_kind hq
    refine (ka_ne (ka_kinds e h1 ?_)).trans e
    rw [e2]
    rcases e4 with e | e | e | e | e | e <;> subst e <;> simp
/-- the set of those that are away -/
theorem ku_away {f : Nat → Bool} (h : kc_mut H0 H s ad A) : kc_mut H0 (ka_up H (ad 7) (ka_bs f)) s ad (A.cs, A.ls, A.bx, A.st, A.ps, A.so, A.wa, f, A.sc) := by
  obtain ⟨h0, ⟨h1, h2, h3, h4, h5⟩, g1, g2, g3, g4, g5⟩ := h
  refine ⟨ka_le_mut h0 (g1 (ad 7) (by simp [kc_mine])), ⟨?_, ?_, ka_same, fun q hq => ?_, fun q hq => ?_⟩, g1, g2, g3, g4, g5⟩
  · exact (ka_ne (ka_kinds h1 h3 (by simp))).trans h1
  · exact (ka_ne (ka_kinds h2 h3 (by simp))).trans h2
  · obtain ⟨mc1, e3⟩ := h4 q hq
    exact ⟨mc1, (ka_ne (ka_kinds e3 h3 (by simp))).trans e3⟩
  · have e := h5 q hq
    obtain ⟨c, fs, e2, e4⟩ := kc_kind hq
    refine (ka_ne (ka_kinds e h3 ?_)).trans e
    rw [e2]
    simp
/-- a cell is made beside it -/
theorem ku_new {x : Nat} {o : ka_O} (h : kc_mut H0 H s ad A) (hx : H x = none) : kc_mut H0 (ka_up H x o) s ad A := ⟨ka_le_trans h.1 (ka_le_up hx), kc_shop_le h.2.1 (ka_le_up hx), h.2.2⟩
theorem ku_le {G : ka_H} (h : kc_mut H0 H s ad A) (k : ka_le H G) : kc_mut H0 G s ad A := ⟨ka_le_trans h.1 k, kc_shop_le h.2.1 k, h.2.2⟩
/-! what is read off a workshop -/
theorem kg_s (h : kc_shop H s ad A) : H s = some (kc_so ad A.sc) := h.1
theorem kg_cs (h : kc_shop H s ad A) : ∃ mc, H (ad 0) = some (ka_ls mc (A.cs.map (·.1))) := h.2.2.2.1 (ad 0, _) (by simp [kc_lists, kc_top])
theorem kg_ls (h : kc_shop H s ad A) : ∃ mc, H (ad 1) = some (ka_ls mc (A.ls.map (·.1))) := h.2.2.2.1 (ad 1, _) (by simp [kc_lists, kc_top])
theorem kg_bl (h : kc_shop H s ad A) : ∃ mc, H (ad 8) = some (ka_ls mc (A.bx.map (·.1))) := h.2.2.2.1 (ad 8, _) (by simp [kc_lists, kc_top])
theorem kg_st (h : kc_shop H s ad A) : ∃ mc, H (ad 3) = some (ka_ls mc (A.st.map (·.1))) := h.2.2.2.1 (ad 3, _) (by simp [kc_lists, kc_top])
theorem kg_ps (h : kc_shop H s ad A) : ∃ mc, H (ad 4) = some (ka_ls mc (A.ps.map (·.1))) := h.2.2.2.1 (ad 4, _) (by simp [kc_lists, kc_top])
theorem kg_so (h : kc_shop H s ad A) : ∃ mc, H (ad 5) = some (ka_ls mc (A.so.map (·.1))) := h.2.2.2.1 (ad 5, _) (by simp [kc_lists, kc_top])
theorem kg_wa (h : kc_shop H s ad A) : ∃ mc, H (ad 6) = some (ka_ls mc (A.wa.map (·.1))) := h.2.2.2.1 (ad 6, _) (by simp [kc_lists, kc_top])
theorem kg_c (h : kc_shop H s ad A) {c : kC} (hc : c ∈ A.cs) : H c.1 = some (kc_C c) := h.2.2.2.2 (c.1, _) (by simp only [kc_objs, List.mem_append, List.mem_map]; exact Or.inl ⟨c, hc, rfl⟩)
theorem kg_l (h : kc_shop H s ad A) {c : kLn} (hc : c ∈ A.ls) : H c.1 = some (kc_L c) := h.2.2.2.2 (c.1, _) (by simp only [kc_objs, List.mem_append, List.mem_map]; exact Or.inr (Or.inl ⟨c, hc, rfl⟩))
theorem kg_r (h : kc_shop H s ad A) {c : kS} (hc : c ∈ A.st) : H c.1 = some (kc_S c) := h.2.2.2.2 (c.1, _) (by simp only [kc_objs, List.mem_append, List.mem_map]; exact Or.inr (Or.inr (Or.inl ⟨c, hc, rfl⟩)))
theorem kg_p (h : kc_shop H s ad A) {c : kP} (hc : c ∈ A.ps) : H c.1 = some (kc_P c) := h.2.2.2.2 (c.1, _) (by simp only [kc_objs, List.mem_append, List.mem_map]; exact Or.inr (Or.inr (Or.inr (Or.inl ⟨c, hc, rfl⟩))))
theorem kg_d (h : kc_shop H s ad A) {c : kDp} (hc : c ∈ A.so ∨ c ∈ A.wa) : H c.1 = some (kc_D c) := h.2.2.2.2 (c.1, _) (by
  simp only [kc_objs, List.mem_append, List.mem_map]
  rcases hc with e | e
  · exact Or.inr (Or.inr (Or.inr (Or.inr (Or.inl ⟨c, e, rfl⟩))))
  · exact Or.inr (Or.inr (Or.inr (Or.inr (Or.inr (Or.inl ⟨c, e, rfl⟩))))))
theorem kg_b (h : kc_shop H s ad A) {b : kB} (hb : b ∈ kc_beads A) : kb_bead H b := h.2.2.2.2 (b.1, kc_B b) (by
  simp only [kc_objs, List.mem_append, List.mem_map]
  exact Or.inr (Or.inr (Or.inr (Or.inr (Or.inr (Or.inr ⟨b, hb, rfl⟩))))))
theorem kg_box (h : kc_shop H s ad A) : kb_B H (ad 2) (ad 8) ∧ kb_L H (ad 8) A.bx := ⟨⟨2, [], h.2.1, Or.inl rfl⟩, kg_bl h, fun b hb => kg_b h (by simp [kc_beads, hb])⟩
theorem kg_rs (h : kc_shop H s ad A) {r : kS} (hr : r ∈ A.st) : kb_B H r.1 r.2.1 ∧ kb_L H r.2.1 r.bs := ⟨⟨7, _, kg_r h hr, Or.inr (Or.inl rfl)⟩, h.2.2.2.1 (r.2.1, _) (by
  simp only [kc_lists, kc_inS, List.mem_append, List.mem_map]
  exact Or.inr (Or.inl ⟨r, hr, rfl⟩)), fun b hb => kg_b h (by
  simp only [kc_beads, List.mem_append, List.mem_flatMap]
  exact Or.inr (Or.inl ⟨r, hr, hb⟩))⟩
theorem kg_ds (h : kc_shop H s ad A) {d : kDp} (hd : d ∈ A.so ∨ d ∈ A.wa) : kb_B H d.1 d.2.1 ∧ kb_L H d.2.1 d.bs ∧ ∀ b, d.2.2.2.1 = some b → kb_bead H b := ⟨⟨12, _, kg_d h hd, Or.inr (Or.inr rfl)⟩, ⟨h.2.2.2.1 (d.2.1, _) (by
  simp only [kc_lists, kc_inD, List.mem_append, List.mem_map]
  rcases hd with e | e
  · exact Or.inr (Or.inr (Or.inl ⟨d, e, rfl⟩))
  · exact Or.inr (Or.inr (Or.inr ⟨d, e, rfl⟩))), fun b hb => kg_b h (by
  simp only [kc_beads, kc_bD, List.mem_append, List.mem_flatMap]
  rcases hd with e | e
  · exact Or.inr (Or.inr (Or.inl ⟨d, e, Or.inr hb⟩))
  · exact Or.inr (Or.inr (Or.inr ⟨d, e, Or.inr hb⟩)))⟩, fun b hb => kg_b h (by
  simp only [kc_beads, kc_bD, List.mem_append, List.mem_flatMap]
  rcases hd with e | e
  · exact Or.inr (Or.inr (Or.inl ⟨d, e, Or.inl (by rw [hb]; simp)⟩))
  · exact Or.inr (Or.inr (Or.inr ⟨d, e, Or.inl (by rw [hb]; simp)⟩)))⟩
end KSH
