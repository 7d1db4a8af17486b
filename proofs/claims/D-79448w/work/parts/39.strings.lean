set_option maxRecDepth 100000
/-! ===== strings: begun, threaded, tied, dropped ===== -/
theorem ks_erase {α β : Type} [DecidableEq β] {f : α → β} : ∀ {l : List α} {p : Nat} {a : α}, (l.map f).Nodup → l[p]? = some a → l.eraseIdx p = l.filter (fun c => decide (f c ≠ f a)) := by
  intro l
  induction l with
  | nil => intro p a _ h; cases h
  | cons x t ih =>
    intro p a hn hp
    obtain ⟨hn1, hn2⟩ := List.nodup_cons.mp hn
    cases p with
    | zero =>
      cases hp
      have h1 : t.filter (fun c => decide (f c ≠ f x)) = t := List.filter_eq_self.mpr (fun c hc => decide_eq_true (fun z => hn1 (by rw [← z]; exact List.mem_map_of_mem hc)))
      rw [List.filter_cons_of_neg (by simp), h1]
      rfl
    | succ p =>
      have hm : a ∈ t := List.mem_of_getElem? (i := p) hp
      have h1 : f x ≠ f a := fun z => hn1 (by rw [z]; exact List.mem_map_of_mem hm)
      rw [List.filter_cons_of_pos (by simpa using h1), List.eraseIdx_cons_succ, ih hn2 hp]
theorem ks_emap {α β : Type} {f : α → β} : ∀ {l : List α} {p : Nat}, (l.eraseIdx p).map f = (l.map f).eraseIdx p := by
  intro l
  induction l with
  | nil => intro p; rfl
  | cons x t ih =>
    intro p
    cases p with
    | zero => rfl
    | succ p => rw [List.eraseIdx_cons_succ, List.map_cons, List.map_cons, List.eraseIdx_cons_succ, ih]
theorem kc_fresh {H0 H : ka_H} {s : Nat} {ad : Nat → Nat} {A : kAp} (h : kc_mut H0 H s ad A) {x : Nat} (hx : H x = none) : H0 x = none := by
  cases e : H0 x with
  | none => rfl
  | some q => rw [h.1 _ _ e] at hx; cases hx
section KSS
variable {H0 H : ka_H} {s : Nat} {ad : Nat → Nat} {A : kAp} {mc : Int32}
/-- a string's beads are others -/
theorem ku_beads {i : Nat} {r : kS} {bs : List kB} (h : kc_mut H0 H s ad A) (hi : A.st[i]? = some r) (hb : ∀ b ∈ bs, kb_bead H b) : kc_mut H0 (ka_up H r.2.1 (ka_ls mc (bs.map (·.1)))) s ad (A.cs, A.ls, A.bx, A.st.set i (r.1, r.2.1, r.2.2.1, r.2.2.2.1, r.2.2.2.2.1, bs), A.2.2.2.2) := by
  have hm := List.mem_of_getElem? hi
  have hlt := (List.getElem?_eq_some_iff.mp hi).1
  have e1 : (A.st.set i (r.1, r.2.1, r.2.2.1, r.2.2.2.1, r.2.2.2.2.1, bs)).map (·.1) = A.st.map (·.1) := ks_map (f := (·.1)) (a' := (r.1, r.2.1, r.2.2.1, r.2.2.2.1, r.2.2.2.2.1, bs)) hi rfl
  have e2 : (A.st.set i (r.1, r.2.1, r.2.2.1, r.2.2.2.1, r.2.2.2.2.1, bs)).map (·.2.1) = A.st.map (·.2.1) := ks_map (f := (·.2.1)) (a' := (r.1, r.2.1, r.2.2.1, r.2.2.2.1, r.2.2.2.2.1, bs)) hi rfl
  have hinl : (kc_inS A.st).length = A.st.length := List.length_map ..
  have hget : (kc_lists ad A)[7 + i]? = some (r.2.1, r.bs.map (·.1)) := by
    unfold kc_lists
    rw [List.getElem?_append_right (by show 7 ≤ 7 + i; omega)]
    show (kc_inS A.st ++ _)[7 + i - 7]? = _
    rw [show 7 + i - 7 = i by omega, List.getElem?_append_left (by rw [hinl]; exact hlt)]
    unfold kc_inS
    rw [List.getElem?_map, hi]
    rfl
  have hset : kc_lists ad (A.cs, A.ls, A.bx, A.st.set i (r.1, r.2.1, r.2.2.1, r.2.2.2.1, r.2.2.2.2.1, bs), A.2.2.2.2) = (kc_lists ad A).set (7 + i) (r.2.1, bs.map (·.1)) := by
    unfold kc_lists
    rw [List.set_append_right _ _ (by show 7 ≤ 7 + i; omega)]
    have e3 : 7 + i - (kc_top ad A).length = i := by show 7 + i - 7 = i; omega
    rw [e3, List.set_append_left _ _ (by rw [hinl]; exact hlt)]
    have e4 : kc_inS (A.st.set i (r.1, r.2.1, r.2.2.1, r.2.2.2.1, r.2.2.2.2.1, bs)) = (kc_inS A.st).set i (r.2.1, bs.map (·.1)) := by
      unfold kc_inS
      rw [List.map_set]
    have e5 : kc_top ad (A.cs, A.ls, A.bx, A.st.set i (r.1, r.2.1, r.2.2.1, r.2.2.2.1, r.2.2.2.2.1, bs), A.2.2.2.2) = kc_top ad A := by
      unfold kc_top
      rw [show (kAp.st (A.cs, A.ls, A.bx, A.st.set i (r.1, r.2.1, r.2.2.1, r.2.2.2.1, r.2.2.2.2.1, bs), A.2.2.2.2)).map (·.1) = A.st.map (·.1) from e1]
    rw [e5, show kc_inS (kAp.st (A.cs, A.ls, A.bx, A.st.set i (r.1, r.2.1, r.2.2.1, r.2.2.2.1, r.2.2.2.2.1, bs), A.2.2.2.2)) = (kc_inS A.st).set i (r.2.1, bs.map (·.1)) from e4]
  refine ku_list (k := 7 + i) h hget hset (h.2.2.1 _ (kc_mine_mem.mpr (Or.inr (Or.inr (Or.inr (Or.inr (Or.inr ⟨r, hm, rfl⟩))))))) rfl rfl (fun q hq => ?_) ?_ h.2.2.2.2.1 h.2.2.2.2.2.1 (by rw [show (kAp.st (A.cs, A.ls, A.bx, A.st.set i (r.1, r.2.1, r.2.2.1, r.2.2.2.1, r.2.2.2.2.1, bs), A.2.2.2.2)).map (·.1) = A.st.map (·.1) from e1]; exact h.2.2.2.2.2.2)
  · rcases kc_mem.mp hq with e | e | ⟨b, hb2, e⟩ | e | e | e | ⟨b, hb2, e⟩
    · exact h.2.1.2.2.2.2 q (kc_mem.mpr (Or.inl e))
    · exact h.2.1.2.2.2.2 q (kc_mem.mpr (Or.inr (Or.inl e)))
    · rcases List.mem_or_eq_of_mem_set hb2 with e5 | e5
      · exact h.2.1.2.2.2.2 q (kc_mem.mpr (Or.inr (Or.inr (Or.inl ⟨b, e5, e⟩))))
      · rw [← e, e5]
        exact kg_r h.2.1 hm
    · exact h.2.1.2.2.2.2 q (kc_mem.mpr (Or.inr (Or.inr (Or.inr (Or.inl e)))))
    · exact h.2.1.2.2.2.2 q (kc_mem.mpr (Or.inr (Or.inr (Or.inr (Or.inr (Or.inl e))))))
    · exact h.2.1.2.2.2.2 q (kc_mem.mpr (Or.inr (Or.inr (Or.inr (Or.inr (Or.inr (Or.inl e)))))))
    · rw [← e]
      rcases kc_beads_mem.mp hb2 with e5 | ⟨r', hr', e5⟩ | e5
      · exact kg_b h.2.1 (kc_beads_mem.mpr (Or.inl e5))
      · rcases List.mem_or_eq_of_mem_set hr' with e6 | e6
        · exact kg_b h.2.1 (kc_beads_mem.mpr (Or.inr (Or.inl ⟨r', e6, e5⟩)))
        · rw [e6] at e5
          exact hb b e5
      · exact kg_b h.2.1 (kc_beads_mem.mpr (Or.inr (Or.inr e5)))
  · rw [kc_mine_same (A := A) (A' := (A.cs, A.ls, A.bx, A.st.set i (r.1, r.2.1, r.2.2.1, r.2.2.2.1, r.2.2.2.2.1, bs), A.2.2.2.2)) rfl rfl e1 e2]
    exact h.2.2.1
/-- a string's own cell: groups, small, knots -/
theorem ku_setS {i : Nat} {r : kS} {n : Int32} (h : kc_mut H0 H s ad A) (hi : A.st[i]? = some r) : kc_mut H0 (ka_up H r.1 (kc_S (r.1, r.2.1, r.2.2.1, r.2.2.2.1, n, r.2.2.2.2.2))) s ad (A.cs, A.ls, A.bx, A.st.set i (r.1, r.2.1, r.2.2.1, r.2.2.2.1, n, r.2.2.2.2.2), A.2.2.2.2) := by
  have hm := List.mem_of_getElem? hi
  have hx := kg_r h.2.1 hm
  have e1 : (A.st.set i (r.1, r.2.1, r.2.2.1, r.2.2.2.1, n, r.2.2.2.2.2)).map (·.1) = A.st.map (·.1) := ks_map (f := (·.1)) (a' := (r.1, r.2.1, r.2.2.1, r.2.2.2.1, n, r.2.2.2.2.2)) hi rfl
  have e2 : (A.st.set i (r.1, r.2.1, r.2.2.1, r.2.2.2.1, n, r.2.2.2.2.2)).map (·.2.1) = A.st.map (·.2.1) := ks_map (f := (·.2.1)) (a' := (r.1, r.2.1, r.2.2.1, r.2.2.2.1, n, r.2.2.2.2.2)) hi rfl
  have e3 : kc_inS (A.st.set i (r.1, r.2.1, r.2.2.1, r.2.2.2.1, n, r.2.2.2.2.2)) = kc_inS A.st := ks_map (f := fun r : kS => (r.2.1, r.bs.map (fun b : kB => b.1))) (a' := (r.1, r.2.1, r.2.2.1, r.2.2.2.1, n, r.2.2.2.2.2)) hi rfl
  have hl : kc_lists ad (A.cs, A.ls, A.bx, A.st.set i (r.1, r.2.1, r.2.2.1, r.2.2.2.1, n, r.2.2.2.2.2), A.2.2.2.2) = kc_lists ad A := by
    unfold kc_lists kc_top
    rw [show (kAp.st (A.cs, A.ls, A.bx, A.st.set i (r.1, r.2.1, r.2.2.1, r.2.2.2.1, n, r.2.2.2.2.2), A.2.2.2.2)).map (·.1) = A.st.map (·.1) from e1, show kc_inS (kAp.st (A.cs, A.ls, A.bx, A.st.set i (r.1, r.2.1, r.2.2.1, r.2.2.2.1, n, r.2.2.2.2.2), A.2.2.2.2)) = kc_inS A.st from e3]
  refine ku_obj h hx (Or.inr (Or.inr rfl)) (h.2.2.1 _ (kc_mine_mem.mpr (Or.inr (Or.inr (Or.inr (Or.inr (Or.inl ⟨r, hm, rfl⟩))))))) hl rfl rfl (fun q hq => ?_) ?_ h.2.2.2.2.1 h.2.2.2.2.2.1 (by rw [show (kAp.st (A.cs, A.ls, A.bx, A.st.set i (r.1, r.2.1, r.2.2.1, r.2.2.2.1, n, r.2.2.2.2.2), A.2.2.2.2)).map (·.1) = A.st.map (·.1) from e1]; exact h.2.2.2.2.2.2)
  · have hold : ∀ q, q ∈ kc_objs A → q.1 ≠ r.1 → q = (r.1, kc_S (r.1, r.2.1, r.2.2.1, r.2.2.2.1, n, r.2.2.2.2.2)) ∨ (H q.1 = some q.2 ∧ q.1 ≠ r.1) := fun q hq hne => Or.inr ⟨h.2.1.2.2.2.2 q hq, hne⟩
    have hkind : ∀ q, q ∈ kc_objs A → (∀ v, q.2 = ka_ob 7 v → False) → q.1 ≠ r.1 := fun q hq hne => ka_kinds (h.2.1.2.2.2.2 q hq) hx (fun z => hne _ z)
    rcases kc_mem.mp hq with ⟨b, hb, e⟩ | ⟨b, hb, e⟩ | ⟨b, hb2, e⟩ | ⟨b, hb, e⟩ | ⟨b, hb, e⟩ | ⟨b, hb, e⟩ | ⟨b, hb2, e⟩
    · have hq2 : q ∈ kc_objs A := kc_mem.mpr (Or.inl ⟨b, hb, e⟩)
      exact hold q hq2 (hkind q hq2 (fun v z => by rw [← e] at z; simp at z))
    · have hq2 : q ∈ kc_objs A := kc_mem.mpr (Or.inr (Or.inl ⟨b, hb, e⟩))
      exact hold q hq2 (hkind q hq2 (fun v z => by rw [← e] at z; simp at z))
    · rcases ks_set (key := (·.1)) (a' := (r.1, r.2.1, r.2.2.1, r.2.2.2.1, n, r.2.2.2.2.2)) h.2.2.2.2.2.2 hi rfl b hb2 with e5 | ⟨e5, e6⟩
      · rw [← e, e5]
        exact Or.inl rfl
      · rw [← e]
        exact Or.inr ⟨kg_r h.2.1 e5, e6⟩
    · have hq2 : q ∈ kc_objs A := kc_mem.mpr (Or.inr (Or.inr (Or.inr (Or.inl ⟨b, hb, e⟩))))
      exact hold q hq2 (hkind q hq2 (fun v z => by rw [← e] at z; simp at z))
    · have hq2 : q ∈ kc_objs A := kc_mem.mpr (Or.inr (Or.inr (Or.inr (Or.inr (Or.inl ⟨b, hb, e⟩)))))
      exact hold q hq2 (hkind q hq2 (fun v z => by rw [← e] at z; simp at z))
    · have hq2 : q ∈ kc_objs A := kc_mem.mpr (Or.inr (Or.inr (Or.inr (Or.inr (Or.inr (Or.inl ⟨b, hb, e⟩))))))
      exact hold q hq2 (hkind q hq2 (fun v z => by rw [← e] at z; simp at z))
    · have hb3 : b ∈ kc_beads A := by
        rcases kc_beads_mem.mp hb2 with e5 | ⟨r', hr', e5⟩ | e5
        · exact kc_beads_mem.mpr (Or.inl e5)
        · rcases List.mem_or_eq_of_mem_set hr' with e6 | e6
          · exact kc_beads_mem.mpr (Or.inr (Or.inl ⟨r', e6, e5⟩))
          · rw [e6] at e5
            exact kc_beads_mem.mpr (Or.inr (Or.inl ⟨r, hm, e5⟩))
        · exact kc_beads_mem.mpr (Or.inr (Or.inr e5))
      have hq2 : q ∈ kc_objs A := kc_mem.mpr (Or.inr (Or.inr (Or.inr (Or.inr (Or.inr (Or.inr ⟨b, hb3, e⟩))))))
      exact hold q hq2 (hkind q hq2 (fun v z => by rw [← e] at z; simp at z))
  · rw [kc_mine_same (A := A) (A' := (A.cs, A.ls, A.bx, A.st.set i (r.1, r.2.1, r.2.2.1, r.2.2.2.1, n, r.2.2.2.2.2), A.2.2.2.2)) rfl rfl e1 e2]
    exact h.2.2.1
end KSS
section KST
variable {Z : ka_Z} {w : Nat} {H0 H : ka_H} {s : Nat} {ad : Nat → Nat} {A : kAp}
theorem ko_begins {g m : Int32} (hE : ka_E0 Z) (hM : kc_mut H0 H s ad A) (hl : A.st.length ≤ 6) (hw : 500 ≤ w) : ka_T Z (pm_X1_begins (some s) g m) w H (kq_R H0 s ad w 500 (v_begins A.V g m)) := by
  obtain ⟨mc, hst⟩ := kg_st hM.2.1
  have hs := kg_s hM.2.1
  unfold pm_X1_begins v_begins
  refine ka_gR (by first | exact ka_same | assumption | exact ka_ne1 (by first | assumption | exact Ne.symm (by assumption)) (by first | exact ka_same | assumption | exact ka_ne1 (by first | assumption | exact Ne.symm (by assumption)) (by first | exact ka_same | assumption | exact ka_ne1 (by first | assumption | exact Ne.symm (by assumption)) (by first | exact ka_same | assumption | exact ka_ne1 (by first | assumption | exact Ne.symm (by assumption)) (by first | exact ka_same | assumption | exact ka_ne1 (by first | assumption | exact Ne.symm (by assumption)) (by first | exact ka_same | assumption | exact ka_ne1 (by first | assumption | exact Ne.symm (by assumption)) (by first | exact ka_same | assumption))))))) rfl rfl ?_
  refine ka_is hst rfl (ka_use (kl_size hst) ?_)
  rw [List.length_map]
  have hVl := kvl_st A
  by_cases h6 : 6 ≤ A.st.length
  · rw [if_pos (show 6 ≤ A.V.st.length by omega)]
    refine ka_ifP ((k3_le (a := 6) (by decide) (by omega)).mpr h6) ?_
    unfold pb_X1_begins_17
    exact ka_needsF (by omega) (fun q hq => kq_no hM (by omega) rfl (by omega) q hq)
  · rw [if_neg (show ¬ 6 ≤ A.V.st.length by omega)]
    refine ka_ifN (fun z => h6 ((k3_le (a := 6) (by decide) (by omega)).mp z)) ?_
    unfold pb_X1_begins_17
    refine ka_needsT (by decide) ?_
    refine ka_gR (by first | exact ka_same | assumption | exact ka_ne1 (by first | assumption | exact Ne.symm (by assumption)) (by first | exact ka_same | assumption | exact ka_ne1 (by first | assumption | exact Ne.symm (by assumption)) (by first | exact ka_same | assumption | exact ka_ne1 (by first | assumption | exact Ne.symm (by assumption)) (by first | exact ka_same | assumption | exact ka_ne1 (by first | assumption | exact Ne.symm (by assumption)) (by first | exact ka_same | assumption | exact ka_ne1 (by first | assumption | exact Ne.symm (by assumption)) (by first | exact ka_same | assumption | exact ka_ne1 (by first | assumption | exact Ne.symm (by assumption)) (by first | exact ka_same | assumption))))))) rfl rfl ?_
    refine ka_new (by omega) (fun a ha => ?_)
    refine ka_nn (ka_call (kcp_newS hE ka_same (by omega)) (fun _ w2 K2 hp => ?_))
    obtain ⟨rfl, l, ml, hl2, rfl⟩ := hp
    obtain ⟨hla, hal, hl2⟩ := ka_fr hl2
    rw [ka_up_comm (H := H) hal, ka_up_up]
    have hM2 := ku_new (o := ka_ls ml []) hM hl2
    have hM3 := ku_new (o := kc_S (a, l, g, m, 0, [])) hM2 ((ka_ne hal).trans ha)
    obtain ⟨mc1, hls⟩ := kg_st hM3.2.1
    refine ka_is hls rfl (ka_call (kl_add hls ka_same rfl (by rw [List.length_map]; show A.st.length ≤ 240; omega) (by omega)) (fun _ w3 K3 hp => ?_))
    obtain ⟨-, hw3, rfl⟩ := hp
    have hLn : kb_L (ka_up (ka_up H l (ka_ls ml [])) a (kc_S (a, l, g, m, 0, []))) l [] := ⟨⟨ml, (ka_ne hla).trans ka_same⟩, fun b hb => by cases hb⟩
    have hM4 := ku_addS (mc := mc1 + 1) (r := (a, l, g, m, 0, [])) hM3 ka_same (kc_fresh hM ha) (kc_fresh hM hl2) hLn (ku_notin hM.2.1 ha).2.2.1 (ku_notin hM.2.1 hl2).2.2.2
    refine ka_gR (kg_s hM4.2.1) rfl rfl ?_
    refine ka_is ka_same rfl (ka_use (kl_size ka_same) (ka_pure ⟨by omega, ?_, _, hM4, ?_⟩))
    · rw [List.length_append, List.length_map, hVl]
      show Int32.ofNat (A.st.length + 1) - 1 = _
      rw [k3_pred (by omega)]
      rfl
    · show (A.V.cs, A.V.ls, A.V.bx, (A.st ++ [(a, l, g, m, 0, [])]).map kS.V, A.V.2.2.2.2) = (A.V.cs, A.V.ls, A.V.bx, A.st.map kS.V ++ [(g, m, 0, [])], A.V.2.2.2.2)
      rw [List.map_append]
      rfl
theorem ko_isDone {r : kS} (hr : H r.1 = some (kc_S r)) : ka_T Z (pm_X8_isDone (some r.1)) w H (ka_V w H (if v_done r.V = true then 1 else 0)) := by
  unfold pm_X8_isDone v_done
  refine ka_gI (by first | exact ka_same | assumption | exact ka_ne1 (by first | assumption | exact Ne.symm (by assumption)) (by first | exact ka_same | assumption | exact ka_ne1 (by first | assumption | exact Ne.symm (by assumption)) (by first | exact ka_same | assumption | exact ka_ne1 (by first | assumption | exact Ne.symm (by assumption)) (by first | exact ka_same | assumption | exact ka_ne1 (by first | assumption | exact Ne.symm (by assumption)) (by first | exact ka_same | assumption | exact ka_ne1 (by first | assumption | exact Ne.symm (by assumption)) (by first | exact ka_same | assumption | exact ka_ne1 (by first | assumption | exact Ne.symm (by assumption)) (by first | exact ka_same | assumption))))))) rfl rfl ?_
  refine ka_gI (by first | exact ka_same | assumption | exact ka_ne1 (by first | assumption | exact Ne.symm (by assumption)) (by first | exact ka_same | assumption | exact ka_ne1 (by first | assumption | exact Ne.symm (by assumption)) (by first | exact ka_same | assumption | exact ka_ne1 (by first | assumption | exact Ne.symm (by assumption)) (by first | exact ka_same | assumption | exact ka_ne1 (by first | assumption | exact Ne.symm (by assumption)) (by first | exact ka_same | assumption | exact ka_ne1 (by first | assumption | exact Ne.symm (by assumption)) (by first | exact ka_same | assumption | exact ka_ne1 (by first | assumption | exact Ne.symm (by assumption)) (by first | exact ka_same | assumption))))))) rfl rfl ?_
  by_cases h : r.2.2.2.2.1 = r.2.2.1
  · refine ka_ifN (fun z => z h) ?_
    refine ka_ret rfl ?_
    exact ka_pure ⟨by rw [if_pos (decide_eq_true h)], rfl, rfl⟩
  · refine ka_ifP h ?_
    refine ka_ret rfl ?_
    exact ka_pure ⟨by rw [if_neg (fun z => h (of_decide_eq_true z))], rfl, rfl⟩
theorem ko_loose {r : kS} (hr : H r.1 = some (kc_S r)) (hL : kb_L H r.2.1 r.bs) : ka_T Z (pm_X8_loose (some r.1)) w H (ka_V w H (v_loose r.V)) := by
  obtain ⟨⟨mc, hl⟩, -⟩ := hL
  unfold pm_X8_loose v_loose
  refine ka_is hr rfl (ka_use (kb_size ⟨7, _, hr, Or.inr (Or.inl rfl)⟩ hl) ?_)
  refine ka_gI (by first | exact ka_same | assumption | exact ka_ne1 (by first | assumption | exact Ne.symm (by assumption)) (by first | exact ka_same | assumption | exact ka_ne1 (by first | assumption | exact Ne.symm (by assumption)) (by first | exact ka_same | assumption | exact ka_ne1 (by first | assumption | exact Ne.symm (by assumption)) (by first | exact ka_same | assumption | exact ka_ne1 (by first | assumption | exact Ne.symm (by assumption)) (by first | exact ka_same | assumption | exact ka_ne1 (by first | assumption | exact Ne.symm (by assumption)) (by first | exact ka_same | assumption | exact ka_ne1 (by first | assumption | exact Ne.symm (by assumption)) (by first | exact ka_same | assumption))))))) rfl rfl ?_
  refine ka_gI (by first | exact ka_same | assumption | exact ka_ne1 (by first | assumption | exact Ne.symm (by assumption)) (by first | exact ka_same | assumption | exact ka_ne1 (by first | assumption | exact Ne.symm (by assumption)) (by first | exact ka_same | assumption | exact ka_ne1 (by first | assumption | exact Ne.symm (by assumption)) (by first | exact ka_same | assumption | exact ka_ne1 (by first | assumption | exact Ne.symm (by assumption)) (by first | exact ka_same | assumption | exact ka_ne1 (by first | assumption | exact Ne.symm (by assumption)) (by first | exact ka_same | assumption | exact ka_ne1 (by first | assumption | exact Ne.symm (by assumption)) (by first | exact ka_same | assumption))))))) rfl rfl ?_
  exact ka_pure ⟨by rw [List.length_map, List.length_map], rfl, rfl⟩
theorem ko_isWhole {r : kS} (hr : H r.1 = some (kc_S r)) (hL : kb_L H r.2.1 r.bs) : ka_T Z (pm_X8_isWhole (some r.1)) w H (ka_V w H (if v_whole r.V = true then 1 else 0)) := by
  unfold pm_X8_isWhole v_whole
  refine ka_is hr rfl (ka_use (ko_loose hr hL) ?_)
  refine ka_gI (by first | exact ka_same | assumption | exact ka_ne1 (by first | assumption | exact Ne.symm (by assumption)) (by first | exact ka_same | assumption | exact ka_ne1 (by first | assumption | exact Ne.symm (by assumption)) (by first | exact ka_same | assumption | exact ka_ne1 (by first | assumption | exact Ne.symm (by assumption)) (by first | exact ka_same | assumption | exact ka_ne1 (by first | assumption | exact Ne.symm (by assumption)) (by first | exact ka_same | assumption | exact ka_ne1 (by first | assumption | exact Ne.symm (by assumption)) (by first | exact ka_same | assumption | exact ka_ne1 (by first | assumption | exact Ne.symm (by assumption)) (by first | exact ka_same | assumption))))))) rfl rfl ?_
  by_cases h : v_loose r.V = r.2.2.2.1 + 1
  · refine ka_ifN (fun z => z h) ?_
    refine ka_ret rfl ?_
    exact ka_pure ⟨by rw [if_pos (decide_eq_true h)], rfl, rfl⟩
  · refine ka_ifP h ?_
    refine ka_ret rfl ?_
    exact ka_pure ⟨by rw [if_neg (fun z => h (of_decide_eq_true z))], rfl, rfl⟩
theorem ko_wantsLarge {r : kS} (hr : H r.1 = some (kc_S r)) (hL : kb_L H r.2.1 r.bs) : ka_T Z (pm_X8_wantsLarge (some r.1)) w H (ka_V w H (if v_loose r.V = 0 then 1 else 0)) := by
  unfold pm_X8_wantsLarge
  refine ka_is hr rfl (ka_use (ko_loose hr hL) ?_)
  by_cases h : v_loose r.V = 0
  · refine ka_ifN (fun z => z h) ?_
    refine ka_ret rfl ?_
    exact ka_pure ⟨by rw [if_pos h], rfl, rfl⟩
  · refine ka_ifP h ?_
    refine ka_ret rfl ?_
    exact ka_pure ⟨by rw [if_neg h], rfl, rfl⟩
theorem ko_onLoop {k : Int32} {it : Nat} {mc : Int32} (hk : k = 0 ∨ k = 1) (hS : kc_shop H s ad A) (hst : H (ad 3) = some (ka_ls mc (A.st.map (·.1)))) (hlen : A.st.length ≤ 100) (hbs : ∀ r ∈ A.st, r.bs.length < 2 ^ 16) (hit : H it = none) : ∀ (rest done : List kS) (fuel w : Nat) (lr n : Int32), A.st = done ++ rest → rest.length < fuel → 16 * rest.length ≤ w → ka_T Z (pb_X1_onOthers_10 fuel k n (some it)) w (ka_up H it (ka_it done.length lr mc (ad 3))) (fun r w' H' => r = v_on k (rest.map kS.V) n ∧ w ≤ w' + 16 * rest.length ∧ H' = H) := by
  have hi3 : ad 3 ≠ it := ka_dom hst hit
  intro rest
  induction rest with
  | nil =>
    intro done fuel w lr n hA hf hw
    obtain ⟨fuel, rfl⟩ : ∃ n, fuel = n + 1 := ⟨fuel - 1, by omega⟩
    have hA1 : done.length = A.st.length := by rw [hA, List.append_nil]
    unfold pb_X1_onOthers_10
    refine kl_dHas ka_same ((ka_ne hi3).trans hst) (by omega) (by rw [List.length_map]; omega) ?_
    rw [List.length_map, if_pos hA1]
    refine ka_ifP rfl (ka_post (ka_back hit) (fun r w' H' hp => ?_))
    obtain ⟨rfl, rfl, rfl⟩ := hp
    exact ⟨rfl, Nat.le_refl _, rfl⟩
  | cons r t ih =>
    intro done fuel w lr n hA hf hw
    obtain ⟨fuel, rfl⟩ : ∃ n, fuel = n + 1 := ⟨fuel - 1, by omega⟩
    have hAl : A.st.length = done.length + (t.length + 1) := by rw [hA, List.length_append]; rfl
    have hr : r ∈ A.st := by rw [hA]; simp
    have hr0 := kg_r hS hr
    have hL0 := (kg_rs hS hr).2
    simp only [List.length_cons] at hf hw
    have hn1 : r.1 ≠ it := ka_dom hr0 hit
    unfold pb_X1_onOthers_10
    refine kl_dHas ka_same ((ka_ne hi3).trans hst) (by omega) (by rw [List.length_map]; omega) ?_
    rw [List.length_map, if_neg (show ¬ done.length = A.st.length by omega)]
    refine ka_ifN (by decide) ?_
    refine kl_dNext (v := r.1) ka_same ((ka_ne hi3).trans hst) (by rw [hA]; simp) ?_
    rw [ka_up_up]
    have hr1 : ka_up H it (ka_it (done.length + 1) (Int32.ofNat done.length) mc (ad 3)) r.1 = some (kc_S r) := (ka_ne hn1).trans hr0
    refine ka_cast hr1 rfl rfl (ka_is hr1 rfl (ka_use (ko_isDone hr1) ?_))
    have hgo : ∀ (x : Int32) (v : Nat), x = (if v_done r.V = true then 0 else Int32.ofNat (v_of k (r.bs.map (·.2))).length) → w ≤ v + 16 → ka_T Z (pb_X1_onOthers_49 (pb_X1_onOthers_10 fuel) k (some it) x n) v (ka_up H it (ka_it (done.length + 1) (Int32.ofNat done.length) mc (ad 3))) (fun r' w' H' => r' = v_on k ((r :: t).map kS.V) n ∧ w ≤ w' + 16 * (r :: t).length ∧ H' = H) := by
      intro x v hx hv
      unfold pb_X1_onOthers_49
      have h2 := ih (done ++ [r]) fuel v (Int32.ofNat done.length) (n + x) (by rw [hA]; simp) (by omega) (by omega)
      rw [List.length_append] at h2
      refine ka_post h2 (fun r' w' H' hp => ?_)
      obtain ⟨g1, g2, g3⟩ := hp
      refine ⟨?_, by simp only [List.length_cons]; omega, g3⟩
      rw [g1, hx]
      rfl
    by_cases hd : v_done r.V = true
    · rw [if_pos hd]
      refine ka_ifN (by decide) (hgo 0 w (by rw [if_pos hd]) (by omega))
    · rw [if_neg hd]
      refine ka_ifP rfl (ka_is hr1 rfl (ka_call (kb_many (l := r.2.1) (bs := r.bs) ⟨7, _, hr1, Or.inr (Or.inl rfl)⟩ (kb_L_up hL0 hit) hk (hbs r hr) (by omega)) (fun x v K hp => ?_)))
      obtain ⟨rfl, hv, rfl⟩ := hp
      refine hgo _ v ?_ (by omega)
      rw [if_neg hd, ← kv_of, List.length_map]
theorem ko_onOthers {k : Int32} (hk : k = 0 ∨ k = 1) (hS : kc_shop H s ad A) (hlen : A.st.length ≤ 6) (hbs : ∀ r ∈ A.st, r.bs.length < 2 ^ 16) (hw : 105 ≤ w) : ka_T Z (pm_X1_onOthers (some s) k) w H (fun r w' H' => r = v_on k A.V.st 0 ∧ w ≤ w' + 105 ∧ H' = H) := by
  obtain ⟨mc, hst⟩ := kg_st hS
  have hs := kg_s hS
  unfold pm_X1_onOthers
  refine ka_gR (by first | exact ka_same | assumption | exact ka_ne1 (by first | assumption | exact Ne.symm (by assumption)) (by first | exact ka_same | assumption | exact ka_ne1 (by first | assumption | exact Ne.symm (by assumption)) (by first | exact ka_same | assumption | exact ka_ne1 (by first | assumption | exact Ne.symm (by assumption)) (by first | exact ka_same | assumption | exact ka_ne1 (by first | assumption | exact Ne.symm (by assumption)) (by first | exact ka_same | assumption | exact ka_ne1 (by first | assumption | exact Ne.symm (by assumption)) (by first | exact ka_same | assumption | exact ka_ne1 (by first | assumption | exact Ne.symm (by assumption)) (by first | exact ka_same | assumption))))))) rfl rfl ?_
  refine ka_is hst rfl (ka_call (kl_iterator hst (by omega)) (fun r v K hp => ?_))
  obtain ⟨it, rfl, hit, rfl, rfl⟩ := hp
  refine ka_post (ko_onLoop hk hS hst (by omega) hbs hit A.st [] km_fuel (w - 9) (-1) 0 rfl (by unfold km_fuel; omega) (by omega)) (fun r w' H' hp => ?_)
  obtain ⟨g1, g2, g3⟩ := hp
  exact ⟨g1, by omega, g3⟩
end KST
