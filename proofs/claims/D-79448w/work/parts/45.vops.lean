set_option maxRecDepth 100000
/-! ===== every change keeps it ===== -/
/-- a refusal has one reason or two -/
def v_ch (ch : List (Int32 × Int32)) : Prop := ∃ p, ch = [p] ∨ ∃ q, ch = [p, q]
def v_res (cc dd : Nat) (x : vR) : Prop := match x with
  | .inl ch => v_ch ch
  | .inr (_, V') => v_ok cc dd V'
section KVO
variable {cc dd : Nat} {V : kV}
theorem v_set_mem {α : Type} {l : List α} {i : Nat} {a x : α} (h : x ∈ l.set i a) : x = a ∨ x ∈ l := (List.mem_or_eq_of_mem_set h).elim Or.inr Or.inl
theorem vk_brings {n : Int32} (h : v_ok cc dd V) : v_ok cc dd (v_brings V n).2 := by
  obtain ⟨h1, h2, h3, h4, h5, h6⟩ := h
  exact ⟨h1, h2, h3, h4, h5, v_okN_perm h6 (List.Perm.refl _) rfl rfl rfl rfl (Nat.le_refl _)⟩
theorem vk_addC {e : Int32} (h : v_ok cc dd V) : v_res cc dd (v_addC V e) := by
  unfold v_addC
  split
  · exact ⟨_, Or.inl rfl⟩
  · next hn =>
    obtain ⟨h1, h2, ⟨c1, c2, c3, c4, c5⟩, h4, h5, h6⟩ := h
    refine ⟨⟨fun l hl => ?_, h1.2⟩, h2, ⟨?_, c2, c3, c4, c5⟩, h4, h5, v_okN_perm h6 (List.Perm.refl _) rfl rfl rfl rfl (Nat.le_refl _)⟩
    · rcases h1.1 l hl with e1 | ⟨j, hj, e1⟩
      · exact Or.inl e1
      · refine Or.inr ⟨j, ?_, e1⟩
        show j < (V.cs ++ [_]).length
        rw [List.length_append]
        omega
    · show (V.cs ++ [_]).length ≤ 4
      rw [List.length_append]
      simp only [List.length_cons, List.length_nil]
      omega
theorem vk_addL {e : Int32} (h : v_ok cc dd V) : v_res cc dd (v_addL V e) := by
  unfold v_addL
  split
  · exact ⟨_, Or.inl rfl⟩
  · next hn =>
    obtain ⟨h1, h2, ⟨c1, c2, c3, c4, c5⟩, h4, h5, h6⟩ := h
    have hg : ∀ {i : Nat} {l : vL}, (V.ls ++ [(e, -1)])[i]? = some l → l.2 ≠ -1 → V.ls[i]? = some l := by
      intro i l hi hl
      rw [List.getElem?_append] at hi
      split at hi
      · exact hi
      · rw [List.getElem?_cons] at hi
        split at hi
        · have := Option.some.inj hi
          subst this
          exact absurd rfl hl
        · simp at hi
    refine ⟨⟨fun l hl => ?_, fun i j l l' hi hj hll hl => ?_⟩, h2, ⟨c1, ?_, c3, c4, c5⟩, h4, h5, v_okN_perm h6 (List.Perm.refl _) rfl rfl rfl rfl (Nat.le_refl _)⟩
    · rcases List.mem_append.mp hl with e1 | e1
      · exact h1.1 l e1
      · rw [List.mem_singleton.mp e1]
        exact Or.inl rfl
    · exact h1.2 i j l l' (hg hi hl) (hg hj (by rw [← hll]; exact hl)) hll hl
    · show (V.ls ++ [_]).length ≤ 4
      rw [List.length_append]
      simp only [List.length_cons, List.length_nil]
      omega
/-- lens i is given to c; nobody else has it: c -/
theorem vk_setL {ls : List vL} {i : Nat} {c : Int32} {n : Nat} (h1 : ∀ l ∈ ls, l.2 = -1 ∨ ∃ j, j < n ∧ l.2 = Int32.ofNat j) (h2 : ∀ (i j : Nat) (l l' : vL), ls[i]? = some l → ls[j]? = some l' → l.2 = l'.2 → l.2 ≠ -1 → i = j) (hc : c = -1 ∨ ((∃ j, j < n ∧ c = Int32.ofNat j) ∧ ∀ j l, ls[j]? = some l → j ≠ i → l.2 ≠ c)) : (∀ l ∈ v_setL ls i c, l.2 = -1 ∨ ∃ j, j < n ∧ l.2 = Int32.ofNat j) ∧ ∀ (p q : Nat) (l l' : vL), (v_setL ls i c)[p]? = some l → (v_setL ls i c)[q]? = some l' → l.2 = l'.2 → l.2 ≠ -1 → p = q := by
  unfold v_setL
  have hget : ∀ {p : Nat} {l : vL}, (ls.set i ((ls.getD i (0, 0)).1, c))[p]? = some l → (p = i ∧ l.2 = c) ∨ (p ≠ i ∧ ls[p]? = some l) := by
    intro p l hp
    rw [List.getElem?_set] at hp
    by_cases e : i = p
    · rw [if_pos e] at hp
      split at hp
      · have := Option.some.inj hp
        exact Or.inl ⟨e.symm, by rw [← this]⟩
      · cases hp
    · rw [if_neg e] at hp
      exact Or.inr ⟨fun z => e z.symm, hp⟩
  refine ⟨fun l hl => ?_, fun p q l l' hp hq hll hl => ?_⟩
  · rcases v_set_mem hl with e | e
    · rw [e]
      exact hc.imp id (fun z => z.1)
    · exact h1 l e
  · rcases hget hp with ⟨a1, a2⟩ | ⟨a1, a2⟩ <;> rcases hget hq with ⟨b1, b2⟩ | ⟨b1, b2⟩
    · rw [a1, b1]
    · rcases hc with e | ⟨-, e⟩
      · exact absurd (a2.trans e) hl
      · exact absurd (by rw [← hll, a2]) (e q l' b2 b1)
    · rcases hc with e | ⟨-, e⟩
      · exact absurd (hll.trans (b2.trans e)) hl
      · exact absurd (by rw [hll, b2]) (e p l a2 a1)
    · exact h2 p q l l' a2 b2 hll hl
theorem vk_gives {i : Nat} {c : Int32} (h : v_ok cc dd V) (hc : c = -1 ∨ ∃ j, j < V.cs.length ∧ c = Int32.ofNat j) : v_ok cc dd (v_gives V i c).2 := by
  obtain ⟨h1, h2, ⟨c1, c2, c3, c4, c5⟩, h4, h5, h6⟩ := h
  have hlen : ∀ (ls : List vL) (i : Nat) (c : Int32), (v_setL ls i c).length = ls.length := fun ls i c => List.length_set
  have key : ∀ ls : List vL, ls = (if c = -1 ∨ v_lensOf V c = -6 then V.ls else v_setL V.ls (v_lensOf V c).toNatClampNeg (-1)) → ls.length = V.ls.length ∧ (∀ l ∈ ls, l.2 = -1 ∨ ∃ j, j < V.cs.length ∧ l.2 = Int32.ofNat j) ∧ (∀ (i j : Nat) (l l' : vL), ls[i]? = some l → ls[j]? = some l' → l.2 = l'.2 → l.2 ≠ -1 → i = j) ∧ (c = -1 ∨ ∀ l ∈ ls, l.2 ≠ c) := by
    intro ls hls
    by_cases hcc : c = -1 ∨ v_lensOf V c = -6
    · rw [if_pos hcc] at hls
      subst hls
      refine ⟨rfl, h1.1, h1.2, ?_⟩
      by_cases e : c = -1
      · exact Or.inl e
      · refine Or.inr ?_
        have e2 := hcc.resolve_left e
        rcases v_lens_spec (c := c) (ls := V.ls) (i := 0) (by omega) with ⟨-, e3⟩ | ⟨j, l, f1, f2, f3⟩
        · exact e3
        · have := (List.getElem?_eq_some_iff.mp f1).1
          unfold v_lensOf at e2
          rw [f3, Nat.zero_add] at e2
          exact absurd e2 (k3_m6 (by omega))
    · rw [if_neg hcc] at hls
      have e1 : ¬ c = -1 := fun z => hcc (Or.inl z)
      have e2 : ¬ v_lensOf V c = -6 := fun z => hcc (Or.inr z)
      rcases v_lens_spec (c := c) (ls := V.ls) (i := 0) (by omega) with ⟨e3, -⟩ | ⟨j, l, f1, f2, f3⟩
      · exact absurd e3 e2
      · have hj := (List.getElem?_eq_some_iff.mp f1).1
        have e4 : (v_lensOf V c).toNatClampNeg = j := by
          unfold v_lensOf
          rw [f3, Nat.zero_add, k3_nat (by omega)]
        rw [e4] at hls
        obtain ⟨g1, g2⟩ := vk_setL (i := j) (c := -1) h1.1 h1.2 (Or.inl rfl)
        rw [← hls] at g1 g2
        refine ⟨by rw [hls, hlen], g1, g2, Or.inr (fun l' hl' => ?_)⟩
        obtain ⟨p, hp⟩ := List.getElem?_of_mem hl'
        rw [hls] at hp
        unfold v_setL at hp
        by_cases e : j = p
        · subst e
          rw [List.getElem?_set_self hj] at hp
          have := Option.some.inj hp
          rw [← this]
          exact fun z => e1 z.symm
        · rw [List.getElem?_set_ne e] at hp
          exact fun z => e (h1.2 j p l l' f1 hp (by rw [f2, z]) (by rw [f2]; exact e1))
  obtain ⟨k1, k2, k3, k4⟩ := key _ rfl
  have hfin := vk_setL (i := i) (c := c) k2 k3 (by
    rcases hc with e | e
    · exact Or.inl e
    · rcases k4 with f | f
      · exact Or.inl f
      · exact Or.inr ⟨e, fun j l hj _ => f l (List.mem_of_getElem? hj)⟩)
  refine ⟨hfin, h2, ⟨c1, ?_, c3, c4, c5⟩, h4, h5, v_okN_perm h6 (List.Perm.refl _) rfl rfl rfl rfl (Nat.le_refl _)⟩
  show (v_setL _ i c).length ≤ 4
  rw [hlen, k1]
  exact c2
theorem k3_min9 {x k : Int32} (h : ¬ x < (if k = 0 then 4 else 2)) : 2 ≤ km_min 9 x ∧ km_min 9 x ≤ 9 := by
  have h2 : 2 ≤ x := by
    have h3 : (if k = 0 then (4 : Int32) else 2) ≤ x := Int32.not_lt.mp h
    refine Int32.le_trans ?_ h3
    split <;> decide
  unfold km_min
  split
  · next h9 => exact ⟨h2, Int32.le_of_lt h9⟩
  · exact ⟨by decide, by decide⟩
theorem vk_one {i : Nat} {k : Int32} (h : v_ok cc dd V) (hk : k = 0 ∨ k = 1) (hcc : cc < 1000) : v_ok (cc + 1) dd (v_one V i k).2 := by
  obtain ⟨h1, h2, ⟨c1, c2, c3, c4, c5⟩, h4, h5, h6⟩ := h
  unfold v_one
  dsimp only
  have hL : ∀ c, v_okL (V.cs.set i c, V.2) := fun c => ⟨fun l hl => (h1.1 l hl).imp id (fun ⟨j, hj, e⟩ => ⟨j, by show j < (V.cs.set i c).length; rw [List.length_set]; exact hj, e⟩), h1.2⟩
  have hC : ∀ c, (V.cs.set i c).length ≤ 4 := fun c => by rw [List.length_set]; exact c1
  by_cases hs : v_sight V i < (if k = 0 then 4 else 2)
  · rw [if_pos hs]
    refine ⟨hL _, h2, ⟨hC _, c2, c3, c4, c5⟩, h4, h5, ?_⟩
    obtain ⟨c, day, W, q⟩ := v_okN_perm (V' := (V.cs.set i ((V.cs.getD i (0, 0, 0, 0)).1, km_min 99 ((V.cs.getD i (0, 0, 0, 0)).2.1 + if k = 0 then 3 else 2), (V.cs.getD i (0, 0, 0, 0)).2.2.1, (V.cs.getD i (0, 0, 0, 0)).2.2.2 + 1), V.ls, V.bx, V.st, V.ps, V.so, V.wa, V.aw, v_num (v_num V.sc 1 (V.sc 1 - if k = 0 then 1 else 2)) 3 (V.sc 3 + 1))) h6 (List.Perm.refl _) rfl rfl rfl rfl (Nat.le_refl _)
    exact ⟨c, day, W, q.1, by omega, q.2.2⟩
  · rw [if_neg hs]
    obtain ⟨c, day, W, q1, q2, q3, q4, q5, q6, q7, q8⟩ := h6
    have hperm : (v_all (V.cs.set i ((V.cs.getD i (0, 0, 0, 0)).1, km_min 99 ((V.cs.getD i (0, 0, 0, 0)).2.1 + if k = 0 then 3 else 2), (V.cs.getD i (0, 0, 0, 0)).2.2.1 + 1, (V.cs.getD i (0, 0, 0, 0)).2.2.2), V.ls, V.bx ++ [(V.sc 2, k, km_min 9 (v_sight V i))], V.st, V.ps, V.so, V.wa, V.aw, v_num (v_num V.sc 1 (V.sc 1 - if k = 0 then 1 else 2)) 2 (V.sc 2 + 1))).Perm ((V.sc 2, k, km_min 9 (v_sight V i)) :: v_all V) := by
      unfold v_all
      rw [List.append_assoc]
      exact List.perm_middle
    have hbk : v_bok (V.sc 2, k, km_min 9 (v_sight V i)) := by
      refine ⟨?_, hk, k3_min9 hs⟩
      show 0 ≤ V.sc 2
      rw [q1]
      exact (k3_le (a := 0) (by decide) (by omega)).mpr (Nat.zero_le _)
    refine ⟨hL _, h2, ⟨hC _, c2, c3, c4, c5⟩, fun b hb => ?_, h5, c + 1, day, W, ?_, by omega, q3, q4, ?_, q6, q7, q8⟩
    · rcases List.mem_cons.mp (hperm.mem_iff.mp hb) with e | e
      · rw [e]
        exact hbk
      · exact h4 b e
    · show V.sc 2 + 1 = _
      rw [q1, k3_succ]
    · refine ((hperm.map v_num1).append_right W).trans ?_
      rw [List.map_cons, List.cons_append]
      have e1 : v_num1 (V.sc 2, k, km_min 9 (v_sight V i)) = c := by
        unfold v_num1
        show (V.sc 2).toNatClampNeg = c
        rw [q1, k3_nat (by omega)]
      rw [e1, List.range_succ]
      exact (q5.cons c).trans (List.perm_append_singleton c _).symm
theorem vk_many {i : Nat} {k : Int32} (hk : k = 0 ∨ k = 1) : ∀ (m : Nat) (n : Int32) (V : kV) (cc : Nat), v_ok cc dd V → cc + m < 1000 → v_ok (cc + m) dd (v_many i k m n V).2 := by
  intro m
  induction m with
  | zero => intro n V cc h _; exact h
  | succ m ih =>
    intro n V cc h hcc
    have h2 := ih (n + (v_one V i k).1) (v_one V i k).2 (cc + 1) (vk_one h hk (by omega)) (by omega)
    rw [show cc + (m + 1) = cc + 1 + m by omega]
    exact h2
theorem vk_carves {i m : Nat} {k : Int32} (h : v_ok cc dd V) (hk : k = 0 ∨ k = 1) (hm : m ≤ 10) (hcc : cc + 10 < 1000) : v_res (cc + 10) dd (v_carves V i k m) := by
  unfold v_carves
  dsimp only
  generalize Int32.ofNat m * (if k = 0 then 1 else 2) - V.sc 1 = lk
  split
  · exact ⟨_, Or.inl rfl⟩
  · split
    · exact ⟨_, Or.inl rfl⟩
    · split
      · exact ⟨_, Or.inl rfl⟩
      · exact v_ok_mono (vk_many hk m 0 V cc h (by omega)) (by omega) (Nat.le_refl _)
theorem vk_begins {g m : Int32} {a b : Nat} (h : v_ok cc dd V) (hg : g = Int32.ofNat a) (hm : m = Int32.ofNat b) (h1 : 1 ≤ a) (h2 : a ≤ 4) (h3 : 1 ≤ b) (h4 : b ≤ 6) : v_res cc dd (v_begins V g m) := by
  unfold v_begins
  split
  · exact ⟨_, Or.inl rfl⟩
  · next hn =>
    obtain ⟨k1, k2, ⟨c1, c2, c3, c4, c5⟩, k4, k5, k6⟩ := h
    have hall : v_all (V.cs, V.ls, V.bx, V.st ++ [(g, m, 0, [])], V.2.2.2.2) = v_all V := by
      unfold v_all
      show V.bx ++ ((V.st ++ [(g, m, 0, [])]).flatMap vS.bs ++ _) = _
      rw [List.flatMap_append]
      simp [vS.bs]
    refine ⟨k1, k2, ⟨c1, c2, ?_, c4, c5⟩, ?_, fun r hr => ?_, v_okN_perm k6 (by rw [hall]) rfl rfl rfl rfl (Nat.le_refl _)⟩
    · show (V.st ++ [_]).length ≤ 6
      rw [List.length_append]
      simp only [List.length_cons, List.length_nil]
      omega
    · intro b hb
      rw [hall] at hb
      exact k4 b hb
    · rcases List.mem_append.mp hr with e | e
      · exact k5 r e
      · rw [List.mem_singleton.mp e]
        exact ⟨a, b, 0, hg, hm, rfl, h1, h2, h3, h4, Nat.zero_le _, by rw [Nat.zero_mul]; exact Nat.zero_le _, Nat.zero_le _, Nat.zero_le _, fun p b hb => (by have hb2 : ([] : List vB)[p]? = some b := hb; simp at hb2)⟩
/-- a bead is taken: what is left -/
theorem v_fin_mem : ∀ (bs : List vB) (x : Option vB) (b : vB), v_fin x bs = some b → b ∈ bs ∨ x = some b := by
  intro bs
  induction bs with
  | nil => intro x b h; cases x <;> exact Or.inr h
  | cons c t ih =>
    intro x b h
    cases x with
    | none =>
      rcases ih (some c) b h with e | e
      · exact Or.inl (List.mem_cons_of_mem _ e)
      · cases e
        exact Or.inl List.mem_cons_self
    | some d =>
      unfold v_fin at h
      split at h
      · rcases ih (some c) b h with e | e
        · exact Or.inl (List.mem_cons_of_mem _ e)
        · cases e
          exact Or.inl List.mem_cons_self
      · rcases ih (some d) b h with e | e
        · exact Or.inl (List.mem_cons_of_mem _ e)
        · exact Or.inr e
theorem v_weak_mem : ∀ (bs : List vB) (x : Option vB) (b : vB), v_weak x bs = some b → b ∈ bs ∨ x = some b := by
  intro bs
  induction bs with
  | nil => intro x b h; cases x <;> exact Or.inr h
  | cons c t ih =>
    intro x b h
    cases x with
    | none =>
      rcases ih (some c) b h with e | e
      · exact Or.inl (List.mem_cons_of_mem _ e)
      · cases e
        exact Or.inl List.mem_cons_self
    | some d =>
      unfold v_weak at h
      split at h
      · rcases ih (some c) b h with e | e
        · exact Or.inl (List.mem_cons_of_mem _ e)
        · cases e
          exact Or.inl List.mem_cons_self
      · rcases ih (some d) b h with e | e
        · exact Or.inl (List.mem_cons_of_mem _ e)
        · exact Or.inr e
theorem v_takes_spec {k : Int32} (h : v_okN cc dd V) : (∃ p q, v_takes V k = .inl [p, q]) ∨ ∃ b, v_takes V k = .inr (b, V.cs, V.ls, V.bx.filter (fun c => decide (c.1 ≠ b.1)), V.2.2.2) ∧ b ∈ V.bx ∧ b.2.1 = k ∧ V.bx.Perm (b :: V.bx.filter (fun c => decide (c.1 ≠ b.1))) ∧ v_fin none (v_of k V.bx) = some b := by
  unfold v_takes
  cases hf : v_fin none (v_of k V.bx) with
  | none => exact Or.inl ⟨_, _, rfl⟩
  | some b =>
    have hb : b ∈ v_of k V.bx := by
      rcases v_fin_mem _ _ _ hf with e | e
      · exact e
      · cases e
    obtain ⟨hb1, hb2⟩ := List.mem_filter.mp hb
    exact Or.inr ⟨b, rfl, hb1, of_decide_eq_true hb2, kp_filter (v_nd_bx h) hb1, rfl⟩
theorem v_all_thread {i : Nat} {r r' : vS} {b : vB} {bx : List vB} (hi : V.st[i]? = some r) (hr : r'.bs = r.bs ++ [b]) (hb : V.bx.Perm (b :: bx)) : (v_all (V.cs, V.ls, bx, V.st.set i r', V.2.2.2.2)).Perm (v_all V) := by
  have h1 := kp_set (f := vS.bs) (a' := r') hi
  have h2 := kp_get (f := vS.bs) hi
  refine List.perm_iff_count.mpr (fun x => ?_)
  have e1 := h1.count_eq x
  have e2 := h2.count_eq x
  have e3 := hb.count_eq x
  rw [hr] at e1
  unfold v_all
  show List.count x (bx ++ ((V.st.set i r').flatMap vS.bs ++ _)) = List.count x (V.bx ++ (V.st.flatMap vS.bs ++ _))
  simp only [List.count_append, List.count_cons, List.count_nil] at e1 e2 e3 ⊢
  show _ + (_ + (List.count x (V.so.flatMap vD.bs) + List.count x (V.wa.flatMap vD.bs))) = _ + (_ + (List.count x (V.so.flatMap vD.bs) + List.count x (V.wa.flatMap vD.bs)))
  omega
theorem vk_thread {i : Nat} (h : v_ok cc dd V) (hi : i < V.st.length) : v_res cc dd (v_thread V i) := by
  have hri := List.getElem?_eq_getElem hi
  have hrm := List.getElem_mem hi
  have hrd : V.st.getD i (0, 0, 0, []) = V.st[i] := by rw [List.getD, hri]; rfl
  unfold v_thread
  dsimp only
  rw [hrd]
  split
  · exact ⟨_, Or.inl rfl⟩
  · next hd =>
    split
    · exact ⟨_, Or.inl rfl⟩
    · next hwh =>
      obtain ⟨k1, k2, ⟨c1, c2, c3, c4, c5⟩, k4, k5, k6⟩ := h
      rcases v_takes_spec (k := if v_loose V.st[i] = 0 then 1 else 0) k6 with ⟨p, q, e⟩ | ⟨b, e, hb, hbk, hbp, -⟩
      · rw [e]
        exact ⟨p, Or.inr ⟨q, rfl⟩⟩
      · rw [e]
        obtain ⟨g, m, k, hs⟩ := k5 _ hrm
        have hlg := v_sok_large hs (fun z => hwh ((v_sok_whole hs).mpr z))
        have hnw : ¬ (V.st[i]).bs.length = (k + 1) * (m + 1) := fun z => hwh ((v_sok_whole hs).mpr z)
        have hnd : ¬ k = g := fun z => hd ((v_sok_done hs).mpr z)
        obtain ⟨s1, s2, s3, s4, s5, s6, s7, s8, s9, s10, s11, s12⟩ := hs
        have hp := v_all_thread (V := V) (r' := ((V.st[i]).1, (V.st[i]).2.1, (V.st[i]).2.2.1, (V.st[i]).bs ++ [b])) hri rfl hbp
        refine ⟨k1, k2, ⟨c1, c2, ?_, c4, c5⟩, v_okB_perm k4 hp, fun r hr => ?_, v_okN_perm k6 hp rfl rfl rfl rfl (Nat.le_refl _)⟩
        · show (V.st.set i _).length ≤ 6
          rw [List.length_set]
          exact c3
        · rcases v_set_mem hr with e5 | e5
          · rw [e5]
            have hkg : (k + 1) * (m + 1) ≤ g * (m + 1) := Nat.mul_le_mul_right _ (by omega)
            refine ⟨g, m, k, s1, s2, s3, s4, s5, s6, s7, s8, ?_, ?_, ?_, fun p b' hb' => ?_⟩
            · show _ ≤ ((V.st[i]).bs ++ [b]).length
              rw [List.length_append]
              omega
            · show ((V.st[i]).bs ++ [b]).length ≤ _
              rw [List.length_append]
              simp only [List.length_cons, List.length_nil]
              omega
            · show ((V.st[i]).bs ++ [b]).length ≤ _
              rw [List.length_append]
              simp only [List.length_cons, List.length_nil]
              omega
            · have hb2 : ((V.st[i]).bs ++ [b])[p]? = some b' := hb'
              rw [List.getElem?_append] at hb2
              split at hb2
              · exact s12 p b' hb2
              · next hp2 =>
                rw [List.getElem?_cons] at hb2
                split at hb2
                · next hp3 =>
                  have e6 := Option.some.inj hb2
                  have e7 : p = (V.st[i]).bs.length := by omega
                  rw [← e6, hbk, e7]
                  by_cases h0 : v_loose V.st[i] = 0
                  · rw [if_pos h0, if_pos (hlg.mp h0)]
                  · rw [if_neg h0, if_neg (fun z => h0 (hlg.mpr z))]
                · simp at hb2
          · exact k5 r e5
theorem v_thread_len {i : Nat} {n : Int32} {W : kV} (h : v_thread V i = .inr (n, W)) : W.st.length = V.st.length := by
  unfold v_thread at h
  dsimp only at h
  split at h
  · cases h
  · split at h
    · cases h
    · unfold v_takes at h
      split at h
      · cases h
      · next b W2 e =>
        cases h
        split at e
        · cases e
        · cases e
          exact List.length_set
theorem vk_threads {i : Nat} : ∀ (m : Nat) (last : Int32) (V : kV), v_ok cc dd V → i < V.st.length → v_res cc dd (v_threads i m last V) := by
  intro m
  induction m with
  | zero => intro last V h _; exact h
  | succ m ih =>
    intro last V h hi
    unfold v_threads
    have h2 := vk_thread h hi
    cases hx : v_thread V i with
    | inl ch =>
      rw [hx] at h2
      exact h2
    | inr p =>
      obtain ⟨n, W⟩ := p
      rw [hx] at h2
      exact ih n W h2 (by rw [v_thread_len hx]; exact hi)
theorem vk_ties {i : Nat} (h : v_ok cc dd V) (hi : i < V.st.length) : v_res cc dd (v_ties V i) := by
  have hri := List.getElem?_eq_getElem hi
  have hrm := List.getElem_mem hi
  have hrd : V.st.getD i (0, 0, 0, []) = V.st[i] := by rw [List.getD, hri]; rfl
  unfold v_ties
  dsimp only
  rw [hrd]
  split
  · exact ⟨_, Or.inl rfl⟩
  · next hd =>
    split
    · exact ⟨_, Or.inl rfl⟩
    · next hwh =>
      obtain ⟨k1, k2, ⟨c1, c2, c3, c4, c5⟩, k4, k5, k6⟩ := h
      obtain ⟨g, m, k, hs⟩ := k5 _ hrm
      have hw2 := (v_sok_whole hs).mp (by simpa using hwh)
      have hnd : ¬ k = g := fun z => hd ((v_sok_done hs).mpr z)
      obtain ⟨s1, s2, s3, s4, s5, s6, s7, s8, s9, s10, s11, s12⟩ := hs
      have hp : (v_all (v_setS V i ((V.st[i]).1, (V.st[i]).2.1, (V.st[i]).2.2.1 + 1, (V.st[i]).bs))).Perm (v_all V) := by
        have h1 := kp_set (f := vS.bs) (a' := ((V.st[i]).1, (V.st[i]).2.1, (V.st[i]).2.2.1 + 1, (V.st[i]).bs)) hri
        have h2 := kp_get (f := vS.bs) hri
        exact (((h1.trans h2.symm).append_right _).append_left _)
      refine ⟨k1, k2, ⟨c1, c2, ?_, c4, c5⟩, v_okB_perm k4 hp, fun r hr => ?_, v_okN_perm k6 hp rfl rfl rfl rfl (Nat.le_refl _)⟩
      · show (V.st.set i _).length ≤ 6
        rw [List.length_set]
        exact c3
      · rcases v_set_mem hr with e5 | e5
        · rw [e5]
          refine ⟨g, m, k + 1, s1, s2, ?_, s4, s5, s6, s7, by omega, ?_, ?_, s11, s12⟩
          · show (V.st[i]).2.2.1 + 1 = _
            rw [s3, k3_succ]
          · show _ ≤ (V.st[i]).bs.length
            omega
          · show (V.st[i]).bs.length ≤ _
            rw [hw2]
            exact Nat.mul_le_mul_right _ (by omega)
        · exact k5 r e5
theorem v_drop_spec : ∀ (d : Nat) (bx bs : List vB), d ≤ bs.length → ((v_drop d bx bs).1 ++ (v_drop d bx bs).2).Perm (bx ++ bs) ∧ (v_drop d bx bs).2 = bs.take (bs.length - d) ∧ (v_drop d bx bs).1.length = bx.length + d := by
  intro d
  induction d with
  | zero =>
    intro bx bs _
    exact ⟨List.Perm.refl _, by show bs = _; rw [Nat.sub_zero, List.take_length], rfl⟩
  | succ d ih =>
    intro bx bs hd
    have hne : bs ≠ [] := by intro z; rw [z] at hd; simp at hd
    have hl : bs.getLast?.toList = [bs.getLast hne] := by rw [List.getLast?_eq_some_getLast hne]; rfl
    have hdl : bs.dropLast.length = bs.length - 1 := List.length_dropLast ..
    obtain ⟨e1, e2, e3⟩ := ih (bx ++ bs.getLast?.toList) bs.dropLast (by omega)
    refine ⟨e1.trans ?_, ?_, ?_⟩
    · rw [hl, List.append_assoc]
      refine List.Perm.append_left _ ?_
      have h5 : bs.dropLast ++ [bs.getLast hne] = bs := List.dropLast_concat_getLast hne
      have h6 : ([bs.getLast hne] ++ bs.dropLast).Perm (bs.dropLast ++ [bs.getLast hne]) := List.perm_append_comm
      rw [h5] at h6
      exact h6
    · show (v_drop d _ _).2 = _
      rw [e2, hdl, List.dropLast_eq_take, List.take_take]
      congr 1
      omega
    · show (v_drop d _ _).1.length = _
      rw [e3, List.length_append, hl]
      simp only [List.length_cons, List.length_nil]
      omega
theorem vk_drops {i : Nat} (h : v_ok cc dd V) (hi : i < V.st.length) : v_ok cc dd (v_drops V i).2 := by
  have hri := List.getElem?_eq_getElem hi
  have hrm := List.getElem_mem hi
  have hrd : V.st.getD i (0, 0, 0, []) = V.st[i] := by rw [List.getD, hri]; rfl
  unfold v_drops
  dsimp only
  rw [hrd]
  obtain ⟨k1, k2, ⟨c1, c2, c3, c4, c5⟩, k4, k5, k6⟩ := h
  obtain ⟨g, m, k, hs⟩ := k5 _ hrm
  obtain ⟨l1, l2, l3⟩ := v_sok_loose hs
  rw [l1, k3_nat (by omega)]
  obtain ⟨s1, s2, s3, s4, s5, s6, s7, s8, s9, s10, s11, s12⟩ := hs
  obtain ⟨d1, d2, d3⟩ := v_drop_spec ((V.st[i]).bs.length - k * (m + 1)) V.bx (V.st[i]).bs (by omega)
  have e0 : (V.st[i]).bs.length - ((V.st[i]).bs.length - k * (m + 1)) = k * (m + 1) := by omega
  rw [e0] at d2
  generalize v_drop ((V.st[i]).bs.length - k * (m + 1)) V.bx (V.st[i]).bs = q at d1 d2 d3 ⊢
  have hp : (v_all (V.cs, V.ls, q.1, V.st.set i ((V.st[i]).1, (V.st[i]).2.1, (V.st[i]).2.2.1, q.2), V.2.2.2.2)).Perm (v_all V) := by
    have h1 := kp_set (f := vS.bs) (a' := ((V.st[i]).1, (V.st[i]).2.1, (V.st[i]).2.2.1, q.2)) hri
    have h2 := kp_get (f := vS.bs) hri
    refine List.perm_iff_count.mpr (fun x => ?_)
    have e1 : List.count x ((V.st.set i ((V.st[i]).1, (V.st[i]).2.1, (V.st[i]).2.2.1, q.2)).flatMap vS.bs) = List.count x (q.2 ++ (V.st.eraseIdx i).flatMap vS.bs) := h1.count_eq x
    have e2 := h2.count_eq x
    have e3 := d1.count_eq x
    unfold v_all
    show List.count x (q.1 ++ ((V.st.set i ((V.st[i]).1, (V.st[i]).2.1, (V.st[i]).2.2.1, q.2)).flatMap vS.bs ++ (V.so.flatMap vD.bs ++ V.wa.flatMap vD.bs))) = List.count x (V.bx ++ (V.st.flatMap vS.bs ++ (V.so.flatMap vD.bs ++ V.wa.flatMap vD.bs)))
    simp only [List.count_append] at e1 e2 e3 ⊢
    omega
  refine ⟨k1, k2, ⟨c1, c2, ?_, c4, c5⟩, v_okB_perm k4 hp, fun r hr => ?_, v_okN_perm k6 hp rfl rfl rfl rfl (Nat.le_refl _)⟩
  · show (V.st.set i _).length ≤ 6
    rw [List.length_set]
    exact c3
  · rcases v_set_mem hr with e5 | e5
    · rw [e5]
      have hlen : (List.take (k * (m + 1)) (V.st[i]).bs).length = k * (m + 1) := by rw [List.length_take]; omega
      refine ⟨g, m, k, s1, s2, s3, s4, s5, s6, s7, s8, ?_, ?_, ?_, fun p b hb => ?_⟩
      · show _ ≤ q.2.length
        rw [d2, hlen]
        exact Nat.le_refl _
      · show q.2.length ≤ _
        rw [d2, hlen]
        exact Nat.mul_le_mul_right _ (by omega)
      · show q.2.length ≤ _
        rw [d2, hlen]
        exact Nat.mul_le_mul_right _ s8
      · have hb2 : q.2[p]? = some b := hb
        rw [d2, List.getElem?_take] at hb2
        split at hb2
        · exact s12 p b hb2
        · cases hb2
    · exact k5 r e5
theorem vk_tells {a b c d : Int32} (h : v_ok cc dd V) : v_res cc dd (v_tells V a b c d) := by
  unfold v_tells
  dsimp only
  split
  · exact ⟨_, Or.inl rfl⟩
  · obtain ⟨k1, k2, ⟨c1, c2, c3, c4, c5⟩, k4, k5, k6⟩ := h
    refine ⟨k1, k2, ⟨c1, c2, c3, ?_, c5⟩, k4, k5, v_okN_perm k6 (List.Perm.refl _) rfl rfl rfl rfl (Nat.le_refl _)⟩
    show (V.ps ++ [_]).length ≤ 6
    rw [List.length_append]
    simp only [List.length_cons, List.length_nil]
    omega
end KVO
