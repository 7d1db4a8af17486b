set_option maxRecDepth 100000
/-! ===== mends, days keep it ===== -/
section KVD
variable {cc dd : Nat} {V : kV}
theorem v_adds_mem : ∀ (bs : List vB) (f : Nat → Bool) (n : Nat), v_adds f bs n = true ↔ f n = true ∨ n ∈ bs.map v_num1 := by
  intro bs
  induction bs with
  | nil => intro f n; simp [v_adds]
  | cons b t ih =>
    intro f n
    unfold v_adds
    rw [ih, List.map_cons, List.mem_cons]
    unfold kn_add
    rw [Bool.or_eq_true, decide_eq_true_iff]
    show (_ ∨ n = v_num1 b) ∨ _ ↔ _
    constructor
    · rintro ((h | h) | h)
      · exact Or.inl h
      · exact Or.inr (Or.inl h)
      · exact Or.inr (Or.inr h)
    · rintro (h | h | h)
      · exact Or.inl (Or.inl h)
      · exact Or.inl (Or.inr h)
      · exact Or.inr h
theorem vk_mends (h : v_ok cc dd V) : v_res cc dd (v_mends V) := by
  unfold v_mends
  split
  · exact ⟨_, Or.inl rfl⟩
  · next d rest hwa =>
    have hdm : d ∈ V.wa := by rw [hwa]; exact List.mem_cons_self
    obtain ⟨c, hc, hcb⟩ := (h.2.1.2 d hdm).1
    rw [hc]
    dsimp only
    obtain ⟨k1, k2, ⟨c1, c2, c3, c4, c5⟩, k4, k5, k6⟩ := h
    rcases v_takes_spec (k := c.2.1) k6 with ⟨p, q, e⟩ | ⟨b, e, hb, hbk, hbp, -⟩
    · rw [e]
      exact ⟨p, Or.inr ⟨q, rfl⟩⟩
    · rw [e]
      have e4 : v_all V = V.bx ++ (V.st.flatMap vS.bs ++ (V.so.flatMap vD.bs ++ (d.bs ++ rest.flatMap vD.bs))) := by
        unfold v_all
        rw [hwa]
        rfl
      have hp : (d.bs ++ (b :: (V.bx.filter (fun c => decide (c.1 ≠ b.1)) ++ (V.st.flatMap vS.bs ++ (V.so.flatMap vD.bs ++ rest.flatMap vD.bs))))).Perm (v_all V) := by
        refine List.perm_iff_count.mpr (fun x => ?_)
        have e3 := hbp.count_eq x
        rw [e4]
        simp only [List.count_append, List.count_cons] at e3 ⊢
        omega
      have hsub : ∀ x, x ∈ V.bx.filter (fun c => decide (c.1 ≠ b.1)) ++ (V.st.flatMap vS.bs ++ (V.so.flatMap vD.bs ++ rest.flatMap vD.bs)) → x ∈ v_all V := fun x hx => hp.mem_iff.mp (List.mem_append_right _ (List.mem_cons_of_mem _ hx))
      refine ⟨k1, ⟨k2.1, fun e he => k2.2 e (by rw [hwa]; exact List.mem_cons_of_mem _ he)⟩, ⟨c1, c2, c3, c4, c5⟩, fun x hx => k4 x (hsub x hx), k5, ?_⟩
      obtain ⟨c0, day, W, q1, q2, q3, q4, q5, q6, q7, q8⟩ := k6
      refine ⟨c0, day, d.bs.map v_num1 ++ (v_num1 b :: W), q1, q2, q3, q4, ?_, fun n => ?_, ?_, ?_⟩
      · refine List.Perm.trans ?_ q5
        have h2 := (hp.map v_num1).append_right W
        refine List.Perm.trans ?_ h2
        refine List.perm_iff_count.mpr (fun x => ?_)
        show List.count x ((V.bx.filter (fun c => decide (c.1 ≠ b.1)) ++ (V.st.flatMap vS.bs ++ (V.so.flatMap vD.bs ++ rest.flatMap vD.bs))).map v_num1 ++ (d.bs.map v_num1 ++ (v_num1 b :: W))) = _
        simp only [List.map_append, List.map_cons, List.count_append, List.count_cons]
        omega
      · show v_adds (kn_add V.aw b.1.toNatClampNeg) d.bs n = true ↔ _
        rw [v_adds_mem, List.mem_append, List.mem_cons]
        unfold kn_add
        rw [Bool.or_eq_true, decide_eq_true_iff, q6]
        show ((n ∈ W ∨ n = v_num1 b) ∨ _) ↔ _
        constructor
        · rintro ((h | h) | h)
          · exact Or.inr (Or.inr h)
          · exact Or.inr (Or.inl h)
          · exact Or.inl h
        · rintro (h | h | h)
          · exact Or.inr h
          · exact Or.inl (Or.inr h)
          · exact Or.inl (Or.inl h)
      · show V.sc 7 + (V.sc 8 + (Int32.ofNat d.bs.length + 1)) = _
        rw [← Int32.add_assoc, q7, k3_succ, k3_add, List.length_append, List.length_map, List.length_cons]
        congr 1
        omega
      · show rest.length ≤ _
        rw [hwa, List.length_cons] at q8
        rw [List.length_append, List.length_cons]
        omega
theorem v_weak_some : ∀ (bs : List vB) (c : vB), ∃ b, v_weak (some c) bs = some b := by
  intro bs
  induction bs with
  | nil => intro c; exact ⟨c, rfl⟩
  | cons b t ih =>
    intro c
    show ∃ b', v_weak (if b.2.2 < c.2.2 then some b else some c) t = some b'
    split
    · exact ih b
    · exact ih c
theorem v_weak_ne {bs : List vB} (h : bs ≠ []) : ∃ b, v_weak none bs = some b ∧ b ∈ bs := by
  cases bs with
  | nil => exact absurd rfl h
  | cons b t =>
    obtain ⟨c, hc⟩ := v_weak_some t b
    refine ⟨c, hc, ?_⟩
    rcases v_weak_mem _ none _ (show v_weak none (b :: t) = some c from hc) with e | e
    · exact e
    · cases e
/-- the workshop in the midst of what comes back -/
abbrev v_mid (V : kV) (so wa : List vD) (aw : Nat → Bool) (n : Int32) : kV := (V.cs, V.ls, V.bx, V.st, V.ps, so, wa, aw, v_num V.sc 7 n)
theorem vk_back : ∀ (rest out wa : List vD) (aw : Nat → Bool) (n : Int32), v_ok cc dd (v_mid V (out ++ rest) wa aw n) → ∃ out' wa' aw' n', v_back (V.sc 0) rest out wa aw n = (out', wa', aw', n') ∧ v_ok cc dd (v_mid V out' wa' aw' n') ∧ out'.length + wa'.length = out.length + rest.length + wa.length ∧ wa.length ≤ wa'.length := by
  intro rest
  induction rest with
  | nil =>
    intro out wa aw n h
    rw [List.append_nil] at h
    exact ⟨out, wa, aw, n, rfl, h, by simp, Nat.le_refl _⟩
  | cons d t ih =>
    intro out wa aw n h
    rw [v_back]
    by_cases h1 : V.sc 0 < v_last d
    · rw [if_pos h1]
      obtain ⟨out', wa', aw', n', e1, e2, e3, e4⟩ := ih (out ++ [d]) wa aw n (by rw [List.append_assoc]; exact h)
      refine ⟨out', wa', aw', n', e1, e2, ?_, e4⟩
      rw [e3, List.length_append]
      simp only [List.length_cons, List.length_nil]
      omega
    · rw [if_neg h1]
      have hdm : d ∈ (v_mid V (out ++ d :: t) wa aw n).so := List.mem_append_right _ List.mem_cons_self
      obtain ⟨-, hd2, hd3⟩ := h.2.1.1 d hdm
      obtain ⟨b, hb, hbm⟩ := v_weak_ne (bs := d.bs) (fun z => by rw [z] at hd2; simp at hd2)
      rw [hb]
      dsimp only
      have hnd := v_nd_so h.2.2.2.2.2 hdm
      have hbp := kp_filter hnd hbm
      have hfl : (d.bs.filter (fun c => decide (c.1 ≠ b.1))).length + 1 = d.bs.length := by
        have := hbp.length_eq
        rw [List.length_cons] at this
        omega
      have hbok := h.2.2.2.1 b (v_all_so hdm hbm)
      obtain ⟨k1, k2, ⟨c1, c2, c3, c4, c5⟩, k4, k5, k6⟩ := h
      have hp : (b :: (V.bx ++ (V.st.flatMap vS.bs ++ ((out ++ t).flatMap vD.bs ++ (wa ++ [(d.1, some b, d.bs.filter (fun c => decide (c.1 ≠ b.1)))]).flatMap vD.bs)))).Perm (V.bx ++ (V.st.flatMap vS.bs ++ ((out ++ d :: t).flatMap vD.bs ++ wa.flatMap vD.bs))) := by
        refine List.perm_iff_count.mpr (fun x => ?_)
        have e3 := hbp.count_eq x
        have e4 : [(d.1, some b, d.bs.filter (fun c => decide (c.1 ≠ b.1)))].flatMap vD.bs = d.bs.filter (fun c => decide (c.1 ≠ b.1)) := by simp [vD.bs]
        simp only [List.flatMap_append, e4, List.flatMap_cons, List.count_append, List.count_cons] at e3 ⊢
        omega
      obtain ⟨out', wa', aw', n', e1, e2, e3, e4⟩ := ih out (wa ++ [(d.1, some b, d.bs.filter (fun c => decide (c.1 ≠ b.1)))]) (kn_add aw b.1.toNatClampNeg) (n + 1) ⟨k1, ⟨fun e he => k2.1 e (by
        rcases List.mem_append.mp he with e5 | e5
        · exact List.mem_append_left _ e5
        · exact List.mem_append_right _ (List.mem_cons_of_mem _ e5)), fun e he => by
        rcases List.mem_append.mp he with e5 | e5
        · exact k2.2 e e5
        · rw [List.mem_singleton.mp e5]
          exact ⟨⟨b, rfl, hbok⟩, by show 1 ≤ (d.bs.filter _).length; omega, by show (d.bs.filter _).length ≤ 28; omega⟩⟩, ⟨c1, c2, c3, c4, by
          have c6 : (out ++ d :: t).length ≤ 8 := c5
          show (out ++ t).length ≤ 8
          rw [List.length_append] at c6 ⊢
          simp only [List.length_cons] at c6
          omega⟩, fun x hx => k4 x (hp.mem_iff.mp (List.mem_cons_of_mem _ hx)), k5, by
          obtain ⟨c0, day, W, q1, q2, q3, q4, q5, q6, q7, q8⟩ := k6
          refine ⟨c0, day, v_num1 b :: W, q1, q2, q3, q4, ?_, fun m => ?_, ?_, ?_⟩
          · refine List.Perm.trans ?_ q5
            refine List.Perm.trans ?_ ((hp.map v_num1).append_right W)
            rw [List.map_cons, List.cons_append]
            exact List.perm_middle
          · show kn_add aw b.1.toNatClampNeg m = true ↔ _
            unfold kn_add
            rw [Bool.or_eq_true, decide_eq_true_iff, List.mem_cons, q6]
            exact Or.comm
          · have q9 : n + V.sc 8 = Int32.ofNat W.length := q7
            show n + 1 + V.sc 8 = _
            rw [Int32.add_assoc, Int32.add_comm 1, ← Int32.add_assoc, q9, k3_succ]
            rfl
          · show (wa ++ [_]).length ≤ _
            have q9 : wa.length ≤ W.length := q8
            rw [List.length_append, List.length_cons]
            simp only [List.length_cons, List.length_nil]
            omega⟩
      refine ⟨out', wa', aw', n', e1, e2, ?_, ?_⟩
      · rw [e3, List.length_append]
        simp only [List.length_cons, List.length_nil]
        omega
      · rw [List.length_append] at e4
        omega
theorem vk_come (h : v_ok cc dd V) : v_ok cc dd (v_come V) ∧ (v_come V).ps = V.ps ∧ (v_come V).so.length + (v_come V).wa.length = V.so.length + V.wa.length := by
  have e : v_mid V ([] ++ V.so) V.wa V.aw (V.sc 7) = V := by
    show (V.cs, V.ls, V.bx, V.st, V.ps, V.so, V.wa, V.aw, v_num V.sc 7 (V.sc 7)) = V
    have e2 : v_num V.sc 7 (V.sc 7) = V.sc := by
      funext j
      unfold v_num
      split
      · next h => rw [h]
      · rfl
    rw [e2]
  obtain ⟨out, wa, aw, n, e1, e2, e3, -⟩ := vk_back (cc := cc) (dd := dd) (V := V) V.so [] V.wa V.aw (V.sc 7) (by rw [e]; exact h)
  unfold v_come
  rw [e1]
  refine ⟨e2, rfl, ?_⟩
  show out.length + wa.length = _
  rw [e3]
  simp
theorem v_want_done {p : vP} {all : List vS} : ∀ (rest done : List vS) (best : Int32), all = done ++ rest → all.length < 1000 → (best = -6 ∨ ∃ j r, all[j]? = some r ∧ best = Int32.ofNat j ∧ v_done r = true) → (v_want p all rest done.length best = -6 ∨ ∃ j r, all[j]? = some r ∧ v_want p all rest done.length best = Int32.ofNat j ∧ v_done r = true) := by
  intro rest
  induction rest with
  | nil => intro done best _ _ h; exact h
  | cons r t ih =>
    intro done best hA hl h
    rw [v_want]
    have h2 := fun b hb => ih (done ++ [r]) b (by rw [hA]; simp) hl hb
    rw [List.length_append] at h2
    split
    · next hy => exact h2 _ (Or.inr ⟨done.length, r, by rw [hA]; simp, rfl, hy.1⟩)
    · exact h2 _ h
theorem vk_buys {p : vP} (h : v_ok cc dd V) : v_ok cc dd (v_buys V p).2 := by
  unfold v_buys
  dsimp only
  by_cases h6 : v_wanted V p = -6
  · rw [if_pos h6]
    exact h
  · rw [if_neg h6]
    have hdn : ∃ j r, V.st[j]? = some r ∧ v_wanted V p = Int32.ofNat j ∧ v_done r = true := by
      have h7 : v_wanted V p = v_want p V.st V.st 0 (-6) := by
        unfold v_wanted
        rw [if_neg (fun z => h6 (by unfold v_wanted; rw [if_pos z]))]
      rcases v_want_done (p := p) V.st [] (-6) rfl (by have := h.2.2.1.2.2.1; rw [List.nil_append]; omega) (Or.inl rfl) with e | ⟨j, r, e1, e2, e3⟩
      · exact absurd (h7.trans e) h6
      · exact ⟨j, r, e1, h7.trans e2, e3⟩
    obtain ⟨j, r, hj, he, hdone⟩ := hdn
    obtain ⟨hso, -⟩ := (v_wanted_spec V p).resolve_left h6
    have hjl := (List.getElem?_eq_some_iff.mp hj).1
    obtain ⟨k1, k2, ⟨c1, c2, c3, c4, c5⟩, k4, k5, k6⟩ := h
    rw [he, k3_nat (by omega)]
    have hrd : V.st.getD j (0, 0, 0, []) = r := by rw [List.getD, hj]; rfl
    rw [hrd]
    obtain ⟨g, m, k, hs⟩ := k5 _ (List.mem_of_getElem? hj)
    have hkg := (v_sok_done hs).mp hdone
    obtain ⟨l1, l2, l3⟩ := v_sok_loose hs
    obtain ⟨s1, s2, s3, s4, s5, s6, s7, s8, s9, s10, s11, s12⟩ := hs
    have hge : 2 ≤ r.bs.length := by
      have : 1 * 2 ≤ k * (m + 1) := Nat.mul_le_mul (by omega) (by omega)
      omega
    have hp : (v_all (V.cs, V.ls, V.bx, V.st.eraseIdx j, V.ps, V.so ++ [(V.sc 0, none, r.bs)], V.wa, V.aw, v_num (v_num V.sc 6 (V.sc 6 + p.2.2.2)) 4 (V.sc 4 + 1))).Perm (v_all V) := by
      have h2 := kp_get (f := vS.bs) hj
      refine List.perm_iff_count.mpr (fun x => ?_)
      have e2 := h2.count_eq x
      unfold v_all
      show List.count x (V.bx ++ ((V.st.eraseIdx j).flatMap vS.bs ++ ((V.so ++ [(V.sc 0, none, r.bs)]).flatMap vD.bs ++ V.wa.flatMap vD.bs))) = List.count x (V.bx ++ (V.st.flatMap vS.bs ++ (V.so.flatMap vD.bs ++ V.wa.flatMap vD.bs)))
      have e3 : (V.so ++ [(V.sc 0, none, r.bs)]).flatMap vD.bs = V.so.flatMap vD.bs ++ r.bs := by
        rw [List.flatMap_append]
        simp [vD.bs]
      rw [e3]
      simp only [List.count_append] at e2 ⊢
      omega
    refine ⟨k1, ⟨fun d hd => ?_, k2.2⟩, ⟨c1, c2, ?_, c4, ?_⟩, v_okB_perm k4 hp, fun r' hr' => k5 r' (List.mem_of_mem_eraseIdx hr'), v_okN_perm k6 hp rfl rfl rfl rfl (Nat.le_refl _)⟩
    · rcases List.mem_append.mp hd with e | e
      · exact k2.1 d e
      · rw [List.mem_singleton.mp e]
        exact ⟨rfl, hge, l3⟩
    · show (V.st.eraseIdx j).length ≤ 6
      exact Nat.le_trans (List.eraseIdx_sublist ..).length_le c3
    · show (V.so ++ [_]).length ≤ 8
      rw [List.length_append]
      simp only [List.length_cons, List.length_nil]
      omega
theorem v_ok_sw {ps : List vP} (h : v_ok cc dd V) (hp : ps.length ≤ 6) : v_ok cc dd (v_sw V ps) := by
  obtain ⟨k1, k2, ⟨c1, c2, c3, c4, c5⟩, k4, k5, k6⟩ := h
  exact ⟨k1, k2, ⟨c1, c2, c3, hp, c5⟩, k4, k5, k6⟩
theorem vk_pil : ∀ (rest keep : List vP) (n : Int32) (V : kV), v_ok cc dd V → keep.length + rest.length ≤ 6 → v_ok cc dd (v_pil rest keep n V).2 := by
  intro rest
  induction rest with
  | nil => intro keep n V h hl; exact v_ok_sw h (by simpa using hl)
  | cons p t ih =>
    intro keep n V h hl
    simp only [List.length_cons] at hl
    rw [v_pil]
    split
    · exact ih _ _ _ (vk_buys h) (by omega)
    · exact ih _ _ _ h (by rw [List.length_append]; simp only [List.length_cons, List.length_nil]; omega)
/-- the day is counted, carvers rest -/
abbrev v_rest (V : kV) : kV := (V.cs.map (fun c => (c.1, km_max 0 (c.2.1 - 30), c.2.2.1, c.2.2.2)), V.ls, V.bx, V.st, V.ps, V.so, V.wa, V.aw, v_num V.sc 0 (V.sc 0 + 1))
theorem vk_rest (h : v_ok cc dd V) : v_ok cc (dd + 1) (v_rest V) := by
  obtain ⟨k1, k2, ⟨c1, c2, c3, c4, c5⟩, k4, k5, c0, day, W, q1, q2, q3, q4, q5, q6, q7, q8⟩ := h
  refine ⟨⟨fun l hl => (k1.1 l hl).imp id (fun ⟨j, hj, e⟩ => ⟨j, by show j < (V.cs.map _).length; rw [List.length_map]; exact hj, e⟩), k1.2⟩, k2, ⟨by show (V.cs.map _).length ≤ 4; rw [List.length_map]; exact c1, c2, c3, c4, c5⟩, k4, k5, c0, day + 1, W, q1, q2, ?_, by omega, q5, q6, q7, q8⟩
  show V.sc 0 + 1 = _
  rw [q3, k3_succ]
theorem v_day_eq (V : kV) : v_day V = v_pil (v_come (v_rest V)).ps [] 0 (v_come (v_rest V)) := rfl
theorem vk_day (h : v_ok cc dd V) : v_ok cc (dd + 1) (v_day V).2 := by
  rw [v_day_eq]
  have h2 := (vk_come (vk_rest h)).1
  exact vk_pil _ _ _ _ h2 (by have := h2.2.2.1.2.2.2.1; simpa using this)
theorem vk_passes : ∀ (m : Nat) (n : Int32) (V : kV) (dd : Nat), v_ok cc dd V → v_ok cc (dd + m) (v_passes m n V).2 := by
  intro m
  induction m with
  | zero => intro n V dd h; exact h
  | succ m ih =>
    intro n V dd h
    have h2 := ih (n + (v_day V).1) (v_day V).2 (dd + 1) (vk_day h)
    rw [show dd + (m + 1) = dd + 1 + m by omega]
    exact h2
end KVD
