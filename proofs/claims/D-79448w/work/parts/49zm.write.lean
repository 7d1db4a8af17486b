set_option maxRecDepth 100000
/-! ===== the twin: a line is written ===== -/
theorem v_write_len {m n : Nat} : ∀ (bs : List vB) (k : Nat), (v_write m n k bs).length ≤ 2 * bs.length + (n - k / (m + 1)) := by
  intro bs
  induction bs with
  | nil => intro k; exact Nat.zero_le _
  | cons b t ih =>
    intro k
    have h1 := ih (k + 1)
    rw [v_write, List.length_append, List.length_append]
    by_cases c : (k + 1) % (m + 1) = 0 ∧ (k + 1) / (m + 1) ≤ n
    · rw [if_pos c]
      have e := Nat.div_add_mod (k + 1) (m + 1)
      have h2 : k / (m + 1) < (k + 1) / (m + 1) := Nat.div_lt_of_lt_mul (by omega)
      have h3 := c.2
      simp only [List.length_cons, List.length_nil]
      omega
    · rw [if_neg c]
      have h2 : k / (m + 1) ≤ (k + 1) / (m + 1) := Nat.div_le_div_right (by omega)
      simp only [List.length_cons, List.length_nil]
      omega
abbrev kt_ln (T : kT) (g : Nat → Int32) (n : Nat) (f : Nat → Int32) : kT := kt_set (kt_num (kt_set T 8 g) 9 (Int32.ofNat n)) 0 f
theorem kt_wr_app {cs : List Int32} {g : Nat → Int32} {c : Int32} (h : ∀ j x, cs[j]? = some x → g j = x) : ∀ j x, (cs ++ [c])[j]? = some x → upd g cs.length c j = x := by
  intro j x hx
  by_cases hj : j < cs.length
  · rw [List.getElem?_append_left hj] at hx
    rw [upd_ne (by omega), h j x hx]
  · have hi2 := ke_get_lt hx
    rw [List.length_append] at hi2
    simp only [List.length_cons, List.length_nil] at hi2
    have e : j = cs.length := by omega
    subst e
    rw [List.getElem?_append_right (Nat.le_refl _), Nat.sub_self] at hx
    rw [upd_same]
    exact Option.some.inj hx
section KTZM
variable {Z : ka_Z} {w : Nat} {G : ka_H} {m : Nat} {ad : Nat → Nat} {T : kT} {X : vX} {f : Nat → Int32} {V : kV} {cc dd : Nat}
theorem kt_ln_wr {g g' : Nat → Int32} {n n' : Nat} : kt_ln T g' n' f = kt_num (kt_set (kt_ln T g n f) 8 g') 9 (Int32.ofNat n') := by
  unfold kt_ln kt_num kt_set
  refine Prod.ext (funext fun j => ?_) (funext fun j => ?_)
  · by_cases h8 : j = 8
    · simp [h8]
    · by_cases h0 : j = 0 <;> simp [h8, h0]
  · by_cases h9 : j = 9 <;> simp [h9]
theorem kt_writes {g : Nat → Int32} {n : Nat} {c : Int32} (hs : kt_sep m ad) (hn : n < 80) : ka_T Z (pm_X3_writes (some m) c) w (kt G m ad (kt_ln T g n f)) (ka_V w (kt G m ad (kt_ln T (upd g n c) (n + 1) f)) ()) := by
  have h9 : kt_nm 9 := Or.inr (Or.inr (Or.inl rfl))
  unfold pm_X3_writes
  refine kt_g8 (kt_gI 9 h9 ?_)
  have e1 : (kt_ln T g n f).2 9 = Int32.ofNat n := rfl
  rw [e1]
  refine kt_st (j := 8) hs (by decide) (show n < 80 from hn) (kt_gI 9 h9 ?_)
  have e2 : (kt_set (kt_ln T g n f) 8 (upd ((kt_ln T g n f).1 8) n c)).2 9 = Int32.ofNat n := rfl
  rw [e2, k3_succ]
  refine kt_pI 9 h9 rfl (ka_pure ⟨rfl, rfl, ?_⟩)
  exact congrArg (kt G m ad) kt_ln_wr.symm
theorem kt_wrLoop {i gg mm kk : Nat} {r : vS} {Q : Int32 → Nat → ka_H → Prop} (hs : kt_sep m ad) (hi : i < 6) (h : ke_S1 f i r) (hN : v_sokN gg mm kk r) (hl : r.bs.length ≤ 28)
    (hQ : ∀ g, (∀ j x, (v_write mm kk 0 r.bs)[j]? = some x → g j = x) → ka_T Z (pb_X3_write_102 km_fuel (some m) (Int32.ofNat r.bs.length) 0) w (kt G m ad (kt_ln T g (v_write mm kk 0 r.bs).length f)) Q) : ∀ (rest done : List vB) (fuel : Nat) (cs : List Int32) (g : Nat → Int32), r.bs = done ++ rest → rest.length < fuel → cs ++ v_write mm kk done.length rest = v_write mm kk 0 r.bs → (∀ j x, cs[j]? = some x → g j = x) → ka_T Z (pb_X3_write_24 fuel (some m) (Int32.ofNat i) (Int32.ofNat r.bs.length) (Int32.ofNat done.length)) w (kt G m ad (kt_ln T g cs.length f)) Q := by
  have hkk : kk ≤ 4 := Nat.le_trans hN.2.2.2.2.2.2.2.1 hN.2.2.2.2.1
  have hwl : (v_write mm kk 0 r.bs).length ≤ 60 := by
    have := v_write_len (m := mm) (n := kk) r.bs 0
    rw [Nat.zero_div] at this
    omega
  intro rest
  induction rest with
  | nil =>
    intro done fuel cs g hA hf hcs hg
    obtain ⟨fuel, rfl⟩ : ∃ n, fuel = n + 1 := ⟨fuel - 1, by omega⟩
    have hA1 : done.length = r.bs.length := by rw [hA, List.append_nil]
    have e : cs = v_write mm kk 0 r.bs := by rw [← hcs, v_write, List.append_nil]
    unfold pb_X3_write_24
    refine ka_ifP ((k3_le (by omega) (by omega)).mpr (by omega)) ?_
    subst e
    exact hQ g hg
  | cons b t ih =>
    intro done fuel cs g hA hf hcs hg
    obtain ⟨fuel, rfl⟩ : ∃ n, fuel = n + 1 := ⟨fuel - 1, by omega⟩
    have hAl : r.bs.length = done.length + (t.length + 1) := by rw [hA, List.length_append]; rfl
    simp only [List.length_cons] at hf
    have hb : r.bs[done.length]? = some b := by rw [hA]; simp
    obtain ⟨g0, g1⟩ := h.2.2.2.2 _ _ hb
    have hbk : b.2.1 = if done.length % (mm + 1) = 0 then 1 else 0 := hN.2.2.2.2.2.2.2.2.2.2.2 _ _ hb
    have hcl : cs.length + ([if b.2.1 = 0 then (111 : Int32) else 79, 48 + b.2.2] ++ ((if (done.length + 1) % (mm + 1) = 0 ∧ (done.length + 1) / (mm + 1) ≤ kk then [43] else []) ++ v_write mm kk (done.length + 1) t)).length ≤ 60 := by
      have e := congrArg List.length hcs
      rw [List.length_append, v_write] at e
      omega
    rw [v_write] at hcs
    have h46 : ka_T Z (pb_X3_write_46 (pb_X3_write_24 fuel) (some m) (Int32.ofNat i) (Int32.ofNat r.bs.length) (Int32.ofNat done.length) (if b.2.1 = 0 then 111 else 79) (some m)) w (kt G m ad (kt_ln T g cs.length f)) Q := by
      rw [List.length_append, List.length_append] at hcl
      simp only [List.length_cons, List.length_nil] at hcl
      unfold pb_X3_write_46
      refine kt_is (ka_mv (kt_writes hs (by omega)) (kt_g0 (kt_beAt ?_)))
      rw [k3_succ]
      refine kt_ls hs (by omega) ?_
      rw [g1]
      refine kt_is (ka_mv (kt_writes hs (by omega)) (kt_is ?_))
      rw [k3_succ]
      refine ka_use (kt_large (p := done.length + 1) hs hi h hN (by omega)) ?_
      have hg1 := kt_wr_app (c := if b.2.1 = 0 then (111 : Int32) else 79) hg
      have hg2 := kt_wr_app (c := 48 + b.2.2) hg1
      rw [List.length_append] at hg2
      have hnext : ∀ (cs' : List Int32) (g' : Nat → Int32), cs' ++ v_write mm kk (done.length + 1) t = v_write mm kk 0 r.bs → (∀ j x, cs'[j]? = some x → g' j = x) → ka_T Z (pb_X3_write_94 (pb_X3_write_24 fuel) (some m) (Int32.ofNat i) (Int32.ofNat r.bs.length) (Int32.ofNat done.length)) w (kt G m ad (kt_ln T g' cs'.length f)) Q := by
        intro cs' g' hcs' hg'
        unfold pb_X3_write_94
        rw [k3_succ]
        have h2 := ih (done ++ [b]) fuel cs' g' (by rw [hA]; simp) (by omega) (by rw [List.length_append]; exact hcs') hg'
        rw [List.length_append] at h2
        exact h2
      have hno : ¬ ((done.length + 1) % (mm + 1) = 0 ∧ (done.length + 1) / (mm + 1) ≤ kk) → ka_T Z (pb_X3_write_94 (pb_X3_write_24 fuel) (some m) (Int32.ofNat i) (Int32.ofNat r.bs.length) (Int32.ofNat done.length)) w (kt G m ad (kt_ln T (upd (upd g cs.length (if b.2.1 = 0 then 111 else 79)) (cs.length + 1) (48 + b.2.2)) (cs.length + 1 + 1) f)) Q := by
        intro hn
        rw [if_neg hn] at hcs
        have h3 := hnext (cs ++ [if b.2.1 = 0 then (111 : Int32) else 79] ++ [48 + b.2.2]) _ (by rw [← hcs]; simp) hg2
        rw [List.length_append, List.length_append] at h3
        exact h3
      by_cases h1 : (done.length + 1) % (mm + 1) = 0
      · rw [if_pos h1]
        refine ka_ifN (by decide) (kt_is (ka_use (kt_knotted hs hi h) ?_))
        rw [hN.2.1, hN.2.2.1, k3_succ, k3_mul]
        have e := Nat.div_add_mod (done.length + 1) (mm + 1)
        have hkm : kk * (mm + 1) ≤ 4 * 7 := Nat.mul_le_mul hkk (by have := hN.2.2.2.2.2.2.1; omega)
        by_cases h2 : kk * (mm + 1) ≤ done.length
        · refine ka_ifP ((k3_le (by omega) (by omega)).mpr h2) (hno (fun z => ?_))
          have h3 : (mm + 1) * ((done.length + 1) / (mm + 1)) ≤ (mm + 1) * kk := Nat.mul_le_mul_left _ z.2
          rw [Nat.mul_comm (mm + 1) kk] at h3
          omega
        · have hc : (done.length + 1) % (mm + 1) = 0 ∧ (done.length + 1) / (mm + 1) ≤ kk := ⟨h1, Nat.div_le_of_le_mul (by rw [Nat.mul_comm]; omega)⟩
          rw [if_pos hc] at hcs hcl
          simp only [List.length_cons, List.length_nil] at hcl
          refine ka_ifN (fun z => h2 ((k3_le (by omega) (by omega)).mp z)) (kt_is (ka_mv (kt_writes hs (by omega)) ?_))
          have hg3 := kt_wr_app (c := 43) hg2
          have h3 := hnext (cs ++ [if b.2.1 = 0 then (111 : Int32) else 79] ++ [48 + b.2.2] ++ [43]) _ (by rw [← hcs]; simp) hg3
          simp only [List.length_append, List.length_cons, List.length_nil, Nat.zero_add] at h3
          exact h3
      · rw [if_neg h1]
        exact ka_ifP rfl (hno (fun z => h1 z.1))
    unfold pb_X3_write_24
    refine ka_ifN (fun z => by have := (k3_le (by omega) (by omega)).mp z; omega) (kt_is (ka_use (kt_large (p := done.length) hs hi h hN (by omega)) ?_))
    by_cases h0 : done.length % (mm + 1) = 0
    · rw [if_pos h0] at hbk ⊢
      rw [hbk, if_neg (show ¬ (1 : Int32) = 0 by decide)] at h46
      exact ka_ifN (by decide) h46
    · rw [if_neg h0] at hbk ⊢
      rw [hbk, if_pos rfl] at h46
      exact ka_ifP rfl h46
theorem kt_emLoop {Q : Int32 → Nat → ka_H → Prop} {hh : Int32} (hs : kt_sep m ad) (hz : kz_txt Z 15 v_empty hh) (hQ : ∀ g, (∀ j x, v_empty[j]? = some x → g j = x) → ka_T Z (pb_X3_write_127 (some m)) w (kt G m ad (kt_ln T g 5 f)) Q) : ∀ (rest done : List Int32) (fuel : Nat) (g : Nat → Int32), v_empty = done ++ rest → rest.length < fuel → (∀ j x, done[j]? = some x → g j = x) → ka_T Z (pb_X3_write_102 fuel (some m) 0 (Int32.ofNat done.length)) w (kt G m ad (kt_ln T g done.length f)) Q := by
  intro rest
  induction rest with
  | nil =>
    intro done fuel g hA hf hg
    obtain ⟨fuel, rfl⟩ : ∃ n, fuel = n + 1 := ⟨fuel - 1, by omega⟩
    rw [List.append_nil] at hA
    subst hA
    unfold pb_X3_write_102
    exact ka_ifN (fun z => z rfl) (ka_ifP (by decide) (hQ g hg))
  | cons c t ih =>
    intro done fuel g hA hf hg
    obtain ⟨fuel, rfl⟩ : ∃ n, fuel = n + 1 := ⟨fuel - 1, by omega⟩
    have hAl : 5 = done.length + (t.length + 1) := by
      have := congrArg List.length hA
      rw [List.length_append] at this
      exact this
    simp only [List.length_cons] at hf
    have hc : v_empty[done.length]? = some c := by rw [hA]; simp
    unfold pb_X3_write_102
    refine ka_ifN (fun z => z rfl) (ka_ifN (fun z => by have := (k3_le (a := 5) (by omega) (by omega)).mp z; omega) ?_)
    refine kx_txt hz (fun K a b y2 hZa hle hstr hA2 => ka_k ?_)
    rw [hZa]
    refine ka_is hA2 rfl (ka_use (kx_charAt hstr hc) (ka_pre hle (Nat.le_refl _) (kt_is (ka_mv (kt_writes hs (by omega)) ?_))))
    rw [k3_succ]
    have h2 := ih (done ++ [c]) fuel _ (by rw [hA]; simp) (by omega) (kt_wr_app (c := c) hg)
    rw [List.length_append] at h2
    exact h2
theorem kt_write {n : Int32} (hs : kt_sep m ad) (hT : ∃ h, kz_txt Z 15 v_empty h) (hR : kR T X) (hz : vX_sz X) (hok : v_ok cc dd X.now) : ka_T Z (pm_X3_write (some m) n) w (kt G m ad T) (kt_Q w G m ad (vx_write X n)) := by
  obtain ⟨hh, hT⟩ := hT
  obtain ⟨hst, l, hl, he⟩ := id hR.1
  have h9 : kt_nm 9 := Or.inr (Or.inr (Or.inl rfl))
  have e12 : T.1 0 12 = Int32.ofNat X.now.st.length := he.1.2.2.2.2.1
  have eT : kt G m ad T = kt G m ad (kt_set T 0 (T.1 0)) := by rw [kt_set_id]
  unfold pm_X3_write
  rw [eT]
  refine kt_is (ka_use (kt_isS hs e12) ?_)
  by_cases h : vx_isS X n = 1
  · refine ka_ifP (by rw [show v_in n 0 (Int32.ofNat X.now.st.length - 1) = 1 from h]; decide) ?_
    have hz1 := hz.1.2.2.2.1
    obtain ⟨i, rfl, hi⟩ := v_in_idx (by omega) h
    obtain ⟨r, hr⟩ : ∃ x, X.now.st[i]? = some x := ⟨_, List.getElem?_eq_getElem hi⟩
    have hgd : X.now.st.getD (Int32.ofNat i).toNatClampNeg (0, 0, 0, []) = r := by rw [k3_nat (by omega), List.getD, hr]; rfl
    have hS1 : ke_S1 (T.1 0) i r := he.2.2.2.2.1 i r hr
    have hrl := hz.1.2.2.2.2.2.2.2 r (List.mem_of_getElem? hr)
    obtain ⟨gg, mm, kk, hN⟩ := hok.2.2.2.2.1 r (List.mem_of_getElem? hr)
    have e0 : vx_write X (Int32.ofNat i) = (Int32.ofNat (v_line r).length, X.now, X.bef, X.sav, X.rf, v_line r, X.inp, X.fault) := by
      unfold vx_write
      rw [if_pos h, hgd]
    rw [e0]
    refine kt_pI 9 h9 rfl ?_
    have e1 : kt_num (kt_set T 0 (T.1 0)) 9 0 = kt_ln T (T.1 8) 0 (T.1 0) := by
      show kt_num (kt_set T 0 (T.1 0)) 9 0 = kt_set (kt_num (kt_set T 8 (T.1 8)) 9 (Int32.ofNat 0)) 0 (T.1 0)
      rw [kt_set_id (T := T) (k := 8)]
      rfl
    rw [e1]
    refine kt_is (ka_use (kt_of (j := 3) hs (by omega) (by omega)) ?_)
    rw [hS1.2.2.2.1]
    have hfin : ∀ (g : Nat → Int32), (∀ j x, (v_line r)[j]? = some x → g j = x) → ka_T Z (pb_X3_write_127 (some m)) w (kt G m ad (kt_ln T g (v_line r).length (T.1 0))) (kt_Q w G m ad (Int32.ofNat (v_line r).length, X.now, X.bef, X.sav, X.rf, v_line r, X.inp, X.fault)) := by
      intro g hg
      unfold pb_X3_write_127
      refine kt_gI 9 h9 (ka_pure ⟨rfl, rfl, _, rfl, hR.1, hR.2.1, hR.2.2.1, hR.2.2.2.1, ⟨rfl, hg⟩, hR.2.2.2.2.2⟩)
    refine kt_wrLoop hs (by omega) hS1 hN hrl (fun g hg => ?_) r.bs [] km_fuel [] (T.1 8) rfl (by unfold km_fuel; omega) rfl (fun j x hx => by cases hx)
    by_cases hne : r.bs = []
    · have e2 : v_line r = v_empty := if_pos hne
      rw [e2] at hfin ⊢
      rw [hne]
      exact kt_emLoop hs hT hfin v_empty [] km_fuel g rfl (by decide) (fun j x hx => by cases hx)
    · have e2 : v_line r = v_write mm kk 0 r.bs := by
        unfold v_line
        rw [if_neg hne, hN.2.1, hN.2.2.1, k3_nat (by have := hN.2.2.2.2.2.2.1; omega), k3_nat (by have := hN.2.2.2.2.1; have := hN.2.2.2.2.2.2.2.1; omega)]
      rw [← e2] at hg ⊢
      have hl0 : r.bs.length ≠ 0 := fun z => hne (List.length_eq_zero_iff.mp z)
      rw [show km_fuel = 99999 + 1 from rfl]
      unfold pb_X3_write_102
      exact ka_ifP (fun z => hl0 ((k3_eq (b := 0) (by omega) (by omega)).mp z)) (hfin g hg)
  · have e : vx_write X n = (-1, X) := if_neg h
    rw [e]
    exact ka_ifN (by rw [v_in_no h]; simp) (ka_pure ⟨rfl, rfl, T, eT.symm, hR⟩)
end KTZM
