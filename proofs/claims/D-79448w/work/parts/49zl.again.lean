set_option maxRecDepth 100000
/-! ===== the finest bead asked again: the order of the box does not matter ===== -/
theorem v_step {p q l : Int32} (hp : p ≠ -6) (hq : q ≠ -6) : (if (if l = -6 ∨ p < l then p else l) = -6 ∨ q < (if l = -6 ∨ p < l then p else l) then q else (if l = -6 ∨ p < l then p else l)) = (if (if l = -6 ∨ q < l then q else l) = -6 ∨ p < (if l = -6 ∨ q < l then q else l) then p else (if l = -6 ∨ q < l then q else l)) := by
  have hpq : ¬ p < q → ¬ q < p → p = q := fun h1 h2 => Int32.le_antisymm (Int32.not_lt.mp h2) (Int32.not_lt.mp h1)
  by_cases hl : l = -6
  · rw [if_pos (show l = -6 ∨ p < l from Or.inl hl), if_pos (show l = -6 ∨ q < l from Or.inl hl)]
    by_cases h1 : p < q
    · rw [if_pos (show q = -6 ∨ p < q from Or.inr h1), if_neg (show ¬ (p = -6 ∨ q < p) from fun z => z.elim hp (fun z => Int32.lt_asymm z h1))]
    · rw [if_neg (show ¬ (q = -6 ∨ p < q) from fun z => z.elim hq h1)]
      by_cases h2 : q < p
      · rw [if_pos (show p = -6 ∨ q < p from Or.inr h2)]
      · rw [if_neg (show ¬ (p = -6 ∨ q < p) from fun z => z.elim hp h2)]
        exact hpq h1 h2
  · by_cases h1 : p < l
    · rw [if_pos (show l = -6 ∨ p < l from Or.inr h1)]
      by_cases h2 : q < l
      · rw [if_pos (show l = -6 ∨ q < l from Or.inr h2)]
        by_cases h3 : p < q
        · rw [if_pos (show q = -6 ∨ p < q from Or.inr h3), if_neg (show ¬ (p = -6 ∨ q < p) from fun z => z.elim hp (fun z => Int32.lt_asymm z h3))]
        · rw [if_neg (show ¬ (q = -6 ∨ p < q) from fun z => z.elim hq h3)]
          by_cases h4 : q < p
          · rw [if_pos (show p = -6 ∨ q < p from Or.inr h4)]
          · rw [if_neg (show ¬ (p = -6 ∨ q < p) from fun z => z.elim hp h4)]
            exact hpq h3 h4
      · rw [if_neg (show ¬ (l = -6 ∨ q < l) from fun z => z.elim hl h2), if_pos (show l = -6 ∨ p < l from Or.inr h1), if_neg (show ¬ (p = -6 ∨ q < p) from fun z => z.elim hp (fun z => h2 (Int32.lt_trans z h1)))]
    · rw [if_neg (show ¬ (l = -6 ∨ p < l) from fun z => z.elim hl h1)]
      by_cases h2 : q < l
      · rw [if_pos (show l = -6 ∨ q < l from Or.inr h2), if_neg (show ¬ (q = -6 ∨ p < q) from fun z => z.elim hq (fun z => h1 (Int32.lt_trans z h2)))]
      · rw [if_neg (show ¬ (l = -6 ∨ q < l) from fun z => z.elim hl h2), if_neg (show ¬ (l = -6 ∨ p < l) from fun z => z.elim hl h1)]
def v_lst (f l : Int32) (b : vB) : Int32 := if b.2.2 = f ∧ (l = -6 ∨ b.1 < l) then b.1 else l
theorem v_lst_comm {f l : Int32} {a b : vB} (ha : a.1 ≠ -6) (hb : b.1 ≠ -6) : v_lst f (v_lst f l a) b = v_lst f (v_lst f l b) a := by
  unfold v_lst
  by_cases h1 : a.2.2 = f
  · by_cases h2 : b.2.2 = f
    · simp only [h1, h2, true_and]
      exact v_step ha hb
    · simp only [h1, h2, true_and, false_and, if_false]
  · simp only [h1, false_and, if_false]
theorem v_least_perm {f : Int32} {L M : List vB} (h : L.Perm M) : (∀ b ∈ L, b.1 ≠ -6) → ∀ l, v_least f l L = v_least f l M := by
  induction h with
  | nil => intro _ l; rfl
  | cons x _ ih =>
    intro hn l
    exact ih (fun b hb => hn b (List.mem_cons_of_mem _ hb)) _
  | swap x y t =>
    intro hn l
    show v_least f (v_lst f (v_lst f l y) x) t = v_least f (v_lst f (v_lst f l x) y) t
    rw [v_lst_comm (hn y List.mem_cons_self) (hn x (List.mem_cons_of_mem _ List.mem_cons_self))]
  | trans h1 h2 ih1 ih2 =>
    intro hn l
    rw [ih1 hn l]
    exact ih2 (fun b hb => hn b (h1.mem_iff.mpr hb)) l
theorem v_again_perm {L M : List vB} (h : L.Perm M) (hn : ∀ b ∈ L, b.1 ≠ -6) : ∀ f, v_again L f = v_again M f := by
  intro f
  induction f with
  | zero => rfl
  | succ f ih =>
    show (if _ then _ else _) = (if _ then _ else _)
    rw [v_least_perm h hn, ih]
section KTZL
variable {Z : ka_Z} {w : Nat} {G : ka_H} {m : Nat} {ad : Nat → Nat} {T : kT} {X : vX} {f : Nat → Int32} {V : kV} {cc dd : Nat}
theorem kt_leastLoop {bx : List vB} {k fi : Int32} {k3 : Option Nat → Int32 → Int32 → km_M Int32} {Q : Int32 → Nat → ka_H → Prop} (hs : kt_sep m ad) (hB : ke_B f bx) (h11 : f 11 = Int32.ofNat bx.length) (hn : bx.length ≤ 240) (hk : k = 0 ∨ k = 1) : ∀ (rest done : List vB) (fuel : Nat) (l : Int32), bx = done ++ rest → rest.length < fuel → ka_T Z (if v_least fi l (v_of k rest) = -6 then k3 (some m) k (fi + -1) else km_pure (v_least fi l (v_of k rest))) w (kt G m ad (kt_set T 0 f)) Q → ka_T Z (pb_X3_finestAgain_13 k3 fuel (some m) k fi l (Int32.ofNat done.length)) w (kt G m ad (kt_set T 0 f)) Q := by
  intro rest
  induction rest with
  | nil =>
    intro done fuel l hA hf hQ
    obtain ⟨fuel, rfl⟩ : ∃ n, fuel = n + 1 := ⟨fuel - 1, by omega⟩
    have hA1 : done.length = bx.length := by rw [hA, List.append_nil]
    unfold pb_X3_finestAgain_13
    refine kt_g0 (kt_ls (p := 11) hs (by omega) ?_)
    rw [h11]
    exact ka_ifP ((k3_le (by omega) (by omega)).mpr (by omega)) hQ
  | cons b t ih =>
    intro done fuel l hA hf hQ
    obtain ⟨fuel, rfl⟩ : ∃ n, fuel = n + 1 := ⟨fuel - 1, by omega⟩
    have hAl : bx.length = done.length + (t.length + 1) := by rw [hA, List.length_append]; rfl
    simp only [List.length_cons] at hf
    have hb : bx[done.length]? = some b := by rw [hA]; simp
    obtain ⟨g0, g1, g2⟩ := hB _ _ hb
    have hnext : ∀ l', v_least fi l (v_of k (b :: t)) = v_least fi l' (v_of k t) → ka_T Z (pb_X3_finestAgain_13 k3 fuel (some m) k fi l' (Int32.ofNat done.length + 1)) w (kt G m ad (kt_set T 0 f)) Q := by
      intro l' e
      rw [e] at hQ
      rw [k3_succ]
      have h2 := ih (done ++ [b]) fuel l' (by rw [hA]; simp) (by omega) hQ
      rw [List.length_append] at h2
      exact h2
    unfold pb_X3_finestAgain_13
    refine kt_g0 (kt_ls (p := 11) hs (by omega) ?_)
    rw [h11]
    refine ka_ifN (fun z => by have := (k3_le (by omega) (by omega)).mp z; omega) (kt_g0 (kt_bAt (j := 1) (kt_ls hs (by omega) ?_)))
    rw [g1]
    have h45 : ka_T Z (pb_X3_finestAgain_45 k3 (pb_X3_finestAgain_13 k3 fuel) (some m) k fi l (Int32.ofNat done.length) k b.2.1) w (kt G m ad (kt_set T 0 f)) Q := by
      unfold pb_X3_finestAgain_45 pb_X3_finestAgain_67 pb_X3_finestAgain_68 pb_X3_finestAgain_110 pb_X3_finestAgain_96 pb_X3_finestAgain_111
      by_cases hbk : b.2.1 = k
      · have ev : v_of k (b :: t) = b :: v_of k t := by unfold v_of; rw [List.filter_cons_of_pos (by simpa using hbk)]
        rw [ev] at hnext
        refine ka_ifN (fun z => z hbk) (kt_g0 (kt_bAt (j := 2) (kt_ls hs (by omega) ?_)))
        rw [g2]
        by_cases hfi : b.2.2 = fi
        · refine ka_ifN (fun z => z hfi) (ka_ifN (by decide) ?_)
          by_cases hl : l = -6
          · refine ka_ifP hl (kt_g0 (kt_bAt (j := 0) (kt_ls hs (by omega) ?_)))
            rw [g0]
            refine hnext _ ?_
            rw [v_least, if_pos (show b.2.2 = fi ∧ (l = -6 ∨ b.1 < l) from ⟨hfi, Or.inl hl⟩)]
          · refine ka_ifN hl (kt_g0 (kt_bAt (j := 0) (kt_ls hs (by omega) ?_)))
            rw [g0]
            by_cases hlt : b.1 < l
            · refine ka_ifN (Int32.not_le.mpr hlt) (kt_g0 (kt_bAt (j := 0) (kt_ls hs (by omega) ?_)))
              rw [g0]
              refine hnext _ ?_
              rw [v_least, if_pos (show b.2.2 = fi ∧ (l = -6 ∨ b.1 < l) from ⟨hfi, Or.inr hlt⟩)]
            · refine ka_ifP (Int32.not_lt.mp hlt) (hnext _ ?_)
              rw [v_least, if_neg (show ¬ (b.2.2 = fi ∧ (l = -6 ∨ b.1 < l)) from fun z => z.2.elim hl hlt)]
        · refine ka_ifP hfi (ka_ifP rfl (hnext _ ?_))
          rw [v_least, if_neg (show ¬ (b.2.2 = fi ∧ (l = -6 ∨ b.1 < l)) from fun z => hfi z.1)]
      · have ev : v_of k (b :: t) = v_of k t := by unfold v_of; rw [List.filter_cons_of_neg (by simpa using hbk)]
        rw [ev] at hnext
        exact ka_ifP hbk (ka_ifP rfl (hnext _ rfl))
    rcases hk with e | e
    · subst e
      exact ka_ifP rfl h45
    · subst e
      exact ka_ifN (by decide) h45
theorem kt_againLoop {bx : List vB} {k : Int32} (hs : kt_sep m ad) (hB : ke_B f bx) (h11 : f 11 = Int32.ofNat bx.length) (hn : bx.length ≤ 240) (hk : k = 0 ∨ k = 1) : ∀ (n fuel : Nat), n ≤ 9 → n < fuel → ka_T Z (pb_X3_finestAgain_3 fuel (some m) k (Int32.ofNat n)) w (kt G m ad (kt_set T 0 f)) (ka_V w (kt G m ad (kt_set T 0 f)) (v_again (v_of k bx) n)) := by
  intro n
  induction n with
  | zero =>
    intro fuel _ hf
    obtain ⟨fuel, rfl⟩ : ∃ n, fuel = n + 1 := ⟨fuel - 1, by omega⟩
    unfold pb_X3_finestAgain_3
    exact ka_ifP (by decide) (ka_pure ⟨rfl, rfl, rfl⟩)
  | succ n ih =>
    intro fuel h9 hf
    obtain ⟨fuel, rfl⟩ : ∃ n, fuel = n + 1 := ⟨fuel - 1, by omega⟩
    unfold pb_X3_finestAgain_3
    refine ka_ifN (fun z => absurd ((k3_le (b := 0) (by omega) (by omega)).mp z) (by omega)) ?_
    refine kt_leastLoop hs hB h11 hn hk bx [] km_fuel (-6) rfl (by unfold km_fuel; omega) ?_
    by_cases h : v_least (Int32.ofNat (n + 1)) (-6) (v_of k bx) = -6
    · refine ka_ifP h ?_
      have e : Int32.ofNat (n + 1) + -1 = Int32.ofNat n := by
        have := k3_pred (a := n + 1) (by omega)
        rw [Nat.add_sub_cancel, Int32.sub_eq_add_neg] at this
        exact this
      rw [e]
      refine ka_post (ih fuel (by omega) (by omega)) (fun r w' H' hq => ?_)
      obtain ⟨q1, q2, q3⟩ := hq
      refine ⟨?_, q2, q3⟩
      rw [q1]
      show _ = (if _ then _ else _)
      rw [if_pos h]
    · refine ka_ifN h (ka_pure ⟨?_, rfl, rfl⟩)
      show _ = (if _ then _ else _)
      rw [if_neg h]
theorem kt_finestAgain {k : Int32} (hs : kt_sep m ad) (hR : kR T X) (hz : vX_sz X) (hok : v_ok cc dd X.now) (hk : k = 0 ∨ k = 1) : ka_T Z (pm_X3_finestAgain (some m) k) w (kt G m ad T) (ka_V w (kt G m ad T) (vq_finestAgain X k)) := by
  refine kt_row (P := fun _ _ => True) (fun T0 f hf hT => ?_)
  obtain ⟨hst, l, hl, he⟩ := hR.1
  rw [← hf] at he
  have hzl := v_sz_wb hz.1 hl
  have hl240 : l.length ≤ 240 := hzl.2.2.1
  have hbok : ∀ b ∈ l, v_bok b := fun b hb => hok.2.2.2.1 b (List.mem_append_left _ (hl.mem_iff.mp hb))
  unfold pm_X3_finestAgain vq_finestAgain
  have hp : (v_of k l).Perm (v_of k X.now.bx) := hl.filter _
  rw [← v_again_perm hp (fun b hb z => by have h0 := (hbok b (List.mem_filter.mp hb).1).1; rw [z] at h0; exact absurd h0 (by decide))]
  exact kt_againLoop hs he.2.2.2.1 he.1.2.2.2.1 hl240 hk 9 km_fuel (by omega) (by unfold km_fuel; omega)
end KTZL
