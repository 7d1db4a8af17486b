set_option maxRecDepth 100000
/-! ===== the finest bead: the order of the box does not matter ===== -/
theorem v_finer_irr {b : vB} : v_finer b b = false := by
  unfold v_finer
  simp [Int32.lt_irrefl]
theorem v_finer_iff {b c : vB} : v_finer b c = true ↔ c.2.2 < b.2.2 ∨ (b.2.2 = c.2.2 ∧ b.1 < c.1) := by
  unfold v_finer
  simp
theorem v_finer_trans {a b c : vB} (h1 : v_finer a b = true) (h2 : v_finer b c = true) : v_finer a c = true := by
  rw [v_finer_iff] at *
  rcases h1 with h1 | ⟨h1, h1'⟩ <;> rcases h2 with h2 | ⟨h2, h2'⟩
  · exact Or.inl (Int32.lt_trans h2 h1)
  · exact Or.inl (by rw [← h2]; exact h1)
  · exact Or.inl (by rw [h1]; exact h2)
  · exact Or.inr ⟨h1.trans h2, Int32.lt_trans h1' h2'⟩
theorem v_finer_tri {b c : vB} (h : b.1 ≠ c.1) (hn : ¬ v_finer b c = true) : v_finer c b = true := by
  rw [v_finer_iff] at *
  by_cases e : b.2.2 = c.2.2
  · refine Or.inr ⟨e.symm, ?_⟩
    have h2 : ¬ b.1 < c.1 := fun z => hn (Or.inr ⟨e, z⟩)
    exact Int32.lt_of_le_of_ne (Int32.not_lt.mp h2) (Ne.symm h)
  · refine Or.inl ?_
    have h2 : ¬ c.2.2 < b.2.2 := fun z => hn (Or.inl z)
    exact Int32.lt_of_le_of_ne (Int32.not_lt.mp h2) e
/-- b is the finest of L -/
def v_top (L : List vB) (b : vB) : Prop := b ∈ L ∧ ∀ c ∈ L, c = b ∨ v_finer b c = true
theorem v_top_uniq {L : List vB} {b c : vB} (hb : v_top L b) (hc : v_top L c) : b = c := by
  rcases hb.2 c hc.1 with e | e
  · exact e.symm
  · rcases hc.2 b hb.1 with e2 | e2
    · exact e2
    · have := v_finer_trans e e2
      rw [v_finer_irr] at this
      cases this
theorem v_fin_some : ∀ (t : List vB) (x : vB) (P : List vB), ((P ++ t).map (·.1)).Nodup → v_top P x → ∃ b, v_fin (some x) t = some b ∧ v_top (P ++ t) b := by
  intro t
  induction t with
  | nil => intro x P _ h; exact ⟨x, rfl, by rw [List.append_nil]; exact h⟩
  | cons b t ih =>
    intro x P hn h
    rw [v_fin]
    have e : P ++ b :: t = (P ++ [b]) ++ t := by simp
    have hbx : b.1 ≠ x.1 := by
      intro z
      rw [List.map_append, List.map_cons] at hn
      exact (List.nodup_append.mp hn).2.2 x.1 (List.mem_map_of_mem h.1) b.1 List.mem_cons_self z.symm
    by_cases hf : v_finer b x = true
    · rw [if_pos hf, e]
      refine ih b (P ++ [b]) (by rw [← e]; exact hn) ⟨by simp, fun c hc => ?_⟩
      rcases List.mem_append.mp hc with h1 | h1
      · rcases h.2 c h1 with e2 | e2
        · rw [e2]; exact Or.inr hf
        · exact Or.inr (v_finer_trans hf e2)
      · exact Or.inl (List.mem_singleton.mp h1)
    · rw [if_neg hf, e]
      refine ih x (P ++ [b]) (by rw [← e]; exact hn) ⟨List.mem_append_left _ h.1, fun c hc => ?_⟩
      rcases List.mem_append.mp hc with h1 | h1
      · exact h.2 c h1
      · rw [List.mem_singleton.mp h1]
        exact Or.inr (v_finer_tri hbx hf)
theorem v_fin_top {L : List vB} (hn : (L.map (·.1)).Nodup) : (L = [] ∧ v_fin none L = none) ∨ ∃ b, v_fin none L = some b ∧ v_top L b := by
  cases L with
  | nil => exact Or.inl ⟨rfl, rfl⟩
  | cons b t =>
    right
    rw [v_fin]
    exact v_fin_some t b [b] hn ⟨by simp, fun c hc => Or.inl (List.mem_singleton.mp hc)⟩
theorem v_fin_perm {L M : List vB} (h : L.Perm M) (hn : (L.map (·.1)).Nodup) : v_fin none L = v_fin none M := by
  have hn2 : (M.map (·.1)).Nodup := (h.map (·.1)).nodup_iff.mp hn
  rcases v_fin_top hn with ⟨e1, e2⟩ | ⟨b, e1, e2⟩
  · subst e1
    have : M = [] := h.nil_eq.symm
    rw [this]
  · rcases v_fin_top hn2 with ⟨f1, f2⟩ | ⟨c, f1, f2⟩
    · rw [f1] at h
      rw [h.eq_nil] at e2
      cases e2.1
    · rw [e1, f1]
      congr 1
      refine v_top_uniq e2 ⟨h.mem_iff.mpr f2.1, fun d hd => f2.2 d (h.mem_iff.mp hd)⟩
section KTK
variable {Z : ka_Z} {w : Nat} {G : ka_H} {m : Nat} {ad : Nat → Nat} {T : kT} {f : Nat → Int32}
theorem v_fine_nat {b : vB} (h : v_bok b) : ∃ n, 2 ≤ n ∧ n ≤ 9 ∧ b.2.2 = Int32.ofNat n := by
  obtain ⟨-, -, h3, h4⟩ := h
  have h0 : (0 : Int32) ≤ b.2.2 := Int32.le_trans (by decide) h3
  have e := kv_neg h0
  have hlt : b.2.2.toNatClampNeg < 2 ^ 31 := Int32.toNatClampNeg_lt _
  refine ⟨_, ?_, ?_, e⟩
  · rw [e] at h3
    exact (k3_le (a := 2) (by omega) hlt).mp h3
  · rw [e] at h4
    exact (k3_le (b := 9) hlt (by omega)).mp h4
/-- where the best so far lies -/
def vt_best (bx : List vB) (o : Option vB) (x : Int32) : Prop := match o with
  | none => x = -1
  | some c => ∃ j, bx[j]? = some c ∧ x = Int32.ofNat j
theorem kt_fpLoop {bx : List vB} {k : Int32} (hs : kt_sep m ad) (hB : ke_B f bx) (h11 : f 11 = Int32.ofNat bx.length) (hn : bx.length ≤ 240) (hk : k = 0 ∨ k = 1) (hok : ∀ b ∈ bx, v_bok b) : ∀ (rest done : List vB) (fuel : Nat) (o : Option vB) (x : Int32), bx = done ++ rest → rest.length < fuel → vt_best bx o x → ka_T Z (pb_X3_finestPlace_4 fuel (some m) k x (Int32.ofNat done.length)) w (kt G m ad (kt_set T 0 f)) (fun r w' H' => w' = w ∧ H' = kt G m ad (kt_set T 0 f) ∧ vt_best bx (v_fin o (v_of k rest)) r) := by
  intro rest
  induction rest with
  | nil =>
    intro done fuel o x hA hf hx
    obtain ⟨fuel, rfl⟩ : ∃ n, fuel = n + 1 := ⟨fuel - 1, by omega⟩
    have hA1 : done.length = bx.length := by rw [hA, List.append_nil]
    unfold pb_X3_finestPlace_4
    refine kt_g0 (kt_ls (p := 11) hs (by omega) ?_)
    rw [h11]
    refine ka_ifP ((k3_le (by omega) (by omega)).mpr (by omega)) (ka_pure ⟨rfl, rfl, ?_⟩)
    show vt_best bx (v_fin o []) x
    rw [v_fin]
    exact hx
  | cons b t ih =>
    intro done fuel o x hA hf hx
    obtain ⟨fuel, rfl⟩ : ∃ n, fuel = n + 1 := ⟨fuel - 1, by omega⟩
    have hAl : bx.length = done.length + (t.length + 1) := by rw [hA, List.length_append]; rfl
    simp only [List.length_cons] at hf
    have hb : bx[done.length]? = some b := by rw [hA]; simp
    obtain ⟨g0, g1, g2⟩ := hB _ _ hb
    have hbm : b ∈ bx := List.mem_of_getElem? hb
    have hnext : ∀ (o' : Option vB) (x' : Int32), vt_best bx o' x' → ka_T Z (pb_X3_finestPlace_4 fuel (some m) k x' (Int32.ofNat done.length + 1)) w (kt G m ad (kt_set T 0 f)) (fun r w' H' => w' = w ∧ H' = kt G m ad (kt_set T 0 f) ∧ vt_best bx (v_fin o' (v_of k t)) r) := by
      intro o' x' hx'
      rw [k3_succ]
      have h2 := ih (done ++ [b]) fuel o' x' (by rw [hA]; simp) (by omega) hx'
      rw [List.length_append] at h2
      exact h2
    unfold pb_X3_finestPlace_4
    refine kt_g0 (kt_ls (p := 11) hs (by omega) ?_)
    rw [h11]
    refine ka_ifN (fun z => by have := (k3_le (by omega) (by omega)).mp z; omega) (kt_g0 (kt_bAt (j := 1) (kt_ls hs (by omega) ?_)))
    rw [g1]
    have h34 : ka_T Z (pb_X3_finestPlace_34 (pb_X3_finestPlace_4 fuel) (some m) k x (Int32.ofNat done.length) k b.2.1) w (kt G m ad (kt_set T 0 f)) (fun r w' H' => w' = w ∧ H' = kt G m ad (kt_set T 0 f) ∧ vt_best bx (v_fin o (v_of k (b :: t))) r) := by
      unfold pb_X3_finestPlace_34
      by_cases hbk : b.2.1 = k
      · have ev : v_of k (b :: t) = b :: v_of k t := by unfold v_of; rw [List.filter_cons_of_pos (by simpa using hbk)]
        rw [ev]
        refine ka_ifP hbk ?_
        cases o with
        | none =>
          have hx1 : x = -1 := hx
          subst hx1
          refine ka_ifN (by decide) ?_
          unfold pb_X3_finestPlace_69 pb_X3_finestPlace_109 pb_X3_finestPlace_110
          refine ka_ifP (by decide) ?_
          rw [v_fin]
          exact hnext (some b) _ ⟨done.length, hb, rfl⟩
        | some c =>
          obtain ⟨j, hj, rfl⟩ := hx
          obtain ⟨c0, c1, c2⟩ := hB _ _ hj
          have hj4 := ke_get_lt hj
          obtain ⟨nb, nb1, nb2, nb3⟩ := v_fine_nat (hok b hbm)
          obtain ⟨nc, nc1, nc2, nc3⟩ := v_fine_nat (hok c (List.mem_of_getElem? hj))
          refine ka_ifP ((k3_le (a := 0) (by omega) (by omega)).mpr (by omega)) (kt_g0 (kt_bAt (j := 2) (kt_ls hs (by omega) (kt_g0 (kt_bAt (j := 2) (kt_ls hs (by omega) ?_))))))
          rw [g2, c2, nb3, nc3, v_fin]
          have hfi : v_finer b c = true ↔ nc < nb ∨ (nb = nc ∧ b.1 < c.1) := by
            rw [v_finer_iff, nb3, nc3, k3_lt (by omega) (by omega), k3_eq (by omega) (by omega)]
          unfold pb_X3_finestPlace_69
          by_cases hlt : nc < nb
          · rw [k3_sub (by omega), if_pos (hfi.mpr (Or.inl hlt))]
            refine ka_ifP ((k3_lt (a := 0) (by omega) (by omega)).mpr (by omega)) ?_
            unfold pb_X3_finestPlace_109 pb_X3_finestPlace_110
            exact hnext (some b) _ ⟨done.length, hb, rfl⟩
          · have hs0 : Int32.ofNat nb - Int32.ofNat nc = -Int32.ofNat (nc - nb) := by
              rw [← k3_sub (by omega), Int32.neg_sub]
            have h09 : ∀ d : Fin 10, ¬ (0 : Int32) < -Int32.ofNat d.val ∧ (-Int32.ofNat d.val = 0 ↔ d.val = 0) := by decide
            have h9 := h09 ⟨nc - nb, by omega⟩
            rw [hs0]
            refine ka_ifN h9.1 ?_
            by_cases heq : nb = nc
            · refine ka_ifN (fun z => z (h9.2.mpr (by simp only; omega))) (kt_g0 (kt_bAt (j := 0) (kt_ls hs (by omega) (kt_g0 (kt_bAt (j := 0) (kt_ls hs (by omega) ?_))))))
              rw [g0, c0]
              by_cases hnum : b.1 < c.1
              · rw [if_pos (hfi.mpr (Or.inr ⟨heq, hnum⟩))]
                refine ka_ifN (Int32.not_le.mpr hnum) ?_
                unfold pb_X3_finestPlace_109 pb_X3_finestPlace_110
                exact hnext (some b) _ ⟨done.length, hb, rfl⟩
              · rw [if_neg (show ¬ v_finer b c = true from fun z => by rcases hfi.mp z with h | h; exact hlt h; exact hnum h.2)]
                refine ka_ifP (Int32.not_lt.mp hnum) ?_
                unfold pb_X3_finestPlace_108 pb_X3_finestPlace_109 pb_X3_finestPlace_110
                exact hnext (some c) _ ⟨j, hj, rfl⟩
            · rw [if_neg (show ¬ v_finer b c = true from fun z => by rcases hfi.mp z with h | h; exact hlt h; exact heq h.1)]
              refine ka_ifP (fun z => heq (by have := h9.2.mp z; simp only at this; omega)) ?_
              unfold pb_X3_finestPlace_108 pb_X3_finestPlace_109 pb_X3_finestPlace_110
              exact hnext (some c) _ ⟨j, hj, rfl⟩
      · have ev : v_of k (b :: t) = v_of k t := by unfold v_of; rw [List.filter_cons_of_neg (by simpa using hbk)]
        rw [ev]
        refine ka_ifN hbk ?_
        unfold pb_X3_finestPlace_110
        exact hnext o x hx
    rcases hk with e | e
    · subst e
      exact ka_ifP rfl h34
    · subst e
      exact ka_ifN (by decide) h34
theorem kt_finestPlace {bx : List vB} {k : Int32} (hs : kt_sep m ad) (hB : ke_B f bx) (h11 : f 11 = Int32.ofNat bx.length) (hn : bx.length ≤ 240) (hk : k = 0 ∨ k = 1) (hok : ∀ b ∈ bx, v_bok b) : ka_T Z (pm_X3_finestPlace (some m) k) w (kt G m ad (kt_set T 0 f)) (fun r w' H' => w' = w ∧ H' = kt G m ad (kt_set T 0 f) ∧ vt_best bx (v_fin none (v_of k bx)) r) := by
  unfold pm_X3_finestPlace
  exact kt_fpLoop hs hB h11 hn hk hok bx [] km_fuel none (-1) rfl (by unfold km_fuel; omega) rfl
end KTK
