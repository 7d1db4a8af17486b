set_option maxRecDepth 100000
section KTZH
variable {Z : ka_Z} {w : Nat} {G : ka_H} {m : Nat} {ad : Nat → Nat} {T : kT} {X : vX} {f : Nat → Int32}
theorem kt_doneLoop {st : List vS} (hs : kt_sep m ad) (hS : ke_S f st) (h12 : f 12 = Int32.ofNat st.length) (hn : st.length ≤ 6) : ∀ (rest done : List vS) (fuel : Nat) (n : Int32), st = done ++ rest → rest.length < fuel → ka_T Z (pb_X3_doneOnes_4 fuel (some m) n (Int32.ofNat done.length)) w (kt G m ad (kt_set T 0 f)) (ka_V w (kt G m ad (kt_set T 0 f)) (v_doneOnes n rest)) := by
  intro rest
  induction rest with
  | nil =>
    intro done fuel n hA hf
    obtain ⟨fuel, rfl⟩ : ∃ n, fuel = n + 1 := ⟨fuel - 1, by omega⟩
    have hA1 : done.length = st.length := by rw [hA, List.append_nil]
    unfold pb_X3_doneOnes_4
    refine kt_g0 (kt_ls (p := 12) hs (by omega) ?_)
    rw [h12]
    exact ka_ifP ((k3_le (by omega) (by omega)).mpr (by omega)) (ka_pure ⟨rfl, rfl, rfl⟩)
  | cons r t ih =>
    intro done fuel n hA hf
    obtain ⟨fuel, rfl⟩ : ∃ n, fuel = n + 1 := ⟨fuel - 1, by omega⟩
    have hAl : st.length = done.length + (t.length + 1) := by rw [hA, List.length_append]; rfl
    simp only [List.length_cons] at hf
    have hr : st[done.length]? = some r := by rw [hA]; simp
    have hnext : ∀ s, ka_T Z (pb_X3_doneOnes_29 (pb_X3_doneOnes_4 fuel) (some m) (Int32.ofNat done.length) s n) w (kt G m ad (kt_set T 0 f)) (ka_V w (kt G m ad (kt_set T 0 f)) (v_doneOnes (n + s) t)) := by
      intro s
      unfold pb_X3_doneOnes_29
      rw [k3_succ]
      have h2 := ih (done ++ [r]) fuel (n + s) (by rw [hA]; simp) (by omega)
      rw [List.length_append] at h2
      exact h2
    unfold pb_X3_doneOnes_4
    refine kt_g0 (kt_ls (p := 12) hs (by omega) ?_)
    rw [h12]
    refine ka_ifN (fun z => by have := (k3_le (by omega) (by omega)).mp z; omega) (kt_is (ka_use (kt_isDone hs (by omega) (hS _ _ hr)) ?_))
    rw [v_doneOnes]
    by_cases hd : v_done r = true
    · rw [if_pos hd]
      exact ka_ifN (by decide) (hnext 1)
    · rw [if_neg hd]
      exact ka_ifP rfl (hnext 0)
theorem kt_sizesLoop {st : List vS} (hs : kt_sep m ad) (hS : ke_S f st) (h12 : f 12 = Int32.ofNat st.length) (hn : st.length ≤ 6) : ∀ (rest done : List vS) (fuel : Nat) (n : Int32), st = done ++ rest → rest.length < fuel → ka_T Z (pb_X3_onStrings_4 fuel (some m) n (Int32.ofNat done.length)) w (kt G m ad (kt_set T 0 f)) (ka_V w (kt G m ad (kt_set T 0 f)) (v_sizes n rest)) := by
  intro rest
  induction rest with
  | nil =>
    intro done fuel n hA hf
    obtain ⟨fuel, rfl⟩ : ∃ n, fuel = n + 1 := ⟨fuel - 1, by omega⟩
    have hA1 : done.length = st.length := by rw [hA, List.append_nil]
    unfold pb_X3_onStrings_4
    refine kt_g0 (kt_ls (p := 12) hs (by omega) ?_)
    rw [h12]
    exact ka_ifP ((k3_le (by omega) (by omega)).mpr (by omega)) (ka_pure ⟨rfl, rfl, rfl⟩)
  | cons r t ih =>
    intro done fuel n hA hf
    obtain ⟨fuel, rfl⟩ : ∃ n, fuel = n + 1 := ⟨fuel - 1, by omega⟩
    have hAl : st.length = done.length + (t.length + 1) := by rw [hA, List.length_append]; rfl
    simp only [List.length_cons] at hf
    have hr : st[done.length]? = some r := by rw [hA]; simp
    unfold pb_X3_onStrings_4
    refine kt_g0 (kt_ls (p := 12) hs (by omega) ?_)
    rw [h12]
    refine ka_ifN (fun z => by have := (k3_le (by omega) (by omega)).mp z; omega) (kt_is (ka_use (kt_of (j := 3) hs (by omega) (by omega)) ?_))
    rw [(hS _ _ hr).2.2.2.1, v_sizes, k3_succ]
    have h2 := ih (done ++ [r]) fuel (n + Int32.ofNat r.bs.length) (by rw [hA]; simp) (by omega)
    rw [List.length_append] at h2
    exact h2
end KTZH
