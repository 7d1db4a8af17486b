set_option maxRecDepth 100000
section KTZA
variable {Z : ka_Z} {w : Nat} {G : ka_H} {m : Nat} {ad : Nat → Nat} {T : kT} {X : vX} {f : Nat → Int32} {V : kV} {cc dd : Nat}
theorem kt_nextLoop {so : List vD} {day : Int32} (hs : kt_sep m ad) (hD : ke_D f so) (h14 : f 14 = Int32.ofNat so.length) (h0 : f 0 = day) (hn : so.length ≤ 8) : ∀ (rest done : List vD) (fuel : Nat) (n : Int32), so = done ++ rest → rest.length < fuel → ka_T Z (pb_X3_nextBack_5 fuel (some m) n (Int32.ofNat done.length)) w (kt G m ad (kt_set T 0 f)) (ka_V w (kt G m ad (kt_set T 0 f)) (v_next day n rest)) := by
  intro rest
  induction rest with
  | nil =>
    intro done fuel n hA hf
    obtain ⟨fuel, rfl⟩ : ∃ n, fuel = n + 1 := ⟨fuel - 1, by omega⟩
    have hA1 : done.length = so.length := by rw [hA, List.append_nil]
    unfold pb_X3_nextBack_5
    refine kt_g0 (kt_ls (p := 14) hs (by omega) ?_)
    rw [h14]
    exact ka_ifP ((k3_le (by omega) (by omega)).mpr (by omega)) (ka_pure ⟨rfl, rfl, rfl⟩)
  | cons d t ih =>
    intro done fuel n hA hf
    obtain ⟨fuel, rfl⟩ : ∃ n, fuel = n + 1 := ⟨fuel - 1, by omega⟩
    have hAl : so.length = done.length + (t.length + 1) := by rw [hA, List.length_append]; rfl
    simp only [List.length_cons] at hf
    have hd : so[done.length]? = some d := by rw [hA]; simp
    have e48 : (1148 : Int32) + 5 * Int32.ofNat done.length = Int32.ofNat (1148 + 5 * done.length) := by
      rw [show (1148 : Int32) = Int32.ofNat 1148 from rfl, show (5 : Int32) = Int32.ofNat 5 from rfl, k3_mul, k3_add]
    have c0 : Int32.ofNat (1148 + 5 * done.length) + 0 = Int32.ofNat (1148 + 5 * done.length + 0) := k3_add (b := 0)
    have hnext : ∀ n', ka_T Z (pb_X3_nextBack_53 (pb_X3_nextBack_5 fuel) (some m) (Int32.ofNat done.length) n') w (kt G m ad (kt_set T 0 f)) (ka_V w (kt G m ad (kt_set T 0 f)) (v_next day n' t)) := by
      intro n'
      unfold pb_X3_nextBack_53
      rw [k3_succ]
      have h2 := ih (done ++ [d]) fuel n' (by rw [hA]; simp) (by omega)
      rw [List.length_append] at h2
      exact h2
    unfold pb_X3_nextBack_5
    refine kt_g0 (kt_ls (p := 14) hs (by omega) ?_)
    rw [h14]
    refine ka_ifN (fun z => by have := (k3_le (by omega) (by omega)).mp z; omega) (kt_g0 ?_)
    rw [e48, c0]
    refine kt_ls hs (by omega) (kt_g0 (kt_ls (p := 0) hs (by omega) ?_))
    rw [(hD _ d hd).1, h0, v_next]
    by_cases h6 : n = -6
    · have e : (if n = -6 ∨ v_last d - day < n then v_last d - day else n) = v_last d - day := if_pos (Or.inl h6)
      rw [e]
      exact ka_ifN (fun z => z h6) (hnext _)
    · have e : (if n = -6 ∨ v_last d - day < n then v_last d - day else n) = km_min n (v_last d - day) := by
        unfold km_min
        by_cases hlt : v_last d - day < n
        · rw [if_pos (Or.inr hlt), if_pos hlt]
        · rw [if_neg (fun z => by rcases z with z | z; exact h6 z; exact hlt z), if_neg hlt]
      rw [e]
      exact ka_ifP h6 (ka_use kt_less (hnext _))
theorem kt_nextBack (hs : kt_sep m ad) (hR : kR T X) (hz : vX_sz X) : ka_T Z (pm_X3_nextBack (some m)) w (kt G m ad T) (ka_V w (kt G m ad T) (vq_nextBack X)) := by
  refine kt_row (P := fun _ _ => True) (fun T0 f hf hT => ?_)
  obtain ⟨hst, l, hl, he⟩ := hR.1
  rw [← hf] at he
  have hz1 := hz.1.2.2.2.2.2.1
  unfold pm_X3_nextBack vq_nextBack
  exact kt_nextLoop hs he.2.2.2.2.2.2.1 he.1.2.2.2.2.2.2.1 (he.1.1 0 (by omega)) hz1 X.now.so [] km_fuel (-6) rfl (by unfold km_fuel; omega)
end KTZA
