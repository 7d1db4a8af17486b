set_option maxRecDepth 100000
section KTZK
variable {Z : ka_Z} {w : Nat} {G : ka_H} {m : Nat} {ad : Nat → Nat} {T : kT} {X : vX} {f : Nat → Int32} {cc dd : Nat}
theorem v_sizes_n : ∀ (st : List vS) (n : Int32), v_sizes n st = n + Int32.ofNat (st.flatMap vS.bs).length := by
  intro st
  induction st with
  | nil => intro n; exact (Int32.add_zero n).symm
  | cons r t ih =>
    intro n
    rw [v_sizes, ih, List.flatMap_cons, List.length_append, Int32.add_assoc, k3_add]
def vt_dsz : Int32 → List vD → Int32
  | n, [] => n
  | n, d :: t => vt_dsz (n + Int32.ofNat d.bs.length) t
theorem vt_dsz_n : ∀ (so : List vD) (n : Int32), vt_dsz n so = n + Int32.ofNat (so.flatMap vD.bs).length := by
  intro so
  induction so with
  | nil => intro n; exact (Int32.add_zero n).symm
  | cons r t ih =>
    intro n
    rw [vt_dsz, ih, List.flatMap_cons, List.length_append, Int32.add_assoc, k3_add]
theorem kt_soldLoop {so : List vD} {b0 : Nat} (hs : kt_sep m ad) (hD : ∀ i d, so[i]? = some d → f (b0 + 5 * i + 1) = Int32.ofNat d.bs.length) (hb : b0 + 5 * so.length ≤ 2188) : ∀ (rest done : List vD) (fuel : Nat) (n : Int32), so = done ++ rest → rest.length < fuel → ka_T Z (pb_X3_sold_5 fuel (some m) (Int32.ofNat b0) (Int32.ofNat so.length) n (Int32.ofNat done.length)) w (kt G m ad (kt_set T 0 f)) (ka_V w (kt G m ad (kt_set T 0 f)) (vt_dsz n rest)) := by
  intro rest
  induction rest with
  | nil =>
    intro done fuel n hA hf
    obtain ⟨fuel, rfl⟩ : ∃ n, fuel = n + 1 := ⟨fuel - 1, by omega⟩
    have hA1 : done.length = so.length := by rw [hA, List.append_nil]
    unfold pb_X3_sold_5
    exact ka_ifP ((k3_le (by omega) (by omega)).mpr (by omega)) (ka_pure ⟨rfl, rfl, rfl⟩)
  | cons d t ih =>
    intro done fuel n hA hf
    obtain ⟨fuel, rfl⟩ : ∃ n, fuel = n + 1 := ⟨fuel - 1, by omega⟩
    have hAl : so.length = done.length + (t.length + 1) := by rw [hA, List.length_append]; rfl
    simp only [List.length_cons] at hf
    have hd : so[done.length]? = some d := by rw [hA]; simp
    have e5 : Int32.ofNat b0 + 5 * Int32.ofNat done.length = Int32.ofNat (b0 + 5 * done.length) := by
      rw [show (5 : Int32) = Int32.ofNat 5 from rfl, k3_mul, k3_add]
    unfold pb_X3_sold_5
    refine ka_ifN (fun z => by have := (k3_le (by omega) (by omega)).mp z; omega) (kt_g0 ?_)
    rw [e5, k3_succ, k3_succ]
    refine kt_ls hs (by omega) ?_
    rw [hD _ d hd, vt_dsz]
    have h2 := ih (done ++ [d]) fuel (n + Int32.ofNat d.bs.length) (by rw [hA]; simp) (by omega)
    rw [List.length_append] at h2
    exact h2
theorem kt_isCounted (hs : kt_sep m ad) (hR : kR T X) (hz : vX_sz X) (hok : v_ok cc dd X.now) : ka_T Z (pm_X3_isCounted (some m)) w (kt G m ad T) (ka_V w (kt G m ad T) 1) := by
  refine kt_rowF (fun T0 f hf hT => ?_)
  obtain ⟨hst, l, hl, he⟩ := hR.1
  rw [← hf] at he
  obtain ⟨z1, z2, z3, z4, z5, z6, z7, z8⟩ := hz.1
  have e11 : f 11 = Int32.ofNat X.now.bx.length := by rw [he.1.2.2.2.1, ← hl.length_eq]; rfl
  have h14 : f 14 = Int32.ofNat X.now.so.length := he.1.2.2.2.2.2.2.1
  have h15 : f 15 = Int32.ofNat X.now.wa.length := he.1.2.2.2.2.2.2.2
  have e2 : f 2 = X.now.sc 2 := he.1.1 2 (by omega)
  have e7 : f 7 = X.now.sc 7 := he.1.1 7 (by omega)
  have e8 : f 8 = X.now.sc 8 := he.1.1 8 (by omega)
  unfold pm_X3_isCounted
  refine kt_g0 (kt_ls (p := 2) hs (by omega) (kt_g0 (kt_ls (p := 11) hs (by omega) (kt_is (ka_use (by unfold pm_X3_onStrings; exact kt_sizesLoop hs he.2.2.2.2.1 he.1.2.2.2.2.1 z4 X.now.st [] km_fuel 0 rfl (by unfold km_fuel; omega)) (kt_g0 (kt_ls (p := 14) hs (by omega) ?_)))))))
  rw [h14]
  refine kt_is (ka_use (by unfold pm_X3_sold; exact kt_soldLoop (b0 := 1148) hs (fun i d hd => (he.2.2.2.2.2.2.1 i d hd).2.1) (show 1148 + 5 * X.now.so.length ≤ 2188 by omega) X.now.so [] km_fuel 0 rfl (by unfold km_fuel; omega)) (kt_g0 (kt_ls (p := 15) hs (by omega) ?_)))
  rw [h15]
  refine kt_is (ka_use (by unfold pm_X3_sold; exact kt_soldLoop (b0 := 1188) hs (fun i d hd => (he.2.2.2.2.2.2.2 i d hd).1) (show 1188 + 5 * X.now.wa.length ≤ 2188 by omega) X.now.wa [] km_fuel 0 rfl (by unfold km_fuel; omega)) (kt_g0 (kt_ls (p := 7) hs (by omega) (kt_g0 (kt_ls (p := 8) hs (by omega) ?_)))))
  rw [e2, e11, e7, e8, v_sizes_n, vt_dsz_n, vt_dsz_n]
  obtain ⟨c, day, W, q1, q2, q3, q4, q5, q6, q7, q8⟩ := hok.2.2.2.2.2
  have hcnt := q5.length_eq
  rw [List.length_append, List.length_map, List.length_range, v_all_len] at hcnt
  refine ka_ifN (fun z => z ?_) (ka_ret rfl (ka_pure ⟨rfl, rfl, rfl⟩))
  rw [q1, Int32.zero_add, Int32.zero_add, Int32.zero_add, k3_add, k3_add, k3_add, Int32.add_assoc, q7, k3_add]
  refine congrArg Int32.ofNat ?_
  have a1 : (X.now.st.flatMap vS.bs).length = (X.now.st.flatMap (·.bs)).length := rfl
  have a2 : (X.now.so.flatMap vD.bs).length = (X.now.so.flatMap (·.bs)).length := rfl
  have a3 : (X.now.wa.flatMap vD.bs).length = (X.now.wa.flatMap (·.bs)).length := rfl
  omega
end KTZK
