set_option maxRecDepth 100000
section KTX
variable {Z : ka_Z} {w : Nat} {G : ka_H} {m : Nat} {ad : Nat → Nat} {T : kT} {X : vX} {f : Nat → Int32} {V : kV} {cc dd : Nat}
def vt_box (k s n : Int32) (L : List vB) : Int32 := if s = 0 then n + Int32.ofNat (v_of k L).length else v_fsum n (v_of k L)
theorem kt_boxLoop {bx : List vB} {k s : Int32} (hs : kt_sep m ad) (hB : ke_B f bx) (h11 : f 11 = Int32.ofNat bx.length) (hn : bx.length ≤ 240) (hk : k = 0 ∨ k = 1) : ∀ (rest done : List vB) (fuel : Nat) (n : Int32), bx = done ++ rest → rest.length < fuel → ka_T Z (pb_X3_box_5 fuel (some m) k s n (Int32.ofNat done.length)) w (kt G m ad (kt_set T 0 f)) (ka_V w (kt G m ad (kt_set T 0 f)) (vt_box k s n rest)) := by
  intro rest
  induction rest with
  | nil =>
    intro done fuel n hA hf
    obtain ⟨fuel, rfl⟩ : ∃ n, fuel = n + 1 := ⟨fuel - 1, by omega⟩
    have hA1 : done.length = bx.length := by rw [hA, List.append_nil]
    unfold pb_X3_box_5
    refine kt_g0 (kt_ls (p := 11) hs (by omega) ?_)
    rw [h11]
    refine ka_ifP ((k3_le (by omega) (by omega)).mpr (by omega)) (ka_pure ⟨?_, rfl, rfl⟩)
    unfold vt_box
    split
    · exact (Int32.add_zero n).symm
    · rfl
  | cons b t ih =>
    intro done fuel n hA hf
    obtain ⟨fuel, rfl⟩ : ∃ n, fuel = n + 1 := ⟨fuel - 1, by omega⟩
    have hAl : bx.length = done.length + (t.length + 1) := by rw [hA, List.length_append]; rfl
    simp only [List.length_cons] at hf
    have hb : bx[done.length]? = some b := by rw [hA]; simp
    obtain ⟨g0, g1, g2⟩ := hB _ _ hb
    have hnext : ∀ n', ka_T Z (pb_X3_box_5 fuel (some m) k s n' (Int32.ofNat done.length + 1)) w (kt G m ad (kt_set T 0 f)) (ka_V w (kt G m ad (kt_set T 0 f)) (vt_box k s n' t)) := by
      intro n'
      rw [k3_succ]
      have h2 := ih (done ++ [b]) fuel n' (by rw [hA]; simp) (by omega)
      rw [List.length_append] at h2
      exact h2
    unfold pb_X3_box_5
    refine kt_g0 (kt_ls (p := 11) hs (by omega) ?_)
    rw [h11]
    refine ka_ifN (fun z => by have := (k3_le (by omega) (by omega)).mp z; omega) (kt_g0 (kt_bAt (j := 1) (kt_ls hs (by omega) ?_)))
    rw [g1]
    have h37 : ka_T Z (pb_X3_box_37 (pb_X3_box_5 fuel) (some m) k s n (Int32.ofNat done.length) k b.2.1) w (kt G m ad (kt_set T 0 f)) (ka_V w (kt G m ad (kt_set T 0 f)) (vt_box k s n (b :: t))) := by
      unfold pb_X3_box_37 pb_X3_box_45 pb_X3_box_76
      by_cases hbk : b.2.1 = k
      · have ev : v_of k (b :: t) = b :: v_of k t := by unfold v_of; rw [List.filter_cons_of_pos (by simpa using hbk)]
        refine ka_ifN (fun z => z hbk) (ka_ifP (by decide) (ka_ite (fun h0 => ?_) (fun h0 => ?_)))
        · have e : vt_box k s n (b :: t) = vt_box k s (n + 1) t := by
            unfold vt_box
            rw [if_pos h0, if_pos h0, ev, List.length_cons, Int32.add_assoc, Int32.add_comm 1, k3_succ]
          rw [e]
          exact hnext (n + 1)
        · have e : vt_box k s n (b :: t) = vt_box k s (n + b.2.2) t := by
            unfold vt_box
            rw [if_neg h0, if_neg h0, ev, v_fsum]
          rw [e]
          refine kt_g0 (kt_bAt (j := 2) (kt_ls hs (by omega) ?_))
          rw [g2]
          exact hnext _
      · have ev : v_of k (b :: t) = v_of k t := by unfold v_of; rw [List.filter_cons_of_neg (by simpa using hbk)]
        have e : vt_box k s n (b :: t) = vt_box k s (n + 0) t := by
          unfold vt_box
          rw [ev, Int32.add_zero]
        rw [e]
        exact ka_ifP hbk (ka_ifN (fun z => z rfl) (hnext (n + 0)))
    rcases hk with e | e
    · subst e
      exact ka_ifP rfl h37
    · subst e
      exact ka_ifN (by decide) h37
theorem kt_box0 {k s : Int32} (hs : kt_sep m ad) (hf : keP f V) (hz : v_sz V) (hk : k = 0 ∨ k = 1) : ka_T Z (pm_X3_box (some m) k s) w (kt G m ad (kt_set T 0 f)) (ka_V w (kt G m ad (kt_set T 0 f)) (if s = 0 then Int32.ofNat (v_of k V.bx).length else v_fsum 0 (v_of k V.bx))) := by
  obtain ⟨hst, l, hl, he⟩ := hf
  have hz2 := (v_sz_wb hz hl).2.2.1
  unfold pm_X3_box
  have h := kt_boxLoop (Z := Z) (w := w) (G := G) (T := T) (k := k) (s := s) hs he.2.2.2.1 he.1.2.2.2.1 hz2 hk l [] km_fuel 0 rfl (by have : l.length ≤ 240 := hz2; unfold km_fuel; omega)
  have hp : (v_of k l).Perm (v_of k V.bx) := hl.filter _
  have e : vt_box k s 0 l = (if s = 0 then Int32.ofNat (v_of k V.bx).length else v_fsum 0 (v_of k V.bx)) := by
    unfold vt_box
    rw [hp.length_eq, v_fsum_perm hp, Int32.zero_add]
  rw [← e]
  exact h
theorem kt_box {k s : Int32} (hs : kt_sep m ad) (hR : kR T X) (hz : vX_sz X) (hk : k = 0 ∨ k = 1) : ka_T Z (pm_X3_box (some m) k s) w (kt G m ad T) (ka_V w (kt G m ad T) (vq_box X k s)) := by
  refine kt_row (P := fun _ _ => True) (fun T0 f hf hT => ?_)
  have h1 := hR.1
  rw [← hf] at h1
  exact kt_box0 hs h1 hz.1 hk
theorem kt_finest {k : Int32} (hs : kt_sep m ad) (hR : kR T X) (hz : vX_sz X) (hok : v_ok cc dd X.now) (hk : k = 0 ∨ k = 1) : ka_T Z (pm_X3_finest (some m) k) w (kt G m ad T) (ka_V w (kt G m ad T) (vq_finest X k)) := by
  refine kt_row (P := fun _ _ => True) (fun T0 f hf hT => ?_)
  obtain ⟨hst, l, hl, he⟩ := hR.1
  rw [← hf] at he
  have hzl := v_sz_wb hz.1 hl
  have hl240 : l.length ≤ 240 := hzl.2.2.1
  have hbok : ∀ b ∈ l, v_bok b := fun b hb => hok.2.2.2.1 b (List.mem_append_left _ (hl.mem_iff.mp hb))
  have hndl : (l.map (·.1)).Nodup := (hl.map (·.1)).nodup_iff.mpr (v_nd_bx hok.2.2.2.2.2)
  have hperm : v_fin none (v_of k l) = v_fin none (v_of k X.now.bx) := v_fin_perm (hl.filter _) (hndl.sublist (List.filter_sublist.map _))
  unfold pm_X3_finest vq_finest
  rw [← hperm]
  refine kt_is (ka_call (kt_finestPlace hs he.2.2.2.1 he.1.2.2.2.1 hl240 hk hbok) (fun y w' H' hp => ?_))
  obtain ⟨rfl, rfl, hy⟩ := hp
  have hy3 : vt_best l (v_fin none (v_of k l)) y := hy
  cases hfin : v_fin none (v_of k l) with
  | none =>
    rw [hfin] at hy3
    have hy4 : y = -1 := hy3
    subst hy4
    exact ka_ifN (by decide) (ka_pure ⟨rfl, rfl, rfl⟩)
  | some b =>
    rw [hfin] at hy3
    obtain ⟨j, hj, rfl⟩ := hy3
    have hjl := ke_get_lt hj
    refine ka_ifP ((k3_le (a := 0) (by omega) (by omega)).mpr (by omega)) (kt_g0 (kt_bAt (j := 0) (kt_ls hs (by omega) ?_)))
    rw [(he.2.2.2.1 j b hj).1]
    exact ka_pure ⟨rfl, rfl, rfl⟩
end KTX
