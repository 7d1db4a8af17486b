set_option maxRecDepth 100000
section KTJ
variable {Z : ka_Z} {w : Nat} {G : ka_H} {m : Nat} {ad : Nat → Nat} {T : kT} {X : vX} {f : Nat → Int32} {V : kV} {cc dd : Nat}
theorem v_one_f {i : Nat} {k : Int32} : (v_one V i k).2.sc 1 = V.sc 1 - (if k = 0 then 1 else 2) ∧ (v_one V i k).2.cs.length = V.cs.length ∧ (v_one V i k).2.ls = V.ls ∧ (v_one V i k).2.st = V.st ∧ (v_one V i k).2.ps = V.ps ∧ (v_one V i k).2.so = V.so ∧ (v_one V i k).2.wa = V.wa ∧ (((v_one V i k).1 = 0 ∧ (v_one V i k).2.bx = V.bx) ∨ ((v_one V i k).1 = 1 ∧ ∃ b, (v_one V i k).2.bx = V.bx ++ [b])) := by
  by_cases h : v_sight V i < (if k = 0 then 4 else 2)
  · have e : v_one V i k = (0, V.cs.set i ((V.cs.getD i (0, 0, 0, 0)).1, km_min 99 ((V.cs.getD i (0, 0, 0, 0)).2.1 + (if k = 0 then 3 else 2)), (V.cs.getD i (0, 0, 0, 0)).2.2.1, (V.cs.getD i (0, 0, 0, 0)).2.2.2 + 1), V.ls, V.bx, V.st, V.ps, V.so, V.wa, V.aw, v_num (v_num V.sc 1 (V.sc 1 - (if k = 0 then 1 else 2))) 3 (V.sc 3 + 1)) := if_pos h
    rw [e]
    exact ⟨rfl, List.length_set, rfl, rfl, rfl, rfl, rfl, Or.inl ⟨rfl, rfl⟩⟩
  · have e : v_one V i k = (1, V.cs.set i ((V.cs.getD i (0, 0, 0, 0)).1, km_min 99 ((V.cs.getD i (0, 0, 0, 0)).2.1 + (if k = 0 then 3 else 2)), (V.cs.getD i (0, 0, 0, 0)).2.2.1 + 1, (V.cs.getD i (0, 0, 0, 0)).2.2.2), V.ls, V.bx ++ [(V.sc 2, k, km_min 9 (v_sight V i))], V.st, V.ps, V.so, V.wa, V.aw, v_num (v_num V.sc 1 (V.sc 1 - (if k = 0 then 1 else 2))) 2 (V.sc 2 + 1)) := if_neg h
    rw [e]
    exact ⟨rfl, List.length_set, rfl, rfl, rfl, rfl, rfl, Or.inr ⟨rfl, _, rfl⟩⟩
theorem v_one_sz {i : Nat} {k : Int32} (h : v_sz V) (hn : V.bx.length < 240) : v_sz (v_one V i k).2 := by
  obtain ⟨e1, e2, e3, e4, e5, e6, e7, e8⟩ := v_one_f (V := V) (i := i) (k := k)
  obtain ⟨z1, z2, z3, z4, z5, z6, z7, z8⟩ := h
  refine ⟨by rw [e2]; exact z1, by rw [e3]; exact z2, ?_, by rw [e4]; exact z4, by rw [e5]; exact z5, by rw [e6]; exact z6, by rw [e7]; exact z7, by rw [e4]; exact z8⟩
  rcases e8 with ⟨-, e⟩ | ⟨-, b, e⟩
  · rw [e]; exact z3
  · rw [e, List.length_append]
    simp only [List.length_cons, List.length_nil]
    omega
theorem kt_manyLoop {i many : Nat} {k had : Int32} (hs : kt_sep m ad) (hk : k = 0 ∨ k = 1) (hm : many ≤ 10) : ∀ (d j fuel : Nat) (f : Nat → Int32) (V : kV) (l : List vB) (n : Int32) (a q : Nat), j + d = many → d < fuel → ke f (V.wb l) → l.Perm V.bx → v_sz V → i < V.cs.length → V.bx.length + d ≤ 240 → V.sc 1 = Int32.ofNat q → q ≤ 999 → d * (if k = 0 then 1 else 2) ≤ q → had = Int32.ofNat a → n = Int32.ofNat (V.bx.length - a) → a ≤ V.bx.length → V.bx.length - a ≤ j → ka_T Z (pb_X3_carves_117 fuel (some m) (Int32.ofNat i) k (Int32.ofNat many) had (Int32.ofNat j)) w (kt G m ad (kt_set T 0 f)) (fun r w' H' => w' = w ∧ r = (v_many i k d n V).1 ∧ (∃ b, b ≤ 10 ∧ (v_many i k d n V).1 = Int32.ofNat b) ∧ ∃ f', H' = kt G m ad (kt_set T 0 f') ∧ keP f' (v_many i k d n V).2) := by
  intro d
  induction d with
  | zero =>
    intro j fuel f V l n a q hj hf he hl hz hi hb hq hq9 hd hh hn ha haj
    obtain ⟨fuel, rfl⟩ : ∃ n, fuel = n + 1 := ⟨fuel - 1, by omega⟩
    unfold pb_X3_carves_117
    refine ka_ifP ((k3_le (by omega) (by omega)).mpr (by omega)) (kt_g0 (kt_ls (p := 11) hs (by omega) (ka_pure ⟨rfl, ?_, ⟨V.bx.length - a, by omega, hn⟩, f, rfl, ⟨q, hq9, hq⟩, l, hl, he⟩)))
    rw [he.1.2.2.2.1, hh]
    show Int32.ofNat l.length - Int32.ofNat a = n
    rw [hl.length_eq, k3_sub ha, hn]
  | succ d ih =>
    intro j fuel f V l n a q hj hf he hl hz hi hb hq hq9 hd hh hn ha haj
    obtain ⟨fuel, rfl⟩ : ∃ n, fuel = n + 1 := ⟨fuel - 1, by omega⟩
    unfold pb_X3_carves_117
    refine ka_ifN (fun z => by have := (k3_le (by omega) (by omega)).mp z; omega) (kt_is (ka_call (kt_one hs he hl hz hi (by omega) hk) (fun r w' H' hp => ?_)))
    obtain ⟨rfl, f', l', rfl, hl', hf'⟩ := hp
    obtain ⟨e1, e2, e3, e4, e5, e6, e7, e8⟩ := v_one_f (V := V) (i := i) (k := k)
    have hS : (d + 1) * (if k = 0 then 1 else 2) = d * (if k = 0 then 1 else 2) + (if k = 0 then 1 else 2) := Nat.succ_mul _ _
    have hS1 : (if k = 0 then (1 : Int32) else 2) = Int32.ofNat (if k = 0 then 1 else 2) := by split <;> rfl
    have hblen : (v_one V i k).2.bx.length ≤ V.bx.length + 1 ∧ V.bx.length ≤ (v_one V i k).2.bx.length ∧ (v_one V i k).1 = Int32.ofNat ((v_one V i k).2.bx.length - V.bx.length) := by
      rcases e8 with ⟨g1, g2⟩ | ⟨g1, b, g2⟩
      · rw [g1, g2]
        exact ⟨by omega, by omega, by rw [Nat.sub_self]; rfl⟩
      · rw [g1, g2, List.length_append]
        simp only [List.length_cons, List.length_nil]
        exact ⟨by omega, by omega, by rw [Nat.add_sub_cancel_left]; rfl⟩
    rw [k3_succ, v_many]
    refine ih (j + 1) fuel f' (v_one V i k).2 l' (n + (v_one V i k).1) a (q - (if k = 0 then 1 else 2)) (by omega) (by omega) hf' hl' (v_one_sz hz (by omega)) (by omega) (by omega) ?_ (by omega) (by omega) hh ?_ (by omega) (by omega)
    · rw [e1, hq, hS1, k3_sub (by omega)]
    · rw [hn, hblen.2.2, k3_add]
      congr 1
      omega
theorem kt_carves {c k b : Int32} {B : Bool} (hs : kt_sep m ad) (hf : keP f V) (hz : v_sz V) (hk : k = 0 ∨ k = 1) (hcc : V.bx.length ≤ 230) : ka_T Z (pm_X3_carves (some m) c k b) w (kt G m ad (kt_set T 0 f)) (kt_bod B (if v_in c 0 (Int32.ofNat V.cs.length - 1) = 1 then -2 else -1) w G m ad (kt_set T 0 f) (v_cv V k c b)) := by
  obtain ⟨⟨q, hq9, hq⟩, l, hl, he⟩ := id hf
  obtain ⟨z1, z2, z3, z4, z5, z6, z7, z8⟩ := id hz
  have e9 : f 9 = Int32.ofNat V.cs.length := he.1.2.1
  unfold pm_X3_carves
  refine kt_is (ka_use (kt_isC hs e9) ?_)
  by_cases h : v_in c 0 (Int32.ofNat V.cs.length - 1) = 1
  · rw [if_pos h]
    refine ka_ifP (by rw [h]; decide) (ka_use kt_isIn ?_)
    obtain ⟨i, rfl, hi⟩ := v_in_idx (by omega) h
    by_cases h2 : v_in b 1 10 = 1
    · obtain ⟨j, rfl, hj1, hj2⟩ := v_in_nat (a := 1) (b := 10) (by omega) (by omega) h2
      have hcv : v_cv V k (Int32.ofNat i) (Int32.ofNat j) = v_carves V i k j := by
        unfold v_cv
        rw [k3_nat (a := i) (by omega), k3_nat (a := j) (by omega)]
        exact if_pos ⟨h, h2⟩
      rw [hcv]
      obtain ⟨x, hx⟩ : ∃ x, V.cs[i]? = some x := ⟨_, List.getElem?_eq_getElem hi⟩
      have hgd : V.cs.getD i (0, 0, 0, 0) = x := by rw [List.getD, hx]; rfl
      refine ka_ifP (by rw [h2]; decide) (kt_g0 (kt_cAt (j := 1) (kt_ls hs (by omega) ?_)))
      rw [(he.2.1 i x hx).2.1]
      have key : ∀ s : Nat, s = (if k = 0 then 1 else 2) → ka_T Z (pb_X3_carves_45 (some m) (Int32.ofNat i) k (Int32.ofNat j) x.2.1 (Int32.ofNat s) (Int32.ofNat j)) w (kt G m ad (kt_set T 0 f)) (kt_bod B (-2) w G m ad (kt_set T 0 f) (v_carves V i k j)) := by
        intro s hs1
        have hS1 : (if k = 0 then (1 : Int32) else 2) = Int32.ofNat s := by rw [hs1]; split <;> rfl
        have hs3 : s ≤ 2 := by rw [hs1]; split <;> omega
        have hjs : j * s ≤ 20 := Nat.le_trans (Nat.mul_le_mul hj2 hs3) (by omega)
        unfold pb_X3_carves_45 v_carves
        dsimp only
        rw [hgd, hS1]
        refine kt_g0 (kt_ls (p := 1) hs (by omega) ?_)
        rw [he.1.1 1 (by omega)]
        show ka_T Z (if x.2.1 < 60 then (if Int32.ofNat j * Int32.ofNat s - V.sc 1 ≤ 0 then _ else _) else _) _ _ _
        by_cases ht : 60 ≤ x.2.1
        · have e : (if 60 ≤ x.2.1 then (.inl [(2, x.2.1)] : vR) else if 0 < Int32.ofNat j * Int32.ofNat s - V.sc 1 then .inl [(3, Int32.ofNat j * Int32.ofNat s - V.sc 1)] else if 60 < V.bx.length + j then .inl [(1, 60)] else .inr (v_many i k j 0 V)) = .inl [(2, x.2.1)] := if_pos ht
          rw [e]
          exact ka_ifN (Int32.not_lt.mpr ht) (kt_is (ka_mv (kt_refuse hs) (ka_pure (kt_bodN (by decide)))))
        · have e : (if 60 ≤ x.2.1 then (.inl [(2, x.2.1)] : vR) else if 0 < Int32.ofNat j * Int32.ofNat s - V.sc 1 then .inl [(3, Int32.ofNat j * Int32.ofNat s - V.sc 1)] else if 60 < V.bx.length + j then .inl [(1, 60)] else .inr (v_many i k j 0 V)) = if 0 < Int32.ofNat j * Int32.ofNat s - V.sc 1 then .inl [(3, Int32.ofNat j * Int32.ofNat s - V.sc 1)] else if 60 < V.bx.length + j then .inl [(1, 60)] else .inr (v_many i k j 0 V) := if_neg ht
          rw [e]
          refine ka_ifP (Int32.not_le.mp ht) ?_
          by_cases hla : 0 < Int32.ofNat j * Int32.ofNat s - V.sc 1
          · have e : (if 0 < Int32.ofNat j * Int32.ofNat s - V.sc 1 then (.inl [(3, Int32.ofNat j * Int32.ofNat s - V.sc 1)] : vR) else if 60 < V.bx.length + j then .inl [(1, 60)] else .inr (v_many i k j 0 V)) = .inl [(3, Int32.ofNat j * Int32.ofNat s - V.sc 1)] := if_pos hla
            rw [e]
            exact ka_ifN (Int32.not_le.mpr hla) (kt_is (ka_mv (kt_refuse hs) (ka_pure (kt_bodN (by decide)))))
          · have e : (if 0 < Int32.ofNat j * Int32.ofNat s - V.sc 1 then (.inl [(3, Int32.ofNat j * Int32.ofNat s - V.sc 1)] : vR) else if 60 < V.bx.length + j then .inl [(1, 60)] else .inr (v_many i k j 0 V)) = if 60 < V.bx.length + j then .inl [(1, 60)] else .inr (v_many i k j 0 V) := if_neg hla
            rw [e]
            refine ka_ifP (Int32.not_lt.mp hla) (kt_g0 (kt_ls (p := 11) hs (by omega) ?_))
            have hll : l.length = V.bx.length := hl.length_eq
            have e11 : f 11 = Int32.ofNat V.bx.length := by rw [he.1.2.2.2.1, ← hll]; rfl
            rw [e11, k3_add]
            have henough : j * s ≤ q := by
              refine Nat.le_of_not_lt (fun z => hla ?_)
              rw [hq, k3_mul, k3_sub (by omega)]
              exact (k3_lt (a := 0) (by omega) (by omega)).mpr (by omega)
            by_cases hbx : 60 < V.bx.length + j
            · have e : (if 60 < V.bx.length + j then (.inl [(1, 60)] : vR) else .inr (v_many i k j 0 V)) = .inl [(1, 60)] := if_pos hbx
              rw [e]
              exact ka_ifN (fun z => by have := (k3_le (b := 60) (by omega) (by omega)).mp z; omega) (kt_is (ka_mv (kt_refuse hs) (ka_pure (kt_bodN (by decide)))))
            · have e : (if 60 < V.bx.length + j then (.inl [(1, 60)] : vR) else .inr (v_many i k j 0 V)) = .inr (v_many i k j 0 V) := if_neg hbx
              rw [e]
              refine ka_ifP ((k3_le (b := 60) (by omega) (by omega)).mpr (by omega)) (kt_g0 (kt_ls (p := 11) hs (by omega) ?_))
              rw [e11]
              refine ka_post (kt_manyLoop (had := Int32.ofNat V.bx.length) hs hk hj2 j 0 km_fuel f V l 0 V.bx.length q (Nat.zero_add _) (by unfold km_fuel; omega) he hl hz hi (by omega) hq hq9 (by rw [← hs1]; exact henough) rfl (by rw [Nat.sub_self]; rfl) (Nat.le_refl _) (by omega)) (fun r w' H' hp => ?_)
              obtain ⟨rfl, rfl, ⟨b, hb, hb2⟩, f', rfl, hk'⟩ := hp
              exact ⟨rfl, rfl, by rw [hb2]; exact vt_err_nat (by omega), f', by rw [kt_set_set], hk'⟩
      rcases hk with e | e
      · subst e
        exact ka_ifP rfl (key 1 rfl)
      · subst e
        exact ka_ifN (by decide) (key 2 rfl)
    · have hcv : v_cv V k (Int32.ofNat i) b = .inl [] := if_neg (fun z => h2 z.2)
      rw [hcv]
      exact ka_ifN (by rw [v_in_no h2]; simp) (ka_pure ⟨rfl, rfl, rfl⟩)
  · have hcv : v_cv V k c b = .inl [] := if_neg (fun z => h z.1)
    rw [hcv, if_neg h]
    exact ka_ifN (by rw [v_in_no h]; simp) (ka_pure ⟨rfl, rfl, rfl⟩)
theorem kt_carve {c k b : Int32} (hs : kt_sep m ad) (hR : kR T X) (hz : vX_sz X) (hk : k = 0 ∨ k = 1) (hcc : X.now.bx.length ≤ 230) : ka_T Z (pm_X3_carve (some m) c k b) w (kt G m ad T) (kt_Q w G m ad (vx_carve X c k b)) := by
  unfold pm_X3_carve
  refine kt_keep hs hR hz (fun T0 f hf hrf h0 hw => ?_)
  have hz1 := hz.1.1
  refine kt_is (ka_post (kt_fin (X := X) (res := v_cv X.now k c b) (e := if v_in c 0 (Int32.ofNat X.now.cs.length - 1) = 1 then -2 else -1) hs h0 hz hw hrf hf (by split <;> decide) (kt_carves hs hf hz.1 hk hcc)) (fun r w' H' hp => ?_))
  have e : kt_out X (if v_in c 0 (Int32.ofNat X.now.cs.length - 1) = 1 then -2 else -1) (v_cv X.now k c b) = vx_carve X c k b := by
    unfold vx_carve v_cv
    by_cases h : v_in c 0 (Int32.ofNat X.now.cs.length - 1) = 1
    · have h' : vx_isC X c = 1 := h
      rw [if_pos h, if_pos h']
      by_cases h2 : v_in b 1 10 = 1
      · rw [if_pos ⟨h, h2⟩, if_pos h2]
        obtain ⟨i, rfl, hi⟩ := v_in_idx (by omega) h
        cases hv : v_carves X.now (Int32.ofNat i).toNatClampNeg k b.toNatClampNeg with
        | inl ch =>
          cases ch with
          | nil =>
            unfold v_carves at hv
            dsimp only at hv
            generalize Int32.ofNat b.toNatClampNeg * (if k = 0 then (1 : Int32) else 2) - X.now.sc 1 = L at hv
            split at hv
            · cases hv
            · split at hv
              · cases hv
              · split at hv <;> cases hv
          | cons p t => rfl
        | inr p => rfl
      · rw [if_neg (fun z => h2 z.2), if_neg h2]
        rfl
    · have h' : ¬ vx_isC X c = 1 := h
      rw [if_neg h, if_neg (fun z => h z.1), if_neg h']
      rfl
  rw [← e]
  exact hp
end KTJ
