set_option maxRecDepth 100000
section KTT
variable {Z : ka_Z} {w : Nat} {G : ka_H} {m : Nat} {ad : Nat → Nat} {T : kT} {X : vX} {f : Nat → Int32} {V : kV} {cc dd : Nat}
theorem v_num_same {sc : Nat → Int32} {i : Nat} {a b : Int32} : v_num (v_num sc i a) i b = v_num sc i b := by
  funext k
  unfold v_num
  by_cases h : k = i
  · rw [if_pos h, if_pos h]
  · rw [if_neg h, if_neg h, if_neg h]
theorem v_num_id {sc : Nat → Int32} {i : Nat} : v_num sc i (sc i) = sc := by
  funext k
  unfold v_num
  by_cases h : k = i
  · rw [if_pos h, h]
  · rw [if_neg h]
theorem v_weak_in : ∀ (t : List vB) (c : vB), ∃ b, v_weak (some c) t = some b ∧ (b = c ∨ b ∈ t) := by
  intro t
  induction t with
  | nil => intro c; exact ⟨c, rfl, Or.inl rfl⟩
  | cons x t ih =>
    intro c
    rw [v_weak]
    split
    · obtain ⟨b, h1, h2⟩ := ih x
      exact ⟨b, h1, Or.inr (by rcases h2 with e | e; rw [e]; exact List.mem_cons_self; exact List.mem_cons_of_mem _ e)⟩
    · obtain ⟨b, h1, h2⟩ := ih c
      exact ⟨b, h1, h2.imp id (List.mem_cons_of_mem _)⟩
theorem v_weak_ex {bs : List vB} (h : bs ≠ []) : ∃ b, v_weak none bs = some b ∧ b ∈ bs := by
  cases bs with
  | nil => exact absurd rfl h
  | cons c t =>
    obtain ⟨b, h1, h2⟩ := v_weak_in t c
    exact ⟨b, h1, by rcases h2 with e | e; rw [e]; exact List.mem_cons_self; exact List.mem_cons_of_mem _ e⟩
theorem v_fsum_add : ∀ (bs : List vB) (a : Int32), v_fsum a bs = a + v_fsum 0 bs := by
  intro bs
  induction bs with
  | nil => intro a; exact (Int32.add_zero a).symm
  | cons b t ih =>
    intro a
    rw [v_fsum, v_fsum, ih (a + b.2.2), ih (0 + b.2.2), Int32.zero_add, Int32.add_assoc]
theorem v_fsum_perm {l l' : List vB} (h : l.Perm l') : v_fsum 0 l = v_fsum 0 l' := by
  induction h with
  | nil => rfl
  | cons x _ ih => rw [v_fsum, v_fsum, v_fsum_add, v_fsum_add _ (0 + x.2.2), ih]
  | swap x y l =>
    rw [v_fsum, v_fsum, v_fsum, v_fsum, v_fsum_add, v_fsum_add l (0 + x.2.2 + y.2.2), Int32.zero_add, Int32.zero_add, Int32.add_comm y.2.2]
  | trans _ _ ih1 ih2 => exact ih1.trans ih2
abbrev v_mid2 (V : kV) (so wa : List vD) (aw : Nat → Bool) (n : Int32) : kV := (V.cs, V.ls, V.bx, V.st, V.ps, so, wa, aw, v_num V.sc 7 n)
theorem kt_backLoop (hs : kt_sep m ad) (hz1 : V.cs.length ≤ 4 ∧ V.ls.length ≤ 4 ∧ V.bx.length ≤ 240 ∧ V.st.length ≤ 6 ∧ V.ps.length ≤ 6 ∧ ∀ r ∈ V.st, r.bs.length ≤ 28) : ∀ (rest out wa : List vD) (aw : Nat → Bool) (n : Int32) (fuel : Nat) (f : Nat → Int32), rest.length < fuel → ke f (v_mid2 V (out ++ rest) wa aw n) → out.length + rest.length ≤ 8 → wa.length + rest.length ≤ 120 → (∀ d ∈ rest, d.bs ≠ [] ∧ (d.bs.map (·.1)).Nodup ∧ d.bs.length ≤ 28) → ka_T Z (pb_X3_comeBack_2 fuel (some m) (Int32.ofNat out.length)) w (kt G m ad (kt_set T 0 f)) (fun _ w' H' => w' = w ∧ ∃ f', H' = kt G m ad (kt_set T 0 f') ∧ ke f' (v_mid2 V (v_back (V.sc 0) rest out wa aw n).1 (v_back (V.sc 0) rest out wa aw n).2.1 (v_back (V.sc 0) rest out wa aw n).2.2.1 (v_back (V.sc 0) rest out wa aw n).2.2.2)) := by
  obtain ⟨y1, y2, y3, y4, y5, y6⟩ := hz1
  intro rest
  induction rest with
  | nil =>
    intro out wa aw n fuel f hf he ho hw hd
    obtain ⟨fuel, rfl⟩ : ∃ n, fuel = n + 1 := ⟨fuel - 1, by omega⟩
    rw [List.append_nil] at he
    simp only [List.length_nil] at ho
    unfold pb_X3_comeBack_2
    refine kt_g0 (kt_ls (p := 14) hs (by omega) ?_)
    rw [he.1.2.2.2.2.2.2.1]
    exact ka_ifP ((k3_le (by show out.length < _; omega) (by omega)).mpr (Nat.le_refl out.length)) (ka_pure ⟨rfl, f, rfl, he⟩)
  | cons d t ih =>
    intro out wa aw n fuel f hf he ho hw hd
    obtain ⟨fuel, rfl⟩ : ∃ n, fuel = n + 1 := ⟨fuel - 1, by omega⟩
    simp only [List.length_cons] at hf ho hw
    have hol : (out ++ d :: t).length = out.length + (t.length + 1) := by rw [List.length_append]; rfl
    have hdi : (out ++ d :: t)[out.length]? = some d := by simp
    obtain ⟨g0, g1, g2, g3⟩ := he.2.2.2.2.2.2.1 _ d hdi
    have hc14 : f 14 = Int32.ofNat (out.length + (t.length + 1)) := by rw [he.1.2.2.2.2.2.2.1]; show Int32.ofNat (out ++ d :: t).length = _; rw [hol]
    have hc15 : f 15 = Int32.ofNat wa.length := he.1.2.2.2.2.2.2.2
    have hzA : v_sz (v_mid2 V (out ++ d :: t) wa aw n) := ⟨y1, y2, y3, y4, y5, by show (out ++ d :: t).length ≤ 8; omega, by show wa.length ≤ 120; omega, y6⟩
    have e48 : (1148 : Int32) + 5 * Int32.ofNat out.length = Int32.ofNat (1148 + 5 * out.length) := by
      rw [show (1148 : Int32) = Int32.ofNat 1148 from rfl, show (5 : Int32) = Int32.ofNat 5 from rfl, k3_mul, k3_add]
    have e88 : (1188 : Int32) + 5 * Int32.ofNat wa.length = Int32.ofNat (1188 + 5 * wa.length) := by
      rw [show (1188 : Int32) = Int32.ofNat 1188 from rfl, show (5 : Int32) = Int32.ofNat 5 from rfl, k3_mul, k3_add]
    have c0 : Int32.ofNat (1148 + 5 * out.length) + 0 = Int32.ofNat (1148 + 5 * out.length + 0) := k3_add (b := 0)
    have c1 : Int32.ofNat (1188 + 5 * wa.length) + 1 = Int32.ofNat (1188 + 5 * wa.length + 1) := k3_add (b := 1)
    have c2 : Int32.ofNat (1188 + 5 * wa.length) + 2 = Int32.ofNat (1188 + 5 * wa.length + 2) := k3_add (b := 2)
    have c4 : Int32.ofNat (1188 + 5 * wa.length) + 4 = Int32.ofNat (1188 + 5 * wa.length + 4) := k3_add (b := 4)
    unfold pb_X3_comeBack_2
    refine kt_g0 (kt_ls (p := 14) hs (by omega) ?_)
    rw [hc14]
    refine ka_ifN (fun z => by have := (k3_le (by omega) (by omega)).mp z; omega) (kt_g0 ?_)
    rw [e48, c0]
    refine kt_ls hs (by omega) (kt_g0 (kt_ls (p := 0) hs (by omega) ?_))
    rw [g0, he.1.1 0 (by omega)]
    have hs0 : (v_mid2 V (out ++ d :: t) wa aw n).sc 0 = V.sc 0 := rfl
    rw [hs0]
    by_cases hday : V.sc 0 < v_last d
    · have ev : v_back (V.sc 0) (d :: t) out wa aw n = v_back (V.sc 0) t (out ++ [d]) wa aw n := by rw [v_back, if_pos hday]
      rw [ev]
      refine ka_ifN (Int32.not_le.mpr hday) ?_
      rw [k3_succ]
      have h9 := ih (out ++ [d]) wa aw n fuel f (by omega) (by rw [List.append_assoc]; exact he) (by rw [List.length_append]; simp only [List.length_cons, List.length_nil]; omega) (by omega) (fun x hx => hd x (List.mem_cons_of_mem _ hx))
      rw [List.length_append] at h9
      exact h9
    · obtain ⟨hne, hnd, hl28⟩ := hd d List.mem_cons_self
      obtain ⟨b, hb, hbm⟩ := v_weak_ex hne
      obtain ⟨g3k, g3f⟩ := g3 b hb
      have hpm := kp_filter hnd hbm
      have hlen : d.bs.length = (d.bs.filter (fun c => decide (c.1 ≠ b.1))).length + 1 := by
        have := hpm.length_eq
        rw [List.length_cons] at this
        exact this
      have hsum : v_fsum 0 d.bs - b.2.2 = v_fsum 0 (d.bs.filter (fun c => decide (c.1 ≠ b.1))) := by
        rw [v_fsum_perm hpm, v_fsum, v_fsum_add, Int32.zero_add, Int32.add_comm, Int32.add_sub_cancel]
      have ev : v_back (V.sc 0) (d :: t) out wa aw n = v_back (V.sc 0) t out (wa ++ [(d.1, some b, d.bs.filter (fun c => decide (c.1 ≠ b.1)))]) (kn_add aw b.1.toNatClampNeg) (n + 1) := by
        rw [v_back, if_neg hday, hb]
      rw [ev]
      refine ka_ifP (Int32.not_lt.mp hday) (kt_g0 (kt_ls (p := 15) hs (by omega) ?_))
      rw [hc15, e88, c1, c2, c4]
      refine kt_g0 (kt_g0 (ka_mv (kt_copies (j := 0) (k := 0) (a := 1148 + 5 * out.length) (b := 1188 + 5 * wa.length) (n := 5) hs (by decide) (by decide) (by show _ ≤ 2188; omega) (by show _ ≤ 2188; omega) (Or.inr (Or.inr (by omega))) (by omega)) ?_))
      rw [kt_set_set, kt_set_same]
      have v1 : vt_cp f f (1148 + 5 * out.length) (1188 + 5 * wa.length) 5 (1188 + 5 * wa.length + 1) = Int32.ofNat d.bs.length := by
        rw [vt_cp_in (by omega) (by omega), ← g1]
        congr 1
        omega
      have v2 : vt_cp f f (1148 + 5 * out.length) (1188 + 5 * wa.length) 5 (1188 + 5 * wa.length + 2) = v_fsum 0 d.bs := by
        rw [vt_cp_in (by omega) (by omega), ← g2]
        congr 1
        omega
      have v3 : vt_cp f f (1148 + 5 * out.length) (1188 + 5 * wa.length) 5 (1188 + 5 * wa.length + 3) = b.2.1 := by
        rw [vt_cp_in (by omega) (by omega), ← g3k]
        congr 1
        omega
      have v4 : vt_cp f f (1148 + 5 * out.length) (1188 + 5 * wa.length) 5 (1188 + 5 * wa.length + 4) = b.2.2 := by
        rw [vt_cp_in (by omega) (by omega), ← g3f]
        congr 1
        omega
      have vo : ∀ p, (p < 1188 + 5 * wa.length ∨ 1188 + 5 * wa.length + 5 ≤ p) → vt_cp f f (1148 + 5 * out.length) (1188 + 5 * wa.length) 5 p = f p := fun p hp => vt_cp_out hp
      generalize vt_cp f f (1148 + 5 * out.length) (1188 + 5 * wa.length) 5 = g at v1 v2 v3 v4 vo ⊢
      refine kt_g0 (kt_ls hs (by omega) ?_)
      rw [v1, k3_pred (by omega)]
      refine kt_ss hs (by omega) (kt_g0 (kt_ls hs (by omega) ?_))
      rw [upd_ne (by omega), v2]
      refine kt_g0 (kt_ls hs (by omega) ?_)
      rw [upd_ne (by omega), v4, hsum]
      refine kt_ss hs (by omega) (kt_g0 (kt_ls (p := 15) hs (by omega) ?_))
      rw [upd_ne (by omega), upd_ne (by omega), vo 15 (by omega), hc15, k3_succ]
      refine kt_ss (p := 15) hs (by omega) (kt_g0 (kt_ls (p := 7) hs (by omega) ?_))
      rw [upd_ne (by omega), upd_ne (by omega), upd_ne (by omega), vo 7 (by omega), he.1.1 7 (by omega)]
      have hs7 : (v_mid2 V (out ++ d :: t) wa aw n).sc 7 = n := rfl
      rw [hs7]
      refine kt_ss (p := 7) hs (by omega) ?_
      have k1 := ke_addW (d := (d.1, some b, d.bs.filter (fun c => decide (c.1 ≠ b.1)))) (f' := upd (upd (upd g (1188 + 5 * wa.length + 1) (Int32.ofNat (d.bs.length - 1))) (1188 + 5 * wa.length + 2) (v_fsum 0 (d.bs.filter (fun c => decide (c.1 ≠ b.1))))) 15 (Int32.ofNat (wa.length + 1))) he hzA (show wa.length < 120 by omega) (fun p hp1 hp2 => by
          have hp3 : p < 1188 + 5 * wa.length ∨ 1188 + 5 * wa.length + 5 ≤ p := hp2
          rw [upd_ne hp1, upd_ne (by omega), upd_ne (by omega), vo p hp3]) upd_same (by
          show upd (upd (upd g (1188 + 5 * wa.length + 1) _) (1188 + 5 * wa.length + 2) _) 15 _ (1188 + 5 * wa.length + 1) = Int32.ofNat (d.bs.filter (fun c => decide (c.1 ≠ b.1))).length
          rw [upd_ne (by omega), upd_ne (by omega), upd_same, hlen, Nat.add_sub_cancel]) (by
          show upd (upd (upd g (1188 + 5 * wa.length + 1) _) (1188 + 5 * wa.length + 2) _) 15 _ (1188 + 5 * wa.length + 2) = _
          rw [upd_ne (by omega), upd_same]) (fun x hx => by
          cases hx
          show upd (upd (upd g (1188 + 5 * wa.length + 1) _) (1188 + 5 * wa.length + 2) _) 15 _ (1188 + 5 * wa.length + 3) = _
          rw [upd_ne (by omega), upd_ne (by omega), upd_ne (by omega), v3])
      have hzB : v_sz (v_mid2 V (out ++ d :: t) (wa ++ [(d.1, some b, d.bs.filter (fun c => decide (c.1 ≠ b.1)))]) aw n) := ⟨y1, y2, y3, y4, y5, by show (out ++ d :: t).length ≤ 8; omega, by show (wa ++ [_]).length ≤ 120; rw [List.length_append]; simp only [List.length_cons, List.length_nil]; omega, y6⟩
      have k2 := ke_num (k := 7) (v := n + 1) k1 (by omega) hzB
      have hkl : out.length < (out ++ d :: t).length := by omega
      have k3 := ke_goD (k := out.length) k2 hzB hkl
      have hgoes := kt_goes (Z := Z) (w := w) (G := G) (T := T) (c := 14) (b := 1148) (s := 5) (n := (out ++ d :: t).length) (k := out.length) hs (by omega) (by omega) hkl k2.1.2.2.2.2.2.2.1
      refine kt_is (ka_mv hgoes ?_)
      have herase : (out ++ d :: t).eraseIdx out.length = out ++ t := by
        rw [List.eraseIdx_append_of_length_le (Nat.le_refl _), Nat.sub_self]
        rfl
      have conv : ∀ F : Nat → Int32, ke F (V.cs, V.ls, V.bx, V.st, V.ps, (out ++ d :: t).eraseIdx out.length, wa ++ [(d.1, some b, d.bs.filter (fun c => decide (c.1 ≠ b.1)))], aw, v_num (v_num V.sc 7 n) 7 (n + 1)) → ke F (v_mid2 V (out ++ t) (wa ++ [(d.1, some b, d.bs.filter (fun c => decide (c.1 ≠ b.1)))]) (kn_add aw b.1.toNatClampNeg) (n + 1)) := by
        intro F h
        rw [herase, v_num_same] at h
        exact h
      have k4 := conv _ k3
      exact ih out (wa ++ [(d.1, some b, d.bs.filter (fun c => decide (c.1 ≠ b.1)))]) (kn_add aw b.1.toNatClampNeg) (n + 1) fuel _ (by omega) k4 (by omega) (by rw [List.length_append]; simp only [List.length_cons, List.length_nil]; omega) (fun x hx => hd x (List.mem_cons_of_mem _ hx))
end KTT
