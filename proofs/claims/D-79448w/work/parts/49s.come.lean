set_option maxRecDepth 100000
section KTS
variable {Z : ka_Z} {w : Nat} {G : ka_H} {m : Nat} {ad : Nat → Nat} {T : kT} {X : vX} {f : Nat → Int32} {V : kV} {cc dd : Nat}
/-- the box, the pilgrims are others -/
def kV.rep (V : kV) (l : List vB) (q : List vP) : kV := (V.cs, V.ls, l, V.st, q, V.2.2.2.2.2)
theorem v_buys_rep {l : List vB} {q : List vP} {p : vP} : v_buys (V.rep l q) p = ((v_buys V p).1, (v_buys V p).2.rep l q) := by
  have e : v_wanted (V.rep l q) p = v_wanted V p := rfl
  unfold v_buys
  dsimp only
  rw [e]
  by_cases h : v_wanted V p = -6
  · rw [if_pos h, if_pos h]
  · rw [if_neg h, if_neg h]
    rfl
theorem v_pil_rep {l : List vB} : ∀ (rest keep : List vP) (n : Int32) (V : kV) (q : List vP), v_pil rest keep n (V.rep l q) = ((v_pil rest keep n V).1, (v_pil rest keep n V).2.wb l) := by
  intro rest
  induction rest with
  | nil => intro keep n V q; rfl
  | cons p t ih =>
    intro keep n V q
    rw [v_pil, v_pil]
    have e : (V.rep l q).sc 0 = V.sc 0 := rfl
    rw [e]
    by_cases h : p.1 = V.sc 0
    · rw [if_pos h, if_pos h, v_buys_rep]
      exact ih _ _ _ _
    · rw [if_neg h, if_neg h]
      exact ih _ _ _ _
theorem v_rep_id : V.rep V.bx V.ps = V := rfl
theorem v_pil_ps {rest keep : List vP} {n : Int32} {q : List vP} : v_pil rest keep n (V.cs, V.ls, V.bx, V.st, q, V.2.2.2.2.2) = v_pil rest keep n V := by
  have h1 := v_pil_rep (l := V.bx) rest keep n V q
  have h2 := v_pil_rep (l := V.bx) rest keep n V V.ps
  rw [v_rep_id] at h2
  rw [h2]
  exact h1
theorem kt_pilLoop (hs : kt_sep m ad) : ∀ (rest keep : List vP) (fuel : Nat) (n : Int32) (V : kV) (f : Nat → Int32), V.ps = keep ++ rest → rest.length < fuel → ke f V → v_sz V → (∀ r ∈ V.st, v_sok r) → ka_T Z (pb_X3_pilgrimsCome_4 fuel (some m) n (Int32.ofNat keep.length)) w (kt G m ad (kt_set T 0 f)) (fun r w' H' => w' = w ∧ r = (v_pil rest keep n V).1 ∧ ∃ f', H' = kt G m ad (kt_set T 0 f') ∧ ke f' (v_pil rest keep n V).2) := by
  intro rest
  induction rest with
  | nil =>
    intro keep fuel n V f hA hf he hz hok
    obtain ⟨fuel, rfl⟩ : ∃ n, fuel = n + 1 := ⟨fuel - 1, by omega⟩
    have hz5 := hz.2.2.2.2.1
    have hA1 : V.ps.length = keep.length := by rw [hA, List.append_nil]
    unfold pb_X3_pilgrimsCome_4
    refine kt_g0 (kt_ls (p := 13) hs (by omega) ?_)
    rw [he.1.2.2.2.2.2.1]
    refine ka_ifP ((k3_le (by omega) (by omega)).mpr (by omega)) (ka_pure ⟨rfl, rfl, f, rfl, ?_⟩)
    rw [List.append_nil] at hA
    rw [v_pil, ← hA]
    exact he
  | cons p t ih =>
    intro keep fuel n V f hA hf he hz hok
    obtain ⟨fuel, rfl⟩ : ∃ n, fuel = n + 1 := ⟨fuel - 1, by omega⟩
    obtain ⟨z1, z2, z3, z4, z5, z6, z7, z8⟩ := id hz
    have hAl : V.ps.length = keep.length + (t.length + 1) := by rw [hA, List.length_append]; rfl
    simp only [List.length_cons] at hf
    have hp : V.ps[keep.length]? = some p := by rw [hA]; simp
    obtain ⟨g0, g1, g2, g3⟩ := he.2.2.2.2.2.1 _ p hp
    have herase : V.ps.eraseIdx keep.length = keep ++ t := by
      rw [hA, List.eraseIdx_append_of_length_le (Nat.le_refl _), Nat.sub_self]
      rfl
    -- the pilgrim goes
    have h70 : ∀ (n' : Int32) (V' : kV) (f' : Nat → Int32), V'.ps = V.ps → ke f' V' → v_sz V' → (∀ r ∈ V'.st, v_sok r) → ka_T Z (pb_X3_pilgrimsCome_70 (pb_X3_pilgrimsCome_4 fuel) (some m) n' (Int32.ofNat keep.length)) w (kt G m ad (kt_set T 0 f')) (fun r w' H' => w' = w ∧ r = (v_pil t keep n' V').1 ∧ ∃ f'', H' = kt G m ad (kt_set T 0 f'') ∧ ke f'' (v_pil t keep n' V').2) := by
      intro n' V' f' hps he' hz' hok'
      unfold pb_X3_pilgrimsCome_70
      have hk : keep.length < V'.ps.length := by rw [hps]; omega
      have k1 := ke_goP (k := keep.length) he' hz' hk
      have hn5 := hz'.2.2.2.2.1
      refine kt_is (ka_mv (kt_goes (c := 13) (b := 1124) (s := 4) (n := V'.ps.length) (k := keep.length) hs (by omega) (by omega) hk he'.1.2.2.2.2.2.1) ?_)
      have hz2 : v_sz (V'.cs, V'.ls, V'.bx, V'.st, V'.ps.eraseIdx keep.length, V'.2.2.2.2.2) := by
        obtain ⟨y1, y2, y3, y4, y5, y6, y7, y8⟩ := hz'
        refine ⟨y1, y2, y3, y4, ?_, y6, y7, y8⟩
        show (V'.ps.eraseIdx keep.length).length ≤ 6
        rw [List.length_eraseIdx, if_pos hk]
        omega
      have h9 := ih keep fuel n' (V'.cs, V'.ls, V'.bx, V'.st, V'.ps.eraseIdx keep.length, V'.2.2.2.2.2) _ (by show V'.ps.eraseIdx keep.length = _; rw [hps, herase]) (by omega) k1 hz2 hok'
      rw [v_pil_ps] at h9
      exact h9
    unfold pb_X3_pilgrimsCome_4
    refine kt_g0 (kt_ls (p := 13) hs (by omega) ?_)
    rw [he.1.2.2.2.2.2.1]
    refine ka_ifN (fun z => by have := (k3_le (by omega) (by omega)).mp z; omega) (kt_g0 (kt_pAt (j := 0) (kt_ls hs (by omega) (kt_g0 (kt_ls (p := 0) hs (by omega) ?_)))))
    rw [g0, he.1.1 0 (by omega)]
    by_cases hd : p.1 = V.sc 0
    · have ev : v_pil (p :: t) keep n V = v_pil t keep (n + (v_buys V p).1) (v_buys V p).2 := by rw [v_pil, if_pos hd]
      rw [ev]
      refine ka_ifP hd (kt_is (ka_use (kt_wouldBuy hs he hz hp) ?_))
      by_cases h6 : v_wanted V p = -6
      · have hb : v_buys V p = (0, V) := if_pos h6
        rw [hb, Int32.add_zero]
        exact ka_ifP h6 (h70 n V f rfl he hz hok)
      · obtain ⟨hso, j, hj, hjw⟩ := (v_wanted_spec V p).resolve_left h6
        obtain ⟨r, hr⟩ : ∃ r, V.st[j]? = some r := ⟨_, List.getElem?_eq_getElem hj⟩
        have hgd : V.st.getD (v_wanted V p).toNatClampNeg (0, 0, 0, []) = r := by rw [hjw, k3_nat (by omega), List.getD, hr]; rfl
        have hnat : (v_wanted V p).toNatClampNeg = j := by rw [hjw]; exact k3_nat (by omega)
        have hb : v_buys V p = (1, v_sold V j r.bs p.2.2.2) := by
          have h1 : v_buys V p = (1, V.cs, V.ls, V.bx, V.st.eraseIdx (v_wanted V p).toNatClampNeg, V.ps, V.so ++ [(V.sc 0, none, (V.st.getD (v_wanted V p).toNatClampNeg (0, 0, 0, [])).bs)], V.wa, V.aw, v_num (v_num V.sc 6 (V.sc 6 + p.2.2.2)) 4 (V.sc 4 + 1)) := if_neg h6
          rw [h1, hgd, hnat]
        obtain ⟨gg, mm, kk, hN⟩ := hok r (List.mem_of_getElem? hr)
        refine ka_ifN h6 (kt_g0 (kt_pAt (j := 3) (kt_ls hs (by omega) ?_)))
        rw [g3, hjw]
        refine kt_is (ka_call (kt_sells hs he hz hr hN hso) (fun _ w' H' hq => ?_))
        obtain ⟨rfl, f', rfl, hk⟩ := hq
        rw [hb]
        refine h70 (n + 1) (v_sold V j r.bs p.2.2.2) f' rfl hk ⟨z1, z2, z3, ?_, z5, ?_, z7, fun x hx => z8 x (List.mem_of_mem_eraseIdx hx)⟩ (fun x hx => hok x (List.mem_of_mem_eraseIdx hx))
        · show (V.st.eraseIdx j).length ≤ 6
          rw [List.length_eraseIdx, if_pos hj]
          omega
        · show (V.so ++ [_]).length ≤ 8
          rw [List.length_append]
          simp only [List.length_cons, List.length_nil]
          omega
    · have ev : v_pil (p :: t) keep n V = v_pil t (keep ++ [p]) n V := by rw [v_pil, if_neg hd]
      rw [ev]
      refine ka_ifN hd ?_
      rw [k3_succ]
      have h9 := ih (keep ++ [p]) fuel n V f (by rw [hA]; simp) (by omega) he hz hok
      rw [List.length_append] at h9
      exact h9
theorem kt_come (hs : kt_sep m ad) (he : ke f V) (hz : v_sz V) (hok : ∀ r ∈ V.st, v_sok r) : ka_T Z (pm_X3_pilgrimsCome (some m)) w (kt G m ad (kt_set T 0 f)) (fun r w' H' => w' = w ∧ r = (v_pil V.ps [] 0 V).1 ∧ ∃ f', H' = kt G m ad (kt_set T 0 f') ∧ ke f' (v_pil V.ps [] 0 V).2) := by
  unfold pm_X3_pilgrimsCome
  exact kt_pilLoop hs V.ps [] km_fuel 0 V f rfl (by have := hz.2.2.2.2.1; unfold km_fuel; omega) he hz hok
theorem v_winter : ∀ t : Fin 2048, v_season (Int32.ofNat t.val) = 3 → (Int32.ofNat t.val / 30 + 1) * 30 = 120 * (Int32.ofNat t.val / 120 + 1) := by decide +kernel
theorem kt_pilgrim {d g n c : Int32} (hs : kt_sep m ad) (hR : kR T X) (hz : vX_sz X) (hok : v_ok cc dd X.now) (hdd : dd ≤ 1900) : ka_T Z (pm_X3_pilgrim (some m) d g n c) w (kt G m ad T) (kt_Q w G m ad (vx_pilgrim X d g n c)) := by
  unfold pm_X3_pilgrim
  have hno : ¬ (v_in d 1 60 = 1 ∧ v_in g 1 4 = 1 ∧ v_in n 0 9 = 1 ∧ v_in c 1 99 = 1) → ka_T Z (km_pure (-2 : Int32)) w (kt G m ad T) (kt_Q w G m ad (vx_pilgrim X d g n c)) := by
    intro h
    have e : vx_pilgrim X d g n c = (-2, X) := if_neg h
    rw [e]
    exact ka_pure ⟨rfl, rfl, T, rfl, hR⟩
  refine ka_use kt_isIn ?_
  by_cases h1 : v_in d 1 60 = 1
  · refine ka_ifN (by rw [h1]; decide) (ka_use kt_isIn ?_)
    by_cases h2 : v_in g 1 4 = 1
    · refine ka_ifN (by rw [h2]; decide) (ka_use kt_isIn ?_)
      by_cases h3 : v_in n 0 9 = 1
      · refine ka_ifN (by rw [h3]; decide) (ka_use kt_isIn ?_)
        by_cases h4 : v_in c 1 99 = 1
        · have e : vx_pilgrim X d g n c = vx_do X (v_tells X.now d g n c) := if_pos ⟨h1, h2, h3, h4⟩
          rw [e]
          refine ka_ifP (by rw [h4]; decide) (kt_keep hs hR hz (fun T0 f hf hrf h0 hw => ?_))
          obtain ⟨hst, l, hl, he⟩ := id hf
          have hz5 := hz.1.2.2.2.2.1
          have e13 : f 13 = Int32.ofNat X.now.ps.length := he.1.2.2.2.2.2.1
          refine kt_is ?_
          unfold v_tells
          dsimp only
          by_cases h6 : X.now.ps.length = 6
          · rw [if_pos (show 6 ≤ X.now.ps.length by omega)]
            refine ka_mv (kt_addsN (c := 13) (k := 6) hs (by omega) (by rw [e13, h6])) (ka_ifN (by decide) ?_)
            obtain ⟨q1, q2, q3, q4⟩ := kt_no_spec (T := kt_set T0 0 f) (X := X) (why := 1) (d := Int32.ofNat 6) (by decide) h0 hw hf
            exact ka_pure ⟨rfl, rfl, _, rfl, q3, q4, q1⟩
          · rw [if_neg (show ¬ 6 ≤ X.now.ps.length by omega)]
            refine ka_mv (kt_addsY (c := 13) (b := 1124) (s := 4) (k := 6) hs (by omega) (by omega) e13 h6 (by omega) (by omega)) (ka_ifP ((k3_le (a := 0) (by omega) (by omega)).mpr (Nat.zero_le _)) (kt_g0 (kt_ls (p := 0) hs (by omega) ?_)))
            rw [upd_ne (by omega), vt_zero_out (Or.inl (by omega)), he.1.1 0 (by omega)]
            obtain ⟨c9, day, W9, p1, p2, p3, p4, -⟩ := hok.2.2.2.2.2
            obtain ⟨dn, rfl, hd1, hd2⟩ := v_in_nat (a := 1) (b := 60) (by omega) (by omega) h1
            have hday : (X.now.wb l).sc 0 = Int32.ofNat day := p3
            have hday2 : X.now.sc 0 = Int32.ofNat day := p3
            have h113 : ∀ t : Int32, t = (if v_season (X.now.sc 0 + Int32.ofNat dn) = 3 then ((X.now.sc 0 + Int32.ofNat dn) / 30 + 1) * 30 else X.now.sc 0 + Int32.ofNat dn) → ka_T Z (pb_X3_pilgrim_113 (some m) g n c (Int32.ofNat X.now.ps.length) t (Int32.ofNat (1124 + 4 * X.now.ps.length + 0)) (some (ad 0))) w (kt G m ad (kt_set T0 0 (upd (vt_zero f (1124 + 4 * X.now.ps.length) 4) 13 (Int32.ofNat (X.now.ps.length + 1))))) (kt_Q w G m ad (vx_do X (.inr (Int32.ofNat (X.now.ps.length + 1), X.now.cs, X.now.ls, X.now.bx, X.now.st, X.now.ps ++ [(if v_season (X.now.sc 0 + Int32.ofNat dn) = 3 then ((X.now.sc 0 + Int32.ofNat dn) / 30 + 1) * 30 else X.now.sc 0 + Int32.ofNat dn, g, n, c)], X.now.2.2.2.2.2)))) := by
              intro t ht
              rw [← ht]
              unfold pb_X3_pilgrim_113
              refine kt_ss hs (by omega) (kt_g0 (kt_pAt (j := 1) (kt_ss hs (by omega) (kt_g0 (kt_pAt (j := 2) (kt_ss hs (by omega) (kt_g0 (kt_pAt (j := 3) (kt_ss hs (by omega) (kt_g0 (kt_ls (p := 13) hs (by omega) ?_)))))))))))
              rw [upd_ne (by omega), upd_ne (by omega), upd_ne (by omega), upd_ne (by omega), upd_same]
              refine kt_endI hs h0 hz hw hrf (vt_err_nat (by omega)) ⟨hst, l, hl, ?_⟩
              refine ke_addP (V := X.now.wb l) (d := (t, g, n, c)) he (v_sz_wb hz.1 hl) (show X.now.ps.length < 6 by omega) (fun p hp1 hp2 => ?_) ?_ ?_ ?_ ?_ ?_
              · have hp3 : p < 1124 + 4 * X.now.ps.length ∨ 1124 + 4 * X.now.ps.length + 4 ≤ p := hp2
                rw [upd_ne (by omega), upd_ne (by omega), upd_ne (by omega), upd_ne (by omega), upd_ne hp1, vt_zero_out hp3]
              · rw [upd_ne (by omega), upd_ne (by omega), upd_ne (by omega), upd_ne (by omega), upd_same]
                rfl
              · show upd (upd (upd (upd _ (1124 + 4 * X.now.ps.length + 0) t) (1124 + 4 * X.now.ps.length + 1) g) (1124 + 4 * X.now.ps.length + 2) n) (1124 + 4 * X.now.ps.length + 3) c (1124 + 4 * X.now.ps.length + 0) = t
                rw [upd_ne (by omega), upd_ne (by omega), upd_ne (by omega), upd_same]
              · show upd (upd (upd (upd _ (1124 + 4 * X.now.ps.length + 0) t) (1124 + 4 * X.now.ps.length + 1) g) (1124 + 4 * X.now.ps.length + 2) n) (1124 + 4 * X.now.ps.length + 3) c (1124 + 4 * X.now.ps.length + 1) = g
                rw [upd_ne (by omega), upd_ne (by omega), upd_same]
              · show upd (upd (upd (upd _ (1124 + 4 * X.now.ps.length + 0) t) (1124 + 4 * X.now.ps.length + 1) g) (1124 + 4 * X.now.ps.length + 2) n) (1124 + 4 * X.now.ps.length + 3) c (1124 + 4 * X.now.ps.length + 2) = n
                rw [upd_ne (by omega), upd_same]
              · show upd (upd (upd (upd _ (1124 + 4 * X.now.ps.length + 0) t) (1124 + 4 * X.now.ps.length + 1) g) (1124 + 4 * X.now.ps.length + 2) n) (1124 + 4 * X.now.ps.length + 3) c (1124 + 4 * X.now.ps.length + 3) = c
                rw [upd_same]
            refine kt_g0 (kt_pAt (j := 0) (ka_use kt_season ?_))
            have hsum : X.now.sc 0 + Int32.ofNat dn = Int32.ofNat (day + dn) := by rw [hday2, k3_add]
            by_cases hsn : v_season (X.now.sc 0 + Int32.ofNat dn) = 3
            · refine ka_ifN (fun z => z hsn) (ka_div (by decide) (h113 _ ?_))
              rw [if_pos hsn]
              have h9 := v_winter ⟨day + dn, by omega⟩
              show 120 * ((X.now.sc 0 + Int32.ofNat dn) / 120 + 1) = _
              rw [hsum] at hsn ⊢
              exact (h9 hsn).symm
            · refine ka_ifP hsn (h113 _ ?_)
              rw [if_neg hsn]
              rfl
        · exact ka_ifN (by rw [v_in_no h4]; simp) (hno (fun z => h4 z.2.2.2))
      · exact ka_ifP (v_in_no h3) (hno (fun z => h3 z.2.2.1))
    · exact ka_ifP (v_in_no h2) (hno (fun z => h2 z.2.1))
  · exact ka_ifP (v_in_no h1) (hno (fun z => h1 z.1))
end KTS
