set_option maxRecDepth 100000
section KTR2
variable {Z : ka_Z} {w : Nat} {G : ka_H} {m : Nat} {ad : Nat → Nat} {T : kT} {X : vX} {f : Nat → Int32} {V : kV} {cc dd : Nat}
theorem v_num_comm {sc : Nat → Int32} {i j : Nat} {a b : Int32} (h : i ≠ j) : v_num (v_num sc i a) j b = v_num (v_num sc j b) i a := by
  funext k
  unfold v_num
  by_cases h1 : k = j
  · subst h1
    rw [if_pos rfl, if_neg (Ne.symm h), if_pos rfl]
  · rw [if_neg h1]
    by_cases h2 : k = i
    · rw [if_pos h2, if_pos h2]
    · rw [if_neg h2, if_neg h2, if_neg h1]
/-- what a sale makes of a workshop -/
abbrev v_sold (V : kV) (i : Nat) (bs : List vB) (coins : Int32) : kV := (V.cs, V.ls, V.bx, V.st.eraseIdx i, V.ps, V.so ++ [(V.sc 0, none, bs)], V.wa, V.aw, v_num (v_num V.sc 6 (V.sc 6 + coins)) 4 (V.sc 4 + 1))
def kt_soldQ (w : Nat) (G : ka_H) (m : Nat) (ad : Nat → Nat) (T : kT) (V' : kV) : Unit → Nat → ka_H → Prop := fun _ w' H' => w' = w ∧ ∃ f', H' = kt G m ad (kt_set T 0 f') ∧ ke f' V'
theorem kt_sellTail {i gg mm kk q P fuel : Nat} {r : vS} {coins : Int32} (hs : kt_sep m ad) (he : ke f V) (hz : v_sz V) (hi : V.st[i]? = some r) (hN : v_sokN gg mm kk r) (hso : V.so.length < 8) (hP : r.bs.length ≤ P) (hP2 : P ≤ 28) (hq : q ≤ 27) (hw : ∀ b, v_weak none r.bs = some b → r.bs[q]? = some b) : ka_T Z (pb_X3_sells_20 (fuel + 1) (some m) (Int32.ofNat i) coins (Int32.ofNat (1148 + 5 * V.so.length)) (Int32.ofNat q) (Int32.ofNat P)) w (kt G m ad (kt_set T 0 f)) (kt_soldQ w G m ad T (v_sold V i r.bs coins)) := by
  obtain ⟨z1, z2, z3, z4, z5, z6, z7, z8⟩ := id hz
  have hil := ke_get_lt hi
  have hS1 : ke_S1 f i r := he.2.2.2.2.1 i r hi
  have hrl := z8 r (List.mem_of_getElem? hi)
  have hi6 : i < 6 := by omega
  have c1 : Int32.ofNat (1148 + 5 * V.so.length) + 0 = Int32.ofNat (1148 + 5 * V.so.length + 0) := k3_add (b := 0)
  have c2 : Int32.ofNat (1148 + 5 * V.so.length) + 1 = Int32.ofNat (1148 + 5 * V.so.length + 1) := k3_add (b := 1)
  have c3 : Int32.ofNat (1148 + 5 * V.so.length) + 2 = Int32.ofNat (1148 + 5 * V.so.length + 2) := k3_add (b := 2)
  have c4 : Int32.ofNat (1148 + 5 * V.so.length) + 3 = Int32.ofNat (1148 + 5 * V.so.length + 3) := k3_add (b := 3)
  have c5 : Int32.ofNat (1148 + 5 * V.so.length) + 4 = Int32.ofNat (1148 + 5 * V.so.length + 4) := k3_add (b := 4)
  unfold pb_X3_sells_20
  refine kt_is (ka_use (kt_of (j := 3) hs hi6 (by omega)) ?_)
  rw [hS1.2.2.2.1]
  refine ka_ifP ((k3_le (by omega) (by omega)).mpr hP) (kt_g0 (kt_g0 (kt_ls (p := 0) hs (by omega) (kt_is (ka_use (kt_fineness hs hi6 hS1 hrl) ?_)))))
  rw [he.1.1 0 (by omega), c1, c2, c3, c4]
  refine kt_ss hs (by omega) ?_
  have hS2 := ke_S1_cong (f' := upd f (1148 + 5 * V.so.length + 0) (V.sc 0 + 10 * v_fine r.bs)) hS1 hrl (fun p h1 h2 => upd_ne (by omega))
  refine kt_g0 (kt_is (ka_use (kt_of (j := 3) hs hi6 (by omega)) ?_))
  rw [hS2.2.2.2.1]
  refine kt_ss hs (by omega) ?_
  have hS3 := ke_S1_cong (f' := upd (upd f (1148 + 5 * V.so.length + 0) (V.sc 0 + 10 * v_fine r.bs)) (1148 + 5 * V.so.length + 1) (Int32.ofNat r.bs.length)) hS2 hrl (fun p h1 h2 => upd_ne (by omega))
  refine kt_g0 (kt_is (ka_use (kt_sumOn hs hi6 hS3 hrl) (kt_ss hs (by omega) ?_)))
  have hS4 := ke_S1_cong (f' := upd (upd (upd f (1148 + 5 * V.so.length + 0) (V.sc 0 + 10 * v_fine r.bs)) (1148 + 5 * V.so.length + 1) (Int32.ofNat r.bs.length)) (1148 + 5 * V.so.length + 2) (v_fsum 0 r.bs)) hS3 hrl (fun p h1 h2 => upd_ne (by omega))
  refine kt_g0 (kt_is (ka_use (kt_large (p := q) hs hi6 hS4 hN (by omega)) ?_))
  generalize hg : upd (upd (upd f (1148 + 5 * V.so.length + 0) (V.sc 0 + 10 * v_fine r.bs)) (1148 + 5 * V.so.length + 1) (Int32.ofNat r.bs.length)) (1148 + 5 * V.so.length + 2) (v_fsum 0 r.bs) = g at hS4 ⊢
  have hgo : ∀ p, (p < 1148 + 5 * V.so.length ∨ 1148 + 5 * V.so.length + 5 ≤ p) → g p = f p := fun p hp => by rw [← hg, upd_ne (by omega), upd_ne (by omega), upd_ne (by omega)]
  have hg0 : g (1148 + 5 * V.so.length + 0) = V.sc 0 + 10 * v_fine r.bs := by rw [← hg, upd_ne (by omega), upd_ne (by omega), upd_same]
  have hg1 : g (1148 + 5 * V.so.length + 1) = Int32.ofNat r.bs.length := by rw [← hg, upd_ne (by omega), upd_same]
  have hg2 : g (1148 + 5 * V.so.length + 2) = v_fsum 0 r.bs := by rw [← hg, upd_same]
  have h147 : ∀ kd : Int32, kd = (if q % (mm + 1) = 0 then 1 else 0) → ka_T Z (pb_X3_sells_147 (some m) (Int32.ofNat i) coins (Int32.ofNat (1148 + 5 * V.so.length)) (Int32.ofNat q) kd (Int32.ofNat (1148 + 5 * V.so.length + 3)) (some (ad 0))) w (kt G m ad (kt_set T 0 g)) (kt_soldQ w G m ad T (v_sold V i r.bs coins)) := by
    intro kd hkd
    unfold pb_X3_sells_147
    refine kt_ss hs (by omega) (kt_g0 (kt_g0 (kt_beAt ?_)))
    rw [k3_succ]
    refine kt_ls hs (by omega) ?_
    rw [upd_ne (by omega), hgo _ (by omega), c5]
    refine kt_ss hs (by omega) (kt_g0 (kt_ls (p := 14) hs (by omega) ?_))
    rw [upd_ne (by omega), upd_ne (by omega), hgo 14 (by omega), he.1.2.2.2.2.2.2.1, k3_succ]
    refine kt_ss (p := 14) hs (by omega) (kt_g0 (kt_ls (p := 4) hs (by omega) (kt_ss (p := 4) hs (by omega) (kt_g0 (kt_ls (p := 6) hs (by omega) (kt_ss (p := 6) hs (by omega) ?_))))))
    have k1 : ke (upd (upd (upd g (1148 + 5 * V.so.length + 3) kd) (1148 + 5 * V.so.length + 4) (f (764 + 60 * i + (4 + 2 * q) + 1))) 14 (Int32.ofNat (V.so.length + 1))) (V.cs, V.ls, V.bx, V.st, V.ps, V.so ++ [(V.sc 0, none, r.bs)], V.2.2.2.2.2.2) := by
      refine ke_addD (d := (V.sc 0, none, r.bs)) he hz hso (fun p hp1 hp2 => ?_) upd_same ?_ ?_ ?_ (fun b hb => ⟨?_, ?_⟩)
      · rw [upd_ne hp1, upd_ne (by omega), upd_ne (by omega), hgo p (by omega)]
      · rw [upd_ne (by omega), upd_ne (by omega), upd_ne (by omega), hg0]
        rfl
      · rw [upd_ne (by omega), upd_ne (by omega), upd_ne (by omega), hg1]
      · rw [upd_ne (by omega), upd_ne (by omega), upd_ne (by omega), hg2]
      · rw [upd_ne (by omega), upd_ne (by omega), upd_same, hkd]
        exact (hN.2.2.2.2.2.2.2.2.2.2.2 q b (hw b hb)).symm
      · rw [upd_ne (by omega), upd_same]
        exact (hS1.2.2.2.2 q b (hw b hb)).2
    have hz1 : v_sz (V.cs, V.ls, V.bx, V.st, V.ps, V.so ++ [(V.sc 0, none, r.bs)], V.2.2.2.2.2.2) := ⟨z1, z2, z3, z4, z5, by show (V.so ++ [_]).length ≤ 8; rw [List.length_append]; simp only [List.length_cons, List.length_nil]; omega, z7, z8⟩
    generalize hg9 : upd (upd (upd g (1148 + 5 * V.so.length + 3) kd) (1148 + 5 * V.so.length + 4) (f (764 + 60 * i + (4 + 2 * q) + 1))) 14 (Int32.ofNat (V.so.length + 1)) = g9 at k1 ⊢
    rw [k1.1.1 4 (by omega)]
    have k2 := ke_num (k := 4) (v := V.sc 4 + 1) k1 (by omega) hz1
    have e6 : upd g9 4 (kV.sc (V.cs, V.ls, V.bx, V.st, V.ps, V.so ++ [(V.sc 0, none, r.bs)], V.2.2.2.2.2.2) 4 + 1) 6 = V.sc 6 := (upd_ne (by omega)).trans (k1.1.1 6 (by omega))
    rw [e6]
    have k3 := ke_num (k := 6) (v := V.sc 6 + coins) k2 (by omega) hz1
    have k4 := ke_goS (k := i) k3 hz1 hil
    refine kt_is (ka_mv (kt_goes (c := 12) (b := 764) (s := 60) (n := V.st.length) (k := i) hs (by omega) (by omega) hil k3.1.2.2.2.2.1) (ka_pure ⟨rfl, _, rfl, ?_⟩))
    have e7 : v_num (v_num V.sc 6 (V.sc 6 + coins)) 4 (V.sc 4 + 1) = v_num (v_num V.sc 4 (V.sc 4 + 1)) 6 (V.sc 6 + coins) := v_num_comm (by omega)
    show ke _ (V.cs, V.ls, V.bx, V.st.eraseIdx i, V.ps, V.so ++ [(V.sc 0, none, r.bs)], V.wa, V.aw, v_num (v_num V.sc 6 (V.sc 6 + coins)) 4 (V.sc 4 + 1))
    rw [e7]
    exact k4
  by_cases h0 : q % (mm + 1) = 0
  · rw [if_pos h0]
    exact ka_ifN (by decide) (h147 1 (by rw [if_pos h0]))
  · rw [if_neg h0]
    exact ka_ifP rfl (h147 0 (by rw [if_neg h0]))
theorem kt_sellLoop {i gg mm kk : Nat} {r : vS} {coins : Int32} (hs : kt_sep m ad) (he : ke f V) (hz : v_sz V) (hi : V.st[i]? = some r) (hN : v_sokN gg mm kk r) (hso : V.so.length < 8) : ∀ (rest done : List vB) (fuel q : Nat) (c : vB), r.bs = done ++ rest → rest.length < fuel → r.bs[q]? = some c → v_weak none r.bs = v_weak (some c) rest → ka_T Z (pb_X3_sells_20 fuel (some m) (Int32.ofNat i) coins (Int32.ofNat (1148 + 5 * V.so.length)) (Int32.ofNat q) (Int32.ofNat done.length)) w (kt G m ad (kt_set T 0 f)) (kt_soldQ w G m ad T (v_sold V i r.bs coins)) := by
  obtain ⟨z1, z2, z3, z4, z5, z6, z7, z8⟩ := id hz
  have hil := ke_get_lt hi
  have hS1 : ke_S1 f i r := he.2.2.2.2.1 i r hi
  have hrl := z8 r (List.mem_of_getElem? hi)
  intro rest
  induction rest with
  | nil =>
    intro done fuel q c hA hf hq hwk
    obtain ⟨fuel, rfl⟩ : ∃ n, fuel = n + 1 := ⟨fuel - 1, by omega⟩
    have hA1 : done.length = r.bs.length := by rw [hA, List.append_nil]
    have hql := ke_get_lt hq
    refine kt_sellTail hs he hz hi hN hso (by omega) (by omega) (by omega) (fun b hb => ?_)
    rw [hwk, v_weak] at hb
    rw [hq, hb]
  | cons b t ih =>
    intro done fuel q c hA hf hq hwk
    obtain ⟨fuel, rfl⟩ : ∃ n, fuel = n + 1 := ⟨fuel - 1, by omega⟩
    have hAl : r.bs.length = done.length + (t.length + 1) := by rw [hA, List.length_append]; rfl
    simp only [List.length_cons] at hf
    have hql := ke_get_lt hq
    have hb : r.bs[done.length]? = some b := by rw [hA]; simp
    have hnext : ∀ (q' : Nat) (c' : vB), r.bs[q']? = some c' → v_weak none r.bs = v_weak (some c') t → ka_T Z (pb_X3_sells_67 (pb_X3_sells_20 fuel) (some m) (Int32.ofNat i) coins (Int32.ofNat (1148 + 5 * V.so.length)) (Int32.ofNat done.length) (Int32.ofNat q')) w (kt G m ad (kt_set T 0 f)) (kt_soldQ w G m ad T (v_sold V i r.bs coins)) := by
      intro q' c' h1 h2
      unfold pb_X3_sells_67
      rw [k3_succ]
      have h3 := ih (done ++ [b]) fuel q' c' (by rw [hA]; simp) (by omega) h1 h2
      rw [List.length_append] at h3
      exact h3
    unfold pb_X3_sells_20
    refine kt_is (ka_use (kt_of (j := 3) hs (by omega) (by omega)) ?_)
    rw [hS1.2.2.2.1]
    refine ka_ifN (fun z => by have := (k3_le (by omega) (by omega)).mp z; omega) (kt_g0 (kt_beAt ?_))
    rw [k3_succ]
    refine kt_ls hs (by omega) ?_
    rw [(hS1.2.2.2.2 _ b hb).2]
    refine kt_g0 (kt_beAt ?_)
    rw [k3_succ]
    refine kt_ls hs (by omega) ?_
    rw [(hS1.2.2.2.2 _ c hq).2]
    rw [v_weak] at hwk
    by_cases hlt : b.2.2 < c.2.2
    · rw [if_pos hlt] at hwk
      exact ka_ifN (Int32.not_le.mpr hlt) (hnext done.length b hb hwk)
    · rw [if_neg hlt] at hwk
      exact ka_ifP (Int32.not_lt.mp hlt) (hnext q c hq hwk)
theorem kt_sells {i gg mm kk : Nat} {r : vS} {coins : Int32} (hs : kt_sep m ad) (he : ke f V) (hz : v_sz V) (hi : V.st[i]? = some r) (hN : v_sokN gg mm kk r) (hso : V.so.length < 8) : ka_T Z (pm_X3_sells (some m) (Int32.ofNat i) coins) w (kt G m ad (kt_set T 0 f)) (kt_soldQ w G m ad T (v_sold V i r.bs coins)) := by
  obtain ⟨z1, z2, z3, z4, z5, z6, z7, z8⟩ := id hz
  have hrl := z8 r (List.mem_of_getElem? hi)
  unfold pm_X3_sells
  refine kt_g0 (kt_ls (p := 14) hs (by omega) ?_)
  have e : (1148 : Int32) + 5 * Int32.ofNat V.so.length = Int32.ofNat (1148 + 5 * V.so.length) := by
    rw [show (1148 : Int32) = Int32.ofNat 1148 from rfl, show (5 : Int32) = Int32.ofNat 5 from rfl, k3_mul, k3_add]
  rw [he.1.2.2.2.2.2.2.1, e]
  cases hbs : r.bs with
  | nil =>
    show ka_T Z (pb_X3_sells_20 (99999 + 1) (some m) (Int32.ofNat i) coins (Int32.ofNat (1148 + 5 * V.so.length)) (Int32.ofNat 0) (Int32.ofNat 1)) _ _ _
    have h := kt_sellTail (Z := Z) (w := w) (G := G) (T := T) (q := 0) (P := 1) (fuel := 99999) (coins := coins) hs he hz hi hN hso (by rw [hbs]; exact Nat.zero_le _) (by omega) (by omega) (fun b hb => by rw [hbs] at hb; cases hb)
    rw [hbs] at h
    exact h
  | cons b t =>
    have h := kt_sellLoop (Z := Z) (w := w) (G := G) (T := T) (coins := coins) hs he hz hi hN hso t [b] km_fuel 0 b (by rw [hbs]; rfl) (by rw [hbs] at hrl; simp only [List.length_cons] at hrl; unfold km_fuel; omega) (by rw [hbs]; rfl) (by rw [hbs, v_weak])
    rw [hbs] at h
    exact h
end KTR2
