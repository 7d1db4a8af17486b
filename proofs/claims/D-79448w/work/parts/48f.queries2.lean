set_option maxRecDepth 100000
/-! ===== what the class is asked: with loops ===== -/
def vq_bead (X : vX) (s p k : Int32) : Int32 := if vx_isS X s = 1 ∧ 0 ≤ p then (match (X.now.st.getD s.toNatClampNeg (0, 0, 0, [])).bs[p.toNatClampNeg]? with
  | none => -1
  | some b => if k = 0 then b.1 else b.2.2) else -1
def v_least (f : Int32) : Int32 → List vB → Int32
  | l, [] => l
  | l, b :: t => v_least f (if b.2.2 = f ∧ (l = -6 ∨ b.1 < l) then b.1 else l) t
def v_again (bs : List vB) : Nat → Int32
  | 0 => -6
  | f + 1 => if v_least (Int32.ofNat (f + 1)) (-6) bs = -6 then v_again bs f else v_least (Int32.ofNat (f + 1)) (-6) bs
def vq_finestAgain (X : vX) (k : Int32) : Int32 := v_again (v_of k X.now.bx) 9
def v_next (day : Int32) : Int32 → List vD → Int32
  | l, [] => l
  | l, d :: t => v_next day (if l = -6 ∨ v_last d - day < l then v_last d - day else l) t
def vq_nextBack (X : vX) : Int32 := v_next (X.now.sc 0) (-6) X.now.so
def v_doneOnes : Int32 → List vS → Int32
  | n, [] => n
  | n, r :: t => v_doneOnes (n + (if v_done r = true then 1 else 0)) t
def v_sizes : Int32 → List vS → Int32
  | n, [] => n
  | n, r :: t => v_sizes (n + Int32.ofNat r.bs.length) t
def vq_account (X : vX) (k : Int32) : Int32 := v_sw' k [X.now.sc 0, v_season (X.now.sc 0), X.now.sc 1, Int32.ofNat X.now.cs.length, Int32.ofNat X.now.ls.length, Int32.ofNat X.now.bx.length, X.now.sc 2, X.now.sc 3, Int32.ofNat X.now.st.length, v_doneOnes 0 X.now.st, v_sizes 0 X.now.st, Int32.ofNat X.now.ps.length, X.now.sc 4, Int32.ofNat X.now.so.length, Int32.ofNat X.now.wa.length, X.now.sc 5, X.now.sc 6, X.now.sc 7, X.now.sc 8, Int32.ofNat X.inp.length, Int32.ofNat X.bef.length] (-2)
section KXR
variable {Z : ka_Z} {w : Nat} {H : ka_H} {x dq ip cc dd : Nat} {X : vX}
theorem kx_beadLoop {it : Nat} {p k : Int32} (hit : H it = none) : ∀ (rest : List kB) (o : ka_O) (j fuel : Nat), rest.length < fuel → j + rest.length < 1000 → (∀ b ∈ rest, kb_bead H b) → 0 ≤ p → kb_I Z H it (rest.map (·.1)) o → ka_T Z (pb_X0_bead_39 fuel p k (Int32.ofNat j) (some it)) w (ka_up H it o) (fun r w' H' => r = (if p.toNatClampNeg < j then -1 else match (rest.map (·.2))[p.toNatClampNeg - j]? with | none => -1 | some b => if k = 0 then b.1 else b.2.2) ∧ w' = w ∧ H' = H) := by
  intro rest
  induction rest with
  | nil =>
    intro o j fuel hf hj hb hp hI
    obtain ⟨fuel, rfl⟩ : ∃ n, fuel = n + 1 := ⟨fuel - 1, by omega⟩
    unfold pb_X0_bead_39
    refine ka_use (hI w) (ka_ifP rfl (ka_post (ka_back hit) (fun r w' H' hq => ?_)))
    obtain ⟨rfl, rfl, rfl⟩ := hq
    refine ⟨?_, rfl, rfl⟩
    simp
  | cons b t ih =>
    intro o j fuel hf hj hb hp hI
    obtain ⟨fuel, rfl⟩ : ∃ n, fuel = n + 1 := ⟨fuel - 1, by omega⟩
    obtain ⟨hI1, o', hI2, hI3⟩ := hI
    simp only [List.length_cons] at hf hj
    have hb0 : kb_bead H b := hb b List.mem_cons_self
    have hb1 : ka_up H it o' b.1 = some (kc_B b) := (ka_ne (ka_dom hb0 hit)).trans hb0
    have hpn : p.toNatClampNeg < 2 ^ 31 := Int32.toNatClampNeg_lt p
    unfold pb_X0_bead_39
    refine ka_use (hI1 w) (ka_ifN (by decide) (ka_call (hI3 w) (fun r w' H' hq => ?_)))
    obtain ⟨rfl, rfl, rfl⟩ := hq
    refine ka_cast hb1 rfl rfl ?_
    by_cases h : Int32.ofNat j = p
    · refine ka_ifN (fun z => z h) ?_
      have hj2 : p.toNatClampNeg = j := by rw [← h, k3_nat (by omega)]
      by_cases hk : k = 0
      · refine ka_ifP hk (ka_gI hb1 rfl rfl (ka_post (ka_back hit) (fun r w' H' hq => ?_)))
        obtain ⟨rfl, rfl, rfl⟩ := hq
        refine ⟨?_, rfl, rfl⟩
        rw [if_neg (by omega), hj2, Nat.sub_self]
        show _ = (if k = 0 then b.2.1 else b.2.2.2)
        rw [if_pos hk]
      · refine ka_ifN hk (ka_gI hb1 rfl rfl (ka_post (ka_back hit) (fun r w' H' hq => ?_)))
        obtain ⟨rfl, rfl, rfl⟩ := hq
        refine ⟨?_, rfl, rfl⟩
        rw [if_neg (by omega), hj2, Nat.sub_self]
        show _ = (if k = 0 then b.2.1 else b.2.2.2)
        rw [if_neg hk]
    · refine ka_ifP h ?_
      rw [k3_succ]
      have hj2 : p.toNatClampNeg ≠ j := fun z => h (by rw [← z]; exact (kv_neg hp).symm)
      refine ka_post (ih o' (j + 1) fuel (by omega) (by omega) (fun c hc => hb c (List.mem_cons_of_mem _ hc)) hp hI2) (fun r w' H' hq => ?_)
      obtain ⟨g1, g2, g3⟩ := hq
      refine ⟨?_, g2, g3⟩
      rw [g1]
      by_cases h3 : p.toNatClampNeg < j
      · rw [if_pos (by omega), if_pos h3]
      · rw [if_neg (by omega), if_neg h3]
        have e : p.toNatClampNeg - j = (p.toNatClampNeg - (j + 1)) + 1 := by omega
        rw [e, List.map_cons, List.getElem?_cons_succ]
theorem kx_bead {n p k : Int32} (hX : kX H x dq ip cc dd X) (hcc : cc ≤ 240) (hw : 3000 ≤ w) : ka_T Z (pm_X0_bead (some x) n p k) w H (kx_A H w 3000 (vq_bead X n p k)) := by
  obtain ⟨nowW, befW, savW, rfW, lnW, fW, hX'⟩ := id hX
  have hok : v_ok cc dd X.now := by
    have := hX'.2.2.2.1.2.2
    rw [hX'.2.2.2.2.2.2.2.2.2.2.2.1] at this
    exact this
  have hx := hX'.1
  have hS := hX'.2.2.2.1.1
  have hVn : nowW.2.2.V = X.now := hX'.2.2.2.2.2.2.2.2.2.2.2.1
  have hs := kg_s hS
  obtain ⟨⟨c1, c2, c3, c4, c5, c6, c7⟩, c8, c9, c10, c11, c12⟩ := kh_ok hX'.2.2.2.1.2.2 (by omega)
  unfold pm_X0_bead
  refine ka_gR (v := some nowW.1) hx rfl rfl ?_
  refine ka_is hs rfl (ka_use (kx_isString hS) ?_)
  have hlen : nowW.2.2.st.length = X.now.st.length := by rw [← hVn, kvl_st]
  rw [hlen]
  by_cases h : vx_isS X n = 1
  · refine ka_ifN (by rw [show v_in n 0 (Int32.ofNat X.now.st.length - 1) = 1 from h]; decide) ?_
    by_cases hp : 0 ≤ p
    · refine ka_ifP hp ?_
      unfold vq_bead
      rw [if_pos ⟨h, hp⟩]
      obtain ⟨i, rfl, hi⟩ := v_in_idx (by have := hok.2.2.1.2.2.1; omega) h
      rw [k3_nat (by have := hok.2.2.1.2.2.1; omega)]
      refine ka_gR (v := some nowW.1) hx rfl rfl ?_
      obtain ⟨mc, hls⟩ := kg_st hS
      have hi2 : i < nowW.2.2.st.length := by rw [hlen]; exact hi
      have hci := List.getElem?_eq_getElem hi2
      have hm := List.getElem_mem hi2
      have hc0 := kg_r hS hm
      have hL := kg_rs hS hm
      have hbl := c8 _ hm
      have hcV : X.now.st.getD i (0, 0, 0, []) = (nowW.2.2.st[i]).V := by rw [← hVn]; exact kvg_st hci
      refine ka_gR (by first | exact ka_same | assumption | exact ka_ne1 (by first | assumption | exact Ne.symm (by assumption)) (by first | exact ka_same | assumption | exact ka_ne1 (by first | assumption | exact Ne.symm (by assumption)) (by first | exact ka_same | assumption | exact ka_ne1 (by first | assumption | exact Ne.symm (by assumption)) (by first | exact ka_same | assumption | exact ka_ne1 (by first | assumption | exact Ne.symm (by assumption)) (by first | exact ka_same | assumption | exact ka_ne1 (by first | assumption | exact Ne.symm (by assumption)) (by first | exact ka_same | assumption | exact ka_ne1 (by first | assumption | exact Ne.symm (by assumption)) (by first | exact ka_same | assumption))))))) rfl rfl ?_
      refine ka_is hls rfl (ka_use (kl_get (v := nowW.2.2.st[i].1) hls (by rw [List.getElem?_map, hci]; rfl)) ?_)
      refine ka_cast hc0 rfl rfl ?_
      rw [hcV]
      refine ka_is hc0 rfl (ka_call (kb_iterator hL.1 hL.2 (by omega) (by omega)) (fun r v K hq => ?_))
      obtain ⟨it, o, rfl, hit, hv, rfl, hI⟩ := hq
      refine ka_post (kx_beadLoop hit (nowW.2.2.st[i]).bs o 0 km_fuel (by unfold km_fuel; omega) (by omega) hL.2.2 hp hI) (fun r w' H' hq => ?_)
      obtain ⟨g1, g2, g3⟩ := hq
      refine ⟨?_, by omega, g3⟩
      rw [g1, if_neg (by omega), Nat.sub_zero]
      rfl
    · refine ka_ifN hp (ka_pure ⟨?_, by omega, rfl⟩)
      unfold vq_bead
      rw [if_neg (fun z => hp z.2)]
  · refine ka_ifP (v_in_no h) (ka_pure ⟨?_, by omega, rfl⟩)
    unfold vq_bead
    rw [if_neg (fun z => h z.1)]
theorem kx_leastLoop {it : Nat} {k f : Int32} {k3 : Option Nat → Int32 → Int32 → km_M Int32} {Q : Int32 → Nat → ka_H → Prop} (hit : H it = none) : ∀ (rest : List kB) (o : ka_O) (l : Int32) (fuel : Nat), rest.length < fuel → (∀ b ∈ rest, kb_bead H b) → kb_I Z H it (rest.map (·.1)) o → (∀ o', ka_T Z (if v_least f l (rest.map (·.2)) = -6 then k3 (some x) k (f + -1) else km_pure (v_least f l (rest.map (·.2)))) w (ka_up H it o') Q) → ka_T Z (pb_X0_finestAgain_28 k3 fuel (some x) k f l (some it)) w (ka_up H it o) Q := by
  intro rest
  induction rest with
  | nil =>
    intro o l fuel hf hb hI hend
    obtain ⟨fuel, rfl⟩ : ∃ n, fuel = n + 1 := ⟨fuel - 1, by omega⟩
    unfold pb_X0_finestAgain_28
    exact ka_use (hI w) (ka_ifP rfl (hend o))
  | cons b t ih =>
    intro o l fuel hf hb hI hend
    obtain ⟨fuel, rfl⟩ : ∃ n, fuel = n + 1 := ⟨fuel - 1, by omega⟩
    obtain ⟨hI1, o', hI2, hI3⟩ := hI
    simp only [List.length_cons] at hf
    have hb0 : kb_bead H b := hb b List.mem_cons_self
    have hb1 : ka_up H it o' b.1 = some (kc_B b) := (ka_ne (ka_dom hb0 hit)).trans hb0
    have hgo := fun l2 => ih o' l2 fuel (by omega) (fun c hc => hb c (List.mem_cons_of_mem _ hc)) hI2
    unfold pb_X0_finestAgain_28
    refine ka_use (hI1 w) (ka_ifN (by decide) (ka_call (hI3 w) (fun r w' H' hq => ?_)))
    obtain ⟨rfl, rfl, rfl⟩ := hq
    refine ka_cast hb1 rfl rfl (ka_gI hb1 rfl rfl ?_)
    have hno : ¬ (b.2.2.2 = f ∧ (l = -6 ∨ b.2.1 < l)) → ka_T Z (pb_X0_finestAgain_28 k3 fuel (some x) k f l (some it)) w' (ka_up H it o') Q := fun hz => hgo l (fun o2 => by
      have := hend o2
      rw [List.map_cons, v_least, if_neg hz] at this
      exact this)
    have hyes : (b.2.2.2 = f ∧ (l = -6 ∨ b.2.1 < l)) → ka_T Z (pb_X0_finestAgain_74 k3 (pb_X0_finestAgain_28 k3 fuel) (some x) k f (some it) (some b.1)) w' (ka_up H it o') Q := fun hz => by
      unfold pb_X0_finestAgain_74
      refine ka_gI hb1 rfl rfl (hgo _ (fun o2 => ?_))
      have := hend o2
      rw [List.map_cons, v_least, if_pos hz] at this
      exact this
    by_cases h1 : b.2.2.2 = f
    · refine ka_ifN (fun z => z h1) ?_
      by_cases h2 : l = -6
      · exact ka_ifP h2 (hyes ⟨h1, Or.inl h2⟩)
      · refine ka_ifN h2 (ka_gI hb1 rfl rfl ?_)
        by_cases h3 : l ≤ b.2.1
        · exact ka_ifP h3 (hno (fun z => z.2.elim h2 (fun z2 => absurd h3 (Int32.not_le.mpr z2))))
        · exact ka_ifN h3 (hyes ⟨h1, Or.inr (Int32.not_le.mp h3)⟩)
    · exact ka_ifP h1 (hno (fun z => h1 z.1))
theorem kx_again {k : Int32} (hk : k = 0 ∨ k = 1) (hX : kX H x dq ip cc dd X) (hcc : cc ≤ 240) : ∀ (f fuel w : Nat), f ≤ 9 → f < fuel → 16 * f ≤ w → ka_T Z (pb_X0_finestAgain_3 fuel (some x) k (Int32.ofNat f)) w H (fun r w' H' => r = v_again (v_of k X.now.bx) f ∧ w ≤ w' + 16 * f ∧ H' = H) := by
  obtain ⟨nowW, befW, savW, rfW, lnW, fW, hX'⟩ := id hX
  have hok : v_ok cc dd X.now := by
    have := hX'.2.2.2.1.2.2
    rw [hX'.2.2.2.2.2.2.2.2.2.2.2.1] at this
    exact this
  have hx := hX'.1
  have hS := hX'.2.2.2.1.1
  have hVn : nowW.2.2.V = X.now := hX'.2.2.2.2.2.2.2.2.2.2.2.1
  have hs := kg_s hS
  obtain ⟨⟨c1, c2, c3, c4, c5, c6, c7⟩, c8, c9, c10, c11, c12⟩ := kh_ok hX'.2.2.2.1.2.2 (by omega)
  have hbox := kg_box hS
  intro f
  induction f with
  | zero =>
    intro fuel w _ hf hw
    obtain ⟨fuel, rfl⟩ : ∃ n, fuel = n + 1 := ⟨fuel - 1, by omega⟩
    unfold pb_X0_finestAgain_3
    exact ka_ifP (by decide) (ka_pure ⟨rfl, by omega, rfl⟩)
  | succ f ih =>
    intro fuel w h9 hf hw
    obtain ⟨fuel, rfl⟩ : ∃ n, fuel = n + 1 := ⟨fuel - 1, by omega⟩
    unfold pb_X0_finestAgain_3
    refine ka_ifN (fun z => absurd ((k3_le (b := 0) (by omega) (by omega)).mp z) (by omega)) ?_
    refine ka_gR (v := some nowW.1) hx rfl rfl ?_
    refine ka_gR (by first | exact ka_same | assumption | exact ka_ne1 (by first | assumption | exact Ne.symm (by assumption)) (by first | exact ka_same | assumption | exact ka_ne1 (by first | assumption | exact Ne.symm (by assumption)) (by first | exact ka_same | assumption | exact ka_ne1 (by first | assumption | exact Ne.symm (by assumption)) (by first | exact ka_same | assumption | exact ka_ne1 (by first | assumption | exact Ne.symm (by assumption)) (by first | exact ka_same | assumption | exact ka_ne1 (by first | assumption | exact Ne.symm (by assumption)) (by first | exact ka_same | assumption | exact ka_ne1 (by first | assumption | exact Ne.symm (by assumption)) (by first | exact ka_same | assumption))))))) rfl rfl ?_
    refine kb_overK hbox.1 hbox.2 hk (by omega) (by omega) (fun H1 a it o v ha hH1 hit hv hI => ?_)
    have hle : ka_le H H1 := by rw [hH1]; exact ka_le_up ha
    refine kx_leastLoop hit (kb_of k nowW.2.2.bx) o (-6) km_fuel (Nat.lt_of_le_of_lt kb_of_len (by unfold km_fuel; omega)) (fun b hb => hle _ _ (hbox.2.2 b (kb_of_mem hb))) hI (fun o' => ?_)
    have hle2 : ka_le H (ka_up H1 it o') := ka_le_trans hle (ka_le_up hit)
    rw [show (kb_of k nowW.2.2.bx).map (·.2) = v_of k X.now.bx from (kx_bxV hVn k).symm]
    refine ka_pre hle2 (Nat.le_refl _) ?_
    by_cases h : v_least (Int32.ofNat (f + 1)) (-6) (v_of k X.now.bx) = -6
    · refine ka_ifP h ?_
      have e : Int32.ofNat (f + 1) + -1 = Int32.ofNat f := by
        have := k3_pred (a := f + 1) (by omega)
        rw [Nat.add_sub_cancel, Int32.sub_eq_add_neg] at this
        exact this
      rw [e]
      refine ka_post (ih fuel v (by omega) (by omega) (by omega)) (fun r w' H' hq => ?_)
      obtain ⟨g1, g2, g3⟩ := hq
      refine ⟨?_, by omega, g3⟩
      rw [g1]
      show _ = (if _ then _ else _)
      rw [if_pos h]
    · refine ka_ifN h (ka_pure ⟨?_, by omega, rfl⟩)
      show _ = (if _ then _ else _)
      rw [if_neg h]
theorem kx_finestAgain {k : Int32} (hk : k = 0 ∨ k = 1) (hX : kX H x dq ip cc dd X) (hcc : cc ≤ 240) (hw : 3000 ≤ w) : ka_T Z (pm_X0_finestAgain (some x) k) w H (kx_A H w 3000 (vq_finestAgain X k)) := by
  unfold pm_X0_finestAgain
  refine ka_post (kx_again hk hX hcc 9 km_fuel w (by omega) (by unfold km_fuel; omega) (by omega)) (fun r w' H' hq => ?_)
  obtain ⟨g1, g2, g3⟩ := hq
  exact ⟨g1, by omega, g3⟩
theorem kx_nextLoop {it s : Nat} {ad : Nat → Nat} {A : kAp} {mc : Int32} (hx : ∃ sv dq rf ln ip fed fa, H x = some (kx_ob s sv dq rf ln ip fed fa)) (hS : kc_shop H s ad A) (hl : H (ad 5) = some (ka_ls mc (A.so.map (·.1)))) (hlen : A.so.length ≤ 100) (hbl : ∀ d ∈ A.so, d.bs.length ≤ 200) (hit : H it = none) : ∀ (rest done : List kDp) (fuel w : Nat) (lr l : Int32), A.so = done ++ rest → rest.length < fuel → 9 * rest.length ≤ w → ka_T Z (pb_X0_nextBack_14 fuel (some x) l (some it)) w (ka_up H it (ka_it done.length lr mc (ad 5))) (fun r w' H' => r = v_next (A.sc 0) l (rest.map kDp.V) ∧ w ≤ w' + 9 * rest.length ∧ H' = H) := by
  obtain ⟨sv, dq, rf, ln, ip, fed, fa, hx⟩ := hx
  have hs := kg_s hS
  have hi5 : ad 5 ≠ it := ka_dom hl hit
  intro rest
  induction rest with
  | nil =>
    intro done fuel w lr l hA hf hw
    obtain ⟨fuel, rfl⟩ : ∃ n, fuel = n + 1 := ⟨fuel - 1, by omega⟩
    have hA1 : done.length = A.so.length := by rw [hA, List.append_nil]
    unfold pb_X0_nextBack_14
    refine kl_dHas ka_same ((ka_ne hi5).trans hl) (by omega) (by rw [List.length_map]; omega) ?_
    rw [List.length_map, if_pos hA1]
    refine ka_ifP rfl (ka_post (ka_back hit) (fun r w' H' hp => ?_))
    obtain ⟨rfl, rfl, rfl⟩ := hp
    exact ⟨rfl, Nat.le_refl _, rfl⟩
  | cons d t ih =>
    intro done fuel w lr l hA hf hw
    obtain ⟨fuel, rfl⟩ : ∃ n, fuel = n + 1 := ⟨fuel - 1, by omega⟩
    have hAl : A.so.length = done.length + (t.length + 1) := by rw [hA, List.length_append]; rfl
    have hdm : d ∈ A.so := by rw [hA]; simp
    simp only [List.length_cons] at hf hw
    unfold pb_X0_nextBack_14
    refine kl_dHas ka_same ((ka_ne hi5).trans hl) (by omega) (by rw [List.length_map]; omega) ?_
    rw [List.length_map, if_neg (show ¬ done.length = A.so.length by omega)]
    refine ka_ifN (by decide) ?_
    refine kl_dNext (v := d.1) ka_same ((ka_ne hi5).trans hl) (by rw [hA]; simp) ?_
    rw [ka_up_up]
    have hle : ka_le H (ka_up H it (ka_it (done.length + 1) (Int32.ofNat done.length) mc (ad 5))) := ka_le_up hit
    have hd1 := kg_dok (kc_shop_le hS hle) (Or.inl hdm)
    refine ka_cast hd1.1 rfl rfl (ka_is hd1.1 rfl (ka_call (ko_last hd1 (by have := hbl d hdm; omega) (by omega)) (fun r v K hq => ?_)))
    obtain ⟨rfl, hv, rfl⟩ := hq
    refine ka_gR (v := some s) (hle _ _ hx) rfl rfl (ka_gI (hle _ _ hs) rfl rfl ?_)
    have hgo : ∀ l2, l2 = (if l = -6 ∨ v_last d.V - A.sc 0 < l then v_last d.V - A.sc 0 else l) → ka_T Z (pb_X0_nextBack_14 fuel (some x) l2 (some it)) v (ka_up H it (ka_it (done.length + 1) (Int32.ofNat done.length) mc (ad 5))) (fun r w' H' => r = v_next (A.sc 0) l ((d :: t).map kDp.V) ∧ w ≤ w' + 9 * (d :: t).length ∧ H' = H) := by
      intro l2 hl2
      have h2 := ih (done ++ [d]) fuel v (Int32.ofNat done.length) l2 (by rw [hA]; simp) (by omega) (by omega)
      rw [List.length_append] at h2
      refine ka_post h2 (fun r w' H' hp => ?_)
      obtain ⟨g1, g2, g3⟩ := hp
      refine ⟨?_, by simp only [List.length_cons]; omega, g3⟩
      rw [g1, hl2]
      rfl
    by_cases h1 : l = -6
    · exact ka_ifP h1 (hgo _ (by rw [if_pos (Or.inl h1)]))
    · refine ka_ifN h1 ?_
      by_cases h2 : l ≤ v_last d.V - A.sc 0
      · exact ka_ifP h2 (hgo _ (by rw [if_neg (fun z => z.elim h1 (fun z2 => absurd h2 (Int32.not_le.mpr z2)))]))
      · exact ka_ifN h2 (hgo _ (by rw [if_pos (Or.inr (Int32.not_le.mp h2))]))
theorem kx_nextBack (hX : kX H x dq ip cc dd X) (hcc : cc ≤ 240) (hw : 3000 ≤ w) : ka_T Z (pm_X0_nextBack (some x)) w H (kx_A H w 3000 (vq_nextBack X)) := by
  obtain ⟨nowW, befW, savW, rfW, lnW, fW, hX'⟩ := id hX
  have hok : v_ok cc dd X.now := by
    have := hX'.2.2.2.1.2.2
    rw [hX'.2.2.2.2.2.2.2.2.2.2.2.1] at this
    exact this
  have hx := hX'.1
  have hS := hX'.2.2.2.1.1
  have hVn : nowW.2.2.V = X.now := hX'.2.2.2.2.2.2.2.2.2.2.2.1
  have hs := kg_s hS
  obtain ⟨⟨c1, c2, c3, c4, c5, c6, c7⟩, c8, c9, c10, c11, c12⟩ := kh_ok hX'.2.2.2.1.2.2 (by omega)
  obtain ⟨mc5, hl5⟩ := kg_so hS
  unfold pm_X0_nextBack
  refine ka_gR (v := some nowW.1) hx rfl rfl ?_
  refine ka_gR (by first | exact ka_same | assumption | exact ka_ne1 (by first | assumption | exact Ne.symm (by assumption)) (by first | exact ka_same | assumption | exact ka_ne1 (by first | assumption | exact Ne.symm (by assumption)) (by first | exact ka_same | assumption | exact ka_ne1 (by first | assumption | exact Ne.symm (by assumption)) (by first | exact ka_same | assumption | exact ka_ne1 (by first | assumption | exact Ne.symm (by assumption)) (by first | exact ka_same | assumption | exact ka_ne1 (by first | assumption | exact Ne.symm (by assumption)) (by first | exact ka_same | assumption | exact ka_ne1 (by first | assumption | exact Ne.symm (by assumption)) (by first | exact ka_same | assumption))))))) rfl rfl ?_
  refine ka_is hl5 rfl (ka_call (kl_iterator hl5 (by omega)) (fun r v K hp => ?_))
  obtain ⟨it, rfl, hit, rfl, rfl⟩ := hp
  refine ka_post (kx_nextLoop ⟨_, _, _, _, _, _, _, hx⟩ hS hl5 (by omega) (fun d hd => (c11 d hd).1.2.1) hit nowW.2.2.so [] km_fuel (w - 9) (-1) (-6) rfl (by unfold km_fuel; omega) (by omega)) (fun r w' H' hq => ?_)
  obtain ⟨g1, g2, g3⟩ := hq
  refine ⟨?_, by omega, g3⟩
  rw [g1]
  unfold vq_nextBack
  rw [← hVn]
theorem kx_doneLoop {it s : Nat} {ad : Nat → Nat} {A : kAp} {mc : Int32} (hS : kc_shop H s ad A) (hl : H (ad 3) = some (ka_ls mc (A.st.map (·.1)))) (hlen : A.st.length ≤ 100) (hit : H it = none) : ∀ (rest done : List kS) (fuel : Nat) (lr l : Int32), A.st = done ++ rest → rest.length < fuel → ka_T Z (pb_X0_doneOnes_13 fuel l (some it)) w (ka_up H it (ka_it done.length lr mc (ad 3))) (fun r w' H' => r = v_doneOnes l (rest.map kS.V) ∧ w' = w ∧ H' = H) := by
  have hi5 : ad 3 ≠ it := ka_dom hl hit
  intro rest
  induction rest with
  | nil =>
    intro done fuel lr l hA hf
    obtain ⟨fuel, rfl⟩ : ∃ n, fuel = n + 1 := ⟨fuel - 1, by omega⟩
    have hA1 : done.length = A.st.length := by rw [hA, List.append_nil]
    unfold pb_X0_doneOnes_13
    refine kl_dHas ka_same ((ka_ne hi5).trans hl) (by omega) (by rw [List.length_map]; omega) ?_
    rw [List.length_map, if_pos hA1]
    exact ka_ifP rfl (ka_back hit)
  | cons d t ih =>
    intro done fuel lr l hA hf
    obtain ⟨fuel, rfl⟩ : ∃ n, fuel = n + 1 := ⟨fuel - 1, by omega⟩
    have hAl : A.st.length = done.length + (t.length + 1) := by rw [hA, List.length_append]; rfl
    have hdm : d ∈ A.st := by rw [hA]; simp
    simp only [List.length_cons] at hf
    unfold pb_X0_doneOnes_13
    refine kl_dHas ka_same ((ka_ne hi5).trans hl) (by omega) (by rw [List.length_map]; omega) ?_
    rw [List.length_map, if_neg (show ¬ done.length = A.st.length by omega)]
    refine ka_ifN (by decide) ?_
    refine kl_dNext (v := d.1) ka_same ((ka_ne hi5).trans hl) (by rw [hA]; simp) ?_
    rw [ka_up_up]
    have hd1 := (ka_ne (o := ka_it (done.length + 1) (Int32.ofNat done.length) mc (ad 3)) (ka_dom (kg_r hS hdm) hit)).trans (kg_r hS hdm)
    refine ka_cast hd1 rfl rfl (ka_is hd1 rfl (ka_use (ko_isDone hd1) (ka_use (k3_bit (by split <;> simp)) ?_)))
    have h2 := ih (done ++ [d]) fuel (Int32.ofNat done.length) (l + (if v_done d.V = true then 1 else 0)) (by rw [hA]; simp) (by omega)
    rw [List.length_append] at h2
    exact h2
theorem kx_sizesLoop {it s : Nat} {ad : Nat → Nat} {A : kAp} {mc : Int32} (hS : kc_shop H s ad A) (hl : H (ad 3) = some (ka_ls mc (A.st.map (·.1)))) (hlen : A.st.length ≤ 100) (hit : H it = none) : ∀ (rest done : List kS) (fuel : Nat) (lr l : Int32), A.st = done ++ rest → rest.length < fuel → ka_T Z (pb_X0_sizes_9 fuel l (some it)) w (ka_up H it (ka_it done.length lr mc (ad 3))) (fun r w' H' => r = v_sizes l (rest.map kS.V) ∧ w' = w ∧ H' = H) := by
  have hi5 : ad 3 ≠ it := ka_dom hl hit
  intro rest
  induction rest with
  | nil =>
    intro done fuel lr l hA hf
    obtain ⟨fuel, rfl⟩ : ∃ n, fuel = n + 1 := ⟨fuel - 1, by omega⟩
    have hA1 : done.length = A.st.length := by rw [hA, List.append_nil]
    unfold pb_X0_sizes_9
    refine kl_dHas ka_same ((ka_ne hi5).trans hl) (by omega) (by rw [List.length_map]; omega) ?_
    rw [List.length_map, if_pos hA1]
    exact ka_ifP rfl (ka_back hit)
  | cons d t ih =>
    intro done fuel lr l hA hf
    obtain ⟨fuel, rfl⟩ : ∃ n, fuel = n + 1 := ⟨fuel - 1, by omega⟩
    have hAl : A.st.length = done.length + (t.length + 1) := by rw [hA, List.length_append]; rfl
    have hdm : d ∈ A.st := by rw [hA]; simp
    simp only [List.length_cons] at hf
    unfold pb_X0_sizes_9
    refine kl_dHas ka_same ((ka_ne hi5).trans hl) (by omega) (by rw [List.length_map]; omega) ?_
    rw [List.length_map, if_neg (show ¬ done.length = A.st.length by omega)]
    refine ka_ifN (by decide) ?_
    refine kl_dNext (v := d.1) ka_same ((ka_ne hi5).trans hl) (by rw [hA]; simp) ?_
    rw [ka_up_up]
    have hS2 := kc_shop_le hS (ka_le_up (o := ka_it (done.length + 1) (Int32.ofNat done.length) mc (ad 3)) hit)
    have hL := kg_rs hS2 hdm
    obtain ⟨ml, hl2⟩ := hL.2.1
    refine ka_cast (kg_r hS2 hdm) rfl rfl (ka_dB hL.1 (ka_use (kb_size hL.1 hl2) ?_))
    have h2 := ih (done ++ [d]) fuel (Int32.ofNat done.length) (l + Int32.ofNat d.V.bs.length) (by rw [hA]; simp) (by omega)
    rw [List.length_append] at h2
    rw [List.length_map]
    have e : d.V.bs.length = d.bs.length := List.length_map ..
    rw [e] at h2
    refine ka_post h2 (fun r w' H' hp => ?_)
    obtain ⟨g1, g2, g3⟩ := hp
    refine ⟨?_, g2, g3⟩
    rw [g1, List.map_cons]
    show _ = v_sizes (l + Int32.ofNat d.V.bs.length) _
    rw [e]
theorem kx_account {k : Int32} (hX : kX H x dq ip cc dd X) (hcc : cc ≤ 240) (hw : 3000 ≤ w) : ka_T Z (pm_X0_account (some x) k) w H (kx_A H w 3000 (vq_account X k)) := by
  obtain ⟨nowW, befW, savW, rfW, lnW, fW, hX'⟩ := id hX
  have hok : v_ok cc dd X.now := by
    have := hX'.2.2.2.1.2.2
    rw [hX'.2.2.2.2.2.2.2.2.2.2.2.1] at this
    exact this
  have hx := hX'.1
  have hS := hX'.2.2.2.1.1
  have hVn : nowW.2.2.V = X.now := hX'.2.2.2.2.2.2.2.2.2.2.2.1
  have hs := kg_s hS
  obtain ⟨⟨c1, c2, c3, c4, c5, c6, c7⟩, c8, c9, c10, c11, c12⟩ := kh_ok hX'.2.2.2.1.2.2 (by omega)
  have hsc : nowW.2.2.sc = X.now.sc := by rw [← hVn]
  have hdq := hX'.2.1
  have hbef := hX'.2.2.2.2.2.2.2.2.2.2.2.2.1
  obtain ⟨m0, l0⟩ := kg_cs hS
  obtain ⟨m1, l1⟩ := kg_ls hS
  obtain ⟨m2, l2⟩ := kg_bl hS
  obtain ⟨m3, l3⟩ := kg_st hS
  obtain ⟨m4, l4⟩ := kg_ps hS
  obtain ⟨m5, l5⟩ := kg_so hS
  obtain ⟨m6, l6⟩ := kg_wa hS
  have hbox := kg_box hS
  unfold pm_X0_account vq_account
  refine kx_tsw rfl rfl (fun j P y h1 h2 => ?_) (ka_pure ⟨rfl, by omega, rfl⟩)
  have hnum : ∀ {i : Nat} {v : Int32} {f : Int32 → km_M Int32}, i < 9 → v = X.now.sc i → ka_T Z (f v) w H (kx_A H w 3000 v) → ka_T Z (km_bind (km_gI [(1, 8 + i)] (some nowW.1)) f) w H (kx_A H w 3000 v) := by
    intro i v f hi hv hk
    rw [← hsc] at hv
    refine ka_gI (c := 1) (n := 8 + i) (v := v) hs (by simp) ?_ hk
    rw [hv]
    rcases i with _ | _ | _ | _ | _ | _ | _ | _ | _ | i
    · rfl
    · rfl
    · rfl
    · rfl
    · rfl
    · rfl
    · rfl
    · rfl
    · rfl
    · omega
  rcases j with _ | _ | _ | _ | _ | _ | _ | _ | _ | _ | _ | _ | _ | _ | _ | _ | _ | _ | _ | _ | _ | j
  · cases h1; cases h2
    refine ka_gR (v := some nowW.1) hx rfl rfl ?_
    exact hnum (i := 0) (by omega) rfl (ka_pure ⟨rfl, by omega, rfl⟩)
  · cases h1; cases h2
    refine ka_gR (v := some nowW.1) hx rfl rfl ?_
    refine ka_gI hs rfl rfl (ka_use ko_season (ka_pure ⟨?_, by omega, rfl⟩))
    rw [← hsc]
  · cases h1; cases h2
    refine ka_gR (v := some nowW.1) hx rfl rfl ?_
    exact hnum (i := 1) (by omega) rfl (ka_pure ⟨rfl, by omega, rfl⟩)
  · cases h1; cases h2
    refine ka_gR (v := some nowW.1) hx rfl rfl ?_
    refine ka_gR (by first | exact ka_same | assumption | exact ka_ne1 (by first | assumption | exact Ne.symm (by assumption)) (by first | exact ka_same | assumption | exact ka_ne1 (by first | assumption | exact Ne.symm (by assumption)) (by first | exact ka_same | assumption | exact ka_ne1 (by first | assumption | exact Ne.symm (by assumption)) (by first | exact ka_same | assumption | exact ka_ne1 (by first | assumption | exact Ne.symm (by assumption)) (by first | exact ka_same | assumption | exact ka_ne1 (by first | assumption | exact Ne.symm (by assumption)) (by first | exact ka_same | assumption | exact ka_ne1 (by first | assumption | exact Ne.symm (by assumption)) (by first | exact ka_same | assumption))))))) rfl rfl ?_
    refine ka_is l0 rfl (ka_use (kl_size l0) (ka_pure ⟨?_, by omega, rfl⟩))
    rw [List.length_map, ← hVn, kvl_cs]
  · cases h1; cases h2
    refine ka_gR (v := some nowW.1) hx rfl rfl ?_
    refine ka_gR (by first | exact ka_same | assumption | exact ka_ne1 (by first | assumption | exact Ne.symm (by assumption)) (by first | exact ka_same | assumption | exact ka_ne1 (by first | assumption | exact Ne.symm (by assumption)) (by first | exact ka_same | assumption | exact ka_ne1 (by first | assumption | exact Ne.symm (by assumption)) (by first | exact ka_same | assumption | exact ka_ne1 (by first | assumption | exact Ne.symm (by assumption)) (by first | exact ka_same | assumption | exact ka_ne1 (by first | assumption | exact Ne.symm (by assumption)) (by first | exact ka_same | assumption | exact ka_ne1 (by first | assumption | exact Ne.symm (by assumption)) (by first | exact ka_same | assumption))))))) rfl rfl ?_
    refine ka_is l1 rfl (ka_use (kl_size l1) (ka_pure ⟨?_, by omega, rfl⟩))
    rw [List.length_map, ← hVn, kvl_ls]
  · cases h1; cases h2
    refine ka_gR (v := some nowW.1) hx rfl rfl ?_
    refine ka_gR (by first | exact ka_same | assumption | exact ka_ne1 (by first | assumption | exact Ne.symm (by assumption)) (by first | exact ka_same | assumption | exact ka_ne1 (by first | assumption | exact Ne.symm (by assumption)) (by first | exact ka_same | assumption | exact ka_ne1 (by first | assumption | exact Ne.symm (by assumption)) (by first | exact ka_same | assumption | exact ka_ne1 (by first | assumption | exact Ne.symm (by assumption)) (by first | exact ka_same | assumption | exact ka_ne1 (by first | assumption | exact Ne.symm (by assumption)) (by first | exact ka_same | assumption | exact ka_ne1 (by first | assumption | exact Ne.symm (by assumption)) (by first | exact ka_same | assumption))))))) rfl rfl ?_
    refine ka_dB hbox.1 (ka_use (kb_size hbox.1 l2) (ka_pure ⟨?_, by omega, rfl⟩))
    rw [List.length_map, ← hVn, kvl_bx]
  · cases h1; cases h2
    refine ka_gR (v := some nowW.1) hx rfl rfl ?_
    exact hnum (i := 2) (by omega) rfl (ka_pure ⟨rfl, by omega, rfl⟩)
  · cases h1; cases h2
    refine ka_gR (v := some nowW.1) hx rfl rfl ?_
    exact hnum (i := 3) (by omega) rfl (ka_pure ⟨rfl, by omega, rfl⟩)
  · cases h1; cases h2
    refine ka_gR (v := some nowW.1) hx rfl rfl ?_
    refine ka_gR (by first | exact ka_same | assumption | exact ka_ne1 (by first | assumption | exact Ne.symm (by assumption)) (by first | exact ka_same | assumption | exact ka_ne1 (by first | assumption | exact Ne.symm (by assumption)) (by first | exact ka_same | assumption | exact ka_ne1 (by first | assumption | exact Ne.symm (by assumption)) (by first | exact ka_same | assumption | exact ka_ne1 (by first | assumption | exact Ne.symm (by assumption)) (by first | exact ka_same | assumption | exact ka_ne1 (by first | assumption | exact Ne.symm (by assumption)) (by first | exact ka_same | assumption | exact ka_ne1 (by first | assumption | exact Ne.symm (by assumption)) (by first | exact ka_same | assumption))))))) rfl rfl ?_
    refine ka_is l3 rfl (ka_use (kl_size l3) (ka_pure ⟨?_, by omega, rfl⟩))
    rw [List.length_map, ← hVn, kvl_st]
  · cases h1; cases h2
    refine ka_is hx rfl (ka_call (P := fun r w' H' => r = v_doneOnes 0 X.now.st ∧ w ≤ w' + 9 ∧ H' = H) ?_ (fun r v K hp => ?_))
    · unfold pm_X0_doneOnes
      refine ka_gR (v := some nowW.1) hx rfl rfl ?_
      refine ka_gR (by first | exact ka_same | assumption | exact ka_ne1 (by first | assumption | exact Ne.symm (by assumption)) (by first | exact ka_same | assumption | exact ka_ne1 (by first | assumption | exact Ne.symm (by assumption)) (by first | exact ka_same | assumption | exact ka_ne1 (by first | assumption | exact Ne.symm (by assumption)) (by first | exact ka_same | assumption | exact ka_ne1 (by first | assumption | exact Ne.symm (by assumption)) (by first | exact ka_same | assumption | exact ka_ne1 (by first | assumption | exact Ne.symm (by assumption)) (by first | exact ka_same | assumption | exact ka_ne1 (by first | assumption | exact Ne.symm (by assumption)) (by first | exact ka_same | assumption))))))) rfl rfl ?_
      refine ka_is l3 rfl (ka_call (kl_iterator l3 (by omega)) (fun r v K hp => ?_))
      obtain ⟨it, rfl, hit, rfl, rfl⟩ := hp
      refine ka_post (kx_doneLoop hS l3 (by omega) hit nowW.2.2.st [] km_fuel (-1) 0 rfl (by unfold km_fuel; omega)) (fun r w' H' hq => ?_)
      obtain ⟨g1, g2, g3⟩ := hq
      exact ⟨by rw [g1, ← hVn], by omega, g3⟩
    · obtain ⟨rfl, hv, rfl⟩ := hp
      exact ka_pure ⟨rfl, by omega, rfl⟩
  · cases h1; cases h2
    refine ka_gR (v := some nowW.1) hx rfl rfl ?_
    refine ka_gR (by first | exact ka_same | assumption | exact ka_ne1 (by first | assumption | exact Ne.symm (by assumption)) (by first | exact ka_same | assumption | exact ka_ne1 (by first | assumption | exact Ne.symm (by assumption)) (by first | exact ka_same | assumption | exact ka_ne1 (by first | assumption | exact Ne.symm (by assumption)) (by first | exact ka_same | assumption | exact ka_ne1 (by first | assumption | exact Ne.symm (by assumption)) (by first | exact ka_same | assumption | exact ka_ne1 (by first | assumption | exact Ne.symm (by assumption)) (by first | exact ka_same | assumption | exact ka_ne1 (by first | assumption | exact Ne.symm (by assumption)) (by first | exact ka_same | assumption))))))) rfl rfl ?_
    refine ka_call (P := fun r w' H' => r = v_sizes 0 X.now.st ∧ w ≤ w' + 9 ∧ H' = H) ?_ (fun r v K hp => ?_)
    · unfold pm_X0_sizes
      refine ka_disp l3 rfl (ka_call (x := pm_J2_iterator (some (nowW.2.1 3))) (kl_iterator l3 (by omega)) (fun r v K hp => ?_))
      obtain ⟨it, rfl, hit, rfl, rfl⟩ := hp
      refine ka_post (kx_sizesLoop hS l3 (by omega) hit nowW.2.2.st [] km_fuel (-1) 0 rfl (by unfold km_fuel; omega)) (fun r w' H' hq => ?_)
      obtain ⟨g1, g2, g3⟩ := hq
      exact ⟨by rw [g1, ← hVn], by omega, g3⟩
    · obtain ⟨rfl, hv, rfl⟩ := hp
      exact ka_pure ⟨rfl, by omega, rfl⟩
  · cases h1; cases h2
    refine ka_gR (v := some nowW.1) hx rfl rfl ?_
    refine ka_gR (by first | exact ka_same | assumption | exact ka_ne1 (by first | assumption | exact Ne.symm (by assumption)) (by first | exact ka_same | assumption | exact ka_ne1 (by first | assumption | exact Ne.symm (by assumption)) (by first | exact ka_same | assumption | exact ka_ne1 (by first | assumption | exact Ne.symm (by assumption)) (by first | exact ka_same | assumption | exact ka_ne1 (by first | assumption | exact Ne.symm (by assumption)) (by first | exact ka_same | assumption | exact ka_ne1 (by first | assumption | exact Ne.symm (by assumption)) (by first | exact ka_same | assumption | exact ka_ne1 (by first | assumption | exact Ne.symm (by assumption)) (by first | exact ka_same | assumption))))))) rfl rfl ?_
    refine ka_is l4 rfl (ka_use (kl_size l4) (ka_pure ⟨?_, by omega, rfl⟩))
    rw [List.length_map, ← hVn, kvl_ps]
  · cases h1; cases h2
    refine ka_gR (v := some nowW.1) hx rfl rfl ?_
    exact hnum (i := 4) (by omega) rfl (ka_pure ⟨rfl, by omega, rfl⟩)
  · cases h1; cases h2
    refine ka_gR (v := some nowW.1) hx rfl rfl ?_
    refine ka_gR (by first | exact ka_same | assumption | exact ka_ne1 (by first | assumption | exact Ne.symm (by assumption)) (by first | exact ka_same | assumption | exact ka_ne1 (by first | assumption | exact Ne.symm (by assumption)) (by first | exact ka_same | assumption | exact ka_ne1 (by first | assumption | exact Ne.symm (by assumption)) (by first | exact ka_same | assumption | exact ka_ne1 (by first | assumption | exact Ne.symm (by assumption)) (by first | exact ka_same | assumption | exact ka_ne1 (by first | assumption | exact Ne.symm (by assumption)) (by first | exact ka_same | assumption | exact ka_ne1 (by first | assumption | exact Ne.symm (by assumption)) (by first | exact ka_same | assumption))))))) rfl rfl ?_
    refine ka_is l5 rfl (ka_use (kl_size l5) (ka_pure ⟨?_, by omega, rfl⟩))
    rw [List.length_map, ← hVn, kvl_so]
  · cases h1; cases h2
    refine ka_gR (v := some nowW.1) hx rfl rfl ?_
    refine ka_gR (by first | exact ka_same | assumption | exact ka_ne1 (by first | assumption | exact Ne.symm (by assumption)) (by first | exact ka_same | assumption | exact ka_ne1 (by first | assumption | exact Ne.symm (by assumption)) (by first | exact ka_same | assumption | exact ka_ne1 (by first | assumption | exact Ne.symm (by assumption)) (by first | exact ka_same | assumption | exact ka_ne1 (by first | assumption | exact Ne.symm (by assumption)) (by first | exact ka_same | assumption | exact ka_ne1 (by first | assumption | exact Ne.symm (by assumption)) (by first | exact ka_same | assumption | exact ka_ne1 (by first | assumption | exact Ne.symm (by assumption)) (by first | exact ka_same | assumption))))))) rfl rfl ?_
    refine ka_is l6 rfl (ka_use (kl_size l6) (ka_pure ⟨?_, by omega, rfl⟩))
    rw [List.length_map, ← hVn, kvl_wa]
  · cases h1; cases h2
    refine ka_gR (v := some nowW.1) hx rfl rfl ?_
    exact hnum (i := 5) (by omega) rfl (ka_pure ⟨rfl, by omega, rfl⟩)
  · cases h1; cases h2
    refine ka_gR (v := some nowW.1) hx rfl rfl ?_
    exact hnum (i := 6) (by omega) rfl (ka_pure ⟨rfl, by omega, rfl⟩)
  · cases h1; cases h2
    refine ka_gR (v := some nowW.1) hx rfl rfl ?_
    exact hnum (i := 7) (by omega) rfl (ka_pure ⟨rfl, by omega, rfl⟩)
  · cases h1; cases h2
    refine ka_gR (v := some nowW.1) hx rfl rfl ?_
    exact hnum (i := 8) (by omega) rfl (ka_pure ⟨rfl, by omega, rfl⟩)
  · cases h1; cases h2
    exact ka_gI hx rfl rfl (ka_pure ⟨rfl, by omega, rfl⟩)
  · cases h1; cases h2
    refine ka_gR (v := some dq) hx rfl rfl (ka_is hdq rfl (ka_use (kq_size hdq) (ka_pure ⟨?_, by omega, rfl⟩)))
    rw [List.length_map, ← hbef, List.length_map]
  · cases h1
end KXR
