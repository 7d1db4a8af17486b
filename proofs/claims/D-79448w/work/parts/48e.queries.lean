set_option maxRecDepth 100000
/-! ===== what the class is asked ===== -/
/-- a switch over 0, 1, .. -/
def v_sw' (v : Int32) (l : List Int32) (d : Int32) : Int32 := if v.toInt < 0 ∨ ((l.length : Int) - 1) < v.toInt then d else l.getD v.toInt.toNat d
abbrev kx_A (H : ka_H) (w c : Nat) (v : Int32) : Int32 → Nat → ka_H → Prop := fun r w' H' => r = v ∧ w ≤ w' + c ∧ H' = H
def v_wants (r : vS) : Int32 := if v_done r = true then 3 else if v_whole r = true then 2 else if v_loose r = 0 then 1 else 0
def vq_carverOf (X : vX) (c k : Int32) : Int32 := if vx_isC X c = 1 then v_sw' k [(X.now.cs.getD c.toNatClampNeg (0, 0, 0, 0)).1, (X.now.cs.getD c.toNatClampNeg (0, 0, 0, 0)).2.1, v_lensOf X.now c, v_sight X.now c.toNatClampNeg, (X.now.cs.getD c.toNatClampNeg (0, 0, 0, 0)).2.2.1, (X.now.cs.getD c.toNatClampNeg (0, 0, 0, 0)).2.2.2] (-2) else -1
def vq_lensOf (X : vX) (l p : Int32) : Int32 := if vx_isL X l = 1 then (if p = 0 then (if (X.now.ls.getD l.toNatClampNeg (0, 0)).2 = -1 then -6 else (X.now.ls.getD l.toNatClampNeg (0, 0)).2) else (X.now.ls.getD l.toNatClampNeg (0, 0)).1) else -1
def vq_box (X : vX) (k s : Int32) : Int32 := if s = 0 then Int32.ofNat (v_of k X.now.bx).length else v_fsum 0 (v_of k X.now.bx)
def vq_finest (X : vX) (k : Int32) : Int32 := match v_fin none (v_of k X.now.bx) with
  | none => -6
  | some b => b.1
def vq_stringOf (X : vX) (s k : Int32) : Int32 := if vx_isS X s = 1 then v_sw' k [(X.now.st.getD s.toNatClampNeg (0, 0, 0, [])).1, (X.now.st.getD s.toNatClampNeg (0, 0, 0, [])).2.1, Int32.ofNat (X.now.st.getD s.toNatClampNeg (0, 0, 0, [])).bs.length, (X.now.st.getD s.toNatClampNeg (0, 0, 0, [])).2.2.1, v_fine (X.now.st.getD s.toNatClampNeg (0, 0, 0, [])).bs, if v_done (X.now.st.getD s.toNatClampNeg (0, 0, 0, [])) = true then 1 else 0, v_wants (X.now.st.getD s.toNatClampNeg (0, 0, 0, []))] (-2) else -1
def vq_pilgrimOf (X : vX) (p k : Int32) : Int32 := if v_in p 0 (Int32.ofNat X.now.ps.length - 1) = 1 then v_sw' k [(X.now.ps.getD p.toNatClampNeg (0, 0, 0, 0)).1 - X.now.sc 0, (X.now.ps.getD p.toNatClampNeg (0, 0, 0, 0)).2.1, (X.now.ps.getD p.toNatClampNeg (0, 0, 0, 0)).2.2.1, (X.now.ps.getD p.toNatClampNeg (0, 0, 0, 0)).2.2.2, v_wanted X.now (X.now.ps.getD p.toNatClampNeg (0, 0, 0, 0))] (-2) else -1
def v_brk (d : vD) : Int32 := match d.2.1 with
  | none => 0
  | some c => c.2.1
def vq_soldOf (X : vX) (wz p k : Int32) : Int32 :=
  let all := if wz = 0 then X.now.so else X.now.wa
  if v_in p 0 (Int32.ofNat all.length - 1) = 1 then v_sw' k [Int32.ofNat (all.getD p.toNatClampNeg (0, none, [])).bs.length, v_fine (all.getD p.toNatClampNeg (0, none, [])).bs, if wz = 0 then v_last (all.getD p.toNatClampNeg (0, none, [])) - X.now.sc 0 else 0, if wz = 0 then -6 else v_brk (all.getD p.toNatClampNeg (0, none, []))] (-2) else -1
def vq_could (X : vX) (g m : Int32) : Int32 := if v_pat g m = 1 then km_min (Int32.ofNat (v_of 1 X.now.bx).length / g) (Int32.ofNat (v_of 0 X.now.bx).length / (g * m)) else -2
section KXQ
variable {Z : ka_Z} {w : Nat} {H : ka_H} {x dq ip cc dd : Nat} {X : vX}
theorem kx_tsw {v d : Int32} {Ps : List (km_M Int32)} {l : List Int32} {D : km_M Int32} {hi : Int} {c : Nat} (hhi : hi = (Ps.length : Int) - 1) (hl : l.length = Ps.length) (hP : ∀ (i : Nat) (P : km_M Int32) (y : Int32), Ps[i]? = some P → l[i]? = some y → ka_T Z P w H (kx_A H w c y)) (hD : ka_T Z D w H (kx_A H w c d)) : ka_T Z (km_tsw v 0 hi Ps D) w H (kx_A H w c (v_sw' v l d)) := by
  subst hhi
  unfold km_tsw v_sw'
  rw [hl]
  by_cases h : v.toInt < 0 ∨ ((Ps.length : Int) - 1) < v.toInt
  · rw [if_pos h, if_pos h]
    exact hD
  · rw [if_neg h, if_neg h]
    have hlt : v.toInt.toNat < Ps.length := by omega
    rw [show (v.toInt - 0).toNat = v.toInt.toNat by omega]
    have e1 : Ps.getD v.toInt.toNat D = Ps[v.toInt.toNat] := by rw [List.getD, List.getElem?_eq_getElem hlt]; rfl
    have e2 : l.getD v.toInt.toNat d = l[v.toInt.toNat]'(by omega) := by rw [List.getD, List.getElem?_eq_getElem (by omega)]; rfl
    rw [e1, e2]
    exact hP _ _ _ (List.getElem?_eq_getElem hlt) (List.getElem?_eq_getElem (by omega))
theorem kx_carverOf {c k : Int32} (hX : kX H x dq ip cc dd X) (hcc : cc ≤ 240) (hw : 3000 ≤ w) : ka_T Z (pm_X0_carverOf (some x) c k) w H (kx_A H w 3000 (vq_carverOf X c k)) := by
  obtain ⟨nowW, befW, savW, rfW, lnW, fW, hX'⟩ := id hX
  have hok : v_ok cc dd X.now := by
    have := hX'.2.2.2.1.2.2
    rw [hX'.2.2.2.2.2.2.2.2.2.2.2.1] at this
    exact this
  have hx := hX'.1
  have hS := hX'.2.2.2.1.1
  have hVn : nowW.2.2.V = X.now := hX'.2.2.2.2.2.2.2.2.2.2.2.1
  have hs := kg_s hS
  obtain ⟨⟨c1, c2, c3, c4, c5, c6, c7⟩, c8, c9, c10, c11, c12⟩ := kh_ok hX'.2.2.2.1.2.2 (by omega)
  unfold pm_X0_carverOf vq_carverOf
  refine ka_gR (v := some nowW.1) hx rfl rfl ?_
  refine ka_is hs rfl (ka_use (kx_isCarver hS) ?_)
  have hlen : nowW.2.2.cs.length = X.now.cs.length := by rw [← hVn, kvl_cs]
  rw [hlen]
  by_cases h : vx_isC X c = 1
  · rw [if_pos h]
    refine ka_ifP (by rw [show v_in c 0 (Int32.ofNat X.now.cs.length - 1) = 1 from h]; decide) ?_
    obtain ⟨i, rfl, hi⟩ := v_in_idx (by have := hok.2.2.1.1; omega) h
    rw [k3_nat (by have := hok.2.2.1.1; omega)]
    refine ka_gR (v := some nowW.1) hx rfl rfl ?_
    obtain ⟨mc, hls⟩ := kg_cs hS
    have hi2 : i < nowW.2.2.cs.length := by rw [hlen]; exact hi
    have hci := List.getElem?_eq_getElem hi2
    have hc0 := kg_c hS (List.getElem_mem hi2)
    have hcV : X.now.cs.getD i (0, 0, 0, 0) = nowW.2.2.cs[i].2 := by rw [← hVn]; exact kvg_cs hci
    refine ka_gR (by first | exact ka_same | assumption | exact ka_ne1 (by first | assumption | exact Ne.symm (by assumption)) (by first | exact ka_same | assumption | exact ka_ne1 (by first | assumption | exact Ne.symm (by assumption)) (by first | exact ka_same | assumption | exact ka_ne1 (by first | assumption | exact Ne.symm (by assumption)) (by first | exact ka_same | assumption | exact ka_ne1 (by first | assumption | exact Ne.symm (by assumption)) (by first | exact ka_same | assumption | exact ka_ne1 (by first | assumption | exact Ne.symm (by assumption)) (by first | exact ka_same | assumption | exact ka_ne1 (by first | assumption | exact Ne.symm (by assumption)) (by first | exact ka_same | assumption))))))) rfl rfl ?_
    refine ka_is hls rfl (ka_use (kl_get (v := nowW.2.2.cs[i].1) hls (by rw [List.getElem?_map, hci]; rfl)) ?_)
    refine ka_cast hc0 rfl rfl ?_
    rw [hcV]
    refine kx_tsw rfl rfl (fun j P y h1 h2 => ?_) (ka_pure ⟨rfl, by omega, rfl⟩)
    rcases j with _ | _ | _ | _ | _ | _ | j
    · cases h1; cases h2
      exact ka_gI hc0 rfl rfl (ka_pure ⟨rfl, by omega, rfl⟩)
    · cases h1; cases h2
      exact ka_gI hc0 rfl rfl (ka_pure ⟨rfl, by omega, rfl⟩)
    · cases h1; cases h2
      refine ka_gR (v := some nowW.1) hx rfl rfl ?_
      refine ka_is hs rfl (ka_use (ko_lensOf hS (by omega)) (ka_pure ⟨?_, by omega, rfl⟩))
      rw [hVn]
    · cases h1; cases h2
      refine ka_gR (v := some nowW.1) hx rfl rfl ?_
      refine ka_is hs rfl (ka_use (ko_sight hS (by omega) (by omega) hi2) (ka_pure ⟨?_, by omega, rfl⟩))
      rw [hVn]
    · cases h1; cases h2
      exact ka_gI hc0 rfl rfl (ka_pure ⟨rfl, by omega, rfl⟩)
    · cases h1; cases h2
      exact ka_gI hc0 rfl rfl (ka_pure ⟨rfl, by omega, rfl⟩)
    · cases h1
  · rw [if_neg h]
    exact ka_ifN (by rw [show v_in c 0 (Int32.ofNat X.now.cs.length - 1) = 0 from v_in_no h]; simp) (ka_pure ⟨rfl, by omega, rfl⟩)
theorem kx_lensOf {l p : Int32} (hX : kX H x dq ip cc dd X) (hcc : cc ≤ 240) (hw : 3000 ≤ w) : ka_T Z (pm_X0_lensOf (some x) l p) w H (kx_A H w 3000 (vq_lensOf X l p)) := by
  obtain ⟨nowW, befW, savW, rfW, lnW, fW, hX'⟩ := id hX
  have hok : v_ok cc dd X.now := by
    have := hX'.2.2.2.1.2.2
    rw [hX'.2.2.2.2.2.2.2.2.2.2.2.1] at this
    exact this
  have hx := hX'.1
  have hS := hX'.2.2.2.1.1
  have hVn : nowW.2.2.V = X.now := hX'.2.2.2.2.2.2.2.2.2.2.2.1
  have hs := kg_s hS
  obtain ⟨⟨c1, c2, c3, c4, c5, c6, c7⟩, c8, c9, c10, c11, c12⟩ := kh_ok hX'.2.2.2.1.2.2 (by omega)
  unfold pm_X0_lensOf
  refine ka_gR (v := some nowW.1) hx rfl rfl ?_
  refine ka_is hs rfl (ka_use (kx_isLens hS) ?_)
  have hlen : nowW.2.2.ls.length = X.now.ls.length := by rw [← hVn, kvl_ls]
  rw [hlen]
  by_cases h : vx_isL X l = 1
  · refine ka_ifP (by rw [show v_in l 0 (Int32.ofNat X.now.ls.length - 1) = 1 from h]; decide) ?_
    unfold vq_lensOf
    rw [if_pos h]
    obtain ⟨i, rfl, hi⟩ := v_in_idx (by have := hok.2.2.1.2.1; omega) h
    rw [k3_nat (by have := hok.2.2.1.2.1; omega)]
    refine ka_gR (v := some nowW.1) hx rfl rfl ?_
    obtain ⟨mc, hls⟩ := kg_ls hS
    have hi2 : i < nowW.2.2.ls.length := by rw [hlen]; exact hi
    have hci := List.getElem?_eq_getElem hi2
    have hc0 := kg_l hS (List.getElem_mem hi2)
    have hcV : X.now.ls.getD i (0, 0) = nowW.2.2.ls[i].2 := by rw [← hVn]; exact kvg_ls hci
    refine ka_gR (by first | exact ka_same | assumption | exact ka_ne1 (by first | assumption | exact Ne.symm (by assumption)) (by first | exact ka_same | assumption | exact ka_ne1 (by first | assumption | exact Ne.symm (by assumption)) (by first | exact ka_same | assumption | exact ka_ne1 (by first | assumption | exact Ne.symm (by assumption)) (by first | exact ka_same | assumption | exact ka_ne1 (by first | assumption | exact Ne.symm (by assumption)) (by first | exact ka_same | assumption | exact ka_ne1 (by first | assumption | exact Ne.symm (by assumption)) (by first | exact ka_same | assumption | exact ka_ne1 (by first | assumption | exact Ne.symm (by assumption)) (by first | exact ka_same | assumption))))))) rfl rfl ?_
    refine ka_is hls rfl (ka_use (kl_get (v := nowW.2.2.ls[i].1) hls (by rw [List.getElem?_map, hci]; rfl)) ?_)
    refine ka_cast hc0 rfl rfl ?_
    rw [hcV]
    by_cases hp : p = 0
    · refine ka_ifP hp (ka_gI hc0 rfl rfl ?_)
      rw [if_pos hp]
      by_cases h1 : (nowW.2.2.ls[i]).2.2 = -1
      · refine ka_ifN (fun z => z h1) (ka_pure ⟨?_, by omega, rfl⟩)
        rw [if_pos h1]
      · refine ka_ifP h1 (ka_gI hc0 rfl rfl (ka_pure ⟨?_, by omega, rfl⟩))
        rw [if_neg h1]
    · refine ka_ifN hp (ka_gI hc0 rfl rfl (ka_pure ⟨?_, by omega, rfl⟩))
      rw [if_neg hp]
  · refine ka_ifN (by rw [show v_in l 0 (Int32.ofNat X.now.ls.length - 1) = 0 from v_in_no h]; simp) (ka_pure ⟨?_, by omega, rfl⟩)
    unfold vq_lensOf
    rw [if_neg h]
theorem kx_bxV {A : kAp} {V : kV} (h : A.V = V) (k : Int32) : v_of k V.bx = (kb_of k A.bx).map (·.2) := by
  rw [← h, kv_of]
theorem kx_box {k s : Int32} (hk : k = 0 ∨ k = 1) (hX : kX H x dq ip cc dd X) (hcc : cc ≤ 240) (hw : 3000 ≤ w) : ka_T Z (pm_X0_box (some x) k s) w H (kx_A H w 3000 (vq_box X k s)) := by
  obtain ⟨nowW, befW, savW, rfW, lnW, fW, hX'⟩ := id hX
  have hok : v_ok cc dd X.now := by
    have := hX'.2.2.2.1.2.2
    rw [hX'.2.2.2.2.2.2.2.2.2.2.2.1] at this
    exact this
  have hx := hX'.1
  have hS := hX'.2.2.2.1.1
  have hVn : nowW.2.2.V = X.now := hX'.2.2.2.2.2.2.2.2.2.2.2.1
  have hs := kg_s hS
  obtain ⟨⟨c1, c2, c3, c4, c5, c6, c7⟩, c8, c9, c10, c11, c12⟩ := kh_ok hX'.2.2.2.1.2.2 (by omega)
  have hbox := kg_box hS
  have hbV := kx_bxV hVn k
  unfold pm_X0_box vq_box
  rw [hbV]
  by_cases h : s = 0
  · refine ka_ifP h ?_
    rw [if_pos h]
    refine ka_gR (v := some nowW.1) hx rfl rfl ?_
    refine ka_gR (by first | exact ka_same | assumption | exact ka_ne1 (by first | assumption | exact Ne.symm (by assumption)) (by first | exact ka_same | assumption | exact ka_ne1 (by first | assumption | exact Ne.symm (by assumption)) (by first | exact ka_same | assumption | exact ka_ne1 (by first | assumption | exact Ne.symm (by assumption)) (by first | exact ka_same | assumption | exact ka_ne1 (by first | assumption | exact Ne.symm (by assumption)) (by first | exact ka_same | assumption | exact ka_ne1 (by first | assumption | exact Ne.symm (by assumption)) (by first | exact ka_same | assumption | exact ka_ne1 (by first | assumption | exact Ne.symm (by assumption)) (by first | exact ka_same | assumption))))))) rfl rfl ?_
    refine ka_dB hbox.1 (ka_call (kb_many hbox.1 hbox.2 hk (by omega) (by omega)) (fun r v K hp => ?_))
    obtain ⟨rfl, hv, rfl⟩ := hp
    exact ka_pure ⟨by rw [List.length_map], by omega, rfl⟩
  · refine ka_ifN h ?_
    rw [if_neg h]
    refine ka_gR (v := some nowW.1) hx rfl rfl ?_
    refine ka_gR (by first | exact ka_same | assumption | exact ka_ne1 (by first | assumption | exact Ne.symm (by assumption)) (by first | exact ka_same | assumption | exact ka_ne1 (by first | assumption | exact Ne.symm (by assumption)) (by first | exact ka_same | assumption | exact ka_ne1 (by first | assumption | exact Ne.symm (by assumption)) (by first | exact ka_same | assumption | exact ka_ne1 (by first | assumption | exact Ne.symm (by assumption)) (by first | exact ka_same | assumption | exact ka_ne1 (by first | assumption | exact Ne.symm (by assumption)) (by first | exact ka_same | assumption | exact ka_ne1 (by first | assumption | exact Ne.symm (by assumption)) (by first | exact ka_same | assumption))))))) rfl rfl ?_
    refine ka_dB hbox.1 (ka_call (kb_newK hbox.1 hk (by omega)) (fun r v K hp => ?_))
    obtain ⟨a, rfl, ha, hv, rfl⟩ := hp
    have hle := ka_le_up (o := ka_ob 10 [.int k, .ref (nowW.2.1 2)]) ha
    refine ka_call (kb_sumI (bs := kb_of k nowW.2.2.bx) (kb_ItbK ka_same (kb_B_up hbox.1 ha) (kb_L_up hbox.2 ha) hk (by omega)) (fun b hb => kb_bead_up (hbox.2.2 b (kb_of_mem hb)) ha) (Nat.lt_of_le_of_lt kb_of_len (by omega)) (by omega)) (fun r v2 K hp => ?_)
    obtain ⟨rfl, hv2, rfl⟩ := hp
    refine ka_pureE (ka_entle hle) ⟨by rw [kv_fsum], by omega, rfl⟩
theorem kx_finest {k : Int32} (hk : k = 0 ∨ k = 1) (hX : kX H x dq ip cc dd X) (hcc : cc ≤ 240) (hw : 3000 ≤ w) : ka_T Z (pm_X0_finest (some x) k) w H (kx_A H w 3000 (vq_finest X k)) := by
  obtain ⟨nowW, befW, savW, rfW, lnW, fW, hX'⟩ := id hX
  have hok : v_ok cc dd X.now := by
    have := hX'.2.2.2.1.2.2
    rw [hX'.2.2.2.2.2.2.2.2.2.2.2.1] at this
    exact this
  have hx := hX'.1
  have hS := hX'.2.2.2.1.1
  have hVn : nowW.2.2.V = X.now := hX'.2.2.2.2.2.2.2.2.2.2.2.1
  have hs := kg_s hS
  obtain ⟨⟨c1, c2, c3, c4, c5, c6, c7⟩, c8, c9, c10, c11, c12⟩ := kh_ok hX'.2.2.2.1.2.2 (by omega)
  have hbox := kg_box hS
  have hbV := kx_bxV hVn k
  unfold pm_X0_finest vq_finest
  rw [hbV]
  have hfin : v_fin none ((kb_of k nowW.2.2.bx).map (·.2)) = (kb_fin none (kb_of k nowW.2.2.bx)).map (·.2) := (kv_fin _ none).symm
  rw [hfin]
  refine ka_gR (v := some nowW.1) hx rfl rfl ?_
  refine ka_gR (by first | exact ka_same | assumption | exact ka_ne1 (by first | assumption | exact Ne.symm (by assumption)) (by first | exact ka_same | assumption | exact ka_ne1 (by first | assumption | exact Ne.symm (by assumption)) (by first | exact ka_same | assumption | exact ka_ne1 (by first | assumption | exact Ne.symm (by assumption)) (by first | exact ka_same | assumption | exact ka_ne1 (by first | assumption | exact Ne.symm (by assumption)) (by first | exact ka_same | assumption | exact ka_ne1 (by first | assumption | exact Ne.symm (by assumption)) (by first | exact ka_same | assumption | exact ka_ne1 (by first | assumption | exact Ne.symm (by assumption)) (by first | exact ka_same | assumption))))))) rfl rfl ?_
  refine ka_dB hbox.1 (ka_call (kb_finest hbox.1 hbox.2 hk (by omega) (by omega)) (fun r v K hp => ?_))
  obtain ⟨rfl, hv, rfl⟩ := hp
  cases hf : kb_fin none (kb_of k nowW.2.2.bx) with
  | none => exact ka_ifP rfl (ka_pure ⟨rfl, by omega, rfl⟩)
  | some c =>
    have hcm : c ∈ nowW.2.2.bx := by
      rcases kb_fin_mem _ _ _ hf with e | e
      · exact kb_of_mem e
      · cases e
    exact ka_ifN (by simp) (ka_gI (hbox.2.2 c hcm) rfl rfl (ka_pure ⟨rfl, by omega, rfl⟩))
theorem kx_wants {r : kS} (hr : H r.1 = some (kc_S r)) (hL : kb_L H r.2.1 r.bs) : ka_T Z (pm_X8_wants (some r.1)) w H (ka_V w H (v_wants r.V)) := by
  unfold pm_X8_wants v_wants
  refine ka_is hr rfl (ka_use (ko_isDone hr) ?_)
  by_cases h1 : v_done r.V = true
  · rw [if_pos h1]
    refine ka_ifN (by decide) (ka_pure ⟨?_, rfl, rfl⟩)
    rw [if_pos h1]
  · rw [if_neg h1]
    refine ka_ifP rfl (ka_is hr rfl (ka_use (ko_isWhole hr hL) ?_))
    rw [if_neg h1]
    by_cases h2 : v_whole r.V = true
    · rw [if_pos h2]
      refine ka_ifN (by decide) (ka_pure ⟨?_, rfl, rfl⟩)
      rw [if_pos h2]
    · rw [if_neg h2]
      refine ka_ifP rfl (ka_is hr rfl (ka_use (ko_wantsLarge hr hL) ?_))
      rw [if_neg h2]
      refine ka_use (k3_bit (by split <;> simp)) (ka_pure ⟨rfl, rfl, rfl⟩)
theorem kx_stringOf {n k : Int32} (hX : kX H x dq ip cc dd X) (hcc : cc ≤ 240) (hw : 3000 ≤ w) : ka_T Z (pm_X0_stringOf (some x) n k) w H (kx_A H w 3000 (vq_stringOf X n k)) := by
  obtain ⟨nowW, befW, savW, rfW, lnW, fW, hX'⟩ := id hX
  have hok : v_ok cc dd X.now := by
    have := hX'.2.2.2.1.2.2
    rw [hX'.2.2.2.2.2.2.2.2.2.2.2.1] at this
    exact this
  have hx := hX'.1
  have hS := hX'.2.2.2.1.1
  have hVn : nowW.2.2.V = X.now := hX'.2.2.2.2.2.2.2.2.2.2.2.1
  have hs := kg_s hS
  obtain ⟨⟨c1, c2, c3, c4, c5, c6, c7⟩, c8, c9, c10, c11, c12⟩ := kh_ok hX'.2.2.2.1.2.2 (by omega)
  unfold pm_X0_stringOf vq_stringOf
  refine ka_gR (v := some nowW.1) hx rfl rfl ?_
  refine ka_is hs rfl (ka_use (kx_isString hS) ?_)
  have hlen : nowW.2.2.st.length = X.now.st.length := by rw [← hVn, kvl_st]
  rw [hlen]
  by_cases h : vx_isS X n = 1
  · rw [if_pos h]
    refine ka_ifP (by rw [show v_in n 0 (Int32.ofNat X.now.st.length - 1) = 1 from h]; decide) ?_
    obtain ⟨i, rfl, hi⟩ := v_in_idx (by have := hok.2.2.1.2.2.1; omega) h
    rw [k3_nat (by have := hok.2.2.1.2.2.1; omega)]
    refine ka_gR (v := some nowW.1) hx rfl rfl ?_
    obtain ⟨mc, hls⟩ := kg_st hS
    have hi2 : i < nowW.2.2.st.length := by rw [hlen]; exact hi
    have hci := List.getElem?_eq_getElem hi2
    have hm := List.getElem_mem hi2
    have hc0 := kg_r hS hm
    have hL := kg_rs hS hm
    have hbl := c8 _ hm
    have hcV : X.now.st.getD i (0, 0, 0, []) = (nowW.2.2.st[i]).V := by rw [← hVn]; exact kvg_st hci
    refine ka_gR (by first | exact ka_same | assumption | exact ka_ne1 (by first | assumption | exact Ne.symm (by assumption)) (by first | exact ka_same | assumption | exact ka_ne1 (by first | assumption | exact Ne.symm (by assumption)) (by first | exact ka_same | assumption | exact ka_ne1 (by first | assumption | exact Ne.symm (by assumption)) (by first | exact ka_same | assumption | exact ka_ne1 (by first | assumption | exact Ne.symm (by assumption)) (by first | exact ka_same | assumption | exact ka_ne1 (by first | assumption | exact Ne.symm (by assumption)) (by first | exact ka_same | assumption | exact ka_ne1 (by first | assumption | exact Ne.symm (by assumption)) (by first | exact ka_same | assumption))))))) rfl rfl ?_
    refine ka_is hls rfl (ka_use (kl_get (v := nowW.2.2.st[i].1) hls (by rw [List.getElem?_map, hci]; rfl)) ?_)
    refine ka_cast hc0 rfl rfl ?_
    rw [hcV]
    refine kx_tsw rfl rfl (fun j P y h1 h2 => ?_) (ka_pure ⟨rfl, by omega, rfl⟩)
    rcases j with _ | _ | _ | _ | _ | _ | _ | j
    · cases h1; cases h2
      exact ka_gI hc0 rfl rfl (ka_pure ⟨rfl, by omega, rfl⟩)
    · cases h1; cases h2
      exact ka_gI hc0 rfl rfl (ka_pure ⟨rfl, by omega, rfl⟩)
    · cases h1; cases h2
      obtain ⟨ml, hl⟩ := hL.2.1
      refine ka_is hc0 rfl (ka_use (kb_size hL.1 hl) (ka_pure ⟨?_, by omega, rfl⟩))
      rw [List.length_map, List.length_map]
    · cases h1; cases h2
      exact ka_gI hc0 rfl rfl (ka_pure ⟨rfl, by omega, rfl⟩)
    · cases h1; cases h2
      refine ka_is hc0 rfl (ka_call (kb_fineness hL.1 hL.2 (by omega) (by omega)) (fun r v K hp => ?_))
      obtain ⟨rfl, hv, rfl⟩ := hp
      exact ka_pure ⟨by rw [kv_fine], by omega, rfl⟩
    · cases h1; cases h2
      refine ka_is hc0 rfl (ka_use (ko_isDone hc0) (ka_use (k3_bit (by split <;> simp)) (ka_pure ⟨rfl, by omega, rfl⟩)))
    · cases h1; cases h2
      exact ka_is hc0 rfl (ka_use (kx_wants hc0 hL.2) (ka_pure ⟨rfl, by omega, rfl⟩))
    · cases h1
  · rw [if_neg h]
    exact ka_ifN (by rw [show v_in n 0 (Int32.ofNat X.now.st.length - 1) = 0 from v_in_no h]; simp) (ka_pure ⟨rfl, by omega, rfl⟩)
theorem kx_pilgrimOf {n k : Int32} (hX : kX H x dq ip cc dd X) (hcc : cc ≤ 240) (hw : 3000 ≤ w) : ka_T Z (pm_X0_pilgrimOf (some x) n k) w H (kx_A H w 3000 (vq_pilgrimOf X n k)) := by
  obtain ⟨nowW, befW, savW, rfW, lnW, fW, hX'⟩ := id hX
  have hok : v_ok cc dd X.now := by
    have := hX'.2.2.2.1.2.2
    rw [hX'.2.2.2.2.2.2.2.2.2.2.2.1] at this
    exact this
  have hx := hX'.1
  have hS := hX'.2.2.2.1.1
  have hVn : nowW.2.2.V = X.now := hX'.2.2.2.2.2.2.2.2.2.2.2.1
  have hs := kg_s hS
  obtain ⟨⟨c1, c2, c3, c4, c5, c6, c7⟩, c8, c9, c10, c11, c12⟩ := kh_ok hX'.2.2.2.1.2.2 (by omega)
  obtain ⟨mc, hls⟩ := kg_ps hS
  unfold pm_X0_pilgrimOf vq_pilgrimOf
  refine ka_gR (v := some nowW.1) hx rfl rfl ?_
  refine ka_gR (by first | exact ka_same | assumption | exact ka_ne1 (by first | assumption | exact Ne.symm (by assumption)) (by first | exact ka_same | assumption | exact ka_ne1 (by first | assumption | exact Ne.symm (by assumption)) (by first | exact ka_same | assumption | exact ka_ne1 (by first | assumption | exact Ne.symm (by assumption)) (by first | exact ka_same | assumption | exact ka_ne1 (by first | assumption | exact Ne.symm (by assumption)) (by first | exact ka_same | assumption | exact ka_ne1 (by first | assumption | exact Ne.symm (by assumption)) (by first | exact ka_same | assumption | exact ka_ne1 (by first | assumption | exact Ne.symm (by assumption)) (by first | exact ka_same | assumption))))))) rfl rfl ?_
  refine ka_is hls rfl (ka_use (kl_size hls) (ka_use kx_in ?_))
  rw [List.length_map]
  have hlen : nowW.2.2.ps.length = X.now.ps.length := by rw [← hVn, kvl_ps]
  rw [hlen]
  by_cases h : v_in n 0 (Int32.ofNat X.now.ps.length - 1) = 1
  · rw [if_pos h]
    refine ka_ifP (by rw [h]; decide) ?_
    obtain ⟨i, rfl, hi⟩ := v_in_idx (by have := hok.2.2.1.2.2.2.1; omega) h
    rw [k3_nat (by have := hok.2.2.1.2.2.2.1; omega)]
    refine ka_gR (v := some nowW.1) hx rfl rfl ?_
    have hi2 : i < nowW.2.2.ps.length := by rw [hlen]; exact hi
    have hci := List.getElem?_eq_getElem hi2
    have hm := List.getElem_mem hi2
    have hc0 := kg_p hS hm
    have hcV : X.now.ps.getD i (0, 0, 0, 0) = (nowW.2.2.ps[i]).2 := by rw [← hVn]; exact kv_getD hci
    refine ka_gR (by first | exact ka_same | assumption | exact ka_ne1 (by first | assumption | exact Ne.symm (by assumption)) (by first | exact ka_same | assumption | exact ka_ne1 (by first | assumption | exact Ne.symm (by assumption)) (by first | exact ka_same | assumption | exact ka_ne1 (by first | assumption | exact Ne.symm (by assumption)) (by first | exact ka_same | assumption | exact ka_ne1 (by first | assumption | exact Ne.symm (by assumption)) (by first | exact ka_same | assumption | exact ka_ne1 (by first | assumption | exact Ne.symm (by assumption)) (by first | exact ka_same | assumption | exact ka_ne1 (by first | assumption | exact Ne.symm (by assumption)) (by first | exact ka_same | assumption))))))) rfl rfl ?_
    refine ka_is hls rfl (ka_use (kl_get (v := nowW.2.2.ps[i].1) hls (by rw [List.getElem?_map, hci]; rfl)) ?_)
    refine ka_cast hc0 rfl rfl ?_
    rw [hcV]
    refine kx_tsw rfl rfl (fun j P y h1 h2 => ?_) (ka_pure ⟨rfl, by omega, rfl⟩)
    rcases j with _ | _ | _ | _ | _ | j
    · cases h1; cases h2
      refine ka_gI hc0 rfl rfl ?_
      refine ka_gR (v := some nowW.1) hx rfl rfl ?_
      refine ka_gI hs rfl rfl (ka_pure ⟨?_, by omega, rfl⟩)
      rw [← hVn]
    · cases h1; cases h2
      exact ka_gI hc0 rfl rfl (ka_pure ⟨rfl, by omega, rfl⟩)
    · cases h1; cases h2
      exact ka_gI hc0 rfl rfl (ka_pure ⟨rfl, by omega, rfl⟩)
    · cases h1; cases h2
      exact ka_gI hc0 rfl rfl (ka_pure ⟨rfl, by omega, rfl⟩)
    · cases h1; cases h2
      refine ka_gR (v := some nowW.1) hx rfl rfl ?_
      refine ka_is hs rfl (ka_call (ko_wanted hS hc0 c3 (fun r hr => Nat.lt_of_le_of_lt (c8 r hr) (by omega)) (by omega) (by omega)) (fun r v K hp => ?_))
      obtain ⟨rfl, hv, rfl⟩ := hp
      exact ka_pure ⟨by rw [hVn], by omega, rfl⟩
    · cases h1
  · rw [if_neg h]
    exact ka_ifN (by rw [v_in_no h]; simp) (ka_pure ⟨rfl, by omega, rfl⟩)
theorem kx_sold21 {wz n k : Int32} {A : kAp} {s : Nat} {ad : Nat → Nat} {l : Nat} {mc : Int32} {all : List kDp} (hx : ∃ sv dq rf ln ip fed fa, H x = some (kx_ob s sv dq rf ln ip fed fa)) (hS : kc_shop H s ad A) (hl : H l = some (ka_ls mc (all.map (·.1)))) (hall : ∀ d ∈ all, kc_dOk H d ∧ d.bs.length ≤ 200 ∧ (wz ≠ 0 → ∃ c, d.2.2.2.1 = some c ∧ (c.2.2.1 = 0 ∨ c.2.2.1 = 1))) (hlen : all.length < 1000) (hw : 3000 ≤ w) : ka_T Z (pb_X0_soldOf_21 (some x) wz n k (some l)) w H (kx_A H w 3000 (if v_in n 0 (Int32.ofNat all.length - 1) = 1 then v_sw' k [Int32.ofNat ((all.map kDp.V).getD n.toNatClampNeg (0, none, [])).bs.length, v_fine ((all.map kDp.V).getD n.toNatClampNeg (0, none, [])).bs, if wz = 0 then v_last ((all.map kDp.V).getD n.toNatClampNeg (0, none, [])) - A.sc 0 else 0, if wz = 0 then -6 else v_brk ((all.map kDp.V).getD n.toNatClampNeg (0, none, []))] (-2) else -1)) := by
  obtain ⟨sv, dq, rf, ln, ip, fed, fa, hx⟩ := hx
  have hs := kg_s hS
  unfold pb_X0_soldOf_21
  refine ka_is hl rfl (ka_use (kl_size hl) (ka_use kx_in ?_))
  rw [List.length_map]
  by_cases h : v_in n 0 (Int32.ofNat all.length - 1) = 1
  · rw [if_pos h]
    refine ka_ifP (by rw [h]; decide) ?_
    obtain ⟨i, rfl, hi⟩ := v_in_idx (by omega) h
    rw [k3_nat (by omega)]
    have hci := List.getElem?_eq_getElem hi
    have hm := List.getElem_mem hi
    obtain ⟨hd, hbl, hbr⟩ := hall _ hm
    have hd0 : H all[i].1 = some (kc_D all[i]) := hd.1
    have hB : kb_B H all[i].1 all[i].2.1 := ⟨12, _, hd0, Or.inr (Or.inr rfl)⟩
    have hcV : (all.map kDp.V).getD i (0, none, []) = (all[i]).V := kv_getD hci
    refine ka_is hl rfl (ka_use (kl_get (v := all[i].1) hl (by rw [List.getElem?_map, hci]; rfl)) ?_)
    refine ka_cast hd0 rfl rfl ?_
    rw [hcV]
    refine kx_tsw rfl rfl (fun j P y h1 h2 => ?_) (ka_pure ⟨rfl, by omega, rfl⟩)
    rcases j with _ | _ | _ | _ | j
    · cases h1; cases h2
      obtain ⟨ml, hl2⟩ := hd.2.1.1
      refine ka_is hd0 rfl (ka_use (kb_size hB hl2) (ka_pure ⟨?_, by omega, rfl⟩))
      rw [List.length_map, List.length_map]
    · cases h1; cases h2
      refine ka_is hd0 rfl (ka_call (kb_fineness hB hd.2.1 (by omega) (by omega)) (fun r v K hp => ?_))
      obtain ⟨rfl, hv, rfl⟩ := hp
      exact ka_pure ⟨by rw [kv_fine], by omega, rfl⟩
    · cases h1; cases h2
      by_cases hz : wz = 0
      · refine ka_ifP hz (ka_is hd0 rfl (ka_call (ko_last hd (by omega) (by omega)) (fun r v K hp => ?_)))
        obtain ⟨rfl, hv, rfl⟩ := hp
        refine ka_gR (v := some s) hx rfl rfl (ka_gI hs rfl rfl (ka_pure ⟨?_, by omega, rfl⟩))
        rw [if_pos hz]
      · refine ka_ifN hz (ka_pure ⟨?_, by omega, rfl⟩)
        rw [if_neg hz]
    · cases h1; cases h2
      by_cases hz : wz = 0
      · refine ka_ifP hz (ka_pure ⟨?_, by omega, rfl⟩)
        rw [if_pos hz]
      · refine ka_ifN hz ?_
        obtain ⟨c, hc, hck⟩ := hbr hz
        have hcb := hd.2.2 c hc
        refine ka_gR (v := some c.1) hd0 rfl (by rw [hc]; rfl) (ka_gI hcb rfl rfl (ka_use (k3_bit hck) (ka_pure ⟨?_, by omega, rfl⟩)))
        rw [if_neg hz]
        unfold v_brk
        rw [show (all[i]).V.2.1 = some c.2 from by show (all[i]).2.2.2.1.map (fun b : kB => b.2) = _; rw [hc]; rfl]
    · cases h1
  · rw [if_neg h]
    exact ka_ifN (by rw [v_in_no h]; simp) (ka_pure ⟨rfl, by omega, rfl⟩)
theorem kx_soldOf {wz n k : Int32} (hX : kX H x dq ip cc dd X) (hcc : cc ≤ 240) (hw : 3000 ≤ w) : ka_T Z (pm_X0_soldOf (some x) wz n k) w H (kx_A H w 3000 (vq_soldOf X wz n k)) := by
  obtain ⟨nowW, befW, savW, rfW, lnW, fW, hX'⟩ := id hX
  have hok : v_ok cc dd X.now := by
    have := hX'.2.2.2.1.2.2
    rw [hX'.2.2.2.2.2.2.2.2.2.2.2.1] at this
    exact this
  have hx := hX'.1
  have hS := hX'.2.2.2.1.1
  have hVn : nowW.2.2.V = X.now := hX'.2.2.2.2.2.2.2.2.2.2.2.1
  have hs := kg_s hS
  obtain ⟨⟨c1, c2, c3, c4, c5, c6, c7⟩, c8, c9, c10, c11, c12⟩ := kh_ok hX'.2.2.2.1.2.2 (by omega)
  obtain ⟨mc5, hl5⟩ := kg_so hS
  obtain ⟨mc6, hl6⟩ := kg_wa hS
  unfold pm_X0_soldOf
  by_cases hz : wz = 0
  · refine ka_ifP hz ?_
    have e : vq_soldOf X wz n k = (if v_in n 0 (Int32.ofNat nowW.2.2.so.length - 1) = 1 then v_sw' k [Int32.ofNat ((nowW.2.2.so.map kDp.V).getD n.toNatClampNeg (0, none, [])).bs.length, v_fine ((nowW.2.2.so.map kDp.V).getD n.toNatClampNeg (0, none, [])).bs, if wz = 0 then v_last ((nowW.2.2.so.map kDp.V).getD n.toNatClampNeg (0, none, [])) - nowW.2.2.sc 0 else 0, if wz = 0 then -6 else v_brk ((nowW.2.2.so.map kDp.V).getD n.toNatClampNeg (0, none, []))] (-2) else -1) := by
      unfold vq_soldOf
      dsimp only
      rw [if_pos hz, ← hVn, kvl_so]
    rw [e]
    refine ka_gR (v := some nowW.1) hx rfl rfl ?_
    refine ka_gR (by first | exact ka_same | assumption | exact ka_ne1 (by first | assumption | exact Ne.symm (by assumption)) (by first | exact ka_same | assumption | exact ka_ne1 (by first | assumption | exact Ne.symm (by assumption)) (by first | exact ka_same | assumption | exact ka_ne1 (by first | assumption | exact Ne.symm (by assumption)) (by first | exact ka_same | assumption | exact ka_ne1 (by first | assumption | exact Ne.symm (by assumption)) (by first | exact ka_same | assumption | exact ka_ne1 (by first | assumption | exact Ne.symm (by assumption)) (by first | exact ka_same | assumption | exact ka_ne1 (by first | assumption | exact Ne.symm (by assumption)) (by first | exact ka_same | assumption))))))) rfl rfl ?_
    exact kx_sold21 ⟨_, _, _, _, _, _, _, hx⟩ hS hl5 (fun d hd => ⟨kg_dok hS (Or.inl hd), by have := (c11 d hd).2; omega, fun z => absurd hz z⟩) (by omega) hw
  · refine ka_ifN hz ?_
    have e : vq_soldOf X wz n k = (if v_in n 0 (Int32.ofNat nowW.2.2.wa.length - 1) = 1 then v_sw' k [Int32.ofNat ((nowW.2.2.wa.map kDp.V).getD n.toNatClampNeg (0, none, [])).bs.length, v_fine ((nowW.2.2.wa.map kDp.V).getD n.toNatClampNeg (0, none, [])).bs, if wz = 0 then v_last ((nowW.2.2.wa.map kDp.V).getD n.toNatClampNeg (0, none, [])) - nowW.2.2.sc 0 else 0, if wz = 0 then -6 else v_brk ((nowW.2.2.wa.map kDp.V).getD n.toNatClampNeg (0, none, []))] (-2) else -1) := by
      unfold vq_soldOf
      dsimp only
      rw [if_neg hz, ← hVn, kvl_wa]
    rw [e]
    refine ka_gR (v := some nowW.1) hx rfl rfl ?_
    refine ka_gR (by first | exact ka_same | assumption | exact ka_ne1 (by first | assumption | exact Ne.symm (by assumption)) (by first | exact ka_same | assumption | exact ka_ne1 (by first | assumption | exact Ne.symm (by assumption)) (by first | exact ka_same | assumption | exact ka_ne1 (by first | assumption | exact Ne.symm (by assumption)) (by first | exact ka_same | assumption | exact ka_ne1 (by first | assumption | exact Ne.symm (by assumption)) (by first | exact ka_same | assumption | exact ka_ne1 (by first | assumption | exact Ne.symm (by assumption)) (by first | exact ka_same | assumption | exact ka_ne1 (by first | assumption | exact Ne.symm (by assumption)) (by first | exact ka_same | assumption))))))) rfl rfl ?_
    exact kx_sold21 ⟨_, _, _, _, _, _, _, hx⟩ hS hl6 (fun d hd => ⟨kg_dok hS (Or.inr hd), by have := (c12 d hd).2; omega, fun _ => (c12 d hd).1.1⟩) (by omega) hw
theorem kx_could {g m : Int32} (hX : kX H x dq ip cc dd X) (hcc : cc ≤ 240) (hw : 3000 ≤ w) : ka_T Z (pm_X0_could (some x) g m) w H (kx_A H w 3000 (vq_could X g m)) := by
  obtain ⟨nowW, befW, savW, rfW, lnW, fW, hX'⟩ := id hX
  have hok : v_ok cc dd X.now := by
    have := hX'.2.2.2.1.2.2
    rw [hX'.2.2.2.2.2.2.2.2.2.2.2.1] at this
    exact this
  have hx := hX'.1
  have hS := hX'.2.2.2.1.1
  have hVn : nowW.2.2.V = X.now := hX'.2.2.2.2.2.2.2.2.2.2.2.1
  have hs := kg_s hS
  obtain ⟨⟨c1, c2, c3, c4, c5, c6, c7⟩, c8, c9, c10, c11, c12⟩ := kh_ok hX'.2.2.2.1.2.2 (by omega)
  have hbox := kg_box hS
  unfold pm_X0_could vq_could
  refine ka_use kx_isPattern ?_
  by_cases h : v_pat g m = 1
  · rw [if_pos h]
    refine ka_ifP (by rw [h]; decide) ?_
    obtain ⟨a, b, rfl, rfl, h1, h2, h3, h4⟩ := v_pat_nat h
    refine ka_gR (v := some nowW.1) hx rfl rfl ?_
    refine ka_gR (by first | exact ka_same | assumption | exact ka_ne1 (by first | assumption | exact Ne.symm (by assumption)) (by first | exact ka_same | assumption | exact ka_ne1 (by first | assumption | exact Ne.symm (by assumption)) (by first | exact ka_same | assumption | exact ka_ne1 (by first | assumption | exact Ne.symm (by assumption)) (by first | exact ka_same | assumption | exact ka_ne1 (by first | assumption | exact Ne.symm (by assumption)) (by first | exact ka_same | assumption | exact ka_ne1 (by first | assumption | exact Ne.symm (by assumption)) (by first | exact ka_same | assumption | exact ka_ne1 (by first | assumption | exact Ne.symm (by assumption)) (by first | exact ka_same | assumption))))))) rfl rfl ?_
    refine ka_dB hbox.1 (ka_call (kb_many hbox.1 hbox.2 (Or.inr rfl) (by omega) (by omega)) (fun r v K hp => ?_))
    obtain ⟨rfl, hv, rfl⟩ := hp
    refine ka_div (fun z => by have := (k3_eq (a := a) (b := 0) (by omega) (by omega)).mp z; omega) ?_
    refine ka_gR (v := some nowW.1) hx rfl rfl ?_
    refine ka_gR (by first | exact ka_same | assumption | exact ka_ne1 (by first | assumption | exact Ne.symm (by assumption)) (by first | exact ka_same | assumption | exact ka_ne1 (by first | assumption | exact Ne.symm (by assumption)) (by first | exact ka_same | assumption | exact ka_ne1 (by first | assumption | exact Ne.symm (by assumption)) (by first | exact ka_same | assumption | exact ka_ne1 (by first | assumption | exact Ne.symm (by assumption)) (by first | exact ka_same | assumption | exact ka_ne1 (by first | assumption | exact Ne.symm (by assumption)) (by first | exact ka_same | assumption | exact ka_ne1 (by first | assumption | exact Ne.symm (by assumption)) (by first | exact ka_same | assumption))))))) rfl rfl ?_
    refine ka_dB hbox.1 (ka_call (kb_many hbox.1 hbox.2 (Or.inl rfl) (by omega) (by omega)) (fun r v2 K hp => ?_))
    obtain ⟨rfl, hv2, rfl⟩ := hp
    have hmul : Int32.ofNat a * Int32.ofNat b = Int32.ofNat (a * b) := (Int32.ofNat_mul ..).symm
    have hab : 1 * 1 ≤ a * b := Nat.mul_le_mul h1 h3
    have hab2 : a * b ≤ 4 * 6 := Nat.mul_le_mul h2 h4
    refine ka_div (fun z => by rw [hmul] at z; have := (k3_eq (a := a * b) (b := 0) (by omega) (by omega)).mp z; omega) (ka_pure ⟨?_, by omega, rfl⟩)
    rw [kx_bxV hVn 1, kx_bxV hVn 0, List.length_map, List.length_map]
  · rw [if_neg h]
    exact ka_ifN (fun z => h (v_pat_01.resolve_left z)) (ka_pure ⟨rfl, by omega, rfl⟩)
end KXQ
