set_option maxRecDepth 100000
/-! ===== a line is written ===== -/
theorem k3_divF : ∀ a : Fin 64, ∀ b : Fin 8, b.val ≠ 0 → Int32.ofNat a.val / Int32.ofNat b.val = Int32.ofNat (a.val / b.val) ∧ Int32.ofNat a.val - Int32.ofNat a.val / Int32.ofNat b.val * Int32.ofNat b.val = Int32.ofNat (a.val % b.val) := by decide +kernel
theorem k3_divS {a b : Nat} (ha : a < 64) (hb : b < 8) (h0 : b ≠ 0) : Int32.ofNat a / Int32.ofNat b = Int32.ofNat (a / b) ∧ Int32.ofNat a - Int32.ofNat a / Int32.ofNat b * Int32.ofNat b = Int32.ofNat (a % b) := k3_divF ⟨a, ha⟩ ⟨b, hb⟩ h0
noncomputable abbrev kx_wtail (x sb n : Nat) : km_M Int32 := if ¬ Int32.ofNat n = 0 then (km_bind (km_is 36 (some sb)) fun _ => km_bind (pm_J23_toString (some sb)) fun r2 => pb_X0_write_142 (some x) r2 (some x)) else (km_bind (km_k 15) fun r3 => pb_X0_write_142 (some x) r3 (some x))
section KXL
variable {Z : ka_Z} {w : Nat} {H : ka_H} {x dq ip cc dd : Nat} {X : vX}
theorem kx_txt {α : Type} {Q : α → Nat → ka_H → Prop} {y : km_M α} {i : Nat} {cs : List Int32} {h : Int32} (hz : kz_txt Z i cs h) (k : ∀ (G : ka_H) (a b : Nat) (y2 : Int32), Z.1 i = some a → ka_le H G → kx_str G a cs → G a = some (.inl (false, .inr (35, [.ref b, .int 0, .int h, .int y2]))) → ka_T Z y w G Q) : ka_T Z y w H Q := by
  obtain ⟨a, b, y2, g, z1, z2, z3, z4, z5, z6, z7⟩ := hz
  refine ka_const z2 (fun hA => ?_)
  refine ka_const z3 (fun hB => ?_)
  have hle : ka_le H (ka_up (ka_up H a (.inl (false, .inr (35, [.ref b, .int 0, .int h, .int y2])))) b (.inl (false, .inl (2, cs.length, .inl g)))) := ka_le_trans (ka_le_const hA) (ka_le_const hB)
  exact k _ a b y2 z1 hle ⟨false, false, b, h, y2, g, (ka_ne z4).trans ka_same, ka_same, z5, z6, z7⟩ ((ka_ne z4).trans ka_same)
theorem kb_SB_it {K : ka_H} {sb it : Nat} {cs : List Int32} {fs fs' : List Value} (hK : kb_SB H K sb cs) (hit0 : H it = none) (hit : K it = some (ka_ob 33 fs)) : kb_SB H (ka_up K it (ka_ob 33 fs')) sb cs := by
  obtain ⟨hle, hs0, b, cap, g, hb0, hsb, hb, h1⟩ := hK
  exact ⟨ka_le_mut hle hit0, hs0, b, cap, g, hb0, (ka_ne (ka_kinds hsb hit (by simp))).trans hsb, (ka_ne (ka_kinds hb hit (by simp))).trans hb, h1⟩
theorem kx_wrLoop {it sb l m n : Nat} {r : kS} {mc : Int32} {Q : Int32 → Nat → ka_H → Prop} {w0 : Nat} (hZ : kz_dig Z) (hr : H r.1 = some (kc_S r)) (hm : r.2.2.2.1 = Int32.ofNat m) (hn : r.2.2.2.2.1 = Int32.ofNat n) (hm6 : m ≤ 6) (hn4 : n ≤ 4) (hl : H l = some (ka_ls mc (r.bs.map (·.1)))) (hlen : r.bs.length ≤ 28) (hb : ∀ b ∈ r.bs, kb_bead H b ∧ v_bok b.2) (hit0 : H it = none)
    (hend : ∀ (K : ka_H) (v : Nat), kb_SB H K sb (v_write m n 0 (r.bs.map (·.2))) → w0 ≤ v → ka_T Z (kx_wtail x sb r.bs.length) v K Q) : ∀ (rest done : List kB) (K : ka_H) (fuel v : Nat) (lr : Int32) (cs : List Int32), r.bs = done ++ rest → rest.length < fuel → kb_SB H K sb cs → cs.length ≤ 3 * done.length → cs ++ v_write m n done.length (rest.map (·.2)) = v_write m n 0 (r.bs.map (·.2)) → K it = some (ka_it done.length lr mc l) → w0 + 1200 * rest.length ≤ v → ka_T Z (pb_X0_write_45 fuel (some x) (some r.1) (some sb) (Int32.ofNat done.length) (some it)) v K Q := by
  intro rest
  induction rest with
  | nil =>
    intro done K fuel v lr cs hA hf hK hcl hcs hit hv
    obtain ⟨fuel, rfl⟩ : ∃ n, fuel = n + 1 := ⟨fuel - 1, by omega⟩
    have hA1 : done.length = r.bs.length := by rw [hA, List.append_nil]
    unfold pb_X0_write_45
    refine kl_dHas hit (hK.1 _ _ hl) (by omega) (by rw [List.length_map]; omega) ?_
    rw [List.length_map, if_pos hA1]
    refine ka_ifP rfl ?_
    have e : cs = v_write m n 0 (r.bs.map (·.2)) := by
      rw [← hcs]
      simp [v_write]
    rw [e] at hK
    have := hend K v hK (by omega)
    rw [hA1]
    exact this
  | cons b t ih =>
    intro done K fuel v lr cs hA hf hK hcl hcs hit hv
    obtain ⟨fuel, rfl⟩ : ∃ n, fuel = n + 1 := ⟨fuel - 1, by omega⟩
    have hAl : r.bs.length = done.length + (t.length + 1) := by rw [hA, List.length_append]; rfl
    have hbm : b ∈ r.bs := by rw [hA]; simp
    obtain ⟨hb0, hbok1, hbok2, hbok3, hbok4⟩ := hb b hbm
    simp only [List.length_cons] at hf hv
    unfold pb_X0_write_45
    refine kl_dHas hit (hK.1 _ _ hl) (by omega) (by rw [List.length_map]; omega) ?_
    rw [List.length_map, if_neg (show ¬ done.length = r.bs.length by omega)]
    refine ka_ifN (by decide) ?_
    refine kl_dNext (v := b.1) hit (hK.1 _ _ hl) (by rw [hA]; simp) ?_
    have hK1 := kb_SB_it (fs' := [.int (Int32.ofNat (done.length + 1)), .int (Int32.ofNat done.length), .int mc, .ref l]) hK hit0 hit
    have hb1 := hK1.1 _ _ hb0
    refine ka_cast hb1 rfl rfl (ka_is hb1 rfl (ka_use (v := (if b.2.2.1 = 0 then 111 else 79)) ?_ ?_))
    · unfold pm_X16_sign
      refine ka_gI hb1 rfl rfl (ka_ite (fun h => ?_) (fun h => ?_))
      · exact ka_ret rfl (ka_pure ⟨by rw [if_pos h], rfl, rfl⟩)
      · exact ka_ret rfl (ka_pure ⟨by rw [if_neg h], rfl, rfl⟩)
    have hsbc : ∀ {G : ka_H} {us : List Int32}, kb_SB H G sb us → ∃ o, G sb = some o ∧ ka_cls o = some 36 := by
      intro G us hG
      obtain ⟨-, -, b9, cap, g, -, hsb, -⟩ := hG
      exact ⟨_, hsb, rfl⟩
    obtain ⟨o1, ho1, hoc1⟩ := hsbc hK1
    refine ka_is ho1 hoc1 (ka_call (kb_append hK1 (by omega) (by split <;> decide) (by split <;> decide) (by omega)) (fun r' v2 K2 hp => ?_))
    obtain ⟨rfl, hv2, hk2, hK2⟩ := hp
    have hit2 := hk2 it _ ka_same rfl
    have hb2 := hK2.1 _ _ hb0
    refine ka_gI hb2 rfl rfl ?_
    have hf0 : 0 ≤ b.2.2.2 := Int32.le_trans (by decide) hbok3
    obtain ⟨f, hf10, hfe⟩ : ∃ f : Nat, f < 10 ∧ b.2.2.2 = Int32.ofNat f := by
      refine ⟨b.2.2.2.toNatClampNeg, ?_, kv_neg hf0⟩
      have h9 := hbok4
      rw [kv_neg hf0] at h9
      have hlt : b.2.2.2.toNatClampNeg < 2 ^ 31 := Int32.toNatClampNeg_lt _
      have := (k3_le (b := 9) (by omega) (by decide)).mp h9
      omega
    rw [hfe]
    obtain ⟨o2, ho2, hoc2⟩ := hsbc hK2
    refine ka_is ho2 hoc2 (ka_call (kb_appendI hZ hK2 (by rw [List.length_append]; simp only [List.length_cons, List.length_nil]; omega) hf10 (by omega)) (fun r' v3 K3 hp => ?_))
    obtain ⟨rfl, hv3, hk3, hK3⟩ := hp
    have hit3 := hk3 it _ hit2 rfl
    have hr3 := hK3.1 _ _ hr
    refine ka_gI (v := Int32.ofNat m) hr3 rfl (by rw [← hm]; rfl) ?_
    rw [k3_succ, k3_succ]
    obtain ⟨e1, e2⟩ := k3_divS (a := done.length + 1) (b := m + 1) (by omega) (by omega) (by omega)
    refine ka_rem (fun z => by have := (k3_eq (a := m + 1) (b := 0) (by omega) (by omega)).mp z; omega) ?_
    rw [e2]
    have hcs3 : cs ++ [if b.2.2.1 = 0 then (111 : Int32) else 79] ++ [48 + Int32.ofNat f] = cs ++ [if b.2.2.1 = 0 then (111 : Int32) else 79, 48 + b.2.2.2] := by rw [hfe, List.append_assoc]; rfl
    rw [hcs3] at hK3
    have hno : ∀ v4, v ≤ v4 + 1200 → ¬ ((done.length + 1) % (m + 1) = 0 ∧ (done.length + 1) / (m + 1) ≤ n) → ka_T Z (pb_X0_write_45 fuel (some x) (some r.1) (some sb) (Int32.ofNat (done.length + 1)) (some it)) v4 K3 Q := by
      intro v4 hv4 hnot
      have h2 := ih (done ++ [b]) K3 fuel v4 (Int32.ofNat done.length) _ (by rw [hA]; simp) (by omega) hK3 (by rw [List.length_append, List.length_append]; simp only [List.length_cons, List.length_nil]; omega) ?_ (by rw [List.length_append]; exact hit3) (by omega)
      · rw [List.length_append] at h2
        exact h2
      · rw [← hcs, List.map_cons, v_write, if_neg hnot, List.length_append, List.append_assoc]
        rfl
    by_cases h1 : (done.length + 1) % (m + 1) = 0
    · refine ka_ifN (fun z => z (by rw [h1]; rfl)) ?_
      refine ka_gI (v := Int32.ofNat m) hr3 rfl (by rw [← hm]; rfl) ?_
      rw [k3_succ]
      refine ka_div (fun z => by have := (k3_eq (a := m + 1) (b := 0) (by omega) (by omega)).mp z; omega) ?_
      rw [e1]
      refine ka_gI (v := Int32.ofNat n) hr3 rfl (by rw [← hn]; rfl) ?_
      have hdiv : (done.length + 1) / (m + 1) ≤ done.length + 1 := Nat.div_le_self _ _
      by_cases h2 : n < (done.length + 1) / (m + 1)
      · exact ka_ifP ((k3_lt (by omega) (by omega)).mpr h2) (hno v3 (by omega) (fun z => by omega))
      · refine ka_ifN (fun z => h2 ((k3_lt (by omega) (by omega)).mp z)) ?_
        obtain ⟨o3, ho3, hoc3⟩ := hsbc hK3
        refine ka_is ho3 hoc3 (ka_call (kb_append hK3 (by rw [List.length_append]; simp only [List.length_cons, List.length_nil]; omega) (by decide) (by decide) (by omega)) (fun r' v4 K4 hp => ?_))
        obtain ⟨rfl, hv4, hk4, hK4⟩ := hp
        have hit4 := hk4 it _ hit3 rfl
        have h3 := ih (done ++ [b]) K4 fuel v4 (Int32.ofNat done.length) _ (by rw [hA]; simp) (by omega) hK4 (by rw [List.length_append, List.length_append, List.length_append]; simp only [List.length_cons, List.length_nil]; omega) ?_ (by rw [List.length_append]; exact hit4) (by omega)
        · rw [List.length_append] at h3
          exact h3
        · rw [← hcs, List.map_cons, v_write, if_pos (show (done.length + 1) % (m + 1) = 0 ∧ (done.length + 1) / (m + 1) ≤ n from ⟨h1, by omega⟩), List.length_append, List.append_assoc, List.append_assoc]
          rfl
    · refine ka_ifP (fun z => h1 (by have := (k3_eq (b := 0) (by have := Nat.mod_lt (done.length + 1) (show 0 < m + 1 by omega); omega) (by omega)).mp z; exact this)) (hno v3 (by omega) (fun z => h1 z.1))
theorem kx_write {n : Int32} (hZ : kz_dig Z) (hT : ∃ h, kz_txt Z 15 v_empty h) (hX : kX H x dq ip cc dd X) (hcc : cc ≤ 240) (hw : 40000 ≤ w) : ka_T Z (pm_X0_write (some x) n) w H (kx_Q H x dq ip cc dd w 40000 (vx_write X n).1 (vx_write X n).2) := by
  obtain ⟨nowW, befW, savW, rfW, lnW, fW, hX'⟩ := id hX
  have hok : v_ok cc dd X.now := by
    have := hX'.2.2.2.1.2.2
    rw [hX'.2.2.2.2.2.2.2.2.2.2.2.1] at this
    exact this
  have hx := hX'.1
  have hS := hX'.2.2.2.1.1
  have hVn : nowW.2.2.V = X.now := hX'.2.2.2.2.2.2.2.2.2.2.2.1
  have hs := kg_s hS
  obtain ⟨⟨c1, c2, c3, c4, c5, c6, c7⟩, c8, c9, c10, c11, c12⟩ := kh_ok hX'.2.2.2.1.2.2 (by omega)
  unfold pm_X0_write
  refine ka_gR (v := some nowW.1) hx rfl rfl ?_
  refine ka_is hs rfl (ka_use (kx_isString hS) ?_)
  have hlen : nowW.2.2.st.length = X.now.st.length := by rw [← hVn, kvl_st]
  rw [hlen]
  by_cases h : vx_isS X n = 1
  · refine ka_ifP (by rw [show v_in n 0 (Int32.ofNat X.now.st.length - 1) = 1 from h]; decide) ?_
    obtain ⟨i, rfl, hi⟩ := v_in_idx (by have := hok.2.2.1.2.2.1; omega) h
    have e0 : vx_write X (Int32.ofNat i) = (Int32.ofNat (v_line (X.now.st.getD i (0, 0, 0, []))).length, X.now, X.bef, X.sav, X.rf, v_line (X.now.st.getD i (0, 0, 0, [])), X.inp, X.fault) := by
      unfold vx_write
      rw [if_pos h, k3_nat (by have := hok.2.2.1.2.2.1; omega)]
    rw [e0]
    refine ka_gR (v := some nowW.1) hx rfl rfl ?_
    obtain ⟨mc, hls⟩ := kg_st hS
    have hi2 : i < nowW.2.2.st.length := by rw [hlen]; exact hi
    obtain ⟨r, hci⟩ : ∃ r, nowW.2.2.st[i]? = some r := ⟨_, List.getElem?_eq_getElem hi2⟩
    have hm := List.mem_of_getElem? hci
    obtain ⟨w0, hw0⟩ : ∃ w0, w = w0 + 35000 := ⟨w - 35000, by omega⟩
    have hc0 := kg_r hS hm
    have hL := kg_rs hS hm
    have hbl := c8 _ hm
    have hcV : X.now.st.getD i (0, 0, 0, []) = r.V := by rw [← hVn]; exact kvg_st hci
    obtain ⟨g, m, k, hsk⟩ := hok.2.2.2.2.1 _ (by rw [← hVn]; exact List.mem_map_of_mem (f := kS.V) hm)
    rw [hcV]
    have hs2 : r.2.2.2.1 = Int32.ofNat m := hsk.2.1
    have hs3 : r.2.2.2.2.1 = Int32.ofNat k := hsk.2.2.1
    have hm6 := hsk.2.2.2.2.2.2.1
    have hk4 : k ≤ 4 := Nat.le_trans hsk.2.2.2.2.2.2.2.1 hsk.2.2.2.2.1
    refine ka_gR (by first | exact ka_same | assumption | exact ka_ne1 (by first | assumption | exact Ne.symm (by assumption)) (by first | exact ka_same | assumption | exact ka_ne1 (by first | assumption | exact Ne.symm (by assumption)) (by first | exact ka_same | assumption | exact ka_ne1 (by first | assumption | exact Ne.symm (by assumption)) (by first | exact ka_same | assumption | exact ka_ne1 (by first | assumption | exact Ne.symm (by assumption)) (by first | exact ka_same | assumption | exact ka_ne1 (by first | assumption | exact Ne.symm (by assumption)) (by first | exact ka_same | assumption | exact ka_ne1 (by first | assumption | exact Ne.symm (by assumption)) (by first | exact ka_same | assumption))))))) rfl rfl ?_
    refine ka_is hls rfl (ka_use (kl_get (v := r.1) hls (by rw [List.getElem?_map, hci]; rfl)) ?_)
    refine ka_cast hc0 rfl rfl ?_
    refine ka_new (by omega) (fun sb hsb => ?_)
    refine ka_nn (ka_call (kb_initSB hsb (by omega)) (fun _ v K hp => ?_))
    obtain ⟨rfl, hK, -⟩ := hp
    obtain ⟨⟨ml, hl0⟩, hbb⟩ := hL.2
    have hr1 := hK.1 _ _ hc0
    have hl1 := hK.1 _ _ hl0
    refine ka_is hr1 rfl (ka_call (P := fun ri w' H' => ∃ it, ri = some it ∧ K it = none ∧ w' = w - 9 - 21 - 9 ∧ H' = ka_up K it (ka_it 0 (-1) ml r.2.1)) ?_ (fun ri v4 K4 hq => ?_))
    · unfold pm_X2_iterator
      refine ka_gB ⟨7, _, hr1, Or.inr (Or.inl rfl)⟩ (ka_is hl1 rfl (ka_call (kl_iterator hl1 (by omega)) (fun ri w' H' hp => ?_)))
      obtain ⟨it, rfl, hit, rfl, rfl⟩ := hp
      exact ka_pure ⟨it, rfl, hit, rfl, rfl⟩
    · obtain ⟨it, rfl, hit, rfl, rfl⟩ := hq
      have hit0 := kb_fresh2 hK.1 hit
      have hK2 : kb_SB H (ka_up K it (ka_it 0 (-1) ml r.2.1)) sb [] := by
        obtain ⟨q1, q2, b9, cap, g9, q3, q4, q5, q6⟩ := hK
        exact ⟨ka_le_mut q1 hit0, q2, b9, cap, g9, q3, (ka_ne (ka_dom q4 hit)).trans q4, (ka_ne (ka_dom q5 hit)).trans q5, q6⟩
      have hxdq : x ≠ dq := ka_kinds hx hX'.2.1 (by simp)
      have hxip : x ≠ ip := ka_kinds hx hX'.2.2.2.2.2.2.1 (by simp)
      obtain ⟨a1, a2, a3, a4, a5, a6, a7, a8, a9, a10, a11, a12, a13, a14⟩ := hX'
      have hfin : ∀ (G : ka_H) (v a : Nat) (cs : List Int32), ka_le H G → kx_str G a cs → cs = v_line r.V → w ≤ v + 40000 → ka_T Z (pb_X0_write_142 (some x) (some a) (some x)) v G (kx_Q H x dq ip cc dd w 40000 (Int32.ofNat (v_line r.V).length) (X.now, X.bef, X.sav, X.rf, v_line r.V, X.inp, X.fault)) := by
        intro G v a cs hle hstr hcs hv
        have hx1 := hle _ _ a1
        unfold pb_X0_write_142
        refine ka_pR (v := some a) hx1 rfl (Nat.le_of_ble_eq_true rfl) ?_
        have him : ka_im G (ka_up G x (kx_ob nowW.1 (savW.map (·.1)) dq rfW a ip (Int32.ofNat X.inp.length) X.fault)) := ka_im_up hx1 rfl
        have hstr2 := kx_str_im hstr him
        have him0 := ka_im_trans (ka_im_le hle) him
        refine ka_gR (v := some a) ka_same rfl rfl ?_
        have hcls : ∃ o, ka_up G x (kx_ob nowW.1 (savW.map (·.1)) dq rfW a ip (Int32.ofNat X.inp.length) X.fault) a = some o ∧ ka_cls o = some 35 := by
          obtain ⟨fl, fl2, b, y, z, g, h1, h2, h3, h4, h5⟩ := hstr2
          exact ⟨_, h1, rfl⟩
        obtain ⟨o, ho, hoc⟩ := hcls
        refine ka_is ho hoc (ka_use (kx_strlen hstr2) (ka_pure ⟨hv, by rw [hcs], kx_kp_trans (kx_kp_le hle) kx_kp_x, nowW, befW, savW, rfW, a, fW, ka_same, (ka_ne hxdq.symm).trans (hle _ _ a2), a3, kW_ok_im a4 him0, fun W hW => kW_ok_im (a5 W hW) him0, fun W hW => kW_ok_im (a6 W hW) him0, (ka_ne hxip.symm).trans (hle _ _ a7), a8, a9, kx_rf_im a10 him0, ?_, a12, a13, a14⟩))
        rw [hcs] at hstr2
        exact hstr2
      refine kx_wrLoop (w0 := w0) (l := r.2.1) (m := m) (n := k) hZ hc0 hs2 hs3 hm6 hk4 hl0 hbl (fun b hb => ⟨hbb b hb, hok.2.2.2.1 _ (by rw [← hVn]; exact v_all_st (V := nowW.2.2.V) (b := b.2) (List.mem_map_of_mem (f := kS.V) hm) (List.mem_map_of_mem (f := fun b : kB => b.2) hb))⟩) hit0 (fun K5 v hK5 hv => ?_) r.bs [] _ km_fuel _ (-1) [] rfl (by unfold km_fuel; omega) hK2 (Nat.zero_le _) rfl ka_same (by omega)
      have hlin : r.bs ≠ [] → v_write m k 0 (r.bs.map (·.2)) = v_line r.V := by
        intro hne
        unfold v_line
        rw [if_neg (show ¬ r.V.bs = [] by show ¬ r.bs.map (fun b : kB => b.2) = []; simpa using hne), hsk.2.1, hsk.2.2.1, k3_nat (by omega), k3_nat (by omega)]
      have hwl : ∀ (bs : List vB) (k' : Nat), (v_write m k k' bs).length ≤ 3 * bs.length := by
        intro bs
        induction bs with
        | nil => intro k'; exact Nat.le_refl _
        | cons b t ih =>
          intro k'
          rw [v_write, List.length_append, List.length_append]
          have := ih (k' + 1)
          have h9 : (if (k' + 1) % (m + 1) = 0 ∧ (k' + 1) / (m + 1) ≤ k then [(43 : Int32)] else []).length ≤ 1 := by split <;> simp
          simp only [List.length_cons, List.length_nil]
          omega
      by_cases hne : r.bs = []
      · refine ka_ifN (fun z => z (by rw [hne]; rfl)) (ka_k ?_)
        obtain ⟨hh, hT⟩ := hT
        refine kx_txt hT (fun G a b9 y9 z1 hle9 hstr _ => ?_)
        rw [z1]
        refine hfin G v a v_empty (ka_le_trans hK5.1 hle9) hstr ?_ (by omega)
        unfold v_line
        rw [if_pos (show r.V.bs = [] by show r.bs.map (fun b : kB => b.2) = []; rw [hne]; rfl)]
      · have hpos : 0 < r.bs.length := List.length_pos_iff.mpr hne
        refine ka_ifP (fun z => by have := (k3_eq (b := 0) (by omega) (by omega)).mp z; omega) ?_
        have hsbc : ∃ o, K5 sb = some o ∧ ka_cls o = some 36 := by
          obtain ⟨-, -, b9, cap, g, -, hsb, -⟩ := hK5
          exact ⟨_, hsb, rfl⟩
        obtain ⟨o, ho, hoc⟩ := hsbc
        have hll := hwl (r.bs.map (·.2)) 0
        rw [List.length_map] at hll
        refine ka_is ho hoc (ka_call (kb_toString hK5 (by omega) (by omega)) (fun ri v6 K6 hp => ?_))
        obtain ⟨a, rfl, hv6, hle6, hstr⟩ := hp
        exact hfin K6 v6 a _ (ka_le_trans hK5.1 hle6) hstr (hlin hne) (by omega)
  · have e0 : vx_write X n = (-1, X) := by
      unfold vx_write
      rw [if_neg h]
    rw [e0]
    exact ka_ifN (by rw [show v_in n 0 (Int32.ofNat X.now.st.length - 1) = 0 from v_in_no h]; simp) (ka_pure (kx_same hX (by omega)))
end KXL
