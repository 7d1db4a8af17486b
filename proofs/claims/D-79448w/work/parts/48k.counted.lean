set_option maxRecDepth 100000
/-! ===== isCounted ===== -/
section KXC
variable {Z : ka_Z} {w : Nat} {H : ka_H} {x dq ip cc dd : Nat} {X : vX}
theorem ko_setA {l : Nat} {n : Int32} {f : Nat → Bool} (hb : H l = some (ka_bs f)) (hn : 0 ≤ n) (hn2 : n.toNatClampNeg < 256) (hw : 20 ≤ w) : ka_T Z (pm_J3_set (some l) n) w H (fun _ w' H' => w ≤ w' + 20 ∧ H' = ka_up H l (ka_bs (kn_add f n.toNatClampNeg))) := by
  have h := kn_set (Z := Z) (w := w) (H := H) (l := l) (k := n.toNatClampNeg) (f := f) hb hn2 hw
  rw [← kv_neg hn] at h
  exact h
/-- an entry: its address, that of its list, its beads -/
abbrev kE : Type := Nat × Nat × List kB
def kE_ok (H : ka_H) (e : kE) : Prop := kb_B H e.1 e.2.1 ∧ kb_L H e.2.1 e.2.2 ∧ e.2.2.length ≤ 240 ∧ ∀ b ∈ e.2.2, 0 ≤ b.2.1 ∧ b.2.1.toNatClampNeg < 256
/-- the beads of one entry -/
theorem kx_markLoop2 {met it it2 lr : Nat} {bs : List kB} {mc2 : Int32} {oit : ka_O} {k9 : Option Nat → Int32 → Option Nat → km_M Int32} {Q : Int32 → Nat → ka_H → Prop} {w0 : Nat} {f0 : Nat → Bool} {n0 : Nat} (hl2 : H lr = some (ka_ls mc2 (bs.map (·.1)))) (hlen : bs.length ≤ 240) (hb : ∀ b ∈ bs, kb_bead H b ∧ 0 ≤ b.2.1 ∧ b.2.1.toNatClampNeg < 256) (hm0 : H met = none) (hit20 : H it2 = none) (hne : it ≠ it2) (hoit : ∃ fs, oit = ka_ob 33 fs)
    (hend : ∀ (K : ka_H) (v : Nat), ka_le H K → K met = some (ka_bs (v_adds f0 (bs.map (·.2)))) → K it = some oit → w0 ≤ v → ka_T Z (k9 (some met) (Int32.ofNat (n0 + bs.length)) (some it)) v K Q) : ∀ (rest done : List kB) (K : ka_H) (fuel v : Nat) (lr2 : Int32) (f : Nat → Bool), bs = done ++ rest → rest.length < fuel → ka_le H K → K met = some (ka_bs f) → v_adds f (rest.map (·.2)) = v_adds f0 (bs.map (·.2)) → K it = some oit → K it2 = some (ka_it done.length lr2 mc2 lr) → w0 + 20 * rest.length ≤ v → ka_T Z (pb_X0_marks_36 k9 fuel (some met) (Int32.ofNat (n0 + done.length)) (some it) (some it2)) v K Q := by
  intro rest
  induction rest with
  | nil =>
    intro done K fuel v lr2 f hA hf hle hmet hfe hit hit2 hv
    obtain ⟨fuel, rfl⟩ : ∃ n, fuel = n + 1 := ⟨fuel - 1, by omega⟩
    have hA1 : done.length = bs.length := by rw [hA, List.append_nil]
    unfold pb_X0_marks_36
    refine kl_dHas hit2 (hle _ _ hl2) (by omega) (by rw [List.length_map]; omega) ?_
    rw [List.length_map, if_pos hA1]
    refine ka_ifP rfl ?_
    rw [hA1]
    exact hend K v hle (by rw [hmet, ← hfe]; rfl) hit (by omega)
  | cons b t ih =>
    intro done K fuel v lr2 f hA hf hle hmet hfe hit hit2 hv
    obtain ⟨fuel, rfl⟩ : ∃ n, fuel = n + 1 := ⟨fuel - 1, by omega⟩
    have hAl : bs.length = done.length + (t.length + 1) := by rw [hA, List.length_append]; rfl
    obtain ⟨hb0, hb1, hb2⟩ := hb b (by rw [hA]; simp)
    simp only [List.length_cons] at hf hv
    unfold pb_X0_marks_36
    refine kl_dHas hit2 (hle _ _ hl2) (by omega) (by rw [List.length_map]; omega) ?_
    rw [List.length_map, if_neg (show ¬ done.length = bs.length by omega)]
    refine ka_ifN (by decide) ?_
    refine kl_dNext (v := b.1) hit2 (hle _ _ hl2) (by rw [hA]; simp) ?_
    have hle1 : ka_le H (ka_up K it2 (ka_it (done.length + 1) (Int32.ofNat done.length) mc2 lr)) := ka_le_mut hle hit20
    have hm1 : ka_up K it2 (ka_it (done.length + 1) (Int32.ofNat done.length) mc2 lr) met = some (ka_bs f) := (ka_ne (ka_kinds hmet hit2 (by simp))).trans hmet
    have hbb := hle1 _ _ hb0
    refine ka_cast hbb rfl rfl (ka_gI hbb rfl rfl (ka_is hm1 rfl (ka_call (ko_setA hm1 hb1 hb2 (by omega)) (fun _ v2 K2 hp => ?_))))
    obtain ⟨hv2, rfl⟩ := hp
    obtain ⟨fs, rfl⟩ := hoit
    have e1 : it ≠ met := ka_kinds hit hmet (by simp)
    have e2 : it2 ≠ met := ka_kinds hit2 hmet (by simp)
    rw [k3_succ]
    have h2 := ih (done ++ [b]) _ fuel v2 (Int32.ofNat done.length) (kn_add f b.2.1.toNatClampNeg) (by rw [hA]; simp) (by omega) (ka_le_mut hle1 hm0) ka_same (by rw [← hfe, List.map_cons, v_adds]) ((ka_ne e1).trans ((ka_ne hne).trans hit)) (by rw [List.length_append]; exact (ka_ne e2).trans ka_same) (by omega)
    rw [List.length_append] at h2
    exact h2
theorem kx_marksLoop {met it l : Nat} {es : List kE} {mc : Int32} (hl : H l = some (ka_ls mc (es.map (·.1)))) (hes : ∀ e ∈ es, kE_ok H e) (hlen : es.length ≤ 240) (hm0 : H met = none) (hit0 : H it = none) : ∀ (rest done : List kE) (K : ka_H) (fuel v n : Nat) (lr : Int32) (f : Nat → Bool), es = done ++ rest → rest.length < fuel → ka_le H K → K met = some (ka_bs f) → K it = some (ka_it done.length lr mc l) → 20 * (rest.flatMap (·.2.2)).length + 9 * rest.length ≤ v → ka_T Z (pb_X0_marks_9 fuel (some met) (Int32.ofNat n) (some it)) v K (fun r w' K' => r = Int32.ofNat (n + (rest.flatMap (·.2.2)).length) ∧ v ≤ w' + (20 * (rest.flatMap (·.2.2)).length + 9 * rest.length) ∧ ka_le H K' ∧ K' met = some (ka_bs (v_adds f ((rest.flatMap (·.2.2)).map (·.2))))) := by
  intro rest
  induction rest with
  | nil =>
    intro done K fuel v n lr f hA hf hle hmet hit hv
    obtain ⟨fuel, rfl⟩ : ∃ n, fuel = n + 1 := ⟨fuel - 1, by omega⟩
    have hA1 : done.length = es.length := by rw [hA, List.append_nil]
    unfold pb_X0_marks_9
    refine kl_dHas hit (hle _ _ hl) (by omega) (by rw [List.length_map]; omega) ?_
    rw [List.length_map, if_pos hA1]
    exact ka_ifP rfl (ka_pure ⟨rfl, Nat.le_add_right _ _, hle, hmet⟩)
  | cons e t ih =>
    intro done K fuel v n lr f hA hf hle hmet hit hv
    obtain ⟨fuel, rfl⟩ : ∃ n, fuel = n + 1 := ⟨fuel - 1, by omega⟩
    have hAl : es.length = done.length + (t.length + 1) := by rw [hA, List.length_append]; rfl
    obtain ⟨⟨c, fs, hB1, hB2⟩, hL, hel, hen⟩ := hes e (by rw [hA]; simp)
    rw [List.flatMap_cons, List.length_append] at hv
    simp only [List.length_cons] at hf hv
    unfold pb_X0_marks_9
    refine kl_dHas hit (hle _ _ hl) (by omega) (by rw [List.length_map]; omega) ?_
    rw [List.length_map, if_neg (show ¬ done.length = es.length by omega)]
    refine ka_ifN (by decide) ?_
    refine kl_dNext (v := e.1) hit (hle _ _ hl) (by rw [hA]; simp) ?_
    have hle1 : ka_le H (ka_up K it (ka_it (done.length + 1) (Int32.ofNat done.length) mc l)) := ka_le_mut hle hit0
    have hm1 : ka_up K it (ka_it (done.length + 1) (Int32.ofNat done.length) mc l) met = some (ka_bs f) := (ka_ne (ka_kinds hmet hit (by simp))).trans hmet
    have hB : kb_B (ka_up K it (ka_it (done.length + 1) (Int32.ofNat done.length) mc l)) e.1 e.2.1 := ⟨c, fs, hle1 _ _ hB1, hB2⟩
    obtain ⟨⟨ml, hl0⟩, hbb⟩ := hL
    have hl1 := hle1 _ _ hl0
    refine ka_cast (hle1 _ _ hB1) rfl (by rcases hB2 with e | e | e <;> subst e <;> rfl) (ka_dB hB (ka_call (P := fun r w' H' => ∃ it2, r = some it2 ∧ ka_up K it (ka_it (done.length + 1) (Int32.ofNat done.length) mc l) it2 = none ∧ w' = v - 9 ∧ H' = ka_up (ka_up K it (ka_it (done.length + 1) (Int32.ofNat done.length) mc l)) it2 (ka_it 0 (-1) ml e.2.1)) ?_ (fun r v2 K2 hp => ?_)))
    · unfold pm_X2_iterator
      refine ka_gB hB (ka_is hl1 rfl (ka_call (kl_iterator hl1 (by omega)) (fun r w' H' hp => ?_)))
      obtain ⟨it2, rfl, hit2, rfl, rfl⟩ := hp
      exact ka_pure ⟨it2, rfl, hit2, rfl, rfl⟩
    · obtain ⟨it2, rfl, hit2, rfl, rfl⟩ := hp
      have hit20 := kb_fresh2 hle1 hit2
      have hne : it ≠ it2 := fun z => by rw [← z, ka_same] at hit2; cases hit2
      have h9 := kx_markLoop2 (Z := Z) (H := H) (met := met) (it := it) (it2 := it2) (lr := e.2.1) (bs := e.2.2) (mc2 := ml) (oit := ka_it (done.length + 1) (Int32.ofNat done.length) mc l) (k9 := pb_X0_marks_9 fuel) (Q := fun r w' K' => r = Int32.ofNat (n + ((e :: t).flatMap (·.2.2)).length) ∧ v ≤ w' + (20 * ((e :: t).flatMap (·.2.2)).length + 9 * (e :: t).length) ∧ ka_le H K' ∧ K' met = some (ka_bs (v_adds f (((e :: t).flatMap (·.2.2)).map (·.2))))) (w0 := v - 9 - 20 * e.2.2.length) (f0 := f) (n0 := n) hl0 hel (fun b hb => ⟨hbb b hb, hen b hb⟩) hm0 hit20 hne ⟨_, rfl⟩ (fun K3 v3 hle3 hm3 hit3 hv3 => ?_) e.2.2 [] _ km_fuel (v - 9) (-1) f rfl (by unfold km_fuel; omega) (ka_le_mut hle1 hit20) ((ka_ne (ka_dom hm1 hit2)).trans hm1) rfl ((ka_ne hne).trans ka_same) ka_same (by omega)
      · exact h9
      · have h8 := ih (done ++ [e]) K3 fuel v3 (n + e.2.2.length) (Int32.ofNat done.length) _ (by rw [hA]; simp) (by omega) hle3 hm3 (by rw [List.length_append]; exact hit3) (by omega)
        refine ka_post h8 (fun r w' K' hp => ?_)
        obtain ⟨g1, g2, g3, g4⟩ := hp
        refine ⟨?_, ?_, g3, ?_⟩
        · rw [g1, List.flatMap_cons, List.length_append, Nat.add_assoc]
        · rw [List.flatMap_cons, List.length_append]
          simp only [List.length_cons]
          omega
        · rw [g4, List.flatMap_cons, List.map_append]
          have e9 : ∀ (us vs : List vB) (f : Nat → Bool), v_adds f (us ++ vs) = v_adds (v_adds f us) vs := by
            intro us
            induction us with
            | nil => intro vs f; rfl
            | cons u us ih => intro vs f; exact ih vs _
          rw [e9]
theorem kx_marks {met l : Nat} {es : List kE} {mc : Int32} {K : ka_H} {f : Nat → Bool} {us : List vB} {n : Nat} (hl : H l = some (ka_ls mc (es.map (·.1)))) (hes : ∀ e ∈ es, kE_ok H e) (hu : (es.flatMap (·.2.2)).map (·.2) = us) (hn : es.length = n) (hlen : n ≤ 240) (hm0 : H met = none) (hle : ka_le H K) (hmet : K met = some (ka_bs f)) (hw : 20 * us.length + 9 * n + 9 ≤ w) : ka_T Z (pm_X0_marks (some met) (some l)) w K (fun r w' K' => r = Int32.ofNat us.length ∧ w ≤ w' + (20 * us.length + 9 * n + 9) ∧ ka_le H K' ∧ K' met = some (ka_bs (v_adds f us))) := by
  subst hu
  subst hn
  rw [List.length_map] at hw ⊢
  have hlK := hle _ _ hl
  unfold pm_X0_marks
  refine ka_disp hlK rfl (ka_call (x := pm_J2_iterator (some l)) (kl_iterator hlK (by omega)) (fun r v K2 hp => ?_))
  obtain ⟨it, rfl, hit, rfl, rfl⟩ := hp
  have hit0 := kb_fresh2 hle hit
  have h := kx_marksLoop (Z := Z) hl hes hlen hm0 hit0 es [] _ km_fuel (w - 9) 0 (-1) f rfl (by unfold km_fuel; omega) (ka_le_mut hle hit0) ((ka_ne (ka_dom hmet hit)).trans hmet) ka_same (by omega)
  refine ka_post h (fun r w' K' hp => ?_)
  obtain ⟨g1, g2, g3, g4⟩ := hp
  exact ⟨by rw [g1, Nat.zero_add], by omega, g3, g4⟩
theorem kx_cntLoop {met it l : Nat} {bs : List kB} {mc : Int32} {s : Nat} {ad : Nat → Nat} {A : kAp} {f0 : Nat → Bool} {n0 : Nat} (hx : ∃ sv dq rf ln ip fed fa, H x = some (kx_ob s sv dq rf ln ip fed fa)) (hS : kc_shop H s ad A) (hl : H l = some (ka_ls mc (bs.map (·.1)))) (hlen : bs.length ≤ 240) (hb : ∀ b ∈ bs, kb_bead H b ∧ 0 ≤ b.2.1 ∧ b.2.1.toNatClampNeg < 256) (hm0 : H met = none) (hit0 : H it = none)
    (hend1 : Int32.ofNat (n0 + bs.length) + A.sc 7 + A.sc 8 = A.sc 2) (hend2 : Int32.ofNat (kp_c (fun i => v_adds f0 (bs.map (·.2)) i || A.aw i) 0 256) = A.sc 2) (hend3 : Int32.ofNat (kp_c A.aw 0 256) = A.sc 7 + A.sc 8) : ∀ (rest done : List kB) (K : ka_H) (fuel v : Nat) (lr2 : Int32) (f : Nat → Bool), bs = done ++ rest → rest.length < fuel → ka_le H K → K met = some (ka_bs f) → v_adds f (rest.map (·.2)) = v_adds f0 (bs.map (·.2)) → K it = some (ka_it done.length lr2 mc l) → 20 * rest.length + 20 ≤ v → ka_T Z (pb_X0_isCounted_55 fuel (some x) (some met) (Int32.ofNat (n0 + done.length)) (some it)) v K (fun r w' K' => r = 1 ∧ v ≤ w' + (20 * rest.length + 20) ∧ ka_le H K') := by
  obtain ⟨sv, dq, rf, ln, ip, fed, fa, hx⟩ := hx
  have hs := kg_s hS
  intro rest
  induction rest with
  | nil =>
    intro done K fuel v lr2 f hA hf hle hmet hfe hit hv
    obtain ⟨fuel, rfl⟩ : ∃ n, fuel = n + 1 := ⟨fuel - 1, by omega⟩
    have hA1 : done.length = bs.length := by rw [hA, List.append_nil]
    have hfe2 : f = v_adds f0 (bs.map (·.2)) := hfe
    unfold pb_X0_isCounted_55
    refine kl_dHas hit (hle _ _ hl) (by omega) (by rw [List.length_map]; omega) ?_
    rw [List.length_map, if_pos hA1]
    have haw := hle _ _ hS.2.2.1
    have hxK := hle _ _ hx
    have hsK := hle _ _ hs
    have hne : met ≠ ad 7 := fun z => by rw [z, hS.2.2.1] at hm0; cases hm0
    refine ka_ifP rfl (ka_gR (v := some s) hxK rfl rfl (ka_gR (v := some (ad 7)) hsK rfl rfl (ka_is hmet rfl (ka_call (kn_or hmet haw hne (by omega)) (fun _ v2 K2 hp => ?_)))))
    obtain ⟨hv2, rfl⟩ := hp
    have hle2 : ka_le H (ka_up K met (ka_bs (fun i => f i || A.aw i))) := ka_le_mut hle hm0
    have hx2 := hle2 _ _ hx
    have hs2 := hle2 _ _ hs
    have haw2 := hle2 _ _ hS.2.2.1
    refine ka_gR (v := some s) hx2 rfl rfl (ka_gI hs2 rfl rfl (ka_gR (v := some s) hx2 rfl rfl (ka_gI hs2 rfl rfl (ka_gR (v := some s) hx2 rfl rfl (ka_gI hs2 rfl rfl ?_)))))
    refine ka_ifN (fun z => z (by rw [hA1]; exact hend1)) ?_
    refine ka_is ka_same rfl (ka_use (kp_card ka_same) ?_)
    refine ka_gR (v := some s) hx2 rfl rfl (ka_gI hs2 rfl rfl ?_)
    refine ka_ifN (fun z => z (by rw [hfe2]; exact hend2)) ?_
    refine ka_gR (v := some s) hx2 rfl rfl (ka_gR (v := some (ad 7)) hs2 rfl rfl (ka_is haw2 rfl (ka_use (kp_card haw2) ?_)))
    refine ka_gR (v := some s) hx2 rfl rfl (ka_gI hs2 rfl rfl (ka_gR (v := some s) hx2 rfl rfl (ka_gI hs2 rfl rfl ?_)))
    refine ka_ifN (fun z => z hend3) ?_
    exact ka_ret rfl (ka_pure ⟨rfl, by simp only [List.length_nil]; omega, hle2⟩)
  | cons b t ih =>
    intro done K fuel v lr2 f hA hf hle hmet hfe hit hv
    obtain ⟨fuel, rfl⟩ : ∃ n, fuel = n + 1 := ⟨fuel - 1, by omega⟩
    have hAl : bs.length = done.length + (t.length + 1) := by rw [hA, List.length_append]; rfl
    obtain ⟨hb0, hb1, hb2⟩ := hb b (by rw [hA]; simp)
    simp only [List.length_cons] at hf hv
    unfold pb_X0_isCounted_55
    refine kl_dHas hit (hle _ _ hl) (by omega) (by rw [List.length_map]; omega) ?_
    rw [List.length_map, if_neg (show ¬ done.length = bs.length by omega)]
    refine ka_ifN (by decide) ?_
    refine kl_dNext (v := b.1) hit (hle _ _ hl) (by rw [hA]; simp) ?_
    have hle1 : ka_le H (ka_up K it (ka_it (done.length + 1) (Int32.ofNat done.length) mc l)) := ka_le_mut hle hit0
    have hm1 : ka_up K it (ka_it (done.length + 1) (Int32.ofNat done.length) mc l) met = some (ka_bs f) := (ka_ne (ka_kinds hmet hit (by simp))).trans hmet
    have hbb := hle1 _ _ hb0
    refine ka_cast hbb rfl rfl (ka_gI hbb rfl rfl (ka_is hm1 rfl (ka_call (ko_setA hm1 hb1 hb2 (by omega)) (fun _ v2 K2 hp => ?_))))
    obtain ⟨hv2, rfl⟩ := hp
    have e2 : it ≠ met := ka_kinds hit hmet (by simp)
    rw [k3_succ]
    have h2 := ih (done ++ [b]) _ fuel v2 (Int32.ofNat done.length) (kn_add f b.2.1.toNatClampNeg) (by rw [hA]; simp) (by omega) (ka_le_mut hle1 hm0) ka_same (by rw [← hfe, List.map_cons, v_adds]) (by rw [List.length_append]; exact (ka_ne e2).trans ka_same) (by omega)
    rw [List.length_append] at h2
    refine ka_post h2 (fun r w' K' hp => ?_)
    obtain ⟨g1, g2, g3⟩ := hp
    exact ⟨g1, by simp only [List.length_cons]; omega, g3⟩
theorem v_adds_app : ∀ (us vs : List vB) (f : Nat → Bool), v_adds f (us ++ vs) = v_adds (v_adds f us) vs := by
  intro us
  induction us with
  | nil => intro vs f; rfl
  | cons u us ih => intro vs f; exact ih vs _
theorem kx_perm4 (a b c d : List vB) : (b ++ (c ++ (d ++ a))).Perm (a ++ (b ++ (c ++ d))) := by
  refine List.perm_iff_count.mpr (fun y => ?_)
  simp only [List.count_append]
  omega
theorem kx_isCounted (hX : kX H x dq ip cc dd X) (hcc : cc ≤ 240) (hw : 20000 ≤ w) : ka_T Z (pm_X0_isCounted (some x)) w H (kx_A H w 20000 1) := by
  obtain ⟨nowW, befW, savW, rfW, lnW, fW, hX'⟩ := id hX
  have hok : v_ok cc dd X.now := by
    have := hX'.2.2.2.1.2.2
    rw [hX'.2.2.2.2.2.2.2.2.2.2.2.1] at this
    exact this
  have hx := hX'.1
  have hS := hX'.2.2.2.1.1
  have hVn : nowW.2.2.V = X.now := hX'.2.2.2.2.2.2.2.2.2.2.2.1
  have hs := kg_s hS
  obtain ⟨⟨c1, c2, c3, c4, c5, c6, c7⟩, c8, c9, c10, c11, c12⟩ := kh_ok hX'.2.2.2.1.2.2 (by omega)
  have hokA : v_ok cc dd nowW.2.2.V := by rw [hVn]; exact hok
  obtain ⟨c, day, W, q1, q2, q3, q4, q5, q6, q7, q8⟩ := hokA.2.2.2.2.2
  have hlenall := v_all_len nowW.2.2.V
  have hcnt := q5.length_eq
  rw [List.length_append, List.length_map, List.length_range] at hcnt
  -- the entries
  have eS : nowW.2.2.st.map (·.1) = (nowW.2.2.st.map (fun r => ((r.1, r.2.1, r.bs) : kE))).map (·.1) := by rw [List.map_map]; rfl
  have eO : nowW.2.2.so.map (·.1) = (nowW.2.2.so.map (fun r => ((r.1, r.2.1, r.bs) : kE))).map (·.1) := by rw [List.map_map]; rfl
  have eW : nowW.2.2.wa.map (·.1) = (nowW.2.2.wa.map (fun r => ((r.1, r.2.1, r.bs) : kE))).map (·.1) := by rw [List.map_map]; rfl
  obtain ⟨m3, l3⟩ := kg_st hS
  obtain ⟨m5, l5⟩ := kg_so hS
  obtain ⟨m6, l6⟩ := kg_wa hS
  obtain ⟨m8, l8⟩ := kg_bl hS
  have hbox := kg_box hS
  rw [eS] at l3
  rw [eO] at l5
  rw [eW] at l6
  have okS : ∀ e ∈ nowW.2.2.st.map (fun r => ((r.1, r.2.1, r.bs) : kE)), kE_ok H e := by
    intro e he
    obtain ⟨r, hr, rfl⟩ := List.mem_map.mp he
    have h1 := kg_rs hS hr
    refine ⟨h1.1, h1.2, by have := c8 r hr; show r.bs.length ≤ 240; omega, fun b hb => ?_⟩
    have := v_ok_lt hokA (v_all_st (V := nowW.2.2.V) (b := b.2) (List.mem_map_of_mem (f := kS.V) hr) (List.mem_map_of_mem (f := fun b : kB => b.2) hb))
    exact ⟨this.1, by have := this.2; show b.2.1.toNatClampNeg < 256; omega⟩
  have okO : ∀ e ∈ nowW.2.2.so.map (fun r => ((r.1, r.2.1, r.bs) : kE)), kE_ok H e := by
    intro e he
    obtain ⟨r, hr, rfl⟩ := List.mem_map.mp he
    have h1 := kg_ds hS (Or.inl hr)
    have h2 := c11 r hr
    exact ⟨h1.1, h1.2.1, by have := h2.2; show r.bs.length ≤ 240; omega, h2.1.2.2.2⟩
  have okW : ∀ e ∈ nowW.2.2.wa.map (fun r => ((r.1, r.2.1, r.bs) : kE)), kE_ok H e := by
    intro e he
    obtain ⟨r, hr, rfl⟩ := List.mem_map.mp he
    have h1 := kg_ds hS (Or.inr hr)
    have h2 := c12 r hr
    exact ⟨h1.1, h1.2.1, by have := h2.2; show r.bs.length ≤ 240; omega, h2.1.2.2⟩
  obtain ⟨uS, huS⟩ : ∃ u : List vB, u = nowW.2.2.V.st.flatMap vS.bs := ⟨_, rfl⟩
  obtain ⟨uO, huO⟩ : ∃ u : List vB, u = nowW.2.2.V.so.flatMap vD.bs := ⟨_, rfl⟩
  obtain ⟨uW, huW⟩ : ∃ u : List vB, u = nowW.2.2.V.wa.flatMap vD.bs := ⟨_, rfl⟩
  have hAll : (uS ++ (uO ++ (uW ++ nowW.2.2.bx.map (·.2)))).Perm (v_all nowW.2.2.V) := by
    rw [huS, huO, huW]
    exact kx_perm4 _ _ _ _
  have hsum : uS.length + (uO.length + (uW.length + nowW.2.2.bx.length)) = (v_all nowW.2.2.V).length := by
    rw [← hAll.length_eq]
    simp only [List.length_append, List.length_map]
  have fS : ((nowW.2.2.st.map (fun r => ((r.1, r.2.1, r.bs) : kE))).flatMap (·.2.2)).map (·.2) = uS := by
    rw [huS]
    show _ = (nowW.2.2.st.map kS.V).flatMap vS.bs
    rw [List.flatMap_map, List.flatMap_map, List.map_flatMap]
  have fO : ((nowW.2.2.so.map (fun r => ((r.1, r.2.1, r.bs) : kE))).flatMap (·.2.2)).map (·.2) = uO := by
    rw [huO]
    show _ = (nowW.2.2.so.map kDp.V).flatMap vD.bs
    rw [List.flatMap_map, List.flatMap_map, List.map_flatMap]
  have fW : ((nowW.2.2.wa.map (fun r => ((r.1, r.2.1, r.bs) : kE))).flatMap (·.2.2)).map (·.2) = uW := by
    rw [huW]
    show _ = (nowW.2.2.wa.map kDp.V).flatMap vD.bs
    rw [List.flatMap_map, List.flatMap_map, List.map_flatMap]
  have nB := kvl_bx nowW.2.2
  have lS : (nowW.2.2.st.map (fun r => ((r.1, r.2.1, r.bs) : kE))).length = nowW.2.2.st.length := List.length_map ..
  have lO : (nowW.2.2.so.map (fun r => ((r.1, r.2.1, r.bs) : kE))).length = nowW.2.2.so.length := List.length_map ..
  have lW : (nowW.2.2.wa.map (fun r => ((r.1, r.2.1, r.bs) : kE))).length = nowW.2.2.wa.length := List.length_map ..
  unfold pm_X0_isCounted
  refine ka_new (by omega) (fun met hm => ?_)
  refine ka_nn (ka_call (kn_init ka_same (by omega)) (fun _ v1 K1 hp => ?_))
  obtain ⟨rfl, rfl⟩ := hp
  rw [ka_up_up]
  have hle1 : ka_le H (ka_up H met (ka_bs (fun _ => false))) := ka_le_up hm
  refine ka_gR (v := some nowW.1) (hle1 _ _ hx) rfl rfl (ka_gR (v := some (nowW.2.1 3)) (hle1 _ _ hs) rfl rfl ?_)
  refine ka_call (kx_marks l3 okS fS lS (by omega) hm hle1 ka_same (by omega)) (fun r v2 K2 hp => ?_)
  obtain ⟨rfl, hv2, hle2, hm2⟩ := hp
  refine ka_gR (v := some nowW.1) (hle2 _ _ hx) rfl rfl (ka_gR (v := some (nowW.2.1 5)) (hle2 _ _ hs) rfl rfl ?_)
  refine ka_call (kx_marks l5 okO fO lO (by omega) hm hle2 hm2 (by omega)) (fun r v3 K3 hp => ?_)
  obtain ⟨rfl, hv3, hle3, hm3⟩ := hp
  refine ka_gR (v := some nowW.1) (hle3 _ _ hx) rfl rfl (ka_gR (v := some (nowW.2.1 6)) (hle3 _ _ hs) rfl rfl ?_)
  refine ka_call (kx_marks l6 okW fW lW (by omega) hm hle3 hm3 (by omega)) (fun r v4 K4 hp => ?_)
  obtain ⟨rfl, hv4, hle4, hm4⟩ := hp
  refine ka_gR (v := some nowW.1) (hle4 _ _ hx) rfl rfl (ka_gR (v := some (nowW.2.1 2)) (hle4 _ _ hs) rfl rfl ?_)
  have hB4 : kb_B K4 (nowW.2.1 2) (nowW.2.1 8) := ⟨2, [], hle4 _ _ hS.2.1, Or.inl rfl⟩
  have hl84 := hle4 _ _ l8
  refine ka_dB hB4 (ka_call (P := fun r w' H' => ∃ it2, r = some it2 ∧ K4 it2 = none ∧ w' = v4 - 9 ∧ H' = ka_up K4 it2 (ka_it 0 (-1) m8 (nowW.2.1 8))) ?_ (fun r v5 K5 hp => ?_))
  · unfold pm_X2_iterator
    refine ka_gB hB4 (ka_is hl84 rfl (ka_call (kl_iterator hl84 (by omega)) (fun r w' H' hp => ?_)))
    obtain ⟨it2, rfl, hit2, rfl, rfl⟩ := hp
    exact ka_pure ⟨it2, rfl, hit2, rfl, rfl⟩
  · obtain ⟨it2, rfl, hit2, rfl, rfl⟩ := hp
    have hit20 := kb_fresh2 hle4 hit2
    rw [k3_add, k3_add]
    have hsc2 : nowW.2.2.sc 2 = Int32.ofNat c := q1
    have hsc78 : nowW.2.2.sc 7 + nowW.2.2.sc 8 = Int32.ofNat W.length := q7
    have hWc : ∀ i ∈ W, i < c := fun i hi => List.mem_range.mp (q5.mem_iff.mp (List.mem_append_right _ hi))
    have hnd : ((v_all nowW.2.2.V).map v_num1 ++ W).Nodup := q5.nodup_iff.mpr List.nodup_range
    have hfold : v_adds (v_adds (v_adds (v_adds (fun _ => false) uS) uO) uW) (nowW.2.2.bx.map (·.2)) = v_adds (fun _ => false) (uS ++ (uO ++ (uW ++ nowW.2.2.bx.map (·.2)))) := by
      rw [v_adds_app, v_adds_app, v_adds_app]
    have hloop := kx_cntLoop (Z := Z) (H := H) (x := x) (met := met) (it := it2) (l := nowW.2.1 8) (bs := nowW.2.2.bx) (mc := m8) (s := nowW.1) (ad := nowW.2.1) (A := nowW.2.2) (f0 := v_adds (v_adds (v_adds (fun _ => false) uS) uO) uW) (n0 := uS.length + uO.length + uW.length) ⟨_, _, _, _, _, _, _, hx⟩ hS l8 (by omega) (fun b hb => ⟨hbox.2.2 b hb, (c10 b hb).1, (c10 b hb).2⟩) hm hit20 ?_ ?_ ?_ nowW.2.2.bx [] _ km_fuel (v4 - 9) (-1) _ rfl (by unfold km_fuel; omega) (ka_le_mut hle4 hit20) ((ka_ne (ka_dom hm4 hit2)).trans hm4) rfl ka_same (by omega)
    · refine ka_postE hloop (fun r w' K' hp => ?_)
      obtain ⟨g1, g2, g3⟩ := hp
      exact ⟨H, ka_entle g3, g1, by omega, rfl⟩
    · rw [Int32.add_assoc, hsc78, k3_add, hsc2]
      exact congrArg Int32.ofNat (by omega)
    · rw [hsc2, hfold]
      refine congrArg Int32.ofNat ?_
      refine (kp_c_list (W := List.range c) List.nodup_range (fun i => ?_) (fun i hi => by have := List.mem_range.mp hi; omega)).trans List.length_range
      rw [Bool.or_eq_true, v_adds_mem, ← q5.mem_iff, List.mem_append]
      have haw : nowW.2.2.aw i = true ↔ i ∈ W := q6 i
      rw [haw]
      rw [(hAll.map v_num1).mem_iff]
      simp
    · rw [hsc78]
      refine congrArg Int32.ofNat ?_
      exact kp_c_list (List.nodup_append.mp hnd).2.1 (fun i => q6 i) (fun i hi => by have := hWc i hi; omega)
end KXC
