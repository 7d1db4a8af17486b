set_option maxRecDepth 100000
/-! ===== a bead is taken; threads, ties, drops ===== -/
section KTT
variable {Z : ka_Z} {w : Nat} {H0 H : ka_H} {s : Nat} {ad : Nat → Nat} {A : kAp}
/-- the finest bead of a kind is taken out of the box: what it answers -/
def kq_K (H : ka_H) (ad : Nat → Nat) (A : kAp) (w : Nat) (k : Int32) : (Nat ⊕ Option Nat) → Nat → ka_H → Prop := fun r w' H' => w ≤ w' + 150 ∧ match r, v_takes A.V k with
  | .inl q, .inl ch => ka_le H H' ∧ kr H' q ch
  | .inr x, .inr (b, V') => ∃ (c : kB) (mc : Int32) (bx : List kB), x = some c.1 ∧ c.2 = b ∧ c ∈ A.bx ∧ (∀ b ∈ bx, b ∈ A.bx) ∧ H' = ka_up H (ad 8) (ka_ls mc (bx.map (·.1))) ∧ V' = (A.V.cs, A.V.ls, bx.map (·.2), A.V.2.2.2)
  | _, _ => False
theorem ko_takes {k : Int32} (hk : k = 0 ∨ k = 1) (hS : kc_shop H s ad A) (hlen : A.st.length ≤ 6) (hbs : ∀ r ∈ A.st, r.bs.length < 2 ^ 16) (hbx : A.bx.length < 2 ^ 16) (hnd : (A.bx.map (·.2.1)).Nodup) (hw : 150 ≤ w) : ka_T Z (pm_X1_takes (some s) k) w H (kq_K H ad A w k) := by
  have hs := kg_s hS
  have hbox := kg_box hS
  unfold pm_X1_takes
  refine ka_gR (by first | exact ka_same | assumption | exact ka_ne1 (by first | assumption | exact Ne.symm (by assumption)) (by first | exact ka_same | assumption | exact ka_ne1 (by first | assumption | exact Ne.symm (by assumption)) (by first | exact ka_same | assumption | exact ka_ne1 (by first | assumption | exact Ne.symm (by assumption)) (by first | exact ka_same | assumption | exact ka_ne1 (by first | assumption | exact Ne.symm (by assumption)) (by first | exact ka_same | assumption | exact ka_ne1 (by first | assumption | exact Ne.symm (by assumption)) (by first | exact ka_same | assumption | exact ka_ne1 (by first | assumption | exact Ne.symm (by assumption)) (by first | exact ka_same | assumption))))))) rfl rfl ?_
  refine ka_dB hbox.1 (ka_call (kb_finest hbox.1 hbox.2 hk hbx (by omega)) (fun x v K hp => ?_))
  obtain ⟨rfl, hv, rfl⟩ := hp
  have hfin : v_fin none (v_of k A.V.bx) = (kb_fin none (kb_of k A.bx)).map (·.2) := by
    rw [kv_fin, kv_of]
    rfl
  cases hf : kb_fin none (kb_of k A.bx) with
  | none =>
    refine ka_ifP rfl ?_
    refine ka_new (by omega) (fun a ha => ?_)
    refine ka_use (k3_bit hk) ?_
    refine ka_new (by omega) (fun b hb => ?_)
    have hle : ka_le K (ka_up (ka_up K a (ka_ob 8 kz_Refused)) b (ka_ob 8 kz_Refused)) := ka_le_trans (ka_le_up ha) (ka_le_up hb)
    obtain ⟨hba, hab, hb⟩ := ka_fr hb
    have hS2 := kc_shop_le hS hle
    refine ka_is (kg_s hS2) rfl (ka_call (ko_onOthers hk hS2 hlen hbs (by omega)) (fun n v2 K2 hp => ?_))
    obtain ⟨rfl, hv2, rfl⟩ := hp
    refine ka_nn (ka_call (kr_new0 ka_same) (fun _ v3 K3 hp => ?_))
    obtain ⟨rfl, rfl⟩ := hp
    rw [ka_up_up]
    refine ka_nn (ka_call (kr_new (a := a) ((ka_ne hab).trans ka_same)) (fun _ v4 K4 hp => ?_))
    obtain ⟨rfl, rfl⟩ := hp
    rw [ka_up_comm (H := K) hab, ka_up_up]
    refine ka_throw (c := 8) ka_same ⟨by omega, ?_⟩
    unfold v_takes
    rw [hfin, hf]
    refine ⟨ka_le_trans (ka_le_up hb) (ka_le_up ((ka_ne hab).trans ha)), b, hba, ?_, none, (ka_ne hba).trans ka_same, Or.inl rfl⟩
    rcases hk with e | e
    · subst e
      exact ka_same
    · subst e
      exact ka_same
  | some c =>
    refine ka_ifN (by simp) ?_
    have hcm : c ∈ A.bx := by
      rcases kb_fin_mem _ _ _ hf with e | e
      · exact kb_of_mem e
      · cases e
    obtain ⟨p, hp⟩ := List.getElem?_of_mem hcm
    obtain ⟨mb, hbl⟩ := kg_bl hS
    have hc0 := hbox.2.2 c hcm
    refine ka_gR (by first | exact ka_same | assumption | exact ka_ne1 (by first | assumption | exact Ne.symm (by assumption)) (by first | exact ka_same | assumption | exact ka_ne1 (by first | assumption | exact Ne.symm (by assumption)) (by first | exact ka_same | assumption | exact ka_ne1 (by first | assumption | exact Ne.symm (by assumption)) (by first | exact ka_same | assumption | exact ka_ne1 (by first | assumption | exact Ne.symm (by assumption)) (by first | exact ka_same | assumption | exact ka_ne1 (by first | assumption | exact Ne.symm (by assumption)) (by first | exact ka_same | assumption | exact ka_ne1 (by first | assumption | exact Ne.symm (by assumption)) (by first | exact ka_same | assumption))))))) rfl rfl ?_
    refine ka_dB hbox.1 (ka_call (kb_loses (v := c.1) (p := p) hbox.1 hbl hc0 (by rw [List.getElem?_map, hp]; rfl) (fun j hj z => ?_)) (fun _ v2 K2 hq => ?_))
    · rw [List.getElem?_map] at z
      obtain ⟨d, hd, hd2⟩ := Option.map_eq_some_iff.mp z
      have hd0 := hbox.2.2 d (List.mem_of_getElem? hd)
      have hdc : d.2.1 = c.2.1 := by
        unfold kb_bead at hd0 hc0
        rw [hd2, hc0] at hd0
        have h5 : ka_ob 14 [.int c.2.1, .int c.2.2.1, .int c.2.2.2] = ka_ob 14 [.int d.2.1, .int d.2.2.1, .int d.2.2.2] := Option.some.inj hd0
        simp only [Sum.inl.injEq, Prod.mk.injEq, Sum.inr.injEq, List.cons.injEq, Value.int.injEq] at h5
        exact h5.2.2.1.symm
      have hpl := (List.getElem?_eq_some_iff.mp hp).1
      have hjl : j < (A.bx.map (·.2.1)).length := by rw [List.length_map]; omega
      have := (List.getElem?_inj (j := p) hjl hnd).mp (by rw [List.getElem?_map, List.getElem?_map, hd, hp]; exact congrArg some hdc)
      omega
    · obtain ⟨rfl, rfl⟩ := hq
      refine ka_pure ⟨by omega, ?_⟩
      unfold v_takes
      rw [hfin, hf]
      refine ⟨c, mb + 1, A.bx.eraseIdx p, rfl, rfl, hcm, fun b hb => List.mem_of_mem_eraseIdx hb, ?_, ?_⟩
      · rw [ks_emap]
      · have h6 := ks_erase (f := fun b : kB => b.2.1) hnd hp
        show (A.V.cs, A.V.ls, A.V.bx.filter (fun d => decide (d.1 ≠ c.2.1)), A.V.2.2.2) = _
        rw [h6]
        show (_, _, (A.bx.map (fun b : kB => b.2)).filter _, _) = _
        rw [List.filter_map]
        rfl
/-- a bead is threaded -/
theorem ko_thread {i : Nat} (hM : kc_mut H0 H s ad A) (hi : i < A.st.length) (hlen : A.st.length ≤ 6) (hbs : ∀ r ∈ A.st, r.bs.length ≤ 200) (hbx : A.bx.length ≤ 240) (hnd : (A.bx.map (·.2.1)).Nodup) (hw : 700 ≤ w) : ka_T Z (pm_X1_threads_2 (some s) (Int32.ofNat i)) w H (kq_R H0 s ad w 700 (v_thread A.V i)) := by
  obtain ⟨mc, hst⟩ := kg_st hM.2.1
  have hs := kg_s hM.2.1
  have hri := List.getElem?_eq_getElem hi
  have hrm := List.getElem_mem hi
  have hr0 := kg_r hM.2.1 hrm
  have hL0 := (kg_rs hM.2.1 hrm).2
  have hbs1 := hbs _ hrm
  have hrV : A.V.st.getD i (0, 0, 0, []) = (A.st[i]).V := kvg_st hri
  unfold pm_X1_threads_2 v_thread
  dsimp only
  rw [hrV]
  refine ka_gR (by first | exact ka_same | assumption | exact ka_ne1 (by first | assumption | exact Ne.symm (by assumption)) (by first | exact ka_same | assumption | exact ka_ne1 (by first | assumption | exact Ne.symm (by assumption)) (by first | exact ka_same | assumption | exact ka_ne1 (by first | assumption | exact Ne.symm (by assumption)) (by first | exact ka_same | assumption | exact ka_ne1 (by first | assumption | exact Ne.symm (by assumption)) (by first | exact ka_same | assumption | exact ka_ne1 (by first | assumption | exact Ne.symm (by assumption)) (by first | exact ka_same | assumption | exact ka_ne1 (by first | assumption | exact Ne.symm (by assumption)) (by first | exact ka_same | assumption))))))) rfl rfl ?_
  refine ka_is hst rfl (ka_use (kl_get (v := A.st[i].1) hst (by rw [List.getElem?_map, hri]; rfl)) ?_)
  refine ka_cast hr0 rfl rfl (ka_is hr0 rfl (ka_use (ko_isDone hr0) ?_))
  by_cases h1 : v_done (A.st[i]).V = true
  · rw [if_pos h1, if_pos h1]
    refine ka_ifP (by decide) ?_
    unfold pb_X1_threads_2_24
    exact ka_needsF (by omega) (fun q hq => kq_no hM (by omega) rfl (by omega) q hq)
  · rw [if_neg h1, if_neg h1]
    refine ka_ifN (by simp) ?_
    unfold pb_X1_threads_2_24
    refine ka_needsT (by decide) ?_
    refine ka_is hr0 rfl (ka_use (ko_isWhole hr0 hL0) ?_)
    by_cases h2 : v_whole (A.st[i]).V = true
    · rw [if_pos h2, if_pos h2]
      refine ka_ifP (by decide) ?_
      unfold pb_X1_threads_2_41
      refine ka_gI (by first | exact ka_same | assumption | exact ka_ne1 (by first | assumption | exact Ne.symm (by assumption)) (by first | exact ka_same | assumption | exact ka_ne1 (by first | assumption | exact Ne.symm (by assumption)) (by first | exact ka_same | assumption | exact ka_ne1 (by first | assumption | exact Ne.symm (by assumption)) (by first | exact ka_same | assumption | exact ka_ne1 (by first | assumption | exact Ne.symm (by assumption)) (by first | exact ka_same | assumption | exact ka_ne1 (by first | assumption | exact Ne.symm (by assumption)) (by first | exact ka_same | assumption | exact ka_ne1 (by first | assumption | exact Ne.symm (by assumption)) (by first | exact ka_same | assumption))))))) rfl rfl ?_
      exact ka_needsF (by omega) (fun q hq => kq_no hM (by omega) rfl (by omega) q hq)
    · rw [if_neg h2, if_neg h2]
      refine ka_ifN (by simp) ?_
      unfold pb_X1_threads_2_41
      refine ka_gI (by first | exact ka_same | assumption | exact ka_ne1 (by first | assumption | exact Ne.symm (by assumption)) (by first | exact ka_same | assumption | exact ka_ne1 (by first | assumption | exact Ne.symm (by assumption)) (by first | exact ka_same | assumption | exact ka_ne1 (by first | assumption | exact Ne.symm (by assumption)) (by first | exact ka_same | assumption | exact ka_ne1 (by first | assumption | exact Ne.symm (by assumption)) (by first | exact ka_same | assumption | exact ka_ne1 (by first | assumption | exact Ne.symm (by assumption)) (by first | exact ka_same | assumption | exact ka_ne1 (by first | assumption | exact Ne.symm (by assumption)) (by first | exact ka_same | assumption))))))) rfl rfl ?_
      refine ka_needsT (by decide) ?_
      refine ka_is hr0 rfl (ka_use (ko_wantsLarge hr0 hL0) ?_)
      have hk : (if v_loose (A.st[i]).V = 0 then (1 : Int32) else 0) = 0 ∨ (if v_loose (A.st[i]).V = 0 then (1 : Int32) else 0) = 1 := by
        split
        · exact Or.inr rfl
        · exact Or.inl rfl
      refine ka_is hs rfl (ka_call (ko_takes hk hM.2.1 hlen (fun r hr => Nat.lt_of_le_of_lt (hbs r hr) (by omega)) (by omega) hnd (by omega)) (fun x v K hp => ?_))
      obtain ⟨hv, hp⟩ := hp
      cases hx : v_takes A.V (if v_loose (A.st[i]).V = 0 then 1 else 0) with
      | inl ch =>
        rw [hx] at hp
        cases x with
        | inr y => exact hp.elim
        | inl q => exact ka_pure ⟨by omega, ka_le_trans hM.1 hp.1, hp.2⟩
      | inr bV =>
        rw [hx] at hp
        cases x with
        | inl y => exact hp.elim
        | inr y =>
          obtain ⟨c, mb, bx, rfl, hcb, hcm, hbm, rfl, hV⟩ := hp
          have hbox := kg_box hM.2.1
          have hM1 := ku_box (mc := mb) (bx := bx) hM (fun b hb => hbox.2.2 b (hbm b hb))
          have hr1 : _ = some (kc_S A.st[i]) := kg_r hM1.2.1 hrm
          have hL1 := (kg_rs hM1.2.1 hrm).2
          have hc1 : kb_bead (ka_up H (ad 8) (ka_ls mb (bx.map (·.1)))) c := (ka_ne (ka_kinds (hbox.2.2 c hcm) (kg_bl hM.2.1).choose_spec (by simp))).trans (hbox.2.2 c hcm)
          obtain ⟨ml, hl1⟩ := hL1.1
          show ka_T Z (km_bind (km_is 7 (some A.st[i].1)) _) _ _ _
          refine ka_is hr1 rfl (ka_call (kb_adds ⟨7, _, hr1, Or.inr (Or.inl rfl)⟩ hl1 hc1 rfl (by rw [List.length_map]; omega) (by omega)) (fun _ v2 K2 hp => ?_))
          obtain ⟨hv2, rfl⟩ := hp
          have hM2 := ku_beads (mc := ml + 1) (bs := (A.st[i]).bs ++ [c]) (i := i) (r := A.st[i]) hM1 hri (fun b hb => by
            rcases List.mem_append.mp hb with e | e
            · exact hL1.2 b e
            · rw [List.mem_singleton.mp e]
              exact hc1)
          have e0 : ((A.st[i]).bs ++ [c]).map (·.1) = (A.st[i]).bs.map (·.1) ++ [c.1] := by simp
          rw [e0] at hM2
          have hc2 : kb_bead (ka_up (ka_up H (ad 8) (ka_ls mb (bx.map (·.1)))) (A.st[i]).2.1 (ka_ls (ml + 1) ((A.st[i]).bs.map (·.1) ++ [c.1]))) c := (ka_ne (ka_kinds hc1 hl1 (by simp))).trans hc1
          refine ka_gI hc2 rfl rfl (ka_pure ⟨by omega, ?_, _, hM2, ?_⟩)
          · rw [← hcb]
          · obtain ⟨b, W⟩ := bV
            dsimp only at hcb hV
            subst hcb
            subst hV
            show (A.V.cs, A.V.ls, bx.map (fun b : kB => b.2), (A.st.set i (A.st[i].1, A.st[i].2.1, A.st[i].2.2.1, A.st[i].2.2.2.1, A.st[i].2.2.2.2.1, (A.st[i]).bs ++ [c])).map kS.V, A.V.2.2.2.2) = _
            rw [List.map_set]
            have e7 : kS.V (A.st[i].1, A.st[i].2.1, A.st[i].2.2.1, A.st[i].2.2.2.1, A.st[i].2.2.2.2.1, (A.st[i]).bs ++ [c]) = (A.st[i].V.1, A.st[i].V.2.1, A.st[i].V.2.2.1, A.st[i].V.bs ++ [c.2]) := by
              show (_, _, _, ((A.st[i]).bs ++ [c]).map (fun b : kB => b.2)) = _
              rw [List.map_append]
              rfl
            rw [e7]
            rfl
theorem ko_ties {i : Nat} (hM : kc_mut H0 H s ad A) (hi : i < A.st.length) (hlen : A.st.length ≤ 6) (hw : 100 ≤ w) : ka_T Z (pm_X1_ties (some s) (Int32.ofNat i)) w H (kq_R H0 s ad w 100 (v_ties A.V i)) := by
  obtain ⟨mc, hst⟩ := kg_st hM.2.1
  have hs := kg_s hM.2.1
  have hri := List.getElem?_eq_getElem hi
  have hrm := List.getElem_mem hi
  have hr0 := kg_r hM.2.1 hrm
  have hL0 := (kg_rs hM.2.1 hrm).2
  have hrV : A.V.st.getD i (0, 0, 0, []) = (A.st[i]).V := kvg_st hri
  unfold pm_X1_ties v_ties
  dsimp only
  rw [hrV]
  refine ka_gR (by first | exact ka_same | assumption | exact ka_ne1 (by first | assumption | exact Ne.symm (by assumption)) (by first | exact ka_same | assumption | exact ka_ne1 (by first | assumption | exact Ne.symm (by assumption)) (by first | exact ka_same | assumption | exact ka_ne1 (by first | assumption | exact Ne.symm (by assumption)) (by first | exact ka_same | assumption | exact ka_ne1 (by first | assumption | exact Ne.symm (by assumption)) (by first | exact ka_same | assumption | exact ka_ne1 (by first | assumption | exact Ne.symm (by assumption)) (by first | exact ka_same | assumption | exact ka_ne1 (by first | assumption | exact Ne.symm (by assumption)) (by first | exact ka_same | assumption))))))) rfl rfl ?_
  refine ka_is hst rfl (ka_use (kl_get (v := A.st[i].1) hst (by rw [List.getElem?_map, hri]; rfl)) ?_)
  refine ka_cast hr0 rfl rfl (ka_is hr0 rfl (ka_use (ko_isDone hr0) ?_))
  by_cases h1 : v_done (A.st[i]).V = true
  · rw [if_pos h1, if_pos h1]
    refine ka_ifP (by decide) ?_
    unfold pb_X1_ties_24
    exact ka_needsF (by omega) (fun q hq => kq_no hM (by omega) rfl (by omega) q hq)
  · rw [if_neg h1, if_neg h1]
    refine ka_ifN (by simp) ?_
    unfold pb_X1_ties_24
    refine ka_needsT (by decide) ?_
    refine ka_is hr0 rfl (ka_use (ko_isWhole hr0 hL0) ?_)
    refine ka_gI (by first | exact ka_same | assumption | exact ka_ne1 (by first | assumption | exact Ne.symm (by assumption)) (by first | exact ka_same | assumption | exact ka_ne1 (by first | assumption | exact Ne.symm (by assumption)) (by first | exact ka_same | assumption | exact ka_ne1 (by first | assumption | exact Ne.symm (by assumption)) (by first | exact ka_same | assumption | exact ka_ne1 (by first | assumption | exact Ne.symm (by assumption)) (by first | exact ka_same | assumption | exact ka_ne1 (by first | assumption | exact Ne.symm (by assumption)) (by first | exact ka_same | assumption | exact ka_ne1 (by first | assumption | exact Ne.symm (by assumption)) (by first | exact ka_same | assumption))))))) rfl rfl ?_
    refine ka_is hr0 rfl (ka_use (ko_loose hr0 hL0) ?_)
    by_cases h2 : v_whole (A.st[i]).V = true
    · rw [if_pos h2, if_neg (show ¬ v_whole (A.st[i]).V = false by rw [h2]; decide)]
      refine ka_needsT (by decide) ?_
      refine ka_gI (by first | exact ka_same | assumption | exact ka_ne1 (by first | assumption | exact Ne.symm (by assumption)) (by first | exact ka_same | assumption | exact ka_ne1 (by first | assumption | exact Ne.symm (by assumption)) (by first | exact ka_same | assumption | exact ka_ne1 (by first | assumption | exact Ne.symm (by assumption)) (by first | exact ka_same | assumption | exact ka_ne1 (by first | assumption | exact Ne.symm (by assumption)) (by first | exact ka_same | assumption | exact ka_ne1 (by first | assumption | exact Ne.symm (by assumption)) (by first | exact ka_same | assumption | exact ka_ne1 (by first | assumption | exact Ne.symm (by assumption)) (by first | exact ka_same | assumption))))))) rfl rfl ?_
      refine ka_pI (by first | exact ka_same | assumption | exact ka_ne1 (by first | assumption | exact Ne.symm (by assumption)) (by first | exact ka_same | assumption | exact ka_ne1 (by first | assumption | exact Ne.symm (by assumption)) (by first | exact ka_same | assumption | exact ka_ne1 (by first | assumption | exact Ne.symm (by assumption)) (by first | exact ka_same | assumption | exact ka_ne1 (by first | assumption | exact Ne.symm (by assumption)) (by first | exact ka_same | assumption | exact ka_ne1 (by first | assumption | exact Ne.symm (by assumption)) (by first | exact ka_same | assumption | exact ka_ne1 (by first | assumption | exact Ne.symm (by assumption)) (by first | exact ka_same | assumption))))))) rfl rfl (Nat.le_of_ble_eq_true rfl) ?_
      have hM1 := ku_setS (n := A.st[i].2.2.2.2.1 + 1) hM hri
      refine ka_gI ka_same rfl rfl (ka_pure ⟨by omega, rfl, _, hM1, ?_⟩)
      show (A.V.cs, A.V.ls, A.V.bx, (A.st.set i _).map kS.V, A.V.2.2.2.2) = _
      rw [List.map_set]
      rfl
    · rw [if_neg h2, if_pos (show v_whole (A.st[i]).V = false by simpa using h2)]
      exact ka_needsF (by omega) (fun q hq => kq_no hM (by omega) rfl (by omega) q hq)
theorem ks_dropLast {α : Type} {l : List α} : l.eraseIdx (l.length - 1) = l.dropLast := by
  rw [List.eraseIdx_eq_take_drop_succ, List.dropLast_eq_take]
  have : l.drop (l.length - 1 + 1) = [] := List.drop_eq_nil_of_le (by omega)
  rw [this, List.append_nil]
theorem ko_dropLoop {i n : Nat} {l a : Nat} (hn : n < 2 ^ 30) : ∀ (d j fuel w : Nat) (A : kAp) (H : ka_H) (r : kS), j + d = n → d < fuel → kc_mut H0 H s ad A → A.st[i]? = some r → r.1 = a → d ≤ r.bs.length → r.bs.length ≤ 200 → A.bx.length + d ≤ 240 → 405 * d ≤ w → ka_T Z (pb_X1_drops_20 fuel (some s) (some a) (Int32.ofNat n) (Int32.ofNat j)) w H (kq_V H0 s ad w (405 * d) (Int32.ofNat n, A.V.cs, A.V.ls, (v_drop d A.V.bx r.V.bs).1, A.V.st.set i (r.V.1, r.V.2.1, r.V.2.2.1, (v_drop d A.V.bx r.V.bs).2), A.V.2.2.2.2)) := by
  intro d
  induction d with
  | zero =>
    intro j fuel w A H r hd hf hM hi ha hdr hrl hb hw
    obtain ⟨fuel, rfl⟩ : ∃ n, fuel = n + 1 := ⟨fuel - 1, by omega⟩
    unfold pb_X1_drops_20
    refine ka_ifP ((k3_le (by omega) (by omega)).mpr (by omega)) (ka_pure ⟨by omega, rfl, A, hM, ?_⟩)
    show A.V = (A.V.cs, A.V.ls, A.V.bx, A.V.st.set i r.V, A.V.2.2.2.2)
    have e : A.V.st.set i r.V = A.V.st := by
      have hi2 : A.V.st[i]? = some r.V := by
        show (A.st.map kS.V)[i]? = _
        rw [List.getElem?_map, hi]
        rfl
      obtain ⟨g1, g2⟩ := List.getElem?_eq_some_iff.mp hi2
      rw [← g2]
      exact List.set_getElem_self g1
    rw [e]
  | succ d ih =>
    intro j fuel w A H r hd hf hM hi ha hdr hrl hb hw
    obtain ⟨fuel, rfl⟩ : ∃ n, fuel = n + 1 := ⟨fuel - 1, by omega⟩
    subst ha
    have hrm := List.mem_of_getElem? hi
    have hr0 := kg_r hM.2.1 hrm
    have hL0 := (kg_rs hM.2.1 hrm).2
    have hs := kg_s hM.2.1
    have hbox := kg_box hM.2.1
    obtain ⟨ml, hl0⟩ := hL0.1
    have hne : r.bs ≠ [] := by intro z; rw [z] at hdr; simp at hdr
    obtain ⟨c, hc⟩ : ∃ c, r.bs[r.bs.length - 1]? = some c := ⟨_, List.getElem?_eq_getElem (by omega)⟩
    have hcl : r.bs.getLast? = some c := by rw [List.getLast?_eq_getElem?, hc]
    have hc0 := hL0.2 c (List.mem_of_getElem? hc)
    unfold pb_X1_drops_20
    refine ka_ifN (fun z => absurd ((k3_le (by omega) (by omega)).mp z) (by omega)) ?_
    refine ka_gR (by first | exact ka_same | assumption | exact ka_ne1 (by first | assumption | exact Ne.symm (by assumption)) (by first | exact ka_same | assumption | exact ka_ne1 (by first | assumption | exact Ne.symm (by assumption)) (by first | exact ka_same | assumption | exact ka_ne1 (by first | assumption | exact Ne.symm (by assumption)) (by first | exact ka_same | assumption | exact ka_ne1 (by first | assumption | exact Ne.symm (by assumption)) (by first | exact ka_same | assumption | exact ka_ne1 (by first | assumption | exact Ne.symm (by assumption)) (by first | exact ka_same | assumption | exact ka_ne1 (by first | assumption | exact Ne.symm (by assumption)) (by first | exact ka_same | assumption))))))) rfl rfl ?_
    refine ka_is hr0 rfl (ka_call (P := fun x w' H' => x = some c.1 ∧ w' = w ∧ H' = ka_up H r.2.1 (ka_ls (ml + 1) (r.bs.dropLast.map (·.1)))) ?_ (fun x v K hp => ?_))
    · unfold pm_X8_drops
      refine ka_gB ⟨7, _, hr0, Or.inr (Or.inl rfl)⟩ (ka_is hr0 rfl (ka_use (kb_size ⟨7, _, hr0, Or.inr (Or.inl rfl)⟩ hl0) ?_))
      rw [List.length_map, k3_pred (by omega)]
      refine ka_is hl0 rfl (ka_call (kl_removeAt (v := c.1) hl0 (by rw [List.getElem?_map, hc]; rfl)) (fun x v K hp => ?_))
      obtain ⟨rfl, rfl, rfl⟩ := hp
      have hc1 : kb_bead (ka_up H r.2.1 (ka_ls (ml + 1) ((r.bs.map (·.1)).eraseIdx (r.bs.length - 1)))) c := (ka_ne (ka_kinds hc0 hl0 (by simp))).trans hc0
      refine ka_cast hc1 rfl rfl (ka_pure ⟨rfl, rfl, ?_⟩)
      rw [← ks_emap, ks_dropLast]
    · obtain ⟨rfl, rfl, rfl⟩ := hp
      have hM1 := ku_beads (mc := ml + 1) (bs := r.bs.dropLast) hM hi (fun b hb => hL0.2 b (List.dropLast_subset _ hb))
      have hbox1 := kg_box hM1.2.1
      obtain ⟨mb, hbl⟩ := kg_bl hM1.2.1
      have hc1 : kb_bead (ka_up H r.2.1 (ka_ls (ml + 1) (r.bs.dropLast.map (·.1)))) c := (ka_ne (ka_kinds hc0 hl0 (by simp))).trans hc0
      refine ka_dB hbox1.1 (ka_call (kb_adds hbox1.1 hbl hc1 rfl (by rw [List.length_map]; show A.bx.length ≤ 240; omega) (by omega)) (fun _ v2 K2 hp => ?_))
      obtain ⟨hv2, rfl⟩ := hp
      have hM2 := ku_box (mc := mb + 1) (bx := A.bx ++ [c]) hM1 (fun b hb => by
        rcases List.mem_append.mp hb with e | e
        · exact hbox1.2.2 b e
        · rw [List.mem_singleton.mp e]
          exact hc1)
      have e0 : (A.bx ++ [c]).map (·.1) = A.bx.map (·.1) ++ [c.1] := by simp
      rw [e0] at hM2
      rw [k3_succ]
      have hlt := (List.getElem?_eq_some_iff.mp hi).1
      have hdl : r.bs.dropLast.length = r.bs.length - 1 := List.length_dropLast ..
      refine ka_post (ih (j + 1) fuel v2 _ _ (r.1, r.2.1, r.2.2.1, r.2.2.2.1, r.2.2.2.2.1, r.bs.dropLast) (by omega) (by omega) hM2 (List.getElem?_set_self hlt) rfl (by show d ≤ r.bs.dropLast.length; omega) (by show r.bs.dropLast.length ≤ 200; omega) (by show (A.bx ++ [c]).length + d ≤ 240; rw [List.length_append]; simp only [List.length_cons, List.length_nil]; omega) (by omega)) (fun x w' H' hp => ?_)
      obtain ⟨g1, g2, A', g3, g4⟩ := hp
      refine ⟨by omega, g2, A', g3, ?_⟩
      rw [g4]
      have hst2 : kAp.st (A.cs, A.ls, A.bx ++ [c], A.st.set i (r.1, r.2.1, r.2.2.1, r.2.2.2.1, r.2.2.2.2.1, r.bs.dropLast), A.2.2.2.2) = A.st.set i (r.1, r.2.1, r.2.2.1, r.2.2.2.1, r.2.2.2.2.1, r.bs.dropLast) := rfl
      have e5 : v_drop (d + 1) A.V.bx r.V.bs = v_drop d ((A.bx ++ [c]).map (fun b : kB => b.2)) (r.bs.dropLast.map (fun b : kB => b.2)) := by
        show v_drop d (A.bx.map (fun b : kB => b.2) ++ (r.bs.map (fun b : kB => b.2)).getLast?.toList) ((r.bs.map (fun b : kB => b.2)).dropLast) = _
        rw [List.getLast?_map, hcl, List.map_append, List.map_dropLast]
        rfl
      rw [e5]
      show (A.V.cs, A.V.ls, _, ((A.st.set i (r.1, r.2.1, r.2.2.1, r.2.2.2.1, r.2.2.2.2.1, r.bs.dropLast)).map kS.V).set i _, A.V.2.2.2.2) = (A.V.cs, A.V.ls, _, (A.st.map kS.V).set i _, A.V.2.2.2.2)
      rw [List.map_set, List.set_set]
theorem ko_drops {i d : Nat} (hM : kc_mut H0 H s ad A) (hi : i < A.st.length) (hlen : A.st.length ≤ 6) (hd : ∀ r, A.st[i]? = some r → v_loose r.V = Int32.ofNat d ∧ d ≤ r.bs.length ∧ r.bs.length ≤ 200) (hd7 : d ≤ 7) (hbx : A.bx.length + d ≤ 240) (hw : 3000 ≤ w) : ka_T Z (pm_X1_drops (some s) (Int32.ofNat i)) w H (kq_V H0 s ad w 3000 (v_drops A.V i)) := by
  obtain ⟨mc, hst⟩ := kg_st hM.2.1
  have hs := kg_s hM.2.1
  have hri := List.getElem?_eq_getElem hi
  have hrm := List.getElem_mem hi
  have hr0 := kg_r hM.2.1 hrm
  have hL0 := (kg_rs hM.2.1 hrm).2
  have hrV : A.V.st.getD i (0, 0, 0, []) = (A.st[i]).V := kvg_st hri
  obtain ⟨hd1, hd2, hd3⟩ := hd _ hri
  unfold pm_X1_drops v_drops
  dsimp only
  rw [hrV]
  refine ka_gR (by first | exact ka_same | assumption | exact ka_ne1 (by first | assumption | exact Ne.symm (by assumption)) (by first | exact ka_same | assumption | exact ka_ne1 (by first | assumption | exact Ne.symm (by assumption)) (by first | exact ka_same | assumption | exact ka_ne1 (by first | assumption | exact Ne.symm (by assumption)) (by first | exact ka_same | assumption | exact ka_ne1 (by first | assumption | exact Ne.symm (by assumption)) (by first | exact ka_same | assumption | exact ka_ne1 (by first | assumption | exact Ne.symm (by assumption)) (by first | exact ka_same | assumption | exact ka_ne1 (by first | assumption | exact Ne.symm (by assumption)) (by first | exact ka_same | assumption))))))) rfl rfl ?_
  refine ka_is hst rfl (ka_use (kl_get (v := A.st[i].1) hst (by rw [List.getElem?_map, hri]; rfl)) ?_)
  refine ka_cast hr0 rfl rfl (ka_is hr0 rfl (ka_use (ko_loose hr0 hL0) ?_))
  rw [hd1, k3_nat (by omega)]
  refine ka_post (ko_dropLoop (i := i) (l := 0) (a := A.st[i].1) (n := d) (by omega) d 0 km_fuel w A H A.st[i] (by omega) (by unfold km_fuel; omega) hM hri rfl hd2 hd3 hbx (by omega)) (fun x w' H' hp => ?_)
  obtain ⟨g1, g2⟩ := hp
  exact ⟨by omega, g2⟩
end KTT
