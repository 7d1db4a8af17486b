set_option maxRecDepth 100000
/-! ===== the reader: commands ===== -/
theorem kr_c_kp {Z : ka_Z} {K K' : ka_H} {c : Nat} {cm : vCm} (h : kr_c Z K c cm) (k : ∀ b o, (ka_kd o = 28 ∨ ka_kd o = 35 ∨ ka_kd o = 100 ∨ ka_kd o = 102) → K b = some o → K' b = some o) : kr_c Z K' c cm := by
  obtain ⟨h1, wd, nu, g, ⟨h2, ⟨fl1, fl2, b1, y1, z1, g1, s1, s2, s3⟩, fl, b, y, h3⟩, h4, h5, h6⟩ := h
  exact ⟨h1, wd, nu, g, ⟨h2, ⟨fl1, fl2, b1, y1, z1, g1, k _ _ (Or.inr (Or.inl rfl)) s1, k _ _ (Or.inr (Or.inr (Or.inr rfl))) s2, s3⟩, fl, b, y, k _ _ (Or.inr (Or.inl rfl)) h3⟩, k _ _ (Or.inl rfl) h4, k _ _ (Or.inr (Or.inr (Or.inl rfl))) h5, h6⟩
theorem kr_c_le {Z : ka_Z} {K K' : ka_H} {c : Nat} {cm : vCm} (h : kr_c Z K c cm) (k : ka_le K K') : kr_c Z K' c cm := kr_c_kp h (fun b o _ hb => k b o hb)
theorem kr_c_up {Z : ka_Z} {K : ka_H} {c a : Nat} {cm : vCm} {o o' : ka_O} (h : kr_c Z K c cm) (ha : K a = some o) (ho : ka_kd o = 26 ∨ ka_kd o = 201) : kr_c Z (ka_up K a o') c cm := kr_c_kp h (fun b q hq hb => (ka_ne (ka_kinds hb ha (fun e => by subst e; rcases hq with e1 | e1 | e1 | e1 <;> rw [e1] at ho <;> rcases ho with e2 | e2 <;> cases e2))).trans hb)
section KRE
variable {Z : ka_Z} {B : ka_H} {x ip wa ma r : Nat} {t : List Int32}
theorem kr_numsLoop {i c nu wd : Nat} (hE : kr_E Z B x ip wa ma t) (hi : i < 8) (hr0 : B r = none) (hn0 : B nu = none) : ∀ (d k fuel p w : Nat) (K : ka_H) (g : Nat → Int32), k + d = vr_many i → d < fuel → ka_le B K → K r = some (kr_rd wa ma p x) → p ≤ t.length → K c = some (ka_ob 28 [.ref wd, .ref nu]) → K nu = some (ka_aI 0 2 g) → 12 ≤ w → ka_T Z (pb_X28_command_21 fuel (some r) (Int32.ofNat i) (some c) (Int32.ofNat k)) w K (fun y w' K' => w ≤ w' + 12 ∧ match vr_nums t d p with
    | .inl e => ka_le B K' ∧ ∃ q, y = .inl q ∧ K' q = some (kr_bs e)
    | .inr (L, a) => ∃ g', y = .inr (some c) ∧ K' = ka_up (ka_up K nu (ka_aI 0 2 g')) r (kr_rd wa ma a x) ∧ ∀ j, g' j = if k ≤ j ∧ j < k + d then L.getD (j - k) 0 else g j) := by
  obtain ⟨gm, hma, hgm⟩ := hE.2.2.2.2
  have hmany := (vr_w_len ⟨i, hi⟩).2.2
  intro d
  induction d with
  | zero =>
    intro k fuel p w K g hk hf hle hr hp hc hnu hw
    obtain ⟨fuel, rfl⟩ : ∃ n, fuel = n + 1 := ⟨fuel - 1, by omega⟩
    unfold pb_X28_command_21
    refine ka_gR (v := some ma) hr rfl rfl (ka_ldI (hle _ _ hma) (k3_in hi (by omega)) ?_)
    rw [k3_nat (by omega), hgm i hi]
    refine ka_ifP ((k3_le (by simp only at hmany; omega) (by simp only at hmany; omega)).mpr (by omega)) (ka_pure ⟨by omega, g, rfl, ?_, fun j => ?_⟩)
    · rw [ka_up_id hnu, ka_up_id hr]
    · rw [if_neg (by omega)]
  | succ d ih =>
    intro k fuel p w K g hk hf hle hr hp hc hnu hw
    obtain ⟨fuel, rfl⟩ : ∃ n, fuel = n + 1 := ⟨fuel - 1, by omega⟩
    simp only at hmany
    have hrn : r ≠ nu := ka_kinds hr hnu (by simp)
    have hrc : r ≠ c := ka_kinds hr hc (by simp)
    have hcn : c ≠ nu := ka_kinds hc hnu (by simp)
    unfold pb_X28_command_21
    refine ka_gR (v := some ma) hr rfl rfl (ka_ldI (hle _ _ hma) (k3_in hi (by omega)) ?_)
    rw [k3_nat (by omega), hgm i hi]
    refine ka_ifN (fun z => by have := (k3_le (by omega) (by omega)).mp z; omega) ?_
    refine ka_gR (v := some nu) hc rfl rfl (ka_is hr rfl (ka_call (kr_number hE hle hr0 hr hp hw) (fun y w1 K1 hq => ?_)))
    cases hnum : vr_num t p with
    | inl e =>
      rw [hnum] at hq
      obtain ⟨q, rfl, h1, h2, h3⟩ := hq
      have e1 : vr_nums t (d + 1) p = .inl e := by rw [vr_nums, hnum]
      rw [e1]
      exact ka_pure ⟨h1, h2, q, rfl, h3⟩
    | inr va =>
      obtain ⟨v, a⟩ := va
      rw [hnum] at hq
      obtain ⟨rfl, rfl, rfl⟩ := hq
      obtain ⟨hpa, hal⟩ := vr_num_le hnum hp
      have hnu1 : ka_up K r (kr_rd wa ma a x) nu = some (ka_aI 0 2 g) := (ka_ne hrn.symm).trans hnu
      refine ka_stI hnu1 (k3_in (by omega) (by omega)) ?_
      rw [k3_nat (by omega), k3_succ]
      have hle2 : ka_le B (ka_up (ka_up K r (kr_rd wa ma a x)) nu (ka_aI 0 2 (upd g k (vp_nar (km_ty 0) v)))) := ka_le_mut (ka_le_mut hle hr0) hn0
      have h2 := ih (k + 1) fuel a w1 _ (upd g k (vp_nar (km_ty 0) v)) (by omega) (by omega) hle2 ((ka_ne hrn).trans ka_same) hal ((ka_ne hcn).trans ((ka_ne hrc.symm).trans hc)) ka_same hw
      refine ka_post h2 (fun y w' K' hq => ?_)
      obtain ⟨h3, hq⟩ := hq
      refine ⟨h3, ?_⟩
      cases hnums : vr_nums t d a with
      | inl e =>
        rw [hnums] at hq
        have e1 : vr_nums t (d + 1) p = .inl e := by rw [vr_nums, hnum]; simp only [hnums]
        rw [e1]
        exact hq
      | inr La =>
        obtain ⟨L, b⟩ := La
        rw [hnums] at hq
        obtain ⟨g', h4, h5, h6⟩ := hq
        have e1 : vr_nums t (d + 1) p = .inr (v :: L, b) := by rw [vr_nums, hnum]; simp only [hnums]
        rw [e1]
        refine ⟨g', h4, ?_, fun j => ?_⟩
        · rw [h5, ka_up_up, ka_up_comm hrn, ka_up_up]
        · rw [h6]
          by_cases hj : k + 1 ≤ j ∧ j < k + 1 + d
          · rw [if_pos hj, if_pos (by omega)]
            have e2 : j - k = (j - (k + 1)) + 1 := by omega
            rw [e2, List.getD_cons_succ]
          · rw [if_neg hj]
            by_cases hj2 : j = k
            · rw [if_pos (by omega), hj2, Nat.sub_self, List.getD_cons_zero]
              exact if_pos rfl
            · rw [if_neg (by omega)]
              exact if_neg hj2
theorem kr_command {w p : Nat} {K : ka_H} (hE : kr_E Z B x ip wa ma t) (hle : ka_le B K) (hr0 : B r = none) (hr : K r = some (kr_rd wa ma p x)) (hp : p ≤ t.length) (hw : 30 ≤ w) : ka_T Z (pm_X28_command (some r)) w K (fun y w' K' => w ≤ w' + 26 ∧ ka_le B K' ∧ match vr_cmd t p with
    | .inl e => ∃ q, y = .inl q ∧ K' q = some (kr_bs e)
    | .inr (cm, a) => ∃ c, y = .inr (some c) ∧ K' r = some (kr_rd wa ma a x) ∧ kr_c Z K' c cm ∧ ∀ b o, b ≠ r → K b = some o → K' b = some o) := by
  unfold pm_X28_command
  refine ka_is hr rfl (ka_call (kr_word hE hle hr0 hr hp (by omega)) (fun y w1 K1 hq => ?_))
  cases hwd : vr_word t p with
  | inl e =>
    rw [hwd] at hq
    obtain ⟨q, rfl, h1, h2, h3⟩ := hq
    have e1 : vr_cmd t p = .inl e := by rw [vr_cmd, hwd]
    rw [e1]
    exact ka_pure ⟨by omega, h2, q, rfl, h3⟩
  | inr ia =>
    obtain ⟨i, a⟩ := ia
    rw [hwd] at hq
    obtain ⟨rfl, rfl, rfl⟩ := hq
    obtain ⟨hi, hpa, hal⟩ := vr_word_le hp hwd
    obtain ⟨g, hwa, hg⟩ := hE.2.2.2.1
    obtain ⟨wd, hwd1, hwd2⟩ := hg i hi
    have hle1 : ka_le B (ka_up K r (kr_rd wa ma a x)) := ka_le_mut hle hr0
    refine ka_new (by omega) (fun c hc => ?_)
    have hrc : r ≠ c := ka_dom ka_same hc
    have hle2 := ka_le_trans hle1 (ka_le_up (o := ka_ob 28 kz_Command) hc)
    have hr2 : ka_up (ka_up K r (kr_rd wa ma a x)) c (ka_ob 28 kz_Command) r = some (kr_rd wa ma a x) := (ka_ne hrc).trans ka_same
    refine ka_gR (v := some wa) hr2 rfl rfl (ka_ldR (hle2 _ _ hwa) (k3_in hi (by omega)) ?_)
    rw [k3_nat (by omega), hwd1]
    refine ka_nn (ka_call (P := fun _ w' K' => w' = w1 - 7 - 7 ∧ ∃ nu, ka_up (ka_up K r (kr_rd wa ma a x)) c (ka_ob 28 kz_Command) nu = none ∧ K' = ka_up (ka_up (ka_up (ka_up K r (kr_rd wa ma a x)) c (ka_ob 28 kz_Command)) nu (ka_aI 0 2 (fun _ => 0))) c (ka_ob 28 [.ref wd, .ref nu])) ?_ (fun _ w2 K2 hq => ?_))
    · unfold pm_X30_init
      refine ka_nn (ka_nI (m := 2) (by decide) rfl (by decide) (by omega) (fun nu hnu => ?_))
      have hcn : c ≠ nu := ka_dom ka_same hnu
      refine ka_pR (v := some nu) ((ka_ne hcn).trans ka_same) rfl (Nat.le_of_ble_eq_true rfl) ?_
      refine ka_pR (v := some wd) ka_same rfl (Nat.le_of_ble_eq_true rfl) (ka_pure ⟨rfl, nu, hnu, ?_⟩)
      rw [ka_up_up]
      rfl
    · obtain ⟨rfl, nu, hnu, rfl⟩ := hq
      have hcn : c ≠ nu := ka_dom ka_same hnu
      have hnr : r ≠ nu := ka_dom hr2 hnu
      have hn0 : B nu = none := kb_fresh2 hle2 hnu
      have hc0 : B c = none := kb_fresh2 hle1 hc
      have hle3 := ka_le_mut (o := ka_ob 28 [.ref wd, .ref nu]) (ka_le_trans hle2 (ka_le_up (o := ka_aI 0 2 (fun _ => 0)) hnu)) hc0
      have h2 := kr_numsLoop (Z := Z) (i := i) (c := c) (nu := nu) (wd := wd) hE hi hr0 hn0 (vr_many i) 0 km_fuel a (w1 - 7 - 7) _ (fun _ => 0) (Nat.zero_add _) (by have := (vr_w_len ⟨i, hi⟩).2.2; simp only at this; unfold km_fuel; omega) hle3 ((ka_ne hrc).trans ((ka_ne hnr).trans hr2)) hal ka_same ((ka_ne hcn.symm).trans ka_same) (by omega)
      refine ka_post h2 (fun y w' K' hq => ?_)
      obtain ⟨h3, hq⟩ := hq
      cases hnums : vr_nums t (vr_many i) a with
      | inl e =>
        rw [hnums] at hq
        have e1 : vr_cmd t p = .inl e := by rw [vr_cmd, hwd]; simp only [hnums]
        rw [e1]
        exact ⟨by omega, hq.1, hq.2⟩
      | inr La =>
        obtain ⟨L, b⟩ := La
        rw [hnums] at hq
        obtain ⟨g', h4, h5, h6⟩ := hq
        have e1 : vr_cmd t p = .inr ((i, L.getD 0 0, L.getD 1 0), b) := by rw [vr_cmd, hwd]; simp only [hnums]
        rw [e1]
        have hleK : ka_le B K' := by rw [h5]; exact ka_le_mut (ka_le_mut hle3 hn0) hr0
        have hLl : ∀ (d p b : Nat) (L : List Int32), vr_nums t d p = .inr (L, b) → L.length = d := by
          intro d
          induction d with
          | zero => intro p b L h; cases h; rfl
          | succ d ih =>
            intro p b L h
            unfold vr_nums at h
            split at h
            · cases h
            · split at h
              · cases h
              · next hq => cases h; rw [List.length_cons, ih _ _ _ hq]
        have hlen := hLl _ _ _ _ hnums
        have hgd : ∀ j, g' j = L.getD j 0 := by
          intro j
          rw [h6]
          by_cases hj : 0 ≤ j ∧ j < 0 + vr_many i
          · rw [if_pos hj, Nat.sub_zero]
          · rw [if_neg hj, List.getD, List.getElem?_eq_none (by omega)]
            rfl
        refine ⟨by omega, hleK, c, h4, by rw [h5]; exact ka_same, ⟨hi, wd, nu, g', kr_wd_le hwd2 hleK, ?_, ?_, hgd 0, hgd 1⟩, fun q o hq1 hq2 => ?_⟩
        · rw [h5]
          exact (ka_ne hrc.symm).trans ((ka_ne hcn).trans ka_same)
        · rw [h5]
          exact (ka_ne hnr.symm).trans ka_same
        · rw [h5]
          have q1 : ka_up K r (kr_rd wa ma a x) q = some o := (ka_ne hq1).trans hq2
          have q2 : q ≠ c := ka_dom q1 hc
          have q3 : q ≠ nu := ka_dom ((ka_ne q2).trans q1) hnu
          exact (ka_ne hq1).trans ((ka_ne q3).trans ((ka_ne q2).trans ((ka_ne q3).trans ((ka_ne q2).trans q1))))
theorem kr_wholeLoop {l : Nat} (hE : kr_E Z B x ip wa ma t) (hr0 : B r = none) (hl0 : B l = none) : ∀ (n fuel p w : Nat) (K : ka_H) (L : List (Nat × vCm)), t.length < p + n → n < fuel → ka_le B K → K r = some (kr_rd wa ma p x) → p ≤ t.length → K l = some (ka_dq (L.map (·.1))) → 5 * L.length ≤ p + 1 → (∀ z ∈ L, kr_c Z K z.1 z.2) → 30 * (t.length - p) + 30 ≤ w → ka_T Z (pb_X28_whole_16 fuel (some r) (some l)) w K (fun y w' K' => w ≤ w' + (30 * (t.length - p) + 30) ∧ ka_le B K' ∧ match vr_more t n p (L.map (·.2)) with
    | .inl e => ∃ q, y = .inl q ∧ K' q = some (kr_bs e)
    | .inr cs => ∃ L' : List (Nat × vCm), y = .inr (some l) ∧ cs = L'.map (·.2) ∧ K' l = some (ka_dq (L'.map (·.1))) ∧ ∀ z ∈ L', kr_c Z K' z.1 z.2) := by
  have ht := hE.2.2.1
  intro n
  induction n with
  | zero => intro fuel p w K L h1 h2 h3 h4 h5; omega
  | succ n ih =>
    intro fuel p w K L hn hf hle hr hp hl h5 hL hw
    obtain ⟨fuel, rfl⟩ : ∃ n, fuel = n + 1 := ⟨fuel - 1, by omega⟩
    have hrl : r ≠ l := ka_kinds hr hl (by simp)
    unfold pb_X28_whole_16
    refine ka_is hr rfl (ka_use (kr_isSign hE hle hr hp) ?_)
    rw [vr_more]
    by_cases hc : t[p]? = some 59
    · have hp1 := vr_get_lt hc
      rw [if_pos hc, if_pos hc]
      refine ka_ifN (by decide) ?_
      refine ka_gI hr rfl rfl (ka_pI hr rfl rfl (Nat.le_of_ble_eq_true rfl) ?_)
      rw [k3_succ]
      have hle1 : ka_le B (ka_up K r (kr_rd wa ma (p + 1) x)) := ka_le_mut hle hr0
      refine ka_is (o := kr_rd wa ma (p + 1) x) ka_same rfl ?_
      refine ka_call (kr_command (K := ka_up K r (kr_rd wa ma (p + 1) x)) hE hle1 hr0 ka_same (by omega) (by omega)) (fun y w1 K1 hq => ?_)
      obtain ⟨hw1, hleK, hq⟩ := hq
      cases hcmd : vr_cmd t (p + 1) with
      | inl e =>
        rw [hcmd] at hq
        obtain ⟨q, rfl, h3⟩ := hq
        exact ka_pure ⟨by omega, hleK, q, rfl, h3⟩
      | inr ca =>
        obtain ⟨cm, a⟩ := ca
        rw [hcmd] at hq
        obtain ⟨c, rfl, hr1, hc1, hkp⟩ := hq
        obtain ⟨hcm, hpa, hal⟩ := vr_cmd_le hcmd (by omega)
        have hl1 : K1 l = some (ka_dq (L.map (·.1))) := hkp _ _ hrl.symm ((ka_ne hrl.symm).trans hl)
        have hL1 : ∀ z ∈ L, kr_c Z K1 z.1 z.2 := fun z hz => kr_c_kp (kr_c_up (hL z hz) hr (Or.inl rfl)) (fun b o ho hb => hkp b o (fun e => by
          rw [e, ka_same] at hb
          cases hb
          rcases ho with e | e | e | e <;> cases e) hb)
        obtain ⟨hc2, wd, nu, g, hc3, hc4, hc5⟩ := id hc1
        refine ka_is hl1 rfl (ka_call (kq_addLast hl1 hc4 rfl (by rw [List.length_map]; omega)) (fun _ w2 K2 hq => ?_))
        obtain ⟨rfl, rfl⟩ := hq
        have h9 := ih fuel a w2 (ka_up K1 l (ka_dq (L.map (·.1) ++ [c]))) (L ++ [(c, cm)]) (by omega) (by omega) (ka_le_mut hleK hl0) ((ka_ne hrl).trans hr1) hal (by rw [ka_same, List.map_append]; rfl) (by rw [List.length_append]; simp only [List.length_cons, List.length_nil]; omega) (fun z hz => ?_) (by omega)
        · rw [List.map_append] at h9
          refine ka_post h9 (fun y w' K' hq => ?_)
          exact ⟨by have := hq.1; omega, hq.2⟩
        · rcases List.mem_append.mp hz with e | e
          · exact kr_c_up (hL1 z e) hl1 (Or.inr rfl)
          · rw [List.mem_singleton.mp e]
            exact kr_c_up hc1 hl1 (Or.inr rfl)
    · rw [if_neg hc, if_neg hc]
      refine ka_ifP rfl ?_
      obtain ⟨now, sv, dq, rf, ln, fa, hx⟩ := hE.1
      have hx1 := hle _ _ hx
      refine ka_gI hr rfl rfl (ka_gR (v := some x) hr rfl rfl (ka_gI hx1 rfl rfl ?_))
      by_cases h : p < t.length
      · rw [if_pos h]
        refine ka_ifN (fun z => by have := (k3_le (by omega) (by omega)).mp z; omega) ?_
        exact kr_bad hr (by omega) (fun q hq => ⟨by omega, ka_le_trans hle (ka_le_up hq), q, rfl, ka_same⟩)
      · rw [if_neg h]
        exact ka_ifP ((k3_le (by omega) (by omega)).mpr (by omega)) (ka_pure ⟨by omega, hle, L, rfl, rfl, hl, hL⟩)
theorem kr_whole {w : Nat} {K : ka_H} (hE : kr_E Z B x ip wa ma t) (hle : ka_le B K) (hr0 : B r = none) (hr : K r = some (kr_rd wa ma 0 x)) (hw : 2000 ≤ w) : ka_T Z (pm_X28_whole (some r)) w K (fun y w' K' => w ≤ w' + 2000 ∧ ka_le B K' ∧ match vr_whole t with
    | .inl e => ∃ q, y = .inl q ∧ K' q = some (kr_bs e)
    | .inr cs => ∃ (l : Nat) (L' : List (Nat × vCm)), y = .inr (some l) ∧ B l = none ∧ cs = L'.map (·.2) ∧ K' l = some (ka_dq (L'.map (·.1))) ∧ ∀ z ∈ L', kr_c Z K' z.1 z.2) := by
  have ht := hE.2.2.1
  unfold pm_X28_whole
  refine ka_new (by omega) (fun l hl => ?_)
  refine ka_nn (ka_call (kq_init ka_same (by omega)) (fun _ w1 K1 hq => ?_))
  obtain ⟨rfl, rfl⟩ := hq
  rw [ka_up_up]
  have hrl : r ≠ l := ka_dom hr hl
  have hl0 : B l = none := kb_fresh2 hle hl
  have hle1 : ka_le B (ka_up K l (ka_dq [])) := ka_le_mut hle hl0
  have hr1 : ka_up K l (ka_dq []) r = some (kr_rd wa ma 0 x) := (ka_ne hrl).trans hr
  refine ka_is hr1 rfl (ka_call (kr_command hE hle1 hr0 hr1 (Nat.zero_le _) (by omega)) (fun y w1 K1 hq => ?_))
  obtain ⟨hw1, hleK, hq⟩ := hq
  unfold vr_whole
  cases hcmd : vr_cmd t 0 with
  | inl e =>
    rw [hcmd] at hq
    obtain ⟨q, rfl, h3⟩ := hq
    exact ka_pure ⟨by omega, hleK, q, rfl, h3⟩
  | inr ca =>
    obtain ⟨cm, a⟩ := ca
    rw [hcmd] at hq
    obtain ⟨c, rfl, hr2, hc1, hkp⟩ := hq
    obtain ⟨hcm, hpa, hal⟩ := vr_cmd_le hcmd (Nat.zero_le _)
    have hl1 : K1 l = some (ka_dq []) := hkp _ _ hrl.symm ka_same
    obtain ⟨hc2, wd, nu, g, hc3, hc4, hc5⟩ := id hc1
    refine ka_is hl1 rfl (ka_call (kq_addLast hl1 hc4 rfl (by decide)) (fun _ w2 K2 hq => ?_))
    obtain ⟨rfl, rfl⟩ := hq
    have h9 := kr_wholeLoop (Z := Z) (l := l) hE hr0 hl0 (t.length + 1) km_fuel a w2 (ka_up K1 l (ka_dq ([] ++ [c]))) [(c, cm)] (by omega) (by unfold km_fuel; omega) (ka_le_mut hleK hl0) ((ka_ne hrl).trans hr2) hal ka_same (by simp only [List.length_cons, List.length_nil]; omega) (fun z hz => ?_) (by omega)
    · refine ka_post h9 (fun y w' K' hq => ?_)
      obtain ⟨g1, g2, g3⟩ := hq
      refine ⟨by omega, g2, ?_⟩
      show match vr_more t (t.length + 1) a [cm] with | .inl e => _ | .inr cs => _
      revert g3
      show (match vr_more t (t.length + 1) a [cm] with | .inl e => _ | .inr cs => _) → _
      cases vr_more t (t.length + 1) a [cm] with
      | inl e => exact fun h => h
      | inr cs => exact fun ⟨L', h1, h2, h3, h4⟩ => ⟨l, L', h1, hl0, h2, h3, h4⟩
    · rw [List.mem_singleton.mp hz]
      exact kr_c_up hc1 hl1 (Or.inr rfl)
end KRE
