set_option maxRecDepth 100000
/-! ===== commands are done ===== -/
def v_cv (V : kV) (k a b : Int32) : vR := if v_in a 0 (Int32.ofNat V.cs.length - 1) = 1 ∧ v_in b 1 10 = 1 then v_carves V a.toNatClampNeg k b.toNatClampNeg else .inl []
abbrev v_isS (V : kV) (a : Int32) : Int32 := v_in a 0 (Int32.ofNat V.st.length - 1)
/-- a command; no reasons: a number is out of range -/
def v_does (V : kV) (c : vCm) : vR := match c.1 with
  | 0 => v_cv V 1 c.2.1 c.2.2
  | 1 => v_cv V 0 c.2.1 c.2.2
  | 2 => if v_pat c.2.1 c.2.2 = 1 then v_begins V c.2.1 c.2.2 else .inl []
  | 3 => if v_isS V c.2.1 = 1 ∧ v_in c.2.2 1 28 = 1 then v_threads c.2.1.toNatClampNeg c.2.2.toNatClampNeg 0 V else .inl []
  | 4 => if v_isS V c.2.1 = 1 then v_ties V c.2.1.toNatClampNeg else .inl []
  | 5 => if v_isS V c.2.1 = 1 then .inr (v_drops V c.2.1.toNatClampNeg) else .inl []
  | 6 => v_mends V
  | _ => if v_in c.2.1 1 60 = 1 then .inr (v_passes c.2.1.toNatClampNeg 0 V) else .inl []
def v_all2 : List vCm → Nat → kV → vR
  | [], n, V => .inr (Int32.ofNat n, V)
  | c :: t, n, V => match v_does V c with
    | .inl ch => .inl ((9, Int32.ofNat n) :: ch)
    | .inr (_, W) => v_all2 t (n + 1) W
def v_resC (cc dd : Nat) (x : vR) : Prop := match x with
  | .inl ch => ch.length ≤ 2
  | .inr (_, V') => v_ok cc dd V'
theorem v_resC_of {cc dd : Nat} {x : vR} (h : v_res cc dd x) : v_resC cc dd x := by
  cases x with
  | inl ch =>
    obtain ⟨p, e | ⟨q, e⟩⟩ := h <;> rw [e]
    · exact Nat.le_of_ble_eq_true rfl
    · exact Nat.le_of_ble_eq_true rfl
  | inr p => exact h
theorem v_resC_0 {cc dd : Nat} : v_resC cc dd (.inl []) := Nat.zero_le _
theorem vk_does {V : kV} {c : vCm} {cc dd : Nat} (h : v_ok cc dd V) (hcc : cc + 10 < 1000) : v_resC (cc + 10) (dd + 60) (v_does V c) := by
  obtain ⟨i, a, b⟩ := c
  have hcv : ∀ k : Int32, k = 0 ∨ k = 1 → v_resC (cc + 10) (dd + 60) (v_cv V k a b) := by
    intro k hk
    unfold v_cv
    split
    · next hz =>
      obtain ⟨j, rfl, hj1, hj2⟩ := v_in_nat (a := 1) (b := 10) (by omega) (by omega) hz.2
      rw [k3_nat (a := j) (by omega)]
      exact v_resC_of (v_res_mono (vk_carves h hk hj2 hcc) (Nat.le_refl _) (by omega))
    · exact v_resC_0
  have hst : ∀ {z : Int32}, v_isS V z = 1 → z.toNatClampNeg < V.st.length := by
    intro z hz
    obtain ⟨j, rfl, hj⟩ := v_in_idx (by have := h.2.2.1.2.2.1; omega) hz
    rw [k3_nat (by have := h.2.2.1.2.2.1; omega)]
    exact hj
  unfold v_does
  dsimp only
  split
  · exact hcv 1 (Or.inr rfl)
  · exact hcv 0 (Or.inl rfl)
  · split
    · next hz =>
      obtain ⟨a, b, rfl, rfl, h1, h2, h3, h4⟩ := v_pat_nat hz
      exact v_resC_of (v_res_mono (vk_begins h rfl rfl h1 h2 h3 h4) (by omega) (by omega))
    · exact v_resC_0
  · split
    · next hz => exact v_resC_of (v_res_mono (vk_threads _ _ _ h (hst hz.1)) (by omega) (by omega))
    · exact v_resC_0
  · split
    · next hz => exact v_resC_of (v_res_mono (vk_ties h (hst hz)) (by omega) (by omega))
    · exact v_resC_0
  · split
    · next hz => exact v_resC_of (v_res_mono (q := .inr (v_drops V a.toNatClampNeg)) (vk_drops h (hst hz)) (by omega) (by omega))
    · exact v_resC_0
  · exact v_resC_of (v_res_mono (vk_mends h) (by omega) (by omega))
  · split
    · next hz =>
      obtain ⟨j, rfl, hj1, hj2⟩ := v_in_nat (a := 1) (b := 60) (by omega) (by omega) hz
      rw [k3_nat (a := j) (by omega)]
      exact v_resC_of (v_res_mono (q := .inr (v_passes j 0 V)) (vk_passes j 0 V dd h) (by omega) (by omega))
    · exact v_resC_0
theorem vk_all2 : ∀ (cs : List vCm) (n : Nat) (V : kV) (cc dd : Nat), v_ok cc dd V → cc + 10 * cs.length < 1000 → vx_res (cc + 10 * cs.length) (dd + 60 * cs.length) (v_all2 cs n V) := by
  intro cs
  induction cs with
  | nil => intro n V cc dd h _; exact h
  | cons c t ih =>
    intro n V cc dd h hcc
    simp only [List.length_cons] at hcc ⊢
    have h1 := vk_does (c := c) h (by omega)
    unfold v_all2
    cases hd : v_does V c with
    | inl ch =>
      rw [hd] at h1
      exact Nat.succ_le_succ h1
    | inr p =>
      obtain ⟨v, W⟩ := p
      rw [hd] at h1
      have h2 := ih (n + 1) W (cc + 10) (dd + 60) h1 (by omega)
      rw [show cc + 10 * (t.length + 1) = cc + 10 + 10 * t.length by omega, show dd + 60 * (t.length + 1) = dd + 60 + 60 * t.length by omega]
      exact h2
/-! ===== the walk ===== -/
theorem ka_lswN {α : Type} {Z : ka_Z} {w : Nat} {H : ka_H} {Q : α → Nat → ka_H → Prop} {v k : Int32} {P D : km_M α} {r : List (Int32 × km_M α)} (h : ¬ v = k) (t : ka_T Z (km_lsw v r D) w H Q) : ka_T Z (km_lsw v ((k, P) :: r) D) w H Q := by
  unfold km_lsw
  exact ka_ifN h t
theorem ka_lswY {α : Type} {Z : ka_Z} {w : Nat} {H : ka_H} {Q : α → Nat → ka_H → Prop} {v k : Int32} {P D : km_M α} {r : List (Int32 × km_M α)} (h : v = k) (t : ka_T Z P w H Q) : ka_T Z (km_lsw v ((k, P) :: r) D) w H Q := by
  unfold km_lsw
  exact ka_ifP h t
theorem ka_lswD {α : Type} {Z : ka_Z} {w : Nat} {H : ka_H} {Q : α → Nat → ka_H → Prop} {v : Int32} {D : km_M α} (t : ka_T Z D w H Q) : ka_T Z (km_lsw v [] D) w H Q := by
  unfold km_lsw
  exact t
theorem k3_int7 : ∀ i : Fin 7, (Int32.ofNat i.val).toInt = (i.val : Int) := by decide
theorem ka_tswY {α : Type} {Z : ka_Z} {w : Nat} {H : ka_H} {Q : α → Nat → ka_H → Prop} {i : Nat} {P D : km_M α} {Ps : List (km_M α)} (hi : i < 7) (hP : Ps[i]? = some P) (t : ka_T Z P w H Q) : ka_T Z (km_tsw (Int32.ofNat i) 0 6 Ps D) w H Q := by
  unfold km_tsw
  have h1 := k3_int7 ⟨i, hi⟩
  simp only at h1
  rw [h1]
  refine ka_ifN (by omega) ?_
  have e : ((i : Int) - 0).toNat = i := by omega
  rw [e, List.getD, hP]
  exact t
theorem ka_tswM {α : Type} {Z : ka_Z} {w : Nat} {H : ka_H} {Q : α → Nat → ka_H → Prop} {D : km_M α} {Ps : List (km_M α)} (t : ka_T Z D w H Q) : ka_T Z (km_tsw (-1) 0 6 Ps D) w H Q := by
  unfold km_tsw
  exact ka_ifP (Or.inl (by decide)) t
theorem ka_clsR {α : Type} {Z : ka_Z} {w : Nat} {H : ka_H} {Q : α → Nat → ka_H → Prop} {a c : Nat} {fl : Bool} {fs : List Value} {f : Nat → km_M α} (ha : H a = some (.inl (fl, .inr (c, fs)))) (k : ka_T Z (f c) w H Q) : ka_T Z (km_bind (km_cls (some a)) f) w H Q := ka_rdr (fun σ hR => by
  have h1 := ka_raw hR ha
  unfold km_ob
  simp only [h1]
  rfl) k
theorem kc_in34 {H0 H : ka_H} {s it : Nat} {ad : Nat → Nat} {A : kAp} {fs : List Value} (h : kc_mut H0 H s ad A) (hit : H it = some (ka_ob 34 fs)) : kc_mut (ka_up H0 it (ka_ob 34 fs)) H s ad A := by
  obtain ⟨h1, h2, h3, h4⟩ := h
  refine ⟨fun a o ha => ?_, h2, fun a ha => ?_, h4⟩
  · by_cases e : a = it
    · subst e
      rw [ka_same] at ha
      cases ha
      exact hit
    · exact h1 a o ((ka_ne e).symm.trans ha)
  · refine (ka_ne ?_).trans (h3 a ha)
    have hk : ∃ o k, H a = some o ∧ ka_kd o = k ∧ k ≠ 34 := by
      rcases kc_mine_mem.mp ha with e | e | ⟨c, hc, e⟩ | ⟨c, hc, e⟩ | ⟨c, hc, e⟩ | ⟨c, hc, e⟩
      · rw [e]; exact ⟨_, _, kg_s h2, rfl, Nat.ne_of_beq_eq_false rfl⟩
      · simp only [List.mem_cons, List.not_mem_nil, or_false] at e
        rcases e with e | e | e | e | e | e | e | e | e <;> rw [e]
        · obtain ⟨mc, hl⟩ := kg_cs h2; exact ⟨_, _, hl, rfl, Nat.ne_of_beq_eq_false rfl⟩
        · obtain ⟨mc, hl⟩ := kg_ls h2; exact ⟨_, _, hl, rfl, Nat.ne_of_beq_eq_false rfl⟩
        · exact ⟨_, _, h2.2.1, rfl, Nat.ne_of_beq_eq_false rfl⟩
        · obtain ⟨mc, hl⟩ := kg_st h2; exact ⟨_, _, hl, rfl, Nat.ne_of_beq_eq_false rfl⟩
        · obtain ⟨mc, hl⟩ := kg_ps h2; exact ⟨_, _, hl, rfl, Nat.ne_of_beq_eq_false rfl⟩
        · obtain ⟨mc, hl⟩ := kg_so h2; exact ⟨_, _, hl, rfl, Nat.ne_of_beq_eq_false rfl⟩
        · obtain ⟨mc, hl⟩ := kg_wa h2; exact ⟨_, _, hl, rfl, Nat.ne_of_beq_eq_false rfl⟩
        · exact ⟨_, _, h2.2.2.1, rfl, Nat.ne_of_beq_eq_false rfl⟩
        · obtain ⟨mc, hl⟩ := kg_bl h2; exact ⟨_, _, hl, rfl, Nat.ne_of_beq_eq_false rfl⟩
      · rw [← e]; exact ⟨_, _, kg_c h2 hc, rfl, Nat.ne_of_beq_eq_false rfl⟩
      · rw [← e]; exact ⟨_, _, kg_l h2 hc, rfl, Nat.ne_of_beq_eq_false rfl⟩
      · rw [← e]; exact ⟨_, _, kg_r h2 hc, rfl, Nat.ne_of_beq_eq_false rfl⟩
      · obtain ⟨mc, hl⟩ := (kg_rs h2 hc).2.1
        rw [← e]; exact ⟨_, _, hl, rfl, Nat.ne_of_beq_eq_false rfl⟩
    obtain ⟨o, k, ho, hk1, hk2⟩ := hk
    exact ka_kinds ho hit (fun z => hk2 (by rw [← hk1, z]; rfl))
theorem kc_sub {H0 H1 H : ka_H} {s : Nat} {ad : Nat → Nat} {A : kAp} (h : kc_mut H1 H s ad A) (k : ka_le H0 H1) : kc_mut H0 H s ad A := by
  obtain ⟨h1, h2, h3, h4⟩ := h
  exact ⟨ka_le_trans k h1, h2, fun a ha => kb_fresh2 k (h3 a ha), h4⟩
def kr_any (H : ka_H) (q : Nat) (ch : List (Int32 × Int32)) : Prop := match ch with
  | [] => ∃ fs, H q = some (ka_ob 13 fs)
  | p :: t => kr H q (p :: t)
def kq_C (H0 : ka_H) (s : Nat) (ad : Nat → Nat) (w c : Nat) (x : vR) : (Nat ⊕ Int32) → Nat → ka_H → Prop := fun r w' H' => w ≤ w' + c ∧ match r, x with
  | .inl q, .inl ch => ka_le H0 H' ∧ kr_any H' q ch
  | .inr v, .inr (v', V') => v = v' ∧ ∃ A', kc_mut H0 H' s ad A' ∧ A'.V = V'
  | _, _ => False
theorem kq_CR {H0 : ka_H} {s : Nat} {ad : Nat → Nat} {w c c' : Nat} {x : vR} {r : Nat ⊕ Int32} {w' : Nat} {H' : ka_H} (h : kq_R H0 s ad w c x r w' H') (hc : c ≤ c') : kq_C H0 s ad w c' x r w' H' := by
  obtain ⟨h1, h2⟩ := h
  refine ⟨by omega, ?_⟩
  cases r with
  | inl q =>
    cases x with
    | inl ch =>
      refine ⟨h2.1, ?_⟩
      cases ch with
      | nil => exact h2.2.elim
      | cons p t => exact h2.2
    | inr p => exact h2
  | inr v =>
    cases x with
    | inl ch => exact h2
    | inr p => exact h2
section KDO
variable {Z : ka_Z} {w : Nat} {H0 H : ka_H} {s : Nat} {ad : Nat → Nat} {A : kAp} {cc dd : Nat}
theorem kr_orNew {q : Nat} (hq : H q = some (ka_ob 13 kz_OutOfRange)) : ka_T Z (pm_X15_init (some q)) w H (fun _ w' H' => w' = w ∧ ∃ fs, H' = ka_up H q (ka_ob 13 fs)) := by
  unfold pm_X15_init pm_J7_init_2
  refine ka_nn ?_
  refine ka_call (P := fun _ w' H' => w' = w ∧ ∃ fs, H' = ka_up H q (ka_ob 13 fs)) ?_ (fun _ w' H' hp => ka_pure hp)
  refine ka_nn (ka_call (P := fun _ w' H' => w' = w ∧ ∃ fs, H' = ka_up H q (ka_ob 13 fs)) ?_ (fun _ w' H' hp => ka_pure hp))
  unfold pm_J6_init_2
  refine ka_nn ?_
  refine ka_pR (by first | exact ka_same | assumption | exact ka_ne1 (by first | assumption | exact Ne.symm (by assumption)) (by first | exact ka_same | assumption | exact ka_ne1 (by first | assumption | exact Ne.symm (by assumption)) (by first | exact ka_same | assumption | exact ka_ne1 (by first | assumption | exact Ne.symm (by assumption)) (by first | exact ka_same | assumption | exact ka_ne1 (by first | assumption | exact Ne.symm (by assumption)) (by first | exact ka_same | assumption | exact ka_ne1 (by first | assumption | exact Ne.symm (by assumption)) (by first | exact ka_same | assumption | exact ka_ne1 (by first | assumption | exact Ne.symm (by assumption)) (by first | exact ka_same | assumption))))))) rfl (Nat.le_of_ble_eq_true rfl) ?_
  refine ka_k ?_
  refine ka_pR (by first | exact ka_same | assumption | exact ka_ne1 (by first | assumption | exact Ne.symm (by assumption)) (by first | exact ka_same | assumption | exact ka_ne1 (by first | assumption | exact Ne.symm (by assumption)) (by first | exact ka_same | assumption | exact ka_ne1 (by first | assumption | exact Ne.symm (by assumption)) (by first | exact ka_same | assumption | exact ka_ne1 (by first | assumption | exact Ne.symm (by assumption)) (by first | exact ka_same | assumption | exact ka_ne1 (by first | assumption | exact Ne.symm (by assumption)) (by first | exact ka_same | assumption | exact ka_ne1 (by first | assumption | exact Ne.symm (by assumption)) (by first | exact ka_same | assumption))))))) rfl (Nat.le_of_ble_eq_true rfl) ?_
  refine ka_k ?_
  refine ka_pR (by first | exact ka_same | assumption | exact ka_ne1 (by first | assumption | exact Ne.symm (by assumption)) (by first | exact ka_same | assumption | exact ka_ne1 (by first | assumption | exact Ne.symm (by assumption)) (by first | exact ka_same | assumption | exact ka_ne1 (by first | assumption | exact Ne.symm (by assumption)) (by first | exact ka_same | assumption | exact ka_ne1 (by first | assumption | exact Ne.symm (by assumption)) (by first | exact ka_same | assumption | exact ka_ne1 (by first | assumption | exact Ne.symm (by assumption)) (by first | exact ka_same | assumption | exact ka_ne1 (by first | assumption | exact Ne.symm (by assumption)) (by first | exact ka_same | assumption))))))) rfl (Nat.le_of_ble_eq_true rfl) ?_
  refine ka_ifP rfl ?_
  refine ka_pR (by first | exact ka_same | assumption | exact ka_ne1 (by first | assumption | exact Ne.symm (by assumption)) (by first | exact ka_same | assumption | exact ka_ne1 (by first | assumption | exact Ne.symm (by assumption)) (by first | exact ka_same | assumption | exact ka_ne1 (by first | assumption | exact Ne.symm (by assumption)) (by first | exact ka_same | assumption | exact ka_ne1 (by first | assumption | exact Ne.symm (by assumption)) (by first | exact ka_same | assumption | exact ka_ne1 (by first | assumption | exact Ne.symm (by assumption)) (by first | exact ka_same | assumption | exact ka_ne1 (by first | assumption | exact Ne.symm (by assumption)) (by first | exact ka_same | assumption))))))) rfl (Nat.le_of_ble_eq_true rfl) ?_
  refine ka_pR (by first | exact ka_same | assumption | exact ka_ne1 (by first | assumption | exact Ne.symm (by assumption)) (by first | exact ka_same | assumption | exact ka_ne1 (by first | assumption | exact Ne.symm (by assumption)) (by first | exact ka_same | assumption | exact ka_ne1 (by first | assumption | exact Ne.symm (by assumption)) (by first | exact ka_same | assumption | exact ka_ne1 (by first | assumption | exact Ne.symm (by assumption)) (by first | exact ka_same | assumption | exact ka_ne1 (by first | assumption | exact Ne.symm (by assumption)) (by first | exact ka_same | assumption | exact ka_ne1 (by first | assumption | exact Ne.symm (by assumption)) (by first | exact ka_same | assumption))))))) rfl (Nat.le_of_ble_eq_true rfl) ?_
  refine ka_pR (by first | exact ka_same | assumption | exact ka_ne1 (by first | assumption | exact Ne.symm (by assumption)) (by first | exact ka_same | assumption | exact ka_ne1 (by first | assumption | exact Ne.symm (by assumption)) (by first | exact ka_same | assumption | exact ka_ne1 (by first | assumption | exact Ne.symm (by assumption)) (by first | exact ka_same | assumption | exact ka_ne1 (by first | assumption | exact Ne.symm (by assumption)) (by first | exact ka_same | assumption | exact ka_ne1 (by first | assumption | exact Ne.symm (by assumption)) (by first | exact ka_same | assumption | exact ka_ne1 (by first | assumption | exact Ne.symm (by assumption)) (by first | exact ka_same | assumption))))))) rfl (Nat.le_of_ble_eq_true rfl) ?_
  refine ka_ifN (by decide) ?_
  refine ka_pR (by first | exact ka_same | assumption | exact ka_ne1 (by first | assumption | exact Ne.symm (by assumption)) (by first | exact ka_same | assumption | exact ka_ne1 (by first | assumption | exact Ne.symm (by assumption)) (by first | exact ka_same | assumption | exact ka_ne1 (by first | assumption | exact Ne.symm (by assumption)) (by first | exact ka_same | assumption | exact ka_ne1 (by first | assumption | exact Ne.symm (by assumption)) (by first | exact ka_same | assumption | exact ka_ne1 (by first | assumption | exact Ne.symm (by assumption)) (by first | exact ka_same | assumption | exact ka_ne1 (by first | assumption | exact Ne.symm (by assumption)) (by first | exact ka_same | assumption))))))) rfl (Nat.le_of_ble_eq_true rfl) ?_
  refine ka_pure ⟨rfl, [va_rf none, .null, .null, .null, .null, .int 0], ?_⟩
  simp only [ka_up_up]
  rfl
theorem ka_inT {α : Type} {Q : (Nat ⊕ α) → Nat → ka_H → Prop} {b : Int32} {f : Unit → km_M (Nat ⊕ α)} (hb : b = 1) (k : ka_T Z (f ()) w H Q) : ka_T Z (km_bind (pm_X0_inRange b) (km_x Sum.inl f)) w H Q := by
  subst hb
  unfold pm_X0_inRange
  refine ka_use (v := (Sum.inr () : Nat ⊕ Unit)) (ka_ifP (by decide) (ka_pure ⟨rfl, rfl, rfl⟩)) ?_
  exact k
theorem ka_inF {b : Int32} {f : Unit → km_M (Nat ⊕ Int32)} {n : Nat} (hb : b = 0) (hM : kc_mut H0 H s ad A) (hn : 11 ≤ n) (hw : n ≤ w) : ka_T Z (km_bind (pm_X0_inRange b) (km_x Sum.inl f)) w H (kq_C H0 s ad w n (.inl [])) := by
  subst hb
  unfold pm_X0_inRange
  refine ka_call (P := fun x w' H' => ∃ q, x = Sum.inl q ∧ w' = w - 11 ∧ ka_le H H' ∧ ∃ fs, H' q = some (ka_ob 13 fs)) ?_ (fun x w' H' hp => ?_)
  · refine ka_ifN (fun h => h rfl) ?_
    refine ka_new (by omega) (fun q hq => ?_)
    refine ka_nn (ka_call (kr_orNew ka_same) (fun _ w' H' hp => ?_))
    obtain ⟨rfl, fs, rfl⟩ := hp
    rw [ka_up_up]
    exact ka_throw ka_same ⟨q, rfl, rfl, ka_le_up hq, fs, ka_same⟩
  · obtain ⟨q, rfl, rfl, hle, fs, hq⟩ := hp
    exact ka_pure ⟨by omega, ka_le_trans hM.1 hle, fs, hq⟩
theorem kx_n {c : Nat} {cm : vCm} (h : kr_c Z H c cm) : ka_T Z (pm_X30_n (some c) 0) w H (ka_V w H cm.2.1) ∧ ka_T Z (pm_X30_n (some c) 1) w H (ka_V w H cm.2.2) := by
  obtain ⟨h1, wd, nu, g, h2, h3, h4, h5, h6⟩ := h
  unfold pm_X30_n
  exact ⟨ka_gR (v := some nu) h3 rfl rfl (ka_ldI h4 (by decide) (ka_pure ⟨h5, rfl, rfl⟩)), ka_gR (v := some nu) h3 rfl rfl (ka_ldI h4 (by decide) (ka_pure ⟨h6, rfl, rfl⟩))⟩
theorem kx_cis {α : Type} {Q : α → Nat → ka_H → Prop} {c : Nat} {cm : vCm} {f : Unit → km_M α} (h : kr_c Z H c cm) (k : ka_T Z (f ()) w H Q) : ka_T Z (km_bind (km_is 28 (some c)) f) w H Q := by
  obtain ⟨h1, wd, nu, g, h2, h3, h4, h5, h6⟩ := h
  exact ka_is h3 rfl k
theorem kx_n0 {α : Type} {Q : α → Nat → ka_H → Prop} {c : Nat} {cm : vCm} {f : Int32 → km_M α} (h : kr_c Z H c cm) (k : ka_T Z (f cm.2.1) w H Q) : ka_T Z (km_bind (km_is 28 (some c)) fun _ => km_bind (pm_X30_n (some c) 0) f) w H Q := kx_cis h (ka_use (kx_n h).1 k)
theorem kx_n1 {α : Type} {Q : α → Nat → ka_H → Prop} {c : Nat} {cm : vCm} {f : Int32 → km_M α} (h : kr_c Z H c cm) (k : ka_T Z (f cm.2.2) w H Q) : ka_T Z (km_bind (km_is 28 (some c)) fun _ => km_bind (pm_X30_n (some c) 1) f) w H Q := kx_cis h (ka_use (kx_n h).2 k)
theorem ko_threadsLoop {i many : Nat} (hmany : many ≤ 28) (hcc : cc ≤ 240) : ∀ (d j fuel w : Nat) (last : Int32) (A : kAp) (H : ka_H), j + d = many → d < fuel → kc_mut H0 H s ad A → v_ok cc dd A.V → i < A.st.length → 700 * d ≤ w → ka_T Z (pb_X1_threads_5 fuel (some s) (Int32.ofNat i) (Int32.ofNat many) last (Int32.ofNat j)) w H (kq_R H0 s ad w (700 * d) (v_threads i d last A.V)) := by
  intro d
  induction d with
  | zero =>
    intro j fuel w last A H hj hf hM hok hi hw
    obtain ⟨fuel, rfl⟩ : ∃ n, fuel = n + 1 := ⟨fuel - 1, by omega⟩
    unfold pb_X1_threads_5
    exact ka_ifP ((k3_le (by omega) (by omega)).mpr (by omega)) (ka_pure ⟨by omega, rfl, A, hM, rfl⟩)
  | succ d ih =>
    intro j fuel w last A H hj hf hM hok hi hw
    obtain ⟨fuel, rfl⟩ : ∃ n, fuel = n + 1 := ⟨fuel - 1, by omega⟩
    obtain ⟨⟨c1, c2, c3, c4, c5, c6, c7⟩, c8, c9, c10, c11, c12⟩ := kh_ok hok hcc
    unfold pb_X1_threads_5
    refine ka_ifN (fun z => by have := (k3_le (by omega) (by omega)).mp z; omega) (ka_is (kg_s hM.2.1) rfl ?_)
    refine ka_call (ko_thread hM hi c3 (fun r hr => Nat.le_trans (c8 r hr) (by omega)) (by omega) c9 (by omega)) (fun r w1 H1 hp => ?_)
    obtain ⟨hw1, hp⟩ := hp
    have hres := vk_thread hok (by rw [kvl_st]; exact hi)
    unfold v_threads
    cases hx : v_thread A.V i with
    | inl ch =>
      rw [hx] at hp
      cases r with
      | inr v => exact hp.elim
      | inl q => exact ka_pure ⟨by omega, hp⟩
    | inr p =>
      obtain ⟨n, W⟩ := p
      rw [hx] at hp hres
      cases r with
      | inl q => exact hp.elim
      | inr v =>
        obtain ⟨rfl, A', hM', rfl⟩ := hp
        have hl := v_thread_len hx
        rw [kvl_st, kvl_st] at hl
        show ka_T Z (pb_X1_threads_5 fuel (some s) (Int32.ofNat i) (Int32.ofNat many) v (Int32.ofNat j + 1)) _ _ _
        rw [k3_succ]
        exact ka_post (ih (j + 1) fuel w1 v A' H1 (by omega) (by omega) hM' hres (by rw [hl]; exact hi) (by omega)) (fun r w' H' hq => ⟨by have := hq.1; omega, hq.2⟩)
theorem ko_threads {i many : Nat} (hM : kc_mut H0 H s ad A) (hok : v_ok cc dd A.V) (hmany : many ≤ 28) (hcc : cc ≤ 240) (hi : i < A.st.length) (hw : 20000 ≤ w) : ka_T Z (pm_X1_threads (some s) (Int32.ofNat i) (Int32.ofNat many)) w H (kq_R H0 s ad w 20000 (v_threads i many 0 A.V)) := by
  unfold pm_X1_threads
  exact kq_cost (ko_threadsLoop hmany hcc many 0 km_fuel w 0 A H (Nat.zero_add _) (by unfold km_fuel; omega) hM hok hi (by omega)) (by omega)
theorem kx_carves {c : Nat} {cm : vCm} {k : Int32} (hM : kc_mut H0 H s ad A) (hok : v_ok cc dd A.V) (hcc : cc + 10 ≤ 240) (hc : kr_c Z H c cm) (hk : k = 0 ∨ k = 1) (hw : 47000 ≤ w) : ka_T Z (pm_X0_carves (some s) (some c) k) w H (kq_C H0 s ad w 47000 (v_cv A.V k cm.2.1 cm.2.2)) := by
  obtain ⟨⟨c1, c2, c3, c4, c5, c6, c7⟩, c8, c9, c10, c11, c12⟩ := kh_ok hok (by omega)
  unfold pm_X0_carves
  refine kx_n0 hc (ka_is (kg_s hM.2.1) rfl (ka_use (kx_isCarver hM.2.1) ?_))
  have hlen : A.V.cs.length = A.cs.length := kvl_cs A
  by_cases h : v_in cm.2.1 0 (Int32.ofNat A.cs.length - 1) = 1
  · refine ka_ifN (by rw [h]; decide) (kx_n1 hc (ka_use kx_isCarved ?_))
    by_cases h2 : v_in cm.2.2 1 10 = 1
    · have e : v_cv A.V k cm.2.1 cm.2.2 = v_carves A.V cm.2.1.toNatClampNeg k cm.2.2.toNatClampNeg := by
        unfold v_cv
        rw [hlen]
        exact if_pos ⟨h, h2⟩
      rw [e]
      refine ka_ifN (by rw [h2]; decide) ?_
      unfold pb_X0_carves_28
      obtain ⟨i, hi, hi2⟩ := v_in_idx (by omega) h
      obtain ⟨j, hj, hj1, hj2⟩ := v_in_nat (a := 1) (b := 10) (by omega) (by omega) h2
      refine ka_inT rfl (kx_n0 hc (kx_n1 hc (ka_is (kg_s hM.2.1) rfl ?_)))
      rw [hi, hj, k3_nat (by omega), k3_nat (by omega)]
      exact ka_post (kq_RR (ko_carves hM hi2 hk hj2 (by omega) (by omega) (by omega) (by omega))) (fun r w' H' hp => kq_CR hp (by omega))
    · have e : v_cv A.V k cm.2.1 cm.2.2 = .inl [] := by
        unfold v_cv
        rw [hlen]
        exact if_neg (fun z => h2 z.2)
      rw [e]
      refine ka_ifP (v_in_no h2) ?_
      unfold pb_X0_carves_27 pb_X0_carves_28
      exact ka_inF rfl hM (by omega) hw
  · have e : v_cv A.V k cm.2.1 cm.2.2 = .inl [] := by
      unfold v_cv
      rw [hlen]
      exact if_neg (fun z => h z.1)
    rw [e]
    refine ka_ifP (v_in_no h) ?_
    unfold pb_X0_carves_27 pb_X0_carves_28
    exact ka_inF rfl hM (by omega) hw
theorem kx_CR {y : km_M (Nat ⊕ Int32)} {x : vR} {c : Nat} (h : ka_T Z y w H (kq_C H0 s ad w c x)) : ka_T Z (km_bind y (km_x Sum.inl fun i => km_pure (Sum.inr i))) w H (kq_C H0 s ad w c x) := by
  refine ka_call h (fun r w' H' hp => ?_)
  cases r with
  | inl e => exact ka_pure hp
  | inr e => exact ka_pure hp
end KDO
