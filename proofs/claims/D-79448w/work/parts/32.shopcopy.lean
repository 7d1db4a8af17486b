set_option maxRecDepth 100000
/-! ===== a workshop's copy ===== -/
/-- alike but for addresses -/
def kc_like (A B : kAp) : Prop := A.cs.map (·.2) = B.cs.map (·.2) ∧ A.ls.map (·.2) = B.ls.map (·.2) ∧ A.bx = B.bx ∧ A.st.map (·.2.2) = B.st.map (·.2.2) ∧ A.ps = B.ps ∧ A.so = B.so ∧ A.wa = B.wa ∧ A.aw = B.aw ∧ A.sc = B.sc
section KCP
variable {Z : ka_Z} {w : Nat} {H0 H K : ka_H} {s o it : Nat} {ad ad2 : Nat → Nat} {A2 : kAp} {Q : Unit → Nat → ka_H → Prop}
theorem kcp_C {a : Nat} {c : kC} (ha : K a = some (ka_ob 5 kz_Carver)) (hc : K c.1 = some (kc_C c)) (hn : c.1 ≠ a) : ka_T Z (pm_X6_init (some a) (some c.1)) w K (fun _ w' H' => w' = w ∧ H' = ka_up K a (kc_C (a, c.2))) := by
  unfold pm_X6_init pm_X6_init_2
  refine ka_gI (by first | exact ka_same | assumption | exact ka_ne1 (by first | assumption | exact Ne.symm (by assumption)) (by first | exact ka_same | assumption | exact ka_ne1 (by first | assumption | exact Ne.symm (by assumption)) (by first | exact ka_same | assumption | exact ka_ne1 (by first | assumption | exact Ne.symm (by assumption)) (by first | exact ka_same | assumption | exact ka_ne1 (by first | assumption | exact Ne.symm (by assumption)) (by first | exact ka_same | assumption | exact ka_ne1 (by first | assumption | exact Ne.symm (by assumption)) (by first | exact ka_same | assumption | exact ka_ne1 (by first | assumption | exact Ne.symm (by assumption)) (by first | exact ka_same | assumption))))))) rfl rfl ?_
  refine ka_nn ?_
  refine ka_call (P := fun _ w' H' => w' = w ∧ H' = ka_up K a (ka_ob 5 (kz_Carver.set 0 (.int c.2.1)))) ?_ (fun _ w' H' hp => ?_)
  · refine ka_nn ?_
    refine ka_pI (by first | exact ka_same | assumption | exact ka_ne1 (by first | assumption | exact Ne.symm (by assumption)) (by first | exact ka_same | assumption | exact ka_ne1 (by first | assumption | exact Ne.symm (by assumption)) (by first | exact ka_same | assumption | exact ka_ne1 (by first | assumption | exact Ne.symm (by assumption)) (by first | exact ka_same | assumption | exact ka_ne1 (by first | assumption | exact Ne.symm (by assumption)) (by first | exact ka_same | assumption | exact ka_ne1 (by first | assumption | exact Ne.symm (by assumption)) (by first | exact ka_same | assumption | exact ka_ne1 (by first | assumption | exact Ne.symm (by assumption)) (by first | exact ka_same | assumption))))))) rfl rfl (Nat.le_of_ble_eq_true rfl) ?_
    exact ka_pure ⟨rfl, rfl⟩
  · obtain ⟨rfl, rfl⟩ := hp
    refine ka_gI (by first | exact ka_same | assumption | exact ka_ne1 (by first | assumption | exact Ne.symm (by assumption)) (by first | exact ka_same | assumption | exact ka_ne1 (by first | assumption | exact Ne.symm (by assumption)) (by first | exact ka_same | assumption | exact ka_ne1 (by first | assumption | exact Ne.symm (by assumption)) (by first | exact ka_same | assumption | exact ka_ne1 (by first | assumption | exact Ne.symm (by assumption)) (by first | exact ka_same | assumption | exact ka_ne1 (by first | assumption | exact Ne.symm (by assumption)) (by first | exact ka_same | assumption | exact ka_ne1 (by first | assumption | exact Ne.symm (by assumption)) (by first | exact ka_same | assumption))))))) rfl rfl ?_
    refine ka_pI (by first | exact ka_same | assumption | exact ka_ne1 (by first | assumption | exact Ne.symm (by assumption)) (by first | exact ka_same | assumption | exact ka_ne1 (by first | assumption | exact Ne.symm (by assumption)) (by first | exact ka_same | assumption | exact ka_ne1 (by first | assumption | exact Ne.symm (by assumption)) (by first | exact ka_same | assumption | exact ka_ne1 (by first | assumption | exact Ne.symm (by assumption)) (by first | exact ka_same | assumption | exact ka_ne1 (by first | assumption | exact Ne.symm (by assumption)) (by first | exact ka_same | assumption | exact ka_ne1 (by first | assumption | exact Ne.symm (by assumption)) (by first | exact ka_same | assumption))))))) rfl rfl (Nat.le_of_ble_eq_true rfl) ?_
    refine ka_gI (by first | exact ka_same | assumption | exact ka_ne1 (by first | assumption | exact Ne.symm (by assumption)) (by first | exact ka_same | assumption | exact ka_ne1 (by first | assumption | exact Ne.symm (by assumption)) (by first | exact ka_same | assumption | exact ka_ne1 (by first | assumption | exact Ne.symm (by assumption)) (by first | exact ka_same | assumption | exact ka_ne1 (by first | assumption | exact Ne.symm (by assumption)) (by first | exact ka_same | assumption | exact ka_ne1 (by first | assumption | exact Ne.symm (by assumption)) (by first | exact ka_same | assumption | exact ka_ne1 (by first | assumption | exact Ne.symm (by assumption)) (by first | exact ka_same | assumption))))))) rfl rfl ?_
    refine ka_pI (by first | exact ka_same | assumption | exact ka_ne1 (by first | assumption | exact Ne.symm (by assumption)) (by first | exact ka_same | assumption | exact ka_ne1 (by first | assumption | exact Ne.symm (by assumption)) (by first | exact ka_same | assumption | exact ka_ne1 (by first | assumption | exact Ne.symm (by assumption)) (by first | exact ka_same | assumption | exact ka_ne1 (by first | assumption | exact Ne.symm (by assumption)) (by first | exact ka_same | assumption | exact ka_ne1 (by first | assumption | exact Ne.symm (by assumption)) (by first | exact ka_same | assumption | exact ka_ne1 (by first | assumption | exact Ne.symm (by assumption)) (by first | exact ka_same | assumption))))))) rfl rfl (Nat.le_of_ble_eq_true rfl) ?_
    refine ka_gI (by first | exact ka_same | assumption | exact ka_ne1 (by first | assumption | exact Ne.symm (by assumption)) (by first | exact ka_same | assumption | exact ka_ne1 (by first | assumption | exact Ne.symm (by assumption)) (by first | exact ka_same | assumption | exact ka_ne1 (by first | assumption | exact Ne.symm (by assumption)) (by first | exact ka_same | assumption | exact ka_ne1 (by first | assumption | exact Ne.symm (by assumption)) (by first | exact ka_same | assumption | exact ka_ne1 (by first | assumption | exact Ne.symm (by assumption)) (by first | exact ka_same | assumption | exact ka_ne1 (by first | assumption | exact Ne.symm (by assumption)) (by first | exact ka_same | assumption))))))) rfl rfl ?_
    refine ka_pI (by first | exact ka_same | assumption | exact ka_ne1 (by first | assumption | exact Ne.symm (by assumption)) (by first | exact ka_same | assumption | exact ka_ne1 (by first | assumption | exact Ne.symm (by assumption)) (by first | exact ka_same | assumption | exact ka_ne1 (by first | assumption | exact Ne.symm (by assumption)) (by first | exact ka_same | assumption | exact ka_ne1 (by first | assumption | exact Ne.symm (by assumption)) (by first | exact ka_same | assumption | exact ka_ne1 (by first | assumption | exact Ne.symm (by assumption)) (by first | exact ka_same | assumption | exact ka_ne1 (by first | assumption | exact Ne.symm (by assumption)) (by first | exact ka_same | assumption))))))) rfl rfl (Nat.le_of_ble_eq_true rfl) ?_
    refine ka_pure ⟨rfl, ?_⟩
    rw [ka_up_up, ka_up_up, ka_up_up]
    rfl
theorem kcp_L {a : Nat} {c : kLn} (ha : K a = some (ka_ob 6 kz_Lens)) (hc : K c.1 = some (kc_L c)) (hn : c.1 ≠ a) : ka_T Z (pm_X7_init (some a) (some c.1)) w K (fun _ w' H' => w' = w ∧ H' = ka_up K a (kc_L (a, c.2))) := by
  unfold pm_X7_init pm_X7_init_2
  refine ka_gI (by first | exact ka_same | assumption | exact ka_ne1 (by first | assumption | exact Ne.symm (by assumption)) (by first | exact ka_same | assumption | exact ka_ne1 (by first | assumption | exact Ne.symm (by assumption)) (by first | exact ka_same | assumption | exact ka_ne1 (by first | assumption | exact Ne.symm (by assumption)) (by first | exact ka_same | assumption | exact ka_ne1 (by first | assumption | exact Ne.symm (by assumption)) (by first | exact ka_same | assumption | exact ka_ne1 (by first | assumption | exact Ne.symm (by assumption)) (by first | exact ka_same | assumption | exact ka_ne1 (by first | assumption | exact Ne.symm (by assumption)) (by first | exact ka_same | assumption))))))) rfl rfl ?_
  refine ka_nn ?_
  refine ka_call (P := fun _ w' H' => w' = w ∧ H' = ka_up K a (ka_ob 6 [.int c.2.1, .int (-1)])) ?_ (fun _ w' H' hp => ?_)
  · refine ka_nn ?_
    refine ka_pI (by first | exact ka_same | assumption | exact ka_ne1 (by first | assumption | exact Ne.symm (by assumption)) (by first | exact ka_same | assumption | exact ka_ne1 (by first | assumption | exact Ne.symm (by assumption)) (by first | exact ka_same | assumption | exact ka_ne1 (by first | assumption | exact Ne.symm (by assumption)) (by first | exact ka_same | assumption | exact ka_ne1 (by first | assumption | exact Ne.symm (by assumption)) (by first | exact ka_same | assumption | exact ka_ne1 (by first | assumption | exact Ne.symm (by assumption)) (by first | exact ka_same | assumption | exact ka_ne1 (by first | assumption | exact Ne.symm (by assumption)) (by first | exact ka_same | assumption))))))) rfl rfl (Nat.le_of_ble_eq_true rfl) ?_
    refine ka_pI (by first | exact ka_same | assumption | exact ka_ne1 (by first | assumption | exact Ne.symm (by assumption)) (by first | exact ka_same | assumption | exact ka_ne1 (by first | assumption | exact Ne.symm (by assumption)) (by first | exact ka_same | assumption | exact ka_ne1 (by first | assumption | exact Ne.symm (by assumption)) (by first | exact ka_same | assumption | exact ka_ne1 (by first | assumption | exact Ne.symm (by assumption)) (by first | exact ka_same | assumption | exact ka_ne1 (by first | assumption | exact Ne.symm (by assumption)) (by first | exact ka_same | assumption | exact ka_ne1 (by first | assumption | exact Ne.symm (by assumption)) (by first | exact ka_same | assumption))))))) rfl rfl (Nat.le_of_ble_eq_true rfl) ?_
    refine ka_pure ⟨rfl, ?_⟩
    rw [ka_up_up]
    rfl
  · obtain ⟨rfl, rfl⟩ := hp
    refine ka_gI (by first | exact ka_same | assumption | exact ka_ne1 (by first | assumption | exact Ne.symm (by assumption)) (by first | exact ka_same | assumption | exact ka_ne1 (by first | assumption | exact Ne.symm (by assumption)) (by first | exact ka_same | assumption | exact ka_ne1 (by first | assumption | exact Ne.symm (by assumption)) (by first | exact ka_same | assumption | exact ka_ne1 (by first | assumption | exact Ne.symm (by assumption)) (by first | exact ka_same | assumption | exact ka_ne1 (by first | assumption | exact Ne.symm (by assumption)) (by first | exact ka_same | assumption | exact ka_ne1 (by first | assumption | exact Ne.symm (by assumption)) (by first | exact ka_same | assumption))))))) rfl rfl ?_
    refine ka_pI (by first | exact ka_same | assumption | exact ka_ne1 (by first | assumption | exact Ne.symm (by assumption)) (by first | exact ka_same | assumption | exact ka_ne1 (by first | assumption | exact Ne.symm (by assumption)) (by first | exact ka_same | assumption | exact ka_ne1 (by first | assumption | exact Ne.symm (by assumption)) (by first | exact ka_same | assumption | exact ka_ne1 (by first | assumption | exact Ne.symm (by assumption)) (by first | exact ka_same | assumption | exact ka_ne1 (by first | assumption | exact Ne.symm (by assumption)) (by first | exact ka_same | assumption | exact ka_ne1 (by first | assumption | exact Ne.symm (by assumption)) (by first | exact ka_same | assumption))))))) rfl rfl (Nat.le_of_ble_eq_true rfl) ?_
    refine ka_pure ⟨rfl, ?_⟩
    rw [ka_up_up]
    rfl
theorem kcp_newS {a : Nat} {g m : Int32} (hE : ka_E0 Z) (ha : K a = some (ka_ob 7 kz_Rosary)) (hw : 8 ≤ w) : ka_T Z (pm_X8_init_2 (some a) g m) w K (fun _ w' H' => w' = w - 8 ∧ ∃ l mc, K l = none ∧ H' = ka_up (ka_up K l (ka_ls mc [])) a (ka_ob 7 [.ref l, .int g, .int m, .int 0])) := by
  unfold pm_X8_init_2
  refine ka_nn (ka_call (kb_init hE ha (Or.inr (Or.inl rfl)) hw) (fun _ w' H' hp => ?_))
  obtain ⟨rfl, l, mc, hl, rfl⟩ := hp
  refine ka_pI (by first | exact ka_same | assumption | exact ka_ne1 (by first | assumption | exact Ne.symm (by assumption)) (by first | exact ka_same | assumption | exact ka_ne1 (by first | assumption | exact Ne.symm (by assumption)) (by first | exact ka_same | assumption | exact ka_ne1 (by first | assumption | exact Ne.symm (by assumption)) (by first | exact ka_same | assumption | exact ka_ne1 (by first | assumption | exact Ne.symm (by assumption)) (by first | exact ka_same | assumption | exact ka_ne1 (by first | assumption | exact Ne.symm (by assumption)) (by first | exact ka_same | assumption | exact ka_ne1 (by first | assumption | exact Ne.symm (by assumption)) (by first | exact ka_same | assumption))))))) rfl rfl (Nat.le_of_ble_eq_true rfl) ?_
  refine ka_pI (by first | exact ka_same | assumption | exact ka_ne1 (by first | assumption | exact Ne.symm (by assumption)) (by first | exact ka_same | assumption | exact ka_ne1 (by first | assumption | exact Ne.symm (by assumption)) (by first | exact ka_same | assumption | exact ka_ne1 (by first | assumption | exact Ne.symm (by assumption)) (by first | exact ka_same | assumption | exact ka_ne1 (by first | assumption | exact Ne.symm (by assumption)) (by first | exact ka_same | assumption | exact ka_ne1 (by first | assumption | exact Ne.symm (by assumption)) (by first | exact ka_same | assumption | exact ka_ne1 (by first | assumption | exact Ne.symm (by assumption)) (by first | exact ka_same | assumption))))))) rfl rfl (Nat.le_of_ble_eq_true rfl) ?_
  refine ka_pure ⟨rfl, l, mc, hl, ?_⟩
  rw [ka_up_up, ka_up_up]
  rfl
theorem kcp_S {a : Nat} {r : kS} (hE : ka_E0 Z) (ha : K a = some (ka_ob 7 kz_Rosary)) (hr : K r.1 = some (kc_S r)) (hL : kb_L K r.2.1 r.bs) (hn : r.1 ≠ a) (hlen : r.bs.length ≤ 240) (hw : 708 ≤ w) : ka_T Z (pm_X8_init (some a) (some r.1)) w K (fun _ w' H' => w ≤ w' + 708 ∧ ∃ l mc, K l = none ∧ l ≠ a ∧ H' = ka_up (ka_up K l (ka_ls mc (r.bs.map (·.1)))) a (kc_S (a, l, r.2.2))) := by
  unfold pm_X8_init
  refine ka_gI (by first | exact ka_same | assumption | exact ka_ne1 (by first | assumption | exact Ne.symm (by assumption)) (by first | exact ka_same | assumption | exact ka_ne1 (by first | assumption | exact Ne.symm (by assumption)) (by first | exact ka_same | assumption | exact ka_ne1 (by first | assumption | exact Ne.symm (by assumption)) (by first | exact ka_same | assumption | exact ka_ne1 (by first | assumption | exact Ne.symm (by assumption)) (by first | exact ka_same | assumption | exact ka_ne1 (by first | assumption | exact Ne.symm (by assumption)) (by first | exact ka_same | assumption | exact ka_ne1 (by first | assumption | exact Ne.symm (by assumption)) (by first | exact ka_same | assumption))))))) rfl rfl ?_
  refine ka_gI (by first | exact ka_same | assumption | exact ka_ne1 (by first | assumption | exact Ne.symm (by assumption)) (by first | exact ka_same | assumption | exact ka_ne1 (by first | assumption | exact Ne.symm (by assumption)) (by first | exact ka_same | assumption | exact ka_ne1 (by first | assumption | exact Ne.symm (by assumption)) (by first | exact ka_same | assumption | exact ka_ne1 (by first | assumption | exact Ne.symm (by assumption)) (by first | exact ka_same | assumption | exact ka_ne1 (by first | assumption | exact Ne.symm (by assumption)) (by first | exact ka_same | assumption | exact ka_ne1 (by first | assumption | exact Ne.symm (by assumption)) (by first | exact ka_same | assumption))))))) rfl rfl ?_
  refine ka_nn (ka_call (kcp_newS hE ha (by omega)) (fun _ w' H' hp => ?_))
  obtain ⟨rfl, l, mc, hl, rfl⟩ := hp
  have hrl : r.1 ≠ l := ka_dom hr hl
  have hal : a ≠ l := ka_dom ha hl
  have hla := hal.symm
  refine ka_gI (by first | exact ka_same | assumption | exact ka_ne1 (by first | assumption | exact Ne.symm (by assumption)) (by first | exact ka_same | assumption | exact ka_ne1 (by first | assumption | exact Ne.symm (by assumption)) (by first | exact ka_same | assumption | exact ka_ne1 (by first | assumption | exact Ne.symm (by assumption)) (by first | exact ka_same | assumption | exact ka_ne1 (by first | assumption | exact Ne.symm (by assumption)) (by first | exact ka_same | assumption | exact ka_ne1 (by first | assumption | exact Ne.symm (by assumption)) (by first | exact ka_same | assumption | exact ka_ne1 (by first | assumption | exact Ne.symm (by assumption)) (by first | exact ka_same | assumption))))))) rfl rfl ?_
  refine ka_pI (by first | exact ka_same | assumption | exact ka_ne1 (by first | assumption | exact Ne.symm (by assumption)) (by first | exact ka_same | assumption | exact ka_ne1 (by first | assumption | exact Ne.symm (by assumption)) (by first | exact ka_same | assumption | exact ka_ne1 (by first | assumption | exact Ne.symm (by assumption)) (by first | exact ka_same | assumption | exact ka_ne1 (by first | assumption | exact Ne.symm (by assumption)) (by first | exact ka_same | assumption | exact ka_ne1 (by first | assumption | exact Ne.symm (by assumption)) (by first | exact ka_same | assumption | exact ka_ne1 (by first | assumption | exact Ne.symm (by assumption)) (by first | exact ka_same | assumption))))))) rfl rfl (Nat.le_of_ble_eq_true rfl) ?_
  rw [ka_up_up]
  refine ka_is (by first | exact ka_same | assumption | exact ka_ne1 (by first | assumption | exact Ne.symm (by assumption)) (by first | exact ka_same | assumption | exact ka_ne1 (by first | assumption | exact Ne.symm (by assumption)) (by first | exact ka_same | assumption | exact ka_ne1 (by first | assumption | exact Ne.symm (by assumption)) (by first | exact ka_same | assumption | exact ka_ne1 (by first | assumption | exact Ne.symm (by assumption)) (by first | exact ka_same | assumption | exact ka_ne1 (by first | assumption | exact Ne.symm (by assumption)) (by first | exact ka_same | assumption | exact ka_ne1 (by first | assumption | exact Ne.symm (by assumption)) (by first | exact ka_same | assumption))))))) rfl ?_
  obtain ⟨⟨mc2, h2⟩, hb⟩ := hL
  have hkl : r.2.1 ≠ l := ka_dom h2 hl
  have hka : r.2.1 ≠ a := ka_kinds h2 ha (by simp)
  refine ka_call (kb_becomes (l := l) (l2 := r.2.1) (mc := mc) (mc2 := mc2) (xs := []) (ys := r.bs.map (·.1)) ⟨7, _, ka_same, Or.inr (Or.inl rfl)⟩ ⟨7, _, (ka_ne hn).trans ((ka_ne hrl).trans hr), Or.inr (Or.inl rfl)⟩ (by first | exact ka_same | assumption | exact ka_ne1 (by first | assumption | exact Ne.symm (by assumption)) (by first | exact ka_same | assumption | exact ka_ne1 (by first | assumption | exact Ne.symm (by assumption)) (by first | exact ka_same | assumption | exact ka_ne1 (by first | assumption | exact Ne.symm (by assumption)) (by first | exact ka_same | assumption | exact ka_ne1 (by first | assumption | exact Ne.symm (by assumption)) (by first | exact ka_same | assumption | exact ka_ne1 (by first | assumption | exact Ne.symm (by assumption)) (by first | exact ka_same | assumption | exact ka_ne1 (by first | assumption | exact Ne.symm (by assumption)) (by first | exact ka_same | assumption))))))) (by first | exact ka_same | assumption | exact ka_ne1 (by first | assumption | exact Ne.symm (by assumption)) (by first | exact ka_same | assumption | exact ka_ne1 (by first | assumption | exact Ne.symm (by assumption)) (by first | exact ka_same | assumption | exact ka_ne1 (by first | assumption | exact Ne.symm (by assumption)) (by first | exact ka_same | assumption | exact ka_ne1 (by first | assumption | exact Ne.symm (by assumption)) (by first | exact ka_same | assumption | exact ka_ne1 (by first | assumption | exact Ne.symm (by assumption)) (by first | exact ka_same | assumption | exact ka_ne1 (by first | assumption | exact Ne.symm (by assumption)) (by first | exact ka_same | assumption))))))) (by simpa using hlen) (by omega)) (fun _ w' H' hp => ?_)
  obtain ⟨hw', rfl⟩ := hp
  refine ka_pure ⟨by omega, l, mc + 1, hl, hla, ?_⟩
  rw [ka_up_comm hal, ka_up_up]
  rfl
/-- the carvers -/
theorem kcp_carvers {B : List kLn × List kB × List kS × List kP × List kDp × List kDp × (Nat → Bool) × (Nat → Int32)} {w0 : Nat} {mc : Int32} (hsrc : kc_shop H0 o ad2 A2) (hit0 : H0 it = none) (hl : H0 (ad2 0) = some (ka_ls mc (A2.cs.map (·.1)))) (hlen : A2.cs.length ≤ 100)
    (hend : ∀ (K : ka_H) (cs' : List kC) (v : Nat), kc_mut H0 K s ad (cs', B) → cs'.map (·.2) = A2.cs.map (·.2) → w0 ≤ v → ka_T Z (km_bind (km_gR [(1, 1)] (some o)) fun r2 => km_bind (km_is 30 r2) fun _ => km_bind (pm_J2_iterator r2) fun r3 => pb_X1_init_2_146 km_fuel (some s) (some o) r3) v K Q) :
    ∀ (rest done cs' : List kC) (K : ka_H) (lr : Int32) (v fuel : Nat), A2.cs = done ++ rest → rest.length < fuel → kc_mut H0 K s ad (cs', B) → cs'.map (·.2) = done.map (·.2) → K it = some (ka_it done.length lr mc (ad2 0)) → w0 + 420 * rest.length ≤ v → ka_T Z (pb_X1_init_2_100 fuel (some s) (some o) (some it)) v K Q := by
  intro rest
  induction rest with
  | nil =>
    intro done cs' K lr v fuel hA hf hM hcs hit hv
    obtain ⟨fuel, rfl⟩ : ∃ n, fuel = n + 1 := ⟨fuel - 1, by omega⟩
    have hlK := hM.1 _ _ hl
    have hA1 : done.length = A2.cs.length := by rw [hA, List.append_nil]
    unfold pb_X1_init_2_100
    refine kl_dHas hit hlK (by omega) (by rw [List.length_map]; omega) ?_
    rw [List.length_map, if_pos hA1]
    refine ka_ifP rfl (hend K cs' v hM ?_ (by omega))
    rw [hcs, hA, List.append_nil]
  | cons c t ih =>
    intro done cs' K lr v fuel hA hf hM hcs hit hv
    obtain ⟨fuel, rfl⟩ : ∃ n, fuel = n + 1 := ⟨fuel - 1, by omega⟩
    have hlK := hM.1 _ _ hl
    have hAl : A2.cs.length = done.length + (t.length + 1) := by rw [hA, List.length_append]; rfl
    have hcl : cs'.length = done.length := by have := congrArg List.length hcs; simpa using this
    have hc : c ∈ A2.cs := by rw [hA]; simp
    have hc0 := kg_c hsrc hc
    simp only [List.length_cons] at hv hf
    unfold pb_X1_init_2_100
    refine kl_dHas hit hlK (by omega) (by rw [List.length_map]; omega) ?_
    rw [List.length_map, if_neg (show ¬ done.length = A2.cs.length by omega)]
    refine ka_ifN (by decide) ?_
    refine kl_dNext (v := c.1) hit hlK (by rw [hA]; simp) ?_
    have hM1 := ku_it (o' := ka_it (done.length + 1) (Int32.ofNat done.length) mc (ad2 0)) hM hit (Or.inl rfl) hit0
    have hc1 := hM1.1 _ _ hc0
    refine ka_cast hc1 rfl rfl ?_
    refine ka_gR (kg_s hM1.2.1) rfl rfl ?_
    refine ka_new (by omega) (fun a ha => ?_)
    refine ka_nn (ka_call (kcp_C ka_same ((ka_ne (ka_dom hc1 ha)).trans hc1) (ka_dom hc1 ha)) (fun _ v2 K2 hp => ?_))
    obtain ⟨rfl, rfl⟩ := hp
    rw [ka_up_up]
    have ha0 : H0 a = none := by
      cases h : H0 a with
      | none => rfl
      | some q => rw [hM1.1 _ _ h] at ha; cases ha
    have hM2 := ku_new (o := kc_C (a, c.2)) hM1 ha
    obtain ⟨mc1, hls⟩ := kg_cs hM2.2.1
    refine ka_is hls rfl ?_
    refine ka_call (kl_add hls ka_same rfl (by rw [List.length_map]; show cs'.length ≤ 240; omega) (by omega)) (fun _ v3 K3 hp => ?_)
    obtain ⟨-, hv3, rfl⟩ := hp
    have hM3 := ku_addC (mc := mc1 + 1) (c := (a, c.2)) hM2 ka_same ha0 (ku_notin hM1.2.1 ha).1
    refine ih (done ++ [c]) (cs' ++ [(a, c.2)]) _ (Int32.ofNat done.length) v3 fuel (by rw [hA]; simp) (by omega) hM3 (by simp [hcs]) ?_ (by omega)
    have e1 : it ≠ a := ka_dom (o := ka_it (done.length + 1) (Int32.ofNat done.length) mc (ad2 0)) ka_same ha
    have e2 : it ≠ ad 0 := ka_kinds ((ka_ne e1).trans ka_same) hls (by simp)
    rw [List.length_append]
    exact (ka_ne e2).trans ((ka_ne e1).trans ka_same)
/-- the lenses -/
theorem kcp_lenses {C : List kC} {B : List kB × List kS × List kP × List kDp × List kDp × (Nat → Bool) × (Nat → Int32)} {w0 : Nat} {mc : Int32} (hsrc : kc_shop H0 o ad2 A2) (hit0 : H0 it = none) (hl : H0 (ad2 1) = some (ka_ls mc (A2.ls.map (·.1)))) (hlen : A2.ls.length ≤ 100)
    (hend : ∀ (K : ka_H) (ls' : List kLn) (v : Nat), kc_mut H0 K s ad (C, ls', B) → ls'.map (·.2) = A2.ls.map (·.2) → w0 ≤ v → ka_T Z (km_bind (km_gR [(1, 2)] (some s)) fun r2 => km_bind (km_gR [(1, 2)] (some o)) fun r3 => km_bind (km_disp r2 [(2, pm_X2_becomes r2 r3), (7, pm_X2_becomes r2 r3), (12, pm_X2_becomes r2 r3)]) fun _ => km_bind (km_gR [(1, 3)] (some o)) fun r4 => km_bind (km_is 30 r4) fun _ => km_bind (pm_J2_iterator r4) fun r5 => pb_X1_init_2_203 km_fuel (some s) (some o) r5) v K Q) :
    ∀ (rest done ls' : List kLn) (K : ka_H) (lr : Int32) (v fuel : Nat), A2.ls = done ++ rest → rest.length < fuel → kc_mut H0 K s ad (C, ls', B) → ls'.map (·.2) = done.map (·.2) → K it = some (ka_it done.length lr mc (ad2 1)) → w0 + 420 * rest.length ≤ v → ka_T Z (pb_X1_init_2_146 fuel (some s) (some o) (some it)) v K Q := by
  intro rest
  induction rest with
  | nil =>
    intro done cs' K lr v fuel hA hf hM hcs hit hv
    obtain ⟨fuel, rfl⟩ : ∃ n, fuel = n + 1 := ⟨fuel - 1, by omega⟩
    have hlK := hM.1 _ _ hl
    have hA1 : done.length = A2.ls.length := by rw [hA, List.append_nil]
    unfold pb_X1_init_2_146
    refine kl_dHas hit hlK (by omega) (by rw [List.length_map]; omega) ?_
    rw [List.length_map, if_pos hA1]
    refine ka_ifP rfl (hend K cs' v hM ?_ (by omega))
    rw [hcs, hA, List.append_nil]
  | cons c t ih =>
    intro done cs' K lr v fuel hA hf hM hcs hit hv
    obtain ⟨fuel, rfl⟩ : ∃ n, fuel = n + 1 := ⟨fuel - 1, by omega⟩
    have hlK := hM.1 _ _ hl
    have hAl : A2.ls.length = done.length + (t.length + 1) := by rw [hA, List.length_append]; rfl
    have hcl : cs'.length = done.length := by have := congrArg List.length hcs; simpa using this
    have hc : c ∈ A2.ls := by rw [hA]; simp
    have hc0 := kg_l hsrc hc
    simp only [List.length_cons] at hv hf
    unfold pb_X1_init_2_146
    refine kl_dHas hit hlK (by omega) (by rw [List.length_map]; omega) ?_
    rw [List.length_map, if_neg (show ¬ done.length = A2.ls.length by omega)]
    refine ka_ifN (by decide) ?_
    refine kl_dNext (v := c.1) hit hlK (by rw [hA]; simp) ?_
    have hM1 := ku_it (o' := ka_it (done.length + 1) (Int32.ofNat done.length) mc (ad2 1)) hM hit (Or.inl rfl) hit0
    have hc1 := hM1.1 _ _ hc0
    refine ka_cast hc1 rfl rfl ?_
    refine ka_gR (kg_s hM1.2.1) rfl rfl ?_
    refine ka_new (by omega) (fun a ha => ?_)
    refine ka_nn (ka_call (kcp_L ka_same ((ka_ne (ka_dom hc1 ha)).trans hc1) (ka_dom hc1 ha)) (fun _ v2 K2 hp => ?_))
    obtain ⟨rfl, rfl⟩ := hp
    rw [ka_up_up]
    have ha0 : H0 a = none := by
      cases h : H0 a with
      | none => rfl
      | some q => rw [hM1.1 _ _ h] at ha; cases ha
    have hM2 := ku_new (o := kc_L (a, c.2)) hM1 ha
    obtain ⟨mc1, hls⟩ := kg_ls hM2.2.1
    refine ka_is hls rfl ?_
    refine ka_call (kl_add hls ka_same rfl (by rw [List.length_map]; show cs'.length ≤ 240; omega) (by omega)) (fun _ v3 K3 hp => ?_)
    obtain ⟨-, hv3, rfl⟩ := hp
    have hM3 := ku_addL (mc := mc1 + 1) (c := (a, c.2)) hM2 ka_same ha0 (ku_notin hM1.2.1 ha).2.1
    refine ih (done ++ [c]) (cs' ++ [(a, c.2)]) _ (Int32.ofNat done.length) v3 fuel (by rw [hA]; simp) (by omega) hM3 (by simp [hcs]) ?_ (by omega)
    have e1 : it ≠ a := ka_dom (o := ka_it (done.length + 1) (Int32.ofNat done.length) mc (ad2 1)) ka_same ha
    have e2 : it ≠ ad 1 := ka_kinds ((ka_ne e1).trans ka_same) hls (by simp)
    rw [List.length_append]
    exact (ka_ne e2).trans ((ka_ne e1).trans ka_same)
end KCP
