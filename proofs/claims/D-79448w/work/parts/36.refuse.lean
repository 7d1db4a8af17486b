set_option maxRecDepth 100000
/-! ===== refusals ===== -/
abbrev kr_ob (c : Option Nat) (r d : Int32) : ka_O := ka_ob 8 [va_rf c, .null, .null, .null, .null, .int 0, .int r, .int d]
/-- q is a refusal with these reasons, one behind the other -/
def kr (H : ka_H) : Nat → List (Int32 × Int32) → Prop
  | _, [] => False
  | q, [p] => ∃ c, H q = some (kr_ob c p.1 p.2) ∧ (c = none ∨ ∃ x fs, c = some x ∧ H x = some (ka_ob 13 fs))
  | q, p :: p2 :: t => ∃ x, x ≠ q ∧ H q = some (kr_ob (some x) p.1 p.2) ∧ kr H x (p2 :: t)
theorem kr_le {H G : ka_H} (k : ka_le H G) : ∀ {ch : List (Int32 × Int32)} {q : Nat}, kr H q ch → kr G q ch := by
  intro ch
  induction ch with
  | nil => intro q h; exact h
  | cons p t ih =>
    intro q h
    cases t with
    | nil =>
      obtain ⟨c, h1, h2⟩ := h
      refine ⟨c, k _ _ h1, ?_⟩
      rcases h2 with e | ⟨x, fs, e1, e2⟩
      · exact Or.inl e
      · exact Or.inr ⟨x, fs, e1, k _ _ e2⟩
    | cons p2 t =>
      obtain ⟨x, h0, h1, h2⟩ := h
      exact ⟨x, h0, k _ _ h1, ih h2⟩
section KRF
variable {Z : ka_Z} {w : Nat} {H : ka_H}
theorem kr_new {a : Nat} {r d : Int32} {c : Option Nat} (ha : H a = some (ka_ob 8 kz_Refused)) : ka_T Z (pm_X9_init_2 (some a) r d c) w H (fun _ w' H' => w' = w ∧ H' = ka_up H a (kr_ob c r d)) := by
  unfold pm_X9_init_2 pm_J7_init_2
  refine ka_nn ?_
  refine ka_call (P := fun _ w' H' => w' = w ∧ H' = ka_up H a (kr_ob c 0 0)) ?_ (fun _ w' H' hp => ?_)
  · refine ka_nn (ka_call (P := fun _ w' H' => w' = w ∧ H' = ka_up H a (kr_ob c 0 0)) ?_ (fun _ w' H' hp => ka_pure hp))
    unfold pm_J6_init_2
    refine ka_nn ?_
    refine ka_pR (by first | exact ka_same | assumption | exact ka_ne1 (by first | assumption | exact Ne.symm (by assumption)) (by first | exact ka_same | assumption | exact ka_ne1 (by first | assumption | exact Ne.symm (by assumption)) (by first | exact ka_same | assumption | exact ka_ne1 (by first | assumption | exact Ne.symm (by assumption)) (by first | exact ka_same | assumption | exact ka_ne1 (by first | assumption | exact Ne.symm (by assumption)) (by first | exact ka_same | assumption | exact ka_ne1 (by first | assumption | exact Ne.symm (by assumption)) (by first | exact ka_same | assumption | exact ka_ne1 (by first | assumption | exact Ne.symm (by assumption)) (by first | exact ka_same | assumption))))))) rfl (Nat.le_of_ble_eq_true rfl) ?_
    refine ka_k ?_
    refine ka_pR (by first | exact ka_same | assumption | exact ka_ne1 (by first | assumption | exact Ne.symm (by assumption)) (by first | exact ka_same | assumption | exact ka_ne1 (by first | assumption | exact Ne.symm (by assumption)) (by first | exact ka_same | assumption | exact ka_ne1 (by first | assumption | exact Ne.symm (by assumption)) (by first | exact ka_same | assumption | exact ka_ne1 (by first | assumption | exact Ne.symm (by assumption)) (by first | exact ka_same | assumption | exact ka_ne1 (by first | assumption | exact Ne.symm (by assumption)) (by first | exact ka_same | assumption | exact ka_ne1 (by first | assumption | exact Ne.symm (by assumption)) (by first | exact ka_same | assumption))))))) rfl (Nat.le_of_ble_eq_true rfl) ?_
    refine ka_k ?_
    refine ka_pR (by first | exact ka_same | assumption | exact ka_ne1 (by first | assumption | exact Ne.symm (by assumption)) (by first | exact ka_same | assumption | exact ka_ne1 (by first | assumption | exact Ne.symm (by assumption)) (by first | exact ka_same | assumption | exact ka_ne1 (by first | assumption | exact Ne.symm (by assumption)) (by first | exact ka_same | assumption | exact ka_ne1 (by first | assumption | exact Ne.symm (by assumption)) (by first | exact ka_same | assumption | exact ka_ne1 (by first | assumption | exact Ne.symm (by assumption)) (by first | exact ka_same | assumption | exact ka_ne1 (by first | assumption | exact Ne.symm (by assumption)) (by first | exact ka_same | assumption))))))) rfl (Nat.le_of_ble_eq_true rfl) ?_
    refine ka_ifP rfl ?_
    refine ka_pR (by first | exact ka_same | assumption | exact ka_ne1 (by first | assumption | exact Ne.symm (by assumption)) (by first | exact ka_same | assumption | exact ka_ne1 (by first | assumption | exact Ne.symm (by assumption)) (by first | exact ka_same | assumption | exact ka_ne1 (by first | assumption | exact Ne.symm (by assumption)) (by first | exact ka_same | assumption | exact ka_ne1 (by first | assumption | exact Ne.symm (by assumption)) (by first | exact ka_same | assumption | exact ka_ne1 (by first | assumption | exact Ne.symm (by assumption)) (by first | exact ka_same | assumption | exact ka_ne1 (by first | assumption | exact Ne.symm (by assumption)) (by first | exact ka_same | assumption))))))) rfl (Nat.le_of_ble_eq_true rfl) ?_
    refine ka_pR (by first | exact ka_same | assumption | exact ka_ne1 (by first | assumption | exact Ne.symm (by assumption)) (by first | exact ka_same | assumption | exact ka_ne1 (by first | assumption | exact Ne.symm (by assumption)) (by first | exact ka_same | assumption | exact ka_ne1 (by first | assumption | exact Ne.symm (by assumption)) (by first | exact ka_same | assumption | exact ka_ne1 (by first | assumption | exact Ne.symm (by assumption)) (by first | exact ka_same | assumption | exact ka_ne1 (by first | assumption | exact Ne.symm (by assumption)) (by first | exact ka_same | assumption | exact ka_ne1 (by first | assumption | exact Ne.symm (by assumption)) (by first | exact ka_same | assumption))))))) rfl (Nat.le_of_ble_eq_true rfl) ?_
    refine ka_pR (by first | exact ka_same | assumption | exact ka_ne1 (by first | assumption | exact Ne.symm (by assumption)) (by first | exact ka_same | assumption | exact ka_ne1 (by first | assumption | exact Ne.symm (by assumption)) (by first | exact ka_same | assumption | exact ka_ne1 (by first | assumption | exact Ne.symm (by assumption)) (by first | exact ka_same | assumption | exact ka_ne1 (by first | assumption | exact Ne.symm (by assumption)) (by first | exact ka_same | assumption | exact ka_ne1 (by first | assumption | exact Ne.symm (by assumption)) (by first | exact ka_same | assumption | exact ka_ne1 (by first | assumption | exact Ne.symm (by assumption)) (by first | exact ka_same | assumption))))))) rfl (Nat.le_of_ble_eq_true rfl) ?_
    refine ka_ifN (by decide) ?_
    refine ka_pR (by first | exact ka_same | assumption | exact ka_ne1 (by first | assumption | exact Ne.symm (by assumption)) (by first | exact ka_same | assumption | exact ka_ne1 (by first | assumption | exact Ne.symm (by assumption)) (by first | exact ka_same | assumption | exact ka_ne1 (by first | assumption | exact Ne.symm (by assumption)) (by first | exact ka_same | assumption | exact ka_ne1 (by first | assumption | exact Ne.symm (by assumption)) (by first | exact ka_same | assumption | exact ka_ne1 (by first | assumption | exact Ne.symm (by assumption)) (by first | exact ka_same | assumption | exact ka_ne1 (by first | assumption | exact Ne.symm (by assumption)) (by first | exact ka_same | assumption))))))) rfl (Nat.le_of_ble_eq_true rfl) ?_
    refine ka_pure ⟨rfl, ?_⟩
    simp only [ka_up_up]
    rfl
  · obtain ⟨rfl, rfl⟩ := hp
    refine ka_pI (by first | exact ka_same | assumption | exact ka_ne1 (by first | assumption | exact Ne.symm (by assumption)) (by first | exact ka_same | assumption | exact ka_ne1 (by first | assumption | exact Ne.symm (by assumption)) (by first | exact ka_same | assumption | exact ka_ne1 (by first | assumption | exact Ne.symm (by assumption)) (by first | exact ka_same | assumption | exact ka_ne1 (by first | assumption | exact Ne.symm (by assumption)) (by first | exact ka_same | assumption | exact ka_ne1 (by first | assumption | exact Ne.symm (by assumption)) (by first | exact ka_same | assumption | exact ka_ne1 (by first | assumption | exact Ne.symm (by assumption)) (by first | exact ka_same | assumption))))))) rfl rfl (Nat.le_of_ble_eq_true rfl) ?_
    refine ka_pI (by first | exact ka_same | assumption | exact ka_ne1 (by first | assumption | exact Ne.symm (by assumption)) (by first | exact ka_same | assumption | exact ka_ne1 (by first | assumption | exact Ne.symm (by assumption)) (by first | exact ka_same | assumption | exact ka_ne1 (by first | assumption | exact Ne.symm (by assumption)) (by first | exact ka_same | assumption | exact ka_ne1 (by first | assumption | exact Ne.symm (by assumption)) (by first | exact ka_same | assumption | exact ka_ne1 (by first | assumption | exact Ne.symm (by assumption)) (by first | exact ka_same | assumption | exact ka_ne1 (by first | assumption | exact Ne.symm (by assumption)) (by first | exact ka_same | assumption))))))) rfl rfl (Nat.le_of_ble_eq_true rfl) ?_
    refine ka_pure ⟨rfl, ?_⟩
    simp only [ka_up_up]
    rfl
theorem kr_new0 {a : Nat} {r d : Int32} (ha : H a = some (ka_ob 8 kz_Refused)) : ka_T Z (pm_X9_init (some a) r d) w H (fun _ w' H' => w' = w ∧ H' = ka_up H a (kr_ob none r d)) := by
  unfold pm_X9_init
  exact ka_nn (ka_call (kr_new ha) (fun _ w' H' hp => ka_pure hp))
theorem ka_needsT {α : Type} {Q : (Nat ⊕ α) → Nat → ka_H → Prop} {b r d : Int32} {f : Unit → km_M (Nat ⊕ α)} (hb : b ≠ 0) (k : ka_T Z (f ()) w H Q) : ka_T Z (km_bind (pm_X0_needs b r d) (km_x Sum.inl f)) w H Q := by
  unfold pm_X0_needs
  refine ka_use (v := (Sum.inr () : Nat ⊕ Unit)) (ka_ifP hb (ka_pure ⟨rfl, rfl, rfl⟩)) ?_
  exact k
theorem ka_needsF {α : Type} {Q : (Nat ⊕ α) → Nat → ka_H → Prop} {r d : Int32} {f : Unit → km_M (Nat ⊕ α)} (hw : 13 ≤ w) (k : ∀ q, H q = none → Q (.inl q) (w - 13) (ka_up H q (kr_ob none r d))) : ka_T Z (km_bind (pm_X0_needs 0 r d) (km_x Sum.inl f)) w H Q := by
  unfold pm_X0_needs
  refine ka_call (P := fun x w' H' => ∃ q, x = Sum.inl q ∧ H q = none ∧ w' = w - 13 ∧ H' = ka_up H q (kr_ob none r d)) ?_ (fun x w' H' hp => ?_)
  · refine ka_ifN (fun h => h rfl) ?_
    refine ka_new hw (fun q hq => ?_)
    refine ka_nn (ka_call (kr_new0 ka_same) (fun _ w' H' hp => ?_))
    obtain ⟨rfl, rfl⟩ := hp
    rw [ka_up_up]
    exact ka_throw ka_same ⟨q, rfl, hq, rfl, rfl⟩
  · obtain ⟨q, rfl, hq, rfl, rfl⟩ := hp
    exact ka_pure (k q hq)
end KRF
/-- what a throwing change of a workshop answers -/
def kq_R (H0 : ka_H) (s : Nat) (ad : Nat → Nat) (w c : Nat) (x : vR) : (Nat ⊕ Int32) → Nat → ka_H → Prop := fun r w' H' => w ≤ w' + c ∧ match r, x with
  | .inl q, .inl ch => ka_le H0 H' ∧ kr H' q ch
  | .inr v, .inr (v', V') => v = v' ∧ ∃ A', kc_mut H0 H' s ad A' ∧ A'.V = V'
  | _, _ => False
/-- what a change that never throws answers -/
def kq_V (H0 : ka_H) (s : Nat) (ad : Nat → Nat) (w c : Nat) (x : Int32 × kV) : Int32 → Nat → ka_H → Prop := fun r w' H' => w ≤ w' + c ∧ r = x.1 ∧ ∃ A', kc_mut H0 H' s ad A' ∧ A'.V = x.2
theorem kq_no {H0 H : ka_H} {s : Nat} {ad : Nat → Nat} {w v c : Nat} {r d : Int32} {A : kAp} (hM : kc_mut H0 H s ad A) (hc : 13 ≤ c) (hv : v = w) (hw : 13 ≤ w) (q : Nat) (hq : H q = none) : kq_R H0 s ad w c (.inl [(r, d)]) (.inl q) (v - 13) (ka_up H q (kr_ob none r d)) := ⟨by omega, ka_le_trans hM.1 (ka_le_up hq), none, ka_same, Or.inl rfl⟩
section KOP
variable {Z : ka_Z} {w : Nat} {H0 H : ka_H} {s : Nat} {ad : Nat → Nat} {A : kAp}
theorem ko_brings {n : Int32} (hM : kc_mut H0 H s ad A) : ka_T Z (pm_X1_brings (some s) n) w H (kq_V H0 s ad w 0 (v_brings A.V n)) := by
  have hs := kg_s hM.2.1
  unfold pm_X1_brings
  refine ka_gI (by first | exact ka_same | assumption | exact ka_ne1 (by first | assumption | exact Ne.symm (by assumption)) (by first | exact ka_same | assumption | exact ka_ne1 (by first | assumption | exact Ne.symm (by assumption)) (by first | exact ka_same | assumption | exact ka_ne1 (by first | assumption | exact Ne.symm (by assumption)) (by first | exact ka_same | assumption | exact ka_ne1 (by first | assumption | exact Ne.symm (by assumption)) (by first | exact ka_same | assumption | exact ka_ne1 (by first | assumption | exact Ne.symm (by assumption)) (by first | exact ka_same | assumption | exact ka_ne1 (by first | assumption | exact Ne.symm (by assumption)) (by first | exact ka_same | assumption))))))) rfl rfl ?_
  refine ka_pI (by first | exact ka_same | assumption | exact ka_ne1 (by first | assumption | exact Ne.symm (by assumption)) (by first | exact ka_same | assumption | exact ka_ne1 (by first | assumption | exact Ne.symm (by assumption)) (by first | exact ka_same | assumption | exact ka_ne1 (by first | assumption | exact Ne.symm (by assumption)) (by first | exact ka_same | assumption | exact ka_ne1 (by first | assumption | exact Ne.symm (by assumption)) (by first | exact ka_same | assumption | exact ka_ne1 (by first | assumption | exact Ne.symm (by assumption)) (by first | exact ka_same | assumption | exact ka_ne1 (by first | assumption | exact Ne.symm (by assumption)) (by first | exact ka_same | assumption))))))) rfl rfl (Nat.le_of_ble_eq_true rfl) ?_
  refine ka_gI (by first | exact ka_same | assumption | exact ka_ne1 (by first | assumption | exact Ne.symm (by assumption)) (by first | exact ka_same | assumption | exact ka_ne1 (by first | assumption | exact Ne.symm (by assumption)) (by first | exact ka_same | assumption | exact ka_ne1 (by first | assumption | exact Ne.symm (by assumption)) (by first | exact ka_same | assumption | exact ka_ne1 (by first | assumption | exact Ne.symm (by assumption)) (by first | exact ka_same | assumption | exact ka_ne1 (by first | assumption | exact Ne.symm (by assumption)) (by first | exact ka_same | assumption | exact ka_ne1 (by first | assumption | exact Ne.symm (by assumption)) (by first | exact ka_same | assumption))))))) rfl rfl ?_
  exact ka_pure ⟨Nat.le_refl _, rfl, _, ku_num (sc' := v_num A.sc 1 (km_min 999 (A.sc 1 + n))) hM, rfl⟩
theorem ko_addC {a : Nat} {e : Int32} (hM : kc_mut H0 H s ad A) (ha : H a = some (kc_C (a, e, 0, 0, 0))) (ha0 : H0 a = none) (hn : ∀ b ∈ A.cs, b.1 ≠ a) (hl : A.cs.length ≤ 4) (hw : 500 ≤ w) : ka_T Z (pm_X1_adds (some s) (some a)) w H (kq_R H0 s ad w 500 (v_addC A.V e)) := by
  obtain ⟨mc, hcs⟩ := kg_cs hM.2.1
  have hs := kg_s hM.2.1
  unfold pm_X1_adds v_addC
  refine ka_gR (by first | exact ka_same | assumption | exact ka_ne1 (by first | assumption | exact Ne.symm (by assumption)) (by first | exact ka_same | assumption | exact ka_ne1 (by first | assumption | exact Ne.symm (by assumption)) (by first | exact ka_same | assumption | exact ka_ne1 (by first | assumption | exact Ne.symm (by assumption)) (by first | exact ka_same | assumption | exact ka_ne1 (by first | assumption | exact Ne.symm (by assumption)) (by first | exact ka_same | assumption | exact ka_ne1 (by first | assumption | exact Ne.symm (by assumption)) (by first | exact ka_same | assumption | exact ka_ne1 (by first | assumption | exact Ne.symm (by assumption)) (by first | exact ka_same | assumption))))))) rfl rfl ?_
  refine ka_is hcs rfl (ka_use (kl_size hcs) ?_)
  rw [List.length_map]
  have hVl := kvl_cs A
  by_cases h4 : 4 ≤ A.cs.length
  · rw [if_pos (show 4 ≤ A.V.cs.length by omega)]
    refine ka_ifP ((k3_le (a := 4) (by decide) (by omega)).mpr h4) ?_
    unfold pb_X1_adds_16
    exact ka_needsF (by omega) (fun q hq => kq_no hM (by omega) rfl (by omega) q hq)
  · rw [if_neg (show ¬ 4 ≤ A.V.cs.length by omega)]
    refine ka_ifN (fun z => h4 ((k3_le (a := 4) (by decide) (by omega)).mp z)) ?_
    unfold pb_X1_adds_16
    refine ka_needsT (by decide) ?_
    refine ka_gR (by first | exact ka_same | assumption | exact ka_ne1 (by first | assumption | exact Ne.symm (by assumption)) (by first | exact ka_same | assumption | exact ka_ne1 (by first | assumption | exact Ne.symm (by assumption)) (by first | exact ka_same | assumption | exact ka_ne1 (by first | assumption | exact Ne.symm (by assumption)) (by first | exact ka_same | assumption | exact ka_ne1 (by first | assumption | exact Ne.symm (by assumption)) (by first | exact ka_same | assumption | exact ka_ne1 (by first | assumption | exact Ne.symm (by assumption)) (by first | exact ka_same | assumption | exact ka_ne1 (by first | assumption | exact Ne.symm (by assumption)) (by first | exact ka_same | assumption))))))) rfl rfl ?_
    refine ka_is hcs rfl (ka_call (kl_add hcs ha rfl (by rw [List.length_map]; omega) (by omega)) (fun _ w' H' hp => ?_))
    obtain ⟨-, hw', rfl⟩ := hp
    have hM2 := ku_addC (mc := mc + 1) (c := (a, e, 0, 0, 0)) hM ha ha0 hn
    refine ka_gR (kg_s hM2.2.1) rfl rfl ?_
    refine ka_is ka_same rfl (ka_use (kl_size ka_same) (ka_pure ⟨by omega, ?_, _, hM2, ?_⟩))
    · rw [List.length_append, List.length_map, hVl]
      show Int32.ofNat (A.cs.length + 1) - 1 = _
      rw [k3_pred (by omega)]
      rfl
    · show ((A.cs ++ [(a, e, 0, 0, 0)]).map (fun c : kC => c.2), A.V.2) = (A.cs.map (fun c : kC => c.2) ++ [(e, 0, 0, 0)], A.V.2)
      rw [List.map_append]
      rfl
theorem ko_addL {a : Nat} {e : Int32} (hM : kc_mut H0 H s ad A) (ha : H a = some (kc_L (a, e, -1))) (ha0 : H0 a = none) (hn : ∀ b ∈ A.ls, b.1 ≠ a) (hl : A.ls.length ≤ 4) (hw : 500 ≤ w) : ka_T Z (pm_X1_adds_2 (some s) (some a)) w H (kq_R H0 s ad w 500 (v_addL A.V e)) := by
  obtain ⟨mc, hcs⟩ := kg_ls hM.2.1
  have hs := kg_s hM.2.1
  unfold pm_X1_adds_2 v_addL
  refine ka_gR (by first | exact ka_same | assumption | exact ka_ne1 (by first | assumption | exact Ne.symm (by assumption)) (by first | exact ka_same | assumption | exact ka_ne1 (by first | assumption | exact Ne.symm (by assumption)) (by first | exact ka_same | assumption | exact ka_ne1 (by first | assumption | exact Ne.symm (by assumption)) (by first | exact ka_same | assumption | exact ka_ne1 (by first | assumption | exact Ne.symm (by assumption)) (by first | exact ka_same | assumption | exact ka_ne1 (by first | assumption | exact Ne.symm (by assumption)) (by first | exact ka_same | assumption | exact ka_ne1 (by first | assumption | exact Ne.symm (by assumption)) (by first | exact ka_same | assumption))))))) rfl rfl ?_
  refine ka_is hcs rfl (ka_use (kl_size hcs) ?_)
  rw [List.length_map]
  have hVl := kvl_ls A
  by_cases h4 : 4 ≤ A.ls.length
  · rw [if_pos (show 4 ≤ A.V.ls.length by omega)]
    refine ka_ifP ((k3_le (a := 4) (by decide) (by omega)).mpr h4) ?_
    unfold pb_X1_adds_2_16
    exact ka_needsF (by omega) (fun q hq => kq_no hM (by omega) rfl (by omega) q hq)
  · rw [if_neg (show ¬ 4 ≤ A.V.ls.length by omega)]
    refine ka_ifN (fun z => h4 ((k3_le (a := 4) (by decide) (by omega)).mp z)) ?_
    unfold pb_X1_adds_2_16
    refine ka_needsT (by decide) ?_
    refine ka_gR (by first | exact ka_same | assumption | exact ka_ne1 (by first | assumption | exact Ne.symm (by assumption)) (by first | exact ka_same | assumption | exact ka_ne1 (by first | assumption | exact Ne.symm (by assumption)) (by first | exact ka_same | assumption | exact ka_ne1 (by first | assumption | exact Ne.symm (by assumption)) (by first | exact ka_same | assumption | exact ka_ne1 (by first | assumption | exact Ne.symm (by assumption)) (by first | exact ka_same | assumption | exact ka_ne1 (by first | assumption | exact Ne.symm (by assumption)) (by first | exact ka_same | assumption | exact ka_ne1 (by first | assumption | exact Ne.symm (by assumption)) (by first | exact ka_same | assumption))))))) rfl rfl ?_
    refine ka_is hcs rfl (ka_call (kl_add hcs ha rfl (by rw [List.length_map]; omega) (by omega)) (fun _ w' H' hp => ?_))
    obtain ⟨-, hw', rfl⟩ := hp
    have hM2 := ku_addL (mc := mc + 1) (c := (a, e, -1)) hM ha ha0 hn
    refine ka_gR (kg_s hM2.2.1) rfl rfl ?_
    refine ka_is ka_same rfl (ka_use (kl_size ka_same) (ka_pure ⟨by omega, ?_, _, hM2, ?_⟩))
    · rw [List.length_append, List.length_map, hVl]
      show Int32.ofNat (A.ls.length + 1) - 1 = _
      rw [k3_pred (by omega)]
      rfl
    · show (A.V.1, (A.ls ++ [(a, e, -1)]).map (fun c : kLn => c.2), A.V.2.2) = (A.V.1, A.ls.map (fun c : kLn => c.2) ++ [(e, -1)], A.V.2.2)
      rw [List.map_append]
      rfl
theorem ko_lensLoop {c : Int32} (hS : kc_shop H s ad A) (hl : A.ls.length ≤ 100) : ∀ (rest done : List kLn) (fuel : Nat), A.ls = done ++ rest → rest.length < fuel → ka_T Z (pb_X1_lensOf_2 fuel (some s) c (Int32.ofNat done.length)) w H (ka_V w H (v_lens c (rest.map (·.2)) done.length)) := by
  obtain ⟨mc, hls⟩ := kg_ls hS
  have hs := kg_s hS
  intro rest
  induction rest with
  | nil =>
    intro done fuel hA hf
    obtain ⟨fuel, rfl⟩ : ∃ n, fuel = n + 1 := ⟨fuel - 1, by omega⟩
    have hA1 : done.length = A.ls.length := by rw [hA, List.append_nil]
    unfold pb_X1_lensOf_2
    refine ka_gR (by first | exact ka_same | assumption | exact ka_ne1 (by first | assumption | exact Ne.symm (by assumption)) (by first | exact ka_same | assumption | exact ka_ne1 (by first | assumption | exact Ne.symm (by assumption)) (by first | exact ka_same | assumption | exact ka_ne1 (by first | assumption | exact Ne.symm (by assumption)) (by first | exact ka_same | assumption | exact ka_ne1 (by first | assumption | exact Ne.symm (by assumption)) (by first | exact ka_same | assumption | exact ka_ne1 (by first | assumption | exact Ne.symm (by assumption)) (by first | exact ka_same | assumption | exact ka_ne1 (by first | assumption | exact Ne.symm (by assumption)) (by first | exact ka_same | assumption))))))) rfl rfl ?_
    refine ka_is hls rfl (ka_use (kl_size hls) ?_)
    rw [List.length_map]
    exact ka_ifP ((k3_le (by omega) (by omega)).mpr (by omega)) (ka_pure ⟨rfl, rfl, rfl⟩)
  | cons l t ih =>
    intro done fuel hA hf
    obtain ⟨fuel, rfl⟩ : ∃ n, fuel = n + 1 := ⟨fuel - 1, by omega⟩
    have hAl : A.ls.length = done.length + (t.length + 1) := by rw [hA, List.length_append]; rfl
    have hl0 := kg_l hS (c := l) (by rw [hA]; simp)
    simp only [List.length_cons] at hf
    unfold pb_X1_lensOf_2
    refine ka_gR (by first | exact ka_same | assumption | exact ka_ne1 (by first | assumption | exact Ne.symm (by assumption)) (by first | exact ka_same | assumption | exact ka_ne1 (by first | assumption | exact Ne.symm (by assumption)) (by first | exact ka_same | assumption | exact ka_ne1 (by first | assumption | exact Ne.symm (by assumption)) (by first | exact ka_same | assumption | exact ka_ne1 (by first | assumption | exact Ne.symm (by assumption)) (by first | exact ka_same | assumption | exact ka_ne1 (by first | assumption | exact Ne.symm (by assumption)) (by first | exact ka_same | assumption | exact ka_ne1 (by first | assumption | exact Ne.symm (by assumption)) (by first | exact ka_same | assumption))))))) rfl rfl ?_
    refine ka_is hls rfl (ka_use (kl_size hls) ?_)
    rw [List.length_map]
    refine ka_ifN (fun z => absurd ((k3_le (by omega) (by omega)).mp z) (by omega)) ?_
    refine ka_gR (by first | exact ka_same | assumption | exact ka_ne1 (by first | assumption | exact Ne.symm (by assumption)) (by first | exact ka_same | assumption | exact ka_ne1 (by first | assumption | exact Ne.symm (by assumption)) (by first | exact ka_same | assumption | exact ka_ne1 (by first | assumption | exact Ne.symm (by assumption)) (by first | exact ka_same | assumption | exact ka_ne1 (by first | assumption | exact Ne.symm (by assumption)) (by first | exact ka_same | assumption | exact ka_ne1 (by first | assumption | exact Ne.symm (by assumption)) (by first | exact ka_same | assumption | exact ka_ne1 (by first | assumption | exact Ne.symm (by assumption)) (by first | exact ka_same | assumption))))))) rfl rfl ?_
    refine ka_is hls rfl (ka_use (kl_get (v := l.1) hls (by rw [hA]; simp)) ?_)
    refine ka_cast hl0 rfl rfl (ka_gI hl0 rfl rfl ?_)
    by_cases h : l.2.2 = c
    · refine ka_ifN (fun z => z h) (ka_pure ⟨?_, rfl, rfl⟩)
      show _ = v_lens c (l.2 :: t.map (·.2)) done.length
      unfold v_lens
      rw [if_pos h]
    · refine ka_ifP h ?_
      rw [k3_succ]
      have h2 := ih (done ++ [l]) fuel (by rw [hA]; simp) (by omega)
      rw [List.length_append] at h2
      show ka_T Z _ w H (ka_V w H (v_lens c (l.2 :: t.map (·.2)) done.length))
      unfold v_lens
      rw [if_neg h]
      exact h2
theorem ko_lensOf {c : Int32} (hS : kc_shop H s ad A) (hl : A.ls.length ≤ 100) : ka_T Z (pm_X1_lensOf (some s) c) w H (ka_V w H (v_lensOf A.V c)) := by
  unfold pm_X1_lensOf
  exact ko_lensLoop hS hl A.ls [] km_fuel rfl (by unfold km_fuel; omega)
theorem v_lens_spec {c : Int32} : ∀ {ls : List vL} {i : Nat}, i + ls.length < 2 ^ 30 → (v_lens c ls i = -6 ∧ ∀ l ∈ ls, l.2 ≠ c) ∨ ∃ j l, ls[j]? = some l ∧ l.2 = c ∧ v_lens c ls i = Int32.ofNat (i + j) := by
  intro ls
  induction ls with
  | nil => intro i _; exact Or.inl ⟨rfl, fun _ h => by cases h⟩
  | cons l t ih =>
    intro i hi
    unfold v_lens
    by_cases h : l.2 = c
    · rw [if_pos h]
      exact Or.inr ⟨0, l, rfl, h, rfl⟩
    · rw [if_neg h]
      rcases ih (i := i + 1) (by simp at hi; omega) with ⟨e, e2⟩ | ⟨j, l', e1, e2, e3⟩
      · refine Or.inl ⟨e, fun l' hl' => ?_⟩
        rcases List.mem_cons.mp hl' with e3 | e3
        · rw [e3]
          exact h
        · exact e2 l' e3
      · exact Or.inr ⟨j + 1, l', e1, e2, by rw [e3]; congr 1; omega⟩
theorem k3_m6 {a : Nat} (ha : a < 2 ^ 31) : Int32.ofNat a ≠ -6 := fun h => by
  have := k3_neg ha
  rw [h] at this
  exact this (by decide)
theorem ko_sight {i : Nat} (hS : kc_shop H s ad A) (hl : A.ls.length ≤ 100) (hc : A.cs.length ≤ 100) (hi : i < A.cs.length) : ka_T Z (pm_X1_sight (some s) (Int32.ofNat i)) w H (ka_V w H (v_sight A.V i)) := by
  obtain ⟨mc, hls⟩ := kg_ls hS
  obtain ⟨mc2, hcs⟩ := kg_cs hS
  have hs := kg_s hS
  have hci := List.getElem?_eq_getElem hi
  have hc0 := kg_c hS (List.getElem_mem hi)
  have hcV : A.V.cs.getD i (0, 0, 0, 0) = A.cs[i].2 := kvg_cs hci
  unfold pm_X1_sight
  refine ka_gR (by first | exact ka_same | assumption | exact ka_ne1 (by first | assumption | exact Ne.symm (by assumption)) (by first | exact ka_same | assumption | exact ka_ne1 (by first | assumption | exact Ne.symm (by assumption)) (by first | exact ka_same | assumption | exact ka_ne1 (by first | assumption | exact Ne.symm (by assumption)) (by first | exact ka_same | assumption | exact ka_ne1 (by first | assumption | exact Ne.symm (by assumption)) (by first | exact ka_same | assumption | exact ka_ne1 (by first | assumption | exact Ne.symm (by assumption)) (by first | exact ka_same | assumption | exact ka_ne1 (by first | assumption | exact Ne.symm (by assumption)) (by first | exact ka_same | assumption))))))) rfl rfl ?_
  refine ka_is hcs rfl (ka_use (kl_get (v := A.cs[i].1) hcs (by rw [List.getElem?_map, hci]; rfl)) ?_)
  refine ka_cast hc0 rfl rfl ?_
  refine ka_is (by first | exact ka_same | assumption | exact ka_ne1 (by first | assumption | exact Ne.symm (by assumption)) (by first | exact ka_same | assumption | exact ka_ne1 (by first | assumption | exact Ne.symm (by assumption)) (by first | exact ka_same | assumption | exact ka_ne1 (by first | assumption | exact Ne.symm (by assumption)) (by first | exact ka_same | assumption | exact ka_ne1 (by first | assumption | exact Ne.symm (by assumption)) (by first | exact ka_same | assumption | exact ka_ne1 (by first | assumption | exact Ne.symm (by assumption)) (by first | exact ka_same | assumption | exact ka_ne1 (by first | assumption | exact Ne.symm (by assumption)) (by first | exact ka_same | assumption))))))) rfl ?_
  refine ka_use (ko_lensOf hS hl) ?_
  refine ka_gI hc0 rfl rfl ?_
  unfold v_sight
  rw [hcV]
  rcases v_lens_spec (c := Int32.ofNat i) (ls := A.V.ls) (i := 0) (by rw [kvl_ls]; omega) with ⟨e, -⟩ | ⟨j, l, e1, e2, e3⟩
  · have e' : v_lensOf A.V (Int32.ofNat i) = -6 := e
    rw [if_pos e', e']
    refine ka_ifN (fun z => z rfl) ?_
    unfold pb_X1_sight_46
    refine ka_gI hc0 rfl rfl (ka_div (by decide) (ka_pure ⟨rfl, rfl, rfl⟩))
  · have e' : v_lensOf A.V (Int32.ofNat i) = Int32.ofNat j := by rw [Nat.zero_add] at e3; exact e3
    have hjl : j < A.ls.length := by
      have := (List.getElem?_eq_some_iff.mp e1).1
      rwa [kvl_ls] at this
    have hj6 : Int32.ofNat j ≠ -6 := k3_m6 (by omega)
    rw [if_neg (show ¬ v_lensOf A.V (Int32.ofNat i) = -6 by rw [e']; exact hj6), e']
    refine ka_ifP hj6 ?_
    have hlj := List.getElem?_eq_getElem hjl
    have hl0 := kg_l hS (List.getElem_mem hjl)
    refine ka_gR (by first | exact ka_same | assumption | exact ka_ne1 (by first | assumption | exact Ne.symm (by assumption)) (by first | exact ka_same | assumption | exact ka_ne1 (by first | assumption | exact Ne.symm (by assumption)) (by first | exact ka_same | assumption | exact ka_ne1 (by first | assumption | exact Ne.symm (by assumption)) (by first | exact ka_same | assumption | exact ka_ne1 (by first | assumption | exact Ne.symm (by assumption)) (by first | exact ka_same | assumption | exact ka_ne1 (by first | assumption | exact Ne.symm (by assumption)) (by first | exact ka_same | assumption | exact ka_ne1 (by first | assumption | exact Ne.symm (by assumption)) (by first | exact ka_same | assumption))))))) rfl rfl ?_
    refine ka_is hls rfl (ka_use (kl_get (v := A.ls[j].1) hls (by rw [List.getElem?_map, hlj]; rfl)) ?_)
    refine ka_cast hl0 rfl rfl (ka_gI hl0 rfl rfl ?_)
    unfold pb_X1_sight_46
    refine ka_gI hc0 rfl rfl (ka_div (by decide) (ka_pure ⟨?_, rfl, rfl⟩))
    rw [k3_nat (by omega), kvg_ls hlj]
end KOP
