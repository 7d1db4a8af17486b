set_option maxRecDepth 100000
/-! ===== the twin: what is kept, what ends a change ===== -/
theorem k3_mul {a b : Nat} : Int32.ofNat a * Int32.ofNat b = Int32.ofNat (a * b) := (Int32.ofNat_mul a b).symm
/-- reasons and details tell a refusal -/
def kc_ch (rs ds : Nat → Int32) (ch : List (Int32 × Int32)) : Prop := ch ≠ [] ∧ ch.length ≤ 3 ∧ ∀ i, i < 3 → match ch[i]? with
  | some p => rs i = p.1 ∧ ds i = p.2 ∧ p.1 ≠ 0
  | none => rs i = 0
def kc_rf (rs ds : Nat → Int32) (rf : Option (List (Int32 × Int32))) : Prop := match rf with
  | none => rs 0 = 0
  | some ch => kc_ch rs ds ch
def kR_bef (g : Nat → Int32) (n : Int32) (bef : List kV) : Prop := bef.length ≤ 8 ∧ n = Int32.ofNat bef.length ∧ ∀ i V, bef[i]? = some V → keP (fun p => g (2188 * i + p)) V
def kR0 (T : kT) (X : vX) : Prop := kR_bef (T.1 3) (T.2 4) X.bef ∧ (T.2 5 = (match X.sav with | none => 0 | some _ => 1) ∧ ∀ V, X.sav = some V → keP (T.1 2) V) ∧ (T.2 9 = Int32.ofNat X.line.length ∧ ∀ i c, X.line[i]? = some c → T.1 8 i = c) ∧ (T.2 13 = Int32.ofNat X.inp.length ∧ ∀ i c, X.inp[i]? = some c → T.1 11 i = c) ∧ T.2 17 = X.fault
/-- the twin is as the class -/
def kR (T : kT) (X : vX) : Prop := keP (T.1 0) X.now ∧ kc_rf (T.1 6) (T.1 7) X.rf ∧ kR0 T X
/-- how many there may be, everywhere -/
def vX_sz (X : vX) : Prop := v_sz X.now ∧ (∀ V ∈ X.bef, v_sz V) ∧ ∀ V, X.sav = some V → v_sz V
def kt_res (T : kT) (X : vX) (res : vR) : Prop := match res with
  | .inl ch => keP (T.1 0) X.now ∧ kc_ch (T.1 6) (T.1 7) ch
  | .inr (v, V') => vt_err v = 0 ∧ keP (T.1 0) V' ∧ kc_rf (T.1 6) (T.1 7) X.rf
section KTE
variable {Z : ka_Z} {w : Nat} {G : ka_H} {m : Nat} {ad : Nat → Nat} {T : kT} {X : vX}
theorem kt_keeps (hs : kt_sep m ad) : ka_T Z (pm_X3_keeps (some m)) w (kt G m ad T) (ka_V w (kt G m ad (kt_set T 1 (vt_cp (T.1 0) (T.1 1) 0 0 2188))) ()) := by
  unfold pm_X3_keeps
  refine kt_g0 (kt_g1 ?_)
  refine ka_mv (kt_copies (j := 0) (k := 1) (a := 0) (b := 0) (n := 2188) hs (by decide) (by decide) (Nat.le_of_ble_eq_true rfl) (Nat.le_of_ble_eq_true rfl) (Or.inl (by decide)) (by omega)) (ka_pure ⟨rfl, rfl, rfl⟩)
theorem vt_cp_in {f g : Nat → Int32} {a b n p : Nat} (h1 : b ≤ p) (h2 : p < b + n) : vt_cp f g a b n p = f (a + (p - b)) := if_pos ⟨h1, h2⟩
theorem vt_cp_out {f g : Nat → Int32} {a b n p : Nat} (h : p < b ∨ b + n ≤ p) : vt_cp f g a b n p = g p := if_neg (by omega)
theorem kt_shift (hs : kt_sep m ad) {g0 : Nat → Int32} : ∀ (d k fuel : Nat) (g : Nat → Int32) (Q : Unit → Nat → ka_H → Prop), k + d = 8 → 1 ≤ k → d < fuel → (∀ i p, i + 1 < k → p < 2188 → g (2188 * i + p) = g0 (2188 * (i + 1) + p)) → (∀ q, 2188 * (k - 1) ≤ q → g q = g0 q) → (∀ g', (∀ i p, i < 7 → p < 2188 → g' (2188 * i + p) = g0 (2188 * (i + 1) + p)) → ka_T Z (pb_X3_changed_59 (some m)) w (kt G m ad (kt_num (kt_set T 3 g') 4 (T.2 4 - 1))) Q) → ka_T Z (pb_X3_changed_11 fuel (some m) (Int32.ofNat k)) w (kt G m ad (kt_set T 3 g)) Q := by
  intro d
  induction d with
  | zero =>
    intro k fuel g Q hk hk1 hf h1 h2 kk
    obtain ⟨fuel, rfl⟩ : ∃ n, fuel = n + 1 := ⟨fuel - 1, by omega⟩
    unfold pb_X3_changed_11
    refine ka_ifP ((k3_le (a := 8) (by omega) (by omega)).mpr (by omega)) (kt_gI 4 (Or.inl rfl) (kt_pI 4 (Or.inl rfl) rfl ?_))
    exact kk g (fun i p hi hp => h1 i p (by omega) hp)
  | succ d ih =>
    intro k fuel g Q hk hk1 hf h1 h2 kk
    obtain ⟨fuel, rfl⟩ : ∃ n, fuel = n + 1 := ⟨fuel - 1, by omega⟩
    unfold pb_X3_changed_11
    refine ka_ifN (fun z => by have := (k3_le (a := 8) (by omega) (by omega)).mp z; omega) (kt_g3 (kt_g3 ?_))
    rw [k3_pred hk1]
    have e1 : (2188 : Int32) * Int32.ofNat k = Int32.ofNat (2188 * k) := k3_mul (a := 2188)
    have e2 : (2188 : Int32) * Int32.ofNat (k - 1) = Int32.ofNat (2188 * (k - 1)) := k3_mul (a := 2188)
    rw [e1, e2, k3_succ]
    have h3 : kt_sz 3 = 17504 := rfl
    refine ka_mv (kt_copies (j := 3) (k := 3) (a := 2188 * k) (b := 2188 * (k - 1)) (n := 2188) hs (by decide) (by decide) (by omega) (by omega) (Or.inr (Or.inl (by omega))) (by omega)) ?_
    rw [kt_set_set, kt_set_same]
    refine ih (k + 1) fuel _ Q (by omega) (by omega) (by omega) (fun i p hi hp => ?_) (fun q hq => ?_) kk
    · by_cases he : i + 1 = k
      · rw [vt_cp_in (by rw [← he]; simp) (by rw [← he]; simp; omega), h2 _ (by rw [← he]; simp; omega)]
        congr 1
        rw [← he]
        simp
      · have hi2 : i + 2 ≤ k := by omega
        rw [vt_cp_out (Or.inl (by omega)), h1 i p (by omega) hp]
    · simp only [Nat.add_sub_cancel] at hq
      rw [vt_cp_out (Or.inr (by omega)), h2 q (by omega)]
theorem kt_put (hs : kt_sep m ad) {g : Nat → Int32} {n : Nat} (hn : n < 8) (hg : T.1 3 = g) (hN : T.2 4 = Int32.ofNat n) : ka_T Z (pb_X3_changed_59 (some m)) w (kt G m ad T) (ka_V w (kt G m ad (kt_num (kt_set T 3 (vt_cp (T.1 1) g 0 (2188 * n) 2188)) 4 (Int32.ofNat (n + 1)))) ()) := by
  unfold pb_X3_changed_59
  refine kt_g1 (kt_g3 (kt_gI 4 (Or.inl rfl) ?_))
  rw [hN]
  have e1 : (2188 : Int32) * Int32.ofNat n = Int32.ofNat (2188 * n) := k3_mul (a := 2188)
  rw [e1]
  have h3 : kt_sz 3 = 17504 := rfl
  have h4 : kt_sz 1 = 2188 := rfl
  refine ka_mv (kt_copies (j := 1) (k := 3) (a := 0) (b := 2188 * n) (n := 2188) hs (by decide) (by decide) (by omega) (by omega) (Or.inl (by decide)) (by omega)) (kt_gI 4 (Or.inl rfl) ?_)
  have e2 : (kt_set T 3 (vt_cp (T.1 1) (T.1 3) 0 (2188 * n) 2188)).2 4 = Int32.ofNat n := hN
  rw [e2, k3_succ, hg]
  exact kt_pI 4 (Or.inl rfl) rfl (ka_pure ⟨rfl, rfl, rfl⟩)
theorem kt_changed (hs : kt_sep m ad) {bef : List kV} {V : kV} (hb : kR_bef (T.1 3) (T.2 4) bef) (hz : ∀ W ∈ bef, v_sz W) (hV : keP (T.1 1) V) (hzV : v_sz V) : ka_T Z (pm_X3_changed (some m)) w (kt G m ad T) (fun _ w' H' => w' = w ∧ ∃ g n, H' = kt G m ad (kt_num (kt_set T 3 g) 4 n) ∧ kR_bef g n (v_push bef V)) := by
  obtain ⟨hb1, hb2, hb3⟩ := hb
  have hput : ∀ (g : Nat → Int32) (l : List kV) (n : Nat), l.length = n → n < 8 → (∀ i W, l[i]? = some W → keP (fun p => g (2188 * i + p)) W ∧ v_sz W) → kR_bef (vt_cp (T.1 1) g 0 (2188 * n) 2188) (Int32.ofNat (n + 1)) (l ++ [V]) := by
    intro g l n hl hn h
    refine ⟨by rw [List.length_append]; simp only [List.length_cons, List.length_nil]; omega, by rw [List.length_append, hl]; rfl, fun i W hi => ?_⟩
    by_cases he : i < n
    · rw [List.getElem?_append_left (by omega)] at hi
      exact keP_cong (h i W hi).1 (h i W hi).2 (fun p hp => vt_cp_out (Or.inl (by omega)))
    · have hi2 := ke_get_lt hi
      rw [List.length_append] at hi2
      simp only [List.length_cons, List.length_nil] at hi2
      have e : i = n := by omega
      subst e
      rw [← hl, List.getElem?_append_right (Nat.le_refl _), Nat.sub_self] at hi
      cases hi
      exact keP_cong hV hzV (fun p hp => by rw [vt_cp_in (by omega) (by omega), Nat.zero_add, Nat.add_sub_cancel_left])
  unfold pm_X3_changed
  refine kt_gI 4 (Or.inl rfl) ?_
  rw [hb2]
  by_cases h8 : bef.length = 8
  · refine ka_ifN (fun z => z (by rw [h8]; rfl)) ?_
    have e0 : T = kt_set T 3 (T.1 3) := kt_set_id.symm
    rw [e0]
    refine kt_shift (T := T) (g0 := T.1 3) hs 7 1 km_fuel (T.1 3) _ rfl (Nat.le_refl _) (by unfold km_fuel; omega) (fun i p hi _ => by omega) (fun q _ => rfl) (fun g' hg' => ?_)
    have hN : (kt_num (kt_set T 3 g') 4 (T.2 4 - 1)).2 4 = Int32.ofNat 7 := by
      show T.2 4 - 1 = _
      rw [hb2, h8]
      rfl
    refine ka_post (kt_put hs (n := 7) (g := g') (by omega) (kt_set_same (T := T) (k := 3) (g := g')) hN) (fun r w' H' hp => ?_)
    obtain ⟨-, rfl, rfl⟩ := hp
    refine ⟨rfl, vt_cp (T.1 1) g' 0 (2188 * 7) 2188, Int32.ofNat 8, ?_, ?_⟩
    · congr 1
      unfold kt_num kt_set
      refine Prod.ext (funext fun j => ?_) (funext fun j => ?_)
      · by_cases hj : j = 3 <;> simp [hj]
      · by_cases hj : j = 4 <;> simp [hj]
    · cases hb : bef with
      | nil => rw [hb] at h8; cases h8
      | cons W0 t =>
        rw [hb] at h8 hz hb3
        simp only [List.length_cons] at h8
        have e : v_push (W0 :: t) V = t ++ [V] := by
          unfold v_push
          rw [if_pos (by simp only [List.length_cons]; omega)]
          rfl
        rw [e]
        refine hput g' t 7 (by omega) (by omega) (fun i W hi => ?_)
        have h9 := hb3 (i + 1) W (by rw [List.getElem?_cons_succ]; exact hi)
        have hzW := hz W (List.mem_cons_of_mem _ (List.mem_of_getElem? hi))
        have hi7 := ke_get_lt hi
        exact ⟨keP_cong h9 hzW (fun p hp => hg' i p (by omega) hp), hzW⟩
  · refine ka_ifP (fun z => h8 ((k3_eq (b := 8) (by omega) (by omega)).mp z)) ?_
    refine ka_post (kt_put hs (n := bef.length) (g := T.1 3) (by omega) rfl hb2) (fun r w' H' hp => ?_)
    obtain ⟨-, rfl, rfl⟩ := hp
    refine ⟨rfl, _, _, rfl, ?_⟩
    have e : v_push bef V = bef ++ [V] := by
      unfold v_push
      rw [if_neg (by omega)]
    rw [e]
    exact hput (T.1 3) bef bef.length rfl (by omega) (fun i W hi => ⟨hb3 i W hi, hz W (List.mem_of_getElem? hi)⟩)
theorem kt_ends {res : vR} (hs : kt_sep m ad) (h0 : kR0 T X) (hz : vX_sz X) (hw : keP (T.1 1) X.now) (hres : kt_res T X res) : ka_T Z (pm_X3_ends (some m) (vx_ans res)) w (kt G m ad T) (fun r w' H' => w' = w ∧ r = vx_ans res ∧ ∃ T', H' = kt G m ad T' ∧ kR T' (vx_done X res)) := by
  unfold pm_X3_ends
  refine ka_use kt_isError ?_
  cases res with
  | inl ch => exact ka_ifP (show ¬ vt_err (-5) = 0 by decide) (ka_pure ⟨rfl, rfl, T, rfl, hres.1, hres.2, h0⟩)
  | inr p =>
    obtain ⟨v, V'⟩ := p
    obtain ⟨h1, h2, h3⟩ := hres
    refine ka_ifN (fun z => z h1) (kt_is (ka_call (kt_changed hs h0.1 hz.2.1 hw hz.1) (fun _ w' H' hp => ?_)))
    obtain ⟨rfl, g, n, rfl, hb⟩ := hp
    exact ka_pure ⟨rfl, rfl, _, rfl, h2, h3, hb, h0.2⟩
theorem kt_refuses {why d : Int32} (hs : kt_sep m ad) : ka_T Z (pm_X3_refuses (some m) why d) w (kt G m ad T) (ka_V w (kt G m ad (kt_set (kt_set T 6 (upd (upd (upd (T.1 6) 0 why) 1 0) 2 0)) 7 (upd (T.1 7) 0 d))) (-5)) := by
  unfold pm_X3_refuses
  refine kt_g6 (kt_st (j := 6) (p := 0) hs (by decide) (by decide) (kt_g7 (kt_st (j := 7) (p := 0) hs (by decide) (by decide) (kt_g6 (kt_st (j := 6) (p := 1) hs (by decide) (by decide) (kt_g6 (kt_st (j := 6) (p := 2) hs (by decide) (by decide) (ka_pure ⟨rfl, rfl, ?_⟩))))))))
  congr 1
  unfold kt_set
  refine Prod.ext (funext fun j => ?_) rfl
  by_cases h6 : j = 6
  · simp [h6]
  · by_cases h7 : j = 7
    · simp [h7]
    · simp [h6, h7]
theorem kc_ch1 {rs ds : Nat → Int32} {why d : Int32} (h : why ≠ 0) : kc_ch (upd (upd (upd rs 0 why) 1 0) 2 0) (upd ds 0 d) [(why, d)] := by
  refine ⟨by simp, Nat.le_of_ble_eq_true rfl, fun i hi => ?_⟩
  have h3 : i = 0 ∨ i = 1 ∨ i = 2 := by omega
  rcases h3 with e | e | e <;> subst e
  · exact ⟨rfl, rfl, h⟩
  · rfl
  · rfl
end KTE
