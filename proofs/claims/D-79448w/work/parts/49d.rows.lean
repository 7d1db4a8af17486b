set_option maxRecDepth 100000
/-! ===== the twin: rows of the row ===== -/
def kt_Q (w : Nat) (G : ka_H) (m : Nat) (ad : Nat → Nat) (p : Int32 × vX) : Int32 → Nat → ka_H → Prop := fun r w' H' => w' = w ∧ r = p.1 ∧ ∃ T', H' = kt G m ad T' ∧ kR T' p.2
def vt_zero (f : Nat → Int32) (a n : Nat) : Nat → Int32 := fun p => if a ≤ p ∧ p < a + n then 0 else f p
def vt_shift (f : Nat → Int32) (a b s : Nat) : Nat → Int32 := fun p => if a ≤ p ∧ p < b then f (p + s) else f p
theorem vt_zero_in {f : Nat → Int32} {a n p : Nat} (h1 : a ≤ p) (h2 : p < a + n) : vt_zero f a n p = 0 := if_pos ⟨h1, h2⟩
theorem vt_zero_out {f : Nat → Int32} {a n p : Nat} (h : p < a ∨ a + n ≤ p) : vt_zero f a n p = f p := if_neg (by omega)
theorem vt_shift_in {f : Nat → Int32} {a b s p : Nat} (h1 : a ≤ p) (h2 : p < b) : vt_shift f a b s p = f (p + s) := if_pos ⟨h1, h2⟩
theorem vt_shift_out {f : Nat → Int32} {a b s p : Nat} (h : p < a ∨ b ≤ p) : vt_shift f a b s p = f p := if_neg (by omega)
/-- the state behind a refusal -/
def kt_no (T : kT) (why d : Int32) : kT := kt_set (kt_set T 6 (upd (upd (upd (T.1 6) 0 why) 1 0) 2 0)) 7 (upd (T.1 7) 0 d)
section KTR
variable {Z : ka_Z} {w : Nat} {G : ka_H} {m : Nat} {ad : Nat → Nat} {T : kT} {X : vX} {f : Nat → Int32}
theorem kt_keep {α : Type} {Q : α → Nat → ka_H → Prop} {k : Unit → km_M α} (hs : kt_sep m ad) (hR : kR T X) (hz : vX_sz X) (kk : ∀ T0 f, keP f X.now → kc_rf (T0.1 6) (T0.1 7) X.rf → kR0 T0 X → keP (T0.1 1) X.now → ka_T Z (k ()) w (kt G m ad (kt_set T0 0 f)) Q) : ka_T Z (km_bind (km_is 3 (some m)) fun _ => km_bind (pm_X3_keeps (some m)) k) w (kt G m ad T) Q := by
  refine kt_is (ka_mv (kt_keeps hs) ?_)
  have e : kt_set T 1 (vt_cp (T.1 0) (T.1 1) 0 0 2188) = kt_set (kt_set T 1 (vt_cp (T.1 0) (T.1 1) 0 0 2188)) 0 (T.1 0) := (kt_set_id (T := kt_set T 1 (vt_cp (T.1 0) (T.1 1) 0 0 2188)) (k := 0)).symm
  rw [e]
  refine kk _ _ hR.1 hR.2.1 hR.2.2 ?_
  refine keP_cong hR.1 hz.1 (fun p hp => ?_)
  rw [kt_set_same, vt_cp_in (Nat.zero_le _) (by omega), Nat.zero_add, Nat.sub_zero]
theorem kt_endI {v : Int32} {V' : kV} (hs : kt_sep m ad) (h0 : kR0 T X) (hz : vX_sz X) (hw : keP (T.1 1) X.now) (hrf : kc_rf (T.1 6) (T.1 7) X.rf) (hv : vt_err v = 0) (h : keP f V') : ka_T Z (km_bind (km_is 3 (some m)) fun _ => km_bind (pm_X3_ends (some m) v) fun i => km_pure i) w (kt G m ad (kt_set T 0 f)) (kt_Q w G m ad (vx_do X (.inr (v, V')))) := by
  refine kt_is (ka_call (kt_ends (X := X) (res := .inr (v, V')) (T := kt_set T 0 f) hs h0 hz hw ⟨hv, h, hrf⟩) (fun r w' H' hp => ka_pure hp))
theorem kt_endE {ch : List (Int32 × Int32)} (hs : kt_sep m ad) (h0 : kR0 T X) (hz : vX_sz X) (hw : keP (T.1 1) X.now) (hch : kc_ch (T.1 6) (T.1 7) ch) (h : keP (T.1 0) X.now) : ka_T Z (km_bind (km_is 3 (some m)) fun _ => km_bind (pm_X3_ends (some m) (-5)) fun i => km_pure i) w (kt G m ad T) (kt_Q w G m ad (vx_do X (.inl ch))) := by
  refine kt_is (ka_call (kt_ends (X := X) (res := .inl ch) (T := T) hs h0 hz hw ⟨h, hch⟩) (fun r w' H' hp => ka_pure hp))
theorem kt_endX {v : Int32} (h0 : kR0 T X) (hrf : kc_rf (T.1 6) (T.1 7) X.rf) (hv : vt_err v = 1) (h : keP (T.1 0) X.now) : ka_T Z (km_bind (km_is 3 (some m)) fun _ => km_bind (pm_X3_ends (some m) v) fun i => km_pure i) w (kt G m ad T) (kt_Q w G m ad (v, X)) := by
  refine kt_is (ka_use (v := v) ?_ (ka_pure ⟨rfl, rfl, T, rfl, h, hrf, h0⟩))
  unfold pm_X3_ends
  exact ka_use kt_isError (ka_ifP (by rw [hv]; decide) (ka_pure ⟨rfl, rfl, rfl⟩))
theorem kt_no_spec {why d : Int32} (h : why ≠ 0) (h0 : kR0 T X) (hw : keP (T.1 1) X.now) (hf : keP (T.1 0) X.now) : kR0 (kt_no T why d) X ∧ keP ((kt_no T why d).1 1) X.now ∧ keP ((kt_no T why d).1 0) X.now ∧ kc_ch ((kt_no T why d).1 6) ((kt_no T why d).1 7) [(why, d)] := ⟨h0, hw, hf, kc_ch1 h⟩
theorem kt_refuse {why d : Int32} (hs : kt_sep m ad) : ka_T Z (pm_X3_refuses (some m) why d) w (kt G m ad T) (ka_V w (kt G m ad (kt_no T why d)) (-5)) := kt_refuses hs
theorem kt_cAt {α : Type} {Q : α → Nat → ka_H → Prop} {H : ka_H} {i j : Nat} {k : Int32 → km_M α} (kk : ka_T Z (k (Int32.ofNat (16 + 5 * i + j))) w H Q) : ka_T Z (km_bind (pm_X3_carverAt (Int32.ofNat i) (Int32.ofNat j)) k) w H Q := by
  refine ka_use (v := Int32.ofNat (16 + 5 * i + j)) ?_ kk
  unfold pm_X3_carverAt
  refine ka_pure ⟨?_, rfl, rfl⟩
  rw [show (16 : Int32) = Int32.ofNat 16 from rfl, show (5 : Int32) = Int32.ofNat 5 from rfl, k3_mul, k3_add, k3_add]
theorem kt_lAt {α : Type} {Q : α → Nat → ka_H → Prop} {H : ka_H} {i j : Nat} {k : Int32 → km_M α} (kk : ka_T Z (k (Int32.ofNat (36 + 2 * i + j))) w H Q) : ka_T Z (km_bind (pm_X3_lensAt (Int32.ofNat i) (Int32.ofNat j)) k) w H Q := by
  refine ka_use (v := Int32.ofNat (36 + 2 * i + j)) ?_ kk
  unfold pm_X3_lensAt
  refine ka_pure ⟨?_, rfl, rfl⟩
  rw [show (36 : Int32) = Int32.ofNat 36 from rfl, show (2 : Int32) = Int32.ofNat 2 from rfl, k3_mul, k3_add, k3_add]
theorem kt_bAt {α : Type} {Q : α → Nat → ka_H → Prop} {H : ka_H} {i j : Nat} {k : Int32 → km_M α} (kk : ka_T Z (k (Int32.ofNat (44 + 3 * i + j))) w H Q) : ka_T Z (km_bind (pm_X3_boxAt (Int32.ofNat i) (Int32.ofNat j)) k) w H Q := by
  refine ka_use (v := Int32.ofNat (44 + 3 * i + j)) ?_ kk
  unfold pm_X3_boxAt
  refine ka_pure ⟨?_, rfl, rfl⟩
  rw [show (44 : Int32) = Int32.ofNat 44 from rfl, show (3 : Int32) = Int32.ofNat 3 from rfl, k3_mul, k3_add, k3_add]
theorem kt_sAt {α : Type} {Q : α → Nat → ka_H → Prop} {H : ka_H} {i j : Nat} {k : Int32 → km_M α} (kk : ka_T Z (k (Int32.ofNat (764 + 60 * i + j))) w H Q) : ka_T Z (km_bind (pm_X3_stringAt (Int32.ofNat i) (Int32.ofNat j)) k) w H Q := by
  refine ka_use (v := Int32.ofNat (764 + 60 * i + j)) ?_ kk
  unfold pm_X3_stringAt
  refine ka_pure ⟨?_, rfl, rfl⟩
  rw [show (764 : Int32) = Int32.ofNat 764 from rfl, show (60 : Int32) = Int32.ofNat 60 from rfl, k3_mul, k3_add, k3_add]
theorem kt_pAt {α : Type} {Q : α → Nat → ka_H → Prop} {H : ka_H} {i j : Nat} {k : Int32 → km_M α} (kk : ka_T Z (k (Int32.ofNat (1124 + 4 * i + j))) w H Q) : ka_T Z (km_bind (pm_X3_pilgrimAt (Int32.ofNat i) (Int32.ofNat j)) k) w H Q := by
  refine ka_use (v := Int32.ofNat (1124 + 4 * i + j)) ?_ kk
  unfold pm_X3_pilgrimAt
  refine ka_pure ⟨?_, rfl, rfl⟩
  rw [show (1124 : Int32) = Int32.ofNat 1124 from rfl, show (4 : Int32) = Int32.ofNat 4 from rfl, k3_mul, k3_add, k3_add]
theorem kt_addsLoop {c b s n : Nat} (hs : kt_sep m ad) (hcb : c < b) (hb : b + s * n + s ≤ 2188) (hc : f c = Int32.ofNat n) : ∀ (d i fuel : Nat), i + d = s → d < fuel → ka_T Z (pb_X3_adds_28 fuel (some m) (Int32.ofNat c) (Int32.ofNat b) (Int32.ofNat s) (Int32.ofNat n) (Int32.ofNat i)) w (kt G m ad (kt_set T 0 (vt_zero f (b + s * n) i))) (ka_V w (kt G m ad (kt_set T 0 (upd (vt_zero f (b + s * n) s) c (Int32.ofNat (n + 1))))) (Int32.ofNat n)) := by
  intro d
  induction d with
  | zero =>
    intro i fuel hi hf
    obtain ⟨fuel, rfl⟩ : ∃ n, fuel = n + 1 := ⟨fuel - 1, by omega⟩
    have e : i = s := by omega
    subst e
    unfold pb_X3_adds_28
    refine ka_ifP ((k3_le (by omega) (by omega)).mpr (Nat.le_refl _)) (kt_g0 (kt_ls hs (by omega) ?_))
    rw [vt_zero_out (Or.inl (by omega)), hc, k3_succ]
    exact kt_ss hs (by omega) (ka_pure ⟨rfl, rfl, rfl⟩)
  | succ d ih =>
    intro i fuel hi hf
    obtain ⟨fuel, rfl⟩ : ∃ n, fuel = n + 1 := ⟨fuel - 1, by omega⟩
    unfold pb_X3_adds_28
    refine ka_ifN (fun z => by have := (k3_le (by omega) (by omega)).mp z; omega) (kt_g0 ?_)
    rw [k3_mul, k3_add, k3_add, k3_succ]
    refine kt_ss hs (by omega) ?_
    have e : upd (vt_zero f (b + s * n) i) (b + s * n + i) 0 = vt_zero f (b + s * n) (i + 1) := by
      funext p
      by_cases hp : p = b + s * n + i
      · rw [hp, upd_same, vt_zero_in (by omega) (by omega)]
      · rw [upd_ne hp]
        unfold vt_zero
        by_cases h2 : b + s * n ≤ p ∧ p < b + s * n + i
        · rw [if_pos h2, if_pos (by omega)]
        · rw [if_neg h2, if_neg (by omega)]
    rw [e]
    exact ih (i + 1) fuel (by omega) (by omega)
theorem kt_addsY {c b s n k : Nat} (hs : kt_sep m ad) (hcb : c < b) (hb : b + s * n + s ≤ 2188) (hc : f c = Int32.ofNat n) (hk : n ≠ k) (hk2 : k < 1000) (hn : n < 1000) : ka_T Z (pm_X3_adds (some m) (Int32.ofNat c) (Int32.ofNat k) (Int32.ofNat b) (Int32.ofNat s)) w (kt G m ad (kt_set T 0 f)) (ka_V w (kt G m ad (kt_set T 0 (upd (vt_zero f (b + s * n) s) c (Int32.ofNat (n + 1))))) (Int32.ofNat n)) := by
  unfold pm_X3_adds
  refine kt_g0 (kt_ls hs (by omega) ?_)
  rw [hc]
  refine ka_ifP (fun z => hk ((k3_eq (by omega) (by omega)).mp z)) (kt_g0 (kt_ls hs (by omega) ?_))
  rw [hc]
  have h := kt_addsLoop (Z := Z) (w := w) (G := G) (T := T) hs hcb hb hc s 0 km_fuel (Nat.zero_add _) (by unfold km_fuel; omega)
  have e : vt_zero f (b + s * n) 0 = f := funext fun p => if_neg (by omega)
  rw [e] at h
  exact h
theorem kt_addsN {c k : Nat} {x y : Int32} (hs : kt_sep m ad) (hcb : c < 2188) (hc : f c = Int32.ofNat k) : ka_T Z (pm_X3_adds (some m) (Int32.ofNat c) (Int32.ofNat k) x y) w (kt G m ad (kt_set T 0 f)) (ka_V w (kt G m ad (kt_no (kt_set T 0 f) 1 (Int32.ofNat k))) (-5)) := by
  unfold pm_X3_adds
  refine kt_g0 (kt_ls hs hcb ?_)
  exact ka_ifN (fun z => z hc) (kt_is (ka_mv (kt_refuse hs) (ka_pure ⟨rfl, rfl, rfl⟩)))
theorem kt_goesLoop {c b s n a : Nat} (hs : kt_sep m ad) (hcb : c < b) (hb : b + s * n ≤ 2188) (hn : 1 ≤ n) (hba : b ≤ a) (hc : f c = Int32.ofNat n) : ∀ (d i fuel : Nat), i + d = b + s * (n - 1) → a ≤ i → d < fuel → ka_T Z (pb_X3_goes_8 fuel (some m) (Int32.ofNat c) (Int32.ofNat b) (Int32.ofNat s) (Int32.ofNat i)) w (kt G m ad (kt_set T 0 (vt_shift f a i s))) (ka_V w (kt G m ad (kt_set T 0 (upd (vt_shift f a (b + s * (n - 1)) s) c (Int32.ofNat (n - 1))))) ()) := by
  have hsn : s * n = s * (n - 1) + s := by
    obtain ⟨q, rfl⟩ : ∃ q, n = q + 1 := ⟨n - 1, by omega⟩
    rw [Nat.add_sub_cancel, Nat.mul_succ]
  intro d
  induction d with
  | zero =>
    intro i fuel hi hai hf
    obtain ⟨fuel, rfl⟩ : ∃ n, fuel = n + 1 := ⟨fuel - 1, by omega⟩
    have e : i = b + s * (n - 1) := by omega
    subst e
    have hn0 : n < 2 ^ 31 ∨ s = 0 := by
      by_cases h : s = 0
      · exact Or.inr h
      · left
        have := Nat.le_mul_of_pos_left n (show 0 < s by omega)
        omega
    unfold pb_X3_goes_8
    refine kt_g0 (kt_ls hs (by omega) ?_)
    rw [vt_shift_out (Or.inl (by omega)), hc, k3_pred hn, k3_mul, k3_add]
    refine ka_ifP ((k3_le (by omega) (by omega)).mpr (Nat.le_refl _)) (kt_g0 (kt_ls hs (by omega) ?_))
    rw [vt_shift_out (Or.inl (by omega)), hc, k3_pred hn]
    exact kt_ss hs (by omega) (ka_pure ⟨rfl, rfl, rfl⟩)
  | succ d ih =>
    intro i fuel hi hai hf
    obtain ⟨fuel, rfl⟩ : ∃ n, fuel = n + 1 := ⟨fuel - 1, by omega⟩
    unfold pb_X3_goes_8
    refine kt_g0 (kt_ls hs (by omega) ?_)
    rw [vt_shift_out (Or.inl (by omega)), hc, k3_pred hn, k3_mul, k3_add]
    refine ka_ifN (fun z => by have := (k3_le (by omega) (by omega)).mp z; omega) (kt_g0 (kt_g0 ?_))
    rw [k3_add, k3_succ]
    refine kt_ls hs (by omega) (kt_ss hs (by omega) ?_)
    have e : upd (vt_shift f a i s) i (vt_shift f a i s (i + s)) = vt_shift f a (i + 1) s := by
      funext p
      by_cases hp : p = i
      · rw [hp, upd_same, vt_shift_in hai (by omega), vt_shift_out (Or.inr (by omega))]
      · rw [upd_ne hp]
        unfold vt_shift
        by_cases h2 : a ≤ p ∧ p < i
        · rw [if_pos h2, if_pos (by omega)]
        · rw [if_neg h2, if_neg (by omega)]
    rw [e]
    exact ih (i + 1) fuel (by omega) (by omega) (by omega)
theorem kt_goes {c b s n k : Nat} (hs : kt_sep m ad) (hcb : c < b) (hb : b + s * n ≤ 2188) (hk : k < n) (hc : f c = Int32.ofNat n) : ka_T Z (pm_X3_goes (some m) (Int32.ofNat c) (Int32.ofNat b) (Int32.ofNat s) (Int32.ofNat k)) w (kt G m ad (kt_set T 0 f)) (ka_V w (kt G m ad (kt_set T 0 (upd (vt_shift f (b + s * k) (b + s * (n - 1)) s) c (Int32.ofNat (n - 1))))) ()) := by
  unfold pm_X3_goes
  rw [k3_mul, k3_add]
  have h1 : s * k ≤ s * (n - 1) := Nat.mul_le_mul_left s (by omega)
  have h2 : s * (n - 1) ≤ s * n := Nat.mul_le_mul_left s (by omega)
  have h := kt_goesLoop (Z := Z) (w := w) (G := G) (T := T) (a := b + s * k) hs hcb hb (by omega) (by omega) hc (s * (n - 1) - s * k) (b + s * k) km_fuel (by omega) (Nat.le_refl _) (by unfold km_fuel; omega)
  have e : vt_shift f (b + s * k) (b + s * k) s = f := funext fun p => if_neg (by omega)
  rw [e] at h
  exact h
theorem kt_isC {v : Int32} {n : Nat} (hs : kt_sep m ad) (hc : f 9 = Int32.ofNat n) : ka_T Z (pm_X3_isCarver (some m) v) w (kt G m ad (kt_set T 0 f)) (ka_V w (kt G m ad (kt_set T 0 f)) (v_in v 0 (Int32.ofNat n - 1))) := by
  unfold pm_X3_isCarver
  refine kt_g0 (kt_ls (p := 9) hs (by omega) ?_)
  rw [hc]
  exact ka_use kt_isIn (ka_ret (kb_fit v_in_01) (ka_pure ⟨rfl, rfl, rfl⟩))
theorem kt_isL {v : Int32} {n : Nat} (hs : kt_sep m ad) (hc : f 10 = Int32.ofNat n) : ka_T Z (pm_X3_isLens (some m) v) w (kt G m ad (kt_set T 0 f)) (ka_V w (kt G m ad (kt_set T 0 f)) (v_in v 0 (Int32.ofNat n - 1))) := by
  unfold pm_X3_isLens
  refine kt_g0 (kt_ls (p := 10) hs (by omega) ?_)
  rw [hc]
  exact ka_use kt_isIn (ka_ret (kb_fit v_in_01) (ka_pure ⟨rfl, rfl, rfl⟩))
theorem kt_isS {v : Int32} {n : Nat} (hs : kt_sep m ad) (hc : f 12 = Int32.ofNat n) : ka_T Z (pm_X3_isString (some m) v) w (kt G m ad (kt_set T 0 f)) (ka_V w (kt G m ad (kt_set T 0 f)) (v_in v 0 (Int32.ofNat n - 1))) := by
  unfold pm_X3_isString
  refine kt_g0 (kt_ls (p := 12) hs (by omega) ?_)
  rw [hc]
  exact ka_use kt_isIn (ka_ret (kb_fit v_in_01) (ka_pure ⟨rfl, rfl, rfl⟩))
end KTR
