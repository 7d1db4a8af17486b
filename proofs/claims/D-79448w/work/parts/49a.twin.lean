set_option maxRecDepth 100000
/-! ===== the twin: its cells ===== -/
/-- the whole-number arrays of the twin, by their places: s 0, was 1, saved 2, past 3, reasons 6, details 7, line 8, tape 11, commands 12 -/
abbrev kt_L : List Nat := [0, 1, 2, 3, 6, 7, 8, 11, 12]
def kt_sz (k : Nat) : Nat := if k = 3 then 17504 else if k = 6 then 3 else if k = 7 then 3 else if k = 8 then 80 else if k = 11 then 60 else if k = 12 then 63 else 2188
theorem kt_sz_le (k : Nat) : kt_sz k ≤ 17504 := by
  unfold kt_sz
  (repeat' split) <;> omega
/-- the twin's arrays, its numbers by their places -/
abbrev kT : Type := (Nat → Nat → Int32) × (Nat → Int32)
abbrev kt_ob (ad : Nat → Nat) (n : Nat → Int32) : ka_O := ka_ob 3 [.ref (ad 0), .ref (ad 1), .ref (ad 2), .ref (ad 3), .int (n 4), .int (n 5), .ref (ad 6), .ref (ad 7), .ref (ad 8), .int (n 9), .ref (ad 10), .ref (ad 11), .ref (ad 12), .int (n 13), .int (n 14), .int (n 15), .int (n 16), .int (n 17)]
def kt_sep (m : Nat) (ad : Nat → Nat) : Prop := (∀ k ∈ kt_L, ad k ≠ m) ∧ ∀ k ∈ kt_L, ∀ j ∈ kt_L, ad k = ad j → k = j
def kt (G : ka_H) (m : Nat) (ad : Nat → Nat) (T : kT) : ka_H := fun a => if a = m then some (kt_ob ad T.2) else match kt_L.find? (fun k => decide (ad k = a)) with
  | some k => some (ka_aI 0 (kt_sz k) (T.1 k))
  | none => G a
def kt_set (T : kT) (k : Nat) (g : Nat → Int32) : kT := (fun j => if j = k then g else T.1 j, T.2)
def kt_num (T : kT) (k : Nat) (v : Int32) : kT := (T.1, fun j => if j = k then v else T.2 j)
theorem kt_set_same {T : kT} {k : Nat} {g : Nat → Int32} : (kt_set T k g).1 k = g := if_pos rfl
theorem kt_set_ne {T : kT} {k j : Nat} {g : Nat → Int32} (h : j ≠ k) : (kt_set T k g).1 j = T.1 j := if_neg h
theorem kt_set_set {T : kT} {k : Nat} {g g' : Nat → Int32} : kt_set (kt_set T k g) k g' = kt_set T k g' := by
  unfold kt_set
  refine Prod.ext (funext fun j => ?_) rfl
  by_cases h : j = k
  · simp [h]
  · simp [h]
theorem kt_set_id {T : kT} {k : Nat} : kt_set T k (T.1 k) = T := by
  unfold kt_set
  refine Prod.ext (funext fun j => ?_) rfl
  by_cases h : j = k
  · simp [h]
  · simp [h]
theorem kt_set_comm {T : kT} {k j : Nat} {g g' : Nat → Int32} (h : k ≠ j) : kt_set (kt_set T k g) j g' = kt_set (kt_set T j g') k g := by
  unfold kt_set
  refine Prod.ext (funext fun i => ?_) rfl
  by_cases h1 : i = j
  · subst h1
    simp [Ne.symm h]
  · simp [h1]
section KT
variable {Z : ka_Z} {w : Nat} {G : ka_H} {m : Nat} {ad : Nat → Nat} {T : kT}
theorem kt_m : kt G m ad T m = some (kt_ob ad T.2) := if_pos rfl
theorem kt_find (hs : kt_sep m ad) {k : Nat} (hk : k ∈ kt_L) : kt_L.find? (fun j => decide (ad j = ad k)) = some k := by
  cases h : kt_L.find? (fun j => decide (ad j = ad k)) with
  | none => exact absurd (List.find?_eq_none.mp h k hk) (by simp)
  | some j =>
    have h1 := List.find?_some h
    have h2 := List.mem_of_find?_eq_some h
    rw [hs.2 j h2 k hk (of_decide_eq_true h1)]
theorem kt_a (hs : kt_sep m ad) {k : Nat} (hk : k ∈ kt_L) : kt G m ad T (ad k) = some (ka_aI 0 (kt_sz k) (T.1 k)) := by
  unfold kt
  rw [if_neg (hs.1 k hk), kt_find hs hk]
theorem kt_upa (hs : kt_sep m ad) {k : Nat} (hk : k ∈ kt_L) {g : Nat → Int32} : ka_up (kt G m ad T) (ad k) (ka_aI 0 (kt_sz k) g) = kt G m ad (kt_set T k g) := by
  funext a
  by_cases h : a = ad k
  · subst h
    rw [ka_same, kt_a hs hk, kt_set_same]
  · rw [ka_ne h]
    unfold kt
    by_cases h2 : a = m
    · rw [if_pos h2, if_pos h2]
      rfl
    · rw [if_neg h2, if_neg h2]
      cases h3 : kt_L.find? (fun j => decide (ad j = a)) with
      | none => rfl
      | some j =>
        have h4 : ad j = a := of_decide_eq_true (List.find?_some (p := fun j => decide (ad j = a)) h3)
        have h5 : j ≠ k := fun e => h (by rw [← h4, e])
        show some (ka_aI 0 (kt_sz j) (T.1 j)) = some (ka_aI 0 (kt_sz j) ((kt_set T k g).1 j))
        rw [kt_set_ne h5]
theorem kt_upm {n : Nat → Int32} : ka_up (kt G m ad T) m (kt_ob ad n) = kt G m ad (T.1, n) := by
  funext a
  by_cases h : a = m
  · subst h
    rw [ka_same, kt_m]
  · rw [ka_ne h]
    unfold kt
    rw [if_neg h, if_neg h]
/-- a call with a known outcome -/
theorem ka_mv {α β : Type} {H H' : ka_H} {w' : Nat} {Q : β → Nat → ka_H → Prop} {x : km_M α} {f : α → km_M β} {v : α} (h : ka_T Z x w H (ka_V w' H' v)) (k : ka_T Z (f v) w' H' Q) : ka_T Z (km_bind x f) w H Q := ka_call h (fun r w2 H2 hp => by
  obtain ⟨rfl, rfl, rfl⟩ := hp
  exact k)
variable {α : Type} {Q : α → Nat → ka_H → Prop}
theorem kt_is {f : Unit → km_M α} (k : ka_T Z (f ()) w (kt G m ad T) Q) : ka_T Z (km_bind (km_is 3 (some m)) f) w (kt G m ad T) Q := ka_is kt_m rfl k
theorem kt_g0 {f : Option Nat → km_M α} (k : ka_T Z (f (some (ad 0))) w (kt G m ad T) Q) : ka_T Z (km_bind (km_gR [(3, 0)] (some m)) f) w (kt G m ad T) Q := ka_gR kt_m rfl rfl k
theorem kt_g1 {f : Option Nat → km_M α} (k : ka_T Z (f (some (ad 1))) w (kt G m ad T) Q) : ka_T Z (km_bind (km_gR [(3, 1)] (some m)) f) w (kt G m ad T) Q := ka_gR kt_m rfl rfl k
theorem kt_g2 {f : Option Nat → km_M α} (k : ka_T Z (f (some (ad 2))) w (kt G m ad T) Q) : ka_T Z (km_bind (km_gR [(3, 2)] (some m)) f) w (kt G m ad T) Q := ka_gR kt_m rfl rfl k
theorem kt_g3 {f : Option Nat → km_M α} (k : ka_T Z (f (some (ad 3))) w (kt G m ad T) Q) : ka_T Z (km_bind (km_gR [(3, 3)] (some m)) f) w (kt G m ad T) Q := ka_gR kt_m rfl rfl k
theorem kt_g6 {f : Option Nat → km_M α} (k : ka_T Z (f (some (ad 6))) w (kt G m ad T) Q) : ka_T Z (km_bind (km_gR [(3, 6)] (some m)) f) w (kt G m ad T) Q := ka_gR kt_m rfl rfl k
theorem kt_g7 {f : Option Nat → km_M α} (k : ka_T Z (f (some (ad 7))) w (kt G m ad T) Q) : ka_T Z (km_bind (km_gR [(3, 7)] (some m)) f) w (kt G m ad T) Q := ka_gR kt_m rfl rfl k
theorem kt_g8 {f : Option Nat → km_M α} (k : ka_T Z (f (some (ad 8))) w (kt G m ad T) Q) : ka_T Z (km_bind (km_gR [(3, 8)] (some m)) f) w (kt G m ad T) Q := ka_gR kt_m rfl rfl k
theorem kt_g10 {f : Option Nat → km_M α} (k : ka_T Z (f (some (ad 10))) w (kt G m ad T) Q) : ka_T Z (km_bind (km_gR [(3, 10)] (some m)) f) w (kt G m ad T) Q := ka_gR kt_m rfl rfl k
theorem kt_g11 {f : Option Nat → km_M α} (k : ka_T Z (f (some (ad 11))) w (kt G m ad T) Q) : ka_T Z (km_bind (km_gR [(3, 11)] (some m)) f) w (kt G m ad T) Q := ka_gR kt_m rfl rfl k
theorem kt_g12 {f : Option Nat → km_M α} (k : ka_T Z (f (some (ad 12))) w (kt G m ad T) Q) : ka_T Z (km_bind (km_gR [(3, 12)] (some m)) f) w (kt G m ad T) Q := ka_gR kt_m rfl rfl k
/-- a number of the twin -/
def kt_nm (k : Nat) : Prop := k = 4 ∨ k = 5 ∨ k = 9 ∨ k = 13 ∨ k = 14 ∨ k = 15 ∨ k = 16 ∨ k = 17
theorem kt_gI (i : Nat) (hi : kt_nm i) {f : Int32 → km_M α} (k : ka_T Z (f (T.2 i)) w (kt G m ad T) Q) : ka_T Z (km_bind (km_gI [(3, i)] (some m)) f) w (kt G m ad T) Q := by
  refine ka_gI (n := i) kt_m (by simp) ?_ k
  rcases hi with e | e | e | e | e | e | e | e <;> subst e <;> rfl
theorem kt_pI (i : Nat) (hi : kt_nm i) {ty : FieldType} {v : Int32} (hf : km_fitB ty v = true) {f : Unit → km_M α} (k : ka_T Z (f ()) w (kt G m ad (kt_num T i v)) Q) : ka_T Z (km_bind (km_pI ty [(3, i)] (some m) v) f) w (kt G m ad T) Q := by
  have e : (some (ka_ob 3 ([.ref (ad 0), .ref (ad 1), .ref (ad 2), .ref (ad 3), .int (T.2 4), .int (T.2 5), .ref (ad 6), .ref (ad 7), .ref (ad 8), .int (T.2 9), .ref (ad 10), .ref (ad 11), .ref (ad 12), .int (T.2 13), .int (T.2 14), .int (T.2 15), .int (T.2 16), .int (T.2 17)].set i (.int v)) : ka_O)) = some (kt_ob ad (kt_num T i v).2) := by
    rcases hi with e | e | e | e | e | e | e | e <;> subst e <;> rfl
  refine ka_pI (n := i) kt_m hf (by simp) (by rcases hi with e | e | e | e | e | e | e | e <;> subst e <;> exact Nat.le_of_ble_eq_true rfl) ?_
  rw [Option.some.inj e, kt_upm]
  exact k
theorem kt_ld (hs : kt_sep m ad) {j p : Nat} (hj : j ∈ kt_L) (hp : p < kt_sz j) {f : Int32 → km_M α} (k : ka_T Z (f (T.1 j p)) w (kt G m ad T) Q) : ka_T Z (km_bind (km_ldI 0 (some (ad j)) (Int32.ofNat p)) f) w (kt G m ad T) Q := by
  have h1 : kt_sz j < 2 ^ 30 := by have := kt_sz_le j; omega
  refine ka_ldI (kt_a hs hj) (k3_in hp (by omega)) ?_
  rw [k3_nat (by omega)]
  exact k
theorem kt_st (hs : kt_sep m ad) {j p : Nat} {v : Int32} (hj : j ∈ kt_L) (hp : p < kt_sz j) {f : Unit → km_M α} (k : ka_T Z (f ()) w (kt G m ad (kt_set T j (upd (T.1 j) p v))) Q) : ka_T Z (km_bind (km_stI 0 (some (ad j)) (Int32.ofNat p) v) f) w (kt G m ad T) Q := by
  have h1 : kt_sz j < 2 ^ 30 := by have := kt_sz_le j; omega
  refine ka_stI (kt_a hs hj) (k3_in hp (by omega)) ?_
  rw [k3_nat (by omega), kt_upa hs hj]
  exact k
/-- the row -/
theorem kt_ls (hs : kt_sep m ad) {p : Nat} {g : Nat → Int32} (hp : p < 2188) {f : Int32 → km_M α} (k : ka_T Z (f (g p)) w (kt G m ad (kt_set T 0 g)) Q) : ka_T Z (km_bind (km_ldI 0 (some (ad 0)) (Int32.ofNat p)) f) w (kt G m ad (kt_set T 0 g)) Q := kt_ld (j := 0) hs (by decide) hp k
theorem kt_ss (hs : kt_sep m ad) {p : Nat} {v : Int32} {g : Nat → Int32} (hp : p < 2188) {f : Unit → km_M α} (k : ka_T Z (f ()) w (kt G m ad (kt_set T 0 (upd g p v))) Q) : ka_T Z (km_bind (km_stI 0 (some (ad 0)) (Int32.ofNat p) v) f) w (kt G m ad (kt_set T 0 g)) Q := by
  refine kt_st (j := 0) hs (by decide) hp ?_
  rw [kt_set_set]
  exact k
theorem upd_same {f : Nat → Int32} {i : Nat} {v : Int32} : upd f i v i = v := if_pos rfl
theorem upd_ne {f : Nat → Int32} {i j : Nat} {v : Int32} (h : j ≠ i) : upd f i v j = f j := if_neg h
end KT
section KTB
variable {Z : ka_Z} {w : Nat} {H : ka_H}
theorem kt_isIn {v lo hi : Int32} : ka_T Z (pm_X3_isIn v lo hi) w H (ka_V w H (v_in v lo hi)) := by
  unfold pm_X3_isIn v_in
  refine ka_ite (fun h => ?_) (fun h => ?_)
  · exact ka_ret rfl (ka_pure ⟨by rw [if_pos h], rfl, rfl⟩)
  · rw [if_neg h]
    refine ka_ite (fun h2 => ?_) (fun h2 => ?_)
    · exact ka_ret rfl (ka_pure ⟨by rw [if_pos h2], rfl, rfl⟩)
    · exact ka_ret rfl (ka_pure ⟨by rw [if_neg h2], rfl, rfl⟩)
theorem kt_lesser {a b : Int32} : ka_T Z (pm_X3_lesser a b) w H (ka_V w H (if b ≤ a then b else a)) := by
  unfold pm_X3_lesser
  refine ka_ite (fun h => ?_) (fun h => ?_)
  · exact ka_pure ⟨by rw [if_pos h], rfl, rfl⟩
  · exact ka_pure ⟨by rw [if_neg h], rfl, rfl⟩
def vt_err (v : Int32) : Int32 := if 0 ≤ v then 0 else if v = -6 then 0 else 1
theorem kt_isError {v : Int32} : ka_T Z (pm_X3_isError v) w H (ka_V w H (vt_err v)) := by
  unfold pm_X3_isError vt_err
  refine ka_ite (fun h => ?_) (fun h => ?_)
  · exact ka_ret rfl (ka_pure ⟨by rw [if_pos h], rfl, rfl⟩)
  · rw [if_neg h]
    refine ka_ite (fun h2 => ?_) (fun h2 => ?_)
    · exact ka_ret rfl (ka_pure ⟨by rw [if_pos h2], rfl, rfl⟩)
    · exact ka_ret rfl (ka_pure ⟨by rw [if_neg h2], rfl, rfl⟩)
end KTB
section KTC
variable {Z : ka_Z} {w : Nat} {G : ka_H} {m : Nat} {ad : Nat → Nat}
/-- n numbers of one array into another, or elsewhere into the same -/
def vt_cp (f g : Nat → Int32) (a b n : Nat) : Nat → Int32 := fun p => if b ≤ p ∧ p < b + n then f (a + (p - b)) else g p
theorem kt_copiesLoop {j k a b n : Nat} {T : kT} (hs : kt_sep m ad) (hj : j ∈ kt_L) (hk : k ∈ kt_L) (ha : a + n ≤ kt_sz j) (hb : b + n ≤ kt_sz k) (hd : j ≠ k ∨ b + n ≤ a ∨ a + n ≤ b) : ∀ (d i fuel : Nat), i + d = n → d < fuel → ka_T Z (pb_X3_copies_3 fuel (some (ad j)) (Int32.ofNat a) (some (ad k)) (Int32.ofNat b) (Int32.ofNat n) (Int32.ofNat i)) w (kt G m ad (kt_set T k (vt_cp (T.1 j) (T.1 k) a b i))) (ka_V w (kt G m ad (kt_set T k (vt_cp (T.1 j) (T.1 k) a b n))) ()) := by
  have h1 : kt_sz j < 2 ^ 30 := by have := kt_sz_le j; omega
  have h2 : kt_sz k < 2 ^ 30 := by have := kt_sz_le k; omega
  intro d
  induction d with
  | zero =>
    intro i fuel hi hf
    obtain ⟨fuel, rfl⟩ : ∃ n, fuel = n + 1 := ⟨fuel - 1, by omega⟩
    have e : i = n := by omega
    subst e
    unfold pb_X3_copies_3
    exact ka_ifP ((k3_le (by omega) (by omega)).mpr (Nat.le_refl _)) (ka_pure ⟨rfl, rfl, rfl⟩)
  | succ d ih =>
    intro i fuel hi hf
    obtain ⟨fuel, rfl⟩ : ∃ n, fuel = n + 1 := ⟨fuel - 1, by omega⟩
    unfold pb_X3_copies_3
    refine ka_ifN (fun z => by have := (k3_le (by omega) (by omega)).mp z; omega) ?_
    rw [k3_add, k3_add]
    refine kt_ld hs hj (by omega) (kt_st hs hk (by omega) ?_)
    rw [kt_set_set, k3_succ]
    have e : upd ((kt_set T k (vt_cp (T.1 j) (T.1 k) a b i)).1 k) (b + i) ((kt_set T k (vt_cp (T.1 j) (T.1 k) a b i)).1 j (a + i)) = vt_cp (T.1 j) (T.1 k) a b (i + 1) := by
      funext p
      rw [kt_set_same]
      have e1 : (kt_set T k (vt_cp (T.1 j) (T.1 k) a b i)).1 j (a + i) = T.1 j (a + i) := by
        by_cases hjk : j = k
        · subst hjk
          rw [kt_set_same]
          exact if_neg (by rcases hd with h | h | h <;> omega)
        · rw [kt_set_ne hjk]
      rw [e1]
      by_cases hp : p = b + i
      · subst hp
        rw [upd_same]
        unfold vt_cp
        rw [if_pos (by omega), Nat.add_sub_cancel_left]
      · rw [upd_ne hp]
        unfold vt_cp
        by_cases hp2 : b ≤ p ∧ p < b + i
        · rw [if_pos hp2, if_pos (by omega)]
        · rw [if_neg hp2, if_neg (by omega)]
    rw [e]
    exact ih (i + 1) fuel (by omega) (by omega)
theorem kt_copies {j k a b n : Nat} {T : kT} (hs : kt_sep m ad) (hj : j ∈ kt_L) (hk : k ∈ kt_L) (ha : a + n ≤ kt_sz j) (hb : b + n ≤ kt_sz k) (hd : j ≠ k ∨ b + n ≤ a ∨ a + n ≤ b) (hn : n ≤ 5000) : ka_T Z (pm_X3_copies (some (ad j)) (Int32.ofNat a) (some (ad k)) (Int32.ofNat b) (Int32.ofNat n)) w (kt G m ad T) (ka_V w (kt G m ad (kt_set T k (vt_cp (T.1 j) (T.1 k) a b n))) ()) := by
  unfold pm_X3_copies
  have h := kt_copiesLoop (Z := Z) (w := w) (G := G) (T := T) hs hj hk ha hb hd n 0 km_fuel (Nat.zero_add _) (by unfold km_fuel; omega)
  have e : kt_set T k (vt_cp (T.1 j) (T.1 k) a b 0) = T := by
    have e2 : vt_cp (T.1 j) (T.1 k) a b 0 = T.1 k := funext fun p => if_neg (by omega)
    rw [e2, kt_set_id]
  rw [e] at h
  exact h
end KTC
