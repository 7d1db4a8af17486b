set_option maxRecDepth 100000
/-! ===== the twin: a text is read ===== -/
def vt_k (i : Nat) : Nat := [19, 22, 12, 24, 17, 14, 20, 26].getD i 0
def vt_w (i : Nat) : List Int32 := vr_w i ++ (if i = 6 then [] else [32])
def vt_h (i : Nat) : Int32 := 0
def kz_twords (Z : ka_Z) : Prop := ∀ i, i < 8 → ∃ h, kz_txt Z (vt_k i) (vt_w i) h
def vt_let (t : List Int32) (p : Nat) : Int32 := match t[p]? with
  | some c => c
  | none => -1
theorem vt_let_eq {t : List Int32} {p : Nat} {c : Int32} (h : 0 ≤ c) : vt_let t p = c ↔ t[p]? = some c := by
  unfold vt_let
  cases t[p]? with
  | none => exact ⟨fun z => by simp only at z; rw [← z] at h; exact absurd h (by decide), fun z => by cases z⟩
  | some x => exact ⟨fun z => by rw [← z], fun z => Option.some.inj z⟩
theorem vt_isd {t : List Int32} {p : Nat} : v_in (vt_let t p) 48 57 = vr_isd t p := by
  unfold vt_let vr_isd
  cases t[p]? with
  | none => rfl
  | some x => rfl
def vt_wd (t : List Int32) (p : Nat) : List Nat → Nat ⊕ (Nat × Nat)
  | [] => .inl p
  | i :: is => if t[p]? = some ((vt_w i).getD 0 0) then (match vr_lit t (vt_w i) p with
    | .inl e => .inl e
    | .inr a => .inr (i, a)) else vt_wd t p is
def vt_wres (t : List Int32) : Nat ⊕ (Nat × Nat) → Nat ⊕ (Nat × Nat)
  | .inl e => .inl e
  | .inr (i, a) => if i = 6 then .inr (i, a) else if t[a]? = some 32 then .inr (i, a + 1) else .inl a
theorem vr_lit_app {t ys : List Int32} : ∀ {xs : List Int32} {p : Nat}, vr_lit t (xs ++ ys) p = match vr_lit t xs p with
    | .inl e => .inl e
    | .inr a => vr_lit t ys a := by
  intro xs
  induction xs with
  | nil => intro p; rfl
  | cons c cs ih =>
    intro p
    show (if t[p]? = some c then vr_lit t (cs ++ ys) (p + 1) else .inl p) = _
    rw [ih]
    unfold vr_lit
    by_cases h : t[p]? = some c
    · rw [if_pos h, if_pos h]
      cases cs <;> rfl
    · rw [if_neg h, if_neg h]
theorem vt_w0 : ∀ i : Fin 8, (vt_w i.val).getD 0 0 = (vr_w i.val).getD 0 0 ∧ (vt_w i.val)[0]? = some ((vt_w i.val).getD 0 0) ∧ (vt_w i.val).length ≤ 7 ∧ ∀ c ∈ vt_w i.val, 0 ≤ c := by decide
theorem vt_wd_eq {t : List Int32} {p : Nat} : ∀ {L : List Nat}, (∀ i ∈ L, i < 8) → vt_wd t p L = vt_wres t (vr_wd t p L) := by
  intro L
  induction L with
  | nil => intro _; rfl
  | cons i is ih =>
    intro hL
    have h0 := (vt_w0 ⟨i, hL i List.mem_cons_self⟩).1
    simp only at h0
    rw [vt_wd, vr_wd, h0]
    by_cases h : t[p]? = some ((vr_w i).getD 0 0)
    · rw [if_pos h, if_pos h, vr_at, vt_w, vr_lit_app]
      cases h2 : vr_lit t (vr_w i) p with
      | inl e => rfl
      | inr a =>
        show ((match vr_lit t (if i = 6 then [] else [32]) a with
          | .inl e => (.inl e : Nat ⊕ (Nat × Nat))
          | .inr a => .inr (i, a)) : Nat ⊕ (Nat × Nat)) = (if i = 6 then (.inr (i, a) : Nat ⊕ (Nat × Nat)) else if t[a]? = some 32 then .inr (i, a + 1) else .inl a)
        by_cases h6 : i = 6
        · rw [if_pos h6, if_pos h6]
          rfl
        · rw [if_neg h6, if_neg h6]
          unfold vr_lit
          by_cases h3 : t[a]? = some 32
          · rw [if_pos h3, if_pos h3]
            rfl
          · rw [if_neg h3, if_neg h3]
    · rw [if_neg h, if_neg h, ih (fun j hj => hL j (List.mem_cons_of_mem _ hj))]
/-- while a text is read: place p, commands n, told v, commands g -/
def kt_rd (T : kT) (p n : Nat) (v : Int32) (g : Nat → Int32) : kT := (fun j => if j = 12 then g else T.1 j, fun j => if j = 14 then Int32.ofNat p else if j = 15 then Int32.ofNat n else if j = 16 then v else T.2 j)
theorem kt_rd14 {T : kT} {p q n : Nat} {v : Int32} {g : Nat → Int32} : kt_num (kt_rd T p n v g) 14 (Int32.ofNat q) = kt_rd T q n v g := by
  unfold kt_num kt_rd
  refine Prod.ext rfl (funext fun j => ?_)
  by_cases h : j = 14 <;> simp [h]
theorem kt_rd16 {T : kT} {p n : Nat} {v v' : Int32} {g : Nat → Int32} : kt_num (kt_rd T p n v g) 16 v' = kt_rd T p n v' g := by
  unfold kt_num kt_rd
  refine Prod.ext rfl (funext fun j => ?_)
  by_cases h : j = 16
  · simp [h]
  · by_cases h4 : j = 14
    · simp [h4]
    · by_cases h5 : j = 15 <;> simp [h, h4, h5]
theorem kt_rd15 {T : kT} {p n n' : Nat} {v : Int32} {g : Nat → Int32} : kt_num (kt_rd T p n v g) 15 (Int32.ofNat n') = kt_rd T p n' v g := by
  unfold kt_num kt_rd
  refine Prod.ext rfl (funext fun j => ?_)
  by_cases h : j = 15
  · simp [h]
  · by_cases h4 : j = 14 <;> simp [h, h4]
theorem kt_rd12 {T : kT} {p n : Nat} {v : Int32} {g g' : Nat → Int32} : kt_set (kt_rd T p n v g) 12 g' = kt_rd T p n v g' := by
  unfold kt_set kt_rd
  refine Prod.ext (funext fun j => ?_) rfl
  by_cases h : j = 12 <;> simp [h]
/-- the tape holds the text -/
def kt_I (T : kT) (t : List Int32) : Prop := T.2 13 = Int32.ofNat t.length ∧ t.length ≤ 60 ∧ ∀ i c, t[i]? = some c → T.1 11 i = c
/-- the words lie in their array -/
def kt_W (Z : ka_Z) (G : ka_H) (m : Nat) (ad : Nat → Nat) : Prop := ∃ g : Nat → Option Nat, (∀ T, kt G m ad T (ad 10) = some (ka_aR 5 8 g)) ∧ ∀ i, i < 8 → ∃ a, g i = some a ∧ Z.1 (vt_k i) = some a
def kt_wdQ (w : Nat) (G : ka_H) (m : Nat) (ad : Nat → Nat) (T : kT) (n : Nat) (v : Int32) (g : Nat → Int32) (res : Nat ⊕ (Nat × Nat)) : Int32 → Nat → ka_H → Prop := fun r w' H' => w' = w ∧ match res with
  | .inl e => r = -1 ∧ H' = kt G m ad (kt_rd T e n v g)
  | .inr (i, a) => r = Int32.ofNat i ∧ H' = kt G m ad (kt_rd T a n v g)
section KTZN
variable {Z : ka_Z} {w : Nat} {G : ka_H} {m : Nat} {ad : Nat → Nat} {T : kT} {t : List Int32} {p n : Nat} {v : Int32} {g : Nat → Int32}
theorem kt_n14 : kt_nm 14 := Or.inr (Or.inr (Or.inr (Or.inr (Or.inl rfl))))
theorem kt_n13 : kt_nm 13 := Or.inr (Or.inr (Or.inr (Or.inl rfl)))
theorem kt_n15 : kt_nm 15 := Or.inr (Or.inr (Or.inr (Or.inr (Or.inr (Or.inl rfl)))))
theorem kt_n16 : kt_nm 16 := Or.inr (Or.inr (Or.inr (Or.inr (Or.inr (Or.inr (Or.inl rfl))))))
theorem kt_letter (hs : kt_sep m ad) (hI : kt_I T t) (hp : p < 1000) : ka_T Z (pm_X3_letter (some m)) w (kt G m ad (kt_rd T p n v g)) (ka_V w (kt G m ad (kt_rd T p n v g)) (vt_let t p)) := by
  obtain ⟨h1, h2, h3⟩ := hI
  have e14 : (kt_rd T p n v g).2 14 = Int32.ofNat p := rfl
  have e13 : (kt_rd T p n v g).2 13 = Int32.ofNat t.length := h1
  unfold pm_X3_letter
  refine kt_gI 14 kt_n14 (kt_gI 13 kt_n13 ?_)
  rw [e14, e13]
  by_cases h : p < t.length
  · obtain ⟨c, hc⟩ : ∃ c, t[p]? = some c := ⟨_, List.getElem?_eq_getElem h⟩
    refine ka_ifN (fun z => by have := (k3_le (by omega) (by omega)).mp z; omega) (kt_g11 (kt_gI 14 kt_n14 ?_))
    rw [e14]
    refine kt_ld (j := 11) hs (by decide) (show p < 60 by omega) (ka_pure ⟨?_, rfl, rfl⟩)
    show T.1 11 p = _
    rw [h3 p c hc]
    unfold vt_let
    rw [hc]
  · refine ka_ifP ((k3_le (by omega) (by omega)).mpr (by omega)) (ka_pure ⟨?_, rfl, rfl⟩)
    unfold vt_let
    rw [List.getElem?_eq_none (by omega)]
theorem kt_word {α : Type} {Q : α → Nat → ka_H → Prop} {i : Nat} {U : kT} {f : Option Nat → km_M α} (hW : kt_W Z G m ad) (hK : kz_twords Z) (hi : i < 8) (k : ∀ (K : ka_H) (a : Nat), ka_le (kt G m ad U) K → kx_str K a (vt_w i) → (∃ o, K a = some o ∧ ka_cls o = some 35) → ka_T Z (f (some a)) w K Q) : ka_T Z (km_bind (km_gR [(3, 10)] (some m)) fun r => km_bind (km_ldR r (Int32.ofNat i)) f) w (kt G m ad U) Q := by
  obtain ⟨gw, hg, hga⟩ := hW
  obtain ⟨a, ha1, ha2⟩ := hga i hi
  obtain ⟨hh, hz⟩ := hK i hi
  refine kt_g10 (ka_ldR (hg U) (k3_in hi (by omega)) ?_)
  rw [k3_nat (by omega), ha1]
  refine kx_txt hz (fun K a' b y2 hZa hle hstr hA => ?_)
  rw [ha2] at hZa
  cases hZa
  exact k K a hle hstr ⟨_, hA, rfl⟩
theorem kt_litLoop {i : Nat} (hs : kt_sep m ad) (hI : kt_I T t) (hW : kt_W Z G m ad) (hK : kz_twords Z) (hi : i < 8) : ∀ (rest done : List Int32) (fuel p : Nat), vt_w i = done ++ rest → rest.length < fuel → p ≤ 100 + done.length → ka_T Z (pb_X3_readsWord_33 fuel (some m) (Int32.ofNat i) (Int32.ofNat done.length)) w (kt G m ad (kt_rd T p n v g)) (kt_wdQ w G m ad T n v g (match vr_lit t rest p with
    | .inl e => .inl e
    | .inr a => .inr (i, a))) := by
  obtain ⟨-, -, hw7, hw8⟩ := vt_w0 ⟨i, hi⟩
  intro rest
  induction rest with
  | nil =>
    intro done fuel p hA hf hp
    obtain ⟨fuel, rfl⟩ : ∃ n, fuel = n + 1 := ⟨fuel - 1, by omega⟩
    have hA1 : done.length = (vt_w i).length := by rw [hA, List.append_nil]
    have hl7 : (vt_w i).length ≤ 7 := hw7
    unfold pb_X3_readsWord_33
    refine kt_word hW hK hi (fun K a hle hstr ho => ?_)
    obtain ⟨o, ho1, ho2⟩ := ho
    refine ka_is ho1 ho2 (ka_use (kx_strlen hstr) ?_)
    exact ka_ifP ((k3_le (by omega) (by omega)).mpr (by omega)) (ka_pre hle (Nat.le_refl _) (ka_pure ⟨rfl, rfl, rfl⟩))
  | cons c cs ih =>
    intro done fuel p hA hf hp
    obtain ⟨fuel, rfl⟩ : ∃ n, fuel = n + 1 := ⟨fuel - 1, by omega⟩
    have hAl : (vt_w i).length = done.length + (cs.length + 1) := by rw [hA, List.length_append]; rfl
    have hl7 : (vt_w i).length ≤ 7 := hw7
    simp only [List.length_cons] at hf
    have hc : (vt_w i)[done.length]? = some c := by rw [hA]; simp
    have hc0 : 0 ≤ c := hw8 c (List.mem_of_getElem? hc)
    unfold pb_X3_readsWord_33
    refine kt_word hW hK hi (fun K a hle hstr ho => ?_)
    obtain ⟨o, ho1, ho2⟩ := ho
    refine ka_is ho1 ho2 (ka_use (kx_strlen hstr) ?_)
    refine ka_ifN (fun z => by have := (k3_le (by omega) (by omega)).mp z; omega) (ka_pre hle (Nat.le_refl _) (kt_is (ka_use (kt_letter hs hI (by omega)) ?_)))
    refine kt_word hW hK hi (fun K2 a2 hle2 hstr2 ho => ?_)
    obtain ⟨o, ho1, ho2⟩ := ho
    refine ka_is ho1 ho2 (ka_use (kx_charAt hstr2 hc) ?_)
    rw [vr_lit]
    by_cases h : t[p]? = some c
    · rw [if_pos h]
      refine ka_ifP ((vt_let_eq hc0).mpr h) (ka_pre hle2 (Nat.le_refl _) (kt_gI 14 kt_n14 ?_))
      have e14 : (kt_rd T p n v g).2 14 = Int32.ofNat p := rfl
      rw [e14, k3_succ]
      refine kt_pI 14 kt_n14 rfl ?_
      rw [kt_rd14, k3_succ]
      have h2 := ih (done ++ [c]) fuel (p + 1) (by rw [hA]; simp) (by omega) (by rw [List.length_append]; simp only [List.length_cons, List.length_nil]; omega)
      rw [List.length_append] at h2
      exact h2
    · rw [if_neg h]
      exact ka_ifN (fun z => h ((vt_let_eq hc0).mp z)) (ka_pre hle2 (Nat.le_refl _) (ka_pure ⟨rfl, rfl, rfl⟩))
theorem kt_wdLoop (hs : kt_sep m ad) (hI : kt_I T t) (hW : kt_W Z G m ad) (hK : kz_twords Z) (hp : p ≤ 100) : ∀ (d i fuel : Nat), i + d = 8 → d < fuel → ka_T Z (pb_X3_readsWord_2 fuel (some m) (Int32.ofNat i)) w (kt G m ad (kt_rd T p n v g)) (kt_wdQ w G m ad T n v g (vt_wd t p (List.range' i d))) := by
  obtain ⟨gw, hg, hga⟩ := id hW
  intro d
  induction d with
  | zero =>
    intro i fuel hi hf
    obtain ⟨fuel, rfl⟩ : ∃ n, fuel = n + 1 := ⟨fuel - 1, by omega⟩
    unfold pb_X3_readsWord_2
    refine kt_g10 (ka_len (hg _) rfl ?_)
    exact ka_ifP ((k3_le (by omega) (by omega)).mpr (by omega)) (ka_pure ⟨rfl, rfl, rfl⟩)
  | succ d ih =>
    intro i fuel hi hf
    obtain ⟨fuel, rfl⟩ : ∃ n, fuel = n + 1 := ⟨fuel - 1, by omega⟩
    obtain ⟨-, hw0, hw7, hw8⟩ := vt_w0 ⟨i, by omega⟩
    have hw0' : (vt_w i)[0]? = some ((vt_w i).getD 0 0) := hw0
    have hc0 : 0 ≤ (vt_w i).getD 0 0 := hw8 _ (List.mem_of_getElem? hw0)
    unfold pb_X3_readsWord_2
    refine kt_g10 (ka_len (hg _) rfl ?_)
    refine ka_ifN (fun z => by have := (k3_le (by omega) (by omega)).mp z; omega) (kt_is (ka_use (kt_letter hs hI (by omega)) ?_))
    refine kt_word hW hK (by omega) (fun K a hle hstr ho => ?_)
    obtain ⟨o, ho1, ho2⟩ := ho
    refine ka_is ho1 ho2 (ka_use (kx_charAt (i := 0) hstr hw0') ?_)
    rw [List.range'_succ, vt_wd]
    by_cases h : t[p]? = some ((vt_w i).getD 0 0)
    · rw [if_pos h]
      refine ka_ifP ((vt_let_eq hc0).mpr h) (ka_pre hle (Nat.le_refl _) ?_)
      exact kt_litLoop hs hI hW hK (by omega) (vt_w i) [] km_fuel p rfl (by have : (vt_w i).length ≤ 7 := hw7; unfold km_fuel; omega) (by omega)
    · rw [if_neg h]
      refine ka_ifN (fun z => h ((vt_let_eq hc0).mp z)) (ka_pre hle (Nat.le_refl _) ?_)
      rw [k3_succ]
      exact ih (i + 1) fuel (by omega) (by omega)
theorem kt_readsWord (hs : kt_sep m ad) (hI : kt_I T t) (hW : kt_W Z G m ad) (hK : kz_twords Z) (hp : p ≤ 100) : ka_T Z (pm_X3_readsWord (some m)) w (kt G m ad (kt_rd T p n v g)) (kt_wdQ w G m ad T n v g (vt_wres t (vr_word t p))) := by
  unfold pm_X3_readsWord vr_word
  rw [← vt_wd_eq (fun i hi => by simp [List.mem_range'] at hi; omega)]
  exact kt_wdLoop hs hI hW hK hp 8 0 km_fuel rfl (by unfold km_fuel; omega)
theorem kt_digLoop (hs : kt_sep m ad) (hI : kt_I T t) : ∀ (d j fuel p : Nat) (v : Int32), j + d = 2 → d < fuel → p ≤ 100 + j → (j = 0 → vr_isd t p = 1) → ka_T Z (pb_X3_readsNumber_7 fuel (some m) (Int32.ofNat j)) w (kt G m ad (kt_rd T p n v g)) (ka_V w (kt G m ad (kt_rd T (vr_dig t d p v).2 n (vr_dig t d p v).1 g)) 1) := by
  have h61 : ∀ (j p : Nat) (v : Int32), 0 < j → j ≤ 2 → ka_T Z (pb_X3_readsNumber_61 (Int32.ofNat j)) w (kt G m ad (kt_rd T p n v g)) (ka_V w (kt G m ad (kt_rd T p n v g)) 1) := by
    intro j p v h0 h2
    unfold pb_X3_readsNumber_61
    exact ka_ifN (fun z => by have := (k3_le (b := 0) (by omega) (by omega)).mp z; omega) (ka_ret rfl (ka_pure ⟨rfl, rfl, rfl⟩))
  intro d
  induction d with
  | zero =>
    intro j fuel p v hj hf hp h0
    obtain ⟨fuel, rfl⟩ : ∃ n, fuel = n + 1 := ⟨fuel - 1, by omega⟩
    unfold pb_X3_readsNumber_7
    exact ka_ifP ((k3_le (a := 2) (by omega) (by omega)).mpr (by omega)) (h61 j p v (by omega) (by omega))
  | succ d ih =>
    intro j fuel p v hj hf hp h0
    obtain ⟨fuel, rfl⟩ : ∃ n, fuel = n + 1 := ⟨fuel - 1, by omega⟩
    unfold pb_X3_readsNumber_7
    refine ka_ifN (fun z => by have := (k3_le (a := 2) (by omega) (by omega)).mp z; omega) (kt_is (ka_use (kt_letter hs hI (by omega)) (ka_use kt_isIn ?_)))
    rw [vt_isd, vr_dig]
    by_cases h : vr_isd t p = 1
    · rw [if_pos h]
      refine ka_ifN (by rw [h]; decide) (kt_gI 16 kt_n16 (kt_is (ka_use (kt_letter hs hI (by omega)) ?_)))
      have e16 : (kt_rd T p n v g).2 16 = v := rfl
      have e14 : ∀ v', (kt_rd T p n v' g).2 14 = Int32.ofNat p := fun _ => rfl
      rw [e16]
      refine kt_pI 16 kt_n16 rfl ?_
      rw [kt_rd16]
      refine kt_gI 14 kt_n14 ?_
      rw [e14, k3_succ]
      refine kt_pI 14 kt_n14 rfl ?_
      rw [kt_rd14, k3_succ]
      have hlt := vr_isd_lt h
      have e : vt_let t p = t.getD p 0 := by
        unfold vt_let
        rw [List.getD, List.getElem?_eq_getElem hlt]
        rfl
      rw [e]
      exact ih (j + 1) fuel (p + 1) _ (by omega) (by omega) (by omega) (fun z => by omega)
    · rw [if_neg h]
      have hj0 : 0 < j := Nat.pos_of_ne_zero (fun z => h (h0 z))
      have hi0 : vr_isd t p = 0 := by
        rw [← vt_isd] at h ⊢
        exact v_in_no h
      exact ka_ifP hi0 (h61 j p v hj0 (by omega))
theorem kt_readsNumber (hs : kt_sep m ad) (hI : kt_I T t) (hp : p ≤ 100) : ka_T Z (pm_X3_readsNumber (some m)) w (kt G m ad (kt_rd T p n v g)) (fun r w' H' => w' = w ∧ if vr_isd t p = 1 then r = 1 ∧ H' = kt G m ad (kt_rd T (vr_dig t 2 p 0).2 n (vr_dig t 2 p 0).1 g) else r = 0 ∧ H' = kt G m ad (kt_rd T p n 0 g)) := by
  unfold pm_X3_readsNumber
  refine kt_pI 16 kt_n16 rfl ?_
  rw [kt_rd16]
  by_cases h : vr_isd t p = 1
  · refine ka_post (kt_digLoop (d := 2) (j := 0) hs hI km_fuel p 0 rfl (by unfold km_fuel; omega) (by omega) (fun _ => h)) (fun r w' H' hp => ?_)
    obtain ⟨rfl, rfl, rfl⟩ := hp
    rw [if_pos h]
    exact ⟨rfl, rfl, rfl⟩
  · rw [show km_fuel = 99999 + 1 from rfl]
    unfold pb_X3_readsNumber_7
    have hi0 : vr_isd t p = 0 := by
      rw [← vt_isd] at h ⊢
      exact v_in_no h
    refine ka_ifN (by decide) (kt_is (ka_use (kt_letter hs hI (by omega)) (ka_use kt_isIn ?_)))
    rw [vt_isd]
    refine ka_ifP hi0 ?_
    unfold pb_X3_readsNumber_61
    refine ka_ifP (by decide) (ka_ret rfl (ka_pure ⟨rfl, ?_⟩))
    rw [if_neg h]
    exact ⟨rfl, rfl⟩
end KTZN
