set_option maxRecDepth 100000
/-! ===== the twin: commands are read ===== -/
def kt_c1 (i a b : Int32) (c : vCm) : Prop := i = Int32.ofNat c.1 ∧ c.1 < 8 ∧ (c.1 ≠ 6 → a = c.2.1) ∧ (c.1 ≤ 3 → b = c.2.2)
def kt_cms (g : Nat → Int32) (cs : List vCm) : Prop := ∀ j c, cs[j]? = some c → kt_c1 (g (3 * j)) (g (3 * j + 1)) (g (3 * j + 2)) c
theorem kt_cms_app {g : Nat → Int32} {cs : List vCm} {i a b : Int32} {c : vCm} (h : kt_cms g cs) (hc : kt_c1 i a b c) : kt_cms (upd (upd (upd g (3 * cs.length) i) (3 * cs.length + 1) a) (3 * cs.length + 2) b) (cs ++ [c]) := by
  intro j x hx
  by_cases hj : j < cs.length
  · rw [List.getElem?_append_left hj] at hx
    rw [upd_ne (by omega), upd_ne (by omega), upd_ne (by omega), upd_ne (by omega), upd_ne (by omega), upd_ne (by omega), upd_ne (by omega), upd_ne (by omega), upd_ne (by omega)]
    exact h j x hx
  · have hi2 := ke_get_lt hx
    rw [List.length_append] at hi2
    simp only [List.length_cons, List.length_nil] at hi2
    have e : j = cs.length := by omega
    subst e
    rw [List.getElem?_append_right (Nat.le_refl _), Nat.sub_self] at hx
    cases hx
    have e0 : upd (upd (upd g (3 * cs.length) i) (3 * cs.length + 1) a) (3 * cs.length + 2) b (3 * cs.length) = i := by rw [upd_ne (by omega), upd_ne (by omega), upd_same]
    have e1 : upd (upd (upd g (3 * cs.length) i) (3 * cs.length + 1) a) (3 * cs.length + 2) b (3 * cs.length + 1) = a := by rw [upd_ne (by omega), upd_same]
    rw [e0, e1, upd_same]
    exact hc
def kt_cmQ (w : Nat) (G : ka_H) (m : Nat) (ad : Nat → Nat) (T : kT) (g : Nat → Int32) (cs : List vCm) (res : Nat ⊕ (vCm × Nat)) : Int32 → Nat → ka_H → Prop := fun r w' H' => w' = w ∧ match res with
  | .inl e => r = 0 ∧ ∃ v', H' = kt G m ad (kt_rd T e cs.length v' g)
  | .inr (c, a) => r = 1 ∧ ∃ v' g', H' = kt G m ad (kt_rd T a (cs.length + 1) v' g') ∧ kt_cms g' (cs ++ [c])
def kt_txQ (w : Nat) (G : ka_H) (m : Nat) (ad : Nat → Nat) (T : kT) (res : Nat ⊕ List vCm) : Int32 → Nat → ka_H → Prop := fun r w' H' => w' = w ∧ match res with
  | .inl e => r = 0 ∧ ∃ n v g, H' = kt G m ad (kt_rd T e n v g)
  | .inr cs => r = 1 ∧ ∃ p v g, H' = kt G m ad (kt_rd T p cs.length v g) ∧ kt_cms g cs
theorem vr_many_2 : ∀ i : Fin 4, vr_many i.val = 2 := by decide
theorem vr_many_1 : ∀ i : Fin 8, 3 < i.val → i.val ≠ 6 → vr_many i.val = 1 := by decide
section KTZO
variable {Z : ka_Z} {w : Nat} {G : ka_H} {m : Nat} {ad : Nat → Nat} {T : kT} {t : List Int32} {p n : Nat} {v : Int32} {g : Nat → Int32}
theorem kt_store {x y : Int32} (hs : kt_sep m ad) (hn : n ≤ 20) : ka_T Z (pb_X3_readsCommand_64 (some m) x y) w (kt G m ad (kt_rd T p n v g)) (ka_V w (kt G m ad (kt_rd T p (n + 1) v (upd (upd (upd g (3 * n) x) (3 * n + 1) y) (3 * n + 2) v))) 1) := by
  have e15 : ∀ g, (kt_rd T p n v g).2 15 = Int32.ofNat n := fun _ => rfl
  have e16 : ∀ g, (kt_rd T p n v g).2 16 = v := fun _ => rfl
  have e12 : ∀ g, (kt_rd T p n v g).1 12 = g := fun _ => rfl
  have e3 : (3 : Int32) * Int32.ofNat n = Int32.ofNat (3 * n) := k3_mul (a := 3)
  have e31 : Int32.ofNat (3 * n) + 1 = Int32.ofNat (3 * n + 1) := k3_succ
  have e32 : Int32.ofNat (3 * n) + 2 = Int32.ofNat (3 * n + 2) := k3_add (b := 2)
  unfold pb_X3_readsCommand_64
  refine kt_g12 (kt_gI 15 kt_n15 ?_)
  rw [e15, e3]
  refine kt_st (j := 12) (p := 3 * n) hs (by decide) (show 3 * n < 63 by omega) ?_
  rw [kt_rd12, e12]
  refine kt_g12 (kt_gI 15 kt_n15 ?_)
  rw [e15, e3, e31]
  refine kt_st (j := 12) (p := 3 * n + 1) hs (by decide) (show 3 * n + 1 < 63 by omega) ?_
  rw [kt_rd12, e12]
  refine kt_g12 (kt_gI 15 kt_n15 (kt_gI 16 kt_n16 ?_))
  rw [e15, e16, e3, e32]
  refine kt_st (j := 12) (p := 3 * n + 2) hs (by decide) (show 3 * n + 2 < 63 by omega) ?_
  rw [kt_rd12, e12]
  refine kt_gI 15 kt_n15 ?_
  rw [e15, k3_succ]
  refine kt_pI 15 kt_n15 rfl (ka_ret rfl (ka_pure ⟨rfl, rfl, ?_⟩))
  rw [kt_rd15]
theorem kt_readsCommand {cs : List vCm} (hs : kt_sep m ad) (hI : kt_I T t) (hW : kt_W Z G m ad) (hK : kz_twords Z) (hp : p ≤ t.length) (hc : kt_cms g cs) (hn : cs.length ≤ 20) : ka_T Z (pm_X3_readsCommand (some m)) w (kt G m ad (kt_rd T p cs.length v g)) (kt_cmQ w G m ad T g cs (vr_cmd t p)) := by
  have h60 : t.length ≤ 60 := hI.2.1
  have e16 : ∀ p n v g, (kt_rd T p n v g).2 16 = v := fun _ _ _ _ => rfl
  have e14 : ∀ p n v g, (kt_rd T p n v g).2 14 = Int32.ofNat p := fun _ _ _ _ => rfl
  unfold pm_X3_readsCommand
  refine kt_is (ka_call (kt_readsWord hs hI hW hK (by omega)) (fun r w' H' hq => ?_))
  obtain ⟨rfl, hq⟩ := hq
  rw [vr_cmd]
  cases hw : vr_word t p with
  | inl e =>
    rw [hw] at hq
    have hq2 : r = -1 ∧ H' = kt G m ad (kt_rd T e cs.length v g) := hq
    obtain ⟨rfl, rfl⟩ := hq2
    exact ka_ifP (by decide) (ka_ret rfl (ka_pure ⟨rfl, rfl, v, rfl⟩))
  | inr q =>
    obtain ⟨i, a⟩ := q
    obtain ⟨hi8, ha1, ha2⟩ := vr_word_le hp hw
    rw [hw] at hq
    by_cases h6 : i = 6
    · subst h6
      have hq2 : r = Int32.ofNat 6 ∧ H' = kt G m ad (kt_rd T a cs.length v g) := hq
      obtain ⟨rfl, rfl⟩ := hq2
      refine ka_ifN (by decide) (ka_ifP (by decide) ?_)
      unfold pb_X3_readsCommand_24
      refine kt_gI 16 kt_n16 (ka_ifP (by decide) ?_)
      rw [e16]
      refine ka_post (kt_store hs hn) (fun r w' H' hq => ?_)
      obtain ⟨rfl, rfl, rfl⟩ := hq
      exact ⟨rfl, rfl, v, _, rfl, kt_cms_app (c := (6, 0, 0)) hc ⟨rfl, Nat.le_of_ble_eq_true rfl, fun z => absurd rfl z, fun z => absurd z (by decide)⟩⟩
    · obtain ⟨d, hmany⟩ : ∃ d, vr_many i = d + 1 := by
        by_cases h3 : i ≤ 3
        · exact ⟨1, vr_many_2 ⟨i, by omega⟩⟩
        · exact ⟨0, vr_many_1 ⟨i, hi8⟩ (by simp only; omega) h6⟩
      by_cases hsp : t[a]? = some 32
      · have e : vt_wres t (.inr (i, a)) = .inr (i, a + 1) := by
          show (if i = 6 then _ else if t[a]? = some 32 then _ else _) = _
          rw [if_neg h6, if_pos hsp]
        rw [e] at hq
        have hq2 : r = Int32.ofNat i ∧ H' = kt G m ad (kt_rd T (a + 1) cs.length v g) := hq
        obtain ⟨rfl, rfl⟩ := hq2
        refine ka_ifN (k3_neg (by omega)) (ka_ifN (fun z => h6 ((k3_eq (b := 6) (by omega) (by omega)).mp z)) (kt_is (ka_call (kt_readsNumber hs hI (by omega)) (fun r w' H' hq => ?_))))
        obtain ⟨rfl, hq⟩ := hq
        by_cases hd : vr_isd t (a + 1) = 1
        · rw [if_pos hd] at hq
          obtain ⟨rfl, rfl⟩ := hq
          have hn1 : vr_num t a = .inr (vr_dig t 2 (a + 1) 0) := by
            unfold vr_num
            rw [if_pos hsp, if_pos hd]
          have hlt := vr_isd_lt hd
          have hb := vr_dig_le (t := t) (k := 2) (p := a + 1) (v := 0) (by omega)
          rcases hdig : vr_dig t 2 (a + 1) 0 with ⟨x, a1⟩
          rw [hdig] at hb hn1
          simp only at hb
          refine ka_ifP (by decide) ?_
          unfold pb_X3_readsCommand_24
          refine kt_gI 16 kt_n16 ?_
          rw [e16]
          simp only
          by_cases h3 : i ≤ 3
          · have hm2 : vr_many i = 2 := vr_many_2 ⟨i, by omega⟩
            rw [hm2]
            refine ka_ifN (fun z => by have := (k3_lt (a := 3) (by omega) (by omega)).mp z; omega) (kt_is (ka_use (kt_letter hs hI (by omega)) ?_))
            by_cases hsp2 : t[a1]? = some 32
            · refine ka_ifP ((vt_let_eq (by decide)).mpr hsp2) (kt_gI 14 kt_n14 ?_)
              rw [e14, k3_succ]
              refine kt_pI 14 kt_n14 rfl ?_
              rw [kt_rd14]
              refine kt_is (ka_call (kt_readsNumber hs hI (by omega)) (fun r w' H' hq => ?_))
              obtain ⟨rfl, hq⟩ := hq
              by_cases hd2 : vr_isd t (a1 + 1) = 1
              · rw [if_pos hd2] at hq
                obtain ⟨rfl, rfl⟩ := hq
                have hn2 : vr_num t a1 = .inr (vr_dig t 2 (a1 + 1) 0) := by
                  unfold vr_num
                  rw [if_pos hsp2, if_pos hd2]
                rcases hdig2 : vr_dig t 2 (a1 + 1) 0 with ⟨y, a2⟩
                rw [hdig2] at hn2
                have hN : vr_nums t 2 a = .inr ([x, y], a2) := by
                  simp only [vr_nums, hn1, hn2]
                rw [hN]
                refine ka_ifP (by decide) (ka_post (kt_store hs hn) (fun r w' H' hq => ?_))
                obtain ⟨rfl, rfl, rfl⟩ := hq
                exact ⟨rfl, rfl, y, _, rfl, kt_cms_app (c := (i, x, y)) hc ⟨rfl, hi8, fun _ => rfl, fun _ => rfl⟩⟩
              · rw [if_neg hd2] at hq
                obtain ⟨rfl, rfl⟩ := hq
                have hn2 : vr_num t a1 = .inl (a1 + 1) := by
                  unfold vr_num
                  rw [if_pos hsp2, if_neg hd2]
                have hN : vr_nums t 2 a = .inl (a1 + 1) := by
                  simp only [vr_nums, hn1, hn2]
                rw [hN]
                exact ka_ifN (by decide) (ka_ret rfl (ka_pure ⟨rfl, rfl, 0, rfl⟩))
            · have hn2 : vr_num t a1 = .inl a1 := by
                unfold vr_num
                rw [if_neg hsp2]
              have hN : vr_nums t 2 a = .inl a1 := by
                simp only [vr_nums, hn1, hn2]
              rw [hN]
              exact ka_ifN (fun z => hsp2 ((vt_let_eq (by decide)).mp z)) (ka_ret rfl (ka_pure ⟨rfl, rfl, x, rfl⟩))
          · have hm1 : vr_many i = 1 := vr_many_1 ⟨i, hi8⟩ (by simp only; omega) h6
            rw [hm1]
            have hN : vr_nums t 1 a = .inr ([x], a1) := by
              simp only [vr_nums, hn1]
            rw [hN]
            refine ka_ifP ((k3_lt (a := 3) (by omega) (by omega)).mpr (by omega)) (ka_post (kt_store hs hn) (fun r w' H' hq => ?_))
            obtain ⟨rfl, rfl, rfl⟩ := hq
            exact ⟨rfl, rfl, x, _, rfl, kt_cms_app (c := (i, x, 0)) hc ⟨rfl, hi8, fun _ => rfl, fun z => absurd z h3⟩⟩
        · rw [if_neg hd] at hq
          obtain ⟨rfl, rfl⟩ := hq
          have hn1 : vr_num t a = .inl (a + 1) := by
            unfold vr_num
            rw [if_pos hsp, if_neg hd]
          have hN : vr_nums t (vr_many i) a = .inl (a + 1) := by
            rw [hmany, vr_nums, hn1]
          simp only
          rw [hN]
          exact ka_ifN (by decide) (ka_ret rfl (ka_pure ⟨rfl, rfl, 0, rfl⟩))
      · have e : vt_wres t (.inr (i, a)) = .inl a := by
          show (if i = 6 then _ else if t[a]? = some 32 then _ else _) = _
          rw [if_neg h6, if_neg hsp]
        rw [e] at hq
        have hq2 : r = -1 ∧ H' = kt G m ad (kt_rd T a cs.length v g) := hq
        obtain ⟨rfl, rfl⟩ := hq2
        have hn1 : vr_num t a = .inl a := by
          unfold vr_num
          rw [if_neg hsp]
        have hN : vr_nums t (vr_many i) a = .inl a := by
          rw [hmany, vr_nums, hn1]
        simp only
        rw [hN]
        exact ka_ifP (by decide) (ka_ret rfl (ka_pure ⟨rfl, rfl, v, rfl⟩))
theorem kt_textLoop (hs : kt_sep m ad) (hI : kt_I T t) (hW : kt_W Z G m ad) (hK : kz_twords Z) : ∀ (k fuel p : Nat) (v : Int32) (g : Nat → Int32) (cs : List vCm), t.length < p + k → k < fuel → p ≤ t.length → 5 * cs.length ≤ p + 1 → kt_cms g cs → ka_T Z (pb_X3_isText_15 fuel (some m) 1) w (kt G m ad (kt_rd T p cs.length v g)) (kt_txQ w G m ad T (vr_more t k p cs)) := by
  have h60 : t.length ≤ 60 := hI.2.1
  have e14 : ∀ p n v g, (kt_rd T p n v g).2 14 = Int32.ofNat p := fun _ _ _ _ => rfl
  have e13 : ∀ p n v g, (kt_rd T p n v g).2 13 = Int32.ofNat t.length := fun _ _ _ _ => hI.1
  intro k
  induction k with
  | zero => intro fuel p v g cs h1 h2 h3; omega
  | succ k ih =>
    intro fuel p v g cs h1 h2 h3 h5 hc
    obtain ⟨fuel, rfl⟩ : ∃ n, fuel = n + 1 := ⟨fuel - 1, by omega⟩
    unfold pb_X3_isText_15
    refine ka_ifN (by decide) (kt_is (ka_use (kt_letter hs hI (by omega)) ?_))
    rw [vr_more]
    by_cases h59 : t[p]? = some 59
    · have hlt := vr_get_lt h59
      rw [if_pos h59]
      refine ka_ifN (fun z => z ((vt_let_eq (by decide)).mpr h59)) (kt_gI 14 kt_n14 ?_)
      rw [e14, k3_succ]
      refine kt_pI 14 kt_n14 rfl ?_
      rw [kt_rd14]
      refine kt_is (ka_call (kt_readsCommand hs hI hW hK (by omega) hc (by omega)) (fun r w' H' hq => ?_))
      obtain ⟨rfl, hq⟩ := hq
      cases hcm : vr_cmd t (p + 1) with
      | inl e =>
        rw [hcm] at hq
        obtain ⟨rfl, v', rfl⟩ := hq
        obtain ⟨fuel, rfl⟩ : ∃ n, fuel = n + 1 := ⟨fuel - 1, by omega⟩
        unfold pb_X3_isText_15 pb_X3_isText_46
        exact ka_ifP rfl (ka_ifP rfl (ka_ret rfl (ka_pure ⟨rfl, rfl, _, _, _, rfl⟩)))
      | inr q =>
        obtain ⟨c, a⟩ := q
        rw [hcm] at hq
        obtain ⟨rfl, v', g', rfl, hc'⟩ := hq
        obtain ⟨b1, b2, b3⟩ := vr_cmd_le hcm (by omega)
        have h9 := ih fuel a v' g' (cs ++ [c]) (by omega) (by omega) b3 (by rw [List.length_append]; simp only [List.length_cons, List.length_nil]; omega) hc'
        rw [List.length_append] at h9
        exact h9
    · rw [if_neg h59]
      refine ka_ifP (fun z => h59 ((vt_let_eq (by decide)).mp z)) ?_
      unfold pb_X3_isText_46
      refine ka_ifN (by decide) (kt_gI 14 kt_n14 (kt_gI 13 kt_n13 ?_))
      rw [e14, e13]
      by_cases hlt : p < t.length
      · rw [if_pos hlt]
        exact ka_ifP (fun z => by have := (k3_eq (by omega) (by omega)).mp z; omega) (ka_ret rfl (ka_pure ⟨rfl, rfl, _, _, _, rfl⟩))
      · rw [if_neg hlt]
        exact ka_ifN (fun z => z (by rw [show p = t.length by omega])) (ka_ret rfl (ka_pure ⟨rfl, rfl, _, _, _, rfl, hc⟩))
theorem kt_isText (hs : kt_sep m ad) (hI : kt_I T t) (hW : kt_W Z G m ad) (hK : kz_twords Z) : ka_T Z (pm_X3_isText (some m)) w (kt G m ad T) (kt_txQ w G m ad T (vr_whole t)) := by
  have h60 : t.length ≤ 60 := hI.2.1
  have e0 : kt_num (kt_num T 14 0) 15 0 = kt_rd T 0 0 (T.2 16) (T.1 12) := by
    unfold kt_num kt_rd
    refine Prod.ext (funext fun j => ?_) (funext fun j => ?_)
    · by_cases h : j = 12 <;> simp [h]
    · by_cases h4 : j = 14
      · simp [h4]
      · by_cases h5 : j = 15
        · simp [h5]
        · by_cases h6 : j = 16 <;> simp [h4, h5, h6]
  unfold pm_X3_isText
  refine kt_pI 14 kt_n14 rfl (kt_pI 15 kt_n15 rfl ?_)
  rw [e0]
  refine kt_is (ka_call (kt_readsCommand (cs := []) hs hI hW hK (Nat.zero_le _) (fun j c hj => by cases hj) (Nat.zero_le _)) (fun r w' H' hq => ?_))
  obtain ⟨rfl, hq⟩ := hq
  rw [vr_whole]
  cases hcm : vr_cmd t 0 with
  | inl e =>
    rw [hcm] at hq
    obtain ⟨rfl, v', rfl⟩ := hq
    rw [show km_fuel = 99999 + 1 from rfl]
    unfold pb_X3_isText_15 pb_X3_isText_46
    exact ka_ifP rfl (ka_ifP rfl (ka_ret rfl (ka_pure ⟨rfl, rfl, _, _, _, rfl⟩)))
  | inr q =>
    obtain ⟨c, a⟩ := q
    rw [hcm] at hq
    obtain ⟨rfl, v', g', rfl, hc'⟩ := hq
    obtain ⟨b1, b2, b3⟩ := vr_cmd_le hcm (Nat.zero_le _)
    exact kt_textLoop hs hI hW hK (t.length + 1) km_fuel a v' g' [c] (by omega) (by unfold km_fuel; omega) b3 (by simp only [List.length_cons, List.length_nil]; omega) hc'
end KTZO
