set_option maxRecDepth 100000
/-! ===== the beads of a kind: their iterator; what is folded over beads ===== -/
def kb_skip (k : Int32) : List kB → Nat
  | [] => 0
  | b :: t => if b.2.2.1 = k then 0 else kb_skip k t + 1
def kb_of (k : Int32) (bs : List kB) : List kB := bs.filter (fun b => decide (b.2.2.1 = k))
theorem kb_skip_nil {k : Int32} : ∀ {s : List kB}, kb_of k s = [] → kb_skip k s = s.length := by
  intro s
  induction s with
  | nil => intro _; rfl
  | cons b t ih =>
    intro h
    unfold kb_of at h ih
    rw [List.filter_cons] at h
    unfold kb_skip
    by_cases hb : b.2.2.1 = k
    · simp [hb] at h
    · rw [if_neg hb, ih (by simpa [hb] using h)]
      rfl
theorem kb_skip_cons {k : Int32} {b : kB} {u : List kB} : ∀ {s : List kB}, kb_of k s = b :: u → kb_skip k s < s.length ∧ s[kb_skip k s]? = some b ∧ kb_of k (s.drop (kb_skip k s + 1)) = u := by
  intro s
  induction s with
  | nil => intro h; cases h
  | cons c t ih =>
    intro h
    unfold kb_of at h ih ⊢
    rw [List.filter_cons] at h
    unfold kb_skip
    by_cases hc : c.2.2.1 = k
    · simp only [hc, decide_true, if_true] at h
      obtain ⟨rfl, rfl⟩ := List.cons.inj h
      rw [if_pos hc]
      exact ⟨Nat.succ_pos _, rfl, rfl⟩
    · simp only [hc, decide_false, Bool.false_eq_true, if_false] at h
      obtain ⟨h1, h2, h3⟩ := ih h
      rw [if_neg hc]
      exact ⟨by simp; omega, by simpa using h2, by simpa using h3⟩
theorem kb_skip_le {k : Int32} : ∀ {s : List kB}, kb_skip k s ≤ s.length := by
  intro s
  induction s with
  | nil => exact Nat.le_refl _
  | cons b t ih =>
    unfold kb_skip
    split
    · omega
    · simp; omega
section KOK
variable {Z : ka_Z} {w : Nat} {H : ka_H}
/-- the calls of hasNext, next of an object of kind 11 -/
theorem ka_T_dispH {it : Nat} {fs : List Value} {Q : Int32 → Nat → ka_H → Prop} (k : ka_T Z (pm_X12_hasNext (some it)) w (ka_up H it (ka_ob 11 fs)) Q) : ka_T Z (kb_has it) w (ka_up H it (ka_ob 11 fs)) Q := by
  refine kb_pureBind (ka_disp ka_same rfl ?_)
  exact ka_call (x := pm_X12_hasNext (some it)) k (fun _ _ _ hp => ka_pure hp)
theorem ka_T_dispN {it : Nat} {fs : List Value} {Q : Option Nat → Nat → ka_H → Prop} (k : ka_T Z (pm_X12_next (some it)) w (ka_up H it (ka_ob 11 fs)) Q) : ka_T Z (kb_nxt it) w (ka_up H it (ka_ob 11 fs)) Q := by
  refine kb_pureBind (ka_disp ka_same rfl ?_)
  exact ka_call (x := pm_X12_next (some it)) k (fun _ _ _ hp => ka_pure hp)
theorem kb_at {l : Nat} {bs : List kB} {i : Nat} {b : kB} (hL : kb_L H l bs) (hi : bs[i]? = some b) : kb_bead H b := hL.2 b (List.mem_of_getElem? hi)
theorem kb_L_up {l : Nat} {bs : List kB} {x : Nat} {o : ka_O} (hL : kb_L H l bs) (hx : H x = none) : kb_L (ka_up H x o) l bs := by
  obtain ⟨⟨mc, h1⟩, h2⟩ := hL
  exact ⟨⟨mc, (ka_ne (ka_dom h1 hx)).trans h1⟩, fun b hb => (ka_ne (ka_dom (h2 b hb) hx)).trans (h2 b hb)⟩
theorem kb_B_up {r l : Nat} {x : Nat} {o : ka_O} (h : kb_B H r l) (hx : H x = none) : kb_B (ka_up H x o) r l := by
  obtain ⟨c, fs, h1, h2⟩ := h
  exact ⟨c, fs, (ka_ne (ka_dom h1 hx)).trans h1, h2⟩
theorem kb_nextFrom {r l it : Nat} {k : Int32} {bs : List kB} (hB : kb_B H r l) (hL : kb_L H l bs) (hlen : bs.length < 2 ^ 20) {at0 : Int32} (hit : H it = some (ka_ob 11 [.int at0, .int k, .ref r])) : ∀ (d i fuel : Nat), i + d = bs.length → d < fuel → ka_T Z (pb_X12_next_3_2 fuel (some it) (Int32.ofNat i)) w H (ka_V w H (Int32.ofNat (i + kb_skip k (bs.drop i)))) := by
  obtain ⟨⟨mc, hl⟩, hbs⟩ := hL
  have hlen2 : (bs.map (·.1)).length = bs.length := List.length_map ..
  intro d
  induction d with
  | zero =>
    intro i fuel hd hf
    obtain ⟨fuel, rfl⟩ : ∃ n, fuel = n + 1 := ⟨fuel - 1, by omega⟩
    unfold pb_X12_next_3_2
    refine ka_gR (by first | exact ka_same | assumption | exact ka_ne1 (by first | assumption | exact Ne.symm (by assumption)) (by first | exact ka_same | assumption | exact ka_ne1 (by first | assumption | exact Ne.symm (by assumption)) (by first | exact ka_same | assumption | exact ka_ne1 (by first | assumption | exact Ne.symm (by assumption)) (by first | exact ka_same | assumption | exact ka_ne1 (by first | assumption | exact Ne.symm (by assumption)) (by first | exact ka_same | assumption | exact ka_ne1 (by first | assumption | exact Ne.symm (by assumption)) (by first | exact ka_same | assumption | exact ka_ne1 (by first | assumption | exact Ne.symm (by assumption)) (by first | exact ka_same | assumption))))))) rfl rfl ?_
    refine ka_gB hB ?_
    refine ka_is hl rfl ?_
    refine ka_use (kl_size hl) ?_
    rw [hlen2]
    refine ka_ifP ((k3_le (by omega) (by omega)).mpr (by omega)) (ka_pure ⟨?_, rfl, rfl⟩)
    rw [List.drop_of_length_le (by omega)]
    rfl
  | succ d ih =>
    intro i fuel hd hf
    obtain ⟨fuel, rfl⟩ : ∃ n, fuel = n + 1 := ⟨fuel - 1, by omega⟩
    have hi : i < bs.length := by omega
    have hb := hbs _ (List.getElem_mem hi)
    unfold pb_X12_next_3_2
    refine ka_gR (by first | exact ka_same | assumption | exact ka_ne1 (by first | assumption | exact Ne.symm (by assumption)) (by first | exact ka_same | assumption | exact ka_ne1 (by first | assumption | exact Ne.symm (by assumption)) (by first | exact ka_same | assumption | exact ka_ne1 (by first | assumption | exact Ne.symm (by assumption)) (by first | exact ka_same | assumption | exact ka_ne1 (by first | assumption | exact Ne.symm (by assumption)) (by first | exact ka_same | assumption | exact ka_ne1 (by first | assumption | exact Ne.symm (by assumption)) (by first | exact ka_same | assumption | exact ka_ne1 (by first | assumption | exact Ne.symm (by assumption)) (by first | exact ka_same | assumption))))))) rfl rfl ?_
    refine ka_gB hB ?_
    refine ka_is hl rfl ?_
    refine ka_use (kl_size hl) ?_
    rw [hlen2]
    refine ka_ifN (fun h => absurd ((k3_le (by omega) (by omega)).mp h) (by omega)) ?_
    refine ka_gR (by first | exact ka_same | assumption | exact ka_ne1 (by first | assumption | exact Ne.symm (by assumption)) (by first | exact ka_same | assumption | exact ka_ne1 (by first | assumption | exact Ne.symm (by assumption)) (by first | exact ka_same | assumption | exact ka_ne1 (by first | assumption | exact Ne.symm (by assumption)) (by first | exact ka_same | assumption | exact ka_ne1 (by first | assumption | exact Ne.symm (by assumption)) (by first | exact ka_same | assumption | exact ka_ne1 (by first | assumption | exact Ne.symm (by assumption)) (by first | exact ka_same | assumption | exact ka_ne1 (by first | assumption | exact Ne.symm (by assumption)) (by first | exact ka_same | assumption))))))) rfl rfl ?_
    refine ka_gB hB ?_
    refine ka_is hl rfl ?_
    refine ka_use (kl_get hl (v := bs[i].1) (by simp [hi])) ?_
    refine ka_cast hb rfl rfl ?_
    refine ka_gI hb rfl rfl ?_
    refine ka_gI (by first | exact ka_same | assumption | exact ka_ne1 (by first | assumption | exact Ne.symm (by assumption)) (by first | exact ka_same | assumption | exact ka_ne1 (by first | assumption | exact Ne.symm (by assumption)) (by first | exact ka_same | assumption | exact ka_ne1 (by first | assumption | exact Ne.symm (by assumption)) (by first | exact ka_same | assumption | exact ka_ne1 (by first | assumption | exact Ne.symm (by assumption)) (by first | exact ka_same | assumption | exact ka_ne1 (by first | assumption | exact Ne.symm (by assumption)) (by first | exact ka_same | assumption | exact ka_ne1 (by first | assumption | exact Ne.symm (by assumption)) (by first | exact ka_same | assumption))))))) rfl rfl ?_
    rw [List.drop_eq_getElem_cons hi]
    unfold kb_skip
    by_cases hk : bs[i].2.2.1 = k
    · refine ka_ifP hk (ka_pure ⟨?_, rfl, rfl⟩)
      rw [if_pos hk]
      rfl
    · refine ka_ifN hk ?_
      rw [k3_succ, if_neg hk, show i + (kb_skip k (bs.drop (i + 1)) + 1) = (i + 1) + kb_skip k (bs.drop (i + 1)) by omega]
      exact ih (i + 1) fuel (by omega) (by omega)
theorem kb_nextFrom0 {r l it : Nat} {k : Int32} {bs : List kB} (hB : kb_B H r l) (hL : kb_L H l bs) (hlen : bs.length < 2 ^ 16) {at0 : Int32} (hit : H it = some (ka_ob 11 [.int at0, .int k, .ref r])) {i : Nat} (hi : i ≤ bs.length) : ka_T Z (pm_X12_next_3 (some it) (Int32.ofNat i)) w H (ka_V w H (Int32.ofNat (i + kb_skip k (bs.drop i)))) := by
  unfold pm_X12_next_3
  exact kb_nextFrom hB hL (by omega) hit (bs.length - i) i km_fuel (by omega) (by unfold km_fuel; omega)
theorem kb_okHas {r l it a : Nat} {k : Int32} {bs : List kB} (hB : kb_B H r l) (hL : kb_L H l bs) (hlen : bs.length < 2 ^ 16) (hit : H it = some (ka_ob 11 [.int (Int32.ofNat a), .int k, .ref r])) (ha : a ≤ bs.length) : ka_T Z (pm_X12_hasNext (some it)) w H (ka_V w H (if a = bs.length then 0 else 1)) := by
  obtain ⟨⟨mc, hl⟩, hbs⟩ := hL
  unfold pm_X12_hasNext
  refine ka_gI (by first | exact ka_same | assumption | exact ka_ne1 (by first | assumption | exact Ne.symm (by assumption)) (by first | exact ka_same | assumption | exact ka_ne1 (by first | assumption | exact Ne.symm (by assumption)) (by first | exact ka_same | assumption | exact ka_ne1 (by first | assumption | exact Ne.symm (by assumption)) (by first | exact ka_same | assumption | exact ka_ne1 (by first | assumption | exact Ne.symm (by assumption)) (by first | exact ka_same | assumption | exact ka_ne1 (by first | assumption | exact Ne.symm (by assumption)) (by first | exact ka_same | assumption | exact ka_ne1 (by first | assumption | exact Ne.symm (by assumption)) (by first | exact ka_same | assumption))))))) rfl rfl ?_
  refine ka_gR (by first | exact ka_same | assumption | exact ka_ne1 (by first | assumption | exact Ne.symm (by assumption)) (by first | exact ka_same | assumption | exact ka_ne1 (by first | assumption | exact Ne.symm (by assumption)) (by first | exact ka_same | assumption | exact ka_ne1 (by first | assumption | exact Ne.symm (by assumption)) (by first | exact ka_same | assumption | exact ka_ne1 (by first | assumption | exact Ne.symm (by assumption)) (by first | exact ka_same | assumption | exact ka_ne1 (by first | assumption | exact Ne.symm (by assumption)) (by first | exact ka_same | assumption | exact ka_ne1 (by first | assumption | exact Ne.symm (by assumption)) (by first | exact ka_same | assumption))))))) rfl rfl ?_
  refine ka_gB hB ?_
  refine ka_is hl rfl ?_
  refine ka_use (kl_size hl) ?_
  rw [List.length_map]
  by_cases h : a = bs.length
  · refine ka_ifP ((k3_le (by omega) (by omega)).mpr (by omega)) ?_
    refine ka_ret rfl ?_
    rw [if_pos h]
    exact ka_pure ⟨rfl, rfl, rfl⟩
  · refine ka_ifN (fun z => absurd ((k3_le (by omega) (by omega)).mp z) (by omega)) ?_
    refine ka_ret rfl ?_
    rw [if_neg h]
    exact ka_pure ⟨rfl, rfl, rfl⟩
theorem kb_okNext {r l it a : Nat} {k : Int32} {bs : List kB} {b : kB} (hB : kb_B H r l) (hL : kb_L H l bs) (hlen : bs.length < 2 ^ 16) (hit : H it = some (ka_ob 11 [.int (Int32.ofNat a), .int k, .ref r])) (hb : bs[a]? = some b) : ka_T Z (pm_X12_next (some it)) w H (fun r' w' H' => r' = some b.1 ∧ w' = w ∧ H' = ka_up H it (ka_ob 11 [.int (Int32.ofNat (a + 1 + kb_skip k (bs.drop (a + 1)))), .int k, .ref r])) := by
  obtain ⟨ha, -⟩ := List.getElem?_eq_some_iff.mp hb
  have hbead := kb_at hL hb
  have hL0 := hL
  obtain ⟨⟨mc, hl⟩, hbs⟩ := hL
  unfold pm_X12_next
  refine ka_is (by first | exact ka_same | assumption | exact ka_ne1 (by first | assumption | exact Ne.symm (by assumption)) (by first | exact ka_same | assumption | exact ka_ne1 (by first | assumption | exact Ne.symm (by assumption)) (by first | exact ka_same | assumption | exact ka_ne1 (by first | assumption | exact Ne.symm (by assumption)) (by first | exact ka_same | assumption | exact ka_ne1 (by first | assumption | exact Ne.symm (by assumption)) (by first | exact ka_same | assumption | exact ka_ne1 (by first | assumption | exact Ne.symm (by assumption)) (by first | exact ka_same | assumption | exact ka_ne1 (by first | assumption | exact Ne.symm (by assumption)) (by first | exact ka_same | assumption))))))) rfl ?_
  refine ka_call (P := fun r' w' H' => r' = some b.1 ∧ w' = w ∧ H' = ka_up H it (ka_ob 11 [.int (Int32.ofNat (a + 1 + kb_skip k (bs.drop (a + 1)))), .int k, .ref r])) ?_ (fun _ _ _ hp => ka_pure hp)
  unfold pm_X12_next_2
  refine ka_is (by first | exact ka_same | assumption | exact ka_ne1 (by first | assumption | exact Ne.symm (by assumption)) (by first | exact ka_same | assumption | exact ka_ne1 (by first | assumption | exact Ne.symm (by assumption)) (by first | exact ka_same | assumption | exact ka_ne1 (by first | assumption | exact Ne.symm (by assumption)) (by first | exact ka_same | assumption | exact ka_ne1 (by first | assumption | exact Ne.symm (by assumption)) (by first | exact ka_same | assumption | exact ka_ne1 (by first | assumption | exact Ne.symm (by assumption)) (by first | exact ka_same | assumption | exact ka_ne1 (by first | assumption | exact Ne.symm (by assumption)) (by first | exact ka_same | assumption))))))) rfl ?_
  refine ka_use (kb_okHas hB hL0 hlen hit (by omega)) ?_
  rw [if_neg (show ¬ a = bs.length by omega)]
  refine ka_ifP (by decide) ?_
  refine ka_gR (by first | exact ka_same | assumption | exact ka_ne1 (by first | assumption | exact Ne.symm (by assumption)) (by first | exact ka_same | assumption | exact ka_ne1 (by first | assumption | exact Ne.symm (by assumption)) (by first | exact ka_same | assumption | exact ka_ne1 (by first | assumption | exact Ne.symm (by assumption)) (by first | exact ka_same | assumption | exact ka_ne1 (by first | assumption | exact Ne.symm (by assumption)) (by first | exact ka_same | assumption | exact ka_ne1 (by first | assumption | exact Ne.symm (by assumption)) (by first | exact ka_same | assumption | exact ka_ne1 (by first | assumption | exact Ne.symm (by assumption)) (by first | exact ka_same | assumption))))))) rfl rfl ?_
  refine ka_gB hB ?_
  refine ka_gI (by first | exact ka_same | assumption | exact ka_ne1 (by first | assumption | exact Ne.symm (by assumption)) (by first | exact ka_same | assumption | exact ka_ne1 (by first | assumption | exact Ne.symm (by assumption)) (by first | exact ka_same | assumption | exact ka_ne1 (by first | assumption | exact Ne.symm (by assumption)) (by first | exact ka_same | assumption | exact ka_ne1 (by first | assumption | exact Ne.symm (by assumption)) (by first | exact ka_same | assumption | exact ka_ne1 (by first | assumption | exact Ne.symm (by assumption)) (by first | exact ka_same | assumption | exact ka_ne1 (by first | assumption | exact Ne.symm (by assumption)) (by first | exact ka_same | assumption))))))) rfl rfl ?_
  refine ka_is hl rfl ?_
  refine ka_use (kl_get hl (v := b.1) (by rw [List.getElem?_map, hb]; rfl)) ?_
  refine ka_cast hbead rfl rfl ?_
  refine ka_gI (by first | exact ka_same | assumption | exact ka_ne1 (by first | assumption | exact Ne.symm (by assumption)) (by first | exact ka_same | assumption | exact ka_ne1 (by first | assumption | exact Ne.symm (by assumption)) (by first | exact ka_same | assumption | exact ka_ne1 (by first | assumption | exact Ne.symm (by assumption)) (by first | exact ka_same | assumption | exact ka_ne1 (by first | assumption | exact Ne.symm (by assumption)) (by first | exact ka_same | assumption | exact ka_ne1 (by first | assumption | exact Ne.symm (by assumption)) (by first | exact ka_same | assumption | exact ka_ne1 (by first | assumption | exact Ne.symm (by assumption)) (by first | exact ka_same | assumption))))))) rfl rfl ?_
  refine ka_is (by first | exact ka_same | assumption | exact ka_ne1 (by first | assumption | exact Ne.symm (by assumption)) (by first | exact ka_same | assumption | exact ka_ne1 (by first | assumption | exact Ne.symm (by assumption)) (by first | exact ka_same | assumption | exact ka_ne1 (by first | assumption | exact Ne.symm (by assumption)) (by first | exact ka_same | assumption | exact ka_ne1 (by first | assumption | exact Ne.symm (by assumption)) (by first | exact ka_same | assumption | exact ka_ne1 (by first | assumption | exact Ne.symm (by assumption)) (by first | exact ka_same | assumption | exact ka_ne1 (by first | assumption | exact Ne.symm (by assumption)) (by first | exact ka_same | assumption))))))) rfl ?_
  rw [k3_succ]
  refine ka_use (kb_nextFrom0 hB hL0 hlen hit (i := a + 1) (by omega)) ?_
  refine ka_pI (by first | exact ka_same | assumption | exact ka_ne1 (by first | assumption | exact Ne.symm (by assumption)) (by first | exact ka_same | assumption | exact ka_ne1 (by first | assumption | exact Ne.symm (by assumption)) (by first | exact ka_same | assumption | exact ka_ne1 (by first | assumption | exact Ne.symm (by assumption)) (by first | exact ka_same | assumption | exact ka_ne1 (by first | assumption | exact Ne.symm (by assumption)) (by first | exact ka_same | assumption | exact ka_ne1 (by first | assumption | exact Ne.symm (by assumption)) (by first | exact ka_same | assumption | exact ka_ne1 (by first | assumption | exact Ne.symm (by assumption)) (by first | exact ka_same | assumption))))))) rfl rfl (Nat.le_of_ble_eq_true rfl) ?_
  exact ka_pure ⟨rfl, rfl, rfl⟩
theorem kb_I_ok {r l it : Nat} {k : Int32} {bs : List kB} (hB : kb_B H r l) (hL : kb_L H l bs) (hlen : bs.length < 2 ^ 16) (hit : H it = none) : ∀ (m j : Nat), j ≤ bs.length → bs.length - j ≤ m → kb_I Z H it ((kb_of k (bs.drop j)).map (·.1)) (ka_ob 11 [.int (Int32.ofNat (j + kb_skip k (bs.drop j))), .int k, .ref r]) := by
  have hmain : ∀ (m j : Nat), j ≤ bs.length → bs.length - j ≤ m → (∀ j', j < j' → j' ≤ bs.length → kb_I Z H it ((kb_of k (bs.drop j')).map (·.1)) (ka_ob 11 [.int (Int32.ofNat (j' + kb_skip k (bs.drop j'))), .int k, .ref r])) → kb_I Z H it ((kb_of k (bs.drop j)).map (·.1)) (ka_ob 11 [.int (Int32.ofNat (j + kb_skip k (bs.drop j))), .int k, .ref r]) := by
    intro m j hj hm ih
    have hdl : (bs.drop j).length = bs.length - j := List.length_drop
    cases hof : kb_of k (bs.drop j) with
    | nil =>
      have hs := kb_skip_nil hof
      intro w
      refine ka_T_dispH ?_
      have h := kb_okHas (Z := Z) (w := w) (H := ka_up H it (ka_ob 11 [.int (Int32.ofNat (j + kb_skip k (bs.drop j))), .int k, .ref r])) (kb_B_up hB hit) (kb_L_up hL hit) hlen ka_same (by omega)
      rw [if_pos (by omega)] at h
      exact h
    | cons b u =>
      obtain ⟨s1, s2, s3⟩ := kb_skip_cons hof
      rw [List.getElem?_drop] at s2
      rw [List.drop_drop] at s3
      obtain ⟨hlt, -⟩ := List.getElem?_eq_some_iff.mp s2
      refine ⟨fun w => ?_, (ka_ob 11 [.int (Int32.ofNat (j + kb_skip k (bs.drop j) + 1 + kb_skip k (bs.drop (j + kb_skip k (bs.drop j) + 1)))), .int k, .ref r]), ?_, fun w => ?_⟩
      · refine ka_T_dispH ?_
        have h := kb_okHas (Z := Z) (w := w) (H := ka_up H it (ka_ob 11 [.int (Int32.ofNat (j + kb_skip k (bs.drop j))), .int k, .ref r])) (kb_B_up hB hit) (kb_L_up hL hit) hlen ka_same (by omega)
        rw [if_neg (by omega)] at h
        exact h
      · have h := ih (j + kb_skip k (bs.drop j) + 1) (by omega) (by omega)
        rw [show j + (kb_skip k (bs.drop j) + 1) = j + kb_skip k (bs.drop j) + 1 by omega] at s3
        rw [s3] at h
        exact h
      · refine ka_T_dispN ?_
        have h := kb_okNext (Z := Z) (w := w) (H := ka_up H it (ka_ob 11 [.int (Int32.ofNat (j + kb_skip k (bs.drop j))), .int k, .ref r])) (kb_B_up hB hit) (kb_L_up hL hit) hlen ka_same s2
        rw [ka_up_up] at h
        exact h
  intro m
  induction m with
  | zero =>
    intro j hj hm
    exact hmain 0 j hj hm (fun j' h1 h2 => by omega)
  | succ m ih =>
    intro j hj hm
    exact hmain (m + 1) j hj hm (fun j' h1 h2 => ih j' h2 (by omega))
end KOK
