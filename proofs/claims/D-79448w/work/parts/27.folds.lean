set_option maxRecDepth 100000
/-! ===== what is folded over beads ===== -/
noncomputable abbrev kb_iter (a : Nat) : km_M (Option Nat) := km_disp (some a) [(2, pm_X2_iterator (some a)), (7, pm_X2_iterator (some a)), (10, pm_X11_iterator (some a)), (12, pm_X2_iterator (some a)), (30, pm_J2_iterator (some a)), (32, pm_J4_iterator (some a))]
/-- what can be gone through: it gives a new iterator over these -/
def kb_Itb (Z : ka_Z) (H : ka_H) (a : Nat) (rest : List Nat) : Prop := ∀ w, 9 ≤ w → ka_T Z (kb_iter a) w H (fun r w' H' => ∃ (it : Nat) (o : ka_O), r = some it ∧ H it = none ∧ w ≤ w' + 9 ∧ H' = ka_up H it o ∧ kb_I Z H it rest o)
def kb_fsum : Int32 → List kB → Int32
  | a, [] => a
  | a, b :: t => kb_fsum (a + b.2.2.2) t
def kb_finer (b c : kB) : Bool := decide (c.2.2.2 < b.2.2.2) || (decide (b.2.2.2 = c.2.2.2) && decide (b.2.1 < c.2.1))
def kb_fin : Option kB → List kB → Option kB
  | x, [] => x
  | none, b :: t => kb_fin (some b) t
  | some c, b :: t => kb_fin (if kb_finer b c = true then some b else some c) t
def kb_weak : Option kB → List kB → Option kB
  | x, [] => x
  | none, b :: t => kb_weak (some b) t
  | some c, b :: t => kb_weak (if b.2.2.2 < c.2.2.2 then some b else some c) t
def kb_fine (bs : List kB) : Int32 := if bs = [] then 0 else kb_fsum 0 bs / Int32.ofNat bs.length
section KFO
variable {Z : ka_Z} {w : Nat} {H : ka_H}
theorem kb_iterator {r l : Nat} {bs : List kB} (hB : kb_B H r l) (hL : kb_L H l bs) (hlen : bs.length < 2 ^ 16) (hw : 9 ≤ w) : ka_T Z (pm_X2_iterator (some r)) w H (fun r w' H' => ∃ (it : Nat) (o : ka_O), r = some it ∧ H it = none ∧ w ≤ w' + 9 ∧ H' = ka_up H it o ∧ kb_I Z H it (bs.map (·.1)) o) := by
  obtain ⟨⟨mc, hl⟩, hbs⟩ := hL
  unfold pm_X2_iterator
  refine ka_gB hB ?_
  refine ka_is (by first | exact ka_same | assumption | exact ka_ne1 (by first | assumption | exact Ne.symm (by assumption)) (by first | exact ka_same | assumption | exact ka_ne1 (by first | assumption | exact Ne.symm (by assumption)) (by first | exact ka_same | assumption | exact ka_ne1 (by first | assumption | exact Ne.symm (by assumption)) (by first | exact ka_same | assumption | exact ka_ne1 (by first | assumption | exact Ne.symm (by assumption)) (by first | exact ka_same | assumption | exact ka_ne1 (by first | assumption | exact Ne.symm (by assumption)) (by first | exact ka_same | assumption | exact ka_ne1 (by first | assumption | exact Ne.symm (by assumption)) (by first | exact ka_same | assumption))))))) rfl ?_
  refine ka_call (kl_iterator hl hw) (fun r w' H' hp => ?_)
  obtain ⟨a, rfl, ha, rfl, rfl⟩ := hp
  exact ka_pure ⟨a, _, rfl, ha, by omega, rfl, kb_I_list0 hl (by rw [List.length_map]; omega) ha⟩
theorem kb_ItbB {r l : Nat} {bs : List kB} (hB : kb_B H r l) (hL : kb_L H l bs) (hlen : bs.length < 2 ^ 16) : kb_Itb Z H r (bs.map (·.1)) := fun w hw => by
  have h := kb_iterator (Z := Z) (w := w) hB hL hlen hw
  obtain ⟨c, fs, h1, h2⟩ := hB
  rcases h2 with e | e | e
  · subst e
    exact kb_pureBind (ka_disp h1 rfl (ka_call (x := pm_X2_iterator (some r)) h (fun _ _ _ hp => ka_pure hp)))
  · subst e
    exact kb_pureBind (ka_disp h1 rfl (ka_call (x := pm_X2_iterator (some r)) h (fun _ _ _ hp => ka_pure hp)))
  · subst e
    exact kb_pureBind (ka_disp h1 rfl (ka_call (x := pm_X2_iterator (some r)) h (fun _ _ _ hp => ka_pure hp)))
theorem kb_ItbK {a r l : Nat} {k : Int32} {bs : List kB} (ha : H a = some (ka_ob 10 [.int k, .ref r])) (hB : kb_B H r l) (hL : kb_L H l bs) (hk : k = 0 ∨ k = 1) (hlen : bs.length < 2 ^ 16) : kb_Itb Z H a ((kb_of k bs).map (·.1)) := fun w hw => by
  refine kb_pureBind (ka_disp ha rfl ?_)
  refine ka_call (x := pm_X11_iterator (some a)) (P := fun r w' H' => ∃ (it : Nat) (o : ka_O), r = some it ∧ H it = none ∧ w ≤ w' + 9 ∧ H' = ka_up H it o ∧ kb_I Z H it ((kb_of k bs).map (·.1)) o) ?_ (fun _ _ _ hp => ka_pure hp)
  unfold pm_X11_iterator
  refine ka_new (by omega) (fun it hit => ?_)
  have hai : a ≠ it := ka_dom ha hit
  refine ka_gR (by first | exact ka_same | assumption | exact ka_ne1 (by first | assumption | exact Ne.symm (by assumption)) (by first | exact ka_same | assumption | exact ka_ne1 (by first | assumption | exact Ne.symm (by assumption)) (by first | exact ka_same | assumption | exact ka_ne1 (by first | assumption | exact Ne.symm (by assumption)) (by first | exact ka_same | assumption | exact ka_ne1 (by first | assumption | exact Ne.symm (by assumption)) (by first | exact ka_same | assumption | exact ka_ne1 (by first | assumption | exact Ne.symm (by assumption)) (by first | exact ka_same | assumption | exact ka_ne1 (by first | assumption | exact Ne.symm (by assumption)) (by first | exact ka_same | assumption))))))) rfl rfl ?_
  refine ka_gI (by first | exact ka_same | assumption | exact ka_ne1 (by first | assumption | exact Ne.symm (by assumption)) (by first | exact ka_same | assumption | exact ka_ne1 (by first | assumption | exact Ne.symm (by assumption)) (by first | exact ka_same | assumption | exact ka_ne1 (by first | assumption | exact Ne.symm (by assumption)) (by first | exact ka_same | assumption | exact ka_ne1 (by first | assumption | exact Ne.symm (by assumption)) (by first | exact ka_same | assumption | exact ka_ne1 (by first | assumption | exact Ne.symm (by assumption)) (by first | exact ka_same | assumption | exact ka_ne1 (by first | assumption | exact Ne.symm (by assumption)) (by first | exact ka_same | assumption))))))) rfl rfl ?_
  refine ka_nn ?_
  unfold pm_X12_init
  refine ka_call (P := fun _ w' H' => w' = w - 8 ∧ H' = ka_up H it (ka_ob 11 [.int (Int32.ofNat (0 + kb_skip k (bs.drop 0))), .int k, .ref r])) ?_ (fun _ w' H' hp => ?_)
  · refine ka_pR (by first | exact ka_same | assumption | exact ka_ne1 (by first | assumption | exact Ne.symm (by assumption)) (by first | exact ka_same | assumption | exact ka_ne1 (by first | assumption | exact Ne.symm (by assumption)) (by first | exact ka_same | assumption | exact ka_ne1 (by first | assumption | exact Ne.symm (by assumption)) (by first | exact ka_same | assumption | exact ka_ne1 (by first | assumption | exact Ne.symm (by assumption)) (by first | exact ka_same | assumption | exact ka_ne1 (by first | assumption | exact Ne.symm (by assumption)) (by first | exact ka_same | assumption | exact ka_ne1 (by first | assumption | exact Ne.symm (by assumption)) (by first | exact ka_same | assumption))))))) rfl (Nat.le_of_ble_eq_true rfl) ?_
    refine ka_pI (by first | exact ka_same | assumption | exact ka_ne1 (by first | assumption | exact Ne.symm (by assumption)) (by first | exact ka_same | assumption | exact ka_ne1 (by first | assumption | exact Ne.symm (by assumption)) (by first | exact ka_same | assumption | exact ka_ne1 (by first | assumption | exact Ne.symm (by assumption)) (by first | exact ka_same | assumption | exact ka_ne1 (by first | assumption | exact Ne.symm (by assumption)) (by first | exact ka_same | assumption | exact ka_ne1 (by first | assumption | exact Ne.symm (by assumption)) (by first | exact ka_same | assumption | exact ka_ne1 (by first | assumption | exact Ne.symm (by assumption)) (by first | exact ka_same | assumption))))))) (kb_fit hk) rfl (Nat.le_of_ble_eq_true rfl) ?_
    refine ka_nn ?_
    refine ka_is (by first | exact ka_same | assumption | exact ka_ne1 (by first | assumption | exact Ne.symm (by assumption)) (by first | exact ka_same | assumption | exact ka_ne1 (by first | assumption | exact Ne.symm (by assumption)) (by first | exact ka_same | assumption | exact ka_ne1 (by first | assumption | exact Ne.symm (by assumption)) (by first | exact ka_same | assumption | exact ka_ne1 (by first | assumption | exact Ne.symm (by assumption)) (by first | exact ka_same | assumption | exact ka_ne1 (by first | assumption | exact Ne.symm (by assumption)) (by first | exact ka_same | assumption | exact ka_ne1 (by first | assumption | exact Ne.symm (by assumption)) (by first | exact ka_same | assumption))))))) rfl ?_
    rw [ka_up_up, ka_up_up]
    refine ka_use (kb_nextFrom0 (i := 0) (k := k) (at0 := 0) (r := r) (bs := bs) (kb_B_up hB hit) (kb_L_up hL hit) hlen ka_same (Nat.zero_le _)) ?_
    refine ka_pI (by first | exact ka_same | assumption | exact ka_ne1 (by first | assumption | exact Ne.symm (by assumption)) (by first | exact ka_same | assumption | exact ka_ne1 (by first | assumption | exact Ne.symm (by assumption)) (by first | exact ka_same | assumption | exact ka_ne1 (by first | assumption | exact Ne.symm (by assumption)) (by first | exact ka_same | assumption | exact ka_ne1 (by first | assumption | exact Ne.symm (by assumption)) (by first | exact ka_same | assumption | exact ka_ne1 (by first | assumption | exact Ne.symm (by assumption)) (by first | exact ka_same | assumption | exact ka_ne1 (by first | assumption | exact Ne.symm (by assumption)) (by first | exact ka_same | assumption))))))) rfl rfl (Nat.le_of_ble_eq_true rfl) ?_
    exact ka_pure ⟨rfl, ka_up_up⟩
  · obtain ⟨rfl, rfl⟩ := hp
    refine ka_pure ⟨it, _, rfl, hit, by omega, rfl, ?_⟩
    have h := kb_I_ok (Z := Z) (k := k) hB hL hlen hit bs.length 0 (Nat.zero_le _) (by omega)
    exact h
theorem kb_newK {r l : Nat} {k : Int32} (hB : kb_B H r l) (hk : k = 0 ∨ k = 1) (hw : 7 ≤ w) : ka_T Z (pm_X2_of (some r) k) w H (fun r' w' H' => ∃ a, r' = some a ∧ H a = none ∧ w ≤ w' + 7 ∧ H' = ka_up H a (ka_ob 10 [.int k, .ref r])) := by
  unfold pm_X2_of
  refine ka_new (by omega) (fun a ha => ?_)
  refine ka_nn ?_
  unfold pm_X11_init
  refine ka_call (P := fun _ w' H' => w' = w - 7 ∧ H' = ka_up H a (ka_ob 10 [.int k, .ref r])) ?_ (fun _ w' H' hp => ?_)
  · refine ka_pR (by first | exact ka_same | assumption | exact ka_ne1 (by first | assumption | exact Ne.symm (by assumption)) (by first | exact ka_same | assumption | exact ka_ne1 (by first | assumption | exact Ne.symm (by assumption)) (by first | exact ka_same | assumption | exact ka_ne1 (by first | assumption | exact Ne.symm (by assumption)) (by first | exact ka_same | assumption | exact ka_ne1 (by first | assumption | exact Ne.symm (by assumption)) (by first | exact ka_same | assumption | exact ka_ne1 (by first | assumption | exact Ne.symm (by assumption)) (by first | exact ka_same | assumption | exact ka_ne1 (by first | assumption | exact Ne.symm (by assumption)) (by first | exact ka_same | assumption))))))) rfl (Nat.le_of_ble_eq_true rfl) ?_
    refine ka_pI (by first | exact ka_same | assumption | exact ka_ne1 (by first | assumption | exact Ne.symm (by assumption)) (by first | exact ka_same | assumption | exact ka_ne1 (by first | assumption | exact Ne.symm (by assumption)) (by first | exact ka_same | assumption | exact ka_ne1 (by first | assumption | exact Ne.symm (by assumption)) (by first | exact ka_same | assumption | exact ka_ne1 (by first | assumption | exact Ne.symm (by assumption)) (by first | exact ka_same | assumption | exact ka_ne1 (by first | assumption | exact Ne.symm (by assumption)) (by first | exact ka_same | assumption | exact ka_ne1 (by first | assumption | exact Ne.symm (by assumption)) (by first | exact ka_same | assumption))))))) (kb_fit hk) rfl (Nat.le_of_ble_eq_true rfl) ?_
    refine ka_nn (ka_pure ⟨rfl, ?_⟩)
    rw [ka_up_up, ka_up_up]
    rfl
  · obtain ⟨rfl, rfl⟩ := hp
    exact ka_pure ⟨a, rfl, ha, by omega, rfl⟩
theorem ka_back {α : Type} {it : Nat} {o : ka_O} {v : α} (hit : H it = none) : ka_T Z (km_pure v) w (ka_up H it o) (fun r w' H' => r = v ∧ w' = w ∧ H' = H) := ka_pureE (ka_entle (ka_le_up hit)) ⟨rfl, rfl, rfl⟩
theorem kb_sumLoop {it : Nat} (hit : H it = none) : ∀ (rest : List kB) (o : ka_O) (acc : Int32) (fuel : Nat), rest.length < fuel → (∀ b ∈ rest, kb_bead H b) → kb_I Z H it (rest.map (·.1)) o → ka_T Z (pb_X13_sum_9 fuel acc (some it)) w (ka_up H it o) (fun r w' H' => r = kb_fsum acc rest ∧ w' = w ∧ H' = H) := by
  intro rest
  induction rest with
  | nil =>
    intro o acc fuel hf hb hI
    obtain ⟨fuel, rfl⟩ : ∃ n, fuel = n + 1 := ⟨fuel - 1, by omega⟩
    unfold pb_X13_sum_9
    exact ka_use (hI w) (ka_ifP rfl (ka_back hit))
  | cons b t ih =>
    intro o acc fuel hf hb hI
    obtain ⟨fuel, rfl⟩ : ∃ n, fuel = n + 1 := ⟨fuel - 1, by omega⟩
    obtain ⟨h1, o', h2, h3⟩ := hI
    have hbb := hb b List.mem_cons_self
    have hbi : b.1 ≠ it := ka_dom hbb hit
    unfold pb_X13_sum_9
    refine ka_use (h1 w) (ka_ifN (by decide) (ka_call (h3 w) (fun r w' H' hp => ?_)))
    obtain ⟨rfl, rfl, rfl⟩ := hp
    have hb2 : ka_up H it o' b.1 = some (ka_ob 14 [.int b.2.1, .int b.2.2.1, .int b.2.2.2]) := (ka_ne hbi).trans hbb
    refine ka_cast hb2 rfl rfl (ka_is hb2 rfl ?_)
    refine ka_use (v := b.2.2.2) (by
      unfold pm_X16_fineness
      exact ka_gI hb2 rfl rfl (ka_pure ⟨rfl, rfl, rfl⟩)) ?_
    exact ih o' (acc + b.2.2.2) fuel (by simp at hf; omega) (fun c hc => hb c (List.mem_cons_of_mem _ hc)) h2
theorem kb_sumI {a : Nat} {bs : List kB} (hI : kb_Itb Z H a (bs.map (·.1))) (hb : ∀ b ∈ bs, kb_bead H b) (hlen : bs.length < 2 ^ 16) (hw : 9 ≤ w) : ka_T Z (pm_X13_sum (some a)) w H (fun r w' H' => r = kb_fsum 0 bs ∧ w ≤ w' + 9 ∧ H' = H) := by
  unfold pm_X13_sum
  refine ka_call (hI w hw) (fun r w' H' hp => ?_)
  obtain ⟨it, o, rfl, hit, hw', rfl, hI2⟩ := hp
  refine ka_post (kb_sumLoop hit bs o 0 km_fuel (by unfold km_fuel; omega) hb hI2) (fun r v G hp => ?_)
  obtain ⟨rfl, rfl, rfl⟩ := hp
  exact ⟨rfl, hw', rfl⟩
theorem kb_sum {r l : Nat} {bs : List kB} (hB : kb_B H r l) (hL : kb_L H l bs) (hlen : bs.length < 2 ^ 16) (hw : 9 ≤ w) : ka_T Z (pm_X2_sum (some r)) w H (fun r w' H' => r = kb_fsum 0 bs ∧ w ≤ w' + 9 ∧ H' = H) := by
  unfold pm_X2_sum
  exact ka_call (kb_sumI (kb_ItbB hB hL hlen) hL.2 hlen hw) (fun r w' H' hp => ka_pure hp)
theorem kb_fineness {r l : Nat} {bs : List kB} (hB : kb_B H r l) (hL : kb_L H l bs) (hlen : bs.length < 2 ^ 16) (hw : 9 ≤ w) : ka_T Z (pm_X2_fineness (some r)) w H (fun r w' H' => r = kb_fine bs ∧ w ≤ w' + 9 ∧ H' = H) := by
  have hL0 := hL
  obtain ⟨⟨mc, hl⟩, hbs⟩ := hL
  unfold pm_X2_fineness
  refine ka_gB hB ?_
  refine ka_is (by first | exact ka_same | assumption | exact ka_ne1 (by first | assumption | exact Ne.symm (by assumption)) (by first | exact ka_same | assumption | exact ka_ne1 (by first | assumption | exact Ne.symm (by assumption)) (by first | exact ka_same | assumption | exact ka_ne1 (by first | assumption | exact Ne.symm (by assumption)) (by first | exact ka_same | assumption | exact ka_ne1 (by first | assumption | exact Ne.symm (by assumption)) (by first | exact ka_same | assumption | exact ka_ne1 (by first | assumption | exact Ne.symm (by assumption)) (by first | exact ka_same | assumption | exact ka_ne1 (by first | assumption | exact Ne.symm (by assumption)) (by first | exact ka_same | assumption))))))) rfl ?_
  refine ka_use (kl_isEmpty hl (by rw [List.length_map]; omega)) ?_
  cases hbs0 : bs with
  | nil =>
    refine ka_ifN (by decide) (ka_pure ⟨?_, by omega, rfl⟩)
    rfl
  | cons b t =>
    rw [← hbs0]
    have hne : bs ≠ [] := by rw [hbs0]; simp
    rw [if_neg (show ¬ bs.map (·.1) = [] by simp [hne])]
    refine ka_ifP rfl (ka_dB hB ?_)
    refine ka_call (kb_sum hB hL0 hlen hw) (fun r' w' H' hp => ?_)
    obtain ⟨rfl, hw', rfl⟩ := hp
    refine ka_dB hB (ka_use (kb_size hB hl) ?_)
    rw [List.length_map]
    have hpos : bs.length ≠ 0 := fun h => hne (List.length_eq_zero_iff.mp h)
    refine ka_div (fun h => hpos ((k3_eq (b := 0) (by omega) (by decide)).mp h)) (ka_pure ⟨?_, hw', rfl⟩)
    unfold kb_fine
    rw [if_neg hne]
theorem kb_manyLoop {it : Nat} (hit : H it = none) : ∀ (rest : List kB) (o : ka_O) (n : Nat) (fuel : Nat), rest.length < fuel → (∀ b ∈ rest, kb_bead H b) → kb_I Z H it (rest.map (·.1)) o → ka_T Z (pb_X2_many_13 fuel (Int32.ofNat n) (some it)) w (ka_up H it o) (fun r w' H' => r = Int32.ofNat (n + rest.length) ∧ w' = w ∧ H' = H) := by
  intro rest
  induction rest with
  | nil =>
    intro o n fuel hf hb hI
    obtain ⟨fuel, rfl⟩ : ∃ n, fuel = n + 1 := ⟨fuel - 1, by omega⟩
    unfold pb_X2_many_13
    exact ka_use (hI w) (ka_ifP rfl (ka_back hit))
  | cons b t ih =>
    intro o n fuel hf hb hI
    obtain ⟨fuel, rfl⟩ : ∃ n, fuel = n + 1 := ⟨fuel - 1, by omega⟩
    obtain ⟨h1, o', h2, h3⟩ := hI
    have hbb := hb b List.mem_cons_self
    have hbi : b.1 ≠ it := ka_dom hbb hit
    unfold pb_X2_many_13
    refine ka_use (h1 w) (ka_ifN (by decide) (ka_call (h3 w) (fun r w' H' hp => ?_)))
    obtain ⟨rfl, rfl, rfl⟩ := hp
    have hb2 : ka_up H it o' b.1 = some (ka_ob 14 [.int b.2.1, .int b.2.2.1, .int b.2.2.2]) := (ka_ne hbi).trans hbb
    refine ka_cast hb2 rfl rfl ?_
    rw [k3_succ]
    have h := ih o' (n + 1) fuel (by simp at hf; omega) (fun c hc => hb c (List.mem_cons_of_mem _ hc)) h2
    rw [show n + 1 + t.length = n + (b :: t).length by simp; omega] at h
    exact h
theorem kb_of_mem {k : Int32} {bs : List kB} {b : kB} (h : b ∈ kb_of k bs) : b ∈ bs := (List.mem_filter.mp h).1
theorem kb_of_len {k : Int32} {bs : List kB} : (kb_of k bs).length ≤ bs.length := List.length_filter_le _ _
/-- a fold over those of a kind: of, iterator, the loop -/
theorem kb_overK {α : Type} {Q : α → Nat → ka_H → Prop} {r l : Nat} {k : Int32} {bs : List kB} {f : Option Nat → km_M α} (hB : kb_B H r l) (hL : kb_L H l bs) (hk : k = 0 ∨ k = 1) (hlen : bs.length < 2 ^ 16) (hw : 16 ≤ w) (k2 : ∀ (H1 : ka_H) (a it : Nat) (o : ka_O) (v : Nat), H a = none → H1 = ka_up H a (ka_ob 10 [.int k, .ref r]) → H1 it = none → w ≤ v + 16 → kb_I Z H1 it ((kb_of k bs).map (·.1)) o → ka_T Z (f (some it)) v (ka_up H1 it o) Q) : ka_T Z (km_bind (km_disp (some r) [(2, pm_X2_of (some r) k), (7, pm_X2_of (some r) k), (12, pm_X2_of (some r) k)]) fun r1 => km_bind (km_disp r1 [(2, pm_X2_iterator r1), (7, pm_X2_iterator r1), (10, pm_X11_iterator r1), (12, pm_X2_iterator r1), (30, pm_J2_iterator r1), (32, pm_J4_iterator r1)]) f) w H Q := by
  refine ka_dB hB (ka_call (kb_newK hB hk (by omega)) (fun r' w' H' hp => ?_))
  obtain ⟨a, rfl, ha, hw', rfl⟩ := hp
  refine ka_call (kb_ItbK (Z := Z) (k := k) (bs := bs) ka_same (kb_B_up hB ha) (kb_L_up hL ha) hk hlen w' (by omega)) (fun r' w2 H' hp => ?_)
  obtain ⟨it, o, rfl, hit, hw2, rfl, hI⟩ := hp
  exact k2 _ a it o w2 ha rfl hit (by omega) hI
theorem kb_many {r l : Nat} {k : Int32} {bs : List kB} (hB : kb_B H r l) (hL : kb_L H l bs) (hk : k = 0 ∨ k = 1) (hlen : bs.length < 2 ^ 16) (hw : 16 ≤ w) : ka_T Z (pm_X2_many (some r) k) w H (fun r' w' H' => r' = Int32.ofNat (kb_of k bs).length ∧ w ≤ w' + 16 ∧ H' = H) := by
  unfold pm_X2_many
  refine kb_overK hB hL hk hlen hw (fun H1 a it o v ha hH1 hit hv hI => ?_)
  subst hH1
  have hle := kb_of_len (k := k) (bs := bs)
  refine ka_mono (kb_manyLoop hit (kb_of k bs) o 0 km_fuel (by unfold km_fuel; omega) (fun b hb => (kb_L_up hL ha).2 b (kb_of_mem hb)) hI) (fun r' v' G hp => ?_)
  obtain ⟨rfl, rfl, rfl⟩ := hp
  exact ⟨H, v', ka_le_up ha, Nat.le_refl _, by rw [Nat.zero_add], hv, rfl⟩
theorem kb_isFiner {b c : kB} (hb : kb_bead H b) (hc : kb_bead H c) : ka_T Z (pm_X13_isFinerThan (some b.1) (some c.1)) w H (ka_V w H (if kb_finer b c = true then 1 else 0)) := by
  unfold kb_bead at hb hc
  have f1 : ∀ {x : kB} (hx : H x.1 = some (ka_ob 14 [.int x.2.1, .int x.2.2.1, .int x.2.2.2])), ka_T Z (pm_X16_fineness (some x.1)) w H (ka_V w H x.2.2.2) := fun hx => by
    unfold pm_X16_fineness
    exact ka_gI hx rfl rfl (ka_pure ⟨rfl, rfl, rfl⟩)
  have f2 : ∀ {x : kB} (hx : H x.1 = some (ka_ob 14 [.int x.2.1, .int x.2.2.1, .int x.2.2.2])), ka_T Z (pm_X16_number (some x.1)) w H (ka_V w H x.2.1) := fun hx => by
    unfold pm_X16_number
    exact ka_gI hx rfl rfl (ka_pure ⟨rfl, rfl, rfl⟩)
  unfold pm_X13_isFinerThan kb_finer
  refine ka_is hb rfl (ka_use (f1 hb) (ka_is hc rfl (ka_use (f1 hc) ?_)))
  by_cases h1 : c.2.2.2 < b.2.2.2
  · refine ka_ifP h1 ?_
    refine ka_ret rfl ?_
    exact ka_pure ⟨by simp [h1], rfl, rfl⟩
  · refine ka_ifN h1 (ka_is hb rfl (ka_use (f1 hb) (ka_is hc rfl (ka_use (f1 hc) ?_))))
    by_cases h2 : b.2.2.2 = c.2.2.2
    · refine ka_ifN (fun z => z h2) (ka_is hb rfl (ka_use (f2 hb) (ka_is hc rfl (ka_use (f2 hc) ?_))))
      by_cases h3 : c.2.1 ≤ b.2.1
      · refine ka_ifP h3 ?_
        refine ka_ret rfl ?_
        exact ka_pure ⟨by simp [h1, h2, Int32.not_lt.mpr h3], rfl, rfl⟩
      · refine ka_ifN h3 ?_
        refine ka_ret rfl ?_
        exact ka_pure ⟨by simp [h2, Int32.not_le.mp h3], rfl, rfl⟩
    · refine ka_ifP h2 ?_
      refine ka_ret rfl ?_
      exact ka_pure ⟨by simp [h1, h2], rfl, rfl⟩
theorem kb_bead_up {b : kB} {x : Nat} {o : ka_O} (h : kb_bead H b) (hx : H x = none) : kb_bead (ka_up H x o) b := (ka_ne (ka_dom h hx)).trans h
theorem kb_finLoop {it : Nat} (hit : H it = none) : ∀ (rest : List kB) (o : ka_O) (x : Option kB) (fuel : Nat), rest.length < fuel → (∀ b ∈ rest, kb_bead H b) → (∀ b, x = some b → kb_bead H b) → kb_I Z H it (rest.map (·.1)) o → ka_T Z (pb_X2_finest_13 fuel (x.map (·.1)) (some it)) w (ka_up H it o) (fun r w' H' => r = (kb_fin x rest).map (·.1) ∧ w' = w ∧ H' = H) := by
  intro rest
  induction rest with
  | nil =>
    intro o x fuel hf hb hx hI
    obtain ⟨fuel, rfl⟩ : ∃ n, fuel = n + 1 := ⟨fuel - 1, by omega⟩
    unfold pb_X2_finest_13
    refine ka_use (hI w) (ka_ifP rfl ?_)
    have h : kb_fin x [] = x := by cases x <;> rfl
    rw [h]
    exact ka_back hit
  | cons b t ih =>
    intro o x fuel hf hb hx hI
    obtain ⟨fuel, rfl⟩ : ∃ n, fuel = n + 1 := ⟨fuel - 1, by omega⟩
    obtain ⟨h1, o', h2, h3⟩ := hI
    have hbb := hb b List.mem_cons_self
    have hf2 : t.length < fuel := by simp at hf; omega
    have hbt : ∀ c ∈ t, kb_bead H c := fun c hc => hb c (List.mem_cons_of_mem _ hc)
    unfold pb_X2_finest_13
    refine ka_use (h1 w) (ka_ifN (by decide) (ka_call (h3 w) (fun r w' H' hp => ?_)))
    obtain ⟨rfl, rfl, rfl⟩ := hp
    have hb2 := kb_bead_up (o := o') hbb hit
    refine ka_cast hb2 rfl rfl ?_
    cases x with
    | none =>
      refine ka_ifP rfl ?_
      exact ih o' (some b) fuel hf2 hbt (fun c hc => by cases hc; exact hbb) h2
    | some c =>
      have hcc := hx c rfl
      refine ka_ifN (by simp) (ka_is hb2 rfl (ka_use (kb_isFiner hb2 (kb_bead_up (o := o') hcc hit)) ?_))
      unfold kb_fin
      by_cases hfi : kb_finer b c = true
      · rw [if_pos hfi, if_pos hfi]
        refine ka_ifN (by decide) ?_
        exact ih o' (some b) fuel hf2 hbt (fun d hd => by cases hd; exact hbb) h2
      · rw [if_neg hfi, if_neg hfi]
        refine ka_ifP rfl ?_
        exact ih o' (some c) fuel hf2 hbt hx h2
theorem kb_finest {r l : Nat} {k : Int32} {bs : List kB} (hB : kb_B H r l) (hL : kb_L H l bs) (hk : k = 0 ∨ k = 1) (hlen : bs.length < 2 ^ 16) (hw : 16 ≤ w) : ka_T Z (pm_X2_finest (some r) k) w H (fun r' w' H' => r' = (kb_fin none (kb_of k bs)).map (·.1) ∧ w ≤ w' + 16 ∧ H' = H) := by
  unfold pm_X2_finest
  refine kb_overK hB hL hk hlen hw (fun H1 a it o v ha hH1 hit hv hI => ?_)
  subst hH1
  have hle := kb_of_len (k := k) (bs := bs)
  refine ka_mono (kb_finLoop hit (kb_of k bs) o none km_fuel (by unfold km_fuel; omega) (fun b hb => (kb_L_up hL ha).2 b (kb_of_mem hb)) (fun b hb => by cases hb) hI) (fun r' v' G hp => ?_)
  obtain ⟨rfl, rfl, rfl⟩ := hp
  exact ⟨H, v', ka_le_up ha, Nat.le_refl _, rfl, hv, rfl⟩
theorem kb_weakLoop {it : Nat} (hit : H it = none) : ∀ (rest : List kB) (o : ka_O) (x : Option kB) (fuel : Nat), rest.length < fuel → (∀ b ∈ rest, kb_bead H b) → (∀ b, x = some b → kb_bead H b) → kb_I Z H it (rest.map (·.1)) o → ka_T Z (pb_X14_weakest_7 fuel (x.map (·.1)) (some it)) w (ka_up H it o) (fun r w' H' => r = (kb_weak x rest).map (·.1) ∧ w' = w ∧ H' = H) := by
  intro rest
  induction rest with
  | nil =>
    intro o x fuel hf hb hx hI
    obtain ⟨fuel, rfl⟩ : ∃ n, fuel = n + 1 := ⟨fuel - 1, by omega⟩
    unfold pb_X14_weakest_7
    refine ka_use (hI w) (ka_ifP rfl ?_)
    have h : kb_weak x [] = x := by cases x <;> rfl
    rw [h]
    exact ka_back hit
  | cons b t ih =>
    intro o x fuel hf hb hx hI
    obtain ⟨fuel, rfl⟩ : ∃ n, fuel = n + 1 := ⟨fuel - 1, by omega⟩
    obtain ⟨h1, o', h2, h3⟩ := hI
    have hbb := hb b List.mem_cons_self
    have hf2 : t.length < fuel := by simp at hf; omega
    have hbt : ∀ c ∈ t, kb_bead H c := fun c hc => hb c (List.mem_cons_of_mem _ hc)
    unfold pb_X14_weakest_7
    refine ka_use (h1 w) (ka_ifN (by decide) (ka_call (h3 w) (fun r w' H' hp => ?_)))
    obtain ⟨rfl, rfl, rfl⟩ := hp
    have hb2 := kb_bead_up (o := o') hbb hit
    refine ka_cast hb2 rfl rfl ?_
    cases x with
    | none =>
      refine ka_ifP rfl ?_
      exact ih o' (some b) fuel hf2 hbt (fun c hc => by cases hc; exact hbb) h2
    | some c =>
      have hcc := hx c rfl
      refine ka_ifN (by simp) (ka_gI hb2 rfl rfl (ka_gI (kb_bead_up (o := o') hcc hit) rfl rfl ?_))
      unfold kb_weak
      by_cases hfi : b.2.2.2 < c.2.2.2
      · rw [if_pos hfi]
        refine ka_ifN (Int32.not_le.mpr hfi) ?_
        exact ih o' (some b) fuel hf2 hbt (fun d hd => by cases hd; exact hbb) h2
      · rw [if_neg hfi]
        refine ka_ifP (Int32.not_lt.mp hfi) ?_
        exact ih o' (some c) fuel hf2 hbt hx h2
theorem kb_weakest {r l : Nat} {bs : List kB} {fs : List Value} (hr : H r = some (ka_ob 12 (.ref l :: fs))) (hL : kb_L H l bs) (hlen : bs.length < 2 ^ 16) (hw : 9 ≤ w) : ka_T Z (pm_X14_weakest (some r)) w H (fun r' w' H' => r' = (kb_weak none bs).map (·.1) ∧ w ≤ w' + 9 ∧ H' = H) := by
  unfold pm_X14_weakest
  refine ka_is (by first | exact ka_same | assumption | exact ka_ne1 (by first | assumption | exact Ne.symm (by assumption)) (by first | exact ka_same | assumption | exact ka_ne1 (by first | assumption | exact Ne.symm (by assumption)) (by first | exact ka_same | assumption | exact ka_ne1 (by first | assumption | exact Ne.symm (by assumption)) (by first | exact ka_same | assumption | exact ka_ne1 (by first | assumption | exact Ne.symm (by assumption)) (by first | exact ka_same | assumption | exact ka_ne1 (by first | assumption | exact Ne.symm (by assumption)) (by first | exact ka_same | assumption | exact ka_ne1 (by first | assumption | exact Ne.symm (by assumption)) (by first | exact ka_same | assumption))))))) rfl ?_
  refine ka_call (kb_iterator ⟨12, fs, hr, Or.inr (Or.inr rfl)⟩ hL hlen hw) (fun r' w' H' hp => ?_)
  obtain ⟨it, o, rfl, hit, hw', rfl, hI⟩ := hp
  refine ka_post (kb_weakLoop hit bs o none km_fuel (by unfold km_fuel; omega) hL.2 (fun b hb => by cases hb) hI) (fun r v G hp => ?_)
  obtain ⟨rfl, rfl, rfl⟩ := hp
  exact ⟨rfl, hw', rfl⟩
end KFO
