set_option maxRecDepth 100000
/-! ===== what every workshop keeps, as a value ===== -/
def v_num1 (b : vB) : Nat := b.1.toNatClampNeg
def v_bok (b : vB) : Prop := 0 ≤ b.1 ∧ (b.2.1 = 0 ∨ b.2.1 = 1) ∧ 2 ≤ b.2.2 ∧ b.2.2 ≤ 9
def v_all (V : kV) : List vB := V.bx ++ (V.st.flatMap (·.bs) ++ (V.so.flatMap (·.bs) ++ V.wa.flatMap (·.bs)))
/-- a string: groups g, small ones m, knots k -/
def v_sokN (g m k : Nat) (r : vS) : Prop := r.1 = Int32.ofNat g ∧ r.2.1 = Int32.ofNat m ∧ r.2.2.1 = Int32.ofNat k ∧ 1 ≤ g ∧ g ≤ 4 ∧ 1 ≤ m ∧ m ≤ 6 ∧ k ≤ g ∧ k * (m + 1) ≤ r.bs.length ∧ r.bs.length ≤ (k + 1) * (m + 1) ∧ r.bs.length ≤ g * (m + 1) ∧ ∀ p b, r.bs[p]? = some b → b.2.1 = if p % (m + 1) = 0 then 1 else 0
def v_sok (r : vS) : Prop := ∃ g m k, v_sokN g m k r
def v_okL (V : kV) : Prop := (∀ l ∈ V.ls, l.2 = -1 ∨ ∃ j, j < V.cs.length ∧ l.2 = Int32.ofNat j) ∧ ∀ (i j : Nat) (l l' : vL), V.ls[i]? = some l → V.ls[j]? = some l' → l.2 = l'.2 → l.2 ≠ -1 → i = j
def v_okD (V : kV) : Prop := (∀ d ∈ V.so, d.2.1 = none ∧ 2 ≤ d.bs.length ∧ d.bs.length ≤ 28) ∧ ∀ d ∈ V.wa, (∃ c, d.2.1 = some c ∧ v_bok c) ∧ 1 ≤ d.bs.length ∧ d.bs.length ≤ 28
def v_okC (V : kV) : Prop := V.cs.length ≤ 4 ∧ V.ls.length ≤ 4 ∧ V.st.length ≤ 6 ∧ V.ps.length ≤ 6 ∧ V.so.length ≤ 8
def v_okB (V : kV) : Prop := ∀ b ∈ v_all V, v_bok b
def v_okS (V : kV) : Prop := ∀ r ∈ V.st, v_sok r
def v_okN (cc dd : Nat) (V : kV) : Prop := ∃ (c day : Nat) (W : List Nat), V.sc 2 = Int32.ofNat c ∧ c ≤ cc ∧ V.sc 0 = Int32.ofNat day ∧ day ≤ dd ∧ ((v_all V).map v_num1 ++ W).Perm (List.range c) ∧ (∀ n, V.aw n = true ↔ n ∈ W) ∧ V.sc 7 + V.sc 8 = Int32.ofNat W.length ∧ V.wa.length ≤ W.length
def v_ok (cc dd : Nat) (V : kV) : Prop := v_okL V ∧ v_okD V ∧ v_okC V ∧ v_okB V ∧ v_okS V ∧ v_okN cc dd V
theorem v_ok_mono {cc dd cc' dd' : Nat} {V : kV} (h : v_ok cc dd V) (h1 : cc ≤ cc') (h2 : dd ≤ dd') : v_ok cc' dd' V := by
  obtain ⟨a, b, c, d, e, x, y, W, q1, q2, q3, q4, q5⟩ := h
  exact ⟨a, b, c, d, e, x, y, W, q1, by omega, q3, by omega, q5⟩
theorem v_ok_0 : v_ok 0 0 (kAp.V kA0) := ⟨⟨fun l hl => (by cases hl), fun i j l l' h => (by cases i <;> cases h)⟩, ⟨fun l hl => (by cases hl), fun l hl => (by cases hl)⟩, ⟨by decide, by decide, by decide, by decide, by decide⟩, fun b hb => (by cases hb), fun r hr => (by cases hr), 0, 0, [], rfl, Nat.le_refl _, rfl, Nat.le_refl _, List.Perm.refl _, fun n => ⟨fun z => (by cases z), fun z => (by cases z)⟩, rfl, Nat.le_refl _⟩
/-! permutations -/
theorem kp_set {α β : Type} {f : α → List β} : ∀ {l : List α} {i : Nat} {a a' : α}, l[i]? = some a → ((l.set i a').flatMap f).Perm (f a' ++ (l.eraseIdx i).flatMap f) := by
  intro l
  induction l with
  | nil => intro i a a' h; cases h
  | cons x t ih =>
    intro i a a' h
    cases i with
    | zero => exact List.Perm.refl _
    | succ i =>
      show (f x ++ (t.set i a').flatMap f).Perm (f a' ++ (f x ++ (t.eraseIdx i).flatMap f))
      exact ((ih (a := a) (a' := a') (i := i) h).append_left (f x)).trans (List.perm_append_comm_assoc _ _ _)
theorem kp_get {α β : Type} {f : α → List β} {l : List α} {i : Nat} {a : α} (h : l[i]? = some a) : (l.flatMap f).Perm (f a ++ (l.eraseIdx i).flatMap f) := by
  have h2 := kp_set (f := f) (a' := a) h
  have e : l.set i a = l := by
    obtain ⟨g1, g2⟩ := List.getElem?_eq_some_iff.mp h
    rw [← g2]
    exact List.set_getElem_self g1
  rw [e] at h2
  exact h2
theorem kp_erase {α : Type} : ∀ {l : List α} {i : Nat} {a : α}, l[i]? = some a → l.Perm (a :: l.eraseIdx i) := by
  intro l
  induction l with
  | nil => intro i a h; cases h
  | cons x t ih =>
    intro i a h
    cases i with
    | zero =>
      cases h
      exact List.Perm.refl _
    | succ i => exact ((ih (a := a) (i := i) h).cons x).trans (List.Perm.swap a x _)
theorem kp_of_map {α β : Type} {f : α → β} {l : List α} (h : (l.map f).Nodup) : l.Nodup := by
  unfold List.Nodup at h ⊢
  rw [List.pairwise_map] at h
  exact h.imp (fun hab hz => hab (by rw [hz]))
theorem v_num1_nd {l : List vB} (h : (l.map v_num1).Nodup) : (l.map (·.1)).Nodup := by
  refine kp_of_map (f := Int32.toNatClampNeg) ?_
  rw [List.map_map]
  exact h
theorem kp_filter {l : List vB} {b : vB} (h : (l.map (·.1)).Nodup) (hb : b ∈ l) : l.Perm (b :: l.filter (fun c => decide (c.1 ≠ b.1))) := by
  obtain ⟨p, hp⟩ := List.getElem?_of_mem hb
  rw [← ks_erase (f := fun c : vB => c.1) h hp]
  exact kp_erase hp
theorem kp_nd {V : kV} {cc dd : Nat} (h : v_okN cc dd V) : ((v_all V).map v_num1).Nodup := by
  obtain ⟨c, day, W, -, -, -, -, h5, -⟩ := h
  have h6 : ((v_all V).map v_num1 ++ W).Nodup := h5.nodup_iff.mpr List.nodup_range
  exact (List.nodup_append.mp h6).1
/-- the count is kept -/
theorem v_okN_perm {cc dd : Nat} {V V' : kV} (h : v_okN cc dd V) (hp : (v_all V').Perm (v_all V)) (h0 : V'.sc 0 = V.sc 0) (h2 : V'.sc 2 = V.sc 2) (h78 : V'.sc 7 + V'.sc 8 = V.sc 7 + V.sc 8) (ha : V'.aw = V.aw) (hw : V'.wa.length ≤ V.wa.length) : v_okN cc dd V' := by
  obtain ⟨c, day, W, q1, q2, q3, q4, q5, q6, q7, q8⟩ := h
  exact ⟨c, day, W, by rw [h2, q1], q2, by rw [h0, q3], q4, ((hp.map v_num1).append_right W).trans q5, by rw [ha]; exact q6, by rw [h78, q7], by omega⟩
theorem v_okB_perm {V V' : kV} (h : v_okB V) (hp : (v_all V').Perm (v_all V)) : v_okB V' := fun b hb => h b (hp.mem_iff.mp hb)
/-! what follows -/
theorem v_ok_card {cc dd : Nat} {V : kV} (h : v_ok cc dd V) : ∃ c W, V.sc 2 = Int32.ofNat c ∧ c ≤ cc ∧ (v_all V).length + W = c ∧ V.wa.length ≤ W ∧ V.sc 7 + V.sc 8 = Int32.ofNat W := by
  obtain ⟨-, -, -, -, -, c, day, W, q1, q2, q3, q4, q5, q6, q7, q8⟩ := h
  refine ⟨c, W.length, q1, q2, ?_, q8, q7⟩
  have := q5.length_eq
  rw [List.length_append, List.length_map, List.length_range] at this
  exact this
theorem v_all_len (V : kV) : (v_all V).length = V.bx.length + ((V.st.flatMap (·.bs)).length + ((V.so.flatMap (·.bs)).length + (V.wa.flatMap (·.bs)).length)) := by
  unfold v_all
  rw [List.length_append, List.length_append, List.length_append]
theorem v_fm_len {l : List vD} (h : ∀ d ∈ l, 1 ≤ d.bs.length) : l.length ≤ (l.flatMap (·.bs)).length := by
  induction l with
  | nil => exact Nat.le_refl _
  | cons d t ih =>
    rw [List.flatMap_cons, List.length_append, List.length_cons]
    have h1 := h d List.mem_cons_self
    have h2 := ih (fun e he => h e (List.mem_cons_of_mem _ he))
    omega
/-- box, waiting ones -/
theorem v_ok_bx {cc dd : Nat} {V : kV} (h : v_ok cc dd V) : V.bx.length ≤ cc ∧ 2 * V.wa.length ≤ cc := by
  obtain ⟨c, W, q1, q2, q3, q4, -⟩ := v_ok_card h
  have h1 := v_all_len V
  have h2 := v_fm_len (l := V.wa) (fun d hd => (h.2.1.2 d hd).2.1)
  omega
theorem v_ok_lt {cc dd : Nat} {V : kV} (h : v_ok cc dd V) {b : vB} (hb : b ∈ v_all V) : 0 ≤ b.1 ∧ b.1.toNatClampNeg < cc := by
  refine ⟨(h.2.2.2.1 b hb).1, ?_⟩
  obtain ⟨-, -, -, -, -, c, day, W, q1, q2, q3, q4, q5, -⟩ := h
  have h1 : v_num1 b ∈ List.range c := q5.mem_iff.mp (List.mem_append_left _ (List.mem_map_of_mem hb))
  have h2 := List.mem_range.mp h1
  unfold v_num1 at h2
  omega
theorem v_all_bx {V : kV} {b : vB} (h : b ∈ V.bx) : b ∈ v_all V := List.mem_append_left _ h
theorem v_all_st {V : kV} {r : vS} {b : vB} (hr : r ∈ V.st) (h : b ∈ r.bs) : b ∈ v_all V := List.mem_append_right _ (List.mem_append_left _ (List.mem_flatMap.mpr ⟨r, hr, h⟩))
theorem v_all_so {V : kV} {r : vD} {b : vB} (hr : r ∈ V.so) (h : b ∈ r.bs) : b ∈ v_all V := List.mem_append_right _ (List.mem_append_right _ (List.mem_append_left _ (List.mem_flatMap.mpr ⟨r, hr, h⟩)))
theorem v_all_wa {V : kV} {r : vD} {b : vB} (hr : r ∈ V.wa) (h : b ∈ r.bs) : b ∈ v_all V := List.mem_append_right _ (List.mem_append_right _ (List.mem_append_right _ (List.mem_flatMap.mpr ⟨r, hr, h⟩)))
theorem v_nd_sub {V : kV} {cc dd : Nat} (h : v_okN cc dd V) {l : List vB} (hl : l.Sublist (v_all V)) : (l.map (·.1)).Nodup := v_num1_nd ((kp_nd h).sublist (hl.map v_num1))
theorem v_nd_bx {V : kV} {cc dd : Nat} (h : v_okN cc dd V) : (V.bx.map (·.1)).Nodup := v_nd_sub h (List.sublist_append_left ..)
theorem ks_sub_fm {α β : Type} {f : α → List β} {l : List α} {a : α} (h : a ∈ l) : (f a).Sublist (l.flatMap f) := by
  induction l with
  | nil => cases h
  | cons x t ih =>
    rw [List.flatMap_cons]
    rcases List.mem_cons.mp h with e | e
    · rw [e]
      exact List.sublist_append_left ..
    · exact (ih e).trans (List.sublist_append_right ..)
theorem v_nd_so {V : kV} {cc dd : Nat} (h : v_okN cc dd V) {d : vD} (hd : d ∈ V.so) : (d.bs.map (·.1)).Nodup := v_nd_sub h ((ks_sub_fm (f := vD.bs) hd).trans ((List.sublist_append_left ..).trans ((List.sublist_append_right ..).trans (List.sublist_append_right ..))))
/-! strings -/
theorem v_sok_loose {g m k : Nat} {r : vS} (h : v_sokN g m k r) : v_loose r = Int32.ofNat (r.bs.length - k * (m + 1)) ∧ r.bs.length - k * (m + 1) ≤ m + 1 ∧ r.bs.length ≤ 28 := by
  obtain ⟨h1, h2, h3, h4, h5, h6, h7, h8, h9, h10, h11, -⟩ := h
  have e1 : (k + 1) * (m + 1) = k * (m + 1) + (m + 1) := by rw [Nat.add_mul, Nat.one_mul]
  have e2 : g * (m + 1) ≤ 4 * 7 := Nat.mul_le_mul h5 (by omega)
  refine ⟨?_, by omega, by omega⟩
  unfold v_loose
  rw [h2, h3, k3_succ]
  have e3 : Int32.ofNat k * Int32.ofNat (m + 1) = Int32.ofNat (k * (m + 1)) := (Int32.ofNat_mul ..).symm
  rw [e3, k3_sub h9]
theorem v_sok_done {g m k : Nat} {r : vS} (h : v_sokN g m k r) : v_done r = true ↔ k = g := by
  obtain ⟨h1, h2, h3, h4, h5, h6, h7, h8, -⟩ := h
  unfold v_done
  rw [decide_eq_true_iff, h1, h3]
  exact k3_eq (by omega) (by omega)
theorem v_sok_whole {g m k : Nat} {r : vS} (h : v_sokN g m k r) : v_whole r = true ↔ r.bs.length = (k + 1) * (m + 1) := by
  obtain ⟨e1, e2, e3⟩ := v_sok_loose h
  obtain ⟨h1, h2, h3, h4, h5, h6, h7, h8, h9, h10, h11, -⟩ := h
  have e4 : (k + 1) * (m + 1) = k * (m + 1) + (m + 1) := by rw [Nat.add_mul, Nat.one_mul]
  unfold v_whole
  rw [decide_eq_true_iff, e1, h2, k3_succ, k3_eq (by omega) (by omega)]
  omega
theorem v_sok_large {g m k : Nat} {r : vS} (h : v_sokN g m k r) (hw : ¬ r.bs.length = (k + 1) * (m + 1)) : v_loose r = 0 ↔ r.bs.length % (m + 1) = 0 := by
  obtain ⟨e1, e2, e3⟩ := v_sok_loose h
  obtain ⟨h1, h2, h3, h4, h5, h6, h7, h8, h9, h10, h11, -⟩ := h
  have e4 : (k + 1) * (m + 1) = k * (m + 1) + (m + 1) := by rw [Nat.add_mul, Nat.one_mul]
  rw [e1, show (0 : Int32) = Int32.ofNat 0 from rfl, k3_eq (by omega) (by omega)]
  have e5 : r.bs.length = (r.bs.length - k * (m + 1)) + (m + 1) * k := by rw [Nat.mul_comm (m + 1) k]; omega
  rw [e5, Nat.add_mul_mod_self_left, Nat.mul_comm (m + 1) k, Nat.add_sub_cancel]
  constructor
  · intro z
    rw [z]
    exact Nat.zero_mod _
  · intro z
    rw [Nat.mod_eq_of_lt (by omega)] at z
    exact z
