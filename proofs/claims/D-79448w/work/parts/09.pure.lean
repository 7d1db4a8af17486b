/-! ===== the pure machine: what a method computes, over the cells that the law has made ===== -/
abbrev km_E : Type := (Nat × vp_A) ⊕ (Nat × List Value)
abbrev km_Mem : Type := Nat → Option (Bool × km_E)
/-- constants, the next address, slots used, the cells (false: a constant's cell, nobody writes it) -/
abbrev km_S : Type := (Nat → Option Nat) × Nat × Nat × km_Mem
def km_ok {α : Type} (f : km_S → Option (α × km_S)) : Prop := ∀ s r t, f s = some (r, t) → s.2.1 ≤ t.2.1 ∧ s.2.2.1 ≤ t.2.2.1 ∧ t.1 = s.1
def km_M (α : Type) : Type := { f : km_S → Option (α × km_S) // km_ok f }
def km_up (m : km_Mem) (a : Nat) (v : Bool × km_E) : km_Mem := fun b => if b = a then some v else m b
def km_pure {α : Type} (a : α) : km_M α := ⟨fun s => some (a, s), fun s r t h => by
  have h1 := Option.some.inj h
  cases h1
  exact ⟨Nat.le_refl _, Nat.le_refl _, rfl⟩⟩
def km_fail {α : Type} : km_M α := ⟨fun _ => none, fun _ _ _ h => by cases h⟩
def km_bindF {α β : Type} (x : km_M α) (f : α → km_M β) (s : km_S) : Option (β × km_S) := match x.1 s with
  | none => none
  | some (a, t) => (f a).1 t
theorem km_bindF_some {α β : Type} {x : km_M α} {f : α → km_M β} {s : km_S} {r : β} {t : km_S} (h : km_bindF x f s = some (r, t)) : ∃ (a : α) (u : km_S), x.1 s = some (a, u) ∧ (f a).1 u = some (r, t) := by
  unfold km_bindF at h
  split at h
  · cases h
  · next a u e => exact ⟨a, u, e, h⟩
def km_bind {α β : Type} (x : km_M α) (f : α → km_M β) : km_M β := ⟨km_bindF x f, fun s r t h => by
  obtain ⟨a, u, h1, h2⟩ := km_bindF_some h
  obtain ⟨x1, x2, x3⟩ := x.2 s a u h1
  obtain ⟨y1, y2, y3⟩ := (f a).2 u r t h2
  exact ⟨Nat.le_trans x1 y1, Nat.le_trans x2 y2, y3.trans x3⟩⟩
theorem km_bind_some {α β : Type} {x : km_M α} {f : α → km_M β} {s : km_S} {r : β} {t : km_S} (h : (km_bind x f).1 s = some (r, t)) : ∃ (a : α) (u : km_S), x.1 s = some (a, u) ∧ (f a).1 u = some (r, t) := km_bindF_some h
/-- a look at the cells -/
def km_rd {α : Type} (g : km_S → Option α) : km_M α := ⟨fun s => (g s).map (fun a => (a, s)), fun s r t h => by
  cases hg : g s with
  | none => simp only [hg, Option.map_none] at h; cases h
  | some a =>
    simp only [hg, Option.map_some] at h
    have h1 := Option.some.inj h
    cases h1
    exact ⟨Nat.le_refl _, Nat.le_refl _, rfl⟩⟩
theorem km_rd_some {α : Type} {g : km_S → Option α} {s : km_S} {a : α} {t : km_S} (h : (km_rd g).1 s = some (a, t)) : g s = some a ∧ t = s := by
  have h0 : (g s).map (fun a => (a, s)) = some (a, t) := h
  cases hg : g s with
  | none => simp only [hg, Option.map_none] at h0; cases h0
  | some b =>
    simp only [hg, Option.map_some] at h0
    have h1 := Option.some.inj h0
    cases h1
    exact ⟨rfl, rfl⟩
/-- a store into a cell -/
def km_wr (g : km_S → Option (Nat × km_E)) : km_M Unit := ⟨fun s => (g s).map (fun q => ((), s.1, s.2.1, s.2.2.1, km_up s.2.2.2 q.1 (true, q.2))), fun s r t h => by
  cases hg : g s with
  | none => simp only [hg, Option.map_none] at h; cases h
  | some a =>
    simp only [hg, Option.map_some] at h
    have h1 := Option.some.inj h
    cases h1
    exact ⟨Nat.le_refl _, Nat.le_refl _, rfl⟩⟩
theorem km_wr_some {g : km_S → Option (Nat × km_E)} {s : km_S} {u : Unit} {t : km_S} (h : (km_wr g).1 s = some (u, t)) : ∃ a e, g s = some (a, e) ∧ t = (s.1, s.2.1, s.2.2.1, km_up s.2.2.2 a (true, e)) := by
  have h0 : (g s).map (fun q => ((), s.1, s.2.1, s.2.2.1, km_up s.2.2.2 q.1 (true, q.2))) = some (u, t) := h
  cases hg : g s with
  | none => simp only [hg, Option.map_none] at h0; cases h0
  | some b =>
    simp only [hg, Option.map_some] at h0
    have h1 := Option.some.inj h0
    cases h1
    exact ⟨b.1, b.2, rfl, rfl⟩
/-- a new cell -/
def km_al (g : km_S → Option (Nat × km_E)) : km_M (Option Nat) := ⟨fun s => (g s).map (fun q => (some s.2.1, s.1, s.2.1 + 1, s.2.2.1 + q.1, km_up s.2.2.2 s.2.1 (true, q.2))), fun s r t h => by
  cases hg : g s with
  | none => simp only [hg, Option.map_none] at h; cases h
  | some a =>
    simp only [hg, Option.map_some] at h
    have h1 := Option.some.inj h
    cases h1
    exact ⟨Nat.le_succ _, Nat.le_add_right _ _, rfl⟩⟩
theorem km_al_some {g : km_S → Option (Nat × km_E)} {s : km_S} {r : Option Nat} {t : km_S} (h : (km_al g).1 s = some (r, t)) : ∃ n e, g s = some (n, e) ∧ r = some s.2.1 ∧ t = (s.1, s.2.1 + 1, s.2.2.1 + n, km_up s.2.2.2 s.2.1 (true, e)) := by
  have h0 : (g s).map (fun q => (some s.2.1, s.1, s.2.1 + 1, s.2.2.1 + q.1, km_up s.2.2.2 s.2.1 (true, q.2))) = some (r, t) := h
  cases hg : g s with
  | none => simp only [hg, Option.map_none] at h0; cases h0
  | some b =>
    simp only [hg, Option.map_some] at h0
    have h1 := Option.some.inj h0
    cases h1
    exact ⟨b.1, b.2, rfl, rfl, rfl⟩
/-- a program in a state: it ends, and Q holds -/
def km_T {α : Type} (x : km_M α) (s : km_S) (Q : α → km_S → Prop) : Prop := ∃ r t, x.1 s = some (r, t) ∧ Q r t
theorem km_T_pure {α : Type} {a : α} {s : km_S} {Q : α → km_S → Prop} (h : Q a s) : km_T (km_pure a) s Q := ⟨a, s, rfl, h⟩
theorem km_T_bind {α β : Type} {x : km_M α} {f : α → km_M β} {s : km_S} {Q : β → km_S → Prop} (h : km_T x s fun a t => km_T (f a) t Q) : km_T (km_bind x f) s Q := by
  obtain ⟨a, t, h1, b, u, h2, h3⟩ := h
  refine ⟨b, u, ?_, h3⟩
  show km_bindF x f s = some (b, u)
  unfold km_bindF
  rw [h1]
  exact h2
theorem km_T_mono {α : Type} {x : km_M α} {s : km_S} {Q Q' : α → km_S → Prop} (h : km_T x s Q) (hq : ∀ a t, Q a t → Q' a t) : km_T x s Q' := by
  obtain ⟨a, t, h1, h2⟩ := h
  exact ⟨a, t, h1, hq a t h2⟩
/-! values -/
def km_vI : Value → Option Int32
  | .int x => some x
  | _ => none
def km_vR : Value → Option (Option Nat)
  | .ref a => some (some a)
  | .null => some none
  | _ => none
theorem km_vI_some {v : Value} {x : Int32} (h : km_vI v = some x) : v = .int x := by
  cases v <;> first | (cases h; rfl) | cases h
theorem km_vR_some {v : Value} {r : Option Nat} (h : km_vR v = some r) : v = va_rf r := by
  cases v <;> first | (cases h; rfl) | cases h
/-! fields: tbl tells, class by class, the place of the field -/
def km_ob (s : km_S) (r : Option Nat) : Option (Nat × Bool × Nat × List Value) := match r with
  | none => none
  | some a => match s.2.2.2 a with
    | some (f, .inr (c, fs)) => some (a, f, c, fs)
    | _ => none
theorem km_ob_some {s : km_S} {r : Option Nat} {a : Nat} {f : Bool} {c : Nat} {fs : List Value} (h : km_ob s r = some (a, f, c, fs)) : r = some a ∧ s.2.2.2 a = some (f, .inr (c, fs)) := by
  unfold km_ob at h
  split at h
  · cases h
  · split at h
    · next e => cases h; exact ⟨rfl, e⟩
    · cases h
def km_fld (tbl : List (Nat × Nat)) (s : km_S) (r : Option Nat) : Option Value := match km_ob s r with
  | none => none
  | some (_, _, c, fs) => match tbl.lookup c with
    | none => none
    | some k => fs[k]?
theorem km_fld_some {tbl : List (Nat × Nat)} {s : km_S} {r : Option Nat} {v : Value} (h : km_fld tbl s r = some v) : ∃ a f c fs k, r = some a ∧ s.2.2.2 a = some (f, .inr (c, fs)) ∧ tbl.lookup c = some k ∧ fs[k]? = some v := by
  unfold km_fld at h
  split at h
  · cases h
  · next a f c fs e =>
    split at h
    · cases h
    · next k e2 =>
      obtain ⟨h1, h2⟩ := km_ob_some e
      exact ⟨a, f, c, fs, k, h1, h2, e2, h⟩
def km_gI (tbl : List (Nat × Nat)) (r : Option Nat) : km_M Int32 := km_rd (fun s => (km_fld tbl s r).bind km_vI)
def km_gR (tbl : List (Nat × Nat)) (r : Option Nat) : km_M (Option Nat) := km_rd (fun s => (km_fld tbl s r).bind km_vR)
/-- a field of a small type keeps what fits it alone -/
def km_fitB (ty : FieldType) (x : Int32) : Bool := match ty with
  | .int => true
  | .boolean => x == 0 || x == 1
  | .byte => vp_nar .byte x == x
  | .char => vp_nar .char x == x
  | _ => false
def km_pv (tbl : List (Nat × Nat)) (r : Option Nat) (v : Value) (s : km_S) : Option (Nat × km_E) := match km_ob s r with
  | some (a, true, c, fs) => match tbl.lookup c with
    | none => none
    | some k => if k < fs.length then some (a, .inr (c, fs.set k v)) else none
  | _ => none
theorem km_pv_some {tbl : List (Nat × Nat)} {r : Option Nat} {v : Value} {s : km_S} {a : Nat} {e : km_E} (h : km_pv tbl r v s = some (a, e)) : ∃ c fs k, r = some a ∧ s.2.2.2 a = some (true, .inr (c, fs)) ∧ tbl.lookup c = some k ∧ k < fs.length ∧ e = .inr (c, fs.set k v) := by
  unfold km_pv at h
  split at h
  · next a' c fs e1 =>
    split at h
    · cases h
    · next k e2 =>
      split at h
      · next hk =>
        obtain ⟨h1, h2⟩ := km_ob_some e1
        cases h
        exact ⟨c, fs, k, h1, h2, e2, hk, rfl⟩
      · cases h
  · cases h
def km_pI (ty : FieldType) (tbl : List (Nat × Nat)) (r : Option Nat) (x : Int32) : km_M Unit := km_wr (fun s => if km_fitB ty x = true then km_pv tbl r (.int x) s else none)
def km_pR (tbl : List (Nat × Nat)) (r : Option Nat) (x : Option Nat) : km_M Unit := km_wr (km_pv tbl r (va_rf x))
/-- new: the class, its fields' first values -/
def km_new (c : Nat) (n : Nat) (fs : List Value) : km_M (Option Nat) := km_al (fun _ => some (n, .inr (c, fs)))
/-- the receiver's class -/
def km_cls (r : Option Nat) : km_M Nat := km_rd (fun s => (km_ob s r).map (fun q => q.2.2.1))
def km_is (c : Nat) (r : Option Nat) : km_M Unit := km_rd (fun s => match km_ob s r with
  | some (_, _, c', _) => if c' = c then some () else none
  | none => none)
theorem km_is_some {c : Nat} {r : Option Nat} {s : km_S} {u : Unit} {t : km_S} (h : (km_is c r).1 s = some (u, t)) : t = s ∧ ∃ a f fs, r = some a ∧ s.2.2.2 a = some (f, .inr (c, fs)) := by
  obtain ⟨h1, h2⟩ := km_rd_some h
  refine ⟨h2, ?_⟩
  split at h1
  · next a f c' fs e =>
    split at h1
    · next hc =>
      subst hc
      obtain ⟨g1, g2⟩ := km_ob_some e
      exact ⟨a, f, fs, g1, g2⟩
    · cases h1
  · cases h1
/-- not null -/
def km_nn (r : Option Nat) : km_M Unit := km_rd (fun _ => if r = none then none else some ())
theorem km_nn_some {r : Option Nat} {s : km_S} {u : Unit} {t : km_S} (h : (km_nn r).1 s = some (u, t)) : t = s ∧ ∃ a, r = some a := by
  obtain ⟨h1, h2⟩ := km_rd_some h
  refine ⟨h2, ?_⟩
  cases r with
  | none => cases h1
  | some a => exact ⟨a, rfl⟩
/-- a constant's address -/
def km_k (i : Nat) : km_M (Option Nat) := km_rd (fun s => some (s.1 i))
/-! arrays: kinds 0 int, 1 char, 2 byte, 3 long, 4 Object, 5 String -/
def km_ty (k : Nat) : FieldType := if k = 0 then .int else if k = 1 then .char else if k = 2 then .byte else if k = 3 then .long else if k = 4 then .object "java/lang/Object" else .object "java/lang/String"
def km_ar (s : km_S) (r : Option Nat) : Option (Nat × Bool × Nat × vp_A) := match r with
  | none => none
  | some a => match s.2.2.2 a with
    | some (f, .inl (k, x)) => some (a, f, k, x)
    | _ => none
theorem km_ar_some {s : km_S} {r : Option Nat} {a : Nat} {f : Bool} {k : Nat} {x : vp_A} (h : km_ar s r = some (a, f, k, x)) : r = some a ∧ s.2.2.2 a = some (f, .inl (k, x)) := by
  unfold km_ar at h
  split at h
  · cases h
  · split at h
    · next e => cases h; exact ⟨rfl, e⟩
    · cases h
def km_sort (x : (Nat → Int32) ⊕ (Nat → Int64) ⊕ (Nat → UInt32) ⊕ (Nat → UInt64) ⊕ (Nat → Option Nat)) : Bool := match x with
  | .inl _ => true
  | .inr (.inl _) => true
  | .inr (.inr (.inl _)) => false
  | .inr (.inr (.inr (.inl _))) => false
  | .inr (.inr (.inr (.inr _))) => true
def km_len (r : Option Nat) : km_M Int32 := km_rd (fun s => match km_ar s r with
  | some (_, _, _, n, x) => if km_sort x = true then some (Int32.ofNat n) else none
  | none => none)
def km_inB (i : Int32) (n : Nat) : Bool := !(decide (i < 0) || decide (n ≤ i.toNatClampNeg))
theorem km_inB_in {i : Int32} {n : Nat} (h : km_inB i n = true) : vp_in i n := by
  unfold km_inB at h
  unfold vp_in
  simpa using h
def km_ldI (kd : Nat) (r : Option Nat) (i : Int32) : km_M Int32 := km_rd (fun s => match km_ar s r with
  | some (_, _, k, n, .inl f) => if k = kd ∧ km_inB i n = true then some (f i.toNatClampNeg) else none
  | _ => none)
def km_ldJ (r : Option Nat) (i : Int32) : km_M Int64 := km_rd (fun s => match km_ar s r with
  | some (_, _, k, n, .inr (.inl f)) => if k = 3 ∧ km_inB i n = true then some (f i.toNatClampNeg) else none
  | _ => none)
def km_ldR (r : Option Nat) (i : Int32) : km_M (Option Nat) := km_rd (fun s => match km_ar s r with
  | some (_, _, _, n, .inr (.inr (.inr (.inr f)))) => if km_inB i n = true then some (f i.toNatClampNeg) else none
  | _ => none)
def km_stI (kd : Nat) (r : Option Nat) (i x : Int32) : km_M Unit := km_wr (fun s => match km_ar s r with
  | some (a, true, k, n, .inl f) => if k = kd ∧ km_inB i n = true then some (a, .inl (k, n, .inl (upd f i.toNatClampNeg (vp_nar (km_ty kd) x)))) else none
  | _ => none)
def km_stJ (r : Option Nat) (i : Int32) (x : Int64) : km_M Unit := km_wr (fun s => match km_ar s r with
  | some (a, true, k, n, .inr (.inl f)) => if k = 3 ∧ km_inB i n = true then some (a, .inl (k, n, .inr (.inl (vp_updL f i.toNatClampNeg x)))) else none
  | _ => none)
/-- what may be stored into an array of references of the kind k: null, or an object (of class kStr in an array of Strings) -/
def km_may (kStr : Nat) (s : km_S) (k : Nat) (v : Option Nat) : Bool := match v with
  | none => true
  | some _ => match km_ob s v with
    | some (_, _, c, _) => k == 4 || (k == 5 && c == kStr)
    | none => false
def km_stR (kStr : Nat) (r : Option Nat) (i : Int32) (v : Option Nat) : km_M Unit := km_wr (fun s => match km_ar s r with
  | some (a, true, k, n, .inr (.inr (.inr (.inr f)))) => if km_may kStr s k v = true ∧ km_inB i n = true then some (a, .inl (k, n, .inr (.inr (.inr (.inr (va_up f i.toNatClampNeg v)))))) else none
  | _ => none)
def km_nI (kd : Nat) (n : Int32) : km_M (Option Nat) := km_al (fun _ => if ¬ n < 0 ∧ n.toNatClampNeg * 8 ≤ 536870912 then some (n.toNatClampNeg, .inl (kd, n.toNatClampNeg, .inl (fun _ => 0))) else none)
def km_nJ (n : Int32) : km_M (Option Nat) := km_al (fun _ => if ¬ n < 0 ∧ n.toNatClampNeg * 8 ≤ 536870912 then some (n.toNatClampNeg, .inl (3, n.toNatClampNeg, .inr (.inl (fun _ => 0)))) else none)
def km_nR (kd : Nat) (n : Int32) : km_M (Option Nat) := km_al (fun _ => if ¬ n < 0 ∧ n.toNatClampNeg * 8 ≤ 536870912 then some (n.toNatClampNeg, .inl (kd, n.toNatClampNeg, .inr (.inr (.inr (.inr (fun _ => none)))))) else none)
/-- System.arraycopy between two arrays of one kind -/
def km_cp (a0 : Option Nat) (sp : Int32) (a1 : Option Nat) (dp n : Int32) : km_M Unit := km_wr (fun s => match km_ar s a0, km_ar s a1 with
  | some (_, _, k0, n0, .inl f), some (a, true, k1, n1, .inl g) =>
    if k0 = k1 ∧ ¬ sp < 0 ∧ ¬ dp < 0 ∧ ¬ n < 0 ∧ sp.toNatClampNeg + n.toNatClampNeg ≤ n0 ∧ dp.toNatClampNeg + n.toNatClampNeg ≤ n1 then some (a, .inl (k1, n1, .inl (va_cpy f g sp.toNatClampNeg dp.toNatClampNeg n.toNatClampNeg))) else none
  | some (_, _, k0, n0, .inr (.inl f)), some (a, true, k1, n1, .inr (.inl g)) =>
    if k0 = k1 ∧ ¬ sp < 0 ∧ ¬ dp < 0 ∧ ¬ n < 0 ∧ sp.toNatClampNeg + n.toNatClampNeg ≤ n0 ∧ dp.toNatClampNeg + n.toNatClampNeg ≤ n1 then some (a, .inl (k1, n1, .inr (.inl (va_cpy f g sp.toNatClampNeg dp.toNatClampNeg n.toNatClampNeg)))) else none
  | some (_, _, k0, n0, .inr (.inr (.inr (.inr f)))), some (a, true, k1, n1, .inr (.inr (.inr (.inr g)))) =>
    if k0 = k1 ∧ ¬ sp < 0 ∧ ¬ dp < 0 ∧ ¬ n < 0 ∧ sp.toNatClampNeg + n.toNatClampNeg ≤ n0 ∧ dp.toNatClampNeg + n.toNatClampNeg ≤ n1 then some (a, .inl (k1, n1, .inr (.inr (.inr (.inr (va_cpy f g sp.toNatClampNeg dp.toNatClampNeg n.toNatClampNeg)))))) else none
  | _, _ => none)
/-- checkcast: null, or of one of the classes -/
def km_cast (cs : List Nat) (r : Option Nat) : km_M Unit := km_rd (fun s => match r with
  | none => some ()
  | some _ => match km_ob s r with
    | some (_, _, c, _) => if cs.elem c = true then some () else none
    | none => none)
/-- checkcast to an array class -/
def km_castA (kd : Nat) (r : Option Nat) : km_M Unit := km_rd (fun s => match km_ar s r with
  | some (_, true, k, _, _) => if k = kd then some () else none
  | _ => none)
/-- clone of a byte[] -/
def km_cln (r : Option Nat) : km_M (Option Nat) := km_al (fun s => match km_ar s r with
  | some (_, true, 2, n, .inl f) => some (n, .inl (2, n, .inl f))
  | _ => none)
/-- instanceof -/
def km_inst (yes no : List Nat) (r : Option Nat) : km_M Int32 := km_rd (fun s => match r with
  | none => some 0
  | some _ => match km_ob s r with
    | some (_, _, c, _) => if yes.elem c = true then some 1 else if no.elem c = true then some 0 else none
    | none => none)
/-! arithmetic that may throw -/
def km_div (x y : Int32) : km_M Int32 := km_rd (fun _ => if y = 0 then none else some (x / y))
def km_rem (x y : Int32) : km_M Int32 := km_rd (fun _ => if y = 0 then none else some (x - x / y * y))
noncomputable def km_ddiv (x y : UInt64) : km_M UInt64 := km_rd (fun _ => @ite _ (vf_n64 (FP.ddiv x y)) (Classical.propDecidable _) (some (FP.ddiv x y)) none)
noncomputable def km_fdiv (x y : UInt32) : km_M UInt32 := km_rd (fun _ => @ite _ (vf_n32 (FP.fdiv x y)) (Classical.propDecidable _) (some (FP.fdiv x y)) none)
noncomputable def km_f2d (x : UInt32) : km_M UInt64 := km_rd (fun _ => @ite _ (vf_n64 (FP.f2d x)) (Classical.propDecidable _) (some (FP.f2d x)) none)
/-- an answer of a small type fits it -/
def km_ret (ty : FieldType) (x : Int32) : km_M Int32 := km_rd (fun _ => if km_fitB ty x = true then some x else none)
/-- getClass of an Object[]: the constant 1 -/
def km_getC (r : Option Nat) : km_M (Option Nat) := km_rd (fun s => match km_ar s r with
  | some (_, true, 4, _, _) => some (s.1 1)
  | some (a, false, 4, _, _) => if s.1 0 = some a then some (s.1 1) else none
  | _ => none)
/-- athrow: an object is thrown -/
def km_throw {α : Type} (r : Option Nat) : km_M (Nat ⊕ α) := km_rd (fun s => match km_ob s r with
  | some (a, true, _, _) => some (.inl a)
  | _ => none)
/-- behind a call that may throw: the exception goes on -/
def km_x {α ρ : Type} (xq : Nat → ρ) (f : α → km_M ρ) (v : Nat ⊕ α) : km_M ρ := match v with
  | .inl q => km_pure (xq q)
  | .inr a => f a
/-! switches -/
def km_tsw {ρ : Type} (v : Int32) (lo hi : Int) (Ps : List (km_M ρ)) (D : km_M ρ) : km_M ρ := if v.toInt < lo ∨ hi < v.toInt then D else Ps.getD (v.toInt - lo).toNat D
def km_lsw {ρ : Type} (v : Int32) : List (Int32 × km_M ρ) → km_M ρ → km_M ρ
  | [], D => D
  | (k, P) :: r, D => if v = k then P else km_lsw v r D
theorem km_bind_mk {α β : Type} {x : km_M α} {f : α → km_M β} {s t u : km_S} {a : α} {b : β} (h1 : x.1 s = some (a, t)) (h2 : (f a).1 t = some (b, u)) : (km_bind x f).1 s = some (b, u) := by
  show km_bindF x f s = some (b, u)
  unfold km_bindF
  rw [h1]
  exact h2
/-- a call through an object of one of several classes -/
def km_sel {α : Type} (c : Nat) : List (Nat × km_M α) → km_M α
  | [] => km_fail
  | (k, x) :: ps => if c = k then x else km_sel c ps
def km_disp {α : Type} (r : Option Nat) (ps : List (Nat × km_M α)) : km_M α := km_bind (km_cls r) (fun c => km_sel c ps)
theorem km_sel_some {α : Type} {c : Nat} {s t : km_S} {v : α} : ∀ {ps : List (Nat × km_M α)}, (km_sel c ps).1 s = some (v, t) → ∃ q ∈ ps, q.1 = c ∧ q.2.1 s = some (v, t) := by
  intro ps
  induction ps with
  | nil => intro h; cases h
  | cons q ps ih =>
    intro h
    obtain ⟨k, x⟩ := q
    unfold km_sel at h
    by_cases hc : c = k
    · rw [if_pos hc] at h
      exact ⟨(k, x), List.mem_cons_self, hc.symm, h⟩
    · rw [if_neg hc] at h
      obtain ⟨q2, h1, h2⟩ := ih h
      exact ⟨q2, List.mem_cons_of_mem _ h1, h2⟩
theorem km_disp_some {α : Type} {r : Option Nat} {ps : List (Nat × km_M α)} {s t : km_S} {v : α} (h : (km_disp r ps).1 s = some (v, t)) : ∃ q ∈ ps, (km_is q.1 r).1 s = some ((), s) ∧ q.2.1 s = some (v, t) := by
  obtain ⟨c, u, e1, e2⟩ := km_bind_some h
  obtain ⟨e3, e4⟩ := km_rd_some e1
  rw [e4] at e2
  obtain ⟨q, hq, hc, hx⟩ := km_sel_some e2
  refine ⟨q, hq, ?_, hx⟩
  obtain ⟨⟨a, f, c9, fs⟩, e5, e6⟩ := Option.map_eq_some_iff.mp e3
  show ((match km_ob s r with
    | some (_, _, c', _) => if c' = q.1 then some () else none
    | none => none).map (fun a => (a, s))) = some ((), s)
  rw [e5]
  have h9 : c9 = q.1 := by rw [hc]; exact e6
  rw [h9]
  simp
/-- no loop of a run is longer -/
def km_fuel : Nat := 100000
def km_max (v w : Int32) : Int32 := if v < w then w else v
def km_min (v w : Int32) : Int32 := if w < v then w else v
/-- behind a call that may throw, under a handler -/
def km_h {α ρ : Type} (hd : Nat → km_M ρ) (f : α → km_M ρ) (v : Nat ⊕ α) : km_M ρ := match v with
  | .inl q => hd q
  | .inr a => f a
/-- getCause of a Refused: the cause, null where it is the object itself -/
def km_own (r : Option Nat) : km_M Unit := km_rd (fun s => match km_ob s r with
  | some (_, true, c, _) => if c = 8 then some () else none
  | _ => none)
def km_cause1 (r : Option Nat) : km_M (Option Nat) := km_bind (km_own r) fun _ => km_bind (km_gR [(8, 0)] r) fun c => if c = r then km_pure none else km_pure c
def km_cause (r : Option Nat) : km_M (Option Nat) := km_bind (km_is 8 r) fun _ => km_cause1 r
def km_behind : Nat → Option Nat → Int32 → km_M (Option Nat)
| 0, _, _ => km_fail
| n + 1, r, d => if ¬ d = 0 then km_bind (km_cause r) fun c => km_bind (km_inst [8] [13] c) fun i => if i = 0 then km_pure none else km_bind (km_cast [8] c) fun _ => km_bind (km_is 8 c) fun _ => km_bind (km_behind n c (d - 1)) fun v => km_pure v else km_pure r
def pm_X9_behind (a0 : Option Nat) (a1 : Int32) : km_M (Option Nat) := km_behind 9 a0 a1
