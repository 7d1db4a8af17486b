set_option maxRecDepth 100000
/-! ===== the pure phase: cells as objects of known kinds. A list (ArrayList), a deque, a bit set is ONE object; the array behind it is hidden. ===== -/
/-- raw cell (flag, contents) | list: modCount, elements | deque | bits below 256 -/
abbrev ka_O : Type := (Bool × km_E) ⊕ (Int32 × List Nat) ⊕ List Nat ⊕ (Nat → Bool)
abbrev ka_ob (c : Nat) (fs : List Value) : ka_O := .inl (true, .inr (c, fs))
abbrev ka_ko (c : Nat) (fs : List Value) : ka_O := .inl (false, .inr (c, fs))
abbrev ka_aI (k n : Nat) (f : Nat → Int32) : ka_O := .inl (true, .inl (k, n, .inl f))
abbrev ka_kI (k n : Nat) (f : Nat → Int32) : ka_O := .inl (false, .inl (k, n, .inl f))
abbrev ka_aR (k n : Nat) (f : Nat → Option Nat) : ka_O := .inl (true, .inl (k, n, .inr (.inr (.inr (.inr f)))))
abbrev ka_aJ (n : Nat) (f : Nat → Int64) : ka_O := .inl (true, .inl (3, n, .inr (.inl f)))
abbrev ka_ls (mc : Int32) (xs : List Nat) : ka_O := .inr (.inl (mc, xs))
abbrev ka_dq (xs : List Nat) : ka_O := .inr (.inr (.inl xs))
abbrev ka_bs (f : Nat → Bool) : ka_O := .inr (.inr (.inr f))
abbrev ka_H : Type := Nat → Option ka_O
/-- constants; all that may be used: 5 a cell and 1 a slot; what constants hold -/
abbrev ka_Z : Type := (Nat → Option Nat) × Nat × (Nat → Option km_E)
def ka_own (o : ka_O) : Prop := match o with
  | .inl _ => False
  | .inr _ => True
/-- 64 bits of a word -/
def ka_word (f : Nat → Bool) (j : Nat) (w : Int64) : Prop := ∀ i, i < 64 → w.toBitVec.getLsbD i = f (64 * j + i)
/-- the cell a (and the array at b behind it) is the object o -/
def ka_P (Z : ka_Z) (m : km_Mem) (b a : Nat) (o : ka_O) : Prop := match o with
  | .inl (f, e) => m a = some (f, e)
  | .inr (.inl (mc, xs)) => m a = some (true, .inr (30, [.int mc, .ref b, .int (Int32.ofNat xs.length)])) ∧ ∃ (f : Bool) (n : Nat) (g : Nat → Option Nat), m b = some (f, .inl (4, n, .inr (.inr (.inr (.inr g))))) ∧ xs.length ≤ n ∧ n ≤ 400 ∧ (f = false → n = 0) ∧ (n = 0 → Z.1 0 = some b) ∧ ∀ i, i < xs.length → g i = xs[i]?
  | .inr (.inr (.inl xs)) => ∃ (h : Nat) (g : Nat → Option Nat), m a = some (true, .inr (32, [.ref b, .int (Int32.ofNat h), .int (Int32.ofNat ((h + xs.length) % 17))])) ∧ m b = some (true, .inl (4, 17, .inr (.inr (.inr (.inr g))))) ∧ h < 17 ∧ xs.length < 16 ∧ ∀ i, i < 17 → g ((h + i) % 17) = xs[i]?
  | .inr (.inr (.inr f)) => ∃ (u : Nat) (st : Int32) (n : Nat) (g : Nat → Int64), m a = some (true, .inr (31, [.ref b, .int (Int32.ofNat u), .int st])) ∧ m b = some (true, .inl (3, n, .inr (.inl g))) ∧ (u ≤ n ∧ u ≤ 4) ∧ 1 ≤ n ∧ n ≤ 8 ∧ (st = 0 ∨ st = 1) ∧ (∀ j, j < u → ka_word f j (g j)) ∧ (∀ j, u ≤ j → j < n → g j = 0) ∧ (∀ i, 64 * u ≤ i → f i = false)
theorem ka_P_keep {Z : ka_Z} {m m' : km_Mem} {b a : Nat} {o : ka_O} (h : ka_P Z m b a o) (h1 : m' a = m a) (h2 : ka_own o → m' b = m b) : ka_P Z m' b a o := by
  rcases o with ⟨f, e⟩ | ⟨mc, xs⟩ | xs | f
  · exact h1.trans h
  · simp only [ka_P, h1, h2 trivial] at h ⊢
    exact h
  · simp only [ka_P, h1, h2 trivial] at h ⊢
    exact h
  · simp only [ka_P, h1, h2 trivial] at h ⊢
    exact h
theorem km_ob_mk {s : km_S} {a c : Nat} {f : Bool} {fs : List Value} (h : s.2.2.2 a = some (f, .inr (c, fs))) : km_ob s (some a) = some (a, f, c, fs) := by
  unfold km_ob
  simp only [h]
def ka_B (Z : ka_Z) (H : ka_H) (m : km_Mem) (B : Nat → Nat) : Prop :=
  (∀ a o, H a = some o → ka_P Z m (B a) a o) ∧
  (∀ a o, H a = some o → ka_own o → ∀ e, m (B a) = some (true, e) → H (B a) = none ∧ ∀ a' o', H a' = some o' → ka_own o' → B a' = B a → a' = a)
/-- the pure machine's state has the objects H; w is left -/
def ka_K (Z : ka_Z) (σ : km_S) : Prop := σ.1 = Z.1 ∧ ∀ a e, Z.2.2 a = some e → σ.2.2.2 a = some (false, e)
def ka_R (Z : ka_Z) (w : Nat) (H : ka_H) (σ : km_S) : Prop := ka_K Z σ ∧ (∀ b, σ.2.1 ≤ b → σ.2.2.2 b = none) ∧ 5 * σ.2.1 + σ.2.2.1 + w ≤ Z.2.1 ∧ ∃ B, ka_B Z H σ.2.2.2 B
/-- the program ends, from every state with the objects H -/
def ka_T {α : Type} (Z : ka_Z) (x : km_M α) (w : Nat) (H : ka_H) (Q : α → Nat → ka_H → Prop) : Prop := ∀ σ, ka_R Z w H σ → ∃ (r : α) (σ' : km_S) (w' : Nat) (H' : ka_H), x.1 σ = some (r, σ') ∧ ka_R Z w' H' σ' ∧ Q r w' H'
def ka_up (H : ka_H) (a : Nat) (o : ka_O) : ka_H := fun b => if b = a then some o else H b
theorem ka_same {H : ka_H} {a : Nat} {o : ka_O} : ka_up H a o a = some o := if_pos rfl
theorem ka_ne {H : ka_H} {a b : Nat} {o : ka_O} (h : b ≠ a) : ka_up H a o b = H b := if_neg h
theorem ka_ne1 {H : ka_H} {a b : Nat} {o : ka_O} {r : Option ka_O} (h : b ≠ a) (h2 : H b = r) : ka_up H a o b = r := (if_neg h).trans h2
theorem ka_up_up {H : ka_H} {a : Nat} {o o' : ka_O} : ka_up (ka_up H a o) a o' = ka_up H a o' := by
  funext b
  unfold ka_up
  split <;> rfl
theorem ka_up_id {H : ka_H} {a : Nat} {o : ka_O} (h : H a = some o) : ka_up H a o = H := by
  funext b
  unfold ka_up
  split
  · next e => rw [e, h]
  · rfl
theorem ka_up_comm {H : ka_H} {a b : Nat} {o o' : ka_O} (h : a ≠ b) : ka_up (ka_up H a o) b o' = ka_up (ka_up H b o') a o := by
  funext x
  unfold ka_up
  split
  · next e => rw [if_neg (by rw [e]; exact fun z => h z.symm)]
  · rfl
/-- G has all that H has -/
def ka_le (H G : ka_H) : Prop := ∀ a o, H a = some o → G a = some o
theorem ka_le_refl {H : ka_H} : ka_le H H := fun _ _ h => h
theorem ka_le_trans {H G F : ka_H} (h : ka_le H G) (k : ka_le G F) : ka_le H F := fun a o x => k a o (h a o x)
theorem ka_le_up {H : ka_H} {a : Nat} {o : ka_O} (h : H a = none) : ka_le H (ka_up H a o) := fun b q hb => by
  unfold ka_up
  split
  · next e => rw [e, h] at hb; cases hb
  · exact hb
theorem ka_dom {H : ka_H} {a b : Nat} {o : ka_O} (h : H b = some o) (k : H a = none) : b ≠ a := fun e => by rw [e, k] at h; cases h
theorem ka_kinds {H : ka_H} {a b : Nat} {o o' : ka_O} (h : H a = some o) (k : H b = some o') (n : o ≠ o') : a ≠ b := fun e => by
  rw [e, k] at h
  exact n (Option.some.inj h).symm
theorem ka_R_drop {Z : ka_Z} {w : Nat} {H G : ka_H} {σ : km_S} (h : ka_R Z w G σ) (k : ka_le H G) : ka_R Z w H σ := by
  obtain ⟨h1, h2, h3, B, h4, h5⟩ := h
  refine ⟨h1, h2, h3, B, fun a o x => h4 a o (k a o x), fun a o x y e z => ?_⟩
  obtain ⟨g1, g2⟩ := h5 a o (k a o x) y e z
  refine ⟨?_, fun a' o' x' y' => g2 a' o' (k a' o' x') y'⟩
  cases hb : H (B a) with
  | none => rfl
  | some q => rw [k _ _ hb] at g1; cases g1
theorem ka_R_less {Z : ka_Z} {w v : Nat} {H : ka_H} {σ : km_S} (h : ka_R Z w H σ) (k : v ≤ w) : ka_R Z v H σ := ⟨h.1, h.2.1, Nat.le_trans (Nat.add_le_add_left k _) h.2.2.1, h.2.2.2⟩
/-- what is known of the state itself -/
theorem ka_K_up {Z : ka_Z} {σ : km_S} {a n z : Nat} {e : km_E} (h : ka_K Z σ) (ha : ∀ v, σ.2.2.2 a = some v → v.1 = true) : ka_K Z (σ.1, n, z, km_up σ.2.2.2 a (true, e)) := by
  refine ⟨h.1, fun b x hb => ?_⟩
  have h1 := h.2 b x hb
  show km_up σ.2.2.2 a (true, e) b = _
  unfold km_up
  rw [if_neg (fun hz => by subst hz; have := ha _ h1; cases this)]
  exact h1
theorem ka_lt {Z : ka_Z} {w : Nat} {H : ka_H} {σ : km_S} (h : ka_R Z w H σ) {a : Nat} {o : ka_O} (ha : H a = some o) : a < σ.2.1 := by
  obtain ⟨h1, h2, h3, B, h4, h5⟩ := h
  have h6 := h4 a o ha
  refine Nat.lt_of_not_le fun hle => ?_
  have h7 := h2 a hle
  rcases o with ⟨f, e⟩ | ⟨mc, xs⟩ | xs | f
  · exact absurd (h6.symm.trans h7) (by simp)
  · exact absurd (h6.1.symm.trans h7) (by simp)
  · obtain ⟨x, g, h8, -⟩ := h6
    exact absurd (h8.symm.trans h7) (by simp)
  · obtain ⟨u, st, n, g, h8, -⟩ := h6
    exact absurd (h8.symm.trans h7) (by simp)
theorem ka_raw {Z : ka_Z} {w : Nat} {H : ka_H} {σ : km_S} (h : ka_R Z w H σ) {a : Nat} {f : Bool} {e : km_E} (ha : H a = some (.inl (f, e))) : σ.2.2.2 a = some (f, e) := by
  obtain ⟨h1, h2, h3, B, h4, h5⟩ := h
  exact h4 a _ ha
/-- the number of the receiver's kind -/
def ka_cls (o : ka_O) : Option Nat := match o with
  | .inl (_, .inr (c, _)) => some c
  | .inl (_, .inl _) => none
  | .inr (.inl _) => some 30
  | .inr (.inr (.inl _)) => some 32
  | .inr (.inr (.inr _)) => some 31
theorem ka_obj {Z : ka_Z} {w : Nat} {H : ka_H} {σ : km_S} (h : ka_R Z w H σ) {a : Nat} {o : ka_O} (ha : H a = some o) {c : Nat} (hc : ka_cls o = some c) : ∃ f fs, km_ob σ (some a) = some (a, f, c, fs) := by
  obtain ⟨h1, h2, h3, B, h4, h5⟩ := h
  have h6 := h4 a o ha
  rcases o with ⟨f, e | ⟨c', fs⟩⟩ | ⟨mc, xs⟩ | xs | f
  · cases hc
  · cases hc
    have h7 : σ.2.2.2 a = some (f, .inr (c, fs)) := h6
    exact ⟨f, fs, km_ob_mk h7⟩
  · cases hc
    exact ⟨_, _, km_ob_mk h6.1⟩
  · cases hc
    obtain ⟨x, g, h8, -⟩ := h6
    exact ⟨_, _, km_ob_mk h8⟩
  · cases hc
    obtain ⟨u, st, n, g, h8, -⟩ := h6
    exact ⟨_, _, km_ob_mk h8⟩
/-- a raw cell is stored into -/
theorem ka_R_set {Z : ka_Z} {w : Nat} {H : ka_H} {σ : km_S} (h : ka_R Z w H σ) {a : Nat} {e e' : km_E} (ha : H a = some (.inl (true, e))) : ka_R Z w (ka_up H a (.inl (true, e'))) (σ.1, σ.2.1, σ.2.2.1, km_up σ.2.2.2 a (true, e')) := by
  have hlt := ka_lt h ha
  have ha0 := ka_raw h ha
  obtain ⟨h1, h2, h3, B, h4, h5⟩ := h
  refine ⟨ka_K_up h1 (fun v hv => by rw [ha0] at hv; cases hv; rfl), fun b hb => ?_, h3, B, fun b o hb => ?_, fun b o hb ho e1 he1 => ?_⟩
  · show km_up σ.2.2.2 a (true, e') b = none
    unfold km_up
    rw [if_neg (by have : σ.2.1 ≤ b := hb; omega)]
    exact h2 b hb
  · by_cases hba : b = a
    · subst hba
      rw [ka_same] at hb
      cases hb
      exact if_pos rfl
    · rw [ka_ne hba] at hb
      have h6 := h4 b o hb
      have hk : ∀ x, x ≠ a → km_up σ.2.2.2 a (true, e') x = σ.2.2.2 x := fun x hx => if_neg hx
      have hB : ka_own o → B b ≠ a := fun hw hz => by
        have h7 := (h5 b o hb hw e (by rw [hz]; exact h4 a _ ha)).1
        rw [hz, ha] at h7
        cases h7
      exact ka_P_keep h6 (hk b hba) (fun hw => hk (B b) (hB hw))
  · by_cases hba : b = a
    · subst hba
      rw [ka_same] at hb
      cases hb
      exact ho.elim
    · rw [ka_ne hba] at hb
      have hBa : B b ≠ a := fun hz => by
        have h7 := (h5 b o hb ho e (by rw [hz]; exact h4 a _ ha)).1
        rw [hz, ha] at h7
        cases h7
      have he2 : σ.2.2.2 (B b) = some (true, e1) := by
        have : km_up σ.2.2.2 a (true, e') (B b) = some (true, e1) := he1
        unfold km_up at this
        rw [if_neg hBa] at this
        exact this
      obtain ⟨g1, g2⟩ := h5 b o hb ho e1 he2
      refine ⟨(ka_ne hBa).trans g1, fun a' o' x' y' z' => ?_⟩
      by_cases ha' : a' = a
      · subst ha'
        rw [ka_same] at x'
        cases x'
        exact y'.elim
      · rw [ka_ne ha'] at x'
        exact g2 a' o' x' y' z'
/-- a raw cell is made -/
theorem ka_R_new {Z : ka_Z} {w : Nat} {H : ka_H} {σ : km_S} (h : ka_R Z w H σ) {n : Nat} (hw : n + 5 ≤ w) (e : km_E) : H σ.2.1 = none ∧ ka_R Z (w - (n + 5)) (ka_up H σ.2.1 (.inl (true, e))) (σ.1, σ.2.1 + 1, σ.2.2.1 + n, km_up σ.2.2.2 σ.2.1 (true, e)) := by
  have hfr : ∀ a o, H a = some o → a ≠ σ.2.1 := fun a o ha => Nat.ne_of_lt (ka_lt h ha)
  have hn : H σ.2.1 = none := by
    cases hx : H σ.2.1 with
    | none => rfl
    | some o => exact absurd rfl (hfr _ o hx)
  obtain ⟨h1, h2, h3, B, h4, h5⟩ := h
  have hmn : σ.2.2.2 σ.2.1 = none := h2 _ (Nat.le_refl _)
  have hk : ∀ x, x ≠ σ.2.1 → km_up σ.2.2.2 σ.2.1 (true, e) x = σ.2.2.2 x := fun x hx => if_neg hx
  have hB : ∀ b o, H b = some o → ka_own o → B b ≠ σ.2.1 := fun b o hb ho hz => by
    have h6 := h4 b o hb
    rcases o with ⟨f, e⟩ | ⟨mc, xs⟩ | xs | f
    · exact ho
    · obtain ⟨-, f, n, g, h7, -⟩ := h6
      rw [hz, hmn] at h7
      cases h7
    · obtain ⟨x, g, -, h7, -⟩ := h6
      rw [hz, hmn] at h7
      cases h7
    · obtain ⟨u, st, n, g, -, h7, -⟩ := h6
      rw [hz, hmn] at h7
      cases h7
  refine ⟨hn, ka_K_up h1 (fun v hv => by rw [hmn] at hv; cases hv), fun b hb => ?_, ?_, B, fun b o hb => ?_, fun b o hb ho e1 he1 => ?_⟩
  · have hb2 : σ.2.1 + 1 ≤ b := hb
    show km_up σ.2.2.2 σ.2.1 (true, e) b = none
    rw [hk b (by omega)]
    exact h2 b (by omega)
  · show 5 * (σ.2.1 + 1) + (σ.2.2.1 + n) + (w - (n + 5)) ≤ Z.2.1
    omega
  · by_cases hba : b = σ.2.1
    · subst hba
      rw [ka_same] at hb
      cases hb
      exact if_pos rfl
    · rw [ka_ne hba] at hb
      have h6 := h4 b o hb
      exact ka_P_keep h6 (hk b hba) (fun hw => hk (B b) (hB b o hb hw))
  · by_cases hba : b = σ.2.1
    · subst hba
      rw [ka_same] at hb
      cases hb
      exact ho.elim
    · rw [ka_ne hba] at hb
      have hBa := hB b o hb ho
      have he2 : σ.2.2.2 (B b) = some (true, e1) := by
        have : km_up σ.2.2.2 σ.2.1 (true, e) (B b) = some (true, e1) := he1
        rw [hk _ hBa] at this
        exact this
      obtain ⟨g1, g2⟩ := h5 b o hb ho e1 he2
      refine ⟨(ka_ne hBa).trans g1, fun a' o' x' y' z' => ?_⟩
      by_cases ha' : a' = σ.2.1
      · subst ha'
        rw [ka_same] at x'
        cases x'
        exact y'.elim
      · rw [ka_ne ha'] at x'
        exact g2 a' o' x' y' z'
/-! rules -/
section KAR
variable {α β : Type} {Z : ka_Z} {w : Nat} {H : ka_H} {Q : α → Nat → ka_H → Prop}
theorem ka_pure {a : α} (h : Q a w H) : ka_T Z (km_pure a) w H Q := fun σ hR => ⟨a, σ, w, H, rfl, hR, h⟩
theorem ka_mono {x : km_M α} {P : α → Nat → ka_H → Prop} (h : ka_T Z x w H P) (k : ∀ r w' H', P r w' H' → ∃ H'' v, ka_le H'' H' ∧ v ≤ w' ∧ Q r v H'') : ka_T Z x w H Q := fun σ hR => by
  obtain ⟨r, σ', w', H', h1, h2, h3⟩ := h σ hR
  obtain ⟨H'', v, g1, g0, g2⟩ := k r w' H' h3
  exact ⟨r, σ', v, H'', h1, ka_R_less (ka_R_drop h2 g1) g0, g2⟩
theorem ka_post {x : km_M α} {P : α → Nat → ka_H → Prop} (h : ka_T Z x w H P) (k : ∀ r w' H', P r w' H' → Q r w' H') : ka_T Z x w H Q := fun σ hR => by
  obtain ⟨r, σ', w', H', h1, h2, h3⟩ := h σ hR
  exact ⟨r, σ', w', H', h1, h2, k r w' H' h3⟩
theorem ka_pre {x : km_M α} {G : ka_H} {v : Nat} (hG : ka_le G H) (hv : v ≤ w) (h : ka_T Z x v G Q) : ka_T Z x w H Q := fun σ hR => h σ (ka_R_less (ka_R_drop hR hG) hv)
theorem ka_call {x : km_M β} {f : β → km_M α} {P : β → Nat → ka_H → Prop} (h : ka_T Z x w H P) (k : ∀ r w' H', P r w' H' → ka_T Z (f r) w' H' Q) : ka_T Z (km_bind x f) w H Q := fun σ hR => by
  obtain ⟨r, σ', w', H', h1, h2, h3⟩ := h σ hR
  obtain ⟨r2, σ2, w2, H2, g1, g2, g3⟩ := k r w' H' h3 σ' h2
  exact ⟨r2, σ2, w2, H2, km_bind_mk h1 g1, g2, g3⟩
/-- a program that only looks -/
theorem ka_look {x : km_M β} {f : β → km_M α} {v : β} (h : ∀ σ, ka_R Z w H σ → x.1 σ = some (v, σ)) (k : ka_T Z (f v) w H Q) : ka_T Z (km_bind x f) w H Q := fun σ hR => by
  obtain ⟨r2, σ2, w2, H2, g1, g2, g3⟩ := k σ hR
  exact ⟨r2, σ2, w2, H2, km_bind_mk (h σ hR) g1, g2, g3⟩
theorem ka_rdr {g : km_S → Option β} {f : β → km_M α} {v : β} (h : ∀ σ, ka_R Z w H σ → g σ = some v) (k : ka_T Z (f v) w H Q) : ka_T Z (km_bind (km_rd g) f) w H Q := ka_look (fun σ hR => by show (g σ).map _ = _; rw [h σ hR]; rfl) k
theorem ka_nn {a : Nat} {f : Unit → km_M α} (k : ka_T Z (f ()) w H Q) : ka_T Z (km_bind (km_nn (some a)) f) w H Q := ka_rdr (fun σ hR => if_neg (by simp)) k
theorem ka_is {a c : Nat} {o : ka_O} {f : Unit → km_M α} (ha : H a = some o) (hc : ka_cls o = some c) (k : ka_T Z (f ()) w H Q) : ka_T Z (km_bind (km_is c (some a)) f) w H Q := ka_rdr (fun σ hR => by
  obtain ⟨fl, fs, h1⟩ := ka_obj hR ha hc
  rw [h1]
  exact if_pos rfl) k
theorem ka_gI {a c n : Nat} {fl : Bool} {fs : List Value} {tbl : List (Nat × Nat)} {v : Int32} {f : Int32 → km_M α} (ha : H a = some (.inl (fl, .inr (c, fs)))) (ht : tbl.lookup c = some n) (hv : fs[n]? = some (.int v)) (k : ka_T Z (f v) w H Q) : ka_T Z (km_bind (km_gI tbl (some a)) f) w H Q := ka_rdr (fun σ hR => by
  have h1 := ka_raw hR ha
  unfold km_fld km_ob
  simp only [h1, ht, hv]
  rfl) k
theorem ka_gR {a c n : Nat} {fl : Bool} {fs : List Value} {tbl : List (Nat × Nat)} {v : Option Nat} {f : Option Nat → km_M α} (ha : H a = some (.inl (fl, .inr (c, fs)))) (ht : tbl.lookup c = some n) (hv : fs[n]?.bind km_vR = some v) (k : ka_T Z (f v) w H Q) : ka_T Z (km_bind (km_gR tbl (some a)) f) w H Q := ka_rdr (fun σ hR => by
  have h1 := ka_raw hR ha
  unfold km_fld km_ob
  simp only [h1, ht]
  exact hv) k
theorem ka_wrr {g : km_S → Option (Nat × km_E)} {f : Unit → km_M α} {a : Nat} {e e' : km_E} (ha : H a = some (.inl (true, e))) (h : ∀ σ, ka_R Z w H σ → g σ = some (a, e')) (k : ka_T Z (f ()) w (ka_up H a (.inl (true, e'))) Q) : ka_T Z (km_bind (km_wr g) f) w H Q := fun σ hR => by
  obtain ⟨r2, σ2, w2, H2, g1, g2, g3⟩ := k _ (ka_R_set hR ha)
  exact ⟨r2, σ2, w2, H2, km_bind_mk (by show (g σ).map _ = _; rw [h σ hR]; rfl) g1, g2, g3⟩
theorem ka_pI {a c n : Nat} {fs : List Value} {ty : FieldType} {tbl : List (Nat × Nat)} {v : Int32} {f : Unit → km_M α} (ha : H a = some (ka_ob c fs)) (hf : km_fitB ty v = true) (ht : tbl.lookup c = some n) (hn : n < fs.length) (k : ka_T Z (f ()) w (ka_up H a (ka_ob c (fs.set n (.int v)))) Q) : ka_T Z (km_bind (km_pI ty tbl (some a) v) f) w H Q := ka_wrr ha (fun σ hR => by
  have h1 := ka_raw hR ha
  unfold km_pv km_ob
  simp only [h1, ht, hf, hn]
  rfl) k
theorem ka_pR {a c n : Nat} {fs : List Value} {tbl : List (Nat × Nat)} {v : Option Nat} {f : Unit → km_M α} (ha : H a = some (ka_ob c fs)) (ht : tbl.lookup c = some n) (hn : n < fs.length) (k : ka_T Z (f ()) w (ka_up H a (ka_ob c (fs.set n (va_rf v)))) Q) : ka_T Z (km_bind (km_pR tbl (some a) v) f) w H Q := ka_wrr ha (fun σ hR => by
  have h1 := ka_raw hR ha
  unfold km_pv km_ob
  simp only [h1, ht, hn]
  rfl) k
theorem ka_alr {g : km_S → Option (Nat × km_E)} {f : Option Nat → km_M α} {n : Nat} {e : km_E} (h : ∀ σ, ka_R Z w H σ → g σ = some (n, e)) (hw : n + 5 ≤ w) (k : ∀ a, H a = none → ka_T Z (f (some a)) (w - (n + 5)) (ka_up H a (.inl (true, e))) Q) : ka_T Z (km_bind (km_al g) f) w H Q := fun σ hR => by
  obtain ⟨hn, hR2⟩ := ka_R_new hR hw e
  obtain ⟨r2, σ2, w2, H2, g1, g2, g3⟩ := k _ hn _ hR2
  exact ⟨r2, σ2, w2, H2, km_bind_mk (by show (g σ).map _ = _; rw [h σ hR]; rfl) g1, g2, g3⟩
theorem ka_new {c n : Nat} {fs : List Value} {f : Option Nat → km_M α} (hw : n + 5 ≤ w) (k : ∀ a, H a = none → ka_T Z (f (some a)) (w - (n + 5)) (ka_up H a (ka_ob c fs)) Q) : ka_T Z (km_bind (km_new c n fs) f) w H Q := ka_alr (fun _ _ => rfl) hw k
theorem ka_k {i : Nat} {f : Option Nat → km_M α} (k : ka_T Z (f (Z.1 i)) w H Q) : ka_T Z (km_bind (km_k i) f) w H Q := ka_rdr (fun σ hR => by rw [hR.1.1]) k
theorem ka_len {a kd n : Nat} {fl : Bool} {x : (Nat → Int32) ⊕ (Nat → Int64) ⊕ (Nat → UInt32) ⊕ (Nat → UInt64) ⊕ (Nat → Option Nat)} {f : Int32 → km_M α} (ha : H a = some (.inl (fl, .inl (kd, n, x)))) (hx : km_sort x = true) (k : ka_T Z (f (Int32.ofNat n)) w H Q) : ka_T Z (km_bind (km_len (some a)) f) w H Q := ka_rdr (fun σ hR => by
  have h1 := ka_raw hR ha
  unfold km_ar
  simp only [h1, hx]
  rfl) k
theorem ka_ldI {a kd n : Nat} {fl : Bool} {g : Nat → Int32} {i : Int32} {f : Int32 → km_M α} (ha : H a = some (.inl (fl, .inl (kd, n, .inl g)))) (hi : km_inB i n = true) (k : ka_T Z (f (g i.toNatClampNeg)) w H Q) : ka_T Z (km_bind (km_ldI kd (some a) i) f) w H Q := ka_rdr (fun σ hR => by
  have h1 := ka_raw hR ha
  unfold km_ar
  simp only [h1, hi]
  rfl) k
theorem ka_ldJ {a n : Nat} {fl : Bool} {g : Nat → Int64} {i : Int32} {f : Int64 → km_M α} (ha : H a = some (.inl (fl, .inl (3, n, .inr (.inl g))))) (hi : km_inB i n = true) (k : ka_T Z (f (g i.toNatClampNeg)) w H Q) : ka_T Z (km_bind (km_ldJ (some a) i) f) w H Q := ka_rdr (fun σ hR => by
  have h1 := ka_raw hR ha
  unfold km_ar
  simp only [h1, hi]
  rfl) k
theorem ka_ldR {a kd n : Nat} {fl : Bool} {g : Nat → Option Nat} {i : Int32} {f : Option Nat → km_M α} (ha : H a = some (.inl (fl, .inl (kd, n, .inr (.inr (.inr (.inr g))))))) (hi : km_inB i n = true) (k : ka_T Z (f (g i.toNatClampNeg)) w H Q) : ka_T Z (km_bind (km_ldR (some a) i) f) w H Q := ka_rdr (fun σ hR => by
  have h1 := ka_raw hR ha
  unfold km_ar
  simp only [h1, hi]
  rfl) k
theorem ka_stI {a kd n : Nat} {g : Nat → Int32} {i v : Int32} {f : Unit → km_M α} (ha : H a = some (ka_aI kd n g)) (hi : km_inB i n = true) (k : ka_T Z (f ()) w (ka_up H a (ka_aI kd n (upd g i.toNatClampNeg (vp_nar (km_ty kd) v)))) Q) : ka_T Z (km_bind (km_stI kd (some a) i v) f) w H Q := ka_wrr ha (fun σ hR => by
  have h1 := ka_raw hR ha
  unfold km_ar
  simp only [h1, hi]
  rfl) k
theorem ka_stR {a kd n : Nat} {g : Nat → Option Nat} {i : Int32} {v : Nat} {o : ka_O} {c : Nat} {f : Unit → km_M α} (ha : H a = some (ka_aR kd n g)) (hv : H v = some o) (hc : ka_cls o = some c) (hm : kd = 4 ∨ (kd = 5 ∧ c = kn_String)) (hi : km_inB i n = true) (k : ka_T Z (f ()) w (ka_up H a (ka_aR kd n (va_up g i.toNatClampNeg (some v)))) Q) : ka_T Z (km_bind (km_stR kn_String (some a) i (some v)) f) w H Q := ka_wrr ha (fun σ hR => by
  have h1 := ka_raw hR ha
  obtain ⟨fl, fs, h2⟩ := ka_obj hR hv hc
  unfold km_ar km_may
  simp only [h1, hi, h2]
  rcases hm with e | ⟨e, e2⟩
  · subst e
    rfl
  · subst e; subst e2
    rfl) k
theorem ka_stN {a kd n : Nat} {g : Nat → Option Nat} {i : Int32} {f : Unit → km_M α} (ha : H a = some (ka_aR kd n g)) (hi : km_inB i n = true) (k : ka_T Z (f ()) w (ka_up H a (ka_aR kd n (va_up g i.toNatClampNeg none))) Q) : ka_T Z (km_bind (km_stR kn_String (some a) i none) f) w H Q := ka_wrr ha (fun σ hR => by
  have h1 := ka_raw hR ha
  unfold km_ar km_may
  simp only [h1, hi]
  rfl) k
theorem ka_nI {kd m : Nat} {n : Int32} {f : Option Nat → km_M α} (hn : ¬ n < 0) (hm : n.toNatClampNeg = m) (h8 : m * 8 ≤ 536870912) (hw : m + 5 ≤ w) (k : ∀ a, H a = none → ka_T Z (f (some a)) (w - (m + 5)) (ka_up H a (ka_aI kd m (fun _ => 0))) Q) : ka_T Z (km_bind (km_nI kd n) f) w H Q := ka_alr (fun _ _ => by subst hm; exact if_pos ⟨hn, h8⟩) hw k
theorem ka_nR {kd m : Nat} {n : Int32} {f : Option Nat → km_M α} (hn : ¬ n < 0) (hm : n.toNatClampNeg = m) (h8 : m * 8 ≤ 536870912) (hw : m + 5 ≤ w) (k : ∀ a, H a = none → ka_T Z (f (some a)) (w - (m + 5)) (ka_up H a (ka_aR kd m (fun _ => none))) Q) : ka_T Z (km_bind (km_nR kd n) f) w H Q := ka_alr (fun _ _ => by subst hm; exact if_pos ⟨hn, h8⟩) hw k
theorem ka_cast {a c : Nat} {o : ka_O} {cs : List Nat} {f : Unit → km_M α} (ha : H a = some o) (hc : ka_cls o = some c) (hm : cs.elem c = true) (k : ka_T Z (f ()) w H Q) : ka_T Z (km_bind (km_cast cs (some a)) f) w H Q := ka_rdr (fun σ hR => by
  obtain ⟨fl, fs, h1⟩ := ka_obj hR ha hc
  simp only [h1, hm]
  rfl) k
theorem ka_castN {cs : List Nat} {f : Unit → km_M α} (k : ka_T Z (f ()) w H Q) : ka_T Z (km_bind (km_cast cs none) f) w H Q := ka_rdr (fun _ _ => rfl) k
theorem ka_instY {a c : Nat} {o : ka_O} {cs no : List Nat} {f : Int32 → km_M α} (ha : H a = some o) (hc : ka_cls o = some c) (hm : cs.elem c = true) (k : ka_T Z (f 1) w H Q) : ka_T Z (km_bind (km_inst cs no (some a)) f) w H Q := ka_rdr (fun σ hR => by
  obtain ⟨fl, fs, h1⟩ := ka_obj hR ha hc
  simp only [h1, hm]
  rfl) k
theorem ka_instNo {a c : Nat} {o : ka_O} {cs no : List Nat} {f : Int32 → km_M α} (ha : H a = some o) (hc : ka_cls o = some c) (hm : cs.elem c = false) (hm2 : no.elem c = true) (k : ka_T Z (f 0) w H Q) : ka_T Z (km_bind (km_inst cs no (some a)) f) w H Q := ka_rdr (fun σ hR => by
  obtain ⟨fl, fs, h1⟩ := ka_obj hR ha hc
  simp only [h1, hm, hm2]
  rfl) k
theorem ka_instN {cs no : List Nat} {f : Int32 → km_M α} (k : ka_T Z (f 0) w H Q) : ka_T Z (km_bind (km_inst cs no none) f) w H Q := ka_rdr (fun _ _ => rfl) k
theorem ka_div {x y : Int32} {f : Int32 → km_M α} (hy : y ≠ 0) (k : ka_T Z (f (x / y)) w H Q) : ka_T Z (km_bind (km_div x y) f) w H Q := ka_rdr (fun _ _ => if_neg hy) k
theorem ka_rem {x y : Int32} {f : Int32 → km_M α} (hy : y ≠ 0) (k : ka_T Z (f (x - x / y * y)) w H Q) : ka_T Z (km_bind (km_rem x y) f) w H Q := ka_rdr (fun _ _ => if_neg hy) k
theorem ka_ret {ty : FieldType} {x : Int32} {f : Int32 → km_M α} (hx : km_fitB ty x = true) (k : ka_T Z (f x) w H Q) : ka_T Z (km_bind (km_ret ty x) f) w H Q := ka_rdr (fun _ _ => if_pos hx) k
theorem ka_throw {a c : Nat} {fs : List Value} {Q : Nat ⊕ α → Nat → ka_H → Prop} (ha : H a = some (ka_ob c fs)) (k : Q (.inl a) w H) : ka_T Z (km_throw (some a)) w H Q := fun σ hR => by
  refine ⟨.inl a, σ, w, H, ?_, hR, k⟩
  have h1 := ka_raw hR ha
  show (match km_ob σ (some a) with | some (a, true, _, _) => some (Sum.inl a) | _ => none).map _ = _
  unfold km_ob
  simp only [h1]
  rfl
/-- a call through an object of several kinds -/
theorem ka_disp {a c : Nat} {o : ka_O} {ps : List (Nat × km_M β)} {f : β → km_M α} (ha : H a = some o) (hc : ka_cls o = some c) (k : ka_T Z (km_bind (km_sel c ps) f) w H Q) : ka_T Z (km_bind (km_disp (some a) ps) f) w H Q := fun σ hR => by
  obtain ⟨r2, σ2, w2, H2, g1, g2, g3⟩ := k σ hR
  obtain ⟨b, u, e1, e2⟩ := km_bind_some g1
  obtain ⟨fl, fs, h1⟩ := ka_obj hR ha hc
  refine ⟨r2, σ2, w2, H2, km_bind_mk (a := b) (t := u) (km_bind_mk (a := c) (t := σ) ?_ e1) e2, g2, g3⟩
  show ((km_ob σ (some a)).map _).map _ = _
  rw [h1]
  rfl
theorem ka_ifP {c : Prop} [Decidable c] {x y : km_M α} (hc : c) (k : ka_T Z x w H Q) : ka_T Z (if c then x else y) w H Q := by
  rw [if_pos hc]
  exact k
theorem ka_ifN {c : Prop} [Decidable c] {x y : km_M α} (hc : ¬ c) (k : ka_T Z y w H Q) : ka_T Z (if c then x else y) w H Q := by
  rw [if_neg hc]
  exact k
theorem ka_ite {c : Prop} [Decidable c] {x y : km_M α} (k : c → ka_T Z x w H Q) (k2 : ¬ c → ka_T Z y w H Q) : ka_T Z (if c then x else y) w H Q := by
  by_cases hc : c
  · exact ka_ifP hc (k hc)
  · exact ka_ifN hc (k2 hc)
end KAR
/-! numbers -/
theorem k3_lt {a b : Nat} (ha : a < 2 ^ 31) (hb : b < 2 ^ 31) : Int32.ofNat a < Int32.ofNat b ↔ a < b := Int32.ofNat_lt_iff_lt ha hb
theorem k3_le {a b : Nat} (ha : a < 2 ^ 31) (hb : b < 2 ^ 31) : Int32.ofNat a ≤ Int32.ofNat b ↔ a ≤ b := Int32.ofNat_le_iff_le ha hb
theorem k3_nat {a : Nat} (ha : a < 2 ^ 31) : (Int32.ofNat a).toNatClampNeg = a := by
  rw [Int32.toNatClampNeg, Int32.toInt_ofNat_of_lt ha]
  rfl
theorem k3_eq {a b : Nat} (ha : a < 2 ^ 31) (hb : b < 2 ^ 31) : Int32.ofNat a = Int32.ofNat b ↔ a = b := by
  constructor
  · intro h
    rw [← k3_nat ha, h, k3_nat hb]
  · intro h
    rw [h]
theorem k3_neg {a : Nat} (ha : a < 2 ^ 31) : ¬ Int32.ofNat a < 0 := by
  intro h
  have := (k3_lt (b := 0) ha (by decide)).mp h
  omega
theorem k3_in {i n : Nat} (hi : i < n) (hn : n < 2 ^ 31) : km_inB (Int32.ofNat i) n = true := by
  unfold km_inB
  have h1 := k3_neg (a := i) (by omega)
  rw [k3_nat (by omega)]
  simp [h1]
  omega
theorem k3_add {a b : Nat} : Int32.ofNat a + Int32.ofNat b = Int32.ofNat (a + b) := (Int32.ofNat_add a b).symm
theorem k3_sub {a b : Nat} (h : b ≤ a) : Int32.ofNat a - Int32.ofNat b = Int32.ofNat (a - b) := (Int32.ofNat_sub a b h).symm
