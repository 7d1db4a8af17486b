set_option maxRecDepth 100000
/-! ===== what the reader reads: values ===== -/
def vr_ws : List (List Int32) := [[108, 97, 114, 103, 101], [115, 109, 97, 108, 108], [98, 101, 103, 105, 110], [116, 104, 114, 101, 97, 100], [107, 110, 111, 116], [100, 114, 111, 112], [109, 101, 110, 100], [119, 97, 105, 116]]
def vr_w (i : Nat) : List Int32 := vr_ws.getD i []
def vr_many (i : Nat) : Nat := [2, 2, 2, 2, 1, 1, 0, 1].getD i 0
def kr_k (i : Nat) : Nat := [18, 21, 11, 23, 16, 13, 20, 25].getD i 0
def kr_h (i : Nat) : Int32 := ([102742843, 109548807, 93616297, -874443254, 3296904, 3092207, 3347790, 3641717] : List Int32).getD i 0
def vr_lit (t : List Int32) : List Int32 → Nat → Nat ⊕ Nat
  | [], p => .inr p
  | c :: cs, p => if t[p]? = some c then vr_lit t cs (p + 1) else .inl p
def vr_at (t : List Int32) (i p : Nat) : Nat ⊕ (Nat × Nat) := match vr_lit t (vr_w i) p with
  | .inl e => .inl e
  | .inr a => .inr (i, a)
def vr_wd (t : List Int32) (p : Nat) : List Nat → Nat ⊕ (Nat × Nat)
  | [] => .inl p
  | i :: is => if t[p]? = some ((vr_w i).getD 0 0) then vr_at t i p else vr_wd t p is
def vr_word (t : List Int32) (p : Nat) : Nat ⊕ (Nat × Nat) := vr_wd t p (List.range' 0 8)
def vr_isd (t : List Int32) (p : Nat) : Int32 := match t[p]? with
  | some c => v_in c 48 57
  | none => 0
def vr_dig (t : List Int32) : Nat → Nat → Int32 → Int32 × Nat
  | 0, p, v => (v, p)
  | k + 1, p, v => if vr_isd t p = 1 then vr_dig t k (p + 1) (10 * v + t.getD p 0 - 48) else (v, p)
def vr_num (t : List Int32) (p : Nat) : Nat ⊕ (Int32 × Nat) := if t[p]? = some 32 then (if vr_isd t (p + 1) = 1 then .inr (vr_dig t 2 (p + 1) 0) else .inl (p + 1)) else .inl p
def vr_nums (t : List Int32) : Nat → Nat → Nat ⊕ (List Int32 × Nat)
  | 0, p => .inr ([], p)
  | d + 1, p => match vr_num t p with
    | .inl e => .inl e
    | .inr (v, a) => match vr_nums t d a with
      | .inl e => .inl e
      | .inr (L, q) => .inr (v :: L, q)
/-- a command: which word, its numbers -/
abbrev vCm : Type := Nat × Int32 × Int32
def vr_cmd (t : List Int32) (p : Nat) : Nat ⊕ (vCm × Nat) := match vr_word t p with
  | .inl e => .inl e
  | .inr (i, a) => match vr_nums t (vr_many i) a with
    | .inl e => .inl e
    | .inr (L, q) => .inr ((i, L.getD 0 0, L.getD 1 0), q)
def vr_more (t : List Int32) : Nat → Nat → List vCm → Nat ⊕ List vCm
  | 0, p, _ => .inl p
  | n + 1, p, cs => if t[p]? = some 59 then (match vr_cmd t (p + 1) with
      | .inl e => .inl e
      | .inr (c, a) => vr_more t n a (cs ++ [c])) else if p < t.length then .inl p else .inr cs
def vr_whole (t : List Int32) : Nat ⊕ List vCm := match vr_cmd t 0 with
  | .inl e => .inl e
  | .inr (c, a) => vr_more t (t.length + 1) a [c]
theorem vr_get_lt {t : List Int32} {p : Nat} {c : Int32} (h : t[p]? = some c) : p < t.length := (List.getElem?_eq_some_iff.mp h).1
theorem vr_lit_le {t : List Int32} : ∀ {cs : List Int32} {p a : Nat}, vr_lit t cs p = .inr a → p ≤ t.length → a = p + cs.length ∧ a ≤ t.length := by
  intro cs
  induction cs with
  | nil => intro p a h hp; cases h; exact ⟨rfl, hp⟩
  | cons c cs ih =>
    intro p a h hp
    unfold vr_lit at h
    split at h
    · next hc =>
      have h1 := vr_get_lt hc
      obtain ⟨h2, h3⟩ := ih h (by omega)
      simp only [List.length_cons]
      exact ⟨by omega, h3⟩
    · cases h
theorem vr_w_len : ∀ i : Fin 8, 4 ≤ (vr_w i.val).length ∧ (vr_w i.val)[0]? = some ((vr_w i.val).getD 0 0) ∧ vr_many i.val ≤ 2 := by decide
theorem vr_wd_le {t : List Int32} {p : Nat} (hp : p ≤ t.length) : ∀ {l : List Nat} {i a : Nat}, (∀ j ∈ l, j < 8) → vr_wd t p l = .inr (i, a) → i < 8 ∧ p + 4 ≤ a ∧ a ≤ t.length := by
  intro l
  induction l with
  | nil => intro i a _ h; cases h
  | cons j l ih =>
    intro i a hl h
    unfold vr_wd at h
    split at h
    · unfold vr_at at h
      split at h
      · cases h
      · next b hb =>
        have hj := hl j List.mem_cons_self
        obtain ⟨h1, h2⟩ := vr_lit_le hb hp
        have := (vr_w_len ⟨j, hj⟩).1
        cases h
        exact ⟨hj, by rw [h1]; exact Nat.add_le_add_left this p, h2⟩
    · exact ih (fun j hj => hl j (List.mem_cons_of_mem _ hj)) h
theorem vr_word_le {t : List Int32} {p i a : Nat} (hp : p ≤ t.length) (h : vr_word t p = .inr (i, a)) : i < 8 ∧ p + 4 ≤ a ∧ a ≤ t.length := vr_wd_le hp (fun j hj => by simp [List.mem_range'] at hj; omega) h
theorem vr_isd_lt {t : List Int32} {p : Nat} (h : vr_isd t p = 1) : p < t.length := by
  unfold vr_isd at h
  split at h
  · next c hc => exact vr_get_lt hc
  · cases h
theorem vr_dig_le {t : List Int32} : ∀ {k p : Nat} {v : Int32}, p ≤ t.length → p ≤ (vr_dig t k p v).2 ∧ (vr_dig t k p v).2 ≤ t.length := by
  intro k
  induction k with
  | zero => intro p v hp; exact ⟨Nat.le_refl _, hp⟩
  | succ k ih =>
    intro p v hp
    unfold vr_dig
    split
    · next h =>
      have h1 := vr_isd_lt h
      have h2 := ih (p := p + 1) (v := 10 * v + t.getD p 0 - 48) (by omega)
      exact ⟨by omega, h2.2⟩
    · exact ⟨Nat.le_refl _, hp⟩
theorem vr_num_le {t : List Int32} {p a : Nat} {v : Int32} (h : vr_num t p = .inr (v, a)) (hp : p ≤ t.length) : p ≤ a ∧ a ≤ t.length := by
  unfold vr_num at h
  split at h
  · split at h
    · next h1 h2 =>
      have h3 := vr_dig_le (t := t) (k := 2) (p := p + 1) (v := 0) (by have := vr_isd_lt h2; omega)
      have h4 : vr_dig t 2 (p + 1) 0 = (v, a) := Sum.inr.inj h
      rw [h4] at h3
      exact ⟨by have := h3.1; simp only at this; omega, h3.2⟩
    · cases h
  · cases h
theorem vr_nums_le {t : List Int32} : ∀ {d p a : Nat} {L : List Int32}, vr_nums t d p = .inr (L, a) → p ≤ t.length → p ≤ a ∧ a ≤ t.length := by
  intro d
  induction d with
  | zero => intro p a L h hp; cases h; exact ⟨Nat.le_refl _, hp⟩
  | succ d ih =>
    intro p a L h hp
    unfold vr_nums at h
    split at h
    · cases h
    · next v b hb =>
      obtain ⟨h1, h2⟩ := vr_num_le hb hp
      split at h
      · cases h
      · next L' q hq =>
        cases h
        obtain ⟨h3, h4⟩ := ih hq h2
        exact ⟨by omega, h4⟩
theorem vr_cmd_le {t : List Int32} {p a : Nat} {c : vCm} (h : vr_cmd t p = .inr (c, a)) (hp : p ≤ t.length) : c.1 < 8 ∧ p + 4 ≤ a ∧ a ≤ t.length := by
  unfold vr_cmd at h
  split at h
  · cases h
  · next i b hb =>
    obtain ⟨h1, h2, h3⟩ := vr_word_le hp hb
    split at h
    · cases h
    · next L q hq =>
      cases h
      obtain ⟨h4, h5⟩ := vr_nums_le hq h3
      exact ⟨h1, by omega, h5⟩
theorem vr_more_len {t : List Int32} : ∀ {n p : Nat} {cs cs' : List vCm}, vr_more t n p cs = .inr cs' → p ≤ t.length → 5 * cs.length ≤ p + 1 → (∀ c ∈ cs, c.1 < 8) → 5 * cs'.length ≤ t.length + 1 ∧ ∀ c ∈ cs', c.1 < 8 := by
  intro n
  induction n with
  | zero => intro p cs cs' h; cases h
  | succ n ih =>
    intro p cs cs' h hp hl hc
    unfold vr_more at h
    split at h
    · next h59 =>
      split at h
      · cases h
      · next c a hb =>
        obtain ⟨h1, h2, h3⟩ := vr_cmd_le hb (vr_get_lt h59)
        refine ih h h3 (by rw [List.length_append]; simp only [List.length_cons, List.length_nil]; omega) (fun c' hc' => ?_)
        rcases List.mem_append.mp hc' with e | e
        · exact hc c' e
        · rw [List.mem_singleton.mp e]
          exact h1
    · split at h
      · cases h
      · next h1 =>
        cases h
        exact ⟨by omega, hc⟩
theorem vr_whole_len {t : List Int32} {cs : List vCm} (h : vr_whole t = .inr cs) : 5 * cs.length ≤ t.length + 1 ∧ ∀ c ∈ cs, c.1 < 8 := by
  unfold vr_whole at h
  split at h
  · cases h
  · next c a hb =>
    obtain ⟨h1, h2, h3⟩ := vr_cmd_le hb (Nat.zero_le _)
    exact vr_more_len h h3 (by simp only [List.length_cons, List.length_nil]; omega) (fun c' hc' => by rw [List.mem_singleton.mp hc']; exact h1)
/-! ===== the reader's cells ===== -/
abbrev kr_rd (wa ma p x : Nat) : ka_O := ka_ob 26 [.ref wa, .ref ma, .int (Int32.ofNat p), .ref x]
abbrev kr_bs (p : Nat) : ka_O := ka_ob 27 [va_rf none, .null, .null, .null, .null, .int 0, .int (Int32.ofNat p)]
theorem kx_str_len {H : ka_H} {a : Nat} {cs : List Int32} (h : kx_str H a cs) : cs.length ≤ 100 := by
  obtain ⟨_, _, _, _, _, _, _, _, h3, _⟩ := h
  exact h3
/-- a word's text, a constant -/
def kr_wd (Z : ka_Z) (B : ka_H) (i a : Nat) : Prop := Z.1 (kr_k i) = some a ∧ kx_str B a (vr_w i) ∧ ∃ (fl : Bool) (b : Nat) (y : Int32), B a = some (.inl (fl, .inr (35, [.ref b, .int 0, .int (kr_h i), .int y])))
theorem kr_wd_le {Z : ka_Z} {B G : ka_H} {i a : Nat} (h : kr_wd Z B i a) (k : ka_le B G) : kr_wd Z G i a := by
  obtain ⟨h1, h2, fl, b, y, h3⟩ := h
  exact ⟨h1, kx_str_im h2 (ka_im_le k), fl, b, y, k _ _ h3⟩
def kr_E (Z : ka_Z) (B : ka_H) (x ip wa ma : Nat) (t : List Int32) : Prop := (∃ now sv dq rf ln fa, B x = some (kx_ob now sv dq rf ln ip (Int32.ofNat t.length) fa)) ∧ (∃ f, B ip = some (ka_aI 1 60 f) ∧ ∀ i, i < t.length → t[i]? = some (f i)) ∧ t.length ≤ 60 ∧ (∃ g, B wa = some (ka_aR 5 8 g) ∧ ∀ i, i < 8 → ∃ a, g i = some a ∧ kr_wd Z B i a) ∧ (∃ g, B ma = some (ka_aI 0 8 g) ∧ ∀ i, i < 8 → g i = Int32.ofNat (vr_many i))
def kr_c (Z : ka_Z) (K : ka_H) (c : Nat) (cm : vCm) : Prop := cm.1 < 8 ∧ ∃ wd nu g, kr_wd Z K cm.1 wd ∧ K c = some (ka_ob 28 [.ref wd, .ref nu]) ∧ K nu = some (ka_aI 0 2 g) ∧ g 0 = cm.2.1 ∧ g 1 = cm.2.2
def kr_Q {α : Type} (B K : ka_H) (r wa ma x w : Nat) (g : α → Int32) (res : Nat ⊕ (α × Nat)) : (Nat ⊕ Int32) → Nat → ka_H → Prop := fun y w' K' => match res with
  | .inl e => ∃ q, y = .inl q ∧ w ≤ w' + 12 ∧ ka_le B K' ∧ K' q = some (kr_bs e)
  | .inr (v, a) => y = .inr (g v) ∧ w' = w ∧ K' = ka_up K r (kr_rd wa ma a x)
theorem kr_Q_up {α : Type} {B K K' : ka_H} {r wa ma x w w' : Nat} {g : α → Int32} {res : Nat ⊕ (α × Nat)} {y : Nat ⊕ Int32} {o : ka_O} (h : kr_Q B (ka_up K r o) r wa ma x w g res y w' K') : kr_Q B K r wa ma x w g res y w' K' := by
  cases res with
  | inl e => exact h
  | inr va =>
    obtain ⟨v, a⟩ := va
    obtain ⟨h1, h2, h3⟩ := h
    exact ⟨h1, h2, by rw [h3, ka_up_up]⟩
theorem kr_Q_r {α : Type} {B K K' : ka_H} {r wa ma x w w' : Nat} {g : α → Int32} {z : α × Nat} {y : Nat ⊕ Int32} (h1 : y = .inr (g z.1)) (h2 : w' = w) (h3 : K' = ka_up K r (kr_rd wa ma z.2 x)) : kr_Q B K r wa ma x w g (.inr z) y w' K' := by
  obtain ⟨v, a⟩ := z
  exact ⟨h1, h2, h3⟩
section KRD
variable {Z : ka_Z} {w : Nat} {B K : ka_H} {x ip wa ma r p : Nat} {t : List Int32} {c : Int32}
theorem kr_bsNew {q : Nat} (hq : K q = some (ka_ob 27 kz_BadSign)) : ka_T Z (pm_X29_init (some q) (Int32.ofNat p)) w K (fun _ w' K' => w' = w ∧ K' = ka_up K q (kr_bs p)) := by
  unfold pm_X29_init pm_J7_init_2
  refine ka_nn ?_
  refine ka_call (P := fun _ w' H' => w' = w ∧ H' = ka_up K q (kr_bs 0)) ?_ (fun _ w' H' hp => ?_)
  · refine ka_nn (ka_call (P := fun _ w' H' => w' = w ∧ H' = ka_up K q (kr_bs 0)) ?_ (fun _ w' H' hp => ka_pure hp))
    unfold pm_J6_init_2
    refine ka_nn ?_
    refine ka_pR (by first | exact ka_same | assumption | exact ka_ne1 (by first | assumption | exact Ne.symm (by assumption)) (by first | exact ka_same | assumption | exact ka_ne1 (by first | assumption | exact Ne.symm (by assumption)) (by first | exact ka_same | assumption | exact ka_ne1 (by first | assumption | exact Ne.symm (by assumption)) (by first | exact ka_same | assumption | exact ka_ne1 (by first | assumption | exact Ne.symm (by assumption)) (by first | exact ka_same | assumption | exact ka_ne1 (by first | assumption | exact Ne.symm (by assumption)) (by first | exact ka_same | assumption | exact ka_ne1 (by first | assumption | exact Ne.symm (by assumption)) (by first | exact ka_same | assumption))))))) rfl (Nat.le_of_ble_eq_true rfl) ?_
    refine ka_k ?_
    refine ka_pR (by first | exact ka_same | assumption | exact ka_ne1 (by first | assumption | exact Ne.symm (by assumption)) (by first | exact ka_same | assumption | exact ka_ne1 (by first | assumption | exact Ne.symm (by assumption)) (by first | exact ka_same | assumption | exact ka_ne1 (by first | assumption | exact Ne.symm (by assumption)) (by first | exact ka_same | assumption | exact ka_ne1 (by first | assumption | exact Ne.symm (by assumption)) (by first | exact ka_same | assumption | exact ka_ne1 (by first | assumption | exact Ne.symm (by assumption)) (by first | exact ka_same | assumption | exact ka_ne1 (by first | assumption | exact Ne.symm (by assumption)) (by first | exact ka_same | assumption))))))) rfl (Nat.le_of_ble_eq_true rfl) ?_
    refine ka_k ?_
    refine ka_pR (by first | exact ka_same | assumption | exact ka_ne1 (by first | assumption | exact Ne.symm (by assumption)) (by first | exact ka_same | assumption | exact ka_ne1 (by first | assumption | exact Ne.symm (by assumption)) (by first | exact ka_same | assumption | exact ka_ne1 (by first | assumption | exact Ne.symm (by assumption)) (by first | exact ka_same | assumption | exact ka_ne1 (by first | assumption | exact Ne.symm (by assumption)) (by first | exact ka_same | assumption | exact ka_ne1 (by first | assumption | exact Ne.symm (by assumption)) (by first | exact ka_same | assumption | exact ka_ne1 (by first | assumption | exact Ne.symm (by assumption)) (by first | exact ka_same | assumption))))))) rfl (Nat.le_of_ble_eq_true rfl) ?_
    refine ka_ifP rfl ?_
    refine ka_pR (by first | exact ka_same | assumption | exact ka_ne1 (by first | assumption | exact Ne.symm (by assumption)) (by first | exact ka_same | assumption | exact ka_ne1 (by first | assumption | exact Ne.symm (by assumption)) (by first | exact ka_same | assumption | exact ka_ne1 (by first | assumption | exact Ne.symm (by assumption)) (by first | exact ka_same | assumption | exact ka_ne1 (by first | assumption | exact Ne.symm (by assumption)) (by first | exact ka_same | assumption | exact ka_ne1 (by first | assumption | exact Ne.symm (by assumption)) (by first | exact ka_same | assumption | exact ka_ne1 (by first | assumption | exact Ne.symm (by assumption)) (by first | exact ka_same | assumption))))))) rfl (Nat.le_of_ble_eq_true rfl) ?_
    refine ka_pR (by first | exact ka_same | assumption | exact ka_ne1 (by first | assumption | exact Ne.symm (by assumption)) (by first | exact ka_same | assumption | exact ka_ne1 (by first | assumption | exact Ne.symm (by assumption)) (by first | exact ka_same | assumption | exact ka_ne1 (by first | assumption | exact Ne.symm (by assumption)) (by first | exact ka_same | assumption | exact ka_ne1 (by first | assumption | exact Ne.symm (by assumption)) (by first | exact ka_same | assumption | exact ka_ne1 (by first | assumption | exact Ne.symm (by assumption)) (by first | exact ka_same | assumption | exact ka_ne1 (by first | assumption | exact Ne.symm (by assumption)) (by first | exact ka_same | assumption))))))) rfl (Nat.le_of_ble_eq_true rfl) ?_
    refine ka_pR (by first | exact ka_same | assumption | exact ka_ne1 (by first | assumption | exact Ne.symm (by assumption)) (by first | exact ka_same | assumption | exact ka_ne1 (by first | assumption | exact Ne.symm (by assumption)) (by first | exact ka_same | assumption | exact ka_ne1 (by first | assumption | exact Ne.symm (by assumption)) (by first | exact ka_same | assumption | exact ka_ne1 (by first | assumption | exact Ne.symm (by assumption)) (by first | exact ka_same | assumption | exact ka_ne1 (by first | assumption | exact Ne.symm (by assumption)) (by first | exact ka_same | assumption | exact ka_ne1 (by first | assumption | exact Ne.symm (by assumption)) (by first | exact ka_same | assumption))))))) rfl (Nat.le_of_ble_eq_true rfl) ?_
    refine ka_ifN (by decide) ?_
    refine ka_pR (by first | exact ka_same | assumption | exact ka_ne1 (by first | assumption | exact Ne.symm (by assumption)) (by first | exact ka_same | assumption | exact ka_ne1 (by first | assumption | exact Ne.symm (by assumption)) (by first | exact ka_same | assumption | exact ka_ne1 (by first | assumption | exact Ne.symm (by assumption)) (by first | exact ka_same | assumption | exact ka_ne1 (by first | assumption | exact Ne.symm (by assumption)) (by first | exact ka_same | assumption | exact ka_ne1 (by first | assumption | exact Ne.symm (by assumption)) (by first | exact ka_same | assumption | exact ka_ne1 (by first | assumption | exact Ne.symm (by assumption)) (by first | exact ka_same | assumption))))))) rfl (Nat.le_of_ble_eq_true rfl) ?_
    refine ka_pure ⟨rfl, ?_⟩
    simp only [ka_up_up]
    rfl
  · obtain ⟨rfl, rfl⟩ := hp
    refine ka_pI (by first | exact ka_same | assumption | exact ka_ne1 (by first | assumption | exact Ne.symm (by assumption)) (by first | exact ka_same | assumption | exact ka_ne1 (by first | assumption | exact Ne.symm (by assumption)) (by first | exact ka_same | assumption | exact ka_ne1 (by first | assumption | exact Ne.symm (by assumption)) (by first | exact ka_same | assumption | exact ka_ne1 (by first | assumption | exact Ne.symm (by assumption)) (by first | exact ka_same | assumption | exact ka_ne1 (by first | assumption | exact Ne.symm (by assumption)) (by first | exact ka_same | assumption | exact ka_ne1 (by first | assumption | exact Ne.symm (by assumption)) (by first | exact ka_same | assumption))))))) rfl rfl (Nat.le_of_ble_eq_true rfl) ?_
    refine ka_pure ⟨rfl, ?_⟩
    simp only [ka_up_up]
    rfl
/-- another sign than can stand there -/
theorem kr_bad {α : Type} {Q : (Nat ⊕ α) → Nat → ka_H → Prop} (hr : K r = some (kr_rd wa ma p x)) (hw : 12 ≤ w) (k : ∀ q, K q = none → Q (.inl q) (w - 12) (ka_up K q (kr_bs p))) : ka_T Z (km_bind (km_new 27 7 kz_BadSign) fun r4 => km_bind (km_gI [(26, 2)] (some r)) fun i5 => km_bind (km_nn r4) fun _ => km_bind (pm_X29_init r4 i5) fun _ => km_throw r4) w K Q := by
  refine ka_new hw (fun q hq => ?_)
  refine ka_gI ((ka_ne (ka_dom hr hq)).trans hr) rfl rfl (ka_nn (ka_call (kr_bsNew ka_same) (fun _ w' H' hp => ?_)))
  obtain ⟨rfl, rfl⟩ := hp
  rw [ka_up_up]
  exact ka_throw ka_same (k q hq)
theorem kr_isSign (hE : kr_E Z B x ip wa ma t) (hle : ka_le B K) (hr : K r = some (kr_rd wa ma p x)) (hp : p ≤ t.length) : ka_T Z (pm_X28_isSign (some r) c) w K (ka_V w K (if t[p]? = some c then 1 else 0)) := by
  obtain ⟨⟨now, sv, dq, rf, ln, fa, hx⟩, ⟨f, hip, hf⟩, ht, -⟩ := hE
  have hx1 := hle _ _ hx
  have hip1 := hle _ _ hip
  unfold pm_X28_isSign
  refine ka_gI hr rfl rfl (ka_gR (v := some x) hr rfl rfl (ka_gI hx1 rfl rfl ?_))
  by_cases h : t.length ≤ p
  · refine ka_ifP ((k3_le (by omega) (by omega)).mpr h) (ka_ret rfl (ka_pure ⟨?_, rfl, rfl⟩))
    rw [List.getElem?_eq_none h, if_neg (by simp)]
  · refine ka_ifN (fun z => h ((k3_le (by omega) (by omega)).mp z)) ?_
    refine ka_gR (v := some x) hr rfl rfl (ka_gR (v := some ip) hx1 rfl rfl (ka_gI hr rfl rfl (ka_ldI hip1 (k3_in (by omega) (by omega)) ?_)))
    rw [k3_nat (by omega), hf p (by omega)]
    by_cases h2 : f p = c
    · exact ka_ifN (fun z => z h2) (ka_ret rfl (ka_pure ⟨by rw [h2, if_pos rfl], rfl, rfl⟩))
    · exact ka_ifP h2 (ka_ret rfl (ka_pure ⟨by rw [if_neg (fun z => h2 (Option.some.inj z))], rfl, rfl⟩))
theorem kr_takesY {α : Type} {Q : (Nat ⊕ α) → Nat → ka_H → Prop} {f : Unit → km_M (Nat ⊕ α)} (hE : kr_E Z B x ip wa ma t) (hle : ka_le B K) (hr : K r = some (kr_rd wa ma p x)) (hp : p ≤ t.length) (hc : t[p]? = some c) (k : ka_T Z (f ()) w (ka_up K r (kr_rd wa ma (p + 1) x)) Q) : ka_T Z (km_bind (pm_X28_takes (some r) c) (km_x Sum.inl f)) w K Q := by
  unfold pm_X28_takes
  refine ka_call (P := fun y w' K' => y = Sum.inr () ∧ w' = w ∧ K' = ka_up K r (kr_rd wa ma (p + 1) x)) ?_ (fun y w' K' hq => by obtain ⟨rfl, rfl, rfl⟩ := hq; exact k)
  refine ka_is hr rfl (ka_use (kr_isSign hE hle hr hp) ?_)
  rw [if_pos hc]
  refine ka_ifP (by decide) (ka_gI hr rfl rfl (ka_pI hr rfl rfl (Nat.le_of_ble_eq_true rfl) (ka_pure ⟨rfl, rfl, ?_⟩)))
  rw [k3_succ]
  rfl
theorem kr_takesN {α : Type} {Q : (Nat ⊕ α) → Nat → ka_H → Prop} {f : Unit → km_M (Nat ⊕ α)} (hE : kr_E Z B x ip wa ma t) (hle : ka_le B K) (hr : K r = some (kr_rd wa ma p x)) (hp : p ≤ t.length) (hc : ¬ t[p]? = some c) (hw : 12 ≤ w) (k : ∀ q, K q = none → Q (.inl q) (w - 12) (ka_up K q (kr_bs p))) : ka_T Z (km_bind (pm_X28_takes (some r) c) (km_x Sum.inl f)) w K Q := by
  unfold pm_X28_takes
  refine ka_call (P := fun y w' K' => ∃ q, y = Sum.inl q ∧ K q = none ∧ w' = w - 12 ∧ K' = ka_up K q (kr_bs p)) ?_ (fun y w' K' hq => by obtain ⟨q, rfl, h1, rfl, rfl⟩ := hq; exact ka_pure (k q h1))
  refine ka_is hr rfl (ka_use (kr_isSign hE hle hr hp) ?_)
  rw [if_neg hc]
  exact ka_ifN (fun z => z rfl) (kr_bad hr hw (fun q hq => ⟨q, rfl, hq, rfl, rfl⟩))
theorem kr_litLoop {i : Nat} (hE : kr_E Z B x ip wa ma t) (hi : i < 8) (hw : 12 ≤ w) : ∀ (rest done : List Int32) (K : ka_H) (fuel p : Nat), vr_w i = done ++ rest → rest.length < fuel → ka_le B K → B r = none → K r = some (kr_rd wa ma p x) → p ≤ t.length → ka_T Z (pb_X28_word_30 fuel (some r) (Int32.ofNat i) (Int32.ofNat done.length)) w K (kr_Q B K r wa ma x w Int32.ofNat (match vr_lit t rest p with | .inl e => .inl e | .inr a => .inr (i, a))) := by
  obtain ⟨g, hwa, hg⟩ := hE.2.2.2.1
  obtain ⟨a, ha, hwd⟩ := hg i hi
  intro rest
  induction rest with
  | nil =>
    intro done K fuel p hA hf hle hr0 hr hp
    obtain ⟨fuel, rfl⟩ : ∃ n, fuel = n + 1 := ⟨fuel - 1, by omega⟩
    obtain ⟨-, hstr, fl, b, y, hcell⟩ := kr_wd_le hwd hle
    have hlen : (vr_w i).length ≤ 100 := kx_str_len hstr
    have hA1 : done.length = (vr_w i).length := by rw [hA, List.append_nil]
    unfold pb_X28_word_30
    refine ka_gR (v := some wa) hr rfl rfl (ka_ldR (hle _ _ hwa) (k3_in hi (by omega)) ?_)
    rw [k3_nat (by omega), ha]
    refine ka_is hcell rfl (ka_use (kx_strlen hstr) ?_)
    refine ka_ifP ((k3_le (by omega) (by omega)).mpr (by omega)) (ka_pure ⟨rfl, rfl, ?_⟩)
    exact (ka_up_id hr).symm
  | cons c0 rest ih =>
    intro done K fuel p hA hf hle hr0 hr hp
    obtain ⟨fuel, rfl⟩ : ∃ n, fuel = n + 1 := ⟨fuel - 1, by omega⟩
    obtain ⟨-, hstr, fl, b, y, hcell⟩ := kr_wd_le hwd hle
    have hlen : (vr_w i).length ≤ 100 := kx_str_len hstr
    have hAl : (vr_w i).length = done.length + (rest.length + 1) := by rw [hA, List.length_append]; rfl
    simp only [List.length_cons] at hf
    unfold pb_X28_word_30
    refine ka_gR (v := some wa) hr rfl rfl (ka_ldR (hle _ _ hwa) (k3_in hi (by omega)) ?_)
    rw [k3_nat (by omega), ha]
    refine ka_is hcell rfl (ka_use (kx_strlen hstr) ?_)
    refine ka_ifN (fun z => by have := (k3_le (by omega) (by omega)).mp z; omega) ?_
    refine ka_gR (v := some wa) hr rfl rfl (ka_ldR (hle _ _ hwa) (k3_in hi (by omega)) ?_)
    rw [k3_nat (by omega), ha]
    refine ka_is hcell rfl (ka_use (kx_charAt (c := c0) hstr (by rw [hA]; simp)) (ka_is hr rfl ?_))
    by_cases hc : t[p]? = some c0
    · have hp1 := vr_get_lt hc
      refine kr_takesY hE hle hr hp hc ?_
      rw [k3_succ]
      have h2 := ih (done ++ [c0]) (ka_up K r (kr_rd wa ma (p + 1) x)) fuel (p + 1) (by rw [hA]; simp) (by omega) (ka_le_mut hle hr0) hr0 ka_same (by omega)
      rw [List.length_append] at h2
      refine ka_post h2 (fun y w' K' hq => ?_)
      have e : vr_lit t (c0 :: rest) p = vr_lit t rest (p + 1) := by rw [vr_lit, if_pos hc]
      rw [e]
      exact kr_Q_up hq
    · refine kr_takesN hE hle hr hp hc hw (fun q hq => ?_)
      have e : vr_lit t (c0 :: rest) p = .inl p := by rw [vr_lit, if_neg hc]
      rw [e]
      exact ⟨q, rfl, by omega, ka_le_trans hle (ka_le_up hq), ka_same⟩
theorem kr_wdLoop (hE : kr_E Z B x ip wa ma t) (hle : ka_le B K) (hr0 : B r = none) (hr : K r = some (kr_rd wa ma p x)) (hp : p ≤ t.length) (hw : 12 ≤ w) : ∀ (d i fuel : Nat), i + d = 8 → d < fuel → ka_T Z (pb_X28_word_2 fuel (some r) (Int32.ofNat i)) w K (kr_Q B K r wa ma x w Int32.ofNat (vr_wd t p (List.range' i d))) := by
  obtain ⟨g, hwa, hg⟩ := hE.2.2.2.1
  intro d
  induction d with
  | zero =>
    intro i fuel hi hf
    obtain ⟨fuel, rfl⟩ : ∃ n, fuel = n + 1 := ⟨fuel - 1, by omega⟩
    unfold pb_X28_word_2
    refine ka_gR (v := some wa) hr rfl rfl (ka_len (hle _ _ hwa) rfl (ka_ifP ((k3_le (by omega) (by omega)).mpr (by omega)) ?_))
    exact kr_bad hr hw (fun q hq => ⟨q, rfl, by omega, ka_le_trans hle (ka_le_up hq), ka_same⟩)
  | succ d ih =>
    intro i fuel hi hf
    obtain ⟨fuel, rfl⟩ : ∃ n, fuel = n + 1 := ⟨fuel - 1, by omega⟩
    obtain ⟨a, ha, hwd⟩ := hg i (by omega)
    obtain ⟨-, hstr, fl, b, y, hcell⟩ := kr_wd_le hwd hle
    have hh := (vr_w_len ⟨i, by omega⟩).2.1
    unfold pb_X28_word_2
    refine ka_gR (v := some wa) hr rfl rfl (ka_len (hle _ _ hwa) rfl (ka_ifN (fun z => by have := (k3_le (by omega) (by omega)).mp z; omega) ?_))
    refine ka_gR (v := some wa) hr rfl rfl (ka_ldR (hle _ _ hwa) (k3_in (by omega) (by omega)) ?_)
    rw [k3_nat (by omega), ha]
    refine ka_is hcell rfl (ka_use (kx_charAt (i := 0) hstr hh) (ka_is hr rfl (ka_use (kr_isSign hE hle hr hp) ?_)))
    rw [List.range'_succ, vr_wd]
    by_cases hc : t[p]? = some ((vr_w i).getD 0 0)
    · rw [if_pos hc, if_pos hc]
      refine ka_ifN (by decide) ?_
      exact kr_litLoop hE (by omega) hw (vr_w i) [] K km_fuel p rfl (by have := kx_str_len hstr; unfold km_fuel; omega) hle hr0 hr hp
    · rw [if_neg hc, if_neg hc]
      refine ka_ifP rfl ?_
      rw [k3_succ]
      exact ih (i + 1) fuel (by omega) (by omega)
theorem kr_word (hE : kr_E Z B x ip wa ma t) (hle : ka_le B K) (hr0 : B r = none) (hr : K r = some (kr_rd wa ma p x)) (hp : p ≤ t.length) (hw : 12 ≤ w) : ka_T Z (pm_X28_word (some r)) w K (kr_Q B K r wa ma x w Int32.ofNat (vr_word t p)) := by
  unfold pm_X28_word
  exact kr_wdLoop hE hle hr0 hr hp hw 8 0 km_fuel rfl (by unfold km_fuel; omega)
theorem kr_isDigit (hE : kr_E Z B x ip wa ma t) (hle : ka_le B K) (hr : K r = some (kr_rd wa ma p x)) (hp : p ≤ t.length) : ka_T Z (pm_X28_isDigit (some r)) w K (ka_V w K (vr_isd t p)) := by
  obtain ⟨⟨now, sv, dq, rf, ln, fa, hx⟩, ⟨f, hip, hf⟩, ht, -⟩ := hE
  have hx1 := hle _ _ hx
  have hip1 := hle _ _ hip
  unfold pm_X28_isDigit vr_isd
  refine ka_gI hr rfl rfl (ka_gR (v := some x) hr rfl rfl (ka_gI hx1 rfl rfl ?_))
  by_cases h : t.length ≤ p
  · refine ka_ifP ((k3_le (by omega) (by omega)).mpr h) (ka_ret rfl (ka_pure ⟨?_, rfl, rfl⟩))
    rw [List.getElem?_eq_none h]
  · refine ka_ifN (fun z => h ((k3_le (by omega) (by omega)).mp z)) ?_
    refine ka_gR (v := some x) hr rfl rfl (ka_gR (v := some ip) hx1 rfl rfl (ka_gI hr rfl rfl (ka_ldI hip1 (k3_in (by omega) (by omega)) ?_)))
    rw [k3_nat (by omega), hf p (by omega)]
    refine ka_use kx_in (ka_ite (fun h2 => ?_) (fun h2 => ?_))
    · exact ka_ret rfl (ka_pure ⟨h2.symm, rfl, rfl⟩)
    · exact ka_ret rfl (ka_pure ⟨(v_in_01.resolve_left h2).symm, rfl, rfl⟩)
theorem kr_digLoop (hE : kr_E Z B x ip wa ma t) (hr0 : B r = none) : ∀ (d j fuel p : Nat) (v : Int32) (K : ka_H), j + d = 2 → d < fuel → ka_le B K → K r = some (kr_rd wa ma p x) → p ≤ t.length → ka_T Z (pb_X28_number_29 fuel (some r) v (Int32.ofNat j)) w K (fun y w' K' => y = .inr (vr_dig t d p v).1 ∧ w' = w ∧ K' = ka_up K r (kr_rd wa ma (vr_dig t d p v).2 x)) := by
  intro d
  induction d with
  | zero =>
    intro j fuel p v K hj hf hle hr hp
    obtain ⟨fuel, rfl⟩ : ∃ n, fuel = n + 1 := ⟨fuel - 1, by omega⟩
    unfold pb_X28_number_29
    exact ka_ifP ((k3_le (a := 2) (by omega) (by omega)).mpr (by omega)) (ka_pure ⟨rfl, rfl, (ka_up_id hr).symm⟩)
  | succ d ih =>
    intro j fuel p v K hj hf hle hr hp
    obtain ⟨fuel, rfl⟩ : ∃ n, fuel = n + 1 := ⟨fuel - 1, by omega⟩
    unfold pb_X28_number_29
    refine ka_ifN (fun z => by have := (k3_le (a := 2) (by omega) (by omega)).mp z; omega) (ka_is hr rfl (ka_use (kr_isDigit hE hle hr hp) ?_))
    by_cases h : vr_isd t p = 1
    · have hp1 := vr_isd_lt h
      have e : vr_dig t (d + 1) p v = vr_dig t d (p + 1) (10 * v + t.getD p 0 - 48) := by rw [vr_dig, if_pos h]
      rw [e]
      obtain ⟨⟨now, sv, dq, rf, ln, fa, hx⟩, ⟨f, hip, hf2⟩, ht, -⟩ := id hE
      have hx1 := hle _ _ hx
      have hip1 := hle _ _ hip
      refine ka_ifN (by rw [h]; decide) ?_
      refine ka_gR (v := some x) hr rfl rfl (ka_gR (v := some ip) hx1 rfl rfl (ka_gI hr rfl rfl (ka_ldI hip1 (k3_in (by omega) (by omega)) ?_)))
      rw [k3_nat (by omega)]
      have e2 : f p = t.getD p 0 := by rw [List.getD, hf2 p hp1]; rfl
      rw [e2]
      refine ka_gI hr rfl rfl (ka_pI hr rfl rfl (Nat.le_of_ble_eq_true rfl) ?_)
      rw [k3_succ, k3_succ]
      refine ka_post (ih (j + 1) fuel (p + 1) (10 * v + t.getD p 0 - 48) _ (by omega) (by omega) (ka_le_mut hle hr0) ka_same (by omega)) (fun y w' K' hq => ?_)
      obtain ⟨h1, h2, h3⟩ := hq
      exact ⟨h1, h2, by rw [h3, ka_up_up]⟩
    · have e : vr_dig t (d + 1) p v = (v, p) := by rw [vr_dig, if_neg h]
      rw [e]
      have h0 : vr_isd t p = 0 := by
        unfold vr_isd at h ⊢
        split
        · next c hc => rw [hc] at h; exact v_in_no h
        · rfl
      exact ka_ifP h0 (ka_pure ⟨rfl, rfl, (ka_up_id hr).symm⟩)
theorem kr_number (hE : kr_E Z B x ip wa ma t) (hle : ka_le B K) (hr0 : B r = none) (hr : K r = some (kr_rd wa ma p x)) (hp : p ≤ t.length) (hw : 12 ≤ w) : ka_T Z (pm_X28_number (some r)) w K (kr_Q B K r wa ma x w (fun v : Int32 => v) (vr_num t p)) := by
  unfold pm_X28_number vr_num
  refine ka_is hr rfl ?_
  by_cases hc : t[p]? = some 32
  · have hp1 := vr_get_lt hc
    rw [if_pos hc]
    refine kr_takesY hE hle hr hp hc ?_
    have hle1 : ka_le B (ka_up K r (kr_rd wa ma (p + 1) x)) := ka_le_mut hle hr0
    refine ka_is ka_same rfl (ka_use (kr_isDigit hE hle1 ka_same (by omega)) ?_)
    by_cases h : vr_isd t (p + 1) = 1
    · rw [if_pos h]
      refine ka_ifP (by rw [h]; decide) ?_
      refine ka_post (kr_digLoop hE hr0 2 0 km_fuel (p + 1) 0 _ rfl (by unfold km_fuel; omega) hle1 ka_same (by omega)) (fun y w' K' hq => ?_)
      obtain ⟨h1, h2, h3⟩ := hq
      exact kr_Q_r (z := vr_dig t 2 (p + 1) 0) h1 h2 (by rw [h3, ka_up_up])
    · rw [if_neg h]
      have h0 : vr_isd t (p + 1) = 0 := by
        unfold vr_isd at h ⊢
        split
        · next c hc => rw [hc] at h; exact v_in_no h
        · rfl
      refine ka_ifN (fun z => z h0) ?_
      exact kr_bad ka_same hw (fun q hq => ⟨q, rfl, by omega, ka_le_trans hle1 (ka_le_up hq), ka_same⟩)
  · rw [if_neg hc]
    exact kr_takesN hE hle hr hp hc hw (fun q hq => ⟨q, rfl, by omega, ka_le_trans hle (ka_le_up hq), ka_same⟩)
end KRD
