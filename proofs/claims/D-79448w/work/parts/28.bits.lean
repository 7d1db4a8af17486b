set_option maxRecDepth 100000
/-! ===== objects with an array behind them, as such; bit sets ===== -/
theorem ka_openS {Z : ka_Z} {w : Nat} {H : ka_H} {σ : km_S} {l : Nat} {o : ka_O} (hR : ka_R Z w H σ) (hl : H l = some o) (ho : ka_own o) : ∃ (b : Nat) (e : Nat × List Value) (f : Bool) (e2 : Nat × vp_A), ka_P Z σ.2.2.2 b l o ∧ σ.2.2.2 l = some (true, .inr e) ∧ σ.2.2.2 b = some (f, .inl e2) ∧ b ≠ l ∧ (f = true → H b = none) ∧ (∀ q, H b = some q → q = .inl (f, .inl e2)) ∧ ka_R Z w (ka_up (ka_up H l (.inl (true, .inr e))) b (.inl (f, .inl e2))) σ := by
  have hR0 := hR
  obtain ⟨h1, h2, h3, B, h4, h5⟩ := hR
  have hP := h4 l _ hl
  have hex : ∃ (e : Nat × List Value) (f : Bool) (e2 : Nat × vp_A), σ.2.2.2 l = some (true, .inr e) ∧ σ.2.2.2 (B l) = some (f, .inl e2) := by
    rcases o with ⟨f, e⟩ | ⟨mc, xs⟩ | xs | f
    · exact ho.elim
    · obtain ⟨p1, f, n, g, p2, -⟩ := hP
      exact ⟨_, f, _, p1, p2⟩
    · obtain ⟨x, g, p1, p2, -⟩ := hP
      exact ⟨_, true, _, p1, p2⟩
    · obtain ⟨u, st, n, g, p1, p2, -⟩ := hP
      exact ⟨_, true, _, p1, p2⟩
  obtain ⟨e, f, e2, p1, p2⟩ := hex
  have hbl : B l ≠ l := fun z => by rw [z, p1] at p2; cases p2
  have hbn : f = true → H (B l) = none := fun z => (h5 l _ hl ho _ (by rw [p2, z])).1
  have hbo : ∀ q, H (B l) = some q → q = .inl (f, .inl e2) := fun q hq => by
    have q1 := h4 _ _ hq
    rcases q with ⟨f', e'⟩ | ⟨mc, xs⟩ | xs | f'
    · have q2 : σ.2.2.2 (B l) = some (f', e') := q1
      rw [p2] at q2
      cases q2
      rfl
    · exact absurd (p2.symm.trans q1.1) (by simp)
    · obtain ⟨h', g', q2, -⟩ := q1
      exact absurd (p2.symm.trans q2) (by simp)
    · obtain ⟨u, st, n', g', q2, -⟩ := q1
      exact absurd (p2.symm.trans q2) (by simp)
  refine ⟨B l, e, f, e2, hP, p1, p2, hbl, hbn, hbo, h1, h2, h3, B, fun a q ha => ?_, fun a q ha hq e' he => ?_⟩
  · by_cases e1 : a = B l
    · subst e1
      rw [ka_same] at ha
      cases ha
      exact p2
    · rw [ka_ne e1] at ha
      by_cases e3 : a = l
      · subst e3
        rw [ka_same] at ha
        cases ha
        exact p1
      · rw [ka_ne e3] at ha
        exact h4 a q ha
  · by_cases e1 : a = B l
    · subst e1
      rw [ka_same] at ha
      cases ha
      exact hq.elim
    · rw [ka_ne e1] at ha
      by_cases e3 : a = l
      · subst e3
        rw [ka_same] at ha
        cases ha
        exact hq.elim
      · rw [ka_ne e3] at ha
        obtain ⟨g1, g2⟩ := h5 a q ha hq e' he
        have n1 : B a ≠ B l := fun z => e3 (g2 l _ hl ho z.symm).symm
        have n2 : B a ≠ l := fun z => by rw [z, hl] at g1; cases g1
        refine ⟨by rw [ka_ne n1, ka_ne n2]; exact g1, fun a' o' x' y' z' => ?_⟩
        by_cases e5 : a' = B l
        · subst e5
          rw [ka_same] at x'
          cases x'
          exact y'.elim
        · rw [ka_ne e5] at x'
          by_cases e4 : a' = l
          · subst e4
            rw [ka_same] at x'
            cases x'
            exact y'.elim
          · rw [ka_ne e4] at x'
            exact g2 a' o' x' y' z'
theorem ka_foldS {Z : ka_Z} {w : Nat} {H G : ka_H} {l b : Nat} {o : ka_O} {e : Nat × List Value} {f : Bool} {e2 : Nat × vp_A} (hag : ka_ag H G l) (hG : G l = some (.inl (true, .inr e))) (hb : G b = some (.inl (f, .inl e2))) (ho : ∀ m : km_Mem, m l = some (true, .inr e) → m b = some (f, .inl e2) → ka_P Z m b l o) (hown : ka_own o) (hn : f = true → H b = none) : ka_ent Z w G (ka_up H l o) := by
  intro σ hR
  obtain ⟨h1, h2, h3, B, h4, h5⟩ := hR
  have hbl : b ≠ l := fun e => by rw [e, hG] at hb; cases hb
  have m1 : σ.2.2.2 l = some (true, .inr e) := h4 l _ hG
  have m2 : σ.2.2.2 b = some (f, .inl e2) := h4 b _ hb
  refine ⟨h1, h2, h3, fun x => if x = l then b else B x, fun a q ha => ?_, fun a q ha hq e' he => ?_⟩
  · by_cases e1 : a = l
    · subst e1
      rw [ka_same] at ha
      cases ha
      simp only [if_true]
      exact ho _ m1 m2
    · rw [ka_ne e1] at ha
      simp only [if_neg e1]
      exact h4 a q (hag a q e1 ha)
  · by_cases e1 : a = l
    · subst e1
      simp only [if_true] at he ⊢
      rw [m2] at he
      have hf : f = true := (Prod.mk.inj (Option.some.inj he)).1
      refine ⟨(ka_ne hbl).trans (hn hf), fun a' o' x' y' z' => ?_⟩
      by_cases e3 : a' = a
      · exact e3
      · simp only [if_neg e3] at z'
        rw [ka_ne e3] at x'
        have g1 := (h5 a' o' (hag a' o' e3 x') y' (.inl e2) (by rw [z', m2, hf])).1
        rw [z', hb] at g1
        cases g1
    · rw [ka_ne e1] at ha
      simp only [if_neg e1] at he ⊢
      obtain ⟨g1, g2⟩ := h5 a q (hag a q e1 ha) hq e' he
      have n2 : B a ≠ l := fun z => by rw [z, hG] at g1; cases g1
      have n1 : B a ≠ b := fun z => by rw [z, hb] at g1; cases g1
      refine ⟨?_, fun a' o' x' y' z' => ?_⟩
      · rw [ka_ne n2]
        cases hz : H (B a) with
        | none => rfl
        | some q => rw [hag _ q n2 hz] at g1; cases g1
      · by_cases e3 : a' = l
        · subst e3
          simp only [if_true] at z'
          exact absurd z'.symm n1
        · simp only [if_neg e3] at z'
          rw [ka_ne e3] at x'
          exact g2 a' o' (hag a' o' e3 x') y' z'
/-- what is known of the words behind a bit set -/
def kn_W (f : Nat → Bool) (u n : Nat) (g : Nat → Int64) : Prop := (u ≤ n ∧ u ≤ 4) ∧ 1 ≤ n ∧ n ≤ 8 ∧ (∀ j, j < u → ka_word f j (g j)) ∧ (∀ j, u ≤ j → j < n → g j = 0) ∧ (∀ i, 64 * u ≤ i → f i = false)
theorem kn_open {α : Type} {Z : ka_Z} {w : Nat} {H : ka_H} {Q : α → Nat → ka_H → Prop} {x : km_M α} {l : Nat} {f : Nat → Bool} (hl : H l = some (ka_bs f)) (k : ∀ (b u : Nat) (st : Int32) (n : Nat) (g : Nat → Int64), kn_W f u n g → (st = 0 ∨ st = 1) → b ≠ l → l ≠ b → H b = none → ka_T Z x w (ka_up (ka_up H l (ka_ob 31 [.ref b, .int (Int32.ofNat u), .int st])) b (ka_aJ n g)) Q) : ka_T Z x w H Q := by
  intro σ hR
  obtain ⟨b, e, fl, e2, hP, p1, p2, n1, hn, hb, hR2⟩ := ka_openS hR hl trivial
  obtain ⟨u, st, n, g, q1, q2, q3, q4, q5, q6, q7, q8, q9⟩ := hP
  rw [p1] at q1
  cases q1
  rw [p2] at q2
  cases q2
  exact k b u st n g ⟨q3, q4, q5, q7, q8, q9⟩ q6 n1 n1.symm (hn rfl) σ hR2
theorem kn_fold {Z : ka_Z} {w : Nat} {H G : ka_H} {l b u n : Nat} {st : Int32} {f : Nat → Bool} {g : Nat → Int64} (hag : ka_ag H G l) (hG : G l = some (ka_ob 31 [.ref b, .int (Int32.ofNat u), .int st])) (hb : G b = some (ka_aJ n g)) (hW : kn_W f u n g) (hst : st = 0 ∨ st = 1) (hn : H b = none) : ka_ent Z w G (ka_up H l (ka_bs f)) :=
  ka_foldS hag hG hb (fun m h1 h2 => ⟨u, st, n, g, h1, h2, hW.1, hW.2.1, hW.2.2.1, hst, hW.2.2.2.1, hW.2.2.2.2.1, hW.2.2.2.2.2⟩) trivial (fun _ => hn)
theorem kn_fold_id {Z : ka_Z} {w : Nat} {H G : ka_H} {l b u n : Nat} {st : Int32} {f : Nat → Bool} {g : Nat → Int64} (hl : H l = some (ka_bs f)) (hag : ka_ag H G l) (hG : G l = some (ka_ob 31 [.ref b, .int (Int32.ofNat u), .int st])) (hb : G b = some (ka_aJ n g)) (hW : kn_W f u n g) (hst : st = 0 ∨ st = 1) (hn : H b = none) : ka_ent Z w G H := by
  have h := kn_fold (Z := Z) (w := w) hag hG hb hW hst hn
  rw [ka_up_id hl] at h
  exact h
section KNB
variable {Z : ka_Z} {w : Nat} {H : ka_H}
theorem ka_nJ {α : Type} {Q : α → Nat → ka_H → Prop} {m : Nat} {n : Int32} {f : Option Nat → km_M α} (hn : ¬ n < 0) (hm : n.toNatClampNeg = m) (h8 : m * 8 ≤ 536870912) (hw : m + 5 ≤ w) (k : ∀ a, H a = none → ka_T Z (f (some a)) (w - (m + 5)) (ka_up H a (ka_aJ m (fun _ => 0))) Q) : ka_T Z (km_bind (km_nJ n) f) w H Q := ka_alr (fun _ _ => by subst hm; exact if_pos ⟨hn, h8⟩) hw k
theorem ka_stJ {α : Type} {Q : α → Nat → ka_H → Prop} {a n : Nat} {g : Nat → Int64} {i : Int32} {v : Int64} {f : Unit → km_M α} (ha : H a = some (ka_aJ n g)) (hi : km_inB i n = true) (k : ka_T Z (f ()) w (ka_up H a (ka_aJ n (vp_updL g i.toNatClampNeg v))) Q) : ka_T Z (km_bind (km_stJ (some a) i v) f) w H Q := ka_wrr ha (fun σ hR => by
  have h1 := ka_raw hR ha
  unfold km_ar
  simp only [h1, hi]
  rfl) k
theorem ka_cpJ {α : Type} {Q : α → Nat → ka_H → Prop} {a b n0 n1 s d n : Nat} {fl : Bool} {g g1 : Nat → Int64} {sp dp m : Int32} {f : Unit → km_M α} (ha : H a = some (.inl (fl, .inl (3, n0, .inr (.inl g))))) (hb : H b = some (ka_aJ n1 g1)) (hs : sp = Int32.ofNat s) (hd : dp = Int32.ofNat d) (hm : m = Int32.ofNat n) (h1 : s + n ≤ n0) (h2 : d + n ≤ n1) (h3 : n0 < 2 ^ 31) (h4 : n1 < 2 ^ 31) (kk : ka_T Z (f ()) w (ka_up H b (ka_aJ n1 (va_cpy g g1 s d n))) Q) : ka_T Z (km_bind (km_cp (some a) sp (some b) dp m) f) w H Q := ka_wrr hb (fun σ hR => by
  have e1 := ka_raw hR ha
  have e2 := ka_raw hR hb
  subst hs; subst hd; subst hm
  have c1 : ¬ Int32.ofNat s < 0 := k3_neg (by omega)
  have c2 : ¬ Int32.ofNat d < 0 := k3_neg (by omega)
  have c3 : ¬ Int32.ofNat n < 0 := k3_neg (by omega)
  have c4 : (Int32.ofNat s).toNatClampNeg = s := k3_nat (by omega)
  have c5 : (Int32.ofNat d).toNatClampNeg = d := k3_nat (by omega)
  have c6 : (Int32.ofNat n).toNatClampNeg = n := k3_nat (by omega)
  unfold km_ar
  simp only [e1, e2, c1, c2, c3, c4, c5, c6, h1, h2]
  rfl) kk
theorem kn_inv {a : Nat} : ka_T Z (pm_J3_checkInvariants (some a)) w H (ka_V w H ()) := by
  unfold pm_J3_checkInvariants pb_J3_checkInvariants_37 pb_J3_checkInvariants_70
  exact ka_ifP (by decide) (ka_ifP (by decide) (ka_ifP (by decide) (ka_pure ⟨rfl, rfl, rfl⟩)))
theorem kn_init {a : Nat} (ha : H a = some (ka_ob 31 kz_BS)) (hw : 6 ≤ w) : ka_T Z (pm_J3_init (some a)) w H (fun _ w' H' => w' = w - 6 ∧ H' = ka_up H a (ka_bs (fun _ => false))) := by
  unfold pm_J3_init
  refine ka_nn ?_
  refine ka_pI (by first | exact ka_same | assumption | exact ka_ne1 (by first | assumption | exact Ne.symm (by assumption)) (by first | exact ka_same | assumption | exact ka_ne1 (by first | assumption | exact Ne.symm (by assumption)) (by first | exact ka_same | assumption | exact ka_ne1 (by first | assumption | exact Ne.symm (by assumption)) (by first | exact ka_same | assumption | exact ka_ne1 (by first | assumption | exact Ne.symm (by assumption)) (by first | exact ka_same | assumption | exact ka_ne1 (by first | assumption | exact Ne.symm (by assumption)) (by first | exact ka_same | assumption | exact ka_ne1 (by first | assumption | exact Ne.symm (by assumption)) (by first | exact ka_same | assumption))))))) rfl rfl (Nat.le_of_ble_eq_true rfl) ?_
  refine ka_pI (by first | exact ka_same | assumption | exact ka_ne1 (by first | assumption | exact Ne.symm (by assumption)) (by first | exact ka_same | assumption | exact ka_ne1 (by first | assumption | exact Ne.symm (by assumption)) (by first | exact ka_same | assumption | exact ka_ne1 (by first | assumption | exact Ne.symm (by assumption)) (by first | exact ka_same | assumption | exact ka_ne1 (by first | assumption | exact Ne.symm (by assumption)) (by first | exact ka_same | assumption | exact ka_ne1 (by first | assumption | exact Ne.symm (by assumption)) (by first | exact ka_same | assumption | exact ka_ne1 (by first | assumption | exact Ne.symm (by assumption)) (by first | exact ka_same | assumption))))))) (kb_fit (Or.inl rfl)) rfl (Nat.le_of_ble_eq_true rfl) ?_
  refine ka_is (by first | exact ka_same | assumption | exact ka_ne1 (by first | assumption | exact Ne.symm (by assumption)) (by first | exact ka_same | assumption | exact ka_ne1 (by first | assumption | exact Ne.symm (by assumption)) (by first | exact ka_same | assumption | exact ka_ne1 (by first | assumption | exact Ne.symm (by assumption)) (by first | exact ka_same | assumption | exact ka_ne1 (by first | assumption | exact Ne.symm (by assumption)) (by first | exact ka_same | assumption | exact ka_ne1 (by first | assumption | exact Ne.symm (by assumption)) (by first | exact ka_same | assumption | exact ka_ne1 (by first | assumption | exact Ne.symm (by assumption)) (by first | exact ka_same | assumption))))))) rfl ?_
  refine ka_call (P := fun _ w' H' => w' = w - 6 ∧ ∃ b, H b = none ∧ H' = ka_up (ka_up H b (ka_aJ 1 (fun _ => 0))) a (ka_ob 31 [.ref b, .int 0, .int 0])) ?_ (fun _ w' H' hp => ?_)
  · unfold pm_J3_initWords pm_J3_wordIndex
    refine ka_use (v := (0 : Int32)) (ka_pure ⟨rfl, rfl, rfl⟩) ?_
    refine ka_nJ (m := 1) (by decide) (by decide) (by decide) (by omega) (fun b hb => ?_)
    obtain ⟨hba, hab, hb⟩ := ka_fr hb
    obtain ⟨-, -, hb⟩ := ka_fr hb
    refine ka_pR (fs := (kz_BS.set 1 (.int 0)).set 2 (.int 0)) (by first | exact ka_same | assumption | exact ka_ne1 (by first | assumption | exact Ne.symm (by assumption)) (by first | exact ka_same | assumption | exact ka_ne1 (by first | assumption | exact Ne.symm (by assumption)) (by first | exact ka_same | assumption | exact ka_ne1 (by first | assumption | exact Ne.symm (by assumption)) (by first | exact ka_same | assumption | exact ka_ne1 (by first | assumption | exact Ne.symm (by assumption)) (by first | exact ka_same | assumption | exact ka_ne1 (by first | assumption | exact Ne.symm (by assumption)) (by first | exact ka_same | assumption | exact ka_ne1 (by first | assumption | exact Ne.symm (by assumption)) (by first | exact ka_same | assumption))))))) rfl (Nat.le_of_ble_eq_true rfl) ?_
    refine ka_pure ⟨rfl, b, hb, ?_⟩
    rw [ka_up_comm hab, ka_up_up, ka_up_comm hab, ka_up_up]
    rfl
  · obtain ⟨rfl, b, hb, rfl⟩ := hp
    have hba : b ≠ a := fun e => by subst e; rw [ha] at hb; cases hb
    refine ka_pI (by first | exact ka_same | assumption | exact ka_ne1 (by first | assumption | exact Ne.symm (by assumption)) (by first | exact ka_same | assumption | exact ka_ne1 (by first | assumption | exact Ne.symm (by assumption)) (by first | exact ka_same | assumption | exact ka_ne1 (by first | assumption | exact Ne.symm (by assumption)) (by first | exact ka_same | assumption | exact ka_ne1 (by first | assumption | exact Ne.symm (by assumption)) (by first | exact ka_same | assumption | exact ka_ne1 (by first | assumption | exact Ne.symm (by assumption)) (by first | exact ka_same | assumption | exact ka_ne1 (by first | assumption | exact Ne.symm (by assumption)) (by first | exact ka_same | assumption))))))) (kb_fit (Or.inl rfl)) rfl (Nat.le_of_ble_eq_true rfl) ?_
    refine ka_pureE (kn_fold (b := b) (u := 0) (n := 1) (st := 0) (g := fun _ => 0) (ka_ag_l (ka_ag_l (ka_ag_new ka_ag_refl hb))) ka_same (by first | exact ka_same | assumption | exact ka_ne1 (by first | assumption | exact Ne.symm (by assumption)) (by first | exact ka_same | assumption | exact ka_ne1 (by first | assumption | exact Ne.symm (by assumption)) (by first | exact ka_same | assumption | exact ka_ne1 (by first | assumption | exact Ne.symm (by assumption)) (by first | exact ka_same | assumption | exact ka_ne1 (by first | assumption | exact Ne.symm (by assumption)) (by first | exact ka_same | assumption | exact ka_ne1 (by first | assumption | exact Ne.symm (by assumption)) (by first | exact ka_same | assumption | exact ka_ne1 (by first | assumption | exact Ne.symm (by assumption)) (by first | exact ka_same | assumption))))))) ⟨by omega, by omega, by omega, fun j hj => by omega, fun j _ _ => rfl, fun _ _ => rfl⟩ (Or.inl rfl) hb) ⟨rfl, rfl⟩
/-- the words grow: raw -/
theorem kn_ensure {l b u n c : Nat} {st : Int32} {f : Nat → Bool} {g : Nat → Int64} (hl : H l = some (ka_ob 31 [.ref b, .int (Int32.ofNat u), .int st])) (hb : H b = some (ka_aJ n g)) (hW : kn_W f u n g) (hst : st = 0 ∨ st = 1) (hc : c ≤ 4) (hw : 20 ≤ w) : ka_T Z (pm_J3_ensureCapacity (some l) (Int32.ofNat c)) w H (fun _ w' H' => w ≤ w' + 20 ∧ ((c ≤ n ∧ H' = H) ∨ (n < c ∧ ∃ (a n' : Nat) (g' : Nat → Int64), H a = none ∧ c ≤ n' ∧ n' ≤ 8 ∧ H' = ka_up (ka_up H a (ka_aJ n' g')) l (ka_ob 31 [.ref a, .int (Int32.ofNat u), .int 0]) ∧ kn_W f u n' g'))) := by
  obtain ⟨w1, w2, w3, w4, w5, w6⟩ := hW
  have hlb : l ≠ b := ka_kinds hl hb (by simp)
  unfold pm_J3_ensureCapacity
  refine ka_gR (by first | exact ka_same | assumption | exact ka_ne1 (by first | assumption | exact Ne.symm (by assumption)) (by first | exact ka_same | assumption | exact ka_ne1 (by first | assumption | exact Ne.symm (by assumption)) (by first | exact ka_same | assumption | exact ka_ne1 (by first | assumption | exact Ne.symm (by assumption)) (by first | exact ka_same | assumption | exact ka_ne1 (by first | assumption | exact Ne.symm (by assumption)) (by first | exact ka_same | assumption | exact ka_ne1 (by first | assumption | exact Ne.symm (by assumption)) (by first | exact ka_same | assumption | exact ka_ne1 (by first | assumption | exact Ne.symm (by assumption)) (by first | exact ka_same | assumption))))))) rfl rfl ?_
  refine ka_len (by first | exact ka_same | assumption | exact ka_ne1 (by first | assumption | exact Ne.symm (by assumption)) (by first | exact ka_same | assumption | exact ka_ne1 (by first | assumption | exact Ne.symm (by assumption)) (by first | exact ka_same | assumption | exact ka_ne1 (by first | assumption | exact Ne.symm (by assumption)) (by first | exact ka_same | assumption | exact ka_ne1 (by first | assumption | exact Ne.symm (by assumption)) (by first | exact ka_same | assumption | exact ka_ne1 (by first | assumption | exact Ne.symm (by assumption)) (by first | exact ka_same | assumption | exact ka_ne1 (by first | assumption | exact Ne.symm (by assumption)) (by first | exact ka_same | assumption))))))) rfl ?_
  by_cases h : c ≤ n
  · exact ka_ifP ((k3_le (by omega) (by omega)).mpr h) (ka_pure ⟨by omega, Or.inl ⟨h, rfl⟩⟩)
  · refine ka_ifN (fun z => h ((k3_le (by omega) (by omega)).mp z)) ?_
    refine ka_gR (by first | exact ka_same | assumption | exact ka_ne1 (by first | assumption | exact Ne.symm (by assumption)) (by first | exact ka_same | assumption | exact ka_ne1 (by first | assumption | exact Ne.symm (by assumption)) (by first | exact ka_same | assumption | exact ka_ne1 (by first | assumption | exact Ne.symm (by assumption)) (by first | exact ka_same | assumption | exact ka_ne1 (by first | assumption | exact Ne.symm (by assumption)) (by first | exact ka_same | assumption | exact ka_ne1 (by first | assumption | exact Ne.symm (by assumption)) (by first | exact ka_same | assumption | exact ka_ne1 (by first | assumption | exact Ne.symm (by assumption)) (by first | exact ka_same | assumption))))))) rfl rfl ?_
    refine ka_len (by first | exact ka_same | assumption | exact ka_ne1 (by first | assumption | exact Ne.symm (by assumption)) (by first | exact ka_same | assumption | exact ka_ne1 (by first | assumption | exact Ne.symm (by assumption)) (by first | exact ka_same | assumption | exact ka_ne1 (by first | assumption | exact Ne.symm (by assumption)) (by first | exact ka_same | assumption | exact ka_ne1 (by first | assumption | exact Ne.symm (by assumption)) (by first | exact ka_same | assumption | exact ka_ne1 (by first | assumption | exact Ne.symm (by assumption)) (by first | exact ka_same | assumption | exact ka_ne1 (by first | assumption | exact Ne.symm (by assumption)) (by first | exact ka_same | assumption))))))) rfl ?_
    refine ka_gR (by first | exact ka_same | assumption | exact ka_ne1 (by first | assumption | exact Ne.symm (by assumption)) (by first | exact ka_same | assumption | exact ka_ne1 (by first | assumption | exact Ne.symm (by assumption)) (by first | exact ka_same | assumption | exact ka_ne1 (by first | assumption | exact Ne.symm (by assumption)) (by first | exact ka_same | assumption | exact ka_ne1 (by first | assumption | exact Ne.symm (by assumption)) (by first | exact ka_same | assumption | exact ka_ne1 (by first | assumption | exact Ne.symm (by assumption)) (by first | exact ka_same | assumption | exact ka_ne1 (by first | assumption | exact Ne.symm (by assumption)) (by first | exact ka_same | assumption))))))) rfl rfl ?_
    have h2n : (2 : Int32) * Int32.ofNat n = Int32.ofNat (2 * n) := (Int32.ofNat_mul 2 n).symm
    rw [h2n, k3_max (by omega) (by omega)]
    unfold pm_J14_copyOf_3
    refine ka_call (P := fun r w' H' => ∃ (a : Nat) (g' : Nat → Int64), r = some a ∧ H a = none ∧ w ≤ w' + 20 ∧ H' = ka_up H a (ka_aJ (max (2 * n) c) g') ∧ (∀ j, j < n → g' j = g j) ∧ ∀ j, n ≤ j → g' j = 0) ?_ (fun r w' H' hp => ?_)
    · refine ka_len (by first | exact ka_same | assumption | exact ka_ne1 (by first | assumption | exact Ne.symm (by assumption)) (by first | exact ka_same | assumption | exact ka_ne1 (by first | assumption | exact Ne.symm (by assumption)) (by first | exact ka_same | assumption | exact ka_ne1 (by first | assumption | exact Ne.symm (by assumption)) (by first | exact ka_same | assumption | exact ka_ne1 (by first | assumption | exact Ne.symm (by assumption)) (by first | exact ka_same | assumption | exact ka_ne1 (by first | assumption | exact Ne.symm (by assumption)) (by first | exact ka_same | assumption | exact ka_ne1 (by first | assumption | exact Ne.symm (by assumption)) (by first | exact ka_same | assumption))))))) rfl ?_
      refine ka_ifP (fun z => absurd ((k3_eq (by omega) (by omega)).mp z) (by omega)) ?_
      refine ka_nJ (k3_neg (by omega)) (k3_nat (by omega)) (by omega) (by omega) (fun a ha => ?_)
      have hba : b ≠ a := ka_dom hb ha
      refine ka_len (by first | exact ka_same | assumption | exact ka_ne1 (by first | assumption | exact Ne.symm (by assumption)) (by first | exact ka_same | assumption | exact ka_ne1 (by first | assumption | exact Ne.symm (by assumption)) (by first | exact ka_same | assumption | exact ka_ne1 (by first | assumption | exact Ne.symm (by assumption)) (by first | exact ka_same | assumption | exact ka_ne1 (by first | assumption | exact Ne.symm (by assumption)) (by first | exact ka_same | assumption | exact ka_ne1 (by first | assumption | exact Ne.symm (by assumption)) (by first | exact ka_same | assumption | exact ka_ne1 (by first | assumption | exact Ne.symm (by assumption)) (by first | exact ka_same | assumption))))))) rfl ?_
      rw [k3_min (by omega) (by omega)]
      refine ka_cpJ (s := 0) (d := 0) (n := n) (by first | exact ka_same | assumption | exact ka_ne1 (by first | assumption | exact Ne.symm (by assumption)) (by first | exact ka_same | assumption | exact ka_ne1 (by first | assumption | exact Ne.symm (by assumption)) (by first | exact ka_same | assumption | exact ka_ne1 (by first | assumption | exact Ne.symm (by assumption)) (by first | exact ka_same | assumption | exact ka_ne1 (by first | assumption | exact Ne.symm (by assumption)) (by first | exact ka_same | assumption | exact ka_ne1 (by first | assumption | exact Ne.symm (by assumption)) (by first | exact ka_same | assumption | exact ka_ne1 (by first | assumption | exact Ne.symm (by assumption)) (by first | exact ka_same | assumption))))))) ka_same rfl rfl (by congr 1; omega) (by omega) (by omega) (by omega) (by omega) ?_
      refine ka_pure ⟨a, _, rfl, ha, by omega, ka_up_up, fun j hj => ?_, fun j hj => ?_⟩
      · unfold va_cpy
        rw [if_pos (by omega)]
        simp
      · unfold va_cpy
        rw [if_neg (by omega)]
    · obtain ⟨a, g', rfl, ha, hw', rfl, hg1, hg2⟩ := hp
      have hla : l ≠ a := ka_dom hl ha
      refine ka_pR (by first | exact ka_same | assumption | exact ka_ne1 (by first | assumption | exact Ne.symm (by assumption)) (by first | exact ka_same | assumption | exact ka_ne1 (by first | assumption | exact Ne.symm (by assumption)) (by first | exact ka_same | assumption | exact ka_ne1 (by first | assumption | exact Ne.symm (by assumption)) (by first | exact ka_same | assumption | exact ka_ne1 (by first | assumption | exact Ne.symm (by assumption)) (by first | exact ka_same | assumption | exact ka_ne1 (by first | assumption | exact Ne.symm (by assumption)) (by first | exact ka_same | assumption | exact ka_ne1 (by first | assumption | exact Ne.symm (by assumption)) (by first | exact ka_same | assumption))))))) rfl (Nat.le_of_ble_eq_true rfl) ?_
      refine ka_pI (by first | exact ka_same | assumption | exact ka_ne1 (by first | assumption | exact Ne.symm (by assumption)) (by first | exact ka_same | assumption | exact ka_ne1 (by first | assumption | exact Ne.symm (by assumption)) (by first | exact ka_same | assumption | exact ka_ne1 (by first | assumption | exact Ne.symm (by assumption)) (by first | exact ka_same | assumption | exact ka_ne1 (by first | assumption | exact Ne.symm (by assumption)) (by first | exact ka_same | assumption | exact ka_ne1 (by first | assumption | exact Ne.symm (by assumption)) (by first | exact ka_same | assumption | exact ka_ne1 (by first | assumption | exact Ne.symm (by assumption)) (by first | exact ka_same | assumption))))))) (kb_fit (Or.inl rfl)) rfl (Nat.le_of_ble_eq_true rfl) ?_
      refine ka_pure ⟨by omega, Or.inr ⟨by omega, a, max (2 * n) c, g', ha, by omega, by omega, ?_, by omega, by omega, by omega, fun j hj => ?_, fun j h1 h2 => ?_, w6⟩⟩
      · rw [ka_up_up]
        rfl
      · rw [hg1 j (by omega)]
        exact w4 j hj
      · by_cases hj : j < n
        · rw [hg1 j hj]
          exact w5 j h1 hj
        · exact hg2 j (by omega)
theorem kn_word_or {f f' : Nat → Bool} {j : Nat} {x y : Int64} (h : ka_word f j x) (h' : ka_word f' j y) : ka_word (fun i => f i || f' i) j (x ||| y) := by
  intro i hi
  have h1 := h i hi
  have h2 := h' i hi
  show (x ||| y).toBitVec.getLsbD i = _
  rw [Int64.toBitVec_or, BitVec.getLsbD_or, h1, h2]
theorem kn_shift : ∀ k : Fin 256, ∀ i : Fin 64, ((1 : Int64) <<< ((Int32.ofNat k.val).toInt64 &&& 63)).toBitVec.getLsbD i.val = decide (i.val = k.val % 64) := by decide +kernel
theorem kn_widx : ∀ k : Fin 256, Int32.ofNat k.val >>> ((6 : Int32) &&& 31) = Int32.ofNat (k.val / 64) := by decide +kernel
/-- a bit is set -/
def kn_add (f : Nat → Bool) (k : Nat) : Nat → Bool := fun i => f i || decide (i = k)
theorem kn_set {l k : Nat} {f : Nat → Bool} (hl : H l = some (ka_bs f)) (hk : k < 256) (hw : 20 ≤ w) : ka_T Z (pm_J3_set (some l) (Int32.ofNat k)) w H (fun _ w' H' => w ≤ w' + 20 ∧ H' = ka_up H l (ka_bs (kn_add f k))) := by
  refine kn_open hl (fun b u st n g hW hst n1 n2 hb => ?_)
  unfold pm_J3_set pm_J3_wordIndex
  refine ka_ifP ((k3_le (a := 0) (by decide) (by omega)).mpr (Nat.zero_le _)) ?_
  rw [kn_widx ⟨k, hk⟩]
  refine ka_use (v := Int32.ofNat (k / 64)) (ka_pure ⟨rfl, rfl, rfl⟩) ?_
  refine ka_is (by first | exact ka_same | assumption | exact ka_ne1 (by first | assumption | exact Ne.symm (by assumption)) (by first | exact ka_same | assumption | exact ka_ne1 (by first | assumption | exact Ne.symm (by assumption)) (by first | exact ka_same | assumption | exact ka_ne1 (by first | assumption | exact Ne.symm (by assumption)) (by first | exact ka_same | assumption | exact ka_ne1 (by first | assumption | exact Ne.symm (by assumption)) (by first | exact ka_same | assumption | exact ka_ne1 (by first | assumption | exact Ne.symm (by assumption)) (by first | exact ka_same | assumption | exact ka_ne1 (by first | assumption | exact Ne.symm (by assumption)) (by first | exact ka_same | assumption))))))) rfl ?_
  refine ka_call (P := fun _ w' H' => w ≤ w' + 20 ∧ ∃ (b2 u2 n2 : Nat) (st2 : Int32) (g2 : Nat → Int64), kn_W f u2 n2 g2 ∧ (st2 = 0 ∨ st2 = 1) ∧ k / 64 < u2 ∧ H b2 = none ∧ l ≠ b2 ∧ b2 ≠ l ∧ ka_ag H H' l ∧ H' l = some (ka_ob 31 [.ref b2, .int (Int32.ofNat u2), .int st2]) ∧ H' b2 = some (ka_aJ n2 g2)) ?_ (fun _ w' H' hp => ?_)
  · unfold pm_J3_expandTo
    refine ka_gI (by first | exact ka_same | assumption | exact ka_ne1 (by first | assumption | exact Ne.symm (by assumption)) (by first | exact ka_same | assumption | exact ka_ne1 (by first | assumption | exact Ne.symm (by assumption)) (by first | exact ka_same | assumption | exact ka_ne1 (by first | assumption | exact Ne.symm (by assumption)) (by first | exact ka_same | assumption | exact ka_ne1 (by first | assumption | exact Ne.symm (by assumption)) (by first | exact ka_same | assumption | exact ka_ne1 (by first | assumption | exact Ne.symm (by assumption)) (by first | exact ka_same | assumption | exact ka_ne1 (by first | assumption | exact Ne.symm (by assumption)) (by first | exact ka_same | assumption))))))) rfl rfl ?_
    rw [k3_succ]
    have hW0 := hW
    obtain ⟨w1, w2, w3, w4, w5, w6⟩ := hW
    by_cases hu : k / 64 + 1 ≤ u
    · refine ka_ifP ((k3_le (by omega) (by omega)).mpr hu) (ka_pure ⟨by omega, b, u, n, st, g, hW0, hst, by omega, hb, n2, n1, ka_ag_new (ka_ag_l ka_ag_refl) hb, by first | exact ka_same | assumption | exact ka_ne1 (by first | assumption | exact Ne.symm (by assumption)) (by first | exact ka_same | assumption | exact ka_ne1 (by first | assumption | exact Ne.symm (by assumption)) (by first | exact ka_same | assumption | exact ka_ne1 (by first | assumption | exact Ne.symm (by assumption)) (by first | exact ka_same | assumption | exact ka_ne1 (by first | assumption | exact Ne.symm (by assumption)) (by first | exact ka_same | assumption | exact ka_ne1 (by first | assumption | exact Ne.symm (by assumption)) (by first | exact ka_same | assumption | exact ka_ne1 (by first | assumption | exact Ne.symm (by assumption)) (by first | exact ka_same | assumption)))))), by first | exact ka_same | assumption | exact ka_ne1 (by first | assumption | exact Ne.symm (by assumption)) (by first | exact ka_same | assumption | exact ka_ne1 (by first | assumption | exact Ne.symm (by assumption)) (by first | exact ka_same | assumption | exact ka_ne1 (by first | assumption | exact Ne.symm (by assumption)) (by first | exact ka_same | assumption | exact ka_ne1 (by first | assumption | exact Ne.symm (by assumption)) (by first | exact ka_same | assumption | exact ka_ne1 (by first | assumption | exact Ne.symm (by assumption)) (by first | exact ka_same | assumption | exact ka_ne1 (by first | assumption | exact Ne.symm (by assumption)) (by first | exact ka_same | assumption))))))⟩)
    · refine ka_ifN (fun z => hu ((k3_le (by omega) (by omega)).mp z)) ?_
      refine ka_is (by first | exact ka_same | assumption | exact ka_ne1 (by first | assumption | exact Ne.symm (by assumption)) (by first | exact ka_same | assumption | exact ka_ne1 (by first | assumption | exact Ne.symm (by assumption)) (by first | exact ka_same | assumption | exact ka_ne1 (by first | assumption | exact Ne.symm (by assumption)) (by first | exact ka_same | assumption | exact ka_ne1 (by first | assumption | exact Ne.symm (by assumption)) (by first | exact ka_same | assumption | exact ka_ne1 (by first | assumption | exact Ne.symm (by assumption)) (by first | exact ka_same | assumption | exact ka_ne1 (by first | assumption | exact Ne.symm (by assumption)) (by first | exact ka_same | assumption))))))) rfl ?_
      refine ka_call (kn_ensure (l := l) (b := b) (u := u) (n := n) (c := k / 64 + 1) (st := st) (f := f) (g := g) (by first | exact ka_same | assumption | exact ka_ne1 (by first | assumption | exact Ne.symm (by assumption)) (by first | exact ka_same | assumption | exact ka_ne1 (by first | assumption | exact Ne.symm (by assumption)) (by first | exact ka_same | assumption | exact ka_ne1 (by first | assumption | exact Ne.symm (by assumption)) (by first | exact ka_same | assumption | exact ka_ne1 (by first | assumption | exact Ne.symm (by assumption)) (by first | exact ka_same | assumption | exact ka_ne1 (by first | assumption | exact Ne.symm (by assumption)) (by first | exact ka_same | assumption | exact ka_ne1 (by first | assumption | exact Ne.symm (by assumption)) (by first | exact ka_same | assumption))))))) (by first | exact ka_same | assumption | exact ka_ne1 (by first | assumption | exact Ne.symm (by assumption)) (by first | exact ka_same | assumption | exact ka_ne1 (by first | assumption | exact Ne.symm (by assumption)) (by first | exact ka_same | assumption | exact ka_ne1 (by first | assumption | exact Ne.symm (by assumption)) (by first | exact ka_same | assumption | exact ka_ne1 (by first | assumption | exact Ne.symm (by assumption)) (by first | exact ka_same | assumption | exact ka_ne1 (by first | assumption | exact Ne.symm (by assumption)) (by first | exact ka_same | assumption | exact ka_ne1 (by first | assumption | exact Ne.symm (by assumption)) (by first | exact ka_same | assumption))))))) hW0 hst (by omega) hw) (fun _ w' H' hp => ?_)
      obtain ⟨hw', hp⟩ := hp
      rcases hp with ⟨hle, rfl⟩ | ⟨hlt, a, n', g', ha, q1, q2, rfl, hW'⟩
      · refine ka_pI (by first | exact ka_same | assumption | exact ka_ne1 (by first | assumption | exact Ne.symm (by assumption)) (by first | exact ka_same | assumption | exact ka_ne1 (by first | assumption | exact Ne.symm (by assumption)) (by first | exact ka_same | assumption | exact ka_ne1 (by first | assumption | exact Ne.symm (by assumption)) (by first | exact ka_same | assumption | exact ka_ne1 (by first | assumption | exact Ne.symm (by assumption)) (by first | exact ka_same | assumption | exact ka_ne1 (by first | assumption | exact Ne.symm (by assumption)) (by first | exact ka_same | assumption | exact ka_ne1 (by first | assumption | exact Ne.symm (by assumption)) (by first | exact ka_same | assumption))))))) rfl rfl (Nat.le_of_ble_eq_true rfl) ?_
        refine ka_pure ⟨hw', b, k / 64 + 1, n, st, g, ⟨by omega, w2, w3, fun j hj => ?_, fun j h1 h2 => w5 j (by omega) h2, fun i hi => w6 i (by omega)⟩, hst, by omega, hb, n2, n1, ka_ag_l (ka_ag_new (ka_ag_l ka_ag_refl) hb), ka_same, by first | exact ka_same | assumption | exact ka_ne1 (by first | assumption | exact Ne.symm (by assumption)) (by first | exact ka_same | assumption | exact ka_ne1 (by first | assumption | exact Ne.symm (by assumption)) (by first | exact ka_same | assumption | exact ka_ne1 (by first | assumption | exact Ne.symm (by assumption)) (by first | exact ka_same | assumption | exact ka_ne1 (by first | assumption | exact Ne.symm (by assumption)) (by first | exact ka_same | assumption | exact ka_ne1 (by first | assumption | exact Ne.symm (by assumption)) (by first | exact ka_same | assumption | exact ka_ne1 (by first | assumption | exact Ne.symm (by assumption)) (by first | exact ka_same | assumption))))))⟩
        by_cases hj2 : j < u
        · exact w4 j hj2
        · rw [w5 j (by omega) (by omega)]
          intro i hi
          rw [w6 _ (by omega)]
          simp
      · obtain ⟨hab, hba, ha⟩ := ka_fr ha
        obtain ⟨hal, hla, ha⟩ := ka_fr ha
        obtain ⟨w1', w2', w3', w4', w5', w6'⟩ := hW'
        refine ka_pI (by first | exact ka_same | assumption | exact ka_ne1 (by first | assumption | exact Ne.symm (by assumption)) (by first | exact ka_same | assumption | exact ka_ne1 (by first | assumption | exact Ne.symm (by assumption)) (by first | exact ka_same | assumption | exact ka_ne1 (by first | assumption | exact Ne.symm (by assumption)) (by first | exact ka_same | assumption | exact ka_ne1 (by first | assumption | exact Ne.symm (by assumption)) (by first | exact ka_same | assumption | exact ka_ne1 (by first | assumption | exact Ne.symm (by assumption)) (by first | exact ka_same | assumption | exact ka_ne1 (by first | assumption | exact Ne.symm (by assumption)) (by first | exact ka_same | assumption))))))) rfl rfl (Nat.le_of_ble_eq_true rfl) ?_
        refine ka_pure ⟨hw', a, k / 64 + 1, n', 0, g', ⟨by omega, w2', q2, fun j hj => ?_, fun j h1 h2 => w5' j (by omega) h2, fun i hi => w6 i (by omega)⟩, Or.inl rfl, by omega, ha, hla, hal, ka_ag_l (ka_ag_l (ka_ag_new (ka_ag_new (ka_ag_l ka_ag_refl) hb) ha)), ka_same, by first | exact ka_same | assumption | exact ka_ne1 (by first | assumption | exact Ne.symm (by assumption)) (by first | exact ka_same | assumption | exact ka_ne1 (by first | assumption | exact Ne.symm (by assumption)) (by first | exact ka_same | assumption | exact ka_ne1 (by first | assumption | exact Ne.symm (by assumption)) (by first | exact ka_same | assumption | exact ka_ne1 (by first | assumption | exact Ne.symm (by assumption)) (by first | exact ka_same | assumption | exact ka_ne1 (by first | assumption | exact Ne.symm (by assumption)) (by first | exact ka_same | assumption | exact ka_ne1 (by first | assumption | exact Ne.symm (by assumption)) (by first | exact ka_same | assumption))))))⟩
        by_cases hj2 : j < u
        · exact w4' j hj2
        · rw [w5' j (by omega) (by omega)]
          intro i hi
          rw [w6 _ (by omega)]
          simp
  · obtain ⟨hw', b2, u2, m2, st2, g2, hW2, hst2, hku, hb2, e1, e2, hag, hl2, hbb2⟩ := hp
    obtain ⟨w1, w2, w3, w4, w5, w6⟩ := hW2
    refine ka_gR (by first | exact ka_same | assumption | exact ka_ne1 (by first | assumption | exact Ne.symm (by assumption)) (by first | exact ka_same | assumption | exact ka_ne1 (by first | assumption | exact Ne.symm (by assumption)) (by first | exact ka_same | assumption | exact ka_ne1 (by first | assumption | exact Ne.symm (by assumption)) (by first | exact ka_same | assumption | exact ka_ne1 (by first | assumption | exact Ne.symm (by assumption)) (by first | exact ka_same | assumption | exact ka_ne1 (by first | assumption | exact Ne.symm (by assumption)) (by first | exact ka_same | assumption | exact ka_ne1 (by first | assumption | exact Ne.symm (by assumption)) (by first | exact ka_same | assumption))))))) rfl rfl ?_
    have hin : km_inB (Int32.ofNat (k / 64)) m2 = true := k3_in (by omega) (by omega)
    refine ka_ldJ hbb2 hin ?_
    refine ka_stJ hbb2 hin ?_
    rw [k3_nat (by omega)]
    refine ka_is ((ka_ne e1).trans hl2) rfl (ka_use kn_inv ?_)
    refine ka_pureE (kn_fold (b := b2) (u := u2) (n := m2) (st := st2) (g := vp_updL g2 (k / 64) (g2 (k / 64) ||| ((1 : Int64) <<< ((Int32.ofNat k).toInt64 &&& 63)))) (ka_ag_new hag hb2) ((ka_ne e1).trans hl2) ka_same ⟨w1, w2, w3, fun j hj => ?_, fun j h1 h2 => ?_, fun i hi => ?_⟩ hst2 hb2) ⟨hw', rfl⟩
    · unfold vp_updL
      by_cases hjk : j = k / 64
      · subst hjk
        rw [if_pos rfl]
        intro i hi
        have h1 := w4 _ hj i hi
        have h2 := kn_shift ⟨k, hk⟩ ⟨i, hi⟩
        show (g2 (k / 64) ||| _).toBitVec.getLsbD i = _
        rw [Int64.toBitVec_or, BitVec.getLsbD_or, h1, h2]
        unfold kn_add
        congr 1
        simp only [decide_eq_decide]
        omega
      · rw [if_neg hjk]
        intro i hi
        rw [w4 j hj i hi]
        unfold kn_add
        rw [decide_eq_false (by omega), Bool.or_false]
    · unfold vp_updL
      rw [if_neg (by omega)]
      exact w5 j h1 h2
    · unfold kn_add
      rw [w6 i hi, decide_eq_false (by omega)]
      rfl
/-- the words of two sets are joined, from i on -/
theorem kn_orLoop {a0 a1 b0 b1 n0 n1 u0 u1 c : Nat} {st0 st1 : Int32} {g1 : Nat → Int64} {H0 : ka_H} (hA1 : H0 a1 = some (ka_ob 31 [.ref b1, .int (Int32.ofNat u1), .int st1])) (hB1 : H0 b1 = some (ka_aJ n1 g1)) (hA0 : H0 a0 = some (ka_ob 31 [.ref b0, .int (Int32.ofNat u0), .int st0])) (e1 : a1 ≠ b0) (e2 : b1 ≠ b0) (e3 : a0 ≠ b0) (hc0 : c ≤ n0) (hc1 : c ≤ n1) (hn0 : n0 ≤ 8) (hn1 : n1 ≤ 8) (hu1n : u1 ≤ n1) (hcu : u1 ≤ c ∨ (u0 = u1 ∧ u1 ≤ n0)) : ∀ (d i fuel : Nat) (g0 : Nat → Int64), i + d = c → d < fuel → ka_T Z (pb_J3_or_47 fuel (some a0) (some a1) (Int32.ofNat c) (Int32.ofNat i)) w (ka_up H0 b0 (ka_aJ n0 g0)) (fun _ w' H' => w' = w ∧ ∃ g, H' = ka_up H0 b0 (ka_aJ n0 g) ∧ ∀ j, j < n0 → g j = if i ≤ j ∧ j < c then g0 j ||| g1 j else if c ≤ j ∧ j < u1 then g1 j else g0 j) := by
  intro d
  induction d with
  | zero =>
    intro i fuel g0 hd hf
    obtain ⟨fuel, rfl⟩ : ∃ n, fuel = n + 1 := ⟨fuel - 1, by omega⟩
    unfold pb_J3_or_47
    refine ka_ifP ((k3_le (by omega) (by omega)).mpr (by omega)) ?_
    refine ka_gI (by first | exact ka_same | assumption | exact ka_ne1 (by first | assumption | exact Ne.symm (by assumption)) (by first | exact ka_same | assumption | exact ka_ne1 (by first | assumption | exact Ne.symm (by assumption)) (by first | exact ka_same | assumption | exact ka_ne1 (by first | assumption | exact Ne.symm (by assumption)) (by first | exact ka_same | assumption | exact ka_ne1 (by first | assumption | exact Ne.symm (by assumption)) (by first | exact ka_same | assumption | exact ka_ne1 (by first | assumption | exact Ne.symm (by assumption)) (by first | exact ka_same | assumption | exact ka_ne1 (by first | assumption | exact Ne.symm (by assumption)) (by first | exact ka_same | assumption))))))) rfl rfl ?_
    unfold pb_J3_or_100
    by_cases h : u1 ≤ c
    · refine ka_ifP ((k3_le (by omega) (by omega)).mpr h) ?_
      refine ka_is (by first | exact ka_same | assumption | exact ka_ne1 (by first | assumption | exact Ne.symm (by assumption)) (by first | exact ka_same | assumption | exact ka_ne1 (by first | assumption | exact Ne.symm (by assumption)) (by first | exact ka_same | assumption | exact ka_ne1 (by first | assumption | exact Ne.symm (by assumption)) (by first | exact ka_same | assumption | exact ka_ne1 (by first | assumption | exact Ne.symm (by assumption)) (by first | exact ka_same | assumption | exact ka_ne1 (by first | assumption | exact Ne.symm (by assumption)) (by first | exact ka_same | assumption | exact ka_ne1 (by first | assumption | exact Ne.symm (by assumption)) (by first | exact ka_same | assumption))))))) rfl ?_
      refine ka_use kn_inv (ka_pure ⟨rfl, g0, rfl, fun j hj => ?_⟩)
      rw [if_neg (by omega), if_neg (by omega)]
    · refine ka_ifN (fun z => h ((k3_le (by omega) (by omega)).mp z)) ?_
      refine ka_gR (by first | exact ka_same | assumption | exact ka_ne1 (by first | assumption | exact Ne.symm (by assumption)) (by first | exact ka_same | assumption | exact ka_ne1 (by first | assumption | exact Ne.symm (by assumption)) (by first | exact ka_same | assumption | exact ka_ne1 (by first | assumption | exact Ne.symm (by assumption)) (by first | exact ka_same | assumption | exact ka_ne1 (by first | assumption | exact Ne.symm (by assumption)) (by first | exact ka_same | assumption | exact ka_ne1 (by first | assumption | exact Ne.symm (by assumption)) (by first | exact ka_same | assumption | exact ka_ne1 (by first | assumption | exact Ne.symm (by assumption)) (by first | exact ka_same | assumption))))))) rfl rfl ?_
      refine ka_gR (by first | exact ka_same | assumption | exact ka_ne1 (by first | assumption | exact Ne.symm (by assumption)) (by first | exact ka_same | assumption | exact ka_ne1 (by first | assumption | exact Ne.symm (by assumption)) (by first | exact ka_same | assumption | exact ka_ne1 (by first | assumption | exact Ne.symm (by assumption)) (by first | exact ka_same | assumption | exact ka_ne1 (by first | assumption | exact Ne.symm (by assumption)) (by first | exact ka_same | assumption | exact ka_ne1 (by first | assumption | exact Ne.symm (by assumption)) (by first | exact ka_same | assumption | exact ka_ne1 (by first | assumption | exact Ne.symm (by assumption)) (by first | exact ka_same | assumption))))))) rfl rfl ?_
      refine ka_gI (by first | exact ka_same | assumption | exact ka_ne1 (by first | assumption | exact Ne.symm (by assumption)) (by first | exact ka_same | assumption | exact ka_ne1 (by first | assumption | exact Ne.symm (by assumption)) (by first | exact ka_same | assumption | exact ka_ne1 (by first | assumption | exact Ne.symm (by assumption)) (by first | exact ka_same | assumption | exact ka_ne1 (by first | assumption | exact Ne.symm (by assumption)) (by first | exact ka_same | assumption | exact ka_ne1 (by first | assumption | exact Ne.symm (by assumption)) (by first | exact ka_same | assumption | exact ka_ne1 (by first | assumption | exact Ne.symm (by assumption)) (by first | exact ka_same | assumption))))))) rfl rfl ?_
      refine ka_cpJ (s := c) (d := c) (n := u1 - c) (n0 := n1) (n1 := n0) (g := g1) (g1 := g0) (fl := true) (by first | exact ka_same | assumption | exact ka_ne1 (by first | assumption | exact Ne.symm (by assumption)) (by first | exact ka_same | assumption | exact ka_ne1 (by first | assumption | exact Ne.symm (by assumption)) (by first | exact ka_same | assumption | exact ka_ne1 (by first | assumption | exact Ne.symm (by assumption)) (by first | exact ka_same | assumption | exact ka_ne1 (by first | assumption | exact Ne.symm (by assumption)) (by first | exact ka_same | assumption | exact ka_ne1 (by first | assumption | exact Ne.symm (by assumption)) (by first | exact ka_same | assumption | exact ka_ne1 (by first | assumption | exact Ne.symm (by assumption)) (by first | exact ka_same | assumption))))))) (by first | exact ka_same | assumption | exact ka_ne1 (by first | assumption | exact Ne.symm (by assumption)) (by first | exact ka_same | assumption | exact ka_ne1 (by first | assumption | exact Ne.symm (by assumption)) (by first | exact ka_same | assumption | exact ka_ne1 (by first | assumption | exact Ne.symm (by assumption)) (by first | exact ka_same | assumption | exact ka_ne1 (by first | assumption | exact Ne.symm (by assumption)) (by first | exact ka_same | assumption | exact ka_ne1 (by first | assumption | exact Ne.symm (by assumption)) (by first | exact ka_same | assumption | exact ka_ne1 (by first | assumption | exact Ne.symm (by assumption)) (by first | exact ka_same | assumption))))))) rfl rfl (by rw [k3_sub (by omega)]; congr 1; omega) (by omega) (by omega) (by omega) (by omega) ?_
      rw [ka_up_up]
      refine ka_is (by first | exact ka_same | assumption | exact ka_ne1 (by first | assumption | exact Ne.symm (by assumption)) (by first | exact ka_same | assumption | exact ka_ne1 (by first | assumption | exact Ne.symm (by assumption)) (by first | exact ka_same | assumption | exact ka_ne1 (by first | assumption | exact Ne.symm (by assumption)) (by first | exact ka_same | assumption | exact ka_ne1 (by first | assumption | exact Ne.symm (by assumption)) (by first | exact ka_same | assumption | exact ka_ne1 (by first | assumption | exact Ne.symm (by assumption)) (by first | exact ka_same | assumption | exact ka_ne1 (by first | assumption | exact Ne.symm (by assumption)) (by first | exact ka_same | assumption))))))) rfl ?_
      refine ka_use kn_inv (ka_pure ⟨rfl, _, rfl, fun j hj => ?_⟩)
      unfold va_cpy
      rw [if_neg (show ¬ (i ≤ j ∧ j < c) by omega)]
      by_cases hj2 : c ≤ j ∧ j < u1
      · rw [if_pos (by omega), if_pos hj2]
        congr 1
        omega
      · rw [if_neg (by omega), if_neg hj2]
  | succ d ih =>
    intro i fuel g0 hd hf
    obtain ⟨fuel, rfl⟩ : ∃ n, fuel = n + 1 := ⟨fuel - 1, by omega⟩
    unfold pb_J3_or_47
    refine ka_ifN (fun z => absurd ((k3_le (by omega) (by omega)).mp z) (by omega)) ?_
    refine ka_gR (by first | exact ka_same | assumption | exact ka_ne1 (by first | assumption | exact Ne.symm (by assumption)) (by first | exact ka_same | assumption | exact ka_ne1 (by first | assumption | exact Ne.symm (by assumption)) (by first | exact ka_same | assumption | exact ka_ne1 (by first | assumption | exact Ne.symm (by assumption)) (by first | exact ka_same | assumption | exact ka_ne1 (by first | assumption | exact Ne.symm (by assumption)) (by first | exact ka_same | assumption | exact ka_ne1 (by first | assumption | exact Ne.symm (by assumption)) (by first | exact ka_same | assumption | exact ka_ne1 (by first | assumption | exact Ne.symm (by assumption)) (by first | exact ka_same | assumption))))))) rfl rfl ?_
    refine ka_ldJ ka_same (k3_in (by omega) (by omega)) ?_
    refine ka_gR (by first | exact ka_same | assumption | exact ka_ne1 (by first | assumption | exact Ne.symm (by assumption)) (by first | exact ka_same | assumption | exact ka_ne1 (by first | assumption | exact Ne.symm (by assumption)) (by first | exact ka_same | assumption | exact ka_ne1 (by first | assumption | exact Ne.symm (by assumption)) (by first | exact ka_same | assumption | exact ka_ne1 (by first | assumption | exact Ne.symm (by assumption)) (by first | exact ka_same | assumption | exact ka_ne1 (by first | assumption | exact Ne.symm (by assumption)) (by first | exact ka_same | assumption | exact ka_ne1 (by first | assumption | exact Ne.symm (by assumption)) (by first | exact ka_same | assumption))))))) rfl rfl ?_
    refine ka_ldJ (n := n1) (g := g1) (fl := true) (by first | exact ka_same | assumption | exact ka_ne1 (by first | assumption | exact Ne.symm (by assumption)) (by first | exact ka_same | assumption | exact ka_ne1 (by first | assumption | exact Ne.symm (by assumption)) (by first | exact ka_same | assumption | exact ka_ne1 (by first | assumption | exact Ne.symm (by assumption)) (by first | exact ka_same | assumption | exact ka_ne1 (by first | assumption | exact Ne.symm (by assumption)) (by first | exact ka_same | assumption | exact ka_ne1 (by first | assumption | exact Ne.symm (by assumption)) (by first | exact ka_same | assumption | exact ka_ne1 (by first | assumption | exact Ne.symm (by assumption)) (by first | exact ka_same | assumption))))))) (k3_in (by omega) (by omega)) ?_
    refine ka_stJ ka_same (k3_in (by omega) (by omega)) ?_
    rw [ka_up_up, k3_succ, k3_nat (by omega)]
    refine ka_post (ih (i + 1) fuel _ (by omega) (by omega)) (fun _ w' H' hp => ?_)
    obtain ⟨rfl, g, rfl, hg⟩ := hp
    refine ⟨rfl, g, rfl, fun j hj => ?_⟩
    rw [hg j hj]
    unfold vp_updL
    by_cases hji : j = i
    · subst hji
      rw [if_neg (by omega), if_neg (by omega), if_pos rfl, if_pos (by omega)]
    · by_cases hj2 : i + 1 ≤ j ∧ j < c
      · rw [if_pos hj2, if_neg hji, if_pos (by omega)]
      · rw [if_neg hj2, if_neg (show ¬ (i ≤ j ∧ j < c) by omega)]
        split
        · rfl
        · rfl
theorem ka_postE {α : Type} {x : km_M α} {P Q : α → Nat → ka_H → Prop} (h : ka_T Z x w H P) (k : ∀ r w' G, P r w' G → ∃ H', ka_ent Z w' G H' ∧ Q r w' H') : ka_T Z x w H Q := fun σ hR => by
  obtain ⟨r, σ', w', G, h1, h2, h3⟩ := h σ hR
  obtain ⟨H', g1, g2⟩ := k r w' G h3
  exact ⟨r, σ', w', H', h1, g1 _ h2, g2⟩
theorem ka_ent_trans {w : Nat} {F G H : ka_H} (h : ka_ent Z w F G) (k : ka_ent Z w G H) : ka_ent Z w F H := fun σ hR => k σ (h σ hR)
theorem kn_orW {f f' : Nat → Bool} {u0 u1 n0 n1 u : Nat} {g0 g1 g : Nat → Int64} (h0 : kn_W f u0 n0 g0) (h1 : kn_W f' u1 n1 g1) (hu : u = max u0 u1) (hn : u ≤ n0) (hg : ∀ j, j < n0 → g j = if 0 ≤ j ∧ j < min u0 u1 then g0 j ||| g1 j else if min u0 u1 ≤ j ∧ j < u1 then g1 j else g0 j) : kn_W (fun i => f i || f' i) u n0 g := by
  obtain ⟨a1, a2, a3, a4, a5, a6⟩ := h0
  obtain ⟨b1, b2, b3, b4, b5, b6⟩ := h1
  refine ⟨by omega, a2, a3, fun j hj => ?_, fun j k1 k2 => ?_, fun i hi => ?_⟩
  · rw [hg j (by omega)]
    by_cases hc : j < min u0 u1
    · rw [if_pos (by omega)]
      exact kn_word_or (a4 j (by omega)) (b4 j (by omega))
    · rw [if_neg (by omega)]
      by_cases hc2 : j < u1
      · rw [if_pos (by omega)]
        intro i hi
        show _ = (f (64 * j + i) || f' (64 * j + i))
        rw [b4 j hc2 i hi, a6 (64 * j + i) (by omega)]
        rfl
      · rw [if_neg (by omega)]
        intro i hi
        show _ = (f (64 * j + i) || f' (64 * j + i))
        rw [a4 j (by omega) i hi, b6 (64 * j + i) (by omega), Bool.or_false]
  · rw [hg j k2, if_neg (by omega), if_neg (by omega)]
    exact a5 j (by omega) k2
  · show (f i || f' i) = false
    rw [a6 i (by omega), b6 i (by omega)]
    rfl
theorem kn_or {a0 a1 : Nat} {f f' : Nat → Bool} (h0 : H a0 = some (ka_bs f)) (h1 : H a1 = some (ka_bs f')) (hne : a0 ≠ a1) (hw : 20 ≤ w) : ka_T Z (pm_J3_or (some a0) (some a1)) w H (fun _ w' H' => w ≤ w' + 20 ∧ H' = ka_up H a0 (ka_bs (fun i => f i || f' i))) := by
  refine kn_open h0 (fun b0 u0 st0 n0 g0 hW0 hst0 n1 n2 hb0 => ?_)
  have hab : a1 ≠ b0 := ka_dom h1 hb0
  have hba := hab.symm
  refine kn_open (l := a1) (f := f') (by first | exact ka_same | assumption | exact ka_ne1 (by first | assumption | exact Ne.symm (by assumption)) (by first | exact ka_same | assumption | exact ka_ne1 (by first | assumption | exact Ne.symm (by assumption)) (by first | exact ka_same | assumption | exact ka_ne1 (by first | assumption | exact Ne.symm (by assumption)) (by first | exact ka_same | assumption | exact ka_ne1 (by first | assumption | exact Ne.symm (by assumption)) (by first | exact ka_same | assumption | exact ka_ne1 (by first | assumption | exact Ne.symm (by assumption)) (by first | exact ka_same | assumption | exact ka_ne1 (by first | assumption | exact Ne.symm (by assumption)) (by first | exact ka_same | assumption))))))) (fun b1 u1 st1 m1 g1 hW1 hst1 q1 q2 hb1 => ?_)
  obtain ⟨hb10, hb01, hb1⟩ := ka_fr hb1
  obtain ⟨hb1a, hab1, hb1⟩ := ka_fr hb1
  have hne' := hne.symm
  have hE : ka_up (ka_up (ka_up (ka_up H a0 (ka_ob 31 [.ref b0, .int (Int32.ofNat u0), .int st0])) b0 (ka_aJ n0 g0)) a1 (ka_ob 31 [.ref b1, .int (Int32.ofNat u1), .int st1])) b1 (ka_aJ m1 g1) = ka_up (ka_up (ka_up (ka_up H a1 (ka_ob 31 [.ref b1, .int (Int32.ofNat u1), .int st1])) b1 (ka_aJ m1 g1)) a0 (ka_ob 31 [.ref b0, .int (Int32.ofNat u0), .int st0])) b0 (ka_aJ n0 g0) := by
    rw [ka_up_comm hba, ka_up_comm hne, ka_up_comm hb01, ka_up_comm hab1]
  rw [hE]
  have hW0' := hW0
  have hW1' := hW1
  obtain ⟨w1, w2, w3, w4, w5, w6⟩ := hW0
  obtain ⟨v1, v2, v3, v4, v5, v6⟩ := hW1
  have hend : ∀ (b n u : Nat) (st : Int32) (g : Nat → Int64) (G : ka_H), (st = 0 ∨ st = 1) → H b = none → b ≠ a1 → b ≠ b1 → a0 ≠ b → ka_ag (ka_up (ka_up H a1 (ka_ob 31 [.ref b1, .int (Int32.ofNat u1), .int st1])) b1 (ka_aJ m1 g1)) G a0 → G a0 = some (ka_ob 31 [.ref b, .int (Int32.ofNat u), .int st]) → G b = some (ka_aJ n g) → kn_W (fun i => f i || f' i) u n g → ∀ v, ka_ent Z v G (ka_up H a0 (ka_bs (fun i => f i || f' i))) := by
    intro b n u st g G hst hb e1 e2 e3 hag hG0 hGb hW v
    have k1 := kn_fold (Z := Z) (w := v) hag hG0 hGb hW hst ((ka_ne e2).trans ((ka_ne e1).trans hb))
    refine ka_ent_trans k1 ?_
    refine kn_fold_id (H := ka_up H a0 (ka_bs (fun i => f i || f' i))) (l := a1) (b := b1) (u := u1) (n := m1) (st := st1) (g := g1) (f := f') (by first | exact ka_same | assumption | exact ka_ne1 (by first | assumption | exact Ne.symm (by assumption)) (by first | exact ka_same | assumption | exact ka_ne1 (by first | assumption | exact Ne.symm (by assumption)) (by first | exact ka_same | assumption | exact ka_ne1 (by first | assumption | exact Ne.symm (by assumption)) (by first | exact ka_same | assumption | exact ka_ne1 (by first | assumption | exact Ne.symm (by assumption)) (by first | exact ka_same | assumption | exact ka_ne1 (by first | assumption | exact Ne.symm (by assumption)) (by first | exact ka_same | assumption | exact ka_ne1 (by first | assumption | exact Ne.symm (by assumption)) (by first | exact ka_same | assumption))))))) ?_ (by first | exact ka_same | assumption | exact ka_ne1 (by first | assumption | exact Ne.symm (by assumption)) (by first | exact ka_same | assumption | exact ka_ne1 (by first | assumption | exact Ne.symm (by assumption)) (by first | exact ka_same | assumption | exact ka_ne1 (by first | assumption | exact Ne.symm (by assumption)) (by first | exact ka_same | assumption | exact ka_ne1 (by first | assumption | exact Ne.symm (by assumption)) (by first | exact ka_same | assumption | exact ka_ne1 (by first | assumption | exact Ne.symm (by assumption)) (by first | exact ka_same | assumption | exact ka_ne1 (by first | assumption | exact Ne.symm (by assumption)) (by first | exact ka_same | assumption))))))) (by first | exact ka_same | assumption | exact ka_ne1 (by first | assumption | exact Ne.symm (by assumption)) (by first | exact ka_same | assumption | exact ka_ne1 (by first | assumption | exact Ne.symm (by assumption)) (by first | exact ka_same | assumption | exact ka_ne1 (by first | assumption | exact Ne.symm (by assumption)) (by first | exact ka_same | assumption | exact ka_ne1 (by first | assumption | exact Ne.symm (by assumption)) (by first | exact ka_same | assumption | exact ka_ne1 (by first | assumption | exact Ne.symm (by assumption)) (by first | exact ka_same | assumption | exact ka_ne1 (by first | assumption | exact Ne.symm (by assumption)) (by first | exact ka_same | assumption))))))) hW1' hst1 ((ka_ne hb1a).trans hb1)
    intro x o hx ho
    by_cases hxa : x = a0
    · subst hxa
      rw [ka_same] at ho ⊢
      exact ho
    · rw [ka_ne hxa] at ho ⊢
      exact (ka_ne (ka_dom ho hb1)).trans ((ka_ne hx).trans ho)
  unfold pm_J3_or
  refine ka_ifP (fun z => hne (Option.some.inj z)) ?_
  refine ka_gI (by first | exact ka_same | assumption | exact ka_ne1 (by first | assumption | exact Ne.symm (by assumption)) (by first | exact ka_same | assumption | exact ka_ne1 (by first | assumption | exact Ne.symm (by assumption)) (by first | exact ka_same | assumption | exact ka_ne1 (by first | assumption | exact Ne.symm (by assumption)) (by first | exact ka_same | assumption | exact ka_ne1 (by first | assumption | exact Ne.symm (by assumption)) (by first | exact ka_same | assumption | exact ka_ne1 (by first | assumption | exact Ne.symm (by assumption)) (by first | exact ka_same | assumption | exact ka_ne1 (by first | assumption | exact Ne.symm (by assumption)) (by first | exact ka_same | assumption))))))) rfl rfl ?_
  refine ka_gI (by first | exact ka_same | assumption | exact ka_ne1 (by first | assumption | exact Ne.symm (by assumption)) (by first | exact ka_same | assumption | exact ka_ne1 (by first | assumption | exact Ne.symm (by assumption)) (by first | exact ka_same | assumption | exact ka_ne1 (by first | assumption | exact Ne.symm (by assumption)) (by first | exact ka_same | assumption | exact ka_ne1 (by first | assumption | exact Ne.symm (by assumption)) (by first | exact ka_same | assumption | exact ka_ne1 (by first | assumption | exact Ne.symm (by assumption)) (by first | exact ka_same | assumption | exact ka_ne1 (by first | assumption | exact Ne.symm (by assumption)) (by first | exact ka_same | assumption))))))) rfl rfl ?_
  refine ka_gI (by first | exact ka_same | assumption | exact ka_ne1 (by first | assumption | exact Ne.symm (by assumption)) (by first | exact ka_same | assumption | exact ka_ne1 (by first | assumption | exact Ne.symm (by assumption)) (by first | exact ka_same | assumption | exact ka_ne1 (by first | assumption | exact Ne.symm (by assumption)) (by first | exact ka_same | assumption | exact ka_ne1 (by first | assumption | exact Ne.symm (by assumption)) (by first | exact ka_same | assumption | exact ka_ne1 (by first | assumption | exact Ne.symm (by assumption)) (by first | exact ka_same | assumption | exact ka_ne1 (by first | assumption | exact Ne.symm (by assumption)) (by first | exact ka_same | assumption))))))) rfl rfl ?_
  refine ka_gI (by first | exact ka_same | assumption | exact ka_ne1 (by first | assumption | exact Ne.symm (by assumption)) (by first | exact ka_same | assumption | exact ka_ne1 (by first | assumption | exact Ne.symm (by assumption)) (by first | exact ka_same | assumption | exact ka_ne1 (by first | assumption | exact Ne.symm (by assumption)) (by first | exact ka_same | assumption | exact ka_ne1 (by first | assumption | exact Ne.symm (by assumption)) (by first | exact ka_same | assumption | exact ka_ne1 (by first | assumption | exact Ne.symm (by assumption)) (by first | exact ka_same | assumption | exact ka_ne1 (by first | assumption | exact Ne.symm (by assumption)) (by first | exact ka_same | assumption))))))) rfl rfl ?_
  unfold pb_J3_or_45
  rw [k3_min (by omega) (by omega)]
  by_cases hu : u1 ≤ u0
  · refine ka_ifP ((k3_le (by omega) (by omega)).mpr hu) ?_
    refine ka_postE (kn_orLoop (a0 := a0) (a1 := a1) (b0 := b0) (b1 := b1) (n0 := n0) (n1 := m1) (u0 := u0) (u1 := u1) (c := min u0 u1) (st0 := st0) (st1 := st1) (g1 := g1) (by first | exact ka_same | assumption | exact ka_ne1 (by first | assumption | exact Ne.symm (by assumption)) (by first | exact ka_same | assumption | exact ka_ne1 (by first | assumption | exact Ne.symm (by assumption)) (by first | exact ka_same | assumption | exact ka_ne1 (by first | assumption | exact Ne.symm (by assumption)) (by first | exact ka_same | assumption | exact ka_ne1 (by first | assumption | exact Ne.symm (by assumption)) (by first | exact ka_same | assumption | exact ka_ne1 (by first | assumption | exact Ne.symm (by assumption)) (by first | exact ka_same | assumption | exact ka_ne1 (by first | assumption | exact Ne.symm (by assumption)) (by first | exact ka_same | assumption))))))) (by first | exact ka_same | assumption | exact ka_ne1 (by first | assumption | exact Ne.symm (by assumption)) (by first | exact ka_same | assumption | exact ka_ne1 (by first | assumption | exact Ne.symm (by assumption)) (by first | exact ka_same | assumption | exact ka_ne1 (by first | assumption | exact Ne.symm (by assumption)) (by first | exact ka_same | assumption | exact ka_ne1 (by first | assumption | exact Ne.symm (by assumption)) (by first | exact ka_same | assumption | exact ka_ne1 (by first | assumption | exact Ne.symm (by assumption)) (by first | exact ka_same | assumption | exact ka_ne1 (by first | assumption | exact Ne.symm (by assumption)) (by first | exact ka_same | assumption))))))) (by first | exact ka_same | assumption | exact ka_ne1 (by first | assumption | exact Ne.symm (by assumption)) (by first | exact ka_same | assumption | exact ka_ne1 (by first | assumption | exact Ne.symm (by assumption)) (by first | exact ka_same | assumption | exact ka_ne1 (by first | assumption | exact Ne.symm (by assumption)) (by first | exact ka_same | assumption | exact ka_ne1 (by first | assumption | exact Ne.symm (by assumption)) (by first | exact ka_same | assumption | exact ka_ne1 (by first | assumption | exact Ne.symm (by assumption)) (by first | exact ka_same | assumption | exact ka_ne1 (by first | assumption | exact Ne.symm (by assumption)) (by first | exact ka_same | assumption))))))) hab hb10 n2 (by omega) (by omega) (by omega) (by omega) (by omega) (by omega) (min u0 u1) 0 km_fuel g0 (by omega) (by unfold km_fuel; omega)) (fun _ w' H' hp => ?_)
    obtain ⟨rfl, g, rfl, hg⟩ := hp
    exact ⟨_, hend b0 n0 u0 st0 g _ hst0 hb0 hba hb01 n2 (ka_ag_new (ka_ag_l ka_ag_refl) (by rw [ka_ne hb01, ka_ne hba]; exact hb0)) (by first | exact ka_same | assumption | exact ka_ne1 (by first | assumption | exact Ne.symm (by assumption)) (by first | exact ka_same | assumption | exact ka_ne1 (by first | assumption | exact Ne.symm (by assumption)) (by first | exact ka_same | assumption | exact ka_ne1 (by first | assumption | exact Ne.symm (by assumption)) (by first | exact ka_same | assumption | exact ka_ne1 (by first | assumption | exact Ne.symm (by assumption)) (by first | exact ka_same | assumption | exact ka_ne1 (by first | assumption | exact Ne.symm (by assumption)) (by first | exact ka_same | assumption | exact ka_ne1 (by first | assumption | exact Ne.symm (by assumption)) (by first | exact ka_same | assumption))))))) (by first | exact ka_same | assumption | exact ka_ne1 (by first | assumption | exact Ne.symm (by assumption)) (by first | exact ka_same | assumption | exact ka_ne1 (by first | assumption | exact Ne.symm (by assumption)) (by first | exact ka_same | assumption | exact ka_ne1 (by first | assumption | exact Ne.symm (by assumption)) (by first | exact ka_same | assumption | exact ka_ne1 (by first | assumption | exact Ne.symm (by assumption)) (by first | exact ka_same | assumption | exact ka_ne1 (by first | assumption | exact Ne.symm (by assumption)) (by first | exact ka_same | assumption | exact ka_ne1 (by first | assumption | exact Ne.symm (by assumption)) (by first | exact ka_same | assumption))))))) (kn_orW hW0' hW1' (by omega) (by omega) hg) w', by omega, rfl⟩
  · refine ka_ifN (fun z => hu ((k3_le (by omega) (by omega)).mp z)) ?_
    refine ka_gI (by first | exact ka_same | assumption | exact ka_ne1 (by first | assumption | exact Ne.symm (by assumption)) (by first | exact ka_same | assumption | exact ka_ne1 (by first | assumption | exact Ne.symm (by assumption)) (by first | exact ka_same | assumption | exact ka_ne1 (by first | assumption | exact Ne.symm (by assumption)) (by first | exact ka_same | assumption | exact ka_ne1 (by first | assumption | exact Ne.symm (by assumption)) (by first | exact ka_same | assumption | exact ka_ne1 (by first | assumption | exact Ne.symm (by assumption)) (by first | exact ka_same | assumption | exact ka_ne1 (by first | assumption | exact Ne.symm (by assumption)) (by first | exact ka_same | assumption))))))) rfl rfl ?_
    refine ka_is (by first | exact ka_same | assumption | exact ka_ne1 (by first | assumption | exact Ne.symm (by assumption)) (by first | exact ka_same | assumption | exact ka_ne1 (by first | assumption | exact Ne.symm (by assumption)) (by first | exact ka_same | assumption | exact ka_ne1 (by first | assumption | exact Ne.symm (by assumption)) (by first | exact ka_same | assumption | exact ka_ne1 (by first | assumption | exact Ne.symm (by assumption)) (by first | exact ka_same | assumption | exact ka_ne1 (by first | assumption | exact Ne.symm (by assumption)) (by first | exact ka_same | assumption | exact ka_ne1 (by first | assumption | exact Ne.symm (by assumption)) (by first | exact ka_same | assumption))))))) rfl ?_
    refine ka_call (kn_ensure (l := a0) (b := b0) (u := u0) (n := n0) (c := u1) (st := st0) (f := f) (g := g0) (by first | exact ka_same | assumption | exact ka_ne1 (by first | assumption | exact Ne.symm (by assumption)) (by first | exact ka_same | assumption | exact ka_ne1 (by first | assumption | exact Ne.symm (by assumption)) (by first | exact ka_same | assumption | exact ka_ne1 (by first | assumption | exact Ne.symm (by assumption)) (by first | exact ka_same | assumption | exact ka_ne1 (by first | assumption | exact Ne.symm (by assumption)) (by first | exact ka_same | assumption | exact ka_ne1 (by first | assumption | exact Ne.symm (by assumption)) (by first | exact ka_same | assumption | exact ka_ne1 (by first | assumption | exact Ne.symm (by assumption)) (by first | exact ka_same | assumption))))))) (by first | exact ka_same | assumption | exact ka_ne1 (by first | assumption | exact Ne.symm (by assumption)) (by first | exact ka_same | assumption | exact ka_ne1 (by first | assumption | exact Ne.symm (by assumption)) (by first | exact ka_same | assumption | exact ka_ne1 (by first | assumption | exact Ne.symm (by assumption)) (by first | exact ka_same | assumption | exact ka_ne1 (by first | assumption | exact Ne.symm (by assumption)) (by first | exact ka_same | assumption | exact ka_ne1 (by first | assumption | exact Ne.symm (by assumption)) (by first | exact ka_same | assumption | exact ka_ne1 (by first | assumption | exact Ne.symm (by assumption)) (by first | exact ka_same | assumption))))))) hW0' hst0 (by omega) hw) (fun _ w' H' hp => ?_)
    obtain ⟨hw', hp⟩ := hp
    rcases hp with ⟨hle, rfl⟩ | ⟨hlt, a, n', g', ha, r1, r2, rfl, hW'⟩
    · refine ka_gI (by first | exact ka_same | assumption | exact ka_ne1 (by first | assumption | exact Ne.symm (by assumption)) (by first | exact ka_same | assumption | exact ka_ne1 (by first | assumption | exact Ne.symm (by assumption)) (by first | exact ka_same | assumption | exact ka_ne1 (by first | assumption | exact Ne.symm (by assumption)) (by first | exact ka_same | assumption | exact ka_ne1 (by first | assumption | exact Ne.symm (by assumption)) (by first | exact ka_same | assumption | exact ka_ne1 (by first | assumption | exact Ne.symm (by assumption)) (by first | exact ka_same | assumption | exact ka_ne1 (by first | assumption | exact Ne.symm (by assumption)) (by first | exact ka_same | assumption))))))) rfl rfl ?_
      refine ka_pI (by first | exact ka_same | assumption | exact ka_ne1 (by first | assumption | exact Ne.symm (by assumption)) (by first | exact ka_same | assumption | exact ka_ne1 (by first | assumption | exact Ne.symm (by assumption)) (by first | exact ka_same | assumption | exact ka_ne1 (by first | assumption | exact Ne.symm (by assumption)) (by first | exact ka_same | assumption | exact ka_ne1 (by first | assumption | exact Ne.symm (by assumption)) (by first | exact ka_same | assumption | exact ka_ne1 (by first | assumption | exact Ne.symm (by assumption)) (by first | exact ka_same | assumption | exact ka_ne1 (by first | assumption | exact Ne.symm (by assumption)) (by first | exact ka_same | assumption))))))) rfl rfl (Nat.le_of_ble_eq_true rfl) ?_
      rw [ka_up_comm n1, ka_up_up]
      refine ka_postE (kn_orLoop (a0 := a0) (a1 := a1) (b0 := b0) (b1 := b1) (n0 := n0) (n1 := m1) (u0 := u1) (u1 := u1) (c := min u0 u1) (st0 := st0) (st1 := st1) (g1 := g1) (by first | exact ka_same | assumption | exact ka_ne1 (by first | assumption | exact Ne.symm (by assumption)) (by first | exact ka_same | assumption | exact ka_ne1 (by first | assumption | exact Ne.symm (by assumption)) (by first | exact ka_same | assumption | exact ka_ne1 (by first | assumption | exact Ne.symm (by assumption)) (by first | exact ka_same | assumption | exact ka_ne1 (by first | assumption | exact Ne.symm (by assumption)) (by first | exact ka_same | assumption | exact ka_ne1 (by first | assumption | exact Ne.symm (by assumption)) (by first | exact ka_same | assumption | exact ka_ne1 (by first | assumption | exact Ne.symm (by assumption)) (by first | exact ka_same | assumption))))))) (by first | exact ka_same | assumption | exact ka_ne1 (by first | assumption | exact Ne.symm (by assumption)) (by first | exact ka_same | assumption | exact ka_ne1 (by first | assumption | exact Ne.symm (by assumption)) (by first | exact ka_same | assumption | exact ka_ne1 (by first | assumption | exact Ne.symm (by assumption)) (by first | exact ka_same | assumption | exact ka_ne1 (by first | assumption | exact Ne.symm (by assumption)) (by first | exact ka_same | assumption | exact ka_ne1 (by first | assumption | exact Ne.symm (by assumption)) (by first | exact ka_same | assumption | exact ka_ne1 (by first | assumption | exact Ne.symm (by assumption)) (by first | exact ka_same | assumption))))))) ka_same hab hb10 n2 (by omega) (by omega) (by omega) (by omega) (by omega) (by omega) (min u0 u1) 0 km_fuel g0 (by omega) (by unfold km_fuel; omega)) (fun _ w'' H' hp => ?_)
      obtain ⟨rfl, g, rfl, hg⟩ := hp
      exact ⟨_, hend b0 n0 u1 st0 g _ hst0 hb0 hba hb01 n2 (ka_ag_new (ka_ag_l ka_ag_refl) (by rw [ka_ne hb01, ka_ne hba]; exact hb0)) ((ka_ne n2).trans ka_same) ka_same (kn_orW hW0' hW1' (by omega) (by omega) hg) w'', hw', rfl⟩
    · obtain ⟨f1, f2, ha⟩ := ka_fr ha
      obtain ⟨f3, f4, ha⟩ := ka_fr ha
      obtain ⟨f5, f6, ha⟩ := ka_fr ha
      obtain ⟨f7, f8, ha⟩ := ka_fr ha
      refine ka_gI (by first | exact ka_same | assumption | exact ka_ne1 (by first | assumption | exact Ne.symm (by assumption)) (by first | exact ka_same | assumption | exact ka_ne1 (by first | assumption | exact Ne.symm (by assumption)) (by first | exact ka_same | assumption | exact ka_ne1 (by first | assumption | exact Ne.symm (by assumption)) (by first | exact ka_same | assumption | exact ka_ne1 (by first | assumption | exact Ne.symm (by assumption)) (by first | exact ka_same | assumption | exact ka_ne1 (by first | assumption | exact Ne.symm (by assumption)) (by first | exact ka_same | assumption | exact ka_ne1 (by first | assumption | exact Ne.symm (by assumption)) (by first | exact ka_same | assumption))))))) rfl rfl ?_
      refine ka_pI (by first | exact ka_same | assumption | exact ka_ne1 (by first | assumption | exact Ne.symm (by assumption)) (by first | exact ka_same | assumption | exact ka_ne1 (by first | assumption | exact Ne.symm (by assumption)) (by first | exact ka_same | assumption | exact ka_ne1 (by first | assumption | exact Ne.symm (by assumption)) (by first | exact ka_same | assumption | exact ka_ne1 (by first | assumption | exact Ne.symm (by assumption)) (by first | exact ka_same | assumption | exact ka_ne1 (by first | assumption | exact Ne.symm (by assumption)) (by first | exact ka_same | assumption | exact ka_ne1 (by first | assumption | exact Ne.symm (by assumption)) (by first | exact ka_same | assumption))))))) rfl rfl (Nat.le_of_ble_eq_true rfl) ?_
      rw [ka_up_up, ka_up_comm f3]
      refine ka_postE (kn_orLoop (a0 := a0) (a1 := a1) (b0 := a) (b1 := b1) (n0 := n') (n1 := m1) (u0 := u1) (u1 := u1) (c := min u0 u1) (st0 := 0) (st1 := st1) (g1 := g1) (by first | exact ka_same | assumption | exact ka_ne1 (by first | assumption | exact Ne.symm (by assumption)) (by first | exact ka_same | assumption | exact ka_ne1 (by first | assumption | exact Ne.symm (by assumption)) (by first | exact ka_same | assumption | exact ka_ne1 (by first | assumption | exact Ne.symm (by assumption)) (by first | exact ka_same | assumption | exact ka_ne1 (by first | assumption | exact Ne.symm (by assumption)) (by first | exact ka_same | assumption | exact ka_ne1 (by first | assumption | exact Ne.symm (by assumption)) (by first | exact ka_same | assumption | exact ka_ne1 (by first | assumption | exact Ne.symm (by assumption)) (by first | exact ka_same | assumption))))))) (by first | exact ka_same | assumption | exact ka_ne1 (by first | assumption | exact Ne.symm (by assumption)) (by first | exact ka_same | assumption | exact ka_ne1 (by first | assumption | exact Ne.symm (by assumption)) (by first | exact ka_same | assumption | exact ka_ne1 (by first | assumption | exact Ne.symm (by assumption)) (by first | exact ka_same | assumption | exact ka_ne1 (by first | assumption | exact Ne.symm (by assumption)) (by first | exact ka_same | assumption | exact ka_ne1 (by first | assumption | exact Ne.symm (by assumption)) (by first | exact ka_same | assumption | exact ka_ne1 (by first | assumption | exact Ne.symm (by assumption)) (by first | exact ka_same | assumption))))))) ka_same f8 f6 f4 (by omega) (by omega) (by omega) (by omega) (by omega) (by omega) (min u0 u1) 0 km_fuel g' (by omega) (by unfold km_fuel; omega)) (fun _ w'' H' hp => ?_)
      obtain ⟨rfl, g, rfl, hg⟩ := hp
      refine ⟨_, hend a n' u1 0 g _ (Or.inl rfl) ha f7 f5 f4 ?_ ((ka_ne f4).trans ka_same) ka_same (kn_orW hW' hW1' (by omega) (by omega) hg) w'', hw', rfl⟩
      have hbb : ka_up (ka_up H a1 (ka_ob 31 [.ref b1, .int (Int32.ofNat u1), .int st1])) b1 (ka_aJ m1 g1) b0 = none := by rw [ka_ne hb01, ka_ne hba]; exact hb0
      have haa : ka_up (ka_up H a1 (ka_ob 31 [.ref b1, .int (Int32.ofNat u1), .int st1])) b1 (ka_aJ m1 g1) a = none := by rw [ka_ne f5, ka_ne f7]; exact ha
      exact ka_ag_new (ka_ag_l (ka_ag_new (ka_ag_l ka_ag_refl) hbb)) haa
end KNB
