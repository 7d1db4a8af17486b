set_option maxRecDepth 100000
/-! ===== lists: ArrayList and its iterator ===== -/
def ka_ent (Z : ka_Z) (w : Nat) (G H : ka_H) : Prop := ∀ σ, ka_R Z w G σ → ka_R Z w H σ
theorem ka_pureE {α : Type} {Z : ka_Z} {w : Nat} {G H : ka_H} {Q : α → Nat → ka_H → Prop} {a : α} (h : ka_ent Z w G H) (k : Q a w H) : ka_T Z (km_pure a) w G Q := fun σ hR => ⟨a, σ, w, H, rfl, h σ hR, k⟩
theorem ka_entle {Z : ka_Z} {w : Nat} {G H : ka_H} (h : ka_le H G) : ka_ent Z w G H := fun _ hR => ka_R_drop hR h
theorem ka_entpre {α : Type} {Z : ka_Z} {w : Nat} {G H : ka_H} {Q : α → Nat → ka_H → Prop} {x : km_M α} (h : ka_ent Z w G H) (k : ka_T Z x w H Q) : ka_T Z x w G Q := fun σ hR => k σ (h σ hR)
abbrev ka_rr (f : Bool) (n : Nat) (g : Nat → Option Nat) : ka_O := .inl (f, .inl (4, n, .inr (.inr (.inr (.inr g)))))
/-- the array behind a list comes to light -/
theorem ka_open {α : Type} {Z : ka_Z} {w : Nat} {H : ka_H} {Q : α → Nat → ka_H → Prop} {x : km_M α} {l : Nat} {mc : Int32} {xs : List Nat} (hl : H l = some (ka_ls mc xs))
    (k : ∀ (b : Nat) (f : Bool) (n : Nat) (g : Nat → Option Nat), xs.length ≤ n → n ≤ 400 → (f = false → n = 0) → (n = 0 → Z.1 0 = some b) → (∀ i, i < xs.length → g i = xs[i]?) → b ≠ l → l ≠ b → (f = true → H b = none) → (∀ o, H b = some o → o = ka_rr f n g) → ka_T Z x w (ka_up (ka_up H l (ka_ob 30 [.int mc, .ref b, .int (Int32.ofNat xs.length)])) b (ka_rr f n g)) Q) : ka_T Z x w H Q := by
  intro σ hR
  have hR0 := hR
  obtain ⟨h1, h2, h3, B, h4, h5⟩ := hR
  obtain ⟨p1, f, n, g, p2, p3, p4, p5, p6, p7⟩ := h4 l _ hl
  have hbl : B l ≠ l := fun e => by rw [e, p1] at p2; cases p2
  have hbn : f = true → H (B l) = none := fun e => (h5 l _ hl trivial _ (by rw [p2, e])).1
  have hbo : ∀ o, H (B l) = some o → o = ka_rr f n g := fun o ho => by
    have q := h4 _ _ ho
    rcases o with ⟨f', e⟩ | ⟨mc, xs⟩ | xs | f'
    · have q2 : σ.2.2.2 (B l) = some (f', e) := q
      rw [p2] at q2
      cases q2
      rfl
    · exact absurd (p2.symm.trans q.1) (by simp)
    · obtain ⟨h', g', q2, -⟩ := q
      exact absurd (p2.symm.trans q2) (by simp)
    · obtain ⟨u, st, n', g', q2, -⟩ := q
      exact absurd (p2.symm.trans q2) (by simp)
  refine k (B l) f n g p3 p4 p5 p6 p7 hbl hbl.symm hbn hbo σ ⟨h1, h2, h3, B, fun a o ha => ?_, fun a o ha ho e he => ?_⟩
  · by_cases e1 : a = B l
    · subst e1
      rw [ka_same] at ha
      cases ha
      exact p2
    · rw [ka_ne e1] at ha
      by_cases e2 : a = l
      · subst e2
        rw [ka_same] at ha
        cases ha
        exact p1
      · rw [ka_ne e2] at ha
        exact h4 a o ha
  · by_cases e1 : a = B l
    · subst e1
      rw [ka_same] at ha
      cases ha
      exact ho.elim
    · rw [ka_ne e1] at ha
      by_cases e2 : a = l
      · subst e2
        rw [ka_same] at ha
        cases ha
        exact ho.elim
      · rw [ka_ne e2] at ha
        obtain ⟨g1, g2⟩ := h5 a o ha ho e he
        have n1 : B a ≠ B l := fun z => e2 (g2 l _ hl trivial z.symm).symm
        have n2 : B a ≠ l := fun z => by rw [z, hl] at g1; cases g1
        refine ⟨by rw [ka_ne n1, ka_ne n2]; exact g1, fun a' o' x' y' z' => ?_⟩
        by_cases e3 : a' = B l
        · subst e3
          rw [ka_same] at x'
          cases x'
          exact y'.elim
        · rw [ka_ne e3] at x'
          by_cases e4 : a' = l
          · subst e4
            rw [ka_same] at x'
            cases x'
            exact y'.elim
          · rw [ka_ne e4] at x'
            exact g2 a' o' x' y' z'
/-- all but l is in G too -/
def ka_ag (H G : ka_H) (l : Nat) : Prop := ∀ x o, x ≠ l → H x = some o → G x = some o
theorem ka_ag_refl {H : ka_H} {l : Nat} : ka_ag H H l := fun _ _ _ h => h
theorem ka_ag_l {H G : ka_H} {l : Nat} {o : ka_O} (h : ka_ag H G l) : ka_ag H (ka_up G l o) l := fun x q hx hq => (ka_ne hx).trans (h x q hx hq)
theorem ka_ag_new {H G : ka_H} {l a : Nat} {o : ka_O} (h : ka_ag H G l) (ha : H a = none) : ka_ag H (ka_up G a o) l := fun x q hx hq => (ka_ne (ka_dom hq ha)).trans (h x q hx hq)
theorem ka_ag_b {H G : ka_H} {l b : Nat} {o : ka_O} (h : ka_ag H G l) (hb : ∀ q, H b = some q → q = o) : ka_ag H (ka_up G b o) l := fun x q hx hq => by
  by_cases e : x = b
  · subst e
    rw [ka_same, hb q hq]
  · exact (ka_ne e).trans (h x q hx hq)
/-- the array goes behind the list again -/
theorem ka_fold {Z : ka_Z} {w : Nat} {H G : ka_H} {l b n : Nat} {mc : Int32} {xs : List Nat} {f : Bool} {g : Nat → Option Nat} (hag : ka_ag H G l) (hG : G l = some (ka_ob 30 [.int mc, .ref b, .int (Int32.ofNat xs.length)])) (hb : G b = some (ka_rr f n g)) (p3 : xs.length ≤ n) (p4 : n ≤ 400) (p5 : f = false → n = 0) (p6 : n = 0 → Z.1 0 = some b) (p7 : ∀ i, i < xs.length → g i = xs[i]?) (hn : f = true → H b = none) : ka_ent Z w G (ka_up H l (ka_ls mc xs)) := by
  intro σ hR
  obtain ⟨h1, h2, h3, B, h4, h5⟩ := hR
  have hbl : b ≠ l := fun e => by rw [e, hG] at hb; cases hb
  have m1 : σ.2.2.2 l = some (true, .inr (30, [.int mc, .ref b, .int (Int32.ofNat xs.length)])) := h4 l _ hG
  have m2 : σ.2.2.2 b = some (f, .inl (4, n, .inr (.inr (.inr (.inr g))))) := h4 b _ hb
  refine ⟨h1, h2, h3, fun x => if x = l then b else B x, fun a o ha => ?_, fun a o ha ho e he => ?_⟩
  · by_cases e1 : a = l
    · subst e1
      rw [ka_same] at ha
      cases ha
      simp only [if_true]
      exact ⟨m1, f, n, g, m2, p3, p4, p5, p6, p7⟩
    · rw [ka_ne e1] at ha
      simp only [if_neg e1]
      exact h4 a o (hag a o e1 ha)
  · by_cases e1 : a = l
    · subst e1
      simp only [if_true] at he ⊢
      rw [m2] at he
      have hf : f = true := (Prod.mk.inj (Option.some.inj he)).1
      refine ⟨(ka_ne hbl).trans (hn hf), fun a' o' x' y' z' => ?_⟩
      by_cases e2 : a' = a
      · exact e2
      · simp only [if_neg e2] at z'
        rw [ka_ne e2] at x'
        have g1 := (h5 a' o' (hag a' o' e2 x') y' (.inl (4, n, .inr (.inr (.inr (.inr g))))) (by rw [z', m2, hf])).1
        rw [z', hb] at g1
        cases g1
    · rw [ka_ne e1] at ha
      simp only [if_neg e1] at he ⊢
      obtain ⟨g1, g2⟩ := h5 a o (hag a o e1 ha) ho e he
      have n2 : B a ≠ l := fun z => by rw [z, hG] at g1; cases g1
      have n1 : B a ≠ b := fun z => by rw [z, hb] at g1; cases g1
      refine ⟨?_, fun a' o' x' y' z' => ?_⟩
      · rw [ka_ne n2]
        cases hz : H (B a) with
        | none => rfl
        | some q => rw [hag _ q n2 hz] at g1; cases g1
      · by_cases e2 : a' = l
        · subst e2
          simp only [if_true] at z'
          exact absurd z'.symm n1
        · simp only [if_neg e2] at z'
          rw [ka_ne e2] at x'
          exact g2 a' o' (hag a' o' e2 x') y' z'
theorem ka_fold_id {Z : ka_Z} {w : Nat} {H G : ka_H} {l b n : Nat} {mc : Int32} {xs : List Nat} {f : Bool} {g : Nat → Option Nat} (hl : H l = some (ka_ls mc xs)) (hag : ka_ag H G l) (hG : G l = some (ka_ob 30 [.int mc, .ref b, .int (Int32.ofNat xs.length)])) (hb : G b = some (ka_rr f n g)) (p3 : xs.length ≤ n) (p4 : n ≤ 400) (p5 : f = false → n = 0) (p6 : n = 0 → Z.1 0 = some b) (p7 : ∀ i, i < xs.length → g i = xs[i]?) (hn : f = true → H b = none) : ka_ent Z w G H := by
  have h := ka_fold (Z := Z) (w := w) hag hG hb p3 p4 p5 p6 p7 hn
  rw [ka_up_id hl] at h
  exact h
/-- arraycopy of references -/
theorem ka_cpR {α : Type} {Z : ka_Z} {w : Nat} {H : ka_H} {Q : α → Nat → ka_H → Prop} {a b k n0 n1 s d n : Nat} {fl : Bool} {g g1 : Nat → Option Nat} {sp dp m : Int32} {f : Unit → km_M α} (ha : H a = some (.inl (fl, .inl (k, n0, .inr (.inr (.inr (.inr g))))))) (hb : H b = some (ka_aR k n1 g1)) (hs : sp = Int32.ofNat s) (hd : dp = Int32.ofNat d) (hm : m = Int32.ofNat n) (h1 : s + n ≤ n0) (h2 : d + n ≤ n1) (h3 : n0 < 2 ^ 31) (h4 : n1 < 2 ^ 31) (kk : ka_T Z (f ()) w (ka_up H b (ka_aR k n1 (va_cpy g g1 s d n))) Q) : ka_T Z (km_bind (km_cp (some a) sp (some b) dp m) f) w H Q := ka_wrr hb (fun σ hR => by
  have e1 := ka_raw hR ha
  have e2 := ka_raw hR hb
  subst hs; subst hd; subst hm
  have c1 : ¬ Int32.ofNat s < 0 := k3_neg (by omega)
  have c2 : ¬ Int32.ofNat d < 0 := k3_neg (by omega)
  have c3 : ¬ Int32.ofNat n < 0 := k3_neg (by omega)
  have c4 : (Int32.ofNat s).toNatClampNeg = s := k3_nat (by omega)
  have c5 : (Int32.ofNat d).toNatClampNeg = d := k3_nat (by omega)
  have c6 : (Int32.ofNat n).toNatClampNeg = n := k3_nat (by omega)
  unfold km_ar
  simp only [e1, e2, c1, c2, c3, c4, c5, c6, h1, h2]
  rfl) kk
theorem ka_getC {α : Type} {Z : ka_Z} {w : Nat} {H : ka_H} {Q : α → Nat → ka_H → Prop} {a n : Nat} {fl : Bool} {g : Nat → Option Nat} {f : Option Nat → km_M α} (ha : H a = some (ka_rr fl n g)) (hz : fl = false → Z.1 0 = some a) (k : ka_T Z (f (Z.1 1)) w H Q) : ka_T Z (km_bind (km_getC (some a)) f) w H Q := ka_rdr (fun σ hR => by
  have h1 := ka_raw hR ha
  unfold km_ar
  cases fl with
  | true =>
    simp only [h1, hR.1.1]
  | false =>
    simp only [h1, hR.1.1, hz rfl]
    simp) k
theorem k3_one : (1 : Int32) = Int32.ofNat 1 := rfl
theorem k3_zero : (0 : Int32) = Int32.ofNat 0 := rfl
theorem k3_succ {a : Nat} : Int32.ofNat a + 1 = Int32.ofNat (a + 1) := k3_add
theorem k3_pred {a : Nat} (h : 1 ≤ a) : Int32.ofNat a - 1 = Int32.ofNat (a - 1) := k3_sub h
section KAL
variable {Z : ka_Z} {w : Nat} {H : ka_H} {l : Nat} {mc : Int32} {xs : List Nat}
/-- only looked at: the answer, and nothing else -/
def ka_V {α : Type} (w : Nat) (H : ka_H) (v : α) : α → Nat → ka_H → Prop := fun r w' H' => r = v ∧ w' = w ∧ H' = H
theorem ka_use {α β : Type} {Q : β → Nat → ka_H → Prop} {x : km_M α} {f : α → km_M β} {v : α} (h : ka_T Z x w H (ka_V w H v)) (k : ka_T Z (f v) w H Q) : ka_T Z (km_bind x f) w H Q := ka_call h (fun r w' H' hp => by
  obtain ⟨rfl, rfl, rfl⟩ := hp
  exact k)
theorem kl_size (hl : H l = some (ka_ls mc xs)) : ka_T Z (pm_J2_size (some l)) w H (ka_V w H (Int32.ofNat xs.length)) := by
  refine ka_open hl (fun b f n g p3 p4 p5 p6 p7 n1 n2 hn hb => ?_)
  unfold pm_J2_size
  refine ka_gI (by first | exact ka_same | assumption | exact ka_ne1 (by first | assumption | exact Ne.symm (by assumption)) (by first | exact ka_same | assumption | exact ka_ne1 (by first | assumption | exact Ne.symm (by assumption)) (by first | exact ka_same | assumption | exact ka_ne1 (by first | assumption | exact Ne.symm (by assumption)) (by first | exact ka_same | assumption | exact ka_ne1 (by first | assumption | exact Ne.symm (by assumption)) (by first | exact ka_same | assumption | exact ka_ne1 (by first | assumption | exact Ne.symm (by assumption)) (by first | exact ka_same | assumption | exact ka_ne1 (by first | assumption | exact Ne.symm (by assumption)) (by first | exact ka_same | assumption))))))) rfl rfl ?_
  exact ka_pureE (ka_fold_id hl (ka_ag_b (ka_ag_l ka_ag_refl) hb) (by first | exact ka_same | assumption | exact ka_ne1 (by first | assumption | exact Ne.symm (by assumption)) (by first | exact ka_same | assumption | exact ka_ne1 (by first | assumption | exact Ne.symm (by assumption)) (by first | exact ka_same | assumption | exact ka_ne1 (by first | assumption | exact Ne.symm (by assumption)) (by first | exact ka_same | assumption | exact ka_ne1 (by first | assumption | exact Ne.symm (by assumption)) (by first | exact ka_same | assumption | exact ka_ne1 (by first | assumption | exact Ne.symm (by assumption)) (by first | exact ka_same | assumption | exact ka_ne1 (by first | assumption | exact Ne.symm (by assumption)) (by first | exact ka_same | assumption))))))) (by first | exact ka_same | assumption | exact ka_ne1 (by first | assumption | exact Ne.symm (by assumption)) (by first | exact ka_same | assumption | exact ka_ne1 (by first | assumption | exact Ne.symm (by assumption)) (by first | exact ka_same | assumption | exact ka_ne1 (by first | assumption | exact Ne.symm (by assumption)) (by first | exact ka_same | assumption | exact ka_ne1 (by first | assumption | exact Ne.symm (by assumption)) (by first | exact ka_same | assumption | exact ka_ne1 (by first | assumption | exact Ne.symm (by assumption)) (by first | exact ka_same | assumption | exact ka_ne1 (by first | assumption | exact Ne.symm (by assumption)) (by first | exact ka_same | assumption))))))) p3 p4 p5 p6 p7 hn) ⟨rfl, rfl, rfl⟩
theorem kl_isEmpty (hl : H l = some (ka_ls mc xs)) (hx : xs.length < 2 ^ 31) : ka_T Z (pm_J2_isEmpty (some l)) w H (ka_V w H (if xs = [] then 1 else 0)) := by
  refine ka_open hl (fun b f n g p3 p4 p5 p6 p7 n1 n2 hn hb => ?_)
  unfold pm_J2_isEmpty
  refine ka_gI (by first | exact ka_same | assumption | exact ka_ne1 (by first | assumption | exact Ne.symm (by assumption)) (by first | exact ka_same | assumption | exact ka_ne1 (by first | assumption | exact Ne.symm (by assumption)) (by first | exact ka_same | assumption | exact ka_ne1 (by first | assumption | exact Ne.symm (by assumption)) (by first | exact ka_same | assumption | exact ka_ne1 (by first | assumption | exact Ne.symm (by assumption)) (by first | exact ka_same | assumption | exact ka_ne1 (by first | assumption | exact Ne.symm (by assumption)) (by first | exact ka_same | assumption | exact ka_ne1 (by first | assumption | exact Ne.symm (by assumption)) (by first | exact ka_same | assumption))))))) rfl rfl ?_
  have he := ka_fold_id (Z := Z) (w := w) hl (ka_ag_b (ka_ag_l ka_ag_refl) hb) (by first | exact ka_same | assumption | exact ka_ne1 (by first | assumption | exact Ne.symm (by assumption)) (by first | exact ka_same | assumption | exact ka_ne1 (by first | assumption | exact Ne.symm (by assumption)) (by first | exact ka_same | assumption | exact ka_ne1 (by first | assumption | exact Ne.symm (by assumption)) (by first | exact ka_same | assumption | exact ka_ne1 (by first | assumption | exact Ne.symm (by assumption)) (by first | exact ka_same | assumption | exact ka_ne1 (by first | assumption | exact Ne.symm (by assumption)) (by first | exact ka_same | assumption | exact ka_ne1 (by first | assumption | exact Ne.symm (by assumption)) (by first | exact ka_same | assumption))))))) (by first | exact ka_same | assumption | exact ka_ne1 (by first | assumption | exact Ne.symm (by assumption)) (by first | exact ka_same | assumption | exact ka_ne1 (by first | assumption | exact Ne.symm (by assumption)) (by first | exact ka_same | assumption | exact ka_ne1 (by first | assumption | exact Ne.symm (by assumption)) (by first | exact ka_same | assumption | exact ka_ne1 (by first | assumption | exact Ne.symm (by assumption)) (by first | exact ka_same | assumption | exact ka_ne1 (by first | assumption | exact Ne.symm (by assumption)) (by first | exact ka_same | assumption | exact ka_ne1 (by first | assumption | exact Ne.symm (by assumption)) (by first | exact ka_same | assumption))))))) p3 p4 p5 p6 p7 hn
  by_cases hz : xs = []
  · subst hz
    refine ka_ifN (fun h => h rfl) ?_
    refine ka_ret rfl ?_
    exact ka_pureE he ⟨rfl, rfl, rfl⟩
  · have hpos : xs.length ≠ 0 := fun h => hz (List.length_eq_zero_iff.mp h)
    refine ka_ifP (fun h => hpos ((k3_eq (b := 0) hx (by decide)).mp h)) ?_
    refine ka_ret rfl ?_
    rw [if_neg hz]
    exact ka_pureE he ⟨rfl, rfl, rfl⟩
theorem kl_chk {i n : Nat} (hi : i < n) (hn : n < 2 ^ 31) : ka_T Z (pm_J10_checkIndex (Int32.ofNat i) (Int32.ofNat n)) w H (ka_V w H (Int32.ofNat i)) := by
  unfold pm_J10_checkIndex pm_J11_checkIndex
  refine ka_use (v := Int32.ofNat i) ?_ (ka_pure ⟨rfl, rfl, rfl⟩)
  refine ka_ifN (k3_neg (by omega)) (ka_ifP ((k3_lt (by omega) hn).mpr hi) (ka_pure ⟨rfl, rfl, rfl⟩))
theorem kl_get {i : Nat} {v : Nat} (hl : H l = some (ka_ls mc xs)) (hi : xs[i]? = some v) : ka_T Z (pm_J2_get (some l) (Int32.ofNat i)) w H (ka_V w H (some v)) := by
  obtain ⟨hlt, -⟩ := List.getElem?_eq_some_iff.mp hi
  refine ka_open hl (fun b f n g p3 p4 p5 p6 p7 n1 n2 hn hb => ?_)
  unfold pm_J2_get pm_J2_elementData
  refine ka_gI (by first | exact ka_same | assumption | exact ka_ne1 (by first | assumption | exact Ne.symm (by assumption)) (by first | exact ka_same | assumption | exact ka_ne1 (by first | assumption | exact Ne.symm (by assumption)) (by first | exact ka_same | assumption | exact ka_ne1 (by first | assumption | exact Ne.symm (by assumption)) (by first | exact ka_same | assumption | exact ka_ne1 (by first | assumption | exact Ne.symm (by assumption)) (by first | exact ka_same | assumption | exact ka_ne1 (by first | assumption | exact Ne.symm (by assumption)) (by first | exact ka_same | assumption | exact ka_ne1 (by first | assumption | exact Ne.symm (by assumption)) (by first | exact ka_same | assumption))))))) rfl rfl ?_
  refine ka_use (kl_chk hlt (by omega)) ?_
  refine ka_is (by first | exact ka_same | assumption | exact ka_ne1 (by first | assumption | exact Ne.symm (by assumption)) (by first | exact ka_same | assumption | exact ka_ne1 (by first | assumption | exact Ne.symm (by assumption)) (by first | exact ka_same | assumption | exact ka_ne1 (by first | assumption | exact Ne.symm (by assumption)) (by first | exact ka_same | assumption | exact ka_ne1 (by first | assumption | exact Ne.symm (by assumption)) (by first | exact ka_same | assumption | exact ka_ne1 (by first | assumption | exact Ne.symm (by assumption)) (by first | exact ka_same | assumption | exact ka_ne1 (by first | assumption | exact Ne.symm (by assumption)) (by first | exact ka_same | assumption))))))) rfl ?_
  refine ka_use (v := some v) ?_ (ka_pureE (ka_fold_id hl (ka_ag_b (ka_ag_l ka_ag_refl) hb) (by first | exact ka_same | assumption | exact ka_ne1 (by first | assumption | exact Ne.symm (by assumption)) (by first | exact ka_same | assumption | exact ka_ne1 (by first | assumption | exact Ne.symm (by assumption)) (by first | exact ka_same | assumption | exact ka_ne1 (by first | assumption | exact Ne.symm (by assumption)) (by first | exact ka_same | assumption | exact ka_ne1 (by first | assumption | exact Ne.symm (by assumption)) (by first | exact ka_same | assumption | exact ka_ne1 (by first | assumption | exact Ne.symm (by assumption)) (by first | exact ka_same | assumption | exact ka_ne1 (by first | assumption | exact Ne.symm (by assumption)) (by first | exact ka_same | assumption))))))) (by first | exact ka_same | assumption | exact ka_ne1 (by first | assumption | exact Ne.symm (by assumption)) (by first | exact ka_same | assumption | exact ka_ne1 (by first | assumption | exact Ne.symm (by assumption)) (by first | exact ka_same | assumption | exact ka_ne1 (by first | assumption | exact Ne.symm (by assumption)) (by first | exact ka_same | assumption | exact ka_ne1 (by first | assumption | exact Ne.symm (by assumption)) (by first | exact ka_same | assumption | exact ka_ne1 (by first | assumption | exact Ne.symm (by assumption)) (by first | exact ka_same | assumption | exact ka_ne1 (by first | assumption | exact Ne.symm (by assumption)) (by first | exact ka_same | assumption))))))) p3 p4 p5 p6 p7 hn) ⟨rfl, rfl, rfl⟩)
  refine ka_gR (by first | exact ka_same | assumption | exact ka_ne1 (by first | assumption | exact Ne.symm (by assumption)) (by first | exact ka_same | assumption | exact ka_ne1 (by first | assumption | exact Ne.symm (by assumption)) (by first | exact ka_same | assumption | exact ka_ne1 (by first | assumption | exact Ne.symm (by assumption)) (by first | exact ka_same | assumption | exact ka_ne1 (by first | assumption | exact Ne.symm (by assumption)) (by first | exact ka_same | assumption | exact ka_ne1 (by first | assumption | exact Ne.symm (by assumption)) (by first | exact ka_same | assumption | exact ka_ne1 (by first | assumption | exact Ne.symm (by assumption)) (by first | exact ka_same | assumption))))))) rfl rfl ?_
  refine ka_ldR (by first | exact ka_same | assumption | exact ka_ne1 (by first | assumption | exact Ne.symm (by assumption)) (by first | exact ka_same | assumption | exact ka_ne1 (by first | assumption | exact Ne.symm (by assumption)) (by first | exact ka_same | assumption | exact ka_ne1 (by first | assumption | exact Ne.symm (by assumption)) (by first | exact ka_same | assumption | exact ka_ne1 (by first | assumption | exact Ne.symm (by assumption)) (by first | exact ka_same | assumption | exact ka_ne1 (by first | assumption | exact Ne.symm (by assumption)) (by first | exact ka_same | assumption | exact ka_ne1 (by first | assumption | exact Ne.symm (by assumption)) (by first | exact ka_same | assumption))))))) (k3_in (by omega) (by omega)) (ka_pure ⟨?_, rfl, rfl⟩)
  rw [k3_nat (by omega), p7 i hlt, hi]
end KAL
