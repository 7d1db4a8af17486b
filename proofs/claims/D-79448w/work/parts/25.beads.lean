set_option maxRecDepth 100000
/-! ===== beads, iterators as such ===== -/
/-- a bead: its address, number, whether it is large (1, 0), fineness -/
abbrev kB : Type := Nat × Int32 × Int32 × Int32
def kb_bead (H : ka_H) (b : kB) : Prop := H b.1 = some (ka_ob 14 [.int b.2.1, .int b.2.2.1, .int b.2.2.2])
/-- r holds its beads in the list l -/
def kb_B (H : ka_H) (r l : Nat) : Prop := ∃ (c : Nat) (fs : List Value), H r = some (ka_ob c (.ref l :: fs)) ∧ (c = 2 ∨ c = 7 ∨ c = 12)
/-- the list l holds these beads -/
def kb_L (H : ka_H) (l : Nat) (bs : List kB) : Prop := (∃ mc, H l = some (ka_ls mc (bs.map (·.1)))) ∧ ∀ b ∈ bs, kb_bead H b
section KBE
variable {Z : ka_Z} {w : Nat} {H : ka_H}
theorem kb_fit {v : Int32} (h : v = 0 ∨ v = 1) : km_fitB .boolean v = true := by
  rcases h with e | e <;> subst e <;> rfl
theorem ka_gB {α : Type} {Q : α → Nat → ka_H → Prop} {r l : Nat} {f : Option Nat → km_M α} (h : kb_B H r l) (k : ka_T Z (f (some l)) w H Q) : ka_T Z (km_bind (km_gR [(2, 0), (7, 0), (12, 0)] (some r)) f) w H Q := by
  obtain ⟨c, fs, h1, h2⟩ := h
  rcases h2 with e | e | e
  · subst e
    exact ka_gR h1 rfl rfl k
  · subst e
    exact ka_gR h1 rfl rfl k
  · subst e
    exact ka_gR h1 rfl rfl k
theorem ka_dB {α β : Type} {Q : α → Nat → ka_H → Prop} {r l : Nat} {x : km_M β} {f : β → km_M α} (h : kb_B H r l) (k : ka_T Z (km_bind x f) w H Q) : ka_T Z (km_bind (km_disp (some r) [(2, x), (7, x), (12, x)]) f) w H Q := by
  obtain ⟨c, fs, h1, h2⟩ := h
  rcases h2 with e | e | e
  · subst e
    exact ka_disp h1 rfl k
  · subst e
    exact ka_disp h1 rfl k
  · subst e
    exact ka_disp h1 rfl k
theorem kb_size {r l : Nat} {mc : Int32} {xs : List Nat} (h : kb_B H r l) (hl : H l = some (ka_ls mc xs)) : ka_T Z (pm_X2_size (some r)) w H (ka_V w H (Int32.ofNat xs.length)) := by
  unfold pm_X2_size
  refine ka_gB h ?_
  refine ka_is (by first | exact ka_same | assumption | exact ka_ne1 (by first | assumption | exact Ne.symm (by assumption)) (by first | exact ka_same | assumption | exact ka_ne1 (by first | assumption | exact Ne.symm (by assumption)) (by first | exact ka_same | assumption | exact ka_ne1 (by first | assumption | exact Ne.symm (by assumption)) (by first | exact ka_same | assumption | exact ka_ne1 (by first | assumption | exact Ne.symm (by assumption)) (by first | exact ka_same | assumption | exact ka_ne1 (by first | assumption | exact Ne.symm (by assumption)) (by first | exact ka_same | assumption | exact ka_ne1 (by first | assumption | exact Ne.symm (by assumption)) (by first | exact ka_same | assumption))))))) rfl ?_
  exact ka_use (kl_size hl) (ka_pure ⟨rfl, rfl, rfl⟩)
theorem kb_init {r c : Nat} {fs : List Value} {w0 : Value} (hE : ka_E0 Z) (hr : H r = some (ka_ob c (w0 :: fs))) (hc : c = 2 ∨ c = 7 ∨ c = 12) (hw : 8 ≤ w) : ka_T Z (pm_X2_init (some r)) w H (fun _ w' H' => w' = w - 8 ∧ ∃ l mc, H l = none ∧ H' = ka_up (ka_up H l (ka_ls mc [])) r (ka_ob c (.ref l :: fs))) := by
  unfold pm_X2_init
  refine ka_nn ?_
  refine ka_new (by omega) (fun l hl => ?_)
  have hrl : r ≠ l := ka_dom hr hl
  refine ka_nn ?_
  refine ka_call (kl_init hE ka_same) (fun _ w' H' hp => ?_)
  obtain ⟨rfl, mc, rfl⟩ := hp
  rw [ka_up_up]
  rcases hc with e | e | e
  · subst e
    refine ka_pR (fs := w0 :: fs) (c := 2) (by first | exact ka_same | assumption | exact ka_ne1 (by first | assumption | exact Ne.symm (by assumption)) (by first | exact ka_same | assumption | exact ka_ne1 (by first | assumption | exact Ne.symm (by assumption)) (by first | exact ka_same | assumption | exact ka_ne1 (by first | assumption | exact Ne.symm (by assumption)) (by first | exact ka_same | assumption | exact ka_ne1 (by first | assumption | exact Ne.symm (by assumption)) (by first | exact ka_same | assumption | exact ka_ne1 (by first | assumption | exact Ne.symm (by assumption)) (by first | exact ka_same | assumption | exact ka_ne1 (by first | assumption | exact Ne.symm (by assumption)) (by first | exact ka_same | assumption))))))) rfl (Nat.succ_pos _) ?_
    exact ka_pure ⟨rfl, l, mc, hl, rfl⟩
  · subst e
    refine ka_pR (fs := w0 :: fs) (c := 7) (by first | exact ka_same | assumption | exact ka_ne1 (by first | assumption | exact Ne.symm (by assumption)) (by first | exact ka_same | assumption | exact ka_ne1 (by first | assumption | exact Ne.symm (by assumption)) (by first | exact ka_same | assumption | exact ka_ne1 (by first | assumption | exact Ne.symm (by assumption)) (by first | exact ka_same | assumption | exact ka_ne1 (by first | assumption | exact Ne.symm (by assumption)) (by first | exact ka_same | assumption | exact ka_ne1 (by first | assumption | exact Ne.symm (by assumption)) (by first | exact ka_same | assumption | exact ka_ne1 (by first | assumption | exact Ne.symm (by assumption)) (by first | exact ka_same | assumption))))))) rfl (Nat.succ_pos _) ?_
    exact ka_pure ⟨rfl, l, mc, hl, rfl⟩
  · subst e
    refine ka_pR (fs := w0 :: fs) (c := 12) (by first | exact ka_same | assumption | exact ka_ne1 (by first | assumption | exact Ne.symm (by assumption)) (by first | exact ka_same | assumption | exact ka_ne1 (by first | assumption | exact Ne.symm (by assumption)) (by first | exact ka_same | assumption | exact ka_ne1 (by first | assumption | exact Ne.symm (by assumption)) (by first | exact ka_same | assumption | exact ka_ne1 (by first | assumption | exact Ne.symm (by assumption)) (by first | exact ka_same | assumption | exact ka_ne1 (by first | assumption | exact Ne.symm (by assumption)) (by first | exact ka_same | assumption | exact ka_ne1 (by first | assumption | exact Ne.symm (by assumption)) (by first | exact ka_same | assumption))))))) rfl (Nat.succ_pos _) ?_
    exact ka_pure ⟨rfl, l, mc, hl, rfl⟩
theorem kb_becomes {r l r2 l2 : Nat} {mc mc2 : Int32} {xs ys : List Nat} (h : kb_B H r l) (h2 : kb_B H r2 l2) (hl : H l = some (ka_ls mc xs)) (hl2 : H l2 = some (ka_ls mc2 ys)) (hx : xs.length + ys.length ≤ 240) (hw : 700 ≤ w) : ka_T Z (pm_X2_becomes (some r) (some r2)) w H (fun _ w' H' => w ≤ w' + 700 ∧ H' = ka_up H l (ka_ls (mc + 1) (xs ++ ys))) := by
  unfold pm_X2_becomes
  refine ka_gB h (ka_gB h2 ?_)
  refine ka_is (by first | exact ka_same | assumption | exact ka_ne1 (by first | assumption | exact Ne.symm (by assumption)) (by first | exact ka_same | assumption | exact ka_ne1 (by first | assumption | exact Ne.symm (by assumption)) (by first | exact ka_same | assumption | exact ka_ne1 (by first | assumption | exact Ne.symm (by assumption)) (by first | exact ka_same | assumption | exact ka_ne1 (by first | assumption | exact Ne.symm (by assumption)) (by first | exact ka_same | assumption | exact ka_ne1 (by first | assumption | exact Ne.symm (by assumption)) (by first | exact ka_same | assumption | exact ka_ne1 (by first | assumption | exact Ne.symm (by assumption)) (by first | exact ka_same | assumption))))))) rfl ?_
  exact ka_call (kl_addAll hl hl2 hx hw) (fun r w' H' hp => ka_pure hp)
theorem kb_adds {r l v c : Nat} {mc : Int32} {xs : List Nat} {o : ka_O} (h : kb_B H r l) (hl : H l = some (ka_ls mc xs)) (hv : H v = some o) (hc : ka_cls o = some c) (hx : xs.length ≤ 240) (hw : 405 ≤ w) : ka_T Z (pm_X2_adds (some r) (some v)) w H (fun _ w' H' => w ≤ w' + 405 ∧ H' = ka_up H l (ka_ls (mc + 1) (xs ++ [v]))) := by
  unfold pm_X2_adds
  refine ka_gB h ?_
  refine ka_is (by first | exact ka_same | assumption | exact ka_ne1 (by first | assumption | exact Ne.symm (by assumption)) (by first | exact ka_same | assumption | exact ka_ne1 (by first | assumption | exact Ne.symm (by assumption)) (by first | exact ka_same | assumption | exact ka_ne1 (by first | assumption | exact Ne.symm (by assumption)) (by first | exact ka_same | assumption | exact ka_ne1 (by first | assumption | exact Ne.symm (by assumption)) (by first | exact ka_same | assumption | exact ka_ne1 (by first | assumption | exact Ne.symm (by assumption)) (by first | exact ka_same | assumption | exact ka_ne1 (by first | assumption | exact Ne.symm (by assumption)) (by first | exact ka_same | assumption))))))) rfl ?_
  exact ka_call (kl_add hl hv hc hx hw) (fun r w' H' hp => ka_pure hp.2)
theorem kb_loses {r l v p : Nat} {mc : Int32} {xs : List Nat} {fs : List Value} (h : kb_B H r l) (hl : H l = some (ka_ls mc xs)) (hv : H v = some (ka_ob 14 fs)) (hp : xs[p]? = some v) (hfirst : ∀ j, j < p → xs[j]? ≠ some v) : ka_T Z (pm_X2_loses (some r) (some v)) w H (fun _ w' H' => w' = w ∧ H' = ka_up H l (ka_ls (mc + 1) (xs.eraseIdx p))) := by
  unfold pm_X2_loses
  refine ka_gB h ?_
  refine ka_is (by first | exact ka_same | assumption | exact ka_ne1 (by first | assumption | exact Ne.symm (by assumption)) (by first | exact ka_same | assumption | exact ka_ne1 (by first | assumption | exact Ne.symm (by assumption)) (by first | exact ka_same | assumption | exact ka_ne1 (by first | assumption | exact Ne.symm (by assumption)) (by first | exact ka_same | assumption | exact ka_ne1 (by first | assumption | exact Ne.symm (by assumption)) (by first | exact ka_same | assumption | exact ka_ne1 (by first | assumption | exact Ne.symm (by assumption)) (by first | exact ka_same | assumption | exact ka_ne1 (by first | assumption | exact Ne.symm (by assumption)) (by first | exact ka_same | assumption))))))) rfl ?_
  exact ka_call (kl_remove hl hv hp hfirst) (fun r w' H' hp => ka_pure hp)
theorem kb_newBead {a : Nat} {n k f : Int32} (ha : H a = some (ka_ob 14 kz_Bead)) (hk : k = 0 ∨ k = 1) : ka_T Z (pm_X16_init (some a) n k f) w H (fun _ w' H' => w' = w ∧ H' = ka_up H a (ka_ob 14 [.int n, .int k, .int f])) := by
  unfold pm_X16_init
  refine ka_nn ?_
  refine ka_pI (by first | exact ka_same | assumption | exact ka_ne1 (by first | assumption | exact Ne.symm (by assumption)) (by first | exact ka_same | assumption | exact ka_ne1 (by first | assumption | exact Ne.symm (by assumption)) (by first | exact ka_same | assumption | exact ka_ne1 (by first | assumption | exact Ne.symm (by assumption)) (by first | exact ka_same | assumption | exact ka_ne1 (by first | assumption | exact Ne.symm (by assumption)) (by first | exact ka_same | assumption | exact ka_ne1 (by first | assumption | exact Ne.symm (by assumption)) (by first | exact ka_same | assumption | exact ka_ne1 (by first | assumption | exact Ne.symm (by assumption)) (by first | exact ka_same | assumption))))))) rfl rfl (Nat.le_of_ble_eq_true rfl) ?_
  refine ka_pI (by first | exact ka_same | assumption | exact ka_ne1 (by first | assumption | exact Ne.symm (by assumption)) (by first | exact ka_same | assumption | exact ka_ne1 (by first | assumption | exact Ne.symm (by assumption)) (by first | exact ka_same | assumption | exact ka_ne1 (by first | assumption | exact Ne.symm (by assumption)) (by first | exact ka_same | assumption | exact ka_ne1 (by first | assumption | exact Ne.symm (by assumption)) (by first | exact ka_same | assumption | exact ka_ne1 (by first | assumption | exact Ne.symm (by assumption)) (by first | exact ka_same | assumption | exact ka_ne1 (by first | assumption | exact Ne.symm (by assumption)) (by first | exact ka_same | assumption))))))) (kb_fit hk) rfl (Nat.le_of_ble_eq_true rfl) ?_
  refine ka_pI (by first | exact ka_same | assumption | exact ka_ne1 (by first | assumption | exact Ne.symm (by assumption)) (by first | exact ka_same | assumption | exact ka_ne1 (by first | assumption | exact Ne.symm (by assumption)) (by first | exact ka_same | assumption | exact ka_ne1 (by first | assumption | exact Ne.symm (by assumption)) (by first | exact ka_same | assumption | exact ka_ne1 (by first | assumption | exact Ne.symm (by assumption)) (by first | exact ka_same | assumption | exact ka_ne1 (by first | assumption | exact Ne.symm (by assumption)) (by first | exact ka_same | assumption | exact ka_ne1 (by first | assumption | exact Ne.symm (by assumption)) (by first | exact ka_same | assumption))))))) rfl rfl (Nat.le_of_ble_eq_true rfl) ?_
  refine ka_pure ⟨rfl, ?_⟩
  rw [ka_up_up, ka_up_up]
  rfl
/-! an iterator: what its two calls do -/
noncomputable abbrev kb_has (it : Nat) : km_M Int32 := km_disp (some it) [(11, pm_X12_hasNext (some it)), (33, pm_J5_hasNext (some it)), (34, pm_J15_hasNext (some it))]
noncomputable abbrev kb_nxt (it : Nat) : km_M (Option Nat) := km_disp (some it) [(11, pm_X12_next (some it)), (33, pm_J5_next (some it)), (34, pm_J15_next (some it))]
def kb_I (Z : ka_Z) (H : ka_H) (it : Nat) : List Nat → ka_O → Prop
  | [], o => ∀ w, ka_T Z (kb_has it) w (ka_up H it o) (ka_V w (ka_up H it o) 0)
  | b :: t, o => (∀ w, ka_T Z (kb_has it) w (ka_up H it o) (ka_V w (ka_up H it o) 1)) ∧ ∃ o', kb_I Z H it t o' ∧ ∀ w, ka_T Z (kb_nxt it) w (ka_up H it o) (fun r w' H' => r = some b ∧ w' = w ∧ H' = ka_up H it o')
theorem kb_pureBind {α : Type} {x : km_M α} {Q : α → Nat → ka_H → Prop} (h : ka_T Z (km_bind x km_pure) w H Q) : ka_T Z x w H Q := fun σ hR => by
  obtain ⟨r, σ', w', H', h1, h2, h3⟩ := h σ hR
  obtain ⟨a, u, e1, e2⟩ := km_bind_some h1
  have e3 := Option.some.inj e2
  cases e3
  exact ⟨_, _, w', H', e1, h2, h3⟩
theorem kb_I_list {it l : Nat} {mc : Int32} {xs : List Nat} (hl : H l = some (ka_ls mc xs)) (hx : xs.length < 2 ^ 30) (hit : H it = none) : ∀ (d i : Nat) (lr : Int32), i + d = xs.length → kb_I Z H it (xs.drop i) (ka_it i lr mc l) := by
  have hli : l ≠ it := ka_dom hl hit
  intro d
  induction d with
  | zero =>
    intro i lr hd
    rw [List.drop_of_length_le (by omega)]
    intro w
    refine kb_pureBind (kl_dHas ka_same ((ka_ne hli).trans hl) (by omega) (by omega) (ka_pure ⟨?_, rfl, rfl⟩))
    rw [if_pos (by omega)]
  | succ d ih =>
    intro i lr hd
    have hi : i < xs.length := by omega
    rw [List.drop_eq_getElem_cons hi]
    refine ⟨fun w => ?_, ka_it (i + 1) (Int32.ofNat i) mc l, ih (i + 1) _ (by omega), fun w => ?_⟩
    · refine kb_pureBind (kl_dHas ka_same ((ka_ne hli).trans hl) (by omega) (by omega) (ka_pure ⟨?_, rfl, rfl⟩))
      rw [if_neg (by omega)]
    · refine kb_pureBind (kl_dNext ka_same ((ka_ne hli).trans hl) (List.getElem?_eq_getElem hi) (ka_pure ⟨rfl, rfl, ?_⟩))
      rw [ka_up_up]
theorem kb_I_list0 {it l : Nat} {mc : Int32} {xs : List Nat} (hl : H l = some (ka_ls mc xs)) (hx : xs.length < 2 ^ 30) (hit : H it = none) : kb_I Z H it xs (ka_it 0 (-1) mc l) := kb_I_list hl hx hit xs.length 0 (-1) (by omega)
end KBE
