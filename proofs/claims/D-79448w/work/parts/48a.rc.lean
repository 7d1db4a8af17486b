set_option maxRecDepth 100000
/-! ===== the class as a whole: its cells ===== -/
/-- what kind of cell -/
def ka_kd (o : ka_O) : Nat := match o with
  | .inl (_, .inr (c, _)) => c
  | .inl (_, .inl (k, _)) => 100 + k
  | .inr (.inl _) => 200
  | .inr (.inr (.inl _)) => 201
  | .inr (.inr (.inr _)) => 202
/-- kinds that a later call may change: the class's own cell, the reference's, whole numbers, signs, deques -/
def ka_chg (n : Nat) : Bool := n == 0 || n == 3 || n == 100 || n == 101 || n == 201
/-- all but those is kept -/
def ka_im (H G : ka_H) : Prop := ∀ a o, H a = some o → ka_chg (ka_kd o) = false → G a = some o
theorem ka_im_le {H G : ka_H} (h : ka_le H G) : ka_im H G := fun a o ha _ => h a o ha
theorem ka_im_trans {H G F : ka_H} (h : ka_im H G) (k : ka_im G F) : ka_im H F := fun a o ha hk => k a o (h a o ha hk) hk
theorem ka_im_up {H : ka_H} {x : Nat} {o o' : ka_O} (hx : H x = some o) (ho : ka_chg (ka_kd o) = true) : ka_im H (ka_up H x o') := fun a q ha hq => (ka_ne (ka_kinds ha hx (fun e => by rw [e, ho] at hq; cases hq))).trans ha
theorem kc_shop_im {H G : ka_H} {s : Nat} {ad : Nat → Nat} {A : kAp} (h : kc_shop H s ad A) (k : ka_im H G) : kc_shop G s ad A := by
  obtain ⟨h1, h2, h3, h4, h5⟩ := h
  refine ⟨k _ _ h1 rfl, k _ _ h2 rfl, k _ _ h3 rfl, fun q hq => ?_, fun q hq => ?_⟩
  · obtain ⟨mc, e⟩ := h4 q hq
    exact ⟨mc, k _ _ e rfl⟩
  · refine k _ _ (h5 q hq) ?_
    obtain ⟨c, fs, e, hc⟩ := kc_kind hq
    rw [e]
    rcases hc with e | e | e | e | e | e <;> subst e <;> rfl
theorem kr_im {H G : ka_H} (k : ka_im H G) : ∀ {ch : List (Int32 × Int32)} {q : Nat}, kr H q ch → kr G q ch := by
  intro ch
  induction ch with
  | nil => intro q h; exact h
  | cons p t ih =>
    intro q h
    cases t with
    | nil =>
      obtain ⟨c, h1, h2⟩ := h
      refine ⟨c, k _ _ h1 rfl, ?_⟩
      rcases h2 with e | ⟨x, fs, e1, e2⟩
      · exact Or.inl e
      · exact Or.inr ⟨x, fs, e1, k _ _ e2 rfl⟩
    | cons p2 t =>
      obtain ⟨x, h0, h1, h2⟩ := h
      exact ⟨x, h0, k _ _ h1 rfl, ih h2⟩
/-- a string of signs below 128 -/
def kx_str (H : ka_H) (a : Nat) (cs : List Int32) : Prop := ∃ (fl fl2 : Bool) (b : Nat) (x y : Int32) (g : Nat → Int32), H a = some (.inl (fl, .inr (35, [.ref b, .int 0, .int x, .int y]))) ∧ H b = some (.inl (fl2, .inl (2, cs.length, .inl g))) ∧ cs.length ≤ 100 ∧ (∀ i, i < cs.length → cs[i]? = some (g i)) ∧ ∀ c ∈ cs, 0 ≤ c ∧ c < 128
theorem kx_str_im {H G : ka_H} {a : Nat} {cs : List Int32} (h : kx_str H a cs) (k : ka_im H G) : kx_str G a cs := by
  obtain ⟨fl, fl2, b, x, y, g, h1, h2, h3⟩ := h
  exact ⟨fl, fl2, b, x, y, g, k _ _ h1 rfl, k _ _ h2 rfl, h3⟩
/-- a workshop by its cells; its list of addresses -/
abbrev kW : Type := Nat × (Nat → Nat) × kAp
def kW_ok (H : ka_H) (cc dd : Nat) (W : kW) : Prop := kc_shop H W.1 W.2.1 W.2.2 ∧ ((kc_lists W.2.1 W.2.2).map (·.1)).Nodup ∧ v_ok cc dd W.2.2.V
theorem kW_ok_im {H G : ka_H} {cc dd : Nat} {W : kW} (h : kW_ok H cc dd W) (k : ka_im H G) : kW_ok G cc dd W := ⟨kc_shop_im h.1 k, h.2.1, h.2.2⟩
theorem kW_ok_mono {H : ka_H} {cc dd cc' dd' : Nat} {W : kW} (h : kW_ok H cc dd W) (h1 : cc ≤ cc') (h2 : dd ≤ dd') : kW_ok H cc' dd' W := ⟨h.1, h.2.1, v_ok_mono h.2.2 h1 h2⟩
/-- the class's state as a value: now, before, saved, refusal, line, input, fault -/
abbrev vX : Type := kV × List kV × Option kV × Option (List (Int32 × Int32)) × List Int32 × List Int32 × Int32
abbrev vX.now (X : vX) : kV := X.1
abbrev vX.bef (X : vX) : List kV := X.2.1
abbrev vX.sav (X : vX) : Option kV := X.2.2.1
abbrev vX.rf (X : vX) : Option (List (Int32 × Int32)) := X.2.2.2.1
abbrev vX.line (X : vX) : List Int32 := X.2.2.2.2.1
abbrev vX.inp (X : vX) : List Int32 := X.2.2.2.2.2.1
abbrev vX.fault (X : vX) : Int32 := X.2.2.2.2.2.2
def kx_rf (H : ka_H) (q : Option Nat) (ch : Option (List (Int32 × Int32))) : Prop := match q, ch with
  | none, none => True
  | some q, some ch => kr H q ch ∧ ch.length ≤ 3
  | _, _ => False
theorem kx_rf_im {H G : ka_H} {q : Option Nat} {ch : Option (List (Int32 × Int32))} (h : kx_rf H q ch) (k : ka_im H G) : kx_rf G q ch := by
  cases q <;> cases ch
  · exact h
  · exact h
  · exact h
  · exact ⟨kr_im k h.1, h.2⟩
abbrev kx_ob (now : Nat) (sv : Option Nat) (dq : Nat) (rf : Option Nat) (ln ip : Nat) (fed fa : Int32) : ka_O := ka_ob 0 [.ref now, va_rf sv, .ref dq, va_rf rf, .ref ln, .ref ip, .int fed, .int fa]
/-- the cells of the class, its state by cells -/
def kX' (H : ka_H) (x dq ip : Nat) (cc dd : Nat) (now : kW) (bef : List kW) (sav : Option kW) (rf : Option Nat) (ln : Nat) (f : Nat → Int32) (X : vX) : Prop :=
  H x = some (kx_ob now.1 (sav.map (·.1)) dq rf ln ip (Int32.ofNat X.inp.length) X.fault) ∧ H dq = some (ka_dq (bef.map (·.1))) ∧ bef.length ≤ 8 ∧ kW_ok H cc dd now ∧ (∀ W ∈ bef, kW_ok H cc dd W) ∧ (∀ W, sav = some W → kW_ok H cc dd W) ∧ H ip = some (ka_aI 1 60 f) ∧ (∀ i, i < X.inp.length → X.inp[i]? = some (f i)) ∧ X.inp.length ≤ 60 ∧ kx_rf H rf X.rf ∧ kx_str H ln X.line ∧ now.2.2.V = X.now ∧ bef.map (fun W => W.2.2.V) = X.bef ∧ sav.map (fun W => W.2.2.V) = X.sav
def kX (H : ka_H) (x dq ip : Nat) (cc dd : Nat) (X : vX) : Prop := ∃ now bef sav rf ln f, kX' H x dq ip cc dd now bef sav rf ln f X
theorem kX_mono {H : ka_H} {x dq ip cc dd cc' dd' : Nat} {X : vX} (h : kX H x dq ip cc dd X) (h1 : cc ≤ cc') (h2 : dd ≤ dd') : kX H x dq ip cc' dd' X := by
  obtain ⟨now, bef, sav, rf, ln, f, a1, a2, a3, a4, a5, a6, a7⟩ := h
  exact ⟨now, bef, sav, rf, ln, f, a1, a2, a3, kW_ok_mono a4 h1 h2, fun W hW => kW_ok_mono (a5 W hW) h1 h2, fun W hW => kW_ok_mono (a6 W hW) h1 h2, a7⟩
/-- the immutable ones kept, the three own cells as told -/
theorem kX'_im {H G : ka_H} {x dq ip cc dd : Nat} {now : kW} {bef : List kW} {sav : Option kW} {rf : Option Nat} {ln : Nat} {f : Nat → Int32} {X : vX} (h : kX' H x dq ip cc dd now bef sav rf ln f X) (k : ka_im H G) (h1 : G x = H x) (h2 : G dq = H dq) (h3 : G ip = H ip) : kX' G x dq ip cc dd now bef sav rf ln f X := by
  obtain ⟨a1, a2, a3, a4, a5, a6, a7, a8, a9, a10, a11, a12⟩ := h
  exact ⟨by rw [h1, a1], by rw [h2, a2], a3, kW_ok_im a4 k, fun W hW => kW_ok_im (a5 W hW) k, fun W hW => kW_ok_im (a6 W hW) k, by rw [h3, a7], a8, a9, kx_rf_im a10 k, kx_str_im a11 k, a12⟩
/-- what a call of the class leaves as it was -/
def kx_kp (H G : ka_H) (x dq ip : Nat) : Prop := ∀ a o, a ≠ x → a ≠ dq → a ≠ ip → H a = some o → G a = some o
theorem kx_kp_le {H G : ka_H} {x dq ip : Nat} (h : ka_le H G) : kx_kp H G x dq ip := fun a o _ _ _ ha => h a o ha
theorem kx_kp_trans {H G F : ka_H} {x dq ip : Nat} (h : kx_kp H G x dq ip) (k : kx_kp G F x dq ip) : kx_kp H F x dq ip := fun a o h1 h2 h3 ha => k a o h1 h2 h3 (h a o h1 h2 h3 ha)
theorem kx_kp_x {H : ka_H} {x dq ip : Nat} {o : ka_O} : kx_kp H (ka_up H x o) x dq ip := fun a q h1 _ _ ha => (ka_ne h1).trans ha
theorem kx_kp_dq {H : ka_H} {x dq ip : Nat} {o : ka_O} : kx_kp H (ka_up H dq o) x dq ip := fun a q _ h2 _ ha => (ka_ne h2).trans ha
theorem kx_kp_ip {H : ka_H} {x dq ip : Nat} {o : ka_O} : kx_kp H (ka_up H ip o) x dq ip := fun a q _ _ h3 ha => (ka_ne h3).trans ha
/-- the last eight -/
def v_push (l : List kV) (V : kV) : List kV := if 8 < l.length + 1 then (l ++ [V]).tail else l ++ [V]
theorem kc_like_V {A B : kAp} (h : kc_like A B) : A.V = B.V := by
  obtain ⟨h1, h2, h3, h4, h5, h6, h7, h8, h9⟩ := h
  have h10 : A.st.map kS.V = B.st.map kS.V := by
    have e : ∀ C : kAp, C.st.map kS.V = (C.st.map (·.2.2)).map (fun q => (q.1, q.2.1, q.2.2.1, q.2.2.2.map (fun b : kB => b.2))) := fun C => by rw [List.map_map]; rfl
    rw [e, e, h4]
  show (A.cs.map (·.2), A.ls.map (·.2), A.bx.map (·.2), A.st.map kS.V, A.ps.map (·.2), A.so.map kDp.V, A.wa.map kDp.V, A.aw, A.sc) = (B.cs.map (·.2), B.ls.map (·.2), B.bx.map (·.2), B.st.map kS.V, B.ps.map (·.2), B.so.map kDp.V, B.wa.map kDp.V, B.aw, B.sc)
  rw [h1, h2, h3, h10, h5, h6, h7, h8, h9]
section KXD
variable {Z : ka_Z} {w : Nat} {H : ka_H} {x dq ip cc dd : Nat} {X : vX}
/-- a workshop's copy -/
theorem kx_copy {s : Nat} {W : kW} (hE : ka_E0 Z) (hW : kW_ok H cc dd W) (hcc : cc ≤ 240) (hs : H s = none) (hw : 16000 ≤ w) : ka_T Z (pm_X1_init_2 (some s) (some W.1)) w (ka_up H s (ka_ob 1 kz_Shop)) (fun _ w' H' => w ≤ w' + 16000 ∧ ∃ ad A, kc_mut H H' s ad A ∧ A.V = W.2.2.V) := by
  obtain ⟨⟨c1, c2, c3, c4, c5, c6, c7⟩, c8, c9, c10, c11, c12⟩ := kh_ok hW.2.2 hcc
  refine ka_post (ks_copy hE hW.1 hW.2.1 ⟨c1, c2, by omega, c3, fun r hr => Nat.le_trans (c8 r hr) (by omega), c4, c5, by omega, fun d hd => ?_⟩ hs hw) (fun r w' H' hp => ?_)
  · rcases hd with e | e
    · have := (c11 d e).2
      omega
    · have := (c12 d e).2
      omega
  · obtain ⟨h1, ad, A, h2, h3⟩ := hp
    exact ⟨h1, ad, A, h2, kc_like_V h3⟩
end KXD
