set_option maxRecDepth 100000
/-! ===== class and twin side by side ===== -/
/-- what does not change -/
def kL0 (Z : ka_Z) (H : ka_H) (a0 n : Nat) (g : Nat → Int32) (m : Nat) (ad : Nat → Nat) : Prop := (∃ fl, H a0 = some (.inl (fl, .inl (0, n, .inl g)))) ∧ a0 ≠ m ∧ (∀ k ∈ kt_L, ad k ≠ a0) ∧ kt_sep m ad ∧ ad 10 ≠ m ∧ (∀ k ∈ kt_L, ad k ≠ ad 10) ∧ ∃ gw : Nat → Option Nat, H (ad 10) = some (ka_aR 5 8 gw) ∧ ∀ i, i < 8 → ∃ a, gw i = some a ∧ Z.1 (vt_k i) = some a
/-- the class has the value X, the twin X0 -/
def kM (Z : ka_Z) (H : ka_H) (a0 n : Nat) (g : Nat → Int32) (x dq ip m : Nat) (ad : Nat → Nat) (cc dd : Nat) (T : kT) (X0 X : vX) : Prop := kL0 Z H a0 n g m ad ∧ kL1 H m ad T ∧ kX H x dq ip cc dd X ∧ kR T X0
theorem kf_dec32n {n : Nat} (h : n % 2147483648 ≤ 2139095040) : FP.Core.decode FP.Core.b32 n ≠ .nan := by
  unfold FP.Core.decode FP.Core.fieldE FP.Core.fieldT
  rw [kf_t32, kf_e32]
  intro z
  split at z
  · next h1 =>
    split at z
    · cases z
    · next h2 => omega
  · split at z <;> cases z
theorem kf_f2d {a : UInt32} (h : a.toNat % 2147483648 ≤ 2139095040) : (FP.f2d a).toNat % 9223372036854775808 ≤ 9218868437227405312 := by
  have hn := kf_dec32n h
  have hnan : ¬ FP.Core.fIsNaN a = true := fun z => hn (of_decide_eq_true z)
  have e : FP.f2d a = FP.Core.f2d a := if_neg hnan
  rw [e]
  show (UInt64.ofNat (FP.Core.encode FP.Core.b64 (FP.Core.round FP.Core.b64 (FP.Core.decode FP.Core.b32 a.toNat)))).toNat % _ ≤ _
  cases hd : FP.Core.decode FP.Core.b32 a.toNat with
  | nan => exact absurd hd hn
  | inf s =>
    have h1 := kf_encI64 (s := s)
    show (UInt64.ofNat (FP.Core.encode FP.Core.b64 (.inf s))).toNat % _ ≤ _
    rw [UInt64.toNat_ofNat_of_lt' (by exact h1.1), h1.2]
    exact Nat.le_refl _
  | fin s c q =>
    have h1 := kf_rat64 (s := s) (c := c) (d := 1) (e := q)
    show (UInt64.ofNat (FP.Core.encode FP.Core.b64 (FP.Core.roundRatio FP.Core.b64 s c 1 q))).toNat % _ ≤ _
    rw [UInt64.toNat_ofNat_of_lt' (by exact h1.1)]
    exact h1.2
theorem kf_spoilt {X : vX} : vf_n64 (FP.f2d (vq_spoilt X)) := by
  refine kf_n64 (kf_f2d ?_)
  unfold vq_spoilt
  by_cases h : X.now.sc 2 + X.now.sc 3 = 0
  · rw [if_pos h]
    decide
  · rw [if_neg h]
    exact kf_fdiv h
section KTZR
variable {Z : ka_Z} {w : Nat} {H H' : ka_H} {a0 n x dq ip m : Nat} {g : Nat → Int32} {ad : Nat → Nat} {cc dd cc' dd' c : Nat} {T T' : kT} {X0 X X' : vX}
theorem ka_f2d {α : Type} {Q : α → Nat → ka_H → Prop} {a : UInt32} {f : UInt64 → km_M α} (h : vf_n64 (FP.f2d a)) (k : ka_T Z (f (FP.f2d a)) w H Q) : ka_T Z (km_bind (km_f2d a) f) w H Q := ka_rdr (fun _ _ => if_pos h) k
theorem kt_other {G : ka_H} {a : Nat} (h1 : a ≠ m) (h2 : ∀ k ∈ kt_L, ad k ≠ a) : kt G m ad T a = G a := by
  unfold kt
  rw [if_neg h1]
  cases h : kt_L.find? (fun k => decide (ad k = a)) with
  | none => rfl
  | some k => exact absurd (of_decide_eq_true (List.find?_some (p := fun k => decide (ad k = a)) h)) (h2 k (List.mem_of_find?_eq_some h))
theorem kL1_eq (h : kL1 H m ad T) : kt H m ad T = H := by
  funext a
  unfold kt
  by_cases e : a = m
  · rw [if_pos e, e, h.1]
  · rw [if_neg e]
    cases h3 : kt_L.find? (fun k => decide (ad k = a)) with
    | none => rfl
    | some k =>
      have h4 : ad k = a := of_decide_eq_true (List.find?_some (p := fun k => decide (ad k = a)) h3)
      rw [← h4, h.2 k (List.mem_of_find?_eq_some h3)]
theorem kL0_W (h : kL0 Z H a0 n g m ad) : kt_W Z H m ad := by
  obtain ⟨-, -, -, -, h1, h2, gw, h3, h4⟩ := h
  exact ⟨gw, fun T => (kt_other h1 h2).trans h3, h4⟩
theorem kL_im (h : kL1 H m ad T) : ka_im H (kt H m ad T') := by
  intro a o ha hk
  by_cases e : a = m
  · subst e
    rw [h.1] at ha
    cases ha
    cases hk
  · by_cases e2 : ∃ k ∈ kt_L, ad k = a
    · obtain ⟨k, hkL, rfl⟩ := e2
      rw [h.2 k hkL] at ha
      cases ha
      cases hk
    · exact (kt_other e (fun k hkL z => e2 ⟨k, hkL, z⟩)).trans ha
theorem kM_cls (h : kM Z H a0 n g x dq ip m ad cc dd T X0 X) (k : kx_kp H H' x dq ip) (hX : kX H' x dq ip cc' dd' X') : kM Z H' a0 n g x dq ip m ad cc' dd' T X0 X' := by
  obtain ⟨⟨⟨fl, h1⟩, h2, h3, h4, h5, h6, gw, h7, h8⟩, ⟨l1, l2⟩, ⟨now, bef, sav, rf, ln, f, a1, a2, a3, a4, a5, a6, a7, -⟩, hR⟩ := h
  have hkeep : ∀ {b : Nat} {o : ka_O}, H b = some o → ∀ kd, ka_kd o = kd → kd ≠ 0 → kd ≠ 201 → kd ≠ 101 → H' b = some o := by
    intro b o hb kd hkd h0 h1 h2
    subst hkd
    refine k b o (fun e => h0 ?_) (fun e => h1 ?_) (fun e => h2 ?_) hb
    · subst e
      rw [Option.some.inj (hb.symm.trans a1)]
      rfl
    · subst e
      rw [Option.some.inj (hb.symm.trans a2)]
      rfl
    · subst e
      rw [Option.some.inj (hb.symm.trans a7)]
      rfl
  exact ⟨⟨⟨fl, hkeep h1 100 rfl (by decide) (by decide) (by decide)⟩, h2, h3, h4, h5, h6, gw, hkeep h7 105 rfl (by decide) (by decide) (by decide), h8⟩, ⟨hkeep l1 3 rfl (by decide) (by decide) (by decide), fun j hj => hkeep (l2 j hj) 100 rfl (by decide) (by decide) (by decide)⟩, hX, hR⟩
theorem kM_tw (h : kM Z H a0 n g x dq ip m ad cc dd T X0 X) (hR' : kR T' X') : kM Z (kt H m ad T') a0 n g x dq ip m ad cc dd T' X' X := by
  obtain ⟨⟨⟨fl, h1⟩, h2, h3, h4, h5, h6, gw, h7, h8⟩, hL, ⟨now, bef, sav, rf, ln, f, hX⟩, hR⟩ := h
  have a1 := hX.1
  have a2 := hX.2.1
  have a7 := hX.2.2.2.2.2.2.1
  have hoth : ∀ {b : Nat} {o : ka_O}, H b = some o → ∀ kd, ka_kd o = kd → kd ≠ 3 → kd ≠ 100 → kt H m ad T' b = H b := by
    intro b o hb kd hkd n1 n2
    subst hkd
    refine kt_other (fun e => n1 ?_) (fun k hk e => n2 ?_)
    · subst e
      rw [Option.some.inj (hb.symm.trans hL.1)]
      rfl
    · subst e
      rw [Option.some.inj (hb.symm.trans (hL.2 k hk))]
      rfl
  refine ⟨⟨⟨fl, (kt_other h2 h3).trans h1⟩, h2, h3, h4, h5, h6, gw, (kt_other h5 h6).trans h7, h8⟩, ⟨kt_m, fun k hk => kt_a h4 hk⟩, ⟨now, bef, sav, rf, ln, f, kX'_im hX (kL_im hL) (hoth a1 0 rfl (by decide) (by decide)) (hoth a2 201 rfl (by decide) (by decide)) (hoth a7 101 rfl (by decide) (by decide))⟩, hR'⟩
theorem kX_facts (h : kX H x dq ip cc dd X) (hcc : cc ≤ 240) : vX_sz X ∧ v_ok cc dd X.now ∧ X.inp.length ≤ 60 := by
  obtain ⟨now, bef, sav, rf, ln, f, a1, a2, a3, a4, a5, a6, a7, a8, a9, a10, a11, a12, a13, a14⟩ := h
  have hn : v_ok cc dd X.now := by rw [← a12]; exact a4.2.2
  refine ⟨⟨v_sz_of hn hcc, fun V hV => ?_, fun V hV => ?_⟩, hn, a9⟩
  · rw [← a13] at hV
    obtain ⟨W, hW, rfl⟩ := List.mem_map.mp hV
    exact v_sz_of (a5 W hW).2.2 hcc
  · rw [← a14] at hV
    cases hs : sav with
    | none => rw [hs] at hV; cases hV
    | some W =>
      rw [hs] at hV
      cases hV
      exact v_sz_of (a6 W hs).2.2 hcc
variable {α β : Type} {Q : α → Nat → ka_H → Prop}
theorem kl_ld {q : Nat} {f : Int32 → km_M α} (h : kM Z H a0 n g x dq ip m ad cc dd T X0 X) (hq : q + c < n) (hn : n ≤ 1000) (k : ka_T Z (f (g (q + c))) w H Q) : ka_T Z (km_bind (km_ldI 0 (some a0) (Int32.ofNat q + Int32.ofNat c)) f) w H Q := by
  obtain ⟨fl, h1⟩ := h.1.1
  rw [k3_add]
  refine ka_ldI h1 (k3_in hq (by omega)) ?_
  rw [k3_nat (by omega)]
  exact k
theorem kl_ld0 {q : Nat} {f : Int32 → km_M α} (h : kM Z H a0 n g x dq ip m ad cc dd T X0 X) (hq : q < n) (hn : n ≤ 1000) (k : ka_T Z (f (g q)) w H Q) : ka_T Z (km_bind (km_ldI 0 (some a0) (Int32.ofNat q)) f) w H Q := by
  obtain ⟨fl, h1⟩ := h.1.1
  refine ka_ldI h1 (k3_in hq (by omega)) ?_
  rw [k3_nat (by omega)]
  exact k
theorem kl_len {f : Int32 → km_M α} (h : kM Z H a0 n g x dq ip m ad cc dd T X0 X) (k : ka_T Z (f (Int32.ofNat n)) w H Q) : ka_T Z (km_bind (km_len (some a0)) f) w H Q := by
  obtain ⟨fl, h1⟩ := h.1.1
  exact ka_len h1 rfl k
theorem kl_cls {P : km_M Int32} {p : Int32 × vX} {f : Int32 → km_M α} (h : kM Z H a0 n g x dq ip m ad cc dd T X0 X) (hA : ka_T Z P w H (kx_Q H x dq ip cc' dd' w c p.1 p.2)) (k : ∀ w1 H1, w ≤ w1 + c → kM Z H1 a0 n g x dq ip m ad cc' dd' T X0 p.2 → ka_T Z (f p.1) w1 H1 Q) : ka_T Z (km_bind (km_is 0 (some x)) fun _ => km_bind P f) w H Q := by
  obtain ⟨now, bef, sav, rf, ln, fq, a1, -⟩ := h.2.2.1
  refine ka_is a1 rfl (ka_call hA (fun r w1 H1 hq => ?_))
  obtain ⟨q1, rfl, q3, q4⟩ := hq
  exact k w1 H1 q1 (kM_cls h q3 q4)
theorem kl_clsQ {P : km_M β} {v : β} {f : β → km_M α} (h : kM Z H a0 n g x dq ip m ad cc dd T X0 X) (hA : ka_T Z P w H (fun r w' H' => r = v ∧ w ≤ w' + c ∧ H' = H)) (k : ∀ w1, w ≤ w1 + c → ka_T Z (f v) w1 H Q) : ka_T Z (km_bind (km_is 0 (some x)) fun _ => km_bind P f) w H Q := by
  obtain ⟨now, bef, sav, rf, ln, fq, a1, -⟩ := h.2.2.1
  refine ka_is a1 rfl (ka_call hA (fun r w1 H1 hq => ?_))
  obtain ⟨rfl, q2, rfl⟩ := hq
  exact k w1 q2
theorem kl_tw {P : km_M Int32} {p : Int32 × vX} {f : Int32 → km_M α} (h : kM Z H a0 n g x dq ip m ad cc dd T X0 p.2) (hB : ka_T Z P w (kt H m ad T) (kt_Q w H m ad p)) (k : ∀ T1 H1, kM Z H1 a0 n g x dq ip m ad cc dd T1 p.2 p.2 → ka_T Z (f p.1) w H1 Q) : ka_T Z (km_bind (km_is 3 (some m)) fun _ => km_bind P f) w H Q := by
  rw [kL1_eq h.2.1] at hB
  refine ka_is h.2.1.1 rfl (ka_call hB (fun r w1 H1 hq => ?_))
  obtain ⟨rfl, rfl, T', rfl, hR'⟩ := hq
  exact k T' _ (kM_tw h hR')
theorem kl_twQ {P : km_M β} {v : β} {f : β → km_M α} (h : kM Z H a0 n g x dq ip m ad cc dd T X0 X) (hB : ka_T Z P w (kt H m ad T) (ka_V w (kt H m ad T) v)) (k : ka_T Z (f v) w H Q) : ka_T Z (km_bind (km_is 3 (some m)) fun _ => km_bind P f) w H Q := by
  rw [kL1_eq h.2.1] at hB
  exact ka_is h.2.1.1 rfl (ka_mv hB k)
theorem ka_tswA {v : Int32} {Ps : List (km_M α)} {D : km_M α} {hi : Int} (hhi : hi = (Ps.length : Int) - 1) (hP : ∀ (i : Nat) (P : km_M α), Ps[i]? = some P → ka_T Z P w H Q) (hD : ka_T Z D w H Q) : ka_T Z (km_tsw v 0 hi Ps D) w H Q := by
  subst hhi
  unfold km_tsw
  by_cases h : v.toInt < 0 ∨ ((Ps.length : Int) - 1) < v.toInt
  · exact ka_ifP h hD
  · refine ka_ifN h ?_
    have hlt : (v.toInt - 0).toNat < Ps.length := by omega
    have e1 : Ps.getD (v.toInt - 0).toNat D = Ps[(v.toInt - 0).toNat] := by rw [List.getD, List.getElem?_eq_getElem hlt]; rfl
    rw [e1]
    exact hP _ _ (List.getElem?_eq_getElem hlt)
end KTZR
/-! what calls leave of the line and of what was fed -/
def vx_like (X Y : vX) : Prop := Y.inp = X.inp ∧ Y.line = X.line
theorem vx_like_do {X : vX} {res : vR} : vx_like X (vx_do X res).2 := by cases res <;> exact ⟨rfl, rfl⟩
theorem vx_like_r {X : vX} : vx_like X X := ⟨rfl, rfl⟩
theorem vx_like_if {X : vX} {P : Prop} [Decidable P] {a b : Int32 × vX} (h1 : vx_like X a.2) (h2 : vx_like X b.2) : vx_like X (if P then a else b).2 := by
  split
  · exact h1
  · exact h2
theorem kl_lt : ∀ n : Fin 121, ∀ q : Fin 126, (Int32.ofNat n.val - 5 < Int32.ofNat q.val) ↔ n.val < q.val + 5 := by decide +kernel
