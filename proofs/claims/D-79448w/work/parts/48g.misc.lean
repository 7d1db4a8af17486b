set_option maxRecDepth 100000
/-! ===== signs, faults, reasons, what is undone, saved; means ===== -/
def vx_append (X : vX) (c : Int32) : Int32 × vX := if v_in c 32 126 = 1 then (if X.inp.length = 60 then (-4, X) else (Int32.ofNat (X.inp.length + 1), X.now, X.bef, X.sav, X.rf, X.line, X.inp ++ [c], X.fault)) else (-2, X)
def vq_fault (X : vX) : Int32 := if 0 ≤ X.fault then X.fault else -3
def vq_reason (X : vX) (d k : Int32) : Int32 := if v_in d 0 2 = 1 then (match X.rf with
  | none => -3
  | some ch => match ch[d.toNatClampNeg]? with
    | none => -6
    | some p => if k = 0 then p.1 else p.2) else -2
def vx_undo (X : vX) : Int32 × vX := match X.bef.getLast? with
  | none => (-3, X)
  | some V => (Int32.ofNat (X.bef.length - 1), V, X.bef.dropLast, X.2.2)
def vx_save (X : vX) : Int32 × vX := (Int32.ofNat X.now.cs.length, X.now, X.bef, some X.now, X.2.2.2)
def vx_restore (X : vX) : Int32 × vX := match X.sav with
  | none => (-3, X)
  | some V => (Int32.ofNat V.cs.length, V, [], X.2.2)
noncomputable def vq_mean (X : vX) : UInt64 := if X.now.bx = [] then FP.dconst0 else FP.ddiv (FP.i2d (v_fsum 0 X.now.bx)) (FP.i2d (Int32.ofNat X.now.bx.length))
noncomputable def vq_spoilt (X : vX) : UInt32 := if X.now.sc 2 + X.now.sc 3 = 0 then FP.fconst0 else FP.fdiv (FP.i2f (X.now.sc 3)) (FP.i2f (X.now.sc 2 + X.now.sc 3))
section KXM
variable {Z : ka_Z} {w : Nat} {H : ka_H} {x dq ip cc dd : Nat} {X : vX}
theorem ka_ddiv {α : Type} {Q : α → Nat → ka_H → Prop} {a b : Int32} {f : UInt64 → km_M α} (hb : b ≠ 0) (k : ka_T Z (f (FP.ddiv (FP.i2d a) (FP.i2d b))) w H Q) : ka_T Z (km_bind (km_ddiv (FP.i2d a) (FP.i2d b)) f) w H Q := ka_rdr (fun _ _ => if_pos (kf_n64 (kf_ddiv hb))) k
theorem ka_fdiv {α : Type} {Q : α → Nat → ka_H → Prop} {a b : Int32} {f : UInt32 → km_M α} (hb : b ≠ 0) (k : ka_T Z (f (FP.fdiv (FP.i2f a) (FP.i2f b))) w H Q) : ka_T Z (km_bind (km_fdiv (FP.i2f a) (FP.i2f b)) f) w H Q := ka_rdr (fun _ _ => if_pos (kf_n32 (kf_fdiv hb))) k
theorem kx_mean (hX : kX H x dq ip cc dd X) (hcc : cc ≤ 240) (hw : 3000 ≤ w) : ka_T Z (pm_X0_meanFineness (some x)) w H (fun r w' H' => r = vq_mean X ∧ w ≤ w' + 3000 ∧ H' = H) := by
  obtain ⟨nowW, befW, savW, rfW, lnW, fW, hX'⟩ := id hX
  have hok : v_ok cc dd X.now := by
    have := hX'.2.2.2.1.2.2
    rw [hX'.2.2.2.2.2.2.2.2.2.2.2.1] at this
    exact this
  have hx := hX'.1
  have hS := hX'.2.2.2.1.1
  have hVn : nowW.2.2.V = X.now := hX'.2.2.2.2.2.2.2.2.2.2.2.1
  have hs := kg_s hS
  obtain ⟨⟨c1, c2, c3, c4, c5, c6, c7⟩, c8, c9, c10, c11, c12⟩ := kh_ok hX'.2.2.2.1.2.2 (by omega)
  have hbox := kg_box hS
  obtain ⟨mb, hbl⟩ := kg_bl hS
  unfold pm_X0_meanFineness vq_mean
  have hbx : X.now.bx = nowW.2.2.bx.map (·.2) := by rw [← hVn]
  refine ka_gR (v := some nowW.1) hx rfl rfl ?_
  refine ka_gR (by first | exact ka_same | assumption | exact ka_ne1 (by first | assumption | exact Ne.symm (by assumption)) (by first | exact ka_same | assumption | exact ka_ne1 (by first | assumption | exact Ne.symm (by assumption)) (by first | exact ka_same | assumption | exact ka_ne1 (by first | assumption | exact Ne.symm (by assumption)) (by first | exact ka_same | assumption | exact ka_ne1 (by first | assumption | exact Ne.symm (by assumption)) (by first | exact ka_same | assumption | exact ka_ne1 (by first | assumption | exact Ne.symm (by assumption)) (by first | exact ka_same | assumption | exact ka_ne1 (by first | assumption | exact Ne.symm (by assumption)) (by first | exact ka_same | assumption))))))) rfl rfl ?_
  refine ka_dB hbox.1 (ka_use (kb_size hbox.1 hbl) ?_)
  rw [List.length_map, hbx, List.length_map]
  by_cases h : nowW.2.2.bx = []
  · refine ka_ifN (by rw [h]; simp) (ka_pure ⟨?_, by omega, rfl⟩)
    rw [if_pos (by rw [h]; rfl)]
  · have hpos : 0 < nowW.2.2.bx.length := List.length_pos_iff.mpr h
    have hne : Int32.ofNat nowW.2.2.bx.length ≠ 0 := fun z => by have := (k3_eq (b := 0) (by omega) (by omega)).mp z; omega
    refine ka_ifP hne ?_
    refine ka_gR (v := some nowW.1) hx rfl rfl ?_
    refine ka_gR (by first | exact ka_same | assumption | exact ka_ne1 (by first | assumption | exact Ne.symm (by assumption)) (by first | exact ka_same | assumption | exact ka_ne1 (by first | assumption | exact Ne.symm (by assumption)) (by first | exact ka_same | assumption | exact ka_ne1 (by first | assumption | exact Ne.symm (by assumption)) (by first | exact ka_same | assumption | exact ka_ne1 (by first | assumption | exact Ne.symm (by assumption)) (by first | exact ka_same | assumption | exact ka_ne1 (by first | assumption | exact Ne.symm (by assumption)) (by first | exact ka_same | assumption | exact ka_ne1 (by first | assumption | exact Ne.symm (by assumption)) (by first | exact ka_same | assumption))))))) rfl rfl ?_
    refine ka_dB hbox.1 (ka_call (kb_sum hbox.1 hbox.2 (by omega) (by omega)) (fun r v K hp => ?_))
    obtain ⟨rfl, hv, rfl⟩ := hp
    refine ka_ddiv hne (ka_pure ⟨?_, by omega, rfl⟩)
    rw [if_neg (by simpa using h), kv_fsum]
theorem kx_spoilt (hX : kX H x dq ip cc dd X) (hcc : cc ≤ 240) (hw : 3000 ≤ w) : ka_T Z (pm_X0_spoilt (some x)) w H (fun r w' H' => r = vq_spoilt X ∧ w ≤ w' + 3000 ∧ H' = H) := by
  obtain ⟨nowW, befW, savW, rfW, lnW, fW, hX'⟩ := id hX
  have hok : v_ok cc dd X.now := by
    have := hX'.2.2.2.1.2.2
    rw [hX'.2.2.2.2.2.2.2.2.2.2.2.1] at this
    exact this
  have hx := hX'.1
  have hS := hX'.2.2.2.1.1
  have hVn : nowW.2.2.V = X.now := hX'.2.2.2.2.2.2.2.2.2.2.2.1
  have hs := kg_s hS
  obtain ⟨⟨c1, c2, c3, c4, c5, c6, c7⟩, c8, c9, c10, c11, c12⟩ := kh_ok hX'.2.2.2.1.2.2 (by omega)
  have hsc : nowW.2.2.sc = X.now.sc := by rw [← hVn]
  unfold pm_X0_spoilt vq_spoilt
  rw [← hsc]
  refine ka_gR (v := some nowW.1) hx rfl rfl ?_
  refine ka_gI (by first | exact ka_same | assumption | exact ka_ne1 (by first | assumption | exact Ne.symm (by assumption)) (by first | exact ka_same | assumption | exact ka_ne1 (by first | assumption | exact Ne.symm (by assumption)) (by first | exact ka_same | assumption | exact ka_ne1 (by first | assumption | exact Ne.symm (by assumption)) (by first | exact ka_same | assumption | exact ka_ne1 (by first | assumption | exact Ne.symm (by assumption)) (by first | exact ka_same | assumption | exact ka_ne1 (by first | assumption | exact Ne.symm (by assumption)) (by first | exact ka_same | assumption | exact ka_ne1 (by first | assumption | exact Ne.symm (by assumption)) (by first | exact ka_same | assumption))))))) rfl rfl ?_
  refine ka_gR (v := some nowW.1) hx rfl rfl ?_
  refine ka_gI (by first | exact ka_same | assumption | exact ka_ne1 (by first | assumption | exact Ne.symm (by assumption)) (by first | exact ka_same | assumption | exact ka_ne1 (by first | assumption | exact Ne.symm (by assumption)) (by first | exact ka_same | assumption | exact ka_ne1 (by first | assumption | exact Ne.symm (by assumption)) (by first | exact ka_same | assumption | exact ka_ne1 (by first | assumption | exact Ne.symm (by assumption)) (by first | exact ka_same | assumption | exact ka_ne1 (by first | assumption | exact Ne.symm (by assumption)) (by first | exact ka_same | assumption | exact ka_ne1 (by first | assumption | exact Ne.symm (by assumption)) (by first | exact ka_same | assumption))))))) rfl rfl ?_
  by_cases h : nowW.2.2.sc 2 + nowW.2.2.sc 3 = 0
  · refine ka_ifN (fun z => z h) (ka_pure ⟨?_, by omega, rfl⟩)
    rw [if_pos h]
  · refine ka_ifP h ?_
    refine ka_gR (v := some nowW.1) hx rfl rfl ?_
    refine ka_gI (by first | exact ka_same | assumption | exact ka_ne1 (by first | assumption | exact Ne.symm (by assumption)) (by first | exact ka_same | assumption | exact ka_ne1 (by first | assumption | exact Ne.symm (by assumption)) (by first | exact ka_same | assumption | exact ka_ne1 (by first | assumption | exact Ne.symm (by assumption)) (by first | exact ka_same | assumption | exact ka_ne1 (by first | assumption | exact Ne.symm (by assumption)) (by first | exact ka_same | assumption | exact ka_ne1 (by first | assumption | exact Ne.symm (by assumption)) (by first | exact ka_same | assumption | exact ka_ne1 (by first | assumption | exact Ne.symm (by assumption)) (by first | exact ka_same | assumption))))))) rfl rfl ?_
    refine ka_fdiv h (ka_pure ⟨?_, by omega, rfl⟩)
    rw [if_neg h]
theorem vp_char {c : Int32} (h1 : 0 ≤ c) (h2 : c < 128) : vp_nar .char c = c := by
  have h3 : c = Int32.ofNat c.toNatClampNeg := kv_neg h1
  have h4 : c.toNatClampNeg < 128 := by
    rw [h3] at h2
    have hlt : c.toNatClampNeg < 2 ^ 31 := Int32.toNatClampNeg_lt c
    exact (k3_lt (b := 128) (by omega) (by omega)).mp h2
  have h5 : ∀ n : Fin 128, vp_nar .char (Int32.ofNat n.val) = Int32.ofNat n.val := by decide +kernel
  rw [h3]
  exact h5 ⟨_, h4⟩
theorem kx_append {c : Int32} (hX : kX H x dq ip cc dd X) : ka_T Z (pm_X0_append (some x) c) w H (kx_Q H x dq ip cc dd w 0 (vx_append X c).1 (vx_append X c).2) := by
  obtain ⟨now, bef, sav, rf, ln, f, hX'⟩ := id hX
  have hx := hX'.1
  have hip := hX'.2.2.2.2.2.2.1
  unfold pm_X0_append
  refine ka_use kx_in ?_
  by_cases h : v_in c 32 126 = 1
  · refine ka_ifP (by rw [h]; decide) ?_
    have hlen := hX'.2.2.2.2.2.2.2.2.1
    refine ka_gI hx rfl rfl ?_
    by_cases h60 : X.inp.length = 60
    · have e : vx_append X c = (-4, X) := by
        unfold vx_append
        rw [if_pos h, if_pos h60]
      rw [e]
      exact ka_ifN (fun z => z (by rw [h60]; rfl)) (ka_pure (kx_same hX (by omega)))
    · have e : vx_append X c = (Int32.ofNat (X.inp.length + 1), X.now, X.bef, X.sav, X.rf, X.line, X.inp ++ [c], X.fault) := by
        unfold vx_append
        rw [if_pos h, if_neg h60]
      rw [e]
      refine ka_ifP (fun z => h60 ((k3_eq (b := 60) (by omega) (by omega)).mp z)) ?_
      obtain ⟨n, rfl, hn1, hn2⟩ := v_in_nat (a := 32) (b := 126) (by omega) (by omega) h
      have hxip : x ≠ ip := ka_kinds hx hip (by simp)
      refine ka_gR (v := some ip) hx rfl rfl (ka_gI hx rfl rfl ?_)
      refine ka_stI hip (k3_in (by omega) (by omega)) ?_
      rw [k3_nat (by omega)]
      have hch : vp_nar (km_ty 1) (Int32.ofNat n) = Int32.ofNat n := vp_char ((k3_le (a := 0) (by decide) (by omega)).mpr (Nat.zero_le _)) ((k3_lt (b := 128) (by omega) (by decide)).mpr (by omega))
      rw [hch]
      have hx1 : ka_up H ip (ka_aI 1 60 (upd f X.inp.length (Int32.ofNat n))) x = some (kx_ob now.1 (sav.map (·.1)) (dq) rf ln ip (Int32.ofNat X.inp.length) X.fault) := (ka_ne hxip).trans hx
      refine ka_gI hx1 rfl rfl (ka_pI hx1 rfl rfl (Nat.le_of_ble_eq_true rfl) (ka_gI ka_same rfl rfl ?_))
      obtain ⟨a1, a2, a3, a4, a5, a6, a7, a8, a9, a10, a11, a12, a13, a14⟩ := hX'
      have hdqip : dq ≠ ip := ka_kinds a2 a7 (by simp)
      have hdqx : dq ≠ x := (ka_kinds a1 a2 (by simp)).symm
      have him : ka_im H (ka_up (ka_up H ip (ka_aI 1 60 (upd f X.inp.length (Int32.ofNat n)))) x (kx_ob now.1 (sav.map (·.1)) dq rf ln ip (Int32.ofNat X.inp.length + 1) X.fault)) := ka_im_trans (ka_im_up hip rfl) (ka_im_up hx1 rfl)
      refine ka_pure ⟨by omega, by rw [k3_succ], kx_kp_trans kx_kp_ip kx_kp_x, now, bef, sav, rf, ln, upd f X.inp.length (Int32.ofNat n), ?_, (ka_ne hdqx).trans ((ka_ne hdqip).trans a2), a3, kW_ok_im a4 him, fun W hW => kW_ok_im (a5 W hW) him, fun W hW => kW_ok_im (a6 W hW) him, (ka_ne hxip.symm).trans ka_same, fun i hi => ?_, ?_, kx_rf_im a10 him, kx_str_im a11 him, a12, a13, a14⟩
      · refine ka_same.trans ?_
        have e2 : (vX.inp (X.now, X.bef, X.sav, X.rf, X.line, X.inp ++ [Int32.ofNat n], X.fault)).length = X.inp.length + 1 := by
          show (X.inp ++ [_]).length = _
          rw [List.length_append]
          rfl
        rw [e2, ← k3_succ]
        rfl
      · show (X.inp ++ [Int32.ofNat n])[i]? = some (upd f X.inp.length (Int32.ofNat n) i)
        have hi2 : i < (X.inp ++ [Int32.ofNat n]).length := hi
        rw [List.length_append] at hi2
        simp only [List.length_cons, List.length_nil] at hi2
        unfold upd
        by_cases he : i = X.inp.length
        · rw [if_pos he, he]
          simp
        · rw [if_neg he, List.getElem?_append_left (by omega)]
          exact a8 i (by omega)
      · show (X.inp ++ [_]).length ≤ 60
        rw [List.length_append]
        simp only [List.length_cons, List.length_nil]
        omega
  · have e : vx_append X c = (-2, X) := by
      unfold vx_append
      rw [if_neg h]
    rw [e]
    exact ka_ifN (by rw [v_in_no h]; simp) (ka_pure (kx_same hX (by omega)))
theorem kx_fault (hX : kX H x dq ip cc dd X) : ka_T Z (pm_X0_fault (some x)) w H (kx_A H w 3000 (vq_fault X)) := by
  obtain ⟨now, bef, sav, rf, ln, f, hX'⟩ := id hX
  have hx := hX'.1
  unfold pm_X0_fault vq_fault
  refine ka_gI (by first | exact ka_same | assumption | exact ka_ne1 (by first | assumption | exact Ne.symm (by assumption)) (by first | exact ka_same | assumption | exact ka_ne1 (by first | assumption | exact Ne.symm (by assumption)) (by first | exact ka_same | assumption | exact ka_ne1 (by first | assumption | exact Ne.symm (by assumption)) (by first | exact ka_same | assumption | exact ka_ne1 (by first | assumption | exact Ne.symm (by assumption)) (by first | exact ka_same | assumption | exact ka_ne1 (by first | assumption | exact Ne.symm (by assumption)) (by first | exact ka_same | assumption | exact ka_ne1 (by first | assumption | exact Ne.symm (by assumption)) (by first | exact ka_same | assumption))))))) rfl rfl ?_
  by_cases h : 0 ≤ X.fault
  · refine ka_ifP h (ka_gI hx rfl rfl (ka_pure ⟨?_, by omega, rfl⟩))
    rw [if_pos h]
  · refine ka_ifN h (ka_pure ⟨?_, by omega, rfl⟩)
    rw [if_neg h]
theorem ka_own8 {α : Type} {Q : α → Nat → ka_H → Prop} {a : Nat} {fs : List Value} {f : Unit → km_M α} (ha : H a = some (ka_ob 8 fs)) (k : ka_T Z (f ()) w H Q) : ka_T Z (km_bind (km_own (some a)) f) w H Q := ka_rdr (fun σ hR => by
  have h1 := ka_raw hR ha
  unfold km_ob
  simp only [h1]
  rfl) k
/-- what lies behind a refusal -/
theorem kx_behind : ∀ (d : Nat) (ch : List (Int32 × Int32)) (q fuel : Nat), d ≤ 2 → d < fuel → kr H q ch → ka_T Z (km_behind fuel (some q) (Int32.ofNat d)) w H (fun r w' H' => w' = w ∧ H' = H ∧ match ch[d]? with | none => r = none | some p => ∃ q' c, r = some q' ∧ H q' = some (kr_ob c p.1 p.2)) := by
  intro d
  induction d with
  | zero =>
    intro ch q fuel _ hf hk
    obtain ⟨fuel, rfl⟩ : ∃ n, fuel = n + 1 := ⟨fuel - 1, by omega⟩
    unfold km_behind
    refine ka_ifN (fun z => z rfl) (ka_pure ⟨rfl, rfl, ?_⟩)
    cases ch with
    | nil => exact hk.elim
    | cons p t =>
      cases t with
      | nil =>
        obtain ⟨c, h1, -⟩ := hk
        exact ⟨q, c, rfl, h1⟩
      | cons p2 t =>
        obtain ⟨y, -, h1, -⟩ := hk
        exact ⟨q, some y, rfl, h1⟩
  | succ d ih =>
    intro ch q fuel hd hf hk
    obtain ⟨fuel, rfl⟩ : ∃ n, fuel = n + 1 := ⟨fuel - 1, by omega⟩
    unfold km_behind
    refine ka_ifP (fun z => ?_) ?_
    · have := (k3_eq (b := 0) (by omega) (by omega)).mp z
      omega
    rw [k3_pred (by omega), Nat.add_sub_cancel]
    cases ch with
    | nil => exact hk.elim
    | cons p t =>
      cases t with
      | nil =>
        obtain ⟨c, h1, h2⟩ := hk
        refine ka_call (P := fun r w' H' => r = c ∧ w' = w ∧ H' = H) ?_ (fun r w' H' hp => ?_)
        · unfold km_cause km_cause1
          refine ka_is h1 rfl (ka_own8 h1 (ka_gR (v := c) h1 rfl (by cases c <;> rfl) ?_))
          refine ka_ifN (fun z => ?_) (ka_pure ⟨rfl, rfl, rfl⟩)
          rcases h2 with e | ⟨y, fs, e1, e2⟩
          · rw [e] at z
            cases z
          · rw [e1] at z
            cases z
            rw [h1] at e2
            cases e2
        · obtain ⟨rfl, rfl, rfl⟩ := hp
          rcases h2 with e | ⟨y, fs, e1, e2⟩
          · subst e
            refine ka_instN (ka_ifP rfl (ka_pure ⟨rfl, rfl, ?_⟩))
            rw [List.getElem?_cons_succ]
            rfl
          · subst e1
            refine ka_instNo e2 rfl (by decide) (by decide) (ka_ifP rfl (ka_pure ⟨rfl, rfl, ?_⟩))
            rw [List.getElem?_cons_succ]
            rfl
      | cons p2 t =>
        obtain ⟨y, hy, h1, h2⟩ := hk
        obtain ⟨fs2, hy2⟩ : ∃ fs, H y = some (ka_ob 8 fs) := by
          cases t with
          | nil =>
            obtain ⟨c, h3, -⟩ := h2
            exact ⟨_, h3⟩
          | cons p3 t =>
            obtain ⟨y3, -, h3, -⟩ := h2
            exact ⟨_, h3⟩
        refine ka_call (P := fun r w' H' => r = some y ∧ w' = w ∧ H' = H) ?_ (fun r w' H' hp => ?_)
        · unfold km_cause km_cause1
          refine ka_is h1 rfl (ka_own8 h1 (ka_gR (v := some y) h1 rfl rfl ?_))
          exact ka_ifN (fun z => hy (Option.some.inj z)) (ka_pure ⟨rfl, rfl, rfl⟩)
        · obtain ⟨rfl, rfl, rfl⟩ := hp
          refine ka_instY hy2 rfl (by decide) (ka_ifN (by decide) (ka_cast hy2 rfl (by decide) (ka_is hy2 rfl ?_)))
          refine ka_call (ih (p2 :: t) y fuel (by omega) (by omega) h2) (fun r w' H' hp => ?_)
          obtain ⟨rfl, rfl, h5⟩ := hp
          refine ka_pure ⟨rfl, rfl, ?_⟩
          rw [List.getElem?_cons_succ]
          exact h5
theorem kx_reason {d k : Int32} (hX : kX H x dq ip cc dd X) : ka_T Z (pm_X0_reason (some x) d k) w H (kx_A H w 3000 (vq_reason X d k)) := by
  obtain ⟨now, bef, sav, rf, ln, f, hX'⟩ := id hX
  have hx := hX'.1
  have hrf := hX'.2.2.2.2.2.2.2.2.2.1
  unfold pm_X0_reason vq_reason
  refine ka_use kx_in ?_
  by_cases h : v_in d 0 2 = 1
  · rw [if_pos h]
    refine ka_ifP (by rw [h]; decide) ?_
    obtain ⟨n, rfl, -, hn⟩ := v_in_nat (a := 0) (b := 2) (by omega) (by omega) h
    rw [k3_nat (by omega)]
    refine ka_gR (v := rf) hx rfl (by cases rf <;> rfl) ?_
    cases rf with
    | none =>
      cases hr : X.rf with
      | some ch => rw [hr] at hrf; exact hrf.elim
      | none => exact ka_ifP rfl (ka_pure ⟨rfl, by omega, rfl⟩)
    | some q =>
      cases hr : X.rf with
      | none => rw [hr] at hrf; exact hrf.elim
      | some ch =>
        rw [hr] at hrf
        obtain ⟨hk, hl⟩ := hrf
        refine ka_ifN (by simp) (ka_gR (v := some q) hx rfl rfl ?_)
        obtain ⟨fs2, hy2⟩ : ∃ fs, H q = some (ka_ob 8 fs) := by
          cases ch with
          | nil => exact hk.elim
          | cons p t =>
            cases t with
            | nil =>
              obtain ⟨c, h3, -⟩ := hk
              exact ⟨_, h3⟩
            | cons p3 t =>
              obtain ⟨y3, -, h3, -⟩ := hk
              exact ⟨_, h3⟩
        refine ka_is hy2 rfl (ka_call (kx_behind n ch q 9 hn (by omega) hk) (fun r w' H' hp => ?_))
        obtain ⟨rfl, rfl, h5⟩ := hp
        cases hc : ch[n]? with
        | none =>
          rw [hc] at h5
          dsimp only at h5
          rw [h5]
          exact ka_ifP rfl (ka_pure ⟨by dsimp only; rw [hc], by omega, rfl⟩)
        | some p =>
          rw [hc] at h5
          obtain ⟨q', c, rfl, hq'⟩ := h5
          refine ka_ifN (by simp) ?_
          by_cases hk0 : k = 0
          · refine ka_ifP hk0 (ka_gI hq' rfl rfl (ka_pure ⟨?_, by omega, rfl⟩))
            dsimp only
            rw [hc]
            dsimp only
            rw [if_pos hk0]
          · refine ka_ifN hk0 (ka_gI hq' rfl rfl (ka_pure ⟨?_, by omega, rfl⟩))
            dsimp only
            rw [hc]
            dsimp only
            rw [if_neg hk0]
  · rw [if_neg h]
    exact ka_ifN (by rw [v_in_no h]; simp) (ka_pure ⟨rfl, by omega, rfl⟩)
theorem kx_undo (hX : kX H x dq ip cc dd X) : ka_T Z (pm_X0_undo (some x)) w H (kx_Q H x dq ip cc dd w 0 (vx_undo X).1 (vx_undo X).2) := by
  obtain ⟨now, bef, sav, rf, ln, f, hX'⟩ := id hX
  obtain ⟨a1, a2, a3, a4, a5, a6, a7, a8, a9, a10, a11, a12, a13, a14⟩ := hX'
  have hxdq : x ≠ dq := ka_kinds a1 a2 (by simp)
  have hxip : x ≠ ip := ka_kinds a1 a7 (by simp)
  have hdqip : dq ≠ ip := ka_kinds a2 a7 (by simp)
  have hVl : X.bef.length = bef.length := by rw [← a13, List.length_map]
  unfold pm_X0_undo
  refine ka_gR (v := some dq) a1 rfl rfl (ka_is a2 rfl (ka_use (kq_isEmpty a2) ?_))
  rcases List.eq_nil_or_concat bef with hb | ⟨bef', W, hb⟩
  · have e : vx_undo X = (-3, X) := by
      unfold vx_undo
      rw [← a13, hb]
      rfl
    rw [e, hb, List.map_nil, if_pos rfl]
    exact ka_ifN (by decide) (ka_pure (kx_same hX (by omega)))
  · have e : vx_undo X = (Int32.ofNat bef'.length, W.2.2.V, bef'.map (fun W => W.2.2.V), X.2.2) := by
      unfold vx_undo
      rw [← a13, hb, List.concat_eq_append, List.map_append]
      show (match (List.map _ bef' ++ [W.2.2.V]).getLast? with | none => _ | some V => _) = _
      rw [List.getLast?_concat]
      show (Int32.ofNat ((List.map _ bef' ++ [W.2.2.V]).length - 1), W.2.2.V, (List.map _ bef' ++ [W.2.2.V]).dropLast, _) = _
      rw [List.dropLast_concat, List.length_append, List.length_map]
      rfl
    rw [e]
    rw [hb, List.concat_eq_append] at a2 a3 a5
    rw [List.map_append] at a2
    have hbne : ¬ (bef.map (fun W : kW => W.1)) = [] := by rw [hb, List.concat_eq_append]; simp
    rw [if_neg hbne]
    refine ka_ifP rfl (ka_gR (v := some dq) a1 rfl rfl (ka_is a2 rfl (ka_call (kq_removeLast a2) (fun r v K hp => ?_))))
    obtain ⟨rfl, rfl, rfl⟩ := hp
    have hW := a5 W (List.mem_append_right _ (List.mem_singleton.mpr rfl))
    have hW1 : ka_up H dq (ka_dq (bef'.map (·.1))) W.1 = some (kc_so W.2.1 W.2.2.sc) := (ka_ne (ka_kinds hW.1.1 a2 (by simp))).trans hW.1.1
    have hx1 : ka_up H dq (ka_dq (bef'.map (·.1))) x = some (kx_ob now.1 (sav.map (·.1)) dq rf ln ip (Int32.ofNat X.inp.length) X.fault) := (ka_ne hxdq).trans a1
    refine ka_cast hW1 rfl rfl (ka_pR (v := some W.1) hx1 rfl (Nat.le_of_ble_eq_true rfl) ?_)
    have hdq2 : ka_up (ka_up H dq (ka_dq (bef'.map (·.1)))) x (kx_ob W.1 (sav.map (·.1)) dq rf ln ip (Int32.ofNat X.inp.length) X.fault) dq = some (ka_dq (bef'.map (·.1))) := (ka_ne hxdq.symm).trans ka_same
    refine ka_gR (v := some dq) ka_same rfl rfl (ka_is hdq2 rfl (ka_use (kq_size hdq2) ?_))
    have him : ka_im H (ka_up (ka_up H dq (ka_dq (bef'.map (·.1)))) x (kx_ob W.1 (sav.map (·.1)) dq rf ln ip (Int32.ofNat X.inp.length) X.fault)) := ka_im_trans (ka_im_up a2 rfl) (ka_im_up hx1 rfl)
    rw [List.length_map]
    refine ka_pure ⟨by omega, rfl, kx_kp_trans kx_kp_dq kx_kp_x, W, bef', sav, rf, ln, f, ka_same, hdq2, by rw [List.length_append] at a3; omega, kW_ok_im hW him, fun W' hW' => kW_ok_im (a5 W' (List.mem_append_left _ hW')) him, fun W' hW' => kW_ok_im (a6 W' hW') him, (ka_ne hxip.symm).trans ((ka_ne hdqip.symm).trans a7), a8, a9, kx_rf_im a10 him, kx_str_im a11 him, rfl, rfl, a14⟩
theorem kx_save (hE : ka_E0 Z) (hX : kX H x dq ip cc dd X) (hcc : cc ≤ 240) (hw : 17000 ≤ w) : ka_T Z (pm_X0_save (some x)) w H (kx_Q H x dq ip cc dd w 17000 (vx_save X).1 (vx_save X).2) := by
  obtain ⟨now, bef, sav, rf, ln, f, hX'⟩ := id hX
  obtain ⟨a1, a2, a3, a4, a5, a6, a7, a8, a9, a10, a11, a12, a13, a14⟩ := hX'
  have hxdq : x ≠ dq := ka_kinds a1 a2 (by simp)
  have hxip : x ≠ ip := ka_kinds a1 a7 (by simp)
  unfold pm_X0_save vx_save
  refine ka_new (by omega) (fun s hs => ?_)
  have hxs : x ≠ s := ka_dom a1 hs
  refine ka_gR (v := some now.1) ((ka_ne hxs).trans a1) rfl rfl ?_
  refine ka_nn (ka_call (kx_copy hE a4 hcc hs (by omega)) (fun _ w1 H1 hp => ?_))
  obtain ⟨hw1, ad, A, hM, hV⟩ := hp
  have hle := hM.1
  have hx1 := hle _ _ a1
  refine ka_pR (v := some s) hx1 rfl (Nat.le_of_ble_eq_true rfl) ?_
  refine ka_gR (v := some now.1) ka_same rfl rfl ?_
  have him : ka_im H1 (ka_up H1 x (kx_ob now.1 (some s) dq rf ln ip (Int32.ofNat X.inp.length) X.fault)) := ka_im_up hx1 rfl
  have him0 := ka_im_trans (ka_im_le hle) him
  have hS2 := kc_shop_im a4.1 him0
  obtain ⟨m0, l0⟩ := kg_cs hS2
  refine ka_gR (v := some (now.2.1 0)) (kg_s hS2) rfl rfl (ka_is l0 rfl (ka_use (kl_size l0) ?_))
  rw [List.length_map]
  refine ka_pure ⟨by omega, by rw [← a12, kvl_cs], kx_kp_trans (kx_kp_le hle) kx_kp_x, now, bef, some (s, ad, A), rf, ln, f, ka_same, (ka_ne hxdq.symm).trans (hle _ _ a2), a3, kW_ok_im a4 him0, fun W hW => kW_ok_im (a5 W hW) him0, fun W hW => ?_, (ka_ne hxip.symm).trans (hle _ _ a7), a8, a9, kx_rf_im a10 him0, kx_str_im a11 him0, a12, a13, ?_⟩
  · cases hW
    exact ⟨kc_shop_im hM.2.1 him, hM.2.2.2.1, by rw [hV]; exact a4.2.2⟩
  · show some (kAp.V A) = some X.now
    rw [hV, a12]
theorem kx_restore (hE : ka_E0 Z) (hX : kX H x dq ip cc dd X) (hcc : cc ≤ 240) (hw : 17000 ≤ w) : ka_T Z (pm_X0_restore (some x)) w H (kx_Q H x dq ip cc dd w 17000 (vx_restore X).1 (vx_restore X).2) := by
  obtain ⟨now, bef, sav, rf, ln, f, hX'⟩ := id hX
  obtain ⟨a1, a2, a3, a4, a5, a6, a7, a8, a9, a10, a11, a12, a13, a14⟩ := hX'
  have hxdq : x ≠ dq := ka_kinds a1 a2 (by simp)
  have hxip : x ≠ ip := ka_kinds a1 a7 (by simp)
  have hdqip : dq ≠ ip := ka_kinds a2 a7 (by simp)
  unfold pm_X0_restore
  refine ka_gR (v := sav.map (·.1)) a1 rfl (by cases sav <;> rfl) ?_
  cases hsv : sav with
  | none =>
    have e : vx_restore X = (-3, X) := by
      unfold vx_restore
      rw [← a14, hsv]
      rfl
    rw [e]
    exact ka_ifP rfl (ka_pure (kx_same hX (by omega)))
  | some W =>
    have hW := a6 W hsv
    have e : vx_restore X = (Int32.ofNat W.2.2.V.cs.length, W.2.2.V, [], X.2.2) := by
      unfold vx_restore
      rw [← a14, hsv]
      rfl
    rw [e]
    rw [hsv] at a1
    refine ka_ifN (by simp) ?_
    refine ka_new (by omega) (fun s hs => ?_)
    have hxs : x ≠ s := ka_dom a1 hs
    refine ka_gR (v := some W.1) ((ka_ne hxs).trans a1) rfl rfl ?_
    refine ka_nn (ka_call (kx_copy hE hW hcc hs (by omega)) (fun _ w1 H1 hp => ?_))
    obtain ⟨hw1, ad, A, hM, hV⟩ := hp
    have hle := hM.1
    have hx1 := hle _ _ a1
    have hdq1 := hle _ _ a2
    refine ka_pR (v := some s) hx1 rfl (Nat.le_of_ble_eq_true rfl) ?_
    have hdq2 : ka_up H1 x (kx_ob s (some W.1) dq rf ln ip (Int32.ofNat X.inp.length) X.fault) dq = some (ka_dq (bef.map (·.1))) := (ka_ne hxdq.symm).trans hdq1
    refine ka_gR (v := some dq) ka_same rfl rfl (ka_is hdq2 rfl (ka_call (kq_clear hdq2) (fun _ v K hp => ?_)))
    obtain ⟨rfl, rfl⟩ := hp
    have hx3 : ka_up (ka_up H1 x (kx_ob s (some W.1) dq rf ln ip (Int32.ofNat X.inp.length) X.fault)) dq (ka_dq []) x = some (kx_ob s (some W.1) dq rf ln ip (Int32.ofNat X.inp.length) X.fault) := (ka_ne hxdq).trans ka_same
    refine ka_gR (v := some s) hx3 rfl rfl ?_
    have him : ka_im H1 (ka_up (ka_up H1 x (kx_ob s (some W.1) dq rf ln ip (Int32.ofNat X.inp.length) X.fault)) dq (ka_dq [])) := ka_im_trans (ka_im_up hx1 rfl) (ka_im_up hdq2 rfl)
    have him0 := ka_im_trans (ka_im_le hle) him
    have hS2 := kc_shop_im hM.2.1 him
    obtain ⟨m0, l0⟩ := kg_cs hS2
    refine ka_gR (v := some (ad 0)) (kg_s hS2) rfl rfl (ka_is l0 rfl (ka_use (kl_size l0) ?_))
    rw [List.length_map]
    refine ka_pure ⟨by omega, by rw [← hV, kvl_cs], kx_kp_trans (kx_kp_le hle) (kx_kp_trans kx_kp_x kx_kp_dq), (s, ad, A), [], some W, rf, ln, f, hx3, ka_same, Nat.zero_le _, ⟨hS2, hM.2.2.2.1, by rw [hV]; exact hW.2.2⟩, fun W' hW' => by (cases hW'), fun W' hW' => kW_ok_im (a6 W' (hsv.trans hW')) him0, (ka_ne hdqip.symm).trans ((ka_ne hxip.symm).trans (hle _ _ a7)), a8, a9, kx_rf_im a10 him0, kx_str_im a11 him0, hV, rfl, by rw [← hsv]; exact a14⟩
end KXM
