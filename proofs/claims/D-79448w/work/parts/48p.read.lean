set_option maxRecDepth 100000
/-! ===== a line is read ===== -/
def kz_words (Z : ka_Z) : Prop := ∀ i, i < 8 → kz_txt Z (kr_k i) (vr_w i) (kr_h i)
def vx_clear (X : vX) (fa : Int32) : vX := (X.now, X.bef, X.sav, X.rf, X.line, [], fa)
def vx_read (X : vX) : Int32 × vX := match vr_whole X.inp with
  | .inl e => (-2, vx_clear X (Int32.ofNat e))
  | .inr cs => (vx_ans (v_all2 cs 0 X.now), vx_clear (vx_done X (v_all2 cs 0 X.now)) X.fault)
section KRR
variable {Z : ka_Z} {w : Nat} {H : ka_H} {x dq ip cc dd : Nat} {X : vX}
theorem kr_consts {α : Type} {Q : α → Nat → ka_H → Prop} {y : km_M α} (hK : kz_words Z) : ∀ n, n ≤ 8 → ∀ H : ka_H, (∀ G, ka_le H G → (∀ i, i < n → ∃ a, kr_wd Z G i a) → ka_T Z y w G Q) → ka_T Z y w H Q := by
  intro n
  induction n with
  | zero => intro _ H k; exact k H ka_le_refl (fun i hi => by omega)
  | succ n ih =>
    intro hn H k
    refine ih (by omega) H (fun G hle hG => ?_)
    refine kx_txt (hK n (by omega)) (fun G2 a b y2 z1 hle2 hstr hcell => k G2 (ka_le_trans hle hle2) (fun i hi => ?_))
    by_cases e : i = n
    · subst e
      exact ⟨a, z1, hstr, false, b, y2, hcell⟩
    · obtain ⟨a2, h2⟩ := hG i (by omega)
      exact ⟨a2, kr_wd_le h2 hle2⟩
theorem kr_init {G : ka_H} {r : Nat} (hr : G r = none) (hW : ∀ i, i < 8 → ∃ a, kr_wd Z G i a) (hw : 40 ≤ w) : ka_T Z (pm_X28_init (some r) (some x)) w (ka_up G r (ka_ob 26 kz_Reader)) (fun _ w' K' => w' = w - 13 - 13 ∧ ∃ B wa ma, ka_le G B ∧ B r = none ∧ K' = ka_up B r (kr_rd wa ma 0 x) ∧ (∃ g, B wa = some (ka_aR 5 8 g) ∧ ∀ i, i < 8 → ∃ a, g i = some a ∧ kr_wd Z B i a) ∧ (∃ g, B ma = some (ka_aI 0 8 g) ∧ ∀ i, i < 8 → g i = Int32.ofNat (vr_many i))) := by
  obtain ⟨a0, w0⟩ := hW 0 (by omega)
  have z0 : Z.1 18 = some a0 := w0.1
  obtain ⟨fl0, b0, y0, c0⟩ := w0.2.2
  obtain ⟨a1, w1⟩ := hW 1 (by omega)
  have z1 : Z.1 21 = some a1 := w1.1
  obtain ⟨fl1, b1, y1, c1⟩ := w1.2.2
  obtain ⟨a2, w2⟩ := hW 2 (by omega)
  have z2 : Z.1 11 = some a2 := w2.1
  obtain ⟨fl2, b2, y2, c2⟩ := w2.2.2
  obtain ⟨a3, w3⟩ := hW 3 (by omega)
  have z3 : Z.1 23 = some a3 := w3.1
  obtain ⟨fl3, b3, y3, c3⟩ := w3.2.2
  obtain ⟨a4, w4⟩ := hW 4 (by omega)
  have z4 : Z.1 16 = some a4 := w4.1
  obtain ⟨fl4, b4, y4, c4⟩ := w4.2.2
  obtain ⟨a5, w5⟩ := hW 5 (by omega)
  have z5 : Z.1 13 = some a5 := w5.1
  obtain ⟨fl5, b5, y5, c5⟩ := w5.2.2
  obtain ⟨a6, w6⟩ := hW 6 (by omega)
  have z6 : Z.1 20 = some a6 := w6.1
  obtain ⟨fl6, b6, y6, c6⟩ := w6.2.2
  obtain ⟨a7, w7⟩ := hW 7 (by omega)
  have z7 : Z.1 25 = some a7 := w7.1
  obtain ⟨fl7, b7, y7, c7⟩ := w7.2.2
  unfold pm_X28_init
  refine ka_pR (v := some x) ka_same rfl (Nat.le_of_ble_eq_true rfl) ?_
  rw [ka_up_up]
  refine ka_nn (ka_nR (m := 8) (by decide) rfl (by decide) (by omega) (fun wa hwa => ?_))
  have hrw : r ≠ wa := ka_dom ka_same hwa
  have hwa0 : G wa = none := (ka_ne hrw.symm).symm.trans hwa
  rw [ka_up_comm hrw]
  have hk : ∀ {a : Nat} {c o o' : ka_O}, G a = some c → ka_up (ka_up G wa o) r o' a = some c := fun ha => (ka_ne (ka_dom ha hr)).trans ((ka_ne (ka_dom ha hwa0)).trans ha)
  have hA : ∀ {o o' : ka_O}, ka_up (ka_up G wa o) r o' wa = some o := (ka_ne hrw.symm).trans ka_same
  have hU : ∀ {o o' o2 : ka_O}, ka_up (ka_up (ka_up G wa o) r o') wa o2 = ka_up (ka_up G wa o2) r o' := by
    intro o o' o2
    rw [ka_up_comm hrw, ka_up_up]
  refine ka_k ?_
  rw [z0]
  refine ka_stR hA (hk c0) rfl (Or.inr ⟨rfl, rfl⟩) rfl ?_
  rw [hU]
  refine ka_k ?_
  rw [z1]
  refine ka_stR hA (hk c1) rfl (Or.inr ⟨rfl, rfl⟩) rfl ?_
  rw [hU]
  refine ka_k ?_
  rw [z2]
  refine ka_stR hA (hk c2) rfl (Or.inr ⟨rfl, rfl⟩) rfl ?_
  rw [hU]
  refine ka_k ?_
  rw [z3]
  refine ka_stR hA (hk c3) rfl (Or.inr ⟨rfl, rfl⟩) rfl ?_
  rw [hU]
  refine ka_k ?_
  rw [z4]
  refine ka_stR hA (hk c4) rfl (Or.inr ⟨rfl, rfl⟩) rfl ?_
  rw [hU]
  refine ka_k ?_
  rw [z5]
  refine ka_stR hA (hk c5) rfl (Or.inr ⟨rfl, rfl⟩) rfl ?_
  rw [hU]
  refine ka_k ?_
  rw [z6]
  refine ka_stR hA (hk c6) rfl (Or.inr ⟨rfl, rfl⟩) rfl ?_
  rw [hU]
  refine ka_k ?_
  rw [z7]
  refine ka_stR hA (hk c7) rfl (Or.inr ⟨rfl, rfl⟩) rfl ?_
  rw [hU]
  refine ka_pR (v := some wa) ka_same rfl (Nat.le_of_ble_eq_true rfl) ?_
  rw [ka_up_up]
  refine ka_nI (m := 8) (by decide) rfl (by decide) (by omega) (fun ma hma => ?_)
  have hrm : r ≠ ma := ka_dom ka_same hma
  have hwm : wa ≠ ma := ka_dom hA hma
  rw [ka_up_comm hrm]
  generalize hgA : (va_up (va_up (va_up (va_up (va_up (va_up (va_up (va_up (fun _ => none) ((0 : Int32).toNatClampNeg) (some a0)) ((1 : Int32).toNatClampNeg) (some a1)) ((2 : Int32).toNatClampNeg) (some a2)) ((3 : Int32).toNatClampNeg) (some a3)) ((4 : Int32).toNatClampNeg) (some a4)) ((5 : Int32).toNatClampNeg) (some a5)) ((6 : Int32).toNatClampNeg) (some a6)) ((7 : Int32).toNatClampNeg) (some a7)) = gA at hma ⊢
  have hM : ∀ {o o' : ka_O}, ka_up (ka_up (ka_up G wa (ka_aR 5 8 gA)) ma o) r o' ma = some o := (ka_ne hrm.symm).trans ka_same
  have hU2 : ∀ {o o' o2 : ka_O}, ka_up (ka_up (ka_up (ka_up G wa (ka_aR 5 8 gA)) ma o) r o') ma o2 = ka_up (ka_up (ka_up G wa (ka_aR 5 8 gA)) ma o2) r o' := by
    intro o o' o2
    rw [ka_up_comm hrm, ka_up_up]
  refine ka_stI hM rfl ?_
  rw [hU2]
  refine ka_stI hM rfl ?_
  rw [hU2]
  refine ka_stI hM rfl ?_
  rw [hU2]
  refine ka_stI hM rfl ?_
  rw [hU2]
  refine ka_stI hM rfl ?_
  rw [hU2]
  refine ka_stI hM rfl ?_
  rw [hU2]
  refine ka_stI hM rfl ?_
  rw [hU2]
  refine ka_stI hM rfl ?_
  rw [hU2]
  generalize hgM : (upd (upd (upd (upd (upd (upd (upd (upd (fun _ => 0) ((0 : Int32).toNatClampNeg) (vp_nar (km_ty 0) (2 : Int32))) ((1 : Int32).toNatClampNeg) (vp_nar (km_ty 0) (2 : Int32))) ((2 : Int32).toNatClampNeg) (vp_nar (km_ty 0) (2 : Int32))) ((3 : Int32).toNatClampNeg) (vp_nar (km_ty 0) (2 : Int32))) ((4 : Int32).toNatClampNeg) (vp_nar (km_ty 0) (1 : Int32))) ((5 : Int32).toNatClampNeg) (vp_nar (km_ty 0) (1 : Int32))) ((6 : Int32).toNatClampNeg) (vp_nar (km_ty 0) (0 : Int32))) ((7 : Int32).toNatClampNeg) (vp_nar (km_ty 0) (1 : Int32))) = gM
  refine ka_pR (v := some ma) ka_same rfl (Nat.le_of_ble_eq_true rfl) ?_
  rw [ka_up_up]
  have hma0 : ka_up G wa (ka_aR 5 8 gA) ma = none := (ka_ne hrm.symm).symm.trans hma
  have hleB : ka_le G (ka_up (ka_up G wa (ka_aR 5 8 gA)) ma (ka_aI 0 8 gM)) := ka_le_trans (ka_le_up hwa0) (ka_le_up hma0)
  refine ka_pure ⟨rfl, ka_up (ka_up G wa (ka_aR 5 8 gA)) ma (ka_aI 0 8 gM), wa, ma, hleB, (ka_ne hrm).trans ((ka_ne hrw).trans hr), rfl, ⟨gA, (ka_ne hwm).trans ka_same, fun i hi => ?_⟩, gM, ka_same, fun i hi => ?_⟩
  · have h8 : i = 0 ∨ i = 1 ∨ i = 2 ∨ i = 3 ∨ i = 4 ∨ i = 5 ∨ i = 6 ∨ i = 7 := by omega
    rcases h8 with e | e | e | e | e | e | e | e <;> subst e
    · exact ⟨a0, by rw [← hgA]; rfl, kr_wd_le w0 hleB⟩
    · exact ⟨a1, by rw [← hgA]; rfl, kr_wd_le w1 hleB⟩
    · exact ⟨a2, by rw [← hgA]; rfl, kr_wd_le w2 hleB⟩
    · exact ⟨a3, by rw [← hgA]; rfl, kr_wd_le w3 hleB⟩
    · exact ⟨a4, by rw [← hgA]; rfl, kr_wd_le w4 hleB⟩
    · exact ⟨a5, by rw [← hgA]; rfl, kr_wd_le w5 hleB⟩
    · exact ⟨a6, by rw [← hgA]; rfl, kr_wd_le w6 hleB⟩
    · exact ⟨a7, by rw [← hgA]; rfl, kr_wd_le w7 hleB⟩
  · have h8 : i = 0 ∨ i = 1 ∨ i = 2 ∨ i = 3 ∨ i = 4 ∨ i = 5 ∨ i = 6 ∨ i = 7 := by omega
    rw [← hgM]
    rcases h8 with e | e | e | e | e | e | e | e <;> subst e <;> rfl
/-- what was fed is read: the feed is empty -/
theorem kx_clear {G : ka_H} {fa : Int32} (hX : kX G x dq ip cc dd X) : ∃ now sv rf ln fed, G x = some (kx_ob now sv dq rf ln ip fed X.fault) ∧ kX (ka_up G x (kx_ob now sv dq rf ln ip 0 fa)) x dq ip cc dd (vx_clear X fa) := by
  obtain ⟨now, bef, sav, rf, ln, f, a1, a2, a3, a4, a5, a6, a7, a8, a9, a10, a11, a12, a13, a14⟩ := hX
  have hxdq : x ≠ dq := ka_kinds a1 a2 (by simp)
  have hxip : x ≠ ip := ka_kinds a1 a7 (by simp)
  have him : ka_im G (ka_up G x (kx_ob now.1 (sav.map (·.1)) dq rf ln ip 0 fa)) := ka_im_up a1 rfl
  exact ⟨_, _, _, _, _, a1, now, bef, sav, rf, ln, f, ka_same, (ka_ne hxdq.symm).trans a2, a3, kW_ok_im a4 him, fun W hW => kW_ok_im (a5 W hW) him, fun W hW => kW_ok_im (a6 W hW) him, (ka_ne hxip.symm).trans a7, fun i hi => absurd hi (Nat.not_lt_zero i), Nat.zero_le _, kx_rf_im a10 him, kx_str_im a11 him, a12, a13, a14⟩
theorem vx_done_inp {res : vR} : (vx_done X res).inp = X.inp ∧ (vx_done X res).fault = X.fault := by
  cases res with
  | inl ch => exact ⟨rfl, rfl⟩
  | inr p => exact ⟨rfl, rfl⟩
theorem kx_read (hE : ka_E0 Z) (hK : kz_words Z) (hX : kX H x dq ip cc dd X) (hcc : cc + 10 * X.inp.length ≤ 240) (hw : 20000 + 47000 * X.inp.length ≤ w) : ka_T Z (pm_X0_read (some x)) w H (kx_Q H x dq ip (cc + 10 * X.inp.length) (dd + 60 * X.inp.length) w (20000 + 47000 * X.inp.length) (vx_read X).1 (vx_read X).2) := by
  refine kr_consts hK 8 (Nat.le_refl _) H (fun G hleG hWd => ?_)
  have hXG := kX_le hX hleG
  obtain ⟨now, bef, sav, rf, ln, f, a1, a2, a3, a4, a5, a6, a7, a8, a9, -⟩ := id hXG
  unfold pm_X0_read
  refine ka_new (by omega) (fun r hr => ?_)
  refine ka_nn (ka_call (kr_init hr hWd (by omega)) (fun _ w1 K1 hq => ?_))
  obtain ⟨rfl, B, wa, ma, hleB, hBr, rfl, hwa, hma⟩ := hq
  have hER : kr_E Z B x ip wa ma X.inp := ⟨⟨_, _, _, _, _, _, hleB _ _ a1⟩, ⟨f, hleB _ _ a7, a8⟩, a9, hwa, hma⟩
  refine ka_is (o := kr_rd wa ma 0 x) ka_same rfl (ka_call (kr_whole hER (ka_le_up hBr) hBr ka_same (by omega)) (fun y w2 K2 hq => ?_))
  obtain ⟨hw2, hle2, hq⟩ := hq
  have hleH2 : ka_le H K2 := ka_le_trans hleG (ka_le_trans hleB hle2)
  have hX2 := kX_le hX hleH2
  unfold vx_read
  cases hwh : vr_whole X.inp with
  | inl e =>
    rw [hwh] at hq
    obtain ⟨q, rfl, hbs⟩ := hq
    refine ka_is hbs rfl ?_
    unfold pb_X0_read_32
    obtain ⟨n9, s9, r9, l9, f9, hx9, hXc⟩ := kx_clear (fa := Int32.ofNat e) hX2
    refine ka_gI hbs rfl rfl (ka_pI hx9 rfl rfl (Nat.le_of_ble_eq_true rfl) (ka_pI ka_same rfl rfl (Nat.le_of_ble_eq_true rfl) ?_))
    rw [ka_up_up]
    exact ka_pure ⟨by omega, rfl, kx_kp_trans (kx_kp_le hleH2) kx_kp_x, kX_mono hXc (Nat.le_add_right _ _) (Nat.le_add_right _ _)⟩
  | inr cs =>
    rw [hwh] at hq
    obtain ⟨l, L, rfl, hBl, rfl, hl, hcs⟩ := hq
    obtain ⟨hlen, -⟩ := vr_whole_len hwh
    rw [List.length_map] at hlen
    have hB2 : ka_le B K2 := hle2
    refine kq_open hl (fun b h g hW n1 n2 hb => ?_)
    have hb0 : B b = none := kb_fresh2 hle2 hb
    have hleK : ka_le B (ka_up (ka_up K2 l (kq_ob b h (L.map (·.1)).length)) b (ka_aR 4 17 g)) := ka_le_mut (ka_le_mut hle2 hBl) hb0
    have hcK : ∀ z ∈ L, kr_c Z (ka_up (ka_up K2 l (kq_ob b h (L.map (·.1)).length)) b (ka_aR 4 17 g)) z.1 z.2 := fun z hz => kr_c_le (kr_c_up (hcs z hz) hl (Or.inr rfl)) (ka_le_up ((ka_ne n1).trans hb))
    have hlK : ka_up (ka_up K2 l (kq_ob b h (L.map (·.1)).length)) b (ka_aR 4 17 g) l = some (kq_ob b h (L.map (·.1)).length) := (ka_ne n2).trans ka_same
    have hbK : ka_up (ka_up K2 l (kq_ob b h (L.map (·.1)).length)) b (ka_aR 4 17 g) b = some (ka_aR 4 17 g) := ka_same
    generalize ka_up (ka_up K2 l (kq_ob b h (L.map (·.1)).length)) b (ka_aR 4 17 g) = K3 at hleK hcK hlK hbK ⊢
    have hleH3 : ka_le H K3 := ka_le_trans hleG (ka_le_trans hleB hleK)
    have hX3 := kX_le hX hleH3
    rw [List.length_map] at hlK
    show ka_T Z (km_bind (km_new 29 3 kz_D13) fun r3 => km_bind (km_nn r3) fun _ => km_bind (pm_X31_init r3 (some x) (some l)) fun _ => km_bind (km_is 29 r3) fun _ => km_bind (pm_X4_done r3) fun i4 => km_bind (km_pI .int [(0, 6)] (some x) (0 : Int32)) fun _ => km_pure i4) w2 K3 _
    have hL1 : 5 * L.length ≤ X.inp.length + 1 := hlen
    have hL2 : L.length ≤ X.inp.length := by omega
    refine ka_new (by omega) (fun D hD => ?_)
    refine ka_nn (ka_call (P := fun _ w' H' => w' = w2 - 8 ∧ H' = ka_up K3 D (ka_ob 29 [.ref x, .ref l, .ref x])) ?_ (fun _ w3 K4 hq => ?_))
    · unfold pm_X31_init
      refine ka_pR (v := some x) ka_same rfl (Nat.le_of_ble_eq_true rfl) ?_
      rw [ka_up_up]
      refine ka_pR (v := some l) ka_same rfl (Nat.le_of_ble_eq_true rfl) ?_
      rw [ka_up_up]
      refine ka_nn (ka_call (kx_init4 ka_same rfl) (fun _ w' H' hp => ?_))
      obtain ⟨rfl, rfl⟩ := hp
      refine ka_pure ⟨rfl, ?_⟩
      rw [ka_up_up]
      rfl
    · obtain ⟨rfl, rfl⟩ := hq
      have hleD : ka_le K3 (ka_up K3 D (ka_ob 29 [.ref x, .ref l, .ref x])) := ka_le_up hD
      have hok : v_ok cc dd X.now := by
        obtain ⟨now', bef', sav', rf', ln', f', b1, b2, b3, b4, b5, b6, b7, b8, b9, b10, b11, b12, b13, b14⟩ := id hX
        rw [← b12]
        exact b4.2.2
      have hres : vx_res (cc + 10 * X.inp.length) (dd + 60 * X.inp.length) (v_all2 (L.map (·.2)) 0 X.now) := by
        have h1 := vk_all2 (L.map (·.2)) 0 X.now cc dd hok (by rw [List.length_map]; omega)
        rw [List.length_map] at h1
        revert h1
        cases v_all2 (L.map (·.2)) 0 X.now with
        | inl ch => exact fun h => h
        | inr p => exact fun h => v_ok_mono h (by omega) (by omega)
      refine ka_is ka_same rfl (ka_call (kx_done (C := 47000 * L.length + 40) (cc' := cc + 10 * X.inp.length) (dd' := dd + 60 * X.inp.length) hE (kX_le hX3 hleD) (by omega) (by omega) (by omega) (ka_same (a := D)) rfl rfl (fun s ad A w4 H1 hM hV hokA hC => ?_) hres (by omega)) (fun v w5 H5 hq => ?_))
      · show ka_T Z (pm_X31_does (some D) (some s)) w4 H1 _
        have hD1 := hM.1 _ _ (ka_same (a := D))
        have hl1 := hM.1 _ _ (hleD _ _ hlK)
        have hb1 := hM.1 _ _ (hleD _ _ hbK)
        have hL16 : L.length < 16 := by have := hW.2.1; rw [List.length_map] at this; exact this
        unfold pm_X31_does
        refine ka_gR (v := some l) hD1 rfl rfl ?_
        refine kq_cost (c := 9 + (47000 * L.length + 20)) ?_ (by omega)
        refine kq_RR ?_
        unfold pm_X0_doesAll
        refine ka_is hl1 rfl (ka_call (kq_iterator hl1 hb1 hW.1 (by omega) (by omega)) (fun y w6 H6 hq => ?_))
        obtain ⟨it, rfl, hit, rfl, rfl⟩ := hq
        have hit0 : ka_up K3 D (ka_ob 29 [.ref x, .ref l, .ref x]) it = none := kc_fresh hM hit
        have h9 := kx_allLoop (Z := Z) (s := s) (ad := ad) (it := it) (l := l) (b := b) (h := h) (g := g) (all := L) hE (hleD _ _ hlK) (hleD _ _ hbK) hW (fun z hz => kr_c_le (hcK z hz) hleD) hit0 L [] A _ km_fuel (w4 - 9) cc dd (-1) rfl (by unfold km_fuel; omega) (ku_new hM hit) ka_same hokA (by omega) (by omega)
        refine ka_post h9 (fun r w' H' hq => ?_)
        rw [← hV]
        exact ⟨by have := hq.1; omega, hq.2⟩
      · obtain ⟨hw5, rfl, hkp5, hX5⟩ := hq
        obtain ⟨hi5, hf5⟩ := vx_done_inp (X := X) (res := v_all2 (L.map (·.2)) 0 X.now)
        obtain ⟨n9, s9, r9, l9, f9, hx9, hXc⟩ := kx_clear (fa := X.fault) hX5
        rw [hf5] at hx9
        refine ka_pI hx9 rfl rfl (Nat.le_of_ble_eq_true rfl) (ka_pure ⟨by omega, rfl, kx_kp_trans (kx_kp_le (ka_le_trans hleH3 hleD)) (kx_kp_trans hkp5 kx_kp_x), hXc⟩)
end KRR
