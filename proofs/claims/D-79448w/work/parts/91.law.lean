/-! THE CLAIM OUT OF ONE WALK OF THE LAW'S BODY (it began as the skeleton's text behind its part A) -/
set_option maxRecDepth 100000
def lw_P (b : Addr) (xs : List Int32) (args : Array Value) (s : State) : Prop := args = #[.ref b] ∧ s.IntsAt b xs ∧ xs.length ≤ 120 ∧ (Jvm.Cond.and given_1 narrow_1).before args s = true
def lw_Q (_ : Array Value) (s : State) (o : Outcome) (t : State) : Prop := o = .returned (some (.int 1)) ∧ Framed s o t [] 1200048 5501818
def lw_Z (below : List Frame) (a : Array Value) (s : State) : State → Prop := fun t => ∃ o, t.status = .running ∧ Ended t below o ∧ lw_Q a s o t
/-- what holds at the law's entry -/
def lw_At (p : Program) (s : State) (m : MethodId) (meth : Method) (c : Code) (b L : Nat) (xs : Nat → Int32) : Prop :=
  p.tables.exec = Jvm.exec ∧ c.code = code ∧ meth.sig.returnType = ret ∧ c.maxLocals = 8 ∧ s.vm.findClass R_law = some m.cls ∧ (∀ w ∈ lw_tbl, w.before #[Value.ref b] s = true) ∧ va_X b L xs s s.heap ∧ b < s.heap.size ∧ meth.locks = false ∧ (Jvm.Cond.and given_1 narrow_1).before #[Value.ref b] s = true
theorem ks_law {G : kw_G} {b L : Nat} {xs : Nat → Int32} (hL : L ≤ 120) (hD : ∀ (c : Nat) (r : vw_C), kcl[c]? = some r → u_Kn G.1 r.1 r.2.1 r.2.2 (G.2.1.1 c) (G.2.1.2 c)) (hX : va_X b L xs G.1 G.1.heap) (hbl : b < G.1.heap.size)
    (hE : ∃ e, G.2.2.2 0 = some e ∧ kw_atC G e (.inl (4, 0, .inr (.inr (.inr (.inr (fun _ => none)))))))
    (hdig : ∃ a, G.2.2.2 2 = some a ∧ kw_atC G a (.inl (2, 100, .inl (fun j => if j < 100 then Int32.ofNat (48 + j % 10) else 0))))
    (hk : ∀ Z : ka_Z, Z.1 = G.2.2.2 → Z.2.2 = ks_Z G → (∃ h, kz_txt Z 10 [] h) ∧ (∃ h, kz_txt Z 15 v_empty h) ∧ kz_words Z ∧ kz_twords Z) : ∃ τ : km_S, (pm_L_law (some b)).1 (ks_S G) = some (1, τ) ∧ 5 * τ.2.1 + τ.2.2.1 ≤ 5 * G.1.heap.size + 3000000 := by
  obtain ⟨scr, x1, x2, x3, x4, x5⟩ := hX
  have hscr : kw_atC G b (.inl (0, L, .inl (fun j => if j < L then xs j else 0))) := by
    refine ⟨⟨scr, x1, x2, x3, by omega, by rw [x4], fun j hj => ?_, Nat.not_le.mpr hbl⟩, Nat.zero_le 2⟩
    rw [x5 j hj]
    show some (Value.int (xs j)) = some (Value.int (if j < L then xs j else 0))
    rw [if_pos hj]
  have nscr : ks_norm (.inl (0, L, .inl (fun j => if j < L then xs j else 0))) := ⟨Or.inl rfl, by omega, fun j hj => if_neg (by omega), fun j => rfl⟩
  have zscr := ks_Z_of hD hscr nscr
  have hE0 : ka_E0 (G.2.2.2, 5 * G.1.heap.size + 3000000, ks_Z G) := by
    obtain ⟨e, e1, e2⟩ := hE
    exact ⟨e, fun _ => none, e1, ks_Z_of hD e2 ⟨rfl, rfl, rfl⟩⟩
  have hD0 : kz_dig (G.2.2.2, 5 * G.1.heap.size + 3000000, ks_Z G) := by
    obtain ⟨a, a1, a2⟩ := hdig
    refine ⟨a, fun j => if j < 100 then Int32.ofNat (48 + j % 10) else 0, a1, ks_Z_of hD a2 ⟨Or.inr rfl, by decide, fun j hj => if_neg (by omega), fun j => ?_⟩, fun i hi => ?_⟩
    · show fits .byte (.int (if j < 100 then Int32.ofNat (48 + j % 10) else 0)) = true
      by_cases hj : j < 100
      · rw [if_pos hj]
        exact ks_byte ⟨48 + j % 10, by omega⟩
      · rw [if_neg hj]
        exact ks_byte ⟨0, by omega⟩
    · show (if i < 100 then Int32.ofNat (48 + i % 10) else 0) = _
      rw [if_pos (by omega), Nat.mod_eq_of_lt hi]
  obtain ⟨k1, k2, k3, k4⟩ := hk (G.2.2.2, 5 * G.1.heap.size + 3000000, ks_Z G) rfl rfl
  have hT := kl_law (Z := (G.2.2.2, 5 * G.1.heap.size + 3000000, ks_Z G)) (w := 3000000) (H := fun a => if a = b then some (.inl (false, .inl (0, L, .inl (fun j => if j < L then xs j else 0)))) else none) (a0 := b) hE0 hD0 k1 k2 k3 k4 hL (if_pos rfl) (Nat.le_refl _)
  have hR0 : ka_R (G.2.2.2, 5 * G.1.heap.size + 3000000, ks_Z G) 3000000 (fun a => if a = b then some (.inl (false, .inl (0, L, .inl (fun j => if j < L then xs j else 0)))) else none) (ks_S G) := by
    refine ⟨⟨rfl, fun a e h => ?_⟩, fun q hq => ?_, ?_, fun _ => 0, fun a o h => ?_, fun a o h ho => ?_⟩
    · show (ks_Z G a).map _ = _
      rw [show ks_Z G a = some e from h]
      rfl
    · show ks_m G q = none
      cases hm : ks_m G q with
      | none => rfl
      | some p =>
        obtain ⟨f, e⟩ := p
        have h1 := ks_lt (ks_m_at hm).2.1
        have h2 : G.1.heap.size ≤ q := hq
        exact absurd h1 (Nat.not_lt.mpr h2)
    · show 5 * G.1.heap.size + 0 + 3000000 ≤ 5 * G.1.heap.size + 3000000
      omega
    · by_cases hab : a = b
      · subst hab
        simp only [if_true] at h
        cases h
        show ks_m G a = _
        unfold ks_m
        rw [zscr]
        rfl
      · simp only [hab, if_false] at h
        cases h
    · by_cases hab : a = b
      · subst hab
        simp only [if_true] at h
        cases h
        exact ho.elim
      · simp only [hab, if_false] at h
        cases h
  obtain ⟨r, τ, w', H', e1, hR, hr⟩ := hT _ hR0
  subst hr
  have h9 : 5 * τ.2.1 + τ.2.2.1 + w' ≤ 5 * G.1.heap.size + 3000000 := hR.2.2.1
  exact ⟨τ, e1, by omega⟩
/-- from the entry, for every script of at most 120 ints, the law comes to its end with true -/
theorem whole_start {p : Program} {e : Env} {s : State} {m : MethodId} {below : List Frame} {meth : Method} {c : Code} (l : Launch) {b L : Nat} {xs : Nat → Int32} (hL : L ≤ 120) (hnm : meth.name = "law") (htb : c.exceptionTable.toList = []) (C0 : lw_At p s m meth c b L xs) : W p l e room_1 s m #[Value.ref b] below meth c s.heap [] 0 0 (lw_Z below #[Value.ref b] s) (entryFrame m ([Value.ref b] : List Value).toArray 8) := by
  obtain ⟨hx, hb, hr, hml, hown, hts, hX, hbl, hlocks, hgv⟩ := C0
  have hn : narrow_1.before #[Value.ref b] s = true := by
    rw [Cond.before_and, Bool.and_eq_true] at hgv
    exact hgv.2
  obtain ⟨G, hG, h0, hD, hE, hdig, t10, t15, t18, t21, t11, t23, t16, t13, t20, t25, t19, t22, t12, t24, t17, t14, t26⟩ := ks_start hts hn
  subst hG
  have hk : ∀ Z : ka_Z, Z.1 = G.2.2.2 → Z.2.2 = ks_Z G → (∃ h, kz_txt Z 10 [] h) ∧ (∃ h, kz_txt Z 15 v_empty h) ∧ kz_words Z ∧ kz_twords Z := by
    intro Z z1 z2
    obtain ⟨Z1, N, Z2⟩ := Z
    simp only at z1 z2
    subst z1
    subst z2
    refine ⟨⟨_, ks_kz hD t10 (by decide) (by decide)⟩, ⟨_, ks_kz hD t15 (by decide) (by decide)⟩, fun i hi => ?_, fun i hi => ?_⟩
    · have h8 : i = 0 ∨ i = 1 ∨ i = 2 ∨ i = 3 ∨ i = 4 ∨ i = 5 ∨ i = 6 ∨ i = 7 := by omega
      rcases h8 with e | e | e | e | e | e | e | e <;> subst e
      · exact ks_kz hD t18 (by decide) (by decide)
      · exact ks_kz hD t21 (by decide) (by decide)
      · exact ks_kz hD t11 (by decide) (by decide)
      · exact ks_kz hD t23 (by decide) (by decide)
      · exact ks_kz hD t16 (by decide) (by decide)
      · exact ks_kz hD t13 (by decide) (by decide)
      · exact ks_kz hD t20 (by decide) (by decide)
      · exact ks_kz hD t25 (by decide) (by decide)
    · have h8 : i = 0 ∨ i = 1 ∨ i = 2 ∨ i = 3 ∨ i = 4 ∨ i = 5 ∨ i = 6 ∨ i = 7 := by omega
      rcases h8 with e | e | e | e | e | e | e | e <;> subst e
      · exact ⟨_, ks_kz hD t19 (by decide) (by decide)⟩
      · exact ⟨_, ks_kz hD t22 (by decide) (by decide)⟩
      · exact ⟨_, ks_kz hD t12 (by decide) (by decide)⟩
      · exact ⟨_, ks_kz hD t24 (by decide) (by decide)⟩
      · exact ⟨_, ks_kz hD t17 (by decide) (by decide)⟩
      · exact ⟨_, ks_kz hD t14 (by decide) (by decide)⟩
      · exact ⟨_, ks_kz hD t20 (by decide) (by decide)⟩
      · exact ⟨_, ks_kz hD t26 (by decide) (by decide)⟩
  obtain ⟨τ, e1, hroom⟩ := ks_law hL hD hX hbl hE hdig hk
  obtain ⟨m1, m2, -⟩ := (pm_L_law (some b)).2 _ _ _ e1
  have m1 : G.1.heap.size ≤ τ.2.1 := m1
  have B : kw_ok (p, l, e, room_1, G.1, m, #[Value.ref b], below, meth, c, G, G.1.heap.size, 0) cL_law R_law "law" 8 (some .boolean) 8192 100000 [] := ⟨hx, hb, hml, hr, hown, fun w hw => hts w (lw_all_tbl hw), hlocks, hnm, htb, rfl, rfl, h0, State.WarmedH.refl _, rfl, Nat.le_refl _, fun q _ => rfl⟩
  have hl := lv_entry (kw_st [kA (some b)]) (n := 8) (by rw [kw_sl_len]; exact Nat.le_of_ble_eq_true rfl)
  rw [kw_args_ls] at hl
  show W p l e room_1 G.1 m #[Value.ref b] below meth c G.1.heap [] 0 0 (lw_Z below #[Value.ref b] G.1) (entryFrame m (kw_st [kA (some b)]).toArray 8)
  rw [lg_entry_eq]
  have hgo := wm_L_law B (some b) (ks_S G) 1 τ G.1.heap [] 0 0 _ e1 (by show τ.2.1 ≤ G.1.heap.size + 1200048; omega) (by show τ.2.2.1 ≤ 0 + 5501818; omega) ⟨ks_P G, (fun _ h => by cases h), rfl, rfl⟩ (by rw [hml]; exact hl)
  intro T hT X
  obtain ⟨t, a1, o, b1, b2, b3⟩ := hgo T hT X
  refine ⟨t, a1, o, b1, b2, ?_⟩
  rcases b3 with ⟨⟨⟨v, v1, v2⟩, -⟩, Lq, f1, f2⟩ | ⟨q, q1, E, ce, Lq, ⟨q2, -⟩, -⟩
  · have ev : v = some (.int 1) := by
      unfold kw_eI at v1
      cases v1
      rfl
    subst ev
    refine ⟨v2, ⟨_, v2⟩, f1.2.1, (State.sameButNew.drop_fresh (L := []) (J := Lq) f1.2.2 (fun x hx => f2 x hx)).mono ?_ ?_⟩
    · show τ.2.1 - G.1.heap.size ≤ 1200048
      omega
    · show τ.2.2.1 - 0 ≤ 5501818
      omega
  · unfold kw_eI at q2
    cases q2
set_option maxHeartbeats 4000000 in
theorem lw_walk (l : Launch) (b : Addr) (xs : List Int32) : MetFree l x (headSpec (Jvm.Cond.code x code maxLocals ret :: tables_1) room_1) (lw_P b xs) (fun _ _ _ _ _ => True) lw_Q := by
  refine MetFree.of_bodyS (code := code) (maxLocals := maxLocals) (ret := ret) (by decide) ?_ ?_
  · intro args s m h hn
    obtain ⟨meth, c, h1, h2, h3, h4, h5, h6, -, -⟩ := Cond.code_spec hn (atoms_spec (ws := Jvm.Cond.code x code maxLocals ret :: tables_1) h _ List.mem_cons_self)
    exact ⟨meth, c, h1, h2, h3, h4, h5, h6⟩
  · intro p e s m args below meth c s₁ B hml0 hP _
    obtain ⟨rfl, hx, hbd, hgv⟩ := hP
    obtain ⟨scr, harrAt, hlist, hof, hsmall⟩ := hx
    obtain ⟨hcb, hkn, -, -⟩ := State.arrayAt?_spec harrAt
    have hown : s.vm.findClass R_law = some m.cls := findClass_of_methodNamed B.named
    have hts0 : ∀ c ∈ (Jvm.Cond.code x code maxLocals ret :: tables_1), c.before #[Value.ref b] s = true := atoms_spec (ws := Jvm.Cond.code x code maxLocals ret :: tables_1) B.pre
    have hts : ∀ w ∈ lw_tbl, w.before #[Value.ref b] s = true := k2_hts_sels lw_privs (fun w hw => hts0 w (List.mem_cons_of_mem _ hw)) lw_privs_ok
    have hml : c.maxLocals = 8 := B.maxLocals_eq (hts0 _ List.mem_cons_self)
    have X₀ : Stand p l e room_1 s m #[Value.ref b] below meth c s₁ [] 0 0 := Stand.of_body B
    have hh0 : s₁.heap = s.heap := by rw [B.state]; rfl
    have htb : c.exceptionTable.toList = [] := by
      obtain ⟨meth9, c9, h1, h2, -, -, -, -, h7, -⟩ := Cond.code_spec B.named (hts0 _ List.mem_cons_self)
      cases Option.some.inj (h1.symm.trans B.method)
      cases Option.some.inj (h2.symm.trans X₀.code)
      rw [Array.isEmpty_iff.mp h7]
    have hsz : scr.slots.size = xs.length := by rw [← Array.length_toList, hlist, List.length_map]
    have hval : ∀ j : Nat, j < xs.length → scr.slots[j]? = some (.int (xs.getD j 0)) := fun j hj => by
      rw [← Array.getElem?_toList, hlist]
      simp [hj]
    have hbl : b < s.heap.size := (Array.getElem?_eq_some_iff.mp hcb).1
    have hX : va_X b xs.length (fun j => xs.getD j 0) s s.heap := ⟨scr, hcb, hof, hkn, hsz, hval⟩
    have K : W p l e room_1 s m #[Value.ref b] below meth c s₁.heap [] 0 0 (lw_Z below #[Value.ref b] s) (entryFrame m ([Value.ref b] : List Value).toArray 8) := by
      rw [hh0]
      exact whole_start l hbd (name_of_methodNamed B.named B.method).1 htb ⟨B.exec, B.bytes, B.returns, hml, hown, hts, hX, hbl, B.notSynchronized, hgv⟩
    obtain ⟨t, a1, o, b1, b2, b3⟩ := K s₁ rfl X₀
    exact ⟨t, o, a1, b1, b2, b3⟩
theorem lw_pre_spec {args : Array Value} {s : State} (h : (Jvm.Cond.and given_1 narrow_1).before args s = true) (hr : rest_1_c.before args s = true) : ∃ (b : Addr) (xs : List Int32), lw_P b xs args s := by
  have hs := flat_of_before _ h
  have hq := flat_of_before _ hr
  have hc : (Cond.count 1).before args s = true := hs _ (by decide +kernel)
  have harr : (Cond.arrayOf (.arg 0) .int).before args s = true := hs _ (by decide +kernel)
  have hle : (Cond.le (.length (.arg 0)) (.int 120)).before args s = true := hs _ (by decide +kernel)
  have hlen : (Cond.isInt (.length (.arg 0))).before args s = true := hq _ (by decide +kernel)
  have hall : (Cond.all (.arg 0) (.isInt (.elem (.arg 0) (.index 0)))).before args s = true := hq _ (by decide +kernel)
  obtain ⟨b, xs, hb, hx⟩ := State.ints_of_pre rfl harr hlen hall
  have hsm : xs.length < 2 ^ 31 := hx.choose_spec.2.2.2
  have hev : (Term.length (.arg 0)).eval args s none [] s = some (.int xs.length.toInt32) := hx.length_eval hb
  have hv := Cond.le_ints hev (show (Term.int 120).eval args s none [] s = some (.int 120) from rfl)
  have hd : xs.length.toInt32 ≤ 120 := by
    simpa [Cond.before, Cond.holds, hv] using hle
  have hN : xs.length ≤ 120 := (Int32.ofNat_le_ofNat hsm (by decide)).mp (show Int32.ofNat xs.length ≤ Int32.ofNat 120 from hd)
  exact ⟨b, xs, Cond.one_arg hc (show args[0]? = some (.ref b) from hb), hx, hN, h⟩
theorem lw_comes (l : Launch) : Comes l x (Jvm.Cond.code x code maxLocals ret :: tables_1) room_1 (fun tb e args s => Calls_1 tb e args s ∧ rest_1 tb e args s ∧ Pre_1 tb e args s)
    (fun _ _ args s o t => lw_Q args s o t) := by
  intro p e ha hc hk s m args below hf hfit hheap happ hpre
  obtain ⟨b, xs, hP⟩ := lw_pre_spec hpre.2.2 hpre.2.1
  obtain ⟨k, o, h1, h2, h3, hQ⟩ := lw_walk l b xs p e ha hc hk s m args below hf ((Spec.applies_iff_loose hf).mp happ).1 hP trivial
  exact ⟨k, o, h1, h2, h3, hQ⟩
theorem lw_frame {s t : State} {o : Outcome} {args : Array Value} (h : Framed s o t [] 1200048 5501818) :
    Framed s o t (fieldLocs frame_1_writes args s ++ arrayLocs frame_1_arrays args s ++ staticLocs frame_1_statics s) 1200048 5501818 := h
theorem lw_limb (L : Cond) (hL : ∀ (args : Array Value) (s t : State), L.after args s (.returned (some (.int 1))) t = true) :
    ArmFor flags0 classFile x code maxLocals ret World_1 tables_1 room_1 Calls_1 rest_1 Pre_1
      (fun tb e a s o t => postC L tb e a s o t ∧ Framed s o t (fieldLocs frame_1_writes a s ++ arrayLocs frame_1_arrays a s ++ staticLocs frame_1_statics s) 1200048 5501818) := by
  intro l _ _ _ p e ha hc hk s m args below hf hfit hheap happ hpre
  obtain ⟨k, o, h1, h2, h3, rfl, hF⟩ := lw_comes l p e ha hc hk s m args below hf hfit hheap happ hpre
  exact ⟨k, _, h1, h2, h3, hL args s _, lw_frame hF⟩
theorem i_vc : Claimed_1_1 ∧ Claimed_1_2 := ⟨lw_limb limb_1_1 (fun args s t => by simp [limb_1_1, Cond.after, Cond.holds, Cond.value]), lw_limb limb_1_2 (fun args s t => Cond.after_iff.mpr (by
  first | (rw [show limb_1_2 = Cond.eq .result (.int 1) from rfl, Cond.eq_ints (x := 1) (y := 1) rfl rfl]; simp; done) | (simp [limb_1_2, Cond.value, Term.eval]; done)))⟩
