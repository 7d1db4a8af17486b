/-! ===== calls, returns, throws ===== -/
def kw_eI (v : Int32) : kw_R := .inl (some (.int v))
def kw_eA (v : Option Nat) : kw_R := .inl (some (va_rf v))
def kw_eV (_ : Unit) : kw_R := .inl none
def kw_eJ (v : Int64) : kw_R := .inl (some (.long v))
def kw_eD (v : UInt64) : kw_R := .inl (some (.double v))
def kw_eF (v : UInt32) : kw_R := .inl (some (.float v))
def kw_x {α : Type} (enc : α → kw_R) (v : Nat ⊕ α) : kw_R := match v with
  | .inl q => .inr q
  | .inr a => enc a
abbrev kw_hI (v : Int32) : List kw_L := [kI v]
abbrev kw_hA (v : Option Nat) : List kw_L := [kA v]
abbrev kw_hV (_ : Unit) : List kw_L := []
abbrev kw_hJ (v : Int64) : List kw_L := [kJ v]
abbrev kw_hD (v : UInt64) : List kw_L := [kD v]
abbrev kw_hF (v : UInt32) : List kw_L := [kF v]
/-- what a result puts on the stack -/
def kw_push {α : Type} (enc : α → kw_R) (h : α → List kw_L) : Prop := ∀ v, enc v = .inl ((h v).head?.map kw_v) ∧ ((h v).head?.map kw_v).toList = kw_st (h v)
theorem kw_qI : kw_push kw_eI kw_hI := fun _ => ⟨rfl, rfl⟩
theorem kw_qA : kw_push kw_eA kw_hA := fun _ => ⟨rfl, rfl⟩
theorem kw_qV : kw_push kw_eV kw_hV := fun _ => ⟨rfl, rfl⟩
theorem kw_qJ : kw_push kw_eJ kw_hJ := fun _ => ⟨rfl, rfl⟩
theorem kw_qD : kw_push kw_eD kw_hD := fun _ => ⟨rfl, rfl⟩
theorem kw_qF : kw_push kw_eF kw_hF := fun _ => ⟨rfl, rfl⟩
theorem kw_st_app (a b : List kw_L) : kw_st (a ++ b) = kw_st a ++ kw_st b := by
  unfold kw_st
  rw [List.map_append]
theorem kw_st_rev (a : List kw_L) : kw_st a.reverse = (kw_st a).reverse := by
  unfold kw_st
  rw [List.map_reverse]
def kw_Pc (G : kw_G) (σ : km_S) (As : List kw_L) : Array Value → State → Prop := va_Pc (kw_st As) (fun U => kw_P G σ U.heap ∧ G.1.WarmedH U.vm)
theorem kw_blind (G : kw_G) (σ : km_S) (As : List kw_L) : FrameBlind (va_Pc (kw_st As) (fun U => kw_P G σ U.heap ∧ G.1.WarmedH U.vm)) := fun _ _ _ _ h => h
section KWC0
variable {p : Program} {l : Launch} {e : Env} {R : Room} {s : State} {m : MethodId} {args : Array Value} {below : List Frame} {meth : Method} {c : Code} {H : Heap} {locs : List Loc} {cells slots : Nat} {Q : State → Prop}

theorem kw_run {G : kw_G} {τ : km_S} {res : kw_R} {n0 z0 mc ms pc : Nat} {ls : Array Slot} {st0 rest : List Value} {a : Array Value} (hr : vx_Run p l e R s m args below meth c H locs cells slots mc ms (F0 m pc ls st0) rest (kw_Qc G res τ a) (kw_XC G res τ) (kw_A G)) (hloc : ∀ q ∈ locs, kw_A G q.base) (hc1 : n0 + (cells + mc) = τ.2.1) (hc2 : z0 + (slots + ms) = τ.2.2.1)
    (k : ∀ (v : Option Value) (H1 : Heap) (locs1 : List Loc), res = .inl v → kw_S G n0 z0 τ H1 locs1 (cells + mc) (slots + ms) → W p l e R s m args below meth c H1 locs1 (cells + mc) (slots + ms) Q (F0 m (pc + 3) ls (v.toList ++ rest)))
    (kx : ∀ (q : Addr) (En : String) (ce : Cell) (H1 : Heap) (locs1 : List Loc), res = .inr q → kw_S G n0 z0 τ H1 locs1 (cells + mc) (slots + ms) → (∃ (c : Nat) (fs : List Value) (x : vw_C), τ.2.2.2 q = some (true, .inr (c, fs)) ∧ kcl[c]? = some x ∧ x.1 = En) → H1[q]? = some ce → ce.vm = .none → s.vm.findClass En = some ce.cls → vx_W p l e R s m args below meth c H1 locs1 (cells + mc) (slots + ms) Q (F0 m pc ls rest) q) : W p l e R s m args below meth c H locs cells slots Q (F0 m pc ls st0) := by
  intro T hT X
  rcases hr T hT X with ⟨v, st₀, t, T', L, hh0, X', hL, e1, e2, ⟨⟨v2, hv2, ho⟩, hP⟩, stp⟩ | ⟨q, st₀, t, T', L, En, ce, hh0, X', hL, e1, e2, ⟨hq, hP, hcl⟩, hce, hcv, hfc, stp⟩
  · cases ho
    obtain ⟨t2, a1, b1⟩ := k v T'.heap (locs ++ L) hv2 ⟨by rw [e1]; exact hP, fun z hz => (List.mem_append.mp hz).elim (hloc z) (hL z), hc1, hc2⟩ T' rfl X'
    exact ⟨t2, stp t2 a1, b1⟩
  · obtain ⟨t2, a1, b1⟩ := kx q En ce T'.heap (locs ++ L) hq ⟨by rw [e1]; exact hP, fun z hz => (List.mem_append.mp hz).elim (hloc z) (hL z), hc1, hc2⟩ hcl (by rw [e1]; exact hce) hcv hfc T' rfl X'
    exact ⟨t2, stp.trans a1, b1⟩

theorem kw_run5 {G : kw_G} {τ : km_S} {res : kw_R} {n0 z0 mc ms pc : Nat} {ls : Array Slot} {st0 rest : List Value} {a : Array Value} (hr : vx_Run5 p l e R s m args below meth c H locs cells slots mc ms (F0 m pc ls st0) rest (kw_Qc G res τ a) (kw_XC G res τ) (kw_A G)) (hloc : ∀ q ∈ locs, kw_A G q.base) (hc1 : n0 + (cells + mc) = τ.2.1) (hc2 : z0 + (slots + ms) = τ.2.2.1)
    (k : ∀ (v : Option Value) (H1 : Heap) (locs1 : List Loc), res = .inl v → kw_S G n0 z0 τ H1 locs1 (cells + mc) (slots + ms) → W p l e R s m args below meth c H1 locs1 (cells + mc) (slots + ms) Q (F0 m (pc + 5) ls (v.toList ++ rest)))
    (kx : ∀ (q : Addr) (En : String) (ce : Cell) (H1 : Heap) (locs1 : List Loc), res = .inr q → kw_S G n0 z0 τ H1 locs1 (cells + mc) (slots + ms) → (∃ (c : Nat) (fs : List Value) (x : vw_C), τ.2.2.2 q = some (true, .inr (c, fs)) ∧ kcl[c]? = some x ∧ x.1 = En) → H1[q]? = some ce → ce.vm = .none → s.vm.findClass En = some ce.cls → vx_W p l e R s m args below meth c H1 locs1 (cells + mc) (slots + ms) Q (F0 m pc ls rest) q) : W p l e R s m args below meth c H locs cells slots Q (F0 m pc ls st0) := by
  intro T hT X
  rcases hr T hT X with ⟨v, st₀, t, T', L, hh0, X', hL, e1, e2, ⟨⟨v2, hv2, ho⟩, hP⟩, stp⟩ | ⟨q, st₀, t, T', L, En, ce, hh0, X', hL, e1, e2, ⟨hq, hP, hcl⟩, hce, hcv, hfc, stp⟩
  · cases ho
    obtain ⟨t2, a1, b1⟩ := k v T'.heap (locs ++ L) hv2 ⟨by rw [e1]; exact hP, fun z hz => (List.mem_append.mp hz).elim (hloc z) (hL z), hc1, hc2⟩ T' rfl X'
    exact ⟨t2, stp t2 a1, b1⟩
  · obtain ⟨t2, a1, b1⟩ := kx q En ce T'.heap (locs ++ L) hq ⟨by rw [e1]; exact hP, fun z hz => (List.mem_append.mp hz).elim (hloc z) (hL z), hc1, hc2⟩ hcl (by rw [e1]; exact hce) hcv hfc T' rfl X'
    exact ⟨t2, stp.trans a1, b1⟩

end KWC0
section KWC
variable {ρ α : Type} {E : kw_E} {enc : ρ → kw_R} {cc : ByteArray} {own nm : String} {ret : Option FieldType} {nL fr lo pc : Nat} {hh : List ExceptionTableEntry} {L : List (Nat × kw_L)} {st st0 : List kw_L}
variable {y : MethodName} {bytes : ByteArray} {maxL fr' lo' n index : Nat} {rt : Option FieldType} {enc' : α → kw_R} {As : List kw_L} {x : km_M α}

theorem kw_noh {pc : Nat} : ∀ z ∈ ([] : List ExceptionTableEntry), covers z pc = false := fun _ h => by cases h
theorem kw_l4 {a b c d : Cond} (ha : a ∈ lw_all) (hb : b ∈ lw_all) (hc : c ∈ lw_all) (hd : d ∈ lw_all) : ∀ w ∈ ([a, b, c, d] : List Cond), w ∈ lw_all := by
  intro w hw
  simp only [List.mem_cons, List.not_mem_nil, or_false] at hw
  rcases hw with e | e | e | e <;> rw [e] <;> assumption
theorem kw_l5 {a b c d e : Cond} (ha : a ∈ lw_all) (hb : b ∈ lw_all) (hc : c ∈ lw_all) (hd : d ∈ lw_all) (he : e ∈ lw_all) : ∀ w ∈ ([a, b, c, d, e] : List Cond), w ∈ lw_all := by
  intro w hw
  simp only [List.mem_cons, List.not_mem_nil, or_false] at hw
  rcases hw with e | e | e | e | e <;> rw [e] <;> assumption
theorem kw_l6 {a b c d e f : Cond} (ha : a ∈ lw_all) (hb : b ∈ lw_all) (hc : c ∈ lw_all) (hd : d ∈ lw_all) (he : e ∈ lw_all) (hf : f ∈ lw_all) : ∀ w ∈ ([a, b, c, d, e, f] : List Cond), w ∈ lw_all := by
  intro w hw
  simp only [List.mem_cons, List.not_mem_nil, or_false] at hw
  rcases hw with e | e | e | e | e | e <;> rw [e] <;> assumption
theorem kw_decl {G : kw_G} {s : State} (h0 : kw_G0 G) (hW : G.1.WarmedH s.vm) {x : MethodName} (h : Cond.declares x ∈ lw_tbl) : va_Nw (.declares x) s := by
  obtain ⟨b0, ht, -⟩ := h0
  exact va_Nw.warmD hW (va_Nw.of rfl (ht _ h))
/-- a call through an object of one of several classes -/
theorem kw_disp {ps : List (Nat × km_M α)} {r : Option Nat} {f : α → km_M ρ} {pc' : Nat} (push : α → List kw_L) (hk : ∀ v, kw_W E enc pc' L (push v ++ st) (f v)) (k : ∀ q ∈ ps, (∀ v, kw_W E enc pc' L (push v ++ st) (f v)) → kw_W E enc pc L st0 (km_bind (km_is q.1 r) fun _ => km_bind q.2 f)) : kw_W E enc pc L st0 (km_bind (km_disp r ps) f) := by
  obtain ⟨p, l, e, R, s, m, args, below, meth, c, G, n0, z0⟩ := E
  intro σ r1 τ H locs cells slots ls hx1 h1 h2 hS hl
  obtain ⟨v, u, e1, e2⟩ := km_bind_some hx1
  obtain ⟨q, hq, i1, i2⟩ := km_disp_some e1
  refine k q hq hk σ r1 τ H locs cells slots ls ?_ h1 h2 hS hl
  exact km_bind_mk i1 (km_bind_mk i2 e2)

theorem kw_Fw {G : kw_G} {s : State} (h0 : kw_G0 G) (hW : G.1.WarmedH s.vm) {C : String} {x y : MethodName} (hx : x.cls ≠ "java/lang/invoke/MethodHandle" ∧ x.cls ≠ "java/lang/invoke/VarHandle") (h1 : Cond.declares x ∈ lw_tbl) (h2 : Cond.interfaceMethod x.cls x.cls x.name x.desc ∈ lw_tbl) (h3 : Cond.publicMethod y ∈ lw_tbl) (h4 : Cond.unhidden C x.name x.desc ∈ lw_tbl) (h5 : Cond.castable C x.cls ∈ lw_tbl) : va_Fw C x y s := by
  obtain ⟨b0, ht, -⟩ := h0
  exact va_Fw.moved hx hW.alike (va_Fw.of (ht _ h1) (ht _ h2) (ht _ h3) (ht _ h4) (ht _ h5))

theorem kw_callS (B : kw_ok E cc own nm nL ret fr lo hh) (d : decode cc pc = .ok (.invokestatic index, 3)) (hM : ∀ l, kw_Met l y (ws_ y bytes maxL rt) fr' lo' As enc' x) (hwl : Cond.methodLink own index y ∈ lw_all) (hws : Cond.static y ∈ lw_all) (hwi : Cond.initialized y.cls ∈ lw_all) (hwc : Cond.code y bytes maxL rt ∈ lw_all) (hd : y.cls ≠ "java/lang/invoke/MethodHandle" ∧ y.cls ≠ "java/lang/invoke/VarHandle" ∧ (parseMethodDescriptor y.desc).map (fun d => d.parameters.length) = some n) (hn : As.length = n) (hst : st0 = As.reverse ++ st) (hc8 : (st.map kw_c).sum ≤ 8) (hfr : fr' + 1 ≤ fr) (hlo : 8 + (maxL + 11) + lo' ≤ lo) {f : α → km_M ρ} {push : α → List kw_L} (hpush : kw_push enc' push) (k : ∀ v, kw_W E enc (pc + 3) L (push v ++ st) (f v)) : kw_W E enc pc L st0 (km_bind x f) := by
  obtain ⟨p, l, e, R, s, m, args, below, meth, c, G, n0, z0⟩ := E
  obtain ⟨hx, hb, hml, hr, hown, hts, hlk, hnm, hhh, hfr1, hlo1, h0, hW, hsz, hbase, hold⟩ := B
  intro σ r1 τ H locs cells slots ls hx1 h1 h2 hS hl
  subst hst
  have hK := kw_K h0 hW
  have hx2 := hx1
  obtain ⟨r2, τ2, e1, e2⟩ := km_bind_some hx2
  obtain ⟨m1, m2, -⟩ := x.2 _ _ _ e1
  obtain ⟨m3, m4, -⟩ := (f r2).2 _ _ _ e2
  have hP := hS.1
  obtain ⟨-, hloc, hc1, hc2⟩ := hS
  have hMet := hM l G σ r2 τ2 h0 e1
  have hrun := vx_runS (As := kw_st As) (rest := kw_st st) (g := F0 m pc ls (kw_st (As.reverse ++ st))) (H := H) (locs := locs) (cells := cells) (slots := slots) (meth := meth) (below := below) (e := e) (Ts := lw_all) ⟨hx, hb, hml, hown, hts⟩ hMet (va_cwS n hts (lw_S hwl hws hwi hwc) rfl rfl rfl hd ⟨by rw [hfr1]; exact hfr, by rw [hlo1]; exact hlo⟩) ⟨kw_blind G σ As, fun U hU hUW => ⟨rfl, by rw [hU]; exact hP, State.WarmedH.trans hW hUW⟩⟩ rfl (by unfold kw_st; rw [List.length_map]; exact hn) (hl.1.trans hml) (by rw [kw_st_app, kw_st_rev]) (lv_room (by rw [kw_st_cat]; exact hc8)) d ⟨by omega, by omega⟩
  refine kw_run (n0 := n0) (z0 := z0) hrun hloc (by omega) (by omega) (fun v H1 locs1 hv hS1 => ?_) (fun q En ce H1 locs1 hq => ?_)
  · have hv2 : v = (push r2).head?.map kw_v := Sum.inl.inj (hv.symm.trans (hpush r2).1)
    subst hv2
    rw [(hpush r2).2, ← kw_st_app]
    exact k r2 _ r1 τ H1 locs1 _ _ ls e2 h1 h2 hS1 hl
  · rw [(hpush r2).1] at hq
    cases hq

theorem kw_callSX (B : kw_ok E cc own nm nL ret fr lo hh) (d : decode cc pc = .ok (.invokestatic index, 3)) {x : km_M (Nat ⊕ α)} {xq : Nat → ρ} (hxq : ∀ q, enc (xq q) = .inr q) (hno : ∀ z ∈ hh, covers z pc = false) (hM : ∀ l, kw_Met l y (ws_ y bytes maxL rt) fr' lo' As (kw_x enc') x) (hwl : Cond.methodLink own index y ∈ lw_all) (hws : Cond.static y ∈ lw_all) (hwi : Cond.initialized y.cls ∈ lw_all) (hwc : Cond.code y bytes maxL rt ∈ lw_all) (hd : y.cls ≠ "java/lang/invoke/MethodHandle" ∧ y.cls ≠ "java/lang/invoke/VarHandle" ∧ (parseMethodDescriptor y.desc).map (fun d => d.parameters.length) = some n) (hn : As.length = n) (hst : st0 = As.reverse ++ st) (hc8 : (st.map kw_c).sum ≤ 8) (hfr : fr' + 1 ≤ fr) (hlo : 8 + (maxL + 11) + lo' ≤ lo) {f : α → km_M ρ} {push : α → List kw_L} (hpush : kw_push enc' push) (k : ∀ v, kw_W E enc (pc + 3) L (push v ++ st) (f v)) : kw_W E enc pc L st0 (km_bind x (km_x xq f)) := by
  obtain ⟨p, l, e, R, s, m, args, below, meth, c, G, n0, z0⟩ := E
  obtain ⟨hx, hb, hml, hr, hown, hts, hlk, hnm, hhh, hfr1, hlo1, h0, hW, hsz, hbase, hold⟩ := B
  intro σ r1 τ H locs cells slots ls hx1 h1 h2 hS hl
  subst hst
  have hK := kw_K h0 hW
  have hx2 := hx1
  obtain ⟨r2, τ2, e1, e2⟩ := km_bind_some hx2
  obtain ⟨m1, m2, -⟩ := x.2 _ _ _ e1
  have hm3 : τ2.2.1 ≤ τ.2.1 ∧ τ2.2.2.1 ≤ τ.2.2.1 := by
    obtain ⟨q1, q2, -⟩ := (km_x xq f r2).2 _ _ _ e2
    exact ⟨q1, q2⟩
  obtain ⟨m3, m4⟩ := hm3
  have hP := hS.1
  obtain ⟨-, hloc, hc1, hc2⟩ := hS
  have hMet := hM l G σ r2 τ2 h0 e1
  have hrun := vx_runS (As := kw_st As) (rest := kw_st st) (g := F0 m pc ls (kw_st (As.reverse ++ st))) (H := H) (locs := locs) (cells := cells) (slots := slots) (meth := meth) (below := below) (e := e) (Ts := lw_all) ⟨hx, hb, hml, hown, hts⟩ hMet (va_cwS n hts (lw_S hwl hws hwi hwc) rfl rfl rfl hd ⟨by rw [hfr1]; exact hfr, by rw [hlo1]; exact hlo⟩) ⟨kw_blind G σ As, fun U hU hUW => ⟨rfl, by rw [hU]; exact hP, State.WarmedH.trans hW hUW⟩⟩ rfl (by unfold kw_st; rw [List.length_map]; exact hn) (hl.1.trans hml) (by rw [kw_st_app, kw_st_rev]) (lv_room (by rw [kw_st_cat]; exact hc8)) d ⟨by omega, by omega⟩
  refine kw_run (n0 := n0) (z0 := z0) hrun hloc (by omega) (by omega) (fun v H1 locs1 hv hS1 => ?_) (fun q En ce H1 locs1 hq hS1 hcl hce hcv hfc => ?_)
  · cases r2 with
    | inl q => cases hv
    | inr a2 =>
      have hv2 : v = (push a2).head?.map kw_v := Sum.inl.inj (hv.symm.trans (hpush a2).1)
      subst hv2
      rw [(hpush a2).2, ← kw_st_app]
      exact k a2 _ r1 τ H1 locs1 _ _ ls e2 h1 h2 hS1 hl
  · cases r2 with
    | inr a2 =>
      have h9 : enc' a2 = .inr q := hq
      rw [(hpush a2).1] at h9
      cases h9
    | inl q2 =>
      cases hq
      have e3 := Option.some.inj e2
      cases e3
      refine vx_widen (by omega) (by omega) (vx_out (fun z hz => by rw [hhh] at hz; exact hno z hz) hlk hce hcv hfc (fun t ht _ => ⟨hxq _, by rw [ht]; exact hS1.1, hcl⟩) hS1.2.1 (Nat.le_refl _) (Nat.le_refl _))

theorem kw_callSN (B : kw_ok E cc own nm nL ret fr lo hh) (d : decode cc pc = .ok (.invokestatic index, 3)) (hM : ∀ l, kw_Met l y (ws_ y bytes maxL rt) fr' lo' As enc' x) {host : String} (hwl : Cond.methodLinkNest own index y host ∈ lw_tbl) (hws : Cond.static y ∈ lw_all) (hwi : Cond.initialized y.cls ∈ lw_all) (hwc : Cond.code y bytes maxL rt ∈ lw_all) (hd : y.cls ≠ "java/lang/invoke/MethodHandle" ∧ y.cls ≠ "java/lang/invoke/VarHandle" ∧ (parseMethodDescriptor y.desc).map (fun d => d.parameters.length) = some n) (hn : As.length = n) (hst : st0 = As.reverse ++ st) (hc8 : (st.map kw_c).sum ≤ 8) (hfr : fr' + 1 ≤ fr) (hlo : 8 + (maxL + 11) + lo' ≤ lo) {f : α → km_M ρ} {push : α → List kw_L} (hpush : kw_push enc' push) (k : ∀ v, kw_W E enc (pc + 3) L (push v ++ st) (f v)) : kw_W E enc pc L st0 (km_bind x f) := by
  obtain ⟨p, l, e, R, s, m, args, below, meth, c, G, n0, z0⟩ := E
  obtain ⟨hx, hb, hml, hr, hown, hts, hlk, hnm, hhh, hfr1, hlo1, h0, hW, hsz, hbase, hold⟩ := B
  intro σ r1 τ H locs cells slots ls hx1 h1 h2 hS hl
  subst hst
  have hK := kw_K h0 hW
  have hx2 := hx1
  obtain ⟨r2, τ2, e1, e2⟩ := km_bind_some hx2
  obtain ⟨m1, m2, -⟩ := x.2 _ _ _ e1
  obtain ⟨m3, m4, -⟩ := (f r2).2 _ _ _ e2
  have hP := hS.1
  obtain ⟨-, hloc, hc1, hc2⟩ := hS
  have hMet := hM l G σ r2 τ2 h0 e1
  have hrun := vx_runSN (As := kw_st As) (rest := kw_st st) (g := F0 m pc ls (kw_st (As.reverse ++ st))) (H := H) (locs := locs) (cells := cells) (slots := slots) (meth := meth) (below := below) (e := e) (Ts := lw_all) ⟨hx, hb, hml, hown, hts⟩ hMet (⟨va_cnB n hts (lw_meth hwc) rfl rfl rfl (kw_nestM h0 hW hwl) (hts _ hwi) hd ⟨by rw [hfr1]; exact hfr, by rw [hlo1]; exact hlo⟩, hts _ hws, trivial⟩) ⟨kw_blind G σ As, fun U hU hUW => ⟨rfl, by rw [hU]; exact hP, State.WarmedH.trans hW hUW⟩⟩ rfl (by unfold kw_st; rw [List.length_map]; exact hn) (hl.1.trans hml) (by rw [kw_st_app, kw_st_rev]) (lv_room (by rw [kw_st_cat]; exact hc8)) d ⟨by omega, by omega⟩
  refine kw_run (n0 := n0) (z0 := z0) hrun hloc (by omega) (by omega) (fun v H1 locs1 hv hS1 => ?_) (fun q En ce H1 locs1 hq => ?_)
  · have hv2 : v = (push r2).head?.map kw_v := Sum.inl.inj (hv.symm.trans (hpush r2).1)
    subst hv2
    rw [(hpush r2).2, ← kw_st_app]
    exact k r2 _ r1 τ H1 locs1 _ _ ls e2 h1 h2 hS1 hl
  · rw [(hpush r2).1] at hq
    cases hq

theorem kw_callSNX (B : kw_ok E cc own nm nL ret fr lo hh) (d : decode cc pc = .ok (.invokestatic index, 3)) {x : km_M (Nat ⊕ α)} {xq : Nat → ρ} (hxq : ∀ q, enc (xq q) = .inr q) (hno : ∀ z ∈ hh, covers z pc = false) (hM : ∀ l, kw_Met l y (ws_ y bytes maxL rt) fr' lo' As (kw_x enc') x) {host : String} (hwl : Cond.methodLinkNest own index y host ∈ lw_tbl) (hws : Cond.static y ∈ lw_all) (hwi : Cond.initialized y.cls ∈ lw_all) (hwc : Cond.code y bytes maxL rt ∈ lw_all) (hd : y.cls ≠ "java/lang/invoke/MethodHandle" ∧ y.cls ≠ "java/lang/invoke/VarHandle" ∧ (parseMethodDescriptor y.desc).map (fun d => d.parameters.length) = some n) (hn : As.length = n) (hst : st0 = As.reverse ++ st) (hc8 : (st.map kw_c).sum ≤ 8) (hfr : fr' + 1 ≤ fr) (hlo : 8 + (maxL + 11) + lo' ≤ lo) {f : α → km_M ρ} {push : α → List kw_L} (hpush : kw_push enc' push) (k : ∀ v, kw_W E enc (pc + 3) L (push v ++ st) (f v)) : kw_W E enc pc L st0 (km_bind x (km_x xq f)) := by
  obtain ⟨p, l, e, R, s, m, args, below, meth, c, G, n0, z0⟩ := E
  obtain ⟨hx, hb, hml, hr, hown, hts, hlk, hnm, hhh, hfr1, hlo1, h0, hW, hsz, hbase, hold⟩ := B
  intro σ r1 τ H locs cells slots ls hx1 h1 h2 hS hl
  subst hst
  have hK := kw_K h0 hW
  have hx2 := hx1
  obtain ⟨r2, τ2, e1, e2⟩ := km_bind_some hx2
  obtain ⟨m1, m2, -⟩ := x.2 _ _ _ e1
  have hm3 : τ2.2.1 ≤ τ.2.1 ∧ τ2.2.2.1 ≤ τ.2.2.1 := by
    obtain ⟨q1, q2, -⟩ := (km_x xq f r2).2 _ _ _ e2
    exact ⟨q1, q2⟩
  obtain ⟨m3, m4⟩ := hm3
  have hP := hS.1
  obtain ⟨-, hloc, hc1, hc2⟩ := hS
  have hMet := hM l G σ r2 τ2 h0 e1
  have hrun := vx_runSN (As := kw_st As) (rest := kw_st st) (g := F0 m pc ls (kw_st (As.reverse ++ st))) (H := H) (locs := locs) (cells := cells) (slots := slots) (meth := meth) (below := below) (e := e) (Ts := lw_all) ⟨hx, hb, hml, hown, hts⟩ hMet (⟨va_cnB n hts (lw_meth hwc) rfl rfl rfl (kw_nestM h0 hW hwl) (hts _ hwi) hd ⟨by rw [hfr1]; exact hfr, by rw [hlo1]; exact hlo⟩, hts _ hws, trivial⟩) ⟨kw_blind G σ As, fun U hU hUW => ⟨rfl, by rw [hU]; exact hP, State.WarmedH.trans hW hUW⟩⟩ rfl (by unfold kw_st; rw [List.length_map]; exact hn) (hl.1.trans hml) (by rw [kw_st_app, kw_st_rev]) (lv_room (by rw [kw_st_cat]; exact hc8)) d ⟨by omega, by omega⟩
  refine kw_run (n0 := n0) (z0 := z0) hrun hloc (by omega) (by omega) (fun v H1 locs1 hv hS1 => ?_) (fun q En ce H1 locs1 hq hS1 hcl hce hcv hfc => ?_)
  · cases r2 with
    | inl q => cases hv
    | inr a2 =>
      have hv2 : v = (push a2).head?.map kw_v := Sum.inl.inj (hv.symm.trans (hpush a2).1)
      subst hv2
      rw [(hpush a2).2, ← kw_st_app]
      exact k a2 _ r1 τ H1 locs1 _ _ ls e2 h1 h2 hS1 hl
  · cases r2 with
    | inr a2 =>
      have h9 : enc' a2 = .inr q := hq
      rw [(hpush a2).1] at h9
      cases h9
    | inl q2 =>
      cases hq
      have e3 := Option.some.inj e2
      cases e3
      refine vx_widen (by omega) (by omega) (vx_out (fun z hz => by rw [hhh] at hz; exact hno z hz) hlk hce hcv hfc (fun t ht _ => ⟨hxq _, by rw [ht]; exact hS1.1, hcl⟩) hS1.2.1 (Nat.le_refl _) (Nat.le_refl _))

theorem kw_callV (B : kw_ok E cc own nm nL ret fr lo hh) (d : decode cc pc = .ok (.invokevirtual index, 3)) {r : Option Nat} {ci : Nat} {rr : vw_C} (hci : kcl[ci]? = some rr) (hM : ∀ l, kw_Met l y (ws_ y bytes maxL rt) fr' lo' (kA r :: As) enc' x) (hwl : Cond.methodLink own index y ∈ lw_all) (hwm : Cond.instanceMethod y ∈ lw_all) (hwe : Cond.selects rr.1 y y ∈ lw_all) (hwi : Cond.initialized y.cls ∈ lw_all) (hwc : Cond.code y bytes maxL rt ∈ lw_all) (hd : y.cls ≠ "java/lang/invoke/MethodHandle" ∧ y.cls ≠ "java/lang/invoke/VarHandle" ∧ (parseMethodDescriptor y.desc).map (fun d => d.parameters.length) = some n) (hn : As.length = n) (hst : st0 = As.reverse ++ (kA r :: st)) (hc8 : (st.map kw_c).sum ≤ 8) (hfr : fr' + 1 ≤ fr) (hlo : 8 + (maxL + 11) + lo' ≤ lo) {f : α → km_M ρ} {push : α → List kw_L} (hpush : kw_push enc' push) (k : ∀ v, kw_W E enc (pc + 3) L (push v ++ st) (f v)) : kw_W E enc pc L st0 (km_bind (km_is ci r) fun _ => km_bind x f) := by
  obtain ⟨p, l, e, R, s, m, args, below, meth, c, G, n0, z0⟩ := E
  obtain ⟨hx, hb, hml, hr, hown, hts, hlk, hnm, hhh, hfr1, hlo1, h0, hW, hsz, hbase, hold⟩ := B
  intro σ r1 τ H locs cells slots ls hx1 h1 h2 hS hl
  subst hst
  have hK := kw_K h0 hW
  obtain ⟨u9, σ9, i1, hx2⟩ := km_bind_some hx1
  obtain ⟨e9, a9, f9, fs9, rfl, ha9⟩ := km_is_some i1
  rw [e9] at hx2
  obtain ⟨r2, τ2, e1, e2⟩ := km_bind_some hx2
  obtain ⟨m1, m2, -⟩ := x.2 _ _ _ e1
  obtain ⟨m3, m4, -⟩ := (f r2).2 _ _ _ e2
  have hP := hS.1
  obtain ⟨-, hloc, hc1, hc2⟩ := hS
  have hMet := hM l G σ r2 τ2 h0 e1
  have hrun := vx_runV (As := kw_st As) (rest := kw_st st) (g := F0 m pc ls (kw_st (As.reverse ++ (kA (some a9) :: st)))) (H := H) (locs := locs) (cells := cells) (slots := slots) (meth := meth) (below := below) (e := e) (Ts := lw_all) ⟨hx, hb, hml, hown, hts⟩ hMet (⟨callB_of n hts (lw_meth hwc) rfl rfl rfl (hts _ hwi) (hts _ hwl) hd ⟨by rw [hfr1]; exact hfr, by rw [hlo1]; exact hlo⟩, hts _ hwm, hts _ hwe⟩) ⟨kw_blind G σ (kA (some a9) :: As), kw_recv hK hP ha9 hci, fun U hU hUW => ⟨rfl, by rw [hU]; exact hP, State.WarmedH.trans hW hUW⟩⟩ rfl (by unfold kw_st; rw [List.length_map]; exact hn) (hl.1.trans hml) (by rw [kw_st_app, kw_st_rev]; rfl) (lv_room (by rw [kw_st_cat]; exact hc8)) d ⟨by omega, by omega⟩
  refine kw_run (n0 := n0) (z0 := z0) hrun hloc (by omega) (by omega) (fun v H1 locs1 hv hS1 => ?_) (fun q En ce H1 locs1 hq => ?_)
  · have hv2 : v = (push r2).head?.map kw_v := Sum.inl.inj (hv.symm.trans (hpush r2).1)
    subst hv2
    rw [(hpush r2).2, ← kw_st_app]
    exact k r2 _ r1 τ H1 locs1 _ _ ls e2 h1 h2 hS1 hl
  · rw [(hpush r2).1] at hq
    cases hq

theorem kw_callVX (B : kw_ok E cc own nm nL ret fr lo hh) (d : decode cc pc = .ok (.invokevirtual index, 3)) {r : Option Nat} {ci : Nat} {rr : vw_C} (hci : kcl[ci]? = some rr) {x : km_M (Nat ⊕ α)} {xq : Nat → ρ} (hxq : ∀ q, enc (xq q) = .inr q) (hno : ∀ z ∈ hh, covers z pc = false) (hM : ∀ l, kw_Met l y (ws_ y bytes maxL rt) fr' lo' (kA r :: As) (kw_x enc') x) (hwl : Cond.methodLink own index y ∈ lw_all) (hwm : Cond.instanceMethod y ∈ lw_all) (hwe : Cond.selects rr.1 y y ∈ lw_all) (hwi : Cond.initialized y.cls ∈ lw_all) (hwc : Cond.code y bytes maxL rt ∈ lw_all) (hd : y.cls ≠ "java/lang/invoke/MethodHandle" ∧ y.cls ≠ "java/lang/invoke/VarHandle" ∧ (parseMethodDescriptor y.desc).map (fun d => d.parameters.length) = some n) (hn : As.length = n) (hst : st0 = As.reverse ++ (kA r :: st)) (hc8 : (st.map kw_c).sum ≤ 8) (hfr : fr' + 1 ≤ fr) (hlo : 8 + (maxL + 11) + lo' ≤ lo) {f : α → km_M ρ} {push : α → List kw_L} (hpush : kw_push enc' push) (k : ∀ v, kw_W E enc (pc + 3) L (push v ++ st) (f v)) : kw_W E enc pc L st0 (km_bind (km_is ci r) fun _ => km_bind x (km_x xq f)) := by
  obtain ⟨p, l, e, R, s, m, args, below, meth, c, G, n0, z0⟩ := E
  obtain ⟨hx, hb, hml, hr, hown, hts, hlk, hnm, hhh, hfr1, hlo1, h0, hW, hsz, hbase, hold⟩ := B
  intro σ r1 τ H locs cells slots ls hx1 h1 h2 hS hl
  subst hst
  have hK := kw_K h0 hW
  obtain ⟨u9, σ9, i1, hx2⟩ := km_bind_some hx1
  obtain ⟨e9, a9, f9, fs9, rfl, ha9⟩ := km_is_some i1
  rw [e9] at hx2
  obtain ⟨r2, τ2, e1, e2⟩ := km_bind_some hx2
  obtain ⟨m1, m2, -⟩ := x.2 _ _ _ e1
  have hm3 : τ2.2.1 ≤ τ.2.1 ∧ τ2.2.2.1 ≤ τ.2.2.1 := by
    obtain ⟨q1, q2, -⟩ := (km_x xq f r2).2 _ _ _ e2
    exact ⟨q1, q2⟩
  obtain ⟨m3, m4⟩ := hm3
  have hP := hS.1
  obtain ⟨-, hloc, hc1, hc2⟩ := hS
  have hMet := hM l G σ r2 τ2 h0 e1
  have hrun := vx_runV (As := kw_st As) (rest := kw_st st) (g := F0 m pc ls (kw_st (As.reverse ++ (kA (some a9) :: st)))) (H := H) (locs := locs) (cells := cells) (slots := slots) (meth := meth) (below := below) (e := e) (Ts := lw_all) ⟨hx, hb, hml, hown, hts⟩ hMet (⟨callB_of n hts (lw_meth hwc) rfl rfl rfl (hts _ hwi) (hts _ hwl) hd ⟨by rw [hfr1]; exact hfr, by rw [hlo1]; exact hlo⟩, hts _ hwm, hts _ hwe⟩) ⟨kw_blind G σ (kA (some a9) :: As), kw_recv hK hP ha9 hci, fun U hU hUW => ⟨rfl, by rw [hU]; exact hP, State.WarmedH.trans hW hUW⟩⟩ rfl (by unfold kw_st; rw [List.length_map]; exact hn) (hl.1.trans hml) (by rw [kw_st_app, kw_st_rev]; rfl) (lv_room (by rw [kw_st_cat]; exact hc8)) d ⟨by omega, by omega⟩
  refine kw_run (n0 := n0) (z0 := z0) hrun hloc (by omega) (by omega) (fun v H1 locs1 hv hS1 => ?_) (fun q En ce H1 locs1 hq hS1 hcl hce hcv hfc => ?_)
  · cases r2 with
    | inl q => cases hv
    | inr a2 =>
      have hv2 : v = (push a2).head?.map kw_v := Sum.inl.inj (hv.symm.trans (hpush a2).1)
      subst hv2
      rw [(hpush a2).2, ← kw_st_app]
      exact k a2 _ r1 τ H1 locs1 _ _ ls e2 h1 h2 hS1 hl
  · cases r2 with
    | inr a2 =>
      have h9 : enc' a2 = .inr q := hq
      rw [(hpush a2).1] at h9
      cases h9
    | inl q2 =>
      cases hq
      have e3 := Option.some.inj e2
      cases e3
      refine vx_widen (by omega) (by omega) (vx_out (fun z hz => by rw [hhh] at hz; exact hno z hz) hlk hce hcv hfc (fun t ht _ => ⟨hxq _, by rw [ht]; exact hS1.1, hcl⟩) hS1.2.1 (Nat.le_refl _) (Nat.le_refl _))

theorem kw_callVN (B : kw_ok E cc own nm nL ret fr lo hh) (d : decode cc pc = .ok (.invokevirtual index, 3)) {r : Option Nat} {ci : Nat} {rr : vw_C} (hci : kcl[ci]? = some rr) (hM : ∀ l, kw_Met l y (ws_ y bytes maxL rt) fr' lo' (kA r :: As) enc' x) {host : String} (hwl : Cond.methodLinkNest own index y host ∈ lw_tbl) (hwm : Cond.instanceMethod y ∈ lw_all) (hwe : Cond.selects rr.1 y y ∈ lw_all) (hwi : Cond.initialized y.cls ∈ lw_all) (hwc : Cond.code y bytes maxL rt ∈ lw_all) (hd : y.cls ≠ "java/lang/invoke/MethodHandle" ∧ y.cls ≠ "java/lang/invoke/VarHandle" ∧ (parseMethodDescriptor y.desc).map (fun d => d.parameters.length) = some n) (hn : As.length = n) (hst : st0 = As.reverse ++ (kA r :: st)) (hc8 : (st.map kw_c).sum ≤ 8) (hfr : fr' + 1 ≤ fr) (hlo : 8 + (maxL + 11) + lo' ≤ lo) {f : α → km_M ρ} {push : α → List kw_L} (hpush : kw_push enc' push) (k : ∀ v, kw_W E enc (pc + 3) L (push v ++ st) (f v)) : kw_W E enc pc L st0 (km_bind (km_is ci r) fun _ => km_bind x f) := by
  obtain ⟨p, l, e, R, s, m, args, below, meth, c, G, n0, z0⟩ := E
  obtain ⟨hx, hb, hml, hr, hown, hts, hlk, hnm, hhh, hfr1, hlo1, h0, hW, hsz, hbase, hold⟩ := B
  intro σ r1 τ H locs cells slots ls hx1 h1 h2 hS hl
  subst hst
  have hK := kw_K h0 hW
  obtain ⟨u9, σ9, i1, hx2⟩ := km_bind_some hx1
  obtain ⟨e9, a9, f9, fs9, rfl, ha9⟩ := km_is_some i1
  rw [e9] at hx2
  obtain ⟨r2, τ2, e1, e2⟩ := km_bind_some hx2
  obtain ⟨m1, m2, -⟩ := x.2 _ _ _ e1
  obtain ⟨m3, m4, -⟩ := (f r2).2 _ _ _ e2
  have hP := hS.1
  obtain ⟨-, hloc, hc1, hc2⟩ := hS
  have hMet := hM l G σ r2 τ2 h0 e1
  have hrun := vx_runVN (As := kw_st As) (rest := kw_st st) (g := F0 m pc ls (kw_st (As.reverse ++ (kA (some a9) :: st)))) (H := H) (locs := locs) (cells := cells) (slots := slots) (meth := meth) (below := below) (e := e) (Ts := lw_all) ⟨hx, hb, hml, hown, hts⟩ hMet (⟨va_cnB n hts (lw_meth hwc) rfl rfl rfl (kw_nestM h0 hW hwl) (hts _ hwi) hd ⟨by rw [hfr1]; exact hfr, by rw [hlo1]; exact hlo⟩, hts _ hwm, hts _ hwe⟩) ⟨kw_blind G σ (kA (some a9) :: As), kw_recv hK hP ha9 hci, fun U hU hUW => ⟨rfl, by rw [hU]; exact hP, State.WarmedH.trans hW hUW⟩⟩ rfl (by unfold kw_st; rw [List.length_map]; exact hn) (hl.1.trans hml) (by rw [kw_st_app, kw_st_rev]; rfl) (lv_room (by rw [kw_st_cat]; exact hc8)) d ⟨by omega, by omega⟩
  refine kw_run (n0 := n0) (z0 := z0) hrun hloc (by omega) (by omega) (fun v H1 locs1 hv hS1 => ?_) (fun q En ce H1 locs1 hq => ?_)
  · have hv2 : v = (push r2).head?.map kw_v := Sum.inl.inj (hv.symm.trans (hpush r2).1)
    subst hv2
    rw [(hpush r2).2, ← kw_st_app]
    exact k r2 _ r1 τ H1 locs1 _ _ ls e2 h1 h2 hS1 hl
  · rw [(hpush r2).1] at hq
    cases hq

theorem kw_callVNX (B : kw_ok E cc own nm nL ret fr lo hh) (d : decode cc pc = .ok (.invokevirtual index, 3)) {r : Option Nat} {ci : Nat} {rr : vw_C} (hci : kcl[ci]? = some rr) {x : km_M (Nat ⊕ α)} {xq : Nat → ρ} (hxq : ∀ q, enc (xq q) = .inr q) (hno : ∀ z ∈ hh, covers z pc = false) (hM : ∀ l, kw_Met l y (ws_ y bytes maxL rt) fr' lo' (kA r :: As) (kw_x enc') x) {host : String} (hwl : Cond.methodLinkNest own index y host ∈ lw_tbl) (hwm : Cond.instanceMethod y ∈ lw_all) (hwe : Cond.selects rr.1 y y ∈ lw_all) (hwi : Cond.initialized y.cls ∈ lw_all) (hwc : Cond.code y bytes maxL rt ∈ lw_all) (hd : y.cls ≠ "java/lang/invoke/MethodHandle" ∧ y.cls ≠ "java/lang/invoke/VarHandle" ∧ (parseMethodDescriptor y.desc).map (fun d => d.parameters.length) = some n) (hn : As.length = n) (hst : st0 = As.reverse ++ (kA r :: st)) (hc8 : (st.map kw_c).sum ≤ 8) (hfr : fr' + 1 ≤ fr) (hlo : 8 + (maxL + 11) + lo' ≤ lo) {f : α → km_M ρ} {push : α → List kw_L} (hpush : kw_push enc' push) (k : ∀ v, kw_W E enc (pc + 3) L (push v ++ st) (f v)) : kw_W E enc pc L st0 (km_bind (km_is ci r) fun _ => km_bind x (km_x xq f)) := by
  obtain ⟨p, l, e, R, s, m, args, below, meth, c, G, n0, z0⟩ := E
  obtain ⟨hx, hb, hml, hr, hown, hts, hlk, hnm, hhh, hfr1, hlo1, h0, hW, hsz, hbase, hold⟩ := B
  intro σ r1 τ H locs cells slots ls hx1 h1 h2 hS hl
  subst hst
  have hK := kw_K h0 hW
  obtain ⟨u9, σ9, i1, hx2⟩ := km_bind_some hx1
  obtain ⟨e9, a9, f9, fs9, rfl, ha9⟩ := km_is_some i1
  rw [e9] at hx2
  obtain ⟨r2, τ2, e1, e2⟩ := km_bind_some hx2
  obtain ⟨m1, m2, -⟩ := x.2 _ _ _ e1
  have hm3 : τ2.2.1 ≤ τ.2.1 ∧ τ2.2.2.1 ≤ τ.2.2.1 := by
    obtain ⟨q1, q2, -⟩ := (km_x xq f r2).2 _ _ _ e2
    exact ⟨q1, q2⟩
  obtain ⟨m3, m4⟩ := hm3
  have hP := hS.1
  obtain ⟨-, hloc, hc1, hc2⟩ := hS
  have hMet := hM l G σ r2 τ2 h0 e1
  have hrun := vx_runVN (As := kw_st As) (rest := kw_st st) (g := F0 m pc ls (kw_st (As.reverse ++ (kA (some a9) :: st)))) (H := H) (locs := locs) (cells := cells) (slots := slots) (meth := meth) (below := below) (e := e) (Ts := lw_all) ⟨hx, hb, hml, hown, hts⟩ hMet (⟨va_cnB n hts (lw_meth hwc) rfl rfl rfl (kw_nestM h0 hW hwl) (hts _ hwi) hd ⟨by rw [hfr1]; exact hfr, by rw [hlo1]; exact hlo⟩, hts _ hwm, hts _ hwe⟩) ⟨kw_blind G σ (kA (some a9) :: As), kw_recv hK hP ha9 hci, fun U hU hUW => ⟨rfl, by rw [hU]; exact hP, State.WarmedH.trans hW hUW⟩⟩ rfl (by unfold kw_st; rw [List.length_map]; exact hn) (hl.1.trans hml) (by rw [kw_st_app, kw_st_rev]; rfl) (lv_room (by rw [kw_st_cat]; exact hc8)) d ⟨by omega, by omega⟩
  refine kw_run (n0 := n0) (z0 := z0) hrun hloc (by omega) (by omega) (fun v H1 locs1 hv hS1 => ?_) (fun q En ce H1 locs1 hq hS1 hcl hce hcv hfc => ?_)
  · cases r2 with
    | inl q => cases hv
    | inr a2 =>
      have hv2 : v = (push a2).head?.map kw_v := Sum.inl.inj (hv.symm.trans (hpush a2).1)
      subst hv2
      rw [(hpush a2).2, ← kw_st_app]
      exact k a2 _ r1 τ H1 locs1 _ _ ls e2 h1 h2 hS1 hl
  · cases r2 with
    | inr a2 =>
      have h9 : enc' a2 = .inr q := hq
      rw [(hpush a2).1] at h9
      cases h9
    | inl q2 =>
      cases hq
      have e3 := Option.some.inj e2
      cases e3
      refine vx_widen (by omega) (by omega) (vx_out (fun z hz => by rw [hhh] at hz; exact hno z hz) hlk hce hcv hfc (fun t ht _ => ⟨hxq _, by rw [ht]; exact hS1.1, hcl⟩) hS1.2.1 (Nat.le_refl _) (Nat.le_refl _))

theorem kw_callU (B : kw_ok E cc own nm nL ret fr lo hh) (d : decode cc pc = .ok (.invokevirtual index, 3)) {r : Option Nat} {ci : Nat} {rr : vw_C} (hci : kcl[ci]? = some rr) (hM : ∀ l, kw_Met l y (ws_ y bytes maxL rt) fr' lo' (kA r :: As) enc' x) {x0 : MethodName} {owner : String} (hwl : Cond.methodLink own index x0 ∈ lw_all) (hsm : Cond.sameMethod x0.cls owner x0.name x0.desc ∈ lw_all) (hwe : Cond.selects rr.1 x0 y ∈ lw_all) (hwm : Cond.instanceMethod y ∈ lw_all) (hwi : Cond.initialized y.cls ∈ lw_all) (hwc : Cond.code y bytes maxL rt ∈ lw_all) (hyx : y = ⟨owner, x0.name, x0.desc⟩) (hd : owner ≠ "java/lang/invoke/MethodHandle" ∧ owner ≠ "java/lang/invoke/VarHandle" ∧ (parseMethodDescriptor x0.desc).map (fun d => d.parameters.length) = some n) (hn : As.length = n) (hst : st0 = As.reverse ++ (kA r :: st)) (hc8 : (st.map kw_c).sum ≤ 8) (hfr : fr' + 1 ≤ fr) (hlo : 8 + (maxL + 11) + lo' ≤ lo) {f : α → km_M ρ} {push : α → List kw_L} (hpush : kw_push enc' push) (k : ∀ v, kw_W E enc (pc + 3) L (push v ++ st) (f v)) : kw_W E enc pc L st0 (km_bind (km_is ci r) fun _ => km_bind x f) := by
  obtain ⟨p, l, e, R, s, m, args, below, meth, c, G, n0, z0⟩ := E
  obtain ⟨hx, hb, hml, hr, hown, hts, hlk, hnm, hhh, hfr1, hlo1, h0, hW, hsz, hbase, hold⟩ := B
  intro σ r1 τ H locs cells slots ls hx1 h1 h2 hS hl
  subst hst
  have hK := kw_K h0 hW
  obtain ⟨u9, σ9, i1, hx2⟩ := km_bind_some hx1
  obtain ⟨e9, a9, f9, fs9, rfl, ha9⟩ := km_is_some i1
  rw [e9] at hx2
  obtain ⟨r2, τ2, e1, e2⟩ := km_bind_some hx2
  obtain ⟨m1, m2, -⟩ := x.2 _ _ _ e1
  obtain ⟨m3, m4, -⟩ := (f r2).2 _ _ _ e2
  have hP := hS.1
  obtain ⟨-, hloc, hc1, hc2⟩ := hS
  have hMet := hM l G σ r2 τ2 h0 e1
  have hrun := vx_runU (As := kw_st As) (rest := kw_st st) (g := F0 m pc ls (kw_st (As.reverse ++ (kA (some a9) :: st)))) (H := H) (locs := locs) (cells := cells) (slots := slots) (meth := meth) (below := below) (e := e) (Ts := lw_all) ⟨hx, hb, hml, hown, hts⟩ hMet (va_cwU n hts (lw_app (kw_l5 hwl hsm hwe hwm hwi) (lw_meth hwc)) rfl rfl rfl hyx hd ⟨by rw [hfr1]; exact hfr, by rw [hlo1]; exact hlo⟩) ⟨kw_blind G σ (kA (some a9) :: As), kw_recv hK hP ha9 hci, fun U hU hUW => ⟨rfl, by rw [hU]; exact hP, State.WarmedH.trans hW hUW⟩⟩ rfl (by unfold kw_st; rw [List.length_map]; exact hn) (hl.1.trans hml) (by rw [kw_st_app, kw_st_rev]; rfl) (lv_room (by rw [kw_st_cat]; exact hc8)) d ⟨by omega, by omega⟩
  refine kw_run (n0 := n0) (z0 := z0) hrun hloc (by omega) (by omega) (fun v H1 locs1 hv hS1 => ?_) (fun q En ce H1 locs1 hq => ?_)
  · have hv2 : v = (push r2).head?.map kw_v := Sum.inl.inj (hv.symm.trans (hpush r2).1)
    subst hv2
    rw [(hpush r2).2, ← kw_st_app]
    exact k r2 _ r1 τ H1 locs1 _ _ ls e2 h1 h2 hS1 hl
  · rw [(hpush r2).1] at hq
    cases hq

theorem kw_callUX (B : kw_ok E cc own nm nL ret fr lo hh) (d : decode cc pc = .ok (.invokevirtual index, 3)) {r : Option Nat} {ci : Nat} {rr : vw_C} (hci : kcl[ci]? = some rr) {x : km_M (Nat ⊕ α)} {xq : Nat → ρ} (hxq : ∀ q, enc (xq q) = .inr q) (hno : ∀ z ∈ hh, covers z pc = false) (hM : ∀ l, kw_Met l y (ws_ y bytes maxL rt) fr' lo' (kA r :: As) (kw_x enc') x) {x0 : MethodName} {owner : String} (hwl : Cond.methodLink own index x0 ∈ lw_all) (hsm : Cond.sameMethod x0.cls owner x0.name x0.desc ∈ lw_all) (hwe : Cond.selects rr.1 x0 y ∈ lw_all) (hwm : Cond.instanceMethod y ∈ lw_all) (hwi : Cond.initialized y.cls ∈ lw_all) (hwc : Cond.code y bytes maxL rt ∈ lw_all) (hyx : y = ⟨owner, x0.name, x0.desc⟩) (hd : owner ≠ "java/lang/invoke/MethodHandle" ∧ owner ≠ "java/lang/invoke/VarHandle" ∧ (parseMethodDescriptor x0.desc).map (fun d => d.parameters.length) = some n) (hn : As.length = n) (hst : st0 = As.reverse ++ (kA r :: st)) (hc8 : (st.map kw_c).sum ≤ 8) (hfr : fr' + 1 ≤ fr) (hlo : 8 + (maxL + 11) + lo' ≤ lo) {f : α → km_M ρ} {push : α → List kw_L} (hpush : kw_push enc' push) (k : ∀ v, kw_W E enc (pc + 3) L (push v ++ st) (f v)) : kw_W E enc pc L st0 (km_bind (km_is ci r) fun _ => km_bind x (km_x xq f)) := by
  obtain ⟨p, l, e, R, s, m, args, below, meth, c, G, n0, z0⟩ := E
  obtain ⟨hx, hb, hml, hr, hown, hts, hlk, hnm, hhh, hfr1, hlo1, h0, hW, hsz, hbase, hold⟩ := B
  intro σ r1 τ H locs cells slots ls hx1 h1 h2 hS hl
  subst hst
  have hK := kw_K h0 hW
  obtain ⟨u9, σ9, i1, hx2⟩ := km_bind_some hx1
  obtain ⟨e9, a9, f9, fs9, rfl, ha9⟩ := km_is_some i1
  rw [e9] at hx2
  obtain ⟨r2, τ2, e1, e2⟩ := km_bind_some hx2
  obtain ⟨m1, m2, -⟩ := x.2 _ _ _ e1
  have hm3 : τ2.2.1 ≤ τ.2.1 ∧ τ2.2.2.1 ≤ τ.2.2.1 := by
    obtain ⟨q1, q2, -⟩ := (km_x xq f r2).2 _ _ _ e2
    exact ⟨q1, q2⟩
  obtain ⟨m3, m4⟩ := hm3
  have hP := hS.1
  obtain ⟨-, hloc, hc1, hc2⟩ := hS
  have hMet := hM l G σ r2 τ2 h0 e1
  have hrun := vx_runU (As := kw_st As) (rest := kw_st st) (g := F0 m pc ls (kw_st (As.reverse ++ (kA (some a9) :: st)))) (H := H) (locs := locs) (cells := cells) (slots := slots) (meth := meth) (below := below) (e := e) (Ts := lw_all) ⟨hx, hb, hml, hown, hts⟩ hMet (va_cwU n hts (lw_app (kw_l5 hwl hsm hwe hwm hwi) (lw_meth hwc)) rfl rfl rfl hyx hd ⟨by rw [hfr1]; exact hfr, by rw [hlo1]; exact hlo⟩) ⟨kw_blind G σ (kA (some a9) :: As), kw_recv hK hP ha9 hci, fun U hU hUW => ⟨rfl, by rw [hU]; exact hP, State.WarmedH.trans hW hUW⟩⟩ rfl (by unfold kw_st; rw [List.length_map]; exact hn) (hl.1.trans hml) (by rw [kw_st_app, kw_st_rev]; rfl) (lv_room (by rw [kw_st_cat]; exact hc8)) d ⟨by omega, by omega⟩
  refine kw_run (n0 := n0) (z0 := z0) hrun hloc (by omega) (by omega) (fun v H1 locs1 hv hS1 => ?_) (fun q En ce H1 locs1 hq hS1 hcl hce hcv hfc => ?_)
  · cases r2 with
    | inl q => cases hv
    | inr a2 =>
      have hv2 : v = (push a2).head?.map kw_v := Sum.inl.inj (hv.symm.trans (hpush a2).1)
      subst hv2
      rw [(hpush a2).2, ← kw_st_app]
      exact k a2 _ r1 τ H1 locs1 _ _ ls e2 h1 h2 hS1 hl
  · cases r2 with
    | inr a2 =>
      have h9 : enc' a2 = .inr q := hq
      rw [(hpush a2).1] at h9
      cases h9
    | inl q2 =>
      cases hq
      have e3 := Option.some.inj e2
      cases e3
      refine vx_widen (by omega) (by omega) (vx_out (fun z hz => by rw [hhh] at hz; exact hno z hz) hlk hce hcv hfc (fun t ht _ => ⟨hxq _, by rw [ht]; exact hS1.1, hcl⟩) hS1.2.1 (Nat.le_refl _) (Nat.le_refl _))

theorem kw_callA (B : kw_ok E cc own nm nL ret fr lo hh) (d : decode cc pc = .ok (.invokevirtual index, 3)) {r : Option Nat} {ci : Nat} {rr : vw_C} (hci : kcl[ci]? = some rr) (hM : ∀ l, kw_Met l y (ws_ y bytes maxL rt) fr' lo' (kA r :: As) enc' x) {x0 : MethodName} {owner : String} (hwl : Cond.methodLink own index x0 ∈ lw_all) (hsm : Cond.sameMethod x0.cls owner x0.name x0.desc ∈ lw_all) (hwe : Cond.selects rr.1 x0 y ∈ lw_all) (hwm : Cond.instanceMethod y ∈ lw_all) (hwi : Cond.initialized y.cls ∈ lw_all) (hwc : Cond.code y bytes maxL rt ∈ lw_all) (hdec : Cond.declares ⟨owner, x0.name, x0.desc⟩ ∈ lw_tbl) (hd : owner ≠ "java/lang/invoke/MethodHandle" ∧ owner ≠ "java/lang/invoke/VarHandle" ∧ (parseMethodDescriptor x0.desc).map (fun d => d.parameters.length) = some n) (hn : As.length = n) (hst : st0 = As.reverse ++ (kA r :: st)) (hc8 : (st.map kw_c).sum ≤ 8) (hfr : fr' + 1 ≤ fr) (hlo : 8 + (maxL + 11) + lo' ≤ lo) {f : α → km_M ρ} {push : α → List kw_L} (hpush : kw_push enc' push) (k : ∀ v, kw_W E enc (pc + 3) L (push v ++ st) (f v)) : kw_W E enc pc L st0 (km_bind (km_is ci r) fun _ => km_bind x f) := by
  obtain ⟨p, l, e, R, s, m, args, below, meth, c, G, n0, z0⟩ := E
  obtain ⟨hx, hb, hml, hr, hown, hts, hlk, hnm, hhh, hfr1, hlo1, h0, hW, hsz, hbase, hold⟩ := B
  intro σ r1 τ H locs cells slots ls hx1 h1 h2 hS hl
  subst hst
  have hK := kw_K h0 hW
  obtain ⟨u9, σ9, i1, hx2⟩ := km_bind_some hx1
  obtain ⟨e9, a9, f9, fs9, rfl, ha9⟩ := km_is_some i1
  rw [e9] at hx2
  obtain ⟨r2, τ2, e1, e2⟩ := km_bind_some hx2
  obtain ⟨m1, m2, -⟩ := x.2 _ _ _ e1
  obtain ⟨m3, m4, -⟩ := (f r2).2 _ _ _ e2
  have hP := hS.1
  obtain ⟨-, hloc, hc1, hc2⟩ := hS
  have hMet := hM l G σ r2 τ2 h0 e1
  have hrun := vx_runU (As := kw_st As) (rest := kw_st st) (g := F0 m pc ls (kw_st (As.reverse ++ (kA (some a9) :: st)))) (H := H) (locs := locs) (cells := cells) (slots := slots) (meth := meth) (below := below) (e := e) (Ts := lw_all) ⟨hx, hb, hml, hown, hts⟩ hMet (va_cwA n hts (lw_app (kw_l5 hwl hsm hwe hwm hwi) (lw_meth hwc)) rfl rfl rfl (kw_decl h0 hW hdec) hd ⟨by rw [hfr1]; exact hfr, by rw [hlo1]; exact hlo⟩) ⟨kw_blind G σ (kA (some a9) :: As), kw_recv hK hP ha9 hci, fun U hU hUW => ⟨rfl, by rw [hU]; exact hP, State.WarmedH.trans hW hUW⟩⟩ rfl (by unfold kw_st; rw [List.length_map]; exact hn) (hl.1.trans hml) (by rw [kw_st_app, kw_st_rev]; rfl) (lv_room (by rw [kw_st_cat]; exact hc8)) d ⟨by omega, by omega⟩
  refine kw_run (n0 := n0) (z0 := z0) hrun hloc (by omega) (by omega) (fun v H1 locs1 hv hS1 => ?_) (fun q En ce H1 locs1 hq => ?_)
  · have hv2 : v = (push r2).head?.map kw_v := Sum.inl.inj (hv.symm.trans (hpush r2).1)
    subst hv2
    rw [(hpush r2).2, ← kw_st_app]
    exact k r2 _ r1 τ H1 locs1 _ _ ls e2 h1 h2 hS1 hl
  · rw [(hpush r2).1] at hq
    cases hq

theorem kw_callAX (B : kw_ok E cc own nm nL ret fr lo hh) (d : decode cc pc = .ok (.invokevirtual index, 3)) {r : Option Nat} {ci : Nat} {rr : vw_C} (hci : kcl[ci]? = some rr) {x : km_M (Nat ⊕ α)} {xq : Nat → ρ} (hxq : ∀ q, enc (xq q) = .inr q) (hno : ∀ z ∈ hh, covers z pc = false) (hM : ∀ l, kw_Met l y (ws_ y bytes maxL rt) fr' lo' (kA r :: As) (kw_x enc') x) {x0 : MethodName} {owner : String} (hwl : Cond.methodLink own index x0 ∈ lw_all) (hsm : Cond.sameMethod x0.cls owner x0.name x0.desc ∈ lw_all) (hwe : Cond.selects rr.1 x0 y ∈ lw_all) (hwm : Cond.instanceMethod y ∈ lw_all) (hwi : Cond.initialized y.cls ∈ lw_all) (hwc : Cond.code y bytes maxL rt ∈ lw_all) (hdec : Cond.declares ⟨owner, x0.name, x0.desc⟩ ∈ lw_tbl) (hd : owner ≠ "java/lang/invoke/MethodHandle" ∧ owner ≠ "java/lang/invoke/VarHandle" ∧ (parseMethodDescriptor x0.desc).map (fun d => d.parameters.length) = some n) (hn : As.length = n) (hst : st0 = As.reverse ++ (kA r :: st)) (hc8 : (st.map kw_c).sum ≤ 8) (hfr : fr' + 1 ≤ fr) (hlo : 8 + (maxL + 11) + lo' ≤ lo) {f : α → km_M ρ} {push : α → List kw_L} (hpush : kw_push enc' push) (k : ∀ v, kw_W E enc (pc + 3) L (push v ++ st) (f v)) : kw_W E enc pc L st0 (km_bind (km_is ci r) fun _ => km_bind x (km_x xq f)) := by
  obtain ⟨p, l, e, R, s, m, args, below, meth, c, G, n0, z0⟩ := E
  obtain ⟨hx, hb, hml, hr, hown, hts, hlk, hnm, hhh, hfr1, hlo1, h0, hW, hsz, hbase, hold⟩ := B
  intro σ r1 τ H locs cells slots ls hx1 h1 h2 hS hl
  subst hst
  have hK := kw_K h0 hW
  obtain ⟨u9, σ9, i1, hx2⟩ := km_bind_some hx1
  obtain ⟨e9, a9, f9, fs9, rfl, ha9⟩ := km_is_some i1
  rw [e9] at hx2
  obtain ⟨r2, τ2, e1, e2⟩ := km_bind_some hx2
  obtain ⟨m1, m2, -⟩ := x.2 _ _ _ e1
  have hm3 : τ2.2.1 ≤ τ.2.1 ∧ τ2.2.2.1 ≤ τ.2.2.1 := by
    obtain ⟨q1, q2, -⟩ := (km_x xq f r2).2 _ _ _ e2
    exact ⟨q1, q2⟩
  obtain ⟨m3, m4⟩ := hm3
  have hP := hS.1
  obtain ⟨-, hloc, hc1, hc2⟩ := hS
  have hMet := hM l G σ r2 τ2 h0 e1
  have hrun := vx_runU (As := kw_st As) (rest := kw_st st) (g := F0 m pc ls (kw_st (As.reverse ++ (kA (some a9) :: st)))) (H := H) (locs := locs) (cells := cells) (slots := slots) (meth := meth) (below := below) (e := e) (Ts := lw_all) ⟨hx, hb, hml, hown, hts⟩ hMet (va_cwA n hts (lw_app (kw_l5 hwl hsm hwe hwm hwi) (lw_meth hwc)) rfl rfl rfl (kw_decl h0 hW hdec) hd ⟨by rw [hfr1]; exact hfr, by rw [hlo1]; exact hlo⟩) ⟨kw_blind G σ (kA (some a9) :: As), kw_recv hK hP ha9 hci, fun U hU hUW => ⟨rfl, by rw [hU]; exact hP, State.WarmedH.trans hW hUW⟩⟩ rfl (by unfold kw_st; rw [List.length_map]; exact hn) (hl.1.trans hml) (by rw [kw_st_app, kw_st_rev]; rfl) (lv_room (by rw [kw_st_cat]; exact hc8)) d ⟨by omega, by omega⟩
  refine kw_run (n0 := n0) (z0 := z0) hrun hloc (by omega) (by omega) (fun v H1 locs1 hv hS1 => ?_) (fun q En ce H1 locs1 hq hS1 hcl hce hcv hfc => ?_)
  · cases r2 with
    | inl q => cases hv
    | inr a2 =>
      have hv2 : v = (push a2).head?.map kw_v := Sum.inl.inj (hv.symm.trans (hpush a2).1)
      subst hv2
      rw [(hpush a2).2, ← kw_st_app]
      exact k a2 _ r1 τ H1 locs1 _ _ ls e2 h1 h2 hS1 hl
  · cases r2 with
    | inr a2 =>
      have h9 : enc' a2 = .inr q := hq
      rw [(hpush a2).1] at h9
      cases h9
    | inl q2 =>
      cases hq
      have e3 := Option.some.inj e2
      cases e3
      refine vx_widen (by omega) (by omega) (vx_out (fun z hz => by rw [hhh] at hz; exact hno z hz) hlk hce hcv hfc (fun t ht _ => ⟨hxq _, by rw [ht]; exact hS1.1, hcl⟩) hS1.2.1 (Nat.le_refl _) (Nat.le_refl _))

theorem kw_callO (B : kw_ok E cc own nm nL ret fr lo hh) (d : decode cc pc = .ok (.invokevirtual index, 3)) {r : Option Nat} {ci : Nat} {rr : vw_C} (hci : kcl[ci]? = some rr) (hM : ∀ l, kw_Met l y (ws_ y bytes maxL rt) fr' lo' (kA r :: As) enc' x) {x0 : MethodName} {owner : String} {b0 : ByteArray} {m0 : Nat} {r0 : Option FieldType} (hwl : Cond.methodLink own index x0 ∈ lw_all) (hsm : Cond.sameMethod x0.cls owner x0.name x0.desc ∈ lw_all) (hwe : Cond.selects rr.1 x0 y ∈ lw_all) (hwm : Cond.instanceMethod y ∈ lw_all) (hwi : Cond.initialized y.cls ∈ lw_all) (hwc : Cond.code y bytes maxL rt ∈ lw_all) (hwm0 : Cond.instanceMethod ⟨owner, x0.name, x0.desc⟩ ∈ lw_all) (hwc0 : Cond.code ⟨owner, x0.name, x0.desc⟩ b0 m0 r0 ∈ lw_all) (hd : owner ≠ "java/lang/invoke/MethodHandle" ∧ owner ≠ "java/lang/invoke/VarHandle" ∧ (parseMethodDescriptor x0.desc).map (fun d => d.parameters.length) = some n) (hn : As.length = n) (hst : st0 = As.reverse ++ (kA r :: st)) (hc8 : (st.map kw_c).sum ≤ 8) (hfr : fr' + 1 ≤ fr) (hlo : 8 + (maxL + 11) + lo' ≤ lo) {f : α → km_M ρ} {push : α → List kw_L} (hpush : kw_push enc' push) (k : ∀ v, kw_W E enc (pc + 3) L (push v ++ st) (f v)) : kw_W E enc pc L st0 (km_bind (km_is ci r) fun _ => km_bind x f) := by
  obtain ⟨p, l, e, R, s, m, args, below, meth, c, G, n0, z0⟩ := E
  obtain ⟨hx, hb, hml, hr, hown, hts, hlk, hnm, hhh, hfr1, hlo1, h0, hW, hsz, hbase, hold⟩ := B
  intro σ r1 τ H locs cells slots ls hx1 h1 h2 hS hl
  subst hst
  have hK := kw_K h0 hW
  obtain ⟨u9, σ9, i1, hx2⟩ := km_bind_some hx1
  obtain ⟨e9, a9, f9, fs9, rfl, ha9⟩ := km_is_some i1
  rw [e9] at hx2
  obtain ⟨r2, τ2, e1, e2⟩ := km_bind_some hx2
  obtain ⟨m1, m2, -⟩ := x.2 _ _ _ e1
  obtain ⟨m3, m4, -⟩ := (f r2).2 _ _ _ e2
  have hP := hS.1
  obtain ⟨-, hloc, hc1, hc2⟩ := hS
  have hMet := hM l G σ r2 τ2 h0 e1
  have hrun := vx_runU (As := kw_st As) (rest := kw_st st) (g := F0 m pc ls (kw_st (As.reverse ++ (kA (some a9) :: st)))) (H := H) (locs := locs) (cells := cells) (slots := slots) (meth := meth) (below := below) (e := e) (Ts := lw_all) ⟨hx, hb, hml, hown, hts⟩ hMet (va_cwO n hts (lw_app (kw_l6 hwl hsm hwm0 hwe hwm hwi) (lw_meth hwc)) rfl rfl rfl hwc0 hd ⟨by rw [hfr1]; exact hfr, by rw [hlo1]; exact hlo⟩) ⟨kw_blind G σ (kA (some a9) :: As), kw_recv hK hP ha9 hci, fun U hU hUW => ⟨rfl, by rw [hU]; exact hP, State.WarmedH.trans hW hUW⟩⟩ rfl (by unfold kw_st; rw [List.length_map]; exact hn) (hl.1.trans hml) (by rw [kw_st_app, kw_st_rev]; rfl) (lv_room (by rw [kw_st_cat]; exact hc8)) d ⟨by omega, by omega⟩
  refine kw_run (n0 := n0) (z0 := z0) hrun hloc (by omega) (by omega) (fun v H1 locs1 hv hS1 => ?_) (fun q En ce H1 locs1 hq => ?_)
  · have hv2 : v = (push r2).head?.map kw_v := Sum.inl.inj (hv.symm.trans (hpush r2).1)
    subst hv2
    rw [(hpush r2).2, ← kw_st_app]
    exact k r2 _ r1 τ H1 locs1 _ _ ls e2 h1 h2 hS1 hl
  · rw [(hpush r2).1] at hq
    cases hq

theorem kw_callOX (B : kw_ok E cc own nm nL ret fr lo hh) (d : decode cc pc = .ok (.invokevirtual index, 3)) {r : Option Nat} {ci : Nat} {rr : vw_C} (hci : kcl[ci]? = some rr) {x : km_M (Nat ⊕ α)} {xq : Nat → ρ} (hxq : ∀ q, enc (xq q) = .inr q) (hno : ∀ z ∈ hh, covers z pc = false) (hM : ∀ l, kw_Met l y (ws_ y bytes maxL rt) fr' lo' (kA r :: As) (kw_x enc') x) {x0 : MethodName} {owner : String} {b0 : ByteArray} {m0 : Nat} {r0 : Option FieldType} (hwl : Cond.methodLink own index x0 ∈ lw_all) (hsm : Cond.sameMethod x0.cls owner x0.name x0.desc ∈ lw_all) (hwe : Cond.selects rr.1 x0 y ∈ lw_all) (hwm : Cond.instanceMethod y ∈ lw_all) (hwi : Cond.initialized y.cls ∈ lw_all) (hwc : Cond.code y bytes maxL rt ∈ lw_all) (hwm0 : Cond.instanceMethod ⟨owner, x0.name, x0.desc⟩ ∈ lw_all) (hwc0 : Cond.code ⟨owner, x0.name, x0.desc⟩ b0 m0 r0 ∈ lw_all) (hd : owner ≠ "java/lang/invoke/MethodHandle" ∧ owner ≠ "java/lang/invoke/VarHandle" ∧ (parseMethodDescriptor x0.desc).map (fun d => d.parameters.length) = some n) (hn : As.length = n) (hst : st0 = As.reverse ++ (kA r :: st)) (hc8 : (st.map kw_c).sum ≤ 8) (hfr : fr' + 1 ≤ fr) (hlo : 8 + (maxL + 11) + lo' ≤ lo) {f : α → km_M ρ} {push : α → List kw_L} (hpush : kw_push enc' push) (k : ∀ v, kw_W E enc (pc + 3) L (push v ++ st) (f v)) : kw_W E enc pc L st0 (km_bind (km_is ci r) fun _ => km_bind x (km_x xq f)) := by
  obtain ⟨p, l, e, R, s, m, args, below, meth, c, G, n0, z0⟩ := E
  obtain ⟨hx, hb, hml, hr, hown, hts, hlk, hnm, hhh, hfr1, hlo1, h0, hW, hsz, hbase, hold⟩ := B
  intro σ r1 τ H locs cells slots ls hx1 h1 h2 hS hl
  subst hst
  have hK := kw_K h0 hW
  obtain ⟨u9, σ9, i1, hx2⟩ := km_bind_some hx1
  obtain ⟨e9, a9, f9, fs9, rfl, ha9⟩ := km_is_some i1
  rw [e9] at hx2
  obtain ⟨r2, τ2, e1, e2⟩ := km_bind_some hx2
  obtain ⟨m1, m2, -⟩ := x.2 _ _ _ e1
  have hm3 : τ2.2.1 ≤ τ.2.1 ∧ τ2.2.2.1 ≤ τ.2.2.1 := by
    obtain ⟨q1, q2, -⟩ := (km_x xq f r2).2 _ _ _ e2
    exact ⟨q1, q2⟩
  obtain ⟨m3, m4⟩ := hm3
  have hP := hS.1
  obtain ⟨-, hloc, hc1, hc2⟩ := hS
  have hMet := hM l G σ r2 τ2 h0 e1
  have hrun := vx_runU (As := kw_st As) (rest := kw_st st) (g := F0 m pc ls (kw_st (As.reverse ++ (kA (some a9) :: st)))) (H := H) (locs := locs) (cells := cells) (slots := slots) (meth := meth) (below := below) (e := e) (Ts := lw_all) ⟨hx, hb, hml, hown, hts⟩ hMet (va_cwO n hts (lw_app (kw_l6 hwl hsm hwm0 hwe hwm hwi) (lw_meth hwc)) rfl rfl rfl hwc0 hd ⟨by rw [hfr1]; exact hfr, by rw [hlo1]; exact hlo⟩) ⟨kw_blind G σ (kA (some a9) :: As), kw_recv hK hP ha9 hci, fun U hU hUW => ⟨rfl, by rw [hU]; exact hP, State.WarmedH.trans hW hUW⟩⟩ rfl (by unfold kw_st; rw [List.length_map]; exact hn) (hl.1.trans hml) (by rw [kw_st_app, kw_st_rev]; rfl) (lv_room (by rw [kw_st_cat]; exact hc8)) d ⟨by omega, by omega⟩
  refine kw_run (n0 := n0) (z0 := z0) hrun hloc (by omega) (by omega) (fun v H1 locs1 hv hS1 => ?_) (fun q En ce H1 locs1 hq hS1 hcl hce hcv hfc => ?_)
  · cases r2 with
    | inl q => cases hv
    | inr a2 =>
      have hv2 : v = (push a2).head?.map kw_v := Sum.inl.inj (hv.symm.trans (hpush a2).1)
      subst hv2
      rw [(hpush a2).2, ← kw_st_app]
      exact k a2 _ r1 τ H1 locs1 _ _ ls e2 h1 h2 hS1 hl
  · cases r2 with
    | inr a2 =>
      have h9 : enc' a2 = .inr q := hq
      rw [(hpush a2).1] at h9
      cases h9
    | inl q2 =>
      cases hq
      have e3 := Option.some.inj e2
      cases e3
      refine vx_widen (by omega) (by omega) (vx_out (fun z hz => by rw [hhh] at hz; exact hno z hz) hlk hce hcv hfc (fun t ht _ => ⟨hxq _, by rw [ht]; exact hS1.1, hcl⟩) hS1.2.1 (Nat.le_refl _) (Nat.le_refl _))

theorem kw_callF {count : Nat} (B : kw_ok E cc own nm nL ret fr lo hh) (d : decode cc pc = .ok (.invokeinterface index count, 5)) {r : Option Nat} {ci : Nat} {rr : vw_C} (hci : kcl[ci]? = some rr) (hM : ∀ l, kw_Met l y (ws_ y bytes maxL rt) fr' lo' (kA r :: As) enc' x) {x0 : MethodName} (hwl : Cond.methodLink own index x0 ∈ lw_all) (hwe : Cond.selects rr.1 x0 y ∈ lw_all) (hwm : Cond.instanceMethod y ∈ lw_all) (hwi : Cond.initialized y.cls ∈ lw_all) (hwc : Cond.code y bytes maxL rt ∈ lw_all) (hf1 : Cond.declares x0 ∈ lw_tbl) (hf2 : Cond.interfaceMethod x0.cls x0.cls x0.name x0.desc ∈ lw_tbl) (hf3 : Cond.publicMethod y ∈ lw_tbl) (hf4 : Cond.unhidden rr.1 x0.name x0.desc ∈ lw_tbl) (hf5 : Cond.castable rr.1 x0.cls ∈ lw_tbl) (hd : x0.cls ≠ "java/lang/invoke/MethodHandle" ∧ x0.cls ≠ "java/lang/invoke/VarHandle" ∧ (parseMethodDescriptor x0.desc).map (fun d => d.parameters.length) = some n) (hn : As.length = n) (hst : st0 = As.reverse ++ (kA r :: st)) (hc8 : (st.map kw_c).sum ≤ 8) (hfr : fr' + 1 ≤ fr) (hlo : 8 + (maxL + 11) + lo' ≤ lo) {f : α → km_M ρ} {push : α → List kw_L} (hpush : kw_push enc' push) (k : ∀ v, kw_W E enc (pc + 5) L (push v ++ st) (f v)) : kw_W E enc pc L st0 (km_bind (km_is ci r) fun _ => km_bind x f) := by
  obtain ⟨p, l, e, R, s, m, args, below, meth, c, G, n0, z0⟩ := E
  obtain ⟨hx, hb, hml, hr, hown, hts, hlk, hnm, hhh, hfr1, hlo1, h0, hW, hsz, hbase, hold⟩ := B
  intro σ r1 τ H locs cells slots ls hx1 h1 h2 hS hl
  subst hst
  have hK := kw_K h0 hW
  obtain ⟨u9, σ9, i1, hx2⟩ := km_bind_some hx1
  obtain ⟨e9, a9, f9, fs9, rfl, ha9⟩ := km_is_some i1
  rw [e9] at hx2
  obtain ⟨r2, τ2, e1, e2⟩ := km_bind_some hx2
  obtain ⟨m1, m2, -⟩ := x.2 _ _ _ e1
  obtain ⟨m3, m4, -⟩ := (f r2).2 _ _ _ e2
  have hP := hS.1
  obtain ⟨-, hloc, hc1, hc2⟩ := hS
  have hMet := hM l G σ r2 τ2 h0 e1
  have hrun := vx_runF (hK.1 ci rr hci).2 (As := kw_st As) (rest := kw_st st) (g := F0 m pc ls (kw_st (As.reverse ++ (kA (some a9) :: st)))) (H := H) (locs := locs) (cells := cells) (slots := slots) (meth := meth) (below := below) (e := e) (Ts := lw_all) ⟨hx, hb, hml, hown, hts⟩ hMet (va_cwF n hts (lw_app (kw_l4 hwl hwe hwm hwi) (lw_meth hwc)) rfl rfl rfl (kw_Fw h0 hW ⟨hd.1, hd.2.1⟩ hf1 hf2 hf3 hf4 hf5) hd ⟨by rw [hfr1]; exact hfr, by rw [hlo1]; exact hlo⟩) ⟨kw_blind G σ (kA (some a9) :: As), kw_recv hK hP ha9 hci, fun U hU hUW => ⟨rfl, by rw [hU]; exact hP, State.WarmedH.trans hW hUW⟩⟩ rfl (by unfold kw_st; rw [List.length_map]; exact hn) (hl.1.trans hml) (by rw [kw_st_app, kw_st_rev]; rfl) (lv_room (by rw [kw_st_cat]; exact hc8)) d ⟨by omega, by omega⟩
  refine kw_run5 (n0 := n0) (z0 := z0) hrun hloc (by omega) (by omega) (fun v H1 locs1 hv hS1 => ?_) (fun q En ce H1 locs1 hq => ?_)
  · have hv2 : v = (push r2).head?.map kw_v := Sum.inl.inj (hv.symm.trans (hpush r2).1)
    subst hv2
    rw [(hpush r2).2, ← kw_st_app]
    exact k r2 _ r1 τ H1 locs1 _ _ ls e2 h1 h2 hS1 hl
  · rw [(hpush r2).1] at hq
    cases hq

theorem kw_callFX {count : Nat} (B : kw_ok E cc own nm nL ret fr lo hh) (d : decode cc pc = .ok (.invokeinterface index count, 5)) {r : Option Nat} {ci : Nat} {rr : vw_C} (hci : kcl[ci]? = some rr) {x : km_M (Nat ⊕ α)} {xq : Nat → ρ} (hxq : ∀ q, enc (xq q) = .inr q) (hno : ∀ z ∈ hh, covers z pc = false) (hM : ∀ l, kw_Met l y (ws_ y bytes maxL rt) fr' lo' (kA r :: As) (kw_x enc') x) {x0 : MethodName} (hwl : Cond.methodLink own index x0 ∈ lw_all) (hwe : Cond.selects rr.1 x0 y ∈ lw_all) (hwm : Cond.instanceMethod y ∈ lw_all) (hwi : Cond.initialized y.cls ∈ lw_all) (hwc : Cond.code y bytes maxL rt ∈ lw_all) (hf1 : Cond.declares x0 ∈ lw_tbl) (hf2 : Cond.interfaceMethod x0.cls x0.cls x0.name x0.desc ∈ lw_tbl) (hf3 : Cond.publicMethod y ∈ lw_tbl) (hf4 : Cond.unhidden rr.1 x0.name x0.desc ∈ lw_tbl) (hf5 : Cond.castable rr.1 x0.cls ∈ lw_tbl) (hd : x0.cls ≠ "java/lang/invoke/MethodHandle" ∧ x0.cls ≠ "java/lang/invoke/VarHandle" ∧ (parseMethodDescriptor x0.desc).map (fun d => d.parameters.length) = some n) (hn : As.length = n) (hst : st0 = As.reverse ++ (kA r :: st)) (hc8 : (st.map kw_c).sum ≤ 8) (hfr : fr' + 1 ≤ fr) (hlo : 8 + (maxL + 11) + lo' ≤ lo) {f : α → km_M ρ} {push : α → List kw_L} (hpush : kw_push enc' push) (k : ∀ v, kw_W E enc (pc + 5) L (push v ++ st) (f v)) : kw_W E enc pc L st0 (km_bind (km_is ci r) fun _ => km_bind x (km_x xq f)) := by
  obtain ⟨p, l, e, R, s, m, args, below, meth, c, G, n0, z0⟩ := E
  obtain ⟨hx, hb, hml, hr, hown, hts, hlk, hnm, hhh, hfr1, hlo1, h0, hW, hsz, hbase, hold⟩ := B
  intro σ r1 τ H locs cells slots ls hx1 h1 h2 hS hl
  subst hst
  have hK := kw_K h0 hW
  obtain ⟨u9, σ9, i1, hx2⟩ := km_bind_some hx1
  obtain ⟨e9, a9, f9, fs9, rfl, ha9⟩ := km_is_some i1
  rw [e9] at hx2
  obtain ⟨r2, τ2, e1, e2⟩ := km_bind_some hx2
  obtain ⟨m1, m2, -⟩ := x.2 _ _ _ e1
  have hm3 : τ2.2.1 ≤ τ.2.1 ∧ τ2.2.2.1 ≤ τ.2.2.1 := by
    obtain ⟨q1, q2, -⟩ := (km_x xq f r2).2 _ _ _ e2
    exact ⟨q1, q2⟩
  obtain ⟨m3, m4⟩ := hm3
  have hP := hS.1
  obtain ⟨-, hloc, hc1, hc2⟩ := hS
  have hMet := hM l G σ r2 τ2 h0 e1
  have hrun := vx_runF (hK.1 ci rr hci).2 (As := kw_st As) (rest := kw_st st) (g := F0 m pc ls (kw_st (As.reverse ++ (kA (some a9) :: st)))) (H := H) (locs := locs) (cells := cells) (slots := slots) (meth := meth) (below := below) (e := e) (Ts := lw_all) ⟨hx, hb, hml, hown, hts⟩ hMet (va_cwF n hts (lw_app (kw_l4 hwl hwe hwm hwi) (lw_meth hwc)) rfl rfl rfl (kw_Fw h0 hW ⟨hd.1, hd.2.1⟩ hf1 hf2 hf3 hf4 hf5) hd ⟨by rw [hfr1]; exact hfr, by rw [hlo1]; exact hlo⟩) ⟨kw_blind G σ (kA (some a9) :: As), kw_recv hK hP ha9 hci, fun U hU hUW => ⟨rfl, by rw [hU]; exact hP, State.WarmedH.trans hW hUW⟩⟩ rfl (by unfold kw_st; rw [List.length_map]; exact hn) (hl.1.trans hml) (by rw [kw_st_app, kw_st_rev]; rfl) (lv_room (by rw [kw_st_cat]; exact hc8)) d ⟨by omega, by omega⟩
  refine kw_run5 (n0 := n0) (z0 := z0) hrun hloc (by omega) (by omega) (fun v H1 locs1 hv hS1 => ?_) (fun q En ce H1 locs1 hq hS1 hcl hce hcv hfc => ?_)
  · cases r2 with
    | inl q => cases hv
    | inr a2 =>
      have hv2 : v = (push a2).head?.map kw_v := Sum.inl.inj (hv.symm.trans (hpush a2).1)
      subst hv2
      rw [(hpush a2).2, ← kw_st_app]
      exact k a2 _ r1 τ H1 locs1 _ _ ls e2 h1 h2 hS1 hl
  · cases r2 with
    | inr a2 =>
      have h9 : enc' a2 = .inr q := hq
      rw [(hpush a2).1] at h9
      cases h9
    | inl q2 =>
      cases hq
      have e3 := Option.some.inj e2
      cases e3
      refine vx_widen (by omega) (by omega) (vx_out (fun z hz => by rw [hhh] at hz; exact hno z hz) hlk hce hcv hfc (fun t ht _ => ⟨hxq _, by rw [ht]; exact hS1.1, hcl⟩) hS1.2.1 (Nat.le_refl _) (Nat.le_refl _))

theorem kw_callSU (B : kw_ok E cc own nm nL ret fr lo hh) (d : decode cc pc = .ok (.invokespecial index, 3)) {r : Option Nat} {ci : Nat} {rr : vw_C} (hci : kcl[ci]? = some rr) (hM : ∀ l, kw_Met l y (ws_ y bytes maxL rt) fr' lo' (kA r :: As) enc' x) (hwl : Cond.methodLink own index y ∈ lw_all) (hsm : Cond.sameMethod y.cls y.cls y.name y.desc ∈ lw_all) (hsu : Cond.superclass own y.cls ∈ lw_all) (hwm : Cond.instanceMethod y ∈ lw_all) (hwi : Cond.initialized y.cls ∈ lw_all) (hwc : Cond.code y bytes maxL rt ∈ lw_all) (hd : y.name ≠ "<init>" ∧ (parseMethodDescriptor y.desc).map (fun d => d.parameters.length) = some n) (hn : As.length = n) (hst : st0 = As.reverse ++ (kA r :: st)) (hc8 : (st.map kw_c).sum ≤ 8) (hfr : fr' + 1 ≤ fr) (hlo : 8 + (maxL + 11) + lo' ≤ lo) {f : α → km_M ρ} {push : α → List kw_L} (hpush : kw_push enc' push) (k : ∀ v, kw_W E enc (pc + 3) L (push v ++ st) (f v)) : kw_W E enc pc L st0 (km_bind (km_is ci r) fun _ => km_bind x f) := by
  obtain ⟨p, l, e, R, s, m, args, below, meth, c, G, n0, z0⟩ := E
  obtain ⟨hx, hb, hml, hr, hown, hts, hlk, hnm, hhh, hfr1, hlo1, h0, hW, hsz, hbase, hold⟩ := B
  intro σ r1 τ H locs cells slots ls hx1 h1 h2 hS hl
  subst hst
  have hK := kw_K h0 hW
  obtain ⟨u9, σ9, i1, hx2⟩ := km_bind_some hx1
  obtain ⟨e9, a9, f9, fs9, rfl, ha9⟩ := km_is_some i1
  rw [e9] at hx2
  obtain ⟨r2, τ2, e1, e2⟩ := km_bind_some hx2
  obtain ⟨m1, m2, -⟩ := x.2 _ _ _ e1
  obtain ⟨m3, m4, -⟩ := (f r2).2 _ _ _ e2
  have hP := hS.1
  obtain ⟨-, hloc, hc1, hc2⟩ := hS
  have hMet := hM l G σ r2 τ2 h0 e1
  have hrun := vx_runSU (hK.1 ci rr hci).2 (As := kw_st As) (rest := kw_st st) (g := F0 m pc ls (kw_st (As.reverse ++ (kA (some a9) :: st)))) (H := H) (locs := locs) (cells := cells) (slots := slots) (meth := meth) (below := below) (e := e) (Ts := lw_all) ⟨hx, hb, hml, hown, hts⟩ hMet (va_cwSU n hts (lw_app (kw_l5 hwl hsm hsu hwm hwi) (lw_meth hwc)) rfl rfl rfl hd ⟨by rw [hfr1]; exact hfr, by rw [hlo1]; exact hlo⟩) ⟨kw_blind G σ (kA (some a9) :: As), kw_recv hK hP ha9 hci, fun U hU hUW => ⟨rfl, by rw [hU]; exact hP, State.WarmedH.trans hW hUW⟩⟩ rfl (by unfold kw_st; rw [List.length_map]; exact hn) (hl.1.trans hml) (by rw [kw_st_app, kw_st_rev]; rfl) (lv_room (by rw [kw_st_cat]; exact hc8)) d ⟨by omega, by omega⟩
  refine kw_run (n0 := n0) (z0 := z0) hrun hloc (by omega) (by omega) (fun v H1 locs1 hv hS1 => ?_) (fun q En ce H1 locs1 hq => ?_)
  · have hv2 : v = (push r2).head?.map kw_v := Sum.inl.inj (hv.symm.trans (hpush r2).1)
    subst hv2
    rw [(hpush r2).2, ← kw_st_app]
    exact k r2 _ r1 τ H1 locs1 _ _ ls e2 h1 h2 hS1 hl
  · rw [(hpush r2).1] at hq
    cases hq

theorem kw_callSUX (B : kw_ok E cc own nm nL ret fr lo hh) (d : decode cc pc = .ok (.invokespecial index, 3)) {r : Option Nat} {ci : Nat} {rr : vw_C} (hci : kcl[ci]? = some rr) {x : km_M (Nat ⊕ α)} {xq : Nat → ρ} (hxq : ∀ q, enc (xq q) = .inr q) (hno : ∀ z ∈ hh, covers z pc = false) (hM : ∀ l, kw_Met l y (ws_ y bytes maxL rt) fr' lo' (kA r :: As) (kw_x enc') x) (hwl : Cond.methodLink own index y ∈ lw_all) (hsm : Cond.sameMethod y.cls y.cls y.name y.desc ∈ lw_all) (hsu : Cond.superclass own y.cls ∈ lw_all) (hwm : Cond.instanceMethod y ∈ lw_all) (hwi : Cond.initialized y.cls ∈ lw_all) (hwc : Cond.code y bytes maxL rt ∈ lw_all) (hd : y.name ≠ "<init>" ∧ (parseMethodDescriptor y.desc).map (fun d => d.parameters.length) = some n) (hn : As.length = n) (hst : st0 = As.reverse ++ (kA r :: st)) (hc8 : (st.map kw_c).sum ≤ 8) (hfr : fr' + 1 ≤ fr) (hlo : 8 + (maxL + 11) + lo' ≤ lo) {f : α → km_M ρ} {push : α → List kw_L} (hpush : kw_push enc' push) (k : ∀ v, kw_W E enc (pc + 3) L (push v ++ st) (f v)) : kw_W E enc pc L st0 (km_bind (km_is ci r) fun _ => km_bind x (km_x xq f)) := by
  obtain ⟨p, l, e, R, s, m, args, below, meth, c, G, n0, z0⟩ := E
  obtain ⟨hx, hb, hml, hr, hown, hts, hlk, hnm, hhh, hfr1, hlo1, h0, hW, hsz, hbase, hold⟩ := B
  intro σ r1 τ H locs cells slots ls hx1 h1 h2 hS hl
  subst hst
  have hK := kw_K h0 hW
  obtain ⟨u9, σ9, i1, hx2⟩ := km_bind_some hx1
  obtain ⟨e9, a9, f9, fs9, rfl, ha9⟩ := km_is_some i1
  rw [e9] at hx2
  obtain ⟨r2, τ2, e1, e2⟩ := km_bind_some hx2
  obtain ⟨m1, m2, -⟩ := x.2 _ _ _ e1
  have hm3 : τ2.2.1 ≤ τ.2.1 ∧ τ2.2.2.1 ≤ τ.2.2.1 := by
    obtain ⟨q1, q2, -⟩ := (km_x xq f r2).2 _ _ _ e2
    exact ⟨q1, q2⟩
  obtain ⟨m3, m4⟩ := hm3
  have hP := hS.1
  obtain ⟨-, hloc, hc1, hc2⟩ := hS
  have hMet := hM l G σ r2 τ2 h0 e1
  have hrun := vx_runSU (hK.1 ci rr hci).2 (As := kw_st As) (rest := kw_st st) (g := F0 m pc ls (kw_st (As.reverse ++ (kA (some a9) :: st)))) (H := H) (locs := locs) (cells := cells) (slots := slots) (meth := meth) (below := below) (e := e) (Ts := lw_all) ⟨hx, hb, hml, hown, hts⟩ hMet (va_cwSU n hts (lw_app (kw_l5 hwl hsm hsu hwm hwi) (lw_meth hwc)) rfl rfl rfl hd ⟨by rw [hfr1]; exact hfr, by rw [hlo1]; exact hlo⟩) ⟨kw_blind G σ (kA (some a9) :: As), kw_recv hK hP ha9 hci, fun U hU hUW => ⟨rfl, by rw [hU]; exact hP, State.WarmedH.trans hW hUW⟩⟩ rfl (by unfold kw_st; rw [List.length_map]; exact hn) (hl.1.trans hml) (by rw [kw_st_app, kw_st_rev]; rfl) (lv_room (by rw [kw_st_cat]; exact hc8)) d ⟨by omega, by omega⟩
  refine kw_run (n0 := n0) (z0 := z0) hrun hloc (by omega) (by omega) (fun v H1 locs1 hv hS1 => ?_) (fun q En ce H1 locs1 hq hS1 hcl hce hcv hfc => ?_)
  · cases r2 with
    | inl q => cases hv
    | inr a2 =>
      have hv2 : v = (push a2).head?.map kw_v := Sum.inl.inj (hv.symm.trans (hpush a2).1)
      subst hv2
      rw [(hpush a2).2, ← kw_st_app]
      exact k a2 _ r1 τ H1 locs1 _ _ ls e2 h1 h2 hS1 hl
  · cases r2 with
    | inr a2 =>
      have h9 : enc' a2 = .inr q := hq
      rw [(hpush a2).1] at h9
      cases h9
    | inl q2 =>
      cases hq
      have e3 := Option.some.inj e2
      cases e3
      refine vx_widen (by omega) (by omega) (vx_out (fun z hz => by rw [hhh] at hz; exact hno z hz) hlk hce hcv hfc (fun t ht _ => ⟨hxq _, by rw [ht]; exact hS1.1, hcl⟩) hS1.2.1 (Nat.le_refl _) (Nat.le_refl _))

theorem kw_callI (B : kw_ok E cc own nm nL ret fr lo hh) (d : decode cc pc = .ok (.invokespecial index, 3)) {r : Option Nat} (hM : ∀ l, kw_Met l y (ws_ y bytes maxL none) fr' lo' (kA r :: As) enc' x) (hwl : Cond.methodLink own index y ∈ lw_all) (hwm : Cond.instanceMethod y ∈ lw_all) (hwi : Cond.initialized y.cls ∈ lw_all) (hwc : Cond.code y bytes maxL none ∈ lw_all) (hini : y.name = "<init>") (hd : y.cls ≠ "java/lang/invoke/MethodHandle" ∧ y.cls ≠ "java/lang/invoke/VarHandle" ∧ (parseMethodDescriptor y.desc).map (fun d => d.parameters.length) = some n) (hn : As.length = n) (hst : st0 = As.reverse ++ (kA r :: st)) (hc8 : (st.map kw_c).sum ≤ 8) (hfr : fr' + 1 ≤ fr) (hlo : 8 + (maxL + 11) + lo' ≤ lo) {f : α → km_M ρ} {push : α → List kw_L} (hpush : kw_push enc' push) (k : ∀ v, kw_W E enc (pc + 3) L (push v ++ st) (f v)) : kw_W E enc pc L st0 (km_bind (km_nn r) fun _ => km_bind x f) := by
  obtain ⟨p, l, e, R, s, m, args, below, meth, c, G, n0, z0⟩ := E
  obtain ⟨hx, hb, hml, hr, hown, hts, hlk, hnm, hhh, hfr1, hlo1, h0, hW, hsz, hbase, hold⟩ := B
  intro σ r1 τ H locs cells slots ls hx1 h1 h2 hS hl
  subst hst
  have hK := kw_K h0 hW
  obtain ⟨u9, σ9, i1, hx2⟩ := km_bind_some hx1
  obtain ⟨e9, a9, rfl⟩ := km_nn_some i1
  rw [e9] at hx2
  obtain ⟨r2, τ2, e1, e2⟩ := km_bind_some hx2
  obtain ⟨m1, m2, -⟩ := x.2 _ _ _ e1
  obtain ⟨m3, m4, -⟩ := (f r2).2 _ _ _ e2
  have hP := hS.1
  obtain ⟨-, hloc, hc1, hc2⟩ := hS
  have hMet := hM l G σ r2 τ2 h0 e1
  have hrun := vx_runI (As := kw_st As) (rest := kw_st st) (g := F0 m pc ls (kw_st (As.reverse ++ (kA (some a9) :: st)))) (H := H) (locs := locs) (cells := cells) (slots := slots) (meth := meth) (below := below) (e := e) (Ts := lw_all) ⟨hx, hb, hml, hown, hts⟩ hMet (⟨callB_of n hts (lw_meth hwc) rfl rfl rfl (hts _ hwi) (hts _ hwl) hd ⟨by rw [hfr1]; exact hfr, by rw [hlo1]; exact hlo⟩, hini, hts _ hwm⟩) ⟨kw_blind G σ (kA (some a9) :: As), fun U hU hUW => ⟨rfl, by rw [hU]; exact hP, State.WarmedH.trans hW hUW⟩⟩ rfl (by unfold kw_st; rw [List.length_map]; exact hn) (hl.1.trans hml) (by rw [kw_st_app, kw_st_rev]; rfl) (lv_room (by rw [kw_st_cat]; exact hc8)) d ⟨by omega, by omega⟩
  refine kw_run (n0 := n0) (z0 := z0) hrun hloc (by omega) (by omega) (fun v H1 locs1 hv hS1 => ?_) (fun q En ce H1 locs1 hq => ?_)
  · have hv2 : v = (push r2).head?.map kw_v := Sum.inl.inj (hv.symm.trans (hpush r2).1)
    subst hv2
    rw [(hpush r2).2, ← kw_st_app]
    exact k r2 _ r1 τ H1 locs1 _ _ ls e2 h1 h2 hS1 hl
  · rw [(hpush r2).1] at hq
    cases hq

theorem kw_callIX (B : kw_ok E cc own nm nL ret fr lo hh) (d : decode cc pc = .ok (.invokespecial index, 3)) {r : Option Nat} {x : km_M (Nat ⊕ α)} {xq : Nat → ρ} (hxq : ∀ q, enc (xq q) = .inr q) (hno : ∀ z ∈ hh, covers z pc = false) (hM : ∀ l, kw_Met l y (ws_ y bytes maxL none) fr' lo' (kA r :: As) (kw_x enc') x) (hwl : Cond.methodLink own index y ∈ lw_all) (hwm : Cond.instanceMethod y ∈ lw_all) (hwi : Cond.initialized y.cls ∈ lw_all) (hwc : Cond.code y bytes maxL none ∈ lw_all) (hini : y.name = "<init>") (hd : y.cls ≠ "java/lang/invoke/MethodHandle" ∧ y.cls ≠ "java/lang/invoke/VarHandle" ∧ (parseMethodDescriptor y.desc).map (fun d => d.parameters.length) = some n) (hn : As.length = n) (hst : st0 = As.reverse ++ (kA r :: st)) (hc8 : (st.map kw_c).sum ≤ 8) (hfr : fr' + 1 ≤ fr) (hlo : 8 + (maxL + 11) + lo' ≤ lo) {f : α → km_M ρ} {push : α → List kw_L} (hpush : kw_push enc' push) (k : ∀ v, kw_W E enc (pc + 3) L (push v ++ st) (f v)) : kw_W E enc pc L st0 (km_bind (km_nn r) fun _ => km_bind x (km_x xq f)) := by
  obtain ⟨p, l, e, R, s, m, args, below, meth, c, G, n0, z0⟩ := E
  obtain ⟨hx, hb, hml, hr, hown, hts, hlk, hnm, hhh, hfr1, hlo1, h0, hW, hsz, hbase, hold⟩ := B
  intro σ r1 τ H locs cells slots ls hx1 h1 h2 hS hl
  subst hst
  have hK := kw_K h0 hW
  obtain ⟨u9, σ9, i1, hx2⟩ := km_bind_some hx1
  obtain ⟨e9, a9, rfl⟩ := km_nn_some i1
  rw [e9] at hx2
  obtain ⟨r2, τ2, e1, e2⟩ := km_bind_some hx2
  obtain ⟨m1, m2, -⟩ := x.2 _ _ _ e1
  have hm3 : τ2.2.1 ≤ τ.2.1 ∧ τ2.2.2.1 ≤ τ.2.2.1 := by
    obtain ⟨q1, q2, -⟩ := (km_x xq f r2).2 _ _ _ e2
    exact ⟨q1, q2⟩
  obtain ⟨m3, m4⟩ := hm3
  have hP := hS.1
  obtain ⟨-, hloc, hc1, hc2⟩ := hS
  have hMet := hM l G σ r2 τ2 h0 e1
  have hrun := vx_runI (As := kw_st As) (rest := kw_st st) (g := F0 m pc ls (kw_st (As.reverse ++ (kA (some a9) :: st)))) (H := H) (locs := locs) (cells := cells) (slots := slots) (meth := meth) (below := below) (e := e) (Ts := lw_all) ⟨hx, hb, hml, hown, hts⟩ hMet (⟨callB_of n hts (lw_meth hwc) rfl rfl rfl (hts _ hwi) (hts _ hwl) hd ⟨by rw [hfr1]; exact hfr, by rw [hlo1]; exact hlo⟩, hini, hts _ hwm⟩) ⟨kw_blind G σ (kA (some a9) :: As), fun U hU hUW => ⟨rfl, by rw [hU]; exact hP, State.WarmedH.trans hW hUW⟩⟩ rfl (by unfold kw_st; rw [List.length_map]; exact hn) (hl.1.trans hml) (by rw [kw_st_app, kw_st_rev]; rfl) (lv_room (by rw [kw_st_cat]; exact hc8)) d ⟨by omega, by omega⟩
  refine kw_run (n0 := n0) (z0 := z0) hrun hloc (by omega) (by omega) (fun v H1 locs1 hv hS1 => ?_) (fun q En ce H1 locs1 hq hS1 hcl hce hcv hfc => ?_)
  · cases r2 with
    | inl q => cases hv
    | inr a2 =>
      have hv2 : v = (push a2).head?.map kw_v := Sum.inl.inj (hv.symm.trans (hpush a2).1)
      subst hv2
      rw [(hpush a2).2, ← kw_st_app]
      exact k a2 _ r1 τ H1 locs1 _ _ ls e2 h1 h2 hS1 hl
  · cases r2 with
    | inr a2 =>
      have h9 : enc' a2 = .inr q := hq
      rw [(hpush a2).1] at h9
      cases h9
    | inl q2 =>
      cases hq
      have e3 := Option.some.inj e2
      cases e3
      refine vx_widen (by omega) (by omega) (vx_out (fun z hz => by rw [hhh] at hz; exact hno z hz) hlk hce hcv hfc (fun t ht _ => ⟨hxq _, by rw [ht]; exact hS1.1, hcl⟩) hS1.2.1 (Nat.le_refl _) (Nat.le_refl _))

theorem kw_callIN (B : kw_ok E cc own nm nL ret fr lo hh) (d : decode cc pc = .ok (.invokespecial index, 3)) {r : Option Nat} (hM : ∀ l, kw_Met l y (ws_ y bytes maxL none) fr' lo' (kA r :: As) enc' x) {host : String} (hwl : Cond.methodLinkNest own index y host ∈ lw_tbl) (hwm : Cond.instanceMethod y ∈ lw_all) (hwi : Cond.initialized y.cls ∈ lw_all) (hwc : Cond.code y bytes maxL none ∈ lw_all) (hini : y.name = "<init>") (hd : y.cls ≠ "java/lang/invoke/MethodHandle" ∧ y.cls ≠ "java/lang/invoke/VarHandle" ∧ (parseMethodDescriptor y.desc).map (fun d => d.parameters.length) = some n) (hn : As.length = n) (hst : st0 = As.reverse ++ (kA r :: st)) (hc8 : (st.map kw_c).sum ≤ 8) (hfr : fr' + 1 ≤ fr) (hlo : 8 + (maxL + 11) + lo' ≤ lo) {f : α → km_M ρ} {push : α → List kw_L} (hpush : kw_push enc' push) (k : ∀ v, kw_W E enc (pc + 3) L (push v ++ st) (f v)) : kw_W E enc pc L st0 (km_bind (km_nn r) fun _ => km_bind x f) := by
  obtain ⟨p, l, e, R, s, m, args, below, meth, c, G, n0, z0⟩ := E
  obtain ⟨hx, hb, hml, hr, hown, hts, hlk, hnm, hhh, hfr1, hlo1, h0, hW, hsz, hbase, hold⟩ := B
  intro σ r1 τ H locs cells slots ls hx1 h1 h2 hS hl
  subst hst
  have hK := kw_K h0 hW
  obtain ⟨u9, σ9, i1, hx2⟩ := km_bind_some hx1
  obtain ⟨e9, a9, rfl⟩ := km_nn_some i1
  rw [e9] at hx2
  obtain ⟨r2, τ2, e1, e2⟩ := km_bind_some hx2
  obtain ⟨m1, m2, -⟩ := x.2 _ _ _ e1
  obtain ⟨m3, m4, -⟩ := (f r2).2 _ _ _ e2
  have hP := hS.1
  obtain ⟨-, hloc, hc1, hc2⟩ := hS
  have hMet := hM l G σ r2 τ2 h0 e1
  have hrun := vx_runIN (As := kw_st As) (rest := kw_st st) (g := F0 m pc ls (kw_st (As.reverse ++ (kA (some a9) :: st)))) (H := H) (locs := locs) (cells := cells) (slots := slots) (meth := meth) (below := below) (e := e) (Ts := lw_all) ⟨hx, hb, hml, hown, hts⟩ hMet (⟨va_cnB n hts (lw_meth hwc) rfl rfl rfl (kw_nestM h0 hW hwl) (hts _ hwi) hd ⟨by rw [hfr1]; exact hfr, by rw [hlo1]; exact hlo⟩, hini, hts _ hwm⟩) ⟨kw_blind G σ (kA (some a9) :: As), fun U hU hUW => ⟨rfl, by rw [hU]; exact hP, State.WarmedH.trans hW hUW⟩⟩ rfl (by unfold kw_st; rw [List.length_map]; exact hn) (hl.1.trans hml) (by rw [kw_st_app, kw_st_rev]; rfl) (lv_room (by rw [kw_st_cat]; exact hc8)) d ⟨by omega, by omega⟩
  refine kw_run (n0 := n0) (z0 := z0) hrun hloc (by omega) (by omega) (fun v H1 locs1 hv hS1 => ?_) (fun q En ce H1 locs1 hq => ?_)
  · have hv2 : v = (push r2).head?.map kw_v := Sum.inl.inj (hv.symm.trans (hpush r2).1)
    subst hv2
    rw [(hpush r2).2, ← kw_st_app]
    exact k r2 _ r1 τ H1 locs1 _ _ ls e2 h1 h2 hS1 hl
  · rw [(hpush r2).1] at hq
    cases hq

theorem kw_callINX (B : kw_ok E cc own nm nL ret fr lo hh) (d : decode cc pc = .ok (.invokespecial index, 3)) {r : Option Nat} {x : km_M (Nat ⊕ α)} {xq : Nat → ρ} (hxq : ∀ q, enc (xq q) = .inr q) (hno : ∀ z ∈ hh, covers z pc = false) (hM : ∀ l, kw_Met l y (ws_ y bytes maxL none) fr' lo' (kA r :: As) (kw_x enc') x) {host : String} (hwl : Cond.methodLinkNest own index y host ∈ lw_tbl) (hwm : Cond.instanceMethod y ∈ lw_all) (hwi : Cond.initialized y.cls ∈ lw_all) (hwc : Cond.code y bytes maxL none ∈ lw_all) (hini : y.name = "<init>") (hd : y.cls ≠ "java/lang/invoke/MethodHandle" ∧ y.cls ≠ "java/lang/invoke/VarHandle" ∧ (parseMethodDescriptor y.desc).map (fun d => d.parameters.length) = some n) (hn : As.length = n) (hst : st0 = As.reverse ++ (kA r :: st)) (hc8 : (st.map kw_c).sum ≤ 8) (hfr : fr' + 1 ≤ fr) (hlo : 8 + (maxL + 11) + lo' ≤ lo) {f : α → km_M ρ} {push : α → List kw_L} (hpush : kw_push enc' push) (k : ∀ v, kw_W E enc (pc + 3) L (push v ++ st) (f v)) : kw_W E enc pc L st0 (km_bind (km_nn r) fun _ => km_bind x (km_x xq f)) := by
  obtain ⟨p, l, e, R, s, m, args, below, meth, c, G, n0, z0⟩ := E
  obtain ⟨hx, hb, hml, hr, hown, hts, hlk, hnm, hhh, hfr1, hlo1, h0, hW, hsz, hbase, hold⟩ := B
  intro σ r1 τ H locs cells slots ls hx1 h1 h2 hS hl
  subst hst
  have hK := kw_K h0 hW
  obtain ⟨u9, σ9, i1, hx2⟩ := km_bind_some hx1
  obtain ⟨e9, a9, rfl⟩ := km_nn_some i1
  rw [e9] at hx2
  obtain ⟨r2, τ2, e1, e2⟩ := km_bind_some hx2
  obtain ⟨m1, m2, -⟩ := x.2 _ _ _ e1
  have hm3 : τ2.2.1 ≤ τ.2.1 ∧ τ2.2.2.1 ≤ τ.2.2.1 := by
    obtain ⟨q1, q2, -⟩ := (km_x xq f r2).2 _ _ _ e2
    exact ⟨q1, q2⟩
  obtain ⟨m3, m4⟩ := hm3
  have hP := hS.1
  obtain ⟨-, hloc, hc1, hc2⟩ := hS
  have hMet := hM l G σ r2 τ2 h0 e1
  have hrun := vx_runIN (As := kw_st As) (rest := kw_st st) (g := F0 m pc ls (kw_st (As.reverse ++ (kA (some a9) :: st)))) (H := H) (locs := locs) (cells := cells) (slots := slots) (meth := meth) (below := below) (e := e) (Ts := lw_all) ⟨hx, hb, hml, hown, hts⟩ hMet (⟨va_cnB n hts (lw_meth hwc) rfl rfl rfl (kw_nestM h0 hW hwl) (hts _ hwi) hd ⟨by rw [hfr1]; exact hfr, by rw [hlo1]; exact hlo⟩, hini, hts _ hwm⟩) ⟨kw_blind G σ (kA (some a9) :: As), fun U hU hUW => ⟨rfl, by rw [hU]; exact hP, State.WarmedH.trans hW hUW⟩⟩ rfl (by unfold kw_st; rw [List.length_map]; exact hn) (hl.1.trans hml) (by rw [kw_st_app, kw_st_rev]; rfl) (lv_room (by rw [kw_st_cat]; exact hc8)) d ⟨by omega, by omega⟩
  refine kw_run (n0 := n0) (z0 := z0) hrun hloc (by omega) (by omega) (fun v H1 locs1 hv hS1 => ?_) (fun q En ce H1 locs1 hq hS1 hcl hce hcv hfc => ?_)
  · cases r2 with
    | inl q => cases hv
    | inr a2 =>
      have hv2 : v = (push a2).head?.map kw_v := Sum.inl.inj (hv.symm.trans (hpush a2).1)
      subst hv2
      rw [(hpush a2).2, ← kw_st_app]
      exact k a2 _ r1 τ H1 locs1 _ _ ls e2 h1 h2 hS1 hl
  · cases r2 with
    | inr a2 =>
      have h9 : enc' a2 = .inr q := hq
      rw [(hpush a2).1] at h9
      cases h9
    | inl q2 =>
      cases hq
      have e3 := Option.some.inj e2
      cases e3
      refine vx_widen (by omega) (by omega) (vx_out (fun z hz => by rw [hhh] at hz; exact hno z hz) hlk hce hcv hfc (fun t ht _ => ⟨hxq _, by rw [ht]; exact hS1.1, hcl⟩) hS1.2.1 (Nat.le_refl _) (Nat.le_refl _))

end KWC
