/-! ===== a default method; a private method of a superclass; an interface call of a method with handlers (vx_callVD, vx_runD follow vx_callVU, vx_runU of the starting text) ===== -/
section KWE0
variable {p : Program} {l : Launch} {e : Env} {R : Room} {s : State} {m : MethodId} {args : Array Value} {below : List Frame} {meth : Method} {c : Code} {H : Heap} {locs : List Loc} {cells slots : Nat} {Q : State → Prop}

theorem vx_callVD {T : State} {locs : List Loc} {cells slots : Nat} (X : Stand p l e R s m args below meth c T locs cells slots) (hexec : p.tables.exec = Jvm.exec) {own C owner : String} {index : Nat} {x y : MethodName} {bytes : ByteArray} {maxL : Nat} {ret : Option FieldType}
    (hown : s.vm.findClass own = some m.cls) (hlink : (Cond.methodLink own index x).before args s = true) (hsame : (Cond.sameMethod x.cls owner x.name x.desc).before args s = true)
    (hd0 : va_Decl s ⟨owner, x.name, x.desc⟩) (howner : owner ≠ "java/lang/invoke/MethodHandle" ∧ owner ≠ "java/lang/invoke/VarHandle")
    (hsel : (Cond.landsInDefault C x y).before args s = true) (hinst : (Cond.instanceMethod y).before args s = true) (hcode : (Cond.code y bytes maxL ret).before args s = true)
    {W : Nat} {Pre : Pt → Array Value → Prop} {Post : Pt → Array Value → Option Value → Pt → Prop} {PostX : Pt → Array Value → Addr → Pt → Prop} (hK : vx_Back l R p e below s args y 3 W Pre Post PostX)
    {b : Addr} {cellB : Cell} (hcell : T.heap[b]? = some cellB) (hobj : cellB.vm.isStatics = false) (hcls : s.vm.findClass C = some cellB.cls)
    {g : JFrame} (hg : g.method = m) (hsize : g.locals.size = c.maxLocals) {argsL rest : List Value} (hlen : ∀ sig, parseMethodDescriptor x.desc = some sig → argsL.length = sig.parameters.length)
    (hstack : g.stack = argsL.reverse ++ .ref b :: rest) (hW : 2 * g.monitorRoom + (rest.map fun v => v.category).sum ≤ W) (hdg : decode c.code g.pc = .ok (.invokevirtual index, 3))
    (hpre : ∀ vm₁, s.WarmedH vm₁ → Pre ⟨T.setVm vm₁, locs, cells, slots⟩ (Value.ref b :: argsL).toArray) :
    (∃ (v : Option Value) (vm₁ : Vm) (B : Pt), s.WarmedH vm₁ ∧ Stand p l e R s m args below meth c B.U B.locs B.cells B.slots ∧ Post ⟨T.setVm vm₁, locs, cells, slots⟩ (Value.ref b :: argsL).toArray v B ∧
      ∀ target, Steps p.tables e below (B.U.setTop { g with pc := g.pc + 3, stack := v.toList ++ rest }) target → Steps p.tables e below (T.setTop g) target) ∨
    (∃ (q : Addr) (vm₁ : Vm) (B : Pt), s.WarmedH vm₁ ∧ Stand p l e R s m args below meth c B.U B.locs B.cells B.slots ∧ PostX ⟨T.setVm vm₁, locs, cells, slots⟩ (Value.ref b :: argsL).toArray q B ∧
      Steps p.tables e below (T.setTop g) ((B.U.setTop { g with stack := rest }).pushFrame (.throwing q))) := by
  obtain ⟨r0, r, hn, hrm, hstR, hsigR⟩ := hd0
  obtain ⟨cn, ck, r1, hcn, hck, hni, hf, hn1⟩ := Cond.sameMethod_found hsame
  cases hn.symm.trans hn1
  obtain ⟨mk, methM, hnamed, hmethM, -, habM⟩ := Cond.instanceMethod_spec hinst
  obtain ⟨c2, r2, m2, rm, q1, q2, q3, q5, q4, ⟨kP, hkP, hkPi⟩, -, q7⟩ := Cond.landsInDefault_spec hsel
  cases hcls.symm.trans q1
  cases hf.symm.trans q2
  cases hnamed.symm.trans q3
  cases hrm.symm.trans q5
  have hselP : selectMethod e.platform s.vm cellB.cls r0 = .method mk := by rw [Launch.admits_selectMethod X.admits]; exact q4
  obtain ⟨vm₁, X₁, hstep₁⟩ := X.invokevirtualUpD hexec hown hlink hsame howner hn hrm hstR (a := b) (cell := cellB) hcell
    (fun z h => by rw [h] at hobj; cases hobj) hselP hmethM habM hkP hkPi q7 (g := g) hg (argsL := argsL) (rest := rest) (hlen _ hsigR) hstack hdg
  rcases hK m meth c ⟨T.setVm vm₁, locs, cells, slots⟩ { g with stack := rest } (.invokevirtual index) mk (Value.ref b :: argsL).toArray X₁ hg hsize hdg hW (X₁.named hnamed) (hpre vm₁ X₁.warmed) with ⟨v, B, X', hpost, hsteps⟩ | ⟨q, B, X', hpost, hsteps⟩
  · exact Or.inl ⟨v, vm₁, B, X₁.warmed, X', hpost, fun target h => hstep₁ _ fun acts => by rw [doInvoke_state]; exact hsteps.trans h⟩
  · exact Or.inr ⟨q, vm₁, B, X₁.warmed, X', hpost, hstep₁ _ fun acts => by rw [doInvoke_state]; exact hsteps⟩

theorem vx_runD {x y : MethodName} {bytes cc : ByteArray} {maxL nL mc ms n index : Nat} {ret : Option FieldType} {ws : List Cond} {rm : Room} {Pc : Array Value → State → Prop} {Qc : Array Value → State → Outcome → State → Prop} {XC : String → Addr → State → State → Prop} {free : Addr → Prop} {Ts : List Cond} {own C owner : String} {b : Addr} {As rest : List Value} {g : JFrame}
    (S : CallFix p m c cc nL s args Ts own) (hM : vx_Met l y ws rm Pc Qc XC mc ms free) (hrc : rm.cells = mc) (hrs : rm.slots = ms) (hfr : rm.frames + 1 ≤ R.frames) (hlo : 8 + (maxL + 11) + rm.locals ≤ R.locals) (hws : ∀ w ∈ ws, ∀ (a' : Array Value) (U : State), s.WarmedH U.vm → w.before a' U = true) (hcw : Cond.code y bytes maxL ret ∈ ws) (hini : (Cond.initialized y.cls).before args s = true) (howner : owner ≠ "java/lang/invoke/MethodHandle" ∧ owner ≠ "java/lang/invoke/VarHandle") (hlen : ∀ sig, parseMethodDescriptor x.desc = some sig → n = sig.parameters.length) (hlink : (Cond.methodLink own index x).before args s = true) (hsame : (Cond.sameMethod x.cls owner x.name x.desc).before args s = true) (hdecl : va_Decl s ⟨owner, x.name, x.desc⟩) (hsel : (Cond.landsInDefault C x y).before args s = true) (hinst : (Cond.instanceMethod y).before args s = true) (hcode : (Cond.code y bytes maxL ret).before args s = true) (hp : PreV s H C b Pc As)
    (hg : g.method = m) (hn : As.length = n) (hsize : g.locals.size = nL) (hstack : g.stack = As.reverse ++ .ref b :: rest) (hW : 2 * g.monitorRoom + (rest.map fun v => v.category).sum ≤ 8) (hdg : decode cc g.pc = .ok (.invokevirtual index, 3)) (hf : cells + mc ≤ R.cells ∧ slots + ms ≤ R.slots) :
    vx_Run p l e R s m args below meth c H locs cells slots mc ms g rest (Qc (Value.ref b :: As).toArray) XC free := by
  have hK : vx_Back l R p e below s args y 3 8 (PreOf R mc ms Pc) (PostOf Qc mc ms free) (vx_Post XC mc ms free) := vx_back (bytes := bytes) (maxL := maxL) (ret := ret) hM hp.1 hrc hrs hfr hlo hws hcw (fun a' U hW => word_at hW (Or.inl (by first | rfl | simp [Cond.onTables, Cond.keeps, Cond.steady])) hini)
  obtain ⟨hx, hb, hml, ho, -⟩ := S
  obtain ⟨-, ⟨cellB, hcB, hoB, hclB⟩, hPc⟩ := hp
  intro T hT X
  rcases vx_callVD X hx (C := C) (owner := owner) (bytes := bytes) (maxL := maxL) (ret := ret) ho hlink hsame hdecl howner hsel hinst hcode hK (by rw [hT]; exact hcB) hoB hclB hg (hsize.trans hml.symm) (argsL := As) (rest := rest) (fun sig h => hn.trans (hlen sig h)) hstack hW (by rw [hb]; exact hdg)
    (fun vm₁ hW₁ => ⟨hf.1, hf.2, hPc (T.setVm vm₁) hT hW₁⟩) with ⟨v, vm₁, ⟨U', l2, c2, s2⟩, hW₁, X', ⟨g', mk, t, L, e1, e2, hq, h1, hL, h2, h3⟩, st⟩ | ⟨q, vm₁, ⟨U', l2, c2, s2⟩, hW₁, X', ⟨g', mk, t, L, E, ce, e1, e2, hq, hce, hcv, hcl, h1, hL, h2, h3⟩, st⟩
  · dsimp only [Pt.U, Pt.locs, Pt.cells, Pt.slots] at X' e1 e2 h1 h2 h3 st
    subst h1; subst h2; subst h3
    exact Or.inl ⟨v, (T.setVm vm₁).calling g' mk (Value.ref b :: As).toArray, t, U', L, hT, X', hL, e1, e2, hq, st⟩
  · dsimp only [Pt.U, Pt.locs, Pt.cells, Pt.slots] at X' e1 e2 h1 h2 h3 st hcl
    subst h1; subst h2; subst h3
    exact Or.inr ⟨q, (T.setVm vm₁).calling g' mk (Value.ref b :: As).toArray, t, U', L, E, ce, hT, X', hL, e1, e2, hq, hce, hcv, vx_cls hW₁ hcl, st⟩

end KWE0

/-- a word that holds all through, given at the start -/
def kw_Bef (w : Cond) : Prop := ∀ (G : kw_G) (s : State) (args : Array Value), kw_G0 G → G.1.WarmedH s.vm → w.before args s = true
theorem kw_bef {w : Cond} (h : ∀ (b : Nat) (s : State), (∀ w ∈ lw_tbl, w.before #[Value.ref b] s = true) → narrow_1.before #[Value.ref b] s = true → w.before #[Value.ref b] s = true) (g : (w.onTables && w.keeps) = true ∨ ∃ ty, w = .arrayClass ty) : kw_Bef w := by
  intro G s args h0 hW
  obtain ⟨b, ht, hn, -⟩ := h0
  exact word_at hW g (h b G.1 ht hn)
/-- a private method of a superclass is selected -/
theorem kw_selP {C : String} {y w z : MethodName} (hy : y.cls ≠ "java/lang/invoke/MethodHandle" ∧ y.cls ≠ "java/lang/invoke/VarHandle") (h1 : Cond.selects C w z ∈ lw_tbl) (hz : z.cls = y.cls) (h2 : Cond.privateMethod y ∈ lw_tbl) (h3 : Cond.instanceMethod y ∈ lw_tbl) : kw_Bef (Cond.selects C y y) := by
  refine kw_bef (fun b s ht hn => ?_) (Or.inl rfl)
  obtain ⟨c, r, m, q1, q2, q3, q4, k, hk, hki⟩ := Cond.selects_spec (ht _ h1)
  obtain ⟨mk, methM, hnamed, hmethM, -, -⟩ := Cond.instanceMethod_spec (ht _ h3)
  have hfound : s.methodFound? y.cls y.name y.desc = some mk := State.methodFound?_of_named hnamed hy
  have hcls : mk.cls = m.cls := by
    have e1 := findClass_of_methodNamed hnamed
    have e2 := findClass_of_methodNamed q3
    rw [hz] at e2
    exact Option.some.inj (e1.symm.trans e2)
  have hsel : selectMethod {} s.vm c mk = .method mk := selectMethod_private hmethM (Cond.privateMethod_at (ht _ h2) mk methM hnamed hmethM)
  simp only [Cond.before, Cond.holds, Cond.value, q1, hfound, hnamed, hsel, hcls, hk]
  simp
  exact hki
/-- where a default method is found -/
theorem kw_lands {C : String} {x y : MethodName} (h : ∀ (b : Nat) (s : State), narrow_1.before #[Value.ref b] s = true → (Cond.landsInDefault C x y).before #[Value.ref b] s = true) : kw_Bef (Cond.landsInDefault C x y) := by
  intro G s args h0 hW
  obtain ⟨b, ht, hn, -⟩ := h0
  have h1 : (Cond.landsInDefault C x y).before args (G.1.setVm s.vm) = true := (Cond.landsInDefault_setVm hW.alike (State.methodFound?_setVm hW.alike _ _ _)).trans (h b G.1 hn)
  exact h1
def yBead_finer : MethodName := ⟨"RosaryCarvers$Bead", "isFinerThan", "(LRosaryCarvers$Fine;)Z"⟩
def yFine_finer : MethodName := ⟨"RosaryCarvers$Fine", "isFinerThan", "(LRosaryCarvers$Fine;)Z"⟩
theorem qd_link : kw_Bef (Cond.methodLink "RosaryCarvers$Beads" 64 yBead_finer) := kw_bef (fun b s _ hn => flat_of_before _ hn _ (by decide +kernel)) (Or.inl rfl)
theorem qd_same : kw_Bef (Cond.sameMethod "RosaryCarvers$Bead" "RosaryCarvers$Fine" "isFinerThan" "(LRosaryCarvers$Fine;)Z") := kw_bef (fun b s _ hn => flat_of_before _ hn _ (by decide +kernel)) (Or.inl rfl)
theorem qd_lands : kw_Bef (Cond.landsInDefault "RosaryCarvers$Bead" yBead_finer yFine_finer) := kw_lands (fun b s hn => flat_of_before _ hn _ (by decide +kernel))
section KWE
variable {ρ α : Type} {E : kw_E} {enc : ρ → kw_R} {cc : ByteArray} {own nm : String} {ret : Option FieldType} {nL fr lo pc : Nat} {hh : List ExceptionTableEntry} {L : List (Nat × kw_L)} {st st0 : List kw_L}
variable {y : MethodName} {bytes : ByteArray} {maxL fr' lo' n index : Nat} {rt : Option FieldType} {enc' : α → kw_R} {As : List kw_L} {x : km_M α}

theorem kw_callP (B : kw_ok E cc own nm nL ret fr lo hh) (d : decode cc pc = .ok (.invokevirtual index, 3)) {r : Option Nat} {ci : Nat} {rr : vw_C} (hci : kcl[ci]? = some rr) (hM : ∀ l, kw_Met l y (ws_ y bytes maxL rt) fr' lo' (kA r :: As) enc' x) {x0 : MethodName} {owner : String} (hwl : Cond.methodLink own index x0 ∈ lw_all) (hsm : Cond.sameMethod x0.cls owner x0.name x0.desc ∈ lw_all) (hwe : kw_Bef (Cond.selects rr.1 x0 y)) (hwm : Cond.instanceMethod y ∈ lw_all) (hwi : Cond.initialized y.cls ∈ lw_all) (hwc : Cond.code y bytes maxL rt ∈ lw_all) (hyx : y = ⟨owner, x0.name, x0.desc⟩) (hd : owner ≠ "java/lang/invoke/MethodHandle" ∧ owner ≠ "java/lang/invoke/VarHandle" ∧ (parseMethodDescriptor x0.desc).map (fun d => d.parameters.length) = some n) (hn : As.length = n) (hst : st0 = As.reverse ++ (kA r :: st)) (hc8 : (st.map kw_c).sum ≤ 8) (hfr : fr' + 1 ≤ fr) (hlo : 8 + (maxL + 11) + lo' ≤ lo) {f : α → km_M ρ} {push : α → List kw_L} (hpush : kw_push enc' push) (k : ∀ v, kw_W E enc (pc + 3) L (push v ++ st) (f v)) : kw_W E enc pc L st0 (km_bind (km_is ci r) fun _ => km_bind x f) := by
  obtain ⟨p, l, e, R, s, m, args, below, meth, c, G, n0, z0⟩ := E
  obtain ⟨hx, hb, hml, hr, hown, hts, hlk, hnm, hhh, hfr1, hlo1, h0, hW, hsz, hbase, hold⟩ := B
  intro σ r1 τ H locs cells slots ls hx1 h1 h2 hS hl
  subst hst
  have hK := kw_K h0 hW
  obtain ⟨u9, σ9, i1, hx2⟩ := km_bind_some hx1
  obtain ⟨e9, a9, f9, fs9, rfl, ha9⟩ := km_is_some i1
  rw [e9] at hx2
  obtain ⟨r2, τ2, e1, e2⟩ := km_bind_some hx2
  obtain ⟨m1, m2, -⟩ := x.2 _ _ _ e1
  obtain ⟨m3, m4, -⟩ := (f r2).2 _ _ _ e2
  have hP := hS.1
  obtain ⟨-, hloc, hc1, hc2⟩ := hS
  have hMet := hM l G σ r2 τ2 h0 e1
  have hrun := vx_runU (As := kw_st As) (rest := kw_st st) (g := F0 m pc ls (kw_st (As.reverse ++ (kA (some a9) :: st)))) (H := H) (locs := locs) (cells := cells) (slots := slots) (meth := meth) (below := below) (e := e) (Ts := lw_all) ⟨hx, hb, hml, hown, hts⟩ hMet (⟨⟨rfl, rfl, by rw [hfr1]; exact hfr, by rw [hlo1]; exact hlo, pay_in hts (lw_meth hwc), List.mem_cons_self⟩, hts _ hwc, hts _ hwi, ⟨hd.1, hd.2.1⟩, (fun sig h => by have h2 := hd.2.2; rw [h] at h2; exact (Option.some.inj h2).symm), hts _ hwl, hts _ hsm, (by rw [← hyx]; exact va_Decl.of (hts _ hwm) (hts _ hwc)), hwe G s args h0 hW, hts _ hwm⟩) ⟨kw_blind G σ (kA (some a9) :: As), kw_recv hK hP ha9 hci, fun U hU hUW => ⟨rfl, by rw [hU]; exact hP, State.WarmedH.trans hW hUW⟩⟩ rfl (by unfold kw_st; rw [List.length_map]; exact hn) (hl.1.trans hml) (by rw [kw_st_app, kw_st_rev]; rfl) (lv_room (by rw [kw_st_cat]; exact hc8)) d ⟨by omega, by omega⟩
  refine kw_run (n0 := n0) (z0 := z0) hrun hloc (by omega) (by omega) (fun v H1 locs1 hv hS1 => ?_) (fun q En ce H1 locs1 hq => ?_)
  · have hv2 : v = (push r2).head?.map kw_v := Sum.inl.inj (hv.symm.trans (hpush r2).1)
    subst hv2
    rw [(hpush r2).2, ← kw_st_app]
    exact k r2 _ r1 τ H1 locs1 _ _ ls e2 h1 h2 hS1 hl
  · rw [(hpush r2).1] at hq
    cases hq


theorem kw_callD (B : kw_ok E cc own nm nL ret fr lo hh) (d : decode cc pc = .ok (.invokevirtual index, 3)) {r : Option Nat} {ci : Nat} {rr : vw_C} (hci : kcl[ci]? = some rr) (hM : ∀ l, kw_Met l y (ws_ y bytes maxL rt) fr' lo' (kA r :: As) enc' x) {x0 : MethodName} {owner : String} (hwl : kw_Bef (Cond.methodLink own index x0)) (hsm : kw_Bef (Cond.sameMethod x0.cls owner x0.name x0.desc)) (hwe : kw_Bef (Cond.landsInDefault rr.1 x0 y)) (hwm : Cond.instanceMethod y ∈ lw_all) (hwi : Cond.initialized y.cls ∈ lw_all) (hwc : Cond.code y bytes maxL rt ∈ lw_all) (hyx : y = ⟨owner, x0.name, x0.desc⟩) (hd : owner ≠ "java/lang/invoke/MethodHandle" ∧ owner ≠ "java/lang/invoke/VarHandle" ∧ (parseMethodDescriptor x0.desc).map (fun d => d.parameters.length) = some n) (hn : As.length = n) (hst : st0 = As.reverse ++ (kA r :: st)) (hc8 : (st.map kw_c).sum ≤ 8) (hfr : fr' + 1 ≤ fr) (hlo : 8 + (maxL + 11) + lo' ≤ lo) {f : α → km_M ρ} {push : α → List kw_L} (hpush : kw_push enc' push) (k : ∀ v, kw_W E enc (pc + 3) L (push v ++ st) (f v)) : kw_W E enc pc L st0 (km_bind (km_is ci r) fun _ => km_bind x f) := by
  obtain ⟨p, l, e, R, s, m, args, below, meth, c, G, n0, z0⟩ := E
  obtain ⟨hx, hb, hml, hr, hown, hts, hlk, hnm, hhh, hfr1, hlo1, h0, hW, hsz, hbase, hold⟩ := B
  intro σ r1 τ H locs cells slots ls hx1 h1 h2 hS hl
  subst hst
  have hK := kw_K h0 hW
  obtain ⟨u9, σ9, i1, hx2⟩ := km_bind_some hx1
  obtain ⟨e9, a9, f9, fs9, rfl, ha9⟩ := km_is_some i1
  rw [e9] at hx2
  obtain ⟨r2, τ2, e1, e2⟩ := km_bind_some hx2
  obtain ⟨m1, m2, -⟩ := x.2 _ _ _ e1
  obtain ⟨m3, m4, -⟩ := (f r2).2 _ _ _ e2
  have hP := hS.1
  obtain ⟨-, hloc, hc1, hc2⟩ := hS
  have hMet := hM l G σ r2 τ2 h0 e1
  have hrun := vx_runD (bytes := bytes) (maxL := maxL) (ret := rt) (owner := owner) (n := n) (As := kw_st As) (rest := kw_st st) (g := F0 m pc ls (kw_st (As.reverse ++ (kA (some a9) :: st)))) (H := H) (locs := locs) (cells := cells) (slots := slots) (meth := meth) (below := below) (e := e) (Ts := lw_all) ⟨hx, hb, hml, hown, hts⟩ hMet rfl rfl (by rw [hfr1]; exact hfr) (by rw [hlo1]; exact hlo) (pay_in hts (lw_meth hwc)) List.mem_cons_self (hts _ hwi) ⟨hd.1, hd.2.1⟩ (fun sig h => by have h2 := hd.2.2; rw [h] at h2; exact (Option.some.inj h2).symm) (hwl G s args h0 hW) (hsm G s args h0 hW) (by rw [← hyx]; exact va_Decl.of (hts _ hwm) (hts _ hwc)) (hwe G s args h0 hW) (hts _ hwm) (hts _ hwc) ⟨kw_blind G σ (kA (some a9) :: As), kw_recv hK hP ha9 hci, fun U hU hUW => ⟨rfl, by rw [hU]; exact hP, State.WarmedH.trans hW hUW⟩⟩ rfl (by unfold kw_st; rw [List.length_map]; exact hn) (hl.1.trans hml) (by rw [kw_st_app, kw_st_rev]; rfl) (lv_room (by rw [kw_st_cat]; exact hc8)) d ⟨by omega, by omega⟩
  refine kw_run (n0 := n0) (z0 := z0) hrun hloc (by omega) (by omega) (fun v H1 locs1 hv hS1 => ?_) (fun q En ce H1 locs1 hq => ?_)
  · have hv2 : v = (push r2).head?.map kw_v := Sum.inl.inj (hv.symm.trans (hpush r2).1)
    subst hv2
    rw [(hpush r2).2, ← kw_st_app]
    exact k r2 _ r1 τ H1 locs1 _ _ ls e2 h1 h2 hS1 hl
  · rw [(hpush r2).1] at hq
    cases hq


theorem kw_callFW {count : Nat} {hd0 : List (Nat × Nat × Nat × Nat)} (B : kw_ok E cc own nm nL ret fr lo hh) (d : decode cc pc = .ok (.invokeinterface index count, 5)) {r : Option Nat} {ci : Nat} {rr : vw_C} (hci : kcl[ci]? = some rr) (hM : ∀ l, kw_Met l y (wsW_ y bytes maxL rt hd0) fr' lo' (kA r :: As) enc' x) {x0 : MethodName} (hwl : Cond.methodLink own index x0 ∈ lw_all) (hwe : Cond.selects rr.1 x0 y ∈ lw_all) (hwm : Cond.instanceMethod y ∈ lw_all) (hwi : Cond.initialized y.cls ∈ lw_all) (hwc : Cond.codeWith y bytes maxL rt hd0 ∈ lw_all) (hf1 : Cond.declares x0 ∈ lw_tbl) (hf2 : Cond.interfaceMethod x0.cls x0.cls x0.name x0.desc ∈ lw_tbl) (hf3 : Cond.publicMethod y ∈ lw_tbl) (hf4 : Cond.unhidden rr.1 x0.name x0.desc ∈ lw_tbl) (hf5 : Cond.castable rr.1 x0.cls ∈ lw_tbl) (hd : x0.cls ≠ "java/lang/invoke/MethodHandle" ∧ x0.cls ≠ "java/lang/invoke/VarHandle" ∧ (parseMethodDescriptor x0.desc).map (fun d => d.parameters.length) = some n) (hn : As.length = n) (hst : st0 = As.reverse ++ (kA r :: st)) (hc8 : (st.map kw_c).sum ≤ 8) (hfr : fr' + 1 ≤ fr) (hlo : 8 + (maxL + 11) + lo' ≤ lo) {f : α → km_M ρ} {push : α → List kw_L} (hpush : kw_push enc' push) (k : ∀ v, kw_W E enc (pc + 5) L (push v ++ st) (f v)) : kw_W E enc pc L st0 (km_bind (km_is ci r) fun _ => km_bind x f) := by
  obtain ⟨p, l, e, R, s, m, args, below, meth, c, G, n0, z0⟩ := E
  obtain ⟨hx, hb, hml, hr, hown, hts, hlk, hnm, hhh, hfr1, hlo1, h0, hW, hsz, hbase, hold⟩ := B
  intro σ r1 τ H locs cells slots ls hx1 h1 h2 hS hl
  subst hst
  have hK := kw_K h0 hW
  obtain ⟨u9, σ9, i1, hx2⟩ := km_bind_some hx1
  obtain ⟨e9, a9, f9, fs9, rfl, ha9⟩ := km_is_some i1
  rw [e9] at hx2
  obtain ⟨r2, τ2, e1, e2⟩ := km_bind_some hx2
  obtain ⟨m1, m2, -⟩ := x.2 _ _ _ e1
  obtain ⟨m3, m4, -⟩ := (f r2).2 _ _ _ e2
  have hP := hS.1
  obtain ⟨-, hloc, hc1, hc2⟩ := hS
  have hMet := hM l G σ r2 τ2 h0 e1
  have hrun := vx_runFW (hh := hd0) (hK.1 ci rr hci).2 (As := kw_st As) (rest := kw_st st) (g := F0 m pc ls (kw_st (As.reverse ++ (kA (some a9) :: st)))) (H := H) (locs := locs) (cells := cells) (slots := slots) (meth := meth) (below := below) (e := e) (Ts := lw_all) ⟨hx, hb, hml, hown, hts⟩ hMet (va_cwFW n hts (lw_app (kw_l4 hwl hwe hwm hwi) (lw_methW hwc)) rfl rfl rfl (kw_Fw h0 hW ⟨hd.1, hd.2.1⟩ hf1 hf2 hf3 hf4 hf5) hd ⟨by rw [hfr1]; exact hfr, by rw [hlo1]; exact hlo⟩) ⟨kw_blind G σ (kA (some a9) :: As), kw_recv hK hP ha9 hci, fun U hU hUW => ⟨rfl, by rw [hU]; exact hP, State.WarmedH.trans hW hUW⟩⟩ rfl (by unfold kw_st; rw [List.length_map]; exact hn) (hl.1.trans hml) (by rw [kw_st_app, kw_st_rev]; rfl) (lv_room (by rw [kw_st_cat]; exact hc8)) d ⟨by omega, by omega⟩
  refine kw_run5 (n0 := n0) (z0 := z0) hrun hloc (by omega) (by omega) (fun v H1 locs1 hv hS1 => ?_) (fun q En ce H1 locs1 hq => ?_)
  · have hv2 : v = (push r2).head?.map kw_v := Sum.inl.inj (hv.symm.trans (hpush r2).1)
    subst hv2
    rw [(hpush r2).2, ← kw_st_app]
    exact k r2 _ r1 τ H1 locs1 _ _ ls e2 h1 h2 hS1 hl
  · rw [(hpush r2).1] at hq
    cases hq


theorem kw_cloneB (B : kw_ok E cc own nm nL ret fr lo hh) (d : decode cc pc = .ok (.invokevirtual index, 3)) (w1 : Cond.methodLink own index ⟨"[B", "clone", "()Ljava/lang/Object;"⟩ ∈ lw_all) (w2 : Cond.sameMethod "[B" "java/lang/Object" "clone" "()Ljava/lang/Object;" ∈ lw_all) (w3 : Cond.native ⟨"java/lang/Object", "clone", "()Ljava/lang/Object;"⟩ ∈ lw_all) (w4 : Cond.instanceMethod ⟨"java/lang/Object", "clone", "()Ljava/lang/Object;"⟩ ∈ lw_all) (w5 : Cond.selects "[B" ⟨"[B", "clone", "()Ljava/lang/Object;"⟩ ⟨"java/lang/Object", "clone", "()Ljava/lang/Object;"⟩ ∈ lw_all) (w6 : Cond.castable "[B" "java/lang/Cloneable" ∈ lw_tbl) (hfr : 1 ≤ fr) (hlo : (st.map kw_c).sum + 14 ≤ lo) {r : Option Nat} {f : Option Nat → km_M ρ} (k : ∀ v, kw_W E enc (pc + 3) L (kA v :: st) (f v)) : kw_W E enc pc L (kA r :: st) (km_bind (km_cln r) f) := by
  obtain ⟨p, l, e, R, s, m, args, below, meth, c, G, n0, z0⟩ := E
  obtain ⟨hx, hb, hml, hr, hown, hts, hlk, hnm, hhh, hfr1, hlo1, h0, hW, hsz, hbase, hold⟩ := B
  intro σ r1 τ H locs cells slots ls hx1 h1 h2 hS hl
  obtain ⟨x9, u, e1, e2⟩ := km_bind_some hx1
  obtain ⟨n9, en, e3, rfl, e4⟩ := km_al_some e1
  split at e3
  · next a n g e6 =>
    obtain ⟨rfl, ha⟩ := km_ar_some e6
    obtain ⟨e5, e7⟩ := Prod.mk.inj (Option.some.inj e3)
    subst e5
    subst e7
    obtain ⟨m1, m2, -⟩ := (f (some σ.2.1)).2 _ _ _ e2
    subst e4
    have hfitB := (kw_kI hS.1 ha).2
    obtain ⟨⟨ws, hPw⟩, hloc, hc1, hc2⟩ := hS
    have hK := kw_K h0 hW
    have hHs : H.size = σ.2.1 := hPw.2.2.2.2.2.1
    change σ.2.1 + 1 ≤ τ.2.1 at m1
    change σ.2.2.1 + n ≤ τ.2.2.1 at m2
    have hcellH : H[a]? = some (arrV (G.2.2.1 2) n (fun j => .int (g j))) := by
      obtain ⟨j, hj⟩ := hPw.1 a _ ha
      exact hPw.2.1 j _ hj
    have hcls : s.vm.findClass "[B" = some (G.2.2.1 2) := (hK.2 2 _ (kw_tys_at G (by omega))).2
    obtain ⟨c0, t0', f1, f2, f3⟩ := Cond.castable_spec (va_Nw.use (A := args) rfl (kw_castW h0 hW w6))
    cases hcls.symm.trans f1
    have hsz0 : (arrV (G.2.2.1 2) n (fun j => Value.int (g j))).slots.size = n := arrV_size _ _ _
    intro T hT X
    obtain ⟨-, kA9, hkA, comp, hkind⟩ := State.isArrayOf_alike X.warmed.alike ((hK.2 2 _ (kw_tys_at G (by omega))).1 0 (fun _ => .null))
    obtain ⟨-, kS, hkS, compS, hkindS⟩ := (hK.2 2 _ (kw_tys_at G (by omega))).1 0 (fun _ => .null)
    obtain ⟨vm', X', stp⟩ := X.cloneArray hx hown (hts _ w1) (hts _ w2) (hts _ w3) (hts _ w4) (hts _ w5) (a := a) (cell := arrV (G.2.2.1 2) n (fun j => .int (g j))) (by rw [hT]; exact hcellH) (fun k h => by cases h) (fun h => by cases h) hcls f2 f3
      (fun i v hv => by
        have hk' : T.vm.classes[G.2.2.1 2]? = some kA9 := hkA
        have hi : i < n := by rw [← hsz0]; exact (Array.getElem?_eq_some_iff.mp hv).1
        have hv2 : v = .int (g i) := Option.some.inj (hv.symm.trans (arrV_read _ _ hi))
        rw [hv2]
        have h9 := hfitB i
        show T.fitsSlot (G.2.2.1 2) .none i (.int (g i)) = true
        simpa [State.fitsSlot, State.slotType?, hk', hkind] using h9)
      (g := F0 m pc ls (kw_st (kA (some a) :: st))) rfl (hl.1.trans rfl) rfl (by rw [hb]; exact d) (by rw [hfr1]; exact hfr) (by have h9 := kw_st_cat st; unfold kw_st at h9; show 2 * 0 + ((kw_st st).map fun v => v.category).sum + 14 ≤ _; unfold kw_st; rw [h9, hlo1]; omega) (by omega) (by rw [hsz0]; omega) (hloader := Vm.clonesLoader_of_array hkS hkindS)
    rw [hsz0] at X'
    generalize hH1 : H.push (arrV (G.2.2.1 2) n (fun j => .int (g j))) = H1
    have z1 : H1.size = H.size + 1 := by rw [← hH1, Array.size_push]
    have g1 : H1[H.size]? = some (arrV (G.2.2.1 2) n (fun j => .int (g j))) := by rw [← hH1, Array.getElem?_push_size]
    have o1 : ∀ q : Nat, q < H.size → H1[q]? = H[q]? := fun q hq => by rw [← hH1, Array.getElem?_push, if_neg (Nat.ne_of_lt hq)]
    have hgo := k (some σ.2.1) _ r1 τ H1 locs (cells + 1) (slots + n) ls e2 h1 h2 ⟨kw_Pw_push hPw (e := .inl (2, n, .inl g)) g1 z1 o1 (fun k' n' g' h' => by cases h'; exact ⟨Nat.le_refl _, hfitB⟩) (fun k' n' g' h' => by cases h') (fun k' n' g' h' => by cases h') (fun fs9 h9 => by cases h9), hloc, by show n0 + (cells + 1) = σ.2.1 + 1; omega, by show z0 + (slots + n) = σ.2.2.1 + n; omega⟩ hl
    rw [← hHs] at hgo
    obtain ⟨t, b1, b2⟩ := hgo ((T.setVm vm').pushCell (arrV (G.2.2.1 2) n (fun j => .int (g j)))) (by rw [← hH1, ← hT]; rfl) X'
    refine ⟨t, stp t ?_, b2⟩
    rw [hT]
    exact b1
  · cases e3
theorem kw_castAB (B : kw_ok E cc own nm nL ret fr lo hh) (d : decode cc pc = .ok (.checkcast index, 3)) (w1 : Cond.classLink own index "[B" ∈ lw_all) {r : Option Nat} {f : Unit → km_M ρ} (k : kw_W E enc (pc + 3) L (kA r :: st) (f ())) : kw_W E enc pc L (kA r :: st) (km_bind (km_castA 2 r) f) := by
  obtain ⟨p, l, e, R, s, m, args, below, meth, c, G, n0, z0⟩ := E
  obtain ⟨hx, hb, hml, hr, hown, hts, hlk, hnm, hhh, hfr1, hlo1, h0, hW, hsz, hbase, hold⟩ := B
  intro σ r1 τ H locs cells slots ls hx1 h1 h2 hS hl
  obtain ⟨u9, σ9, i1, hx2⟩ := km_bind_some hx1
  obtain ⟨e3, e4⟩ := km_rd_some i1
  rw [e4] at hx2
  split at e3
  · next a k9 n g e6 =>
    obtain ⟨rfl, ha⟩ := km_ar_some e6
    split at e3
    · next hk9 =>
      subst hk9
      have hK := kw_K h0 hW
      obtain ⟨⟨ws, hPw⟩, hloc, hc1, hc2⟩ := hS
      obtain ⟨j, hj⟩ := hPw.1 a _ ha
      have hcls : s.vm.findClass "[B" = some (G.2.2.1 2) := (hK.2 2 _ (kw_tys_at G (by omega))).2
      exact va_castA hx hb hown (hts _ w1) hPw.2.1 j hj hcls d (k σ r1 τ H locs cells slots ls hx2 h1 h2 ⟨⟨ws, hPw⟩, hloc, hc1, hc2⟩ hl)
    · cases e3
  · cases e3

end KWE
