/-! ===== methods with handlers (kw_callVUW, kw_runUW, kw_callSNW, kw_runSNW follow vx_callVU, vx_runU, vx_callSN, vx_runSN of the starting text) ===== -/
section KWH0
variable {p : Program} {l : Launch} {e : Env} {R : Room} {s : State} {m : MethodId} {args : Array Value} {below : List Frame} {meth : Method} {c : Code} {H : Heap} {locs : List Loc} {cells slots : Nat} {Q : State → Prop}

theorem kw_declW {args : Array Value} {s : State} {y : MethodName} {owner nm dc : String} {b : ByteArray} {mL : Nat} {ret : Option FieldType} {hh : List (Nat × Nat × Nat × Nat)} (hi : (Cond.instanceMethod y).before args s = true) (hc : (Cond.codeWith y b mL ret hh).before args s = true) (he : y = ⟨owner, nm, dc⟩) : va_Decl s ⟨owner, nm, dc⟩ := by
  rw [← he]
  obtain ⟨mk, methM, hnamed, hmethM, hst, -⟩ := Cond.instanceMethod_spec hi
  obtain ⟨mk2, methM2, cM, hnamed2, hmethM2, -, -, -, -, -, -, hsigM⟩ := Cond.codeWith_spec hc
  cases hnamed.symm.trans hnamed2
  cases hmethM.symm.trans hmethM2
  exact ⟨mk, methM, hnamed, hmethM, hst, hsigM⟩
theorem kw_callVUW {T : State} {locs : List Loc} {cells slots : Nat} (X : Stand p l e R s m args below meth c T locs cells slots) (hexec : p.tables.exec = Jvm.exec) {own C owner : String} {index : Nat} {x y : MethodName} 
    (hown : s.vm.findClass own = some m.cls) (hlink : (Cond.methodLink own index x).before args s = true) (hsame : (Cond.sameMethod x.cls owner x.name x.desc).before args s = true)
    (hd0 : va_Decl s ⟨owner, x.name, x.desc⟩) (howner : owner ≠ "java/lang/invoke/MethodHandle" ∧ owner ≠ "java/lang/invoke/VarHandle")
    (hsel : (Cond.selects C x y).before args s = true) (hinst : (Cond.instanceMethod y).before args s = true)
    {W : Nat} {Pre : Pt → Array Value → Prop} {Post : Pt → Array Value → Option Value → Pt → Prop} {PostX : Pt → Array Value → Addr → Pt → Prop} (hK : vx_Back l R p e below s args y 3 W Pre Post PostX)
    {b : Addr} {cellB : Cell} (hcell : T.heap[b]? = some cellB) (hobj : cellB.vm.isStatics = false) (hcls : s.vm.findClass C = some cellB.cls)
    {g : JFrame} (hg : g.method = m) (hsize : g.locals.size = c.maxLocals) {argsL rest : List Value} (hlen : ∀ sig, parseMethodDescriptor x.desc = some sig → argsL.length = sig.parameters.length)
    (hstack : g.stack = argsL.reverse ++ .ref b :: rest) (hW : 2 * g.monitorRoom + (rest.map fun v => v.category).sum ≤ W) (hdg : decode c.code g.pc = .ok (.invokevirtual index, 3))
    (hpre : ∀ vm₁, s.WarmedH vm₁ → Pre ⟨T.setVm vm₁, locs, cells, slots⟩ (Value.ref b :: argsL).toArray) :
    (∃ (v : Option Value) (vm₁ : Vm) (B : Pt), s.WarmedH vm₁ ∧ Stand p l e R s m args below meth c B.U B.locs B.cells B.slots ∧ Post ⟨T.setVm vm₁, locs, cells, slots⟩ (Value.ref b :: argsL).toArray v B ∧
      ∀ target, Steps p.tables e below (B.U.setTop { g with pc := g.pc + 3, stack := v.toList ++ rest }) target → Steps p.tables e below (T.setTop g) target) ∨
    (∃ (q : Addr) (vm₁ : Vm) (B : Pt), s.WarmedH vm₁ ∧ Stand p l e R s m args below meth c B.U B.locs B.cells B.slots ∧ PostX ⟨T.setVm vm₁, locs, cells, slots⟩ (Value.ref b :: argsL).toArray q B ∧
      Steps p.tables e below (T.setTop g) ((B.U.setTop { g with stack := rest }).pushFrame (.throwing q))) := by
  obtain ⟨r0, r, hn, hrm, hstR, hsigR⟩ := hd0
  obtain ⟨cn, ck, r1, hcn, hck, hni, hf, hn1⟩ := Cond.sameMethod_found hsame
  cases hn.symm.trans hn1
  obtain ⟨mk, methM, hnamed, hmethM, -, habM⟩ := Cond.instanceMethod_spec hinst
  obtain ⟨c2, r2, m2, q1, q2, q3, q4, kP, hkP, hkPi⟩ := Cond.selects_spec hsel
  cases hcls.symm.trans q1
  cases hf.symm.trans q2
  cases hnamed.symm.trans q3
  have hselP : selectMethod e.platform s.vm cellB.cls r0 = .method mk := by rw [Launch.admits_selectMethod X.admits]; exact q4
  obtain ⟨vm₁, X₁, hstep₁⟩ := X.invokevirtualUp hexec hown hlink hsame howner hn hrm hstR (a := b) (cell := cellB) hcell
    (fun z h => by rw [h] at hobj; cases hobj) hselP hmethM habM hkP hkPi (g := g) hg (argsL := argsL) (rest := rest) (hlen _ hsigR) hstack hdg
  rcases hK m meth c ⟨T.setVm vm₁, locs, cells, slots⟩ { g with stack := rest } (.invokevirtual index) mk (Value.ref b :: argsL).toArray X₁ hg hsize hdg hW (X₁.named hnamed) (hpre vm₁ X₁.warmed) with ⟨v, B, X', hpost, hsteps⟩ | ⟨q, B, X', hpost, hsteps⟩
  · exact Or.inl ⟨v, vm₁, B, X₁.warmed, X', hpost, fun target h => hstep₁ _ fun acts => by rw [doInvoke_state]; exact hsteps.trans h⟩
  · exact Or.inr ⟨q, vm₁, B, X₁.warmed, X', hpost, hstep₁ _ fun acts => by rw [doInvoke_state]; exact hsteps⟩

theorem kw_runUW {x y : MethodName} {bytes cc : ByteArray} {maxL nL mc ms n index : Nat} {ret : Option FieldType} {ws : List Cond} {rm : Room} {Pc : Array Value → State → Prop} {Qc : Array Value → State → Outcome → State → Prop} {XC : String → Addr → State → State → Prop} {free : Addr → Prop} {Ts : List Cond} {own C owner : String} {b : Addr} {As rest : List Value} {g : JFrame}
    (S : CallFix p m c cc nL s args Ts own) (hM : vx_Met l y ws rm Pc Qc XC mc ms free) {hh : List (Nat × Nat × Nat × Nat)} (hrc : rm.cells = mc) (hrs : rm.slots = ms) (hfr : rm.frames + 1 ≤ R.frames) (hlo : 8 + (maxL + 11) + rm.locals ≤ R.locals) (hws : ∀ w ∈ ws, ∀ (a' : Array Value) (U : State), s.WarmedH U.vm → w.before a' U = true) (hcw : Cond.codeWith y bytes maxL ret hh ∈ ws) (hini : (Cond.initialized y.cls).before args s = true) (howner : owner ≠ "java/lang/invoke/MethodHandle" ∧ owner ≠ "java/lang/invoke/VarHandle") (hlen : ∀ sig, parseMethodDescriptor x.desc = some sig → n = sig.parameters.length) (hlink : (Cond.methodLink own index x).before args s = true) (hsame : (Cond.sameMethod x.cls owner x.name x.desc).before args s = true) (hdecl : va_Decl s ⟨owner, x.name, x.desc⟩) (hsel : (Cond.selects C x y).before args s = true) (hinst : (Cond.instanceMethod y).before args s = true) (hp : PreV s H C b Pc As)
    (hg : g.method = m) (hn : As.length = n) (hsize : g.locals.size = nL) (hstack : g.stack = As.reverse ++ .ref b :: rest) (hW : 2 * g.monitorRoom + (rest.map fun v => v.category).sum ≤ 8) (hdg : decode cc g.pc = .ok (.invokevirtual index, 3)) (hf : cells + mc ≤ R.cells ∧ slots + ms ≤ R.slots) :
    vx_Run p l e R s m args below meth c H locs cells slots mc ms g rest (Qc (Value.ref b :: As).toArray) XC free := by
  have hK : vx_Back l R p e below s args y 3 8 (PreOf R mc ms Pc) (PostOf Qc mc ms free) (vx_Post XC mc ms free) := vx_backW (hh := hh) (bytes := bytes) (maxL := maxL) (ret := ret) hM hp.1 hrc hrs hfr hlo hws hcw (fun a' U hW => word_at hW (Or.inl (by first | rfl | simp [Cond.onTables, Cond.keeps, Cond.steady])) hini)
  obtain ⟨hx, hb, hml, ho, -⟩ := S
  obtain ⟨-, ⟨cellB, hcB, hoB, hclB⟩, hPc⟩ := hp
  intro T hT X
  rcases kw_callVUW X hx (C := C) (owner := owner) ho hlink hsame hdecl howner hsel hinst hK (by rw [hT]; exact hcB) hoB hclB hg (hsize.trans hml.symm) (argsL := As) (rest := rest) (fun sig h => hn.trans (hlen sig h)) hstack hW (by rw [hb]; exact hdg)
    (fun vm₁ hW₁ => ⟨hf.1, hf.2, hPc (T.setVm vm₁) hT hW₁⟩) with ⟨v, vm₁, ⟨U', l2, c2, s2⟩, hW₁, X', ⟨g', mk, t, L, e1, e2, hq, h1, hL, h2, h3⟩, st⟩ | ⟨q, vm₁, ⟨U', l2, c2, s2⟩, hW₁, X', ⟨g', mk, t, L, E, ce, e1, e2, hq, hce, hcv, hcl, h1, hL, h2, h3⟩, st⟩
  · dsimp only [Pt.U, Pt.locs, Pt.cells, Pt.slots] at X' e1 e2 h1 h2 h3 st
    subst h1; subst h2; subst h3
    exact Or.inl ⟨v, (T.setVm vm₁).calling g' mk (Value.ref b :: As).toArray, t, U', L, hT, X', hL, e1, e2, hq, st⟩
  · dsimp only [Pt.U, Pt.locs, Pt.cells, Pt.slots] at X' e1 e2 h1 h2 h3 st hcl
    subst h1; subst h2; subst h3
    exact Or.inr ⟨q, (T.setVm vm₁).calling g' mk (Value.ref b :: As).toArray, t, U', L, E, ce, hT, X', hL, e1, e2, hq, hce, hcv, vx_cls hW₁ hcl, st⟩

variable {T : State}
theorem kw_callSNW (X : Stand p l e R s m args below meth c T locs cells slots) (hexec : p.tables.exec = Jvm.exec) {own : String} {index : Nat} {host : String} {y : MethodName} {bytes : ByteArray} {maxL : Nat} {ret : Option FieldType} {hh : List (Nat × Nat × Nat × Nat)}
    (hown : s.vm.findClass own = some m.cls) (hlink : (Cond.methodLinkNest own index y host).before args s = true) (hstat : (Cond.static y).before args s = true) (hinit : (Cond.initialized y.cls).before args s = true)
    (hcode : (Cond.codeWith y bytes maxL ret hh).before args s = true) (hy : y.cls ≠ "java/lang/invoke/MethodHandle" ∧ y.cls ≠ "java/lang/invoke/VarHandle")
    {W : Nat} {Pre : Pt → Array Value → Prop} {Post : Pt → Array Value → Option Value → Pt → Prop} {PostX : Pt → Array Value → Addr → Pt → Prop} (hK : vx_Back l R p e below s args y 3 W Pre Post PostX)
    {g : JFrame} (hg : g.method = m) (hsize : g.locals.size = c.maxLocals) {argsL rest : List Value} (hlen : ∀ sig, parseMethodDescriptor y.desc = some sig → argsL.length = sig.parameters.length)
    (hstack : g.stack = argsL.reverse ++ rest) (hW : 2 * g.monitorRoom + (rest.map fun v => v.category).sum ≤ W) (hdg : decode c.code g.pc = .ok (.invokestatic index, 3))
    (hpre : ∀ vm₁, s.WarmedH vm₁ → Pre ⟨T.setVm vm₁, locs, cells, slots⟩ argsL.toArray) :
    (∃ (v : Option Value) (vm₁ : Vm) (B : Pt), s.WarmedH vm₁ ∧ Stand p l e R s m args below meth c B.U B.locs B.cells B.slots ∧ Post ⟨T.setVm vm₁, locs, cells, slots⟩ argsL.toArray v B ∧
      ∀ target, Steps p.tables e below (B.U.setTop { g with pc := g.pc + 3, stack := v.toList ++ rest }) target → Steps p.tables e below (T.setTop g) target) ∨
    (∃ (q : Addr) (vm₁ : Vm) (B : Pt), s.WarmedH vm₁ ∧ Stand p l e R s m args below meth c B.U B.locs B.cells B.slots ∧ PostX ⟨T.setVm vm₁, locs, cells, slots⟩ argsL.toArray q B ∧
      Steps p.tables e below (T.setTop g) ((B.U.setTop { g with stack := rest }).pushFrame (.throwing q))) := by
  obtain ⟨mk, methM, cM, hnamed, hmethM, -, -, -, -, -, -, hsigM⟩ := Cond.codeWith_spec hcode
  have hstatic : methM.isStatic = true := Cond.static_spec hnamed hmethM hstat
  obtain ⟨kP, hkP, -⟩ := className_of_methodNamed hnamed
  have hinitP : kP.init = .initialized := Cond.initialized_spec (findClass_of_methodNamed hnamed) hkP hinit
  obtain ⟨vm₁, X₁, hstep₁⟩ := X.invokestaticNest hexec hown hlink hnamed hmethM hstatic hkP hinitP hy (g := g) hg (argsL := argsL) (rest := rest) (hlen _ hsigM) hstack hdg
  rcases hK m meth c ⟨T.setVm vm₁, locs, cells, slots⟩ { g with stack := rest } (.invokestatic index) mk argsL.toArray X₁ hg hsize hdg hW (X₁.named hnamed) (hpre vm₁ X₁.warmed) with ⟨v, B, X', hpost, hsteps⟩ | ⟨q, B, X', hpost, hsteps⟩
  · exact Or.inl ⟨v, vm₁, B, X₁.warmed, X', hpost, fun target h => hstep₁ _ fun acts => by rw [doInvoke_state]; exact hsteps.trans h⟩
  · exact Or.inr ⟨q, vm₁, B, X₁.warmed, X', hpost, hstep₁ _ fun acts => by rw [doInvoke_state]; exact hsteps⟩

theorem kw_runSNW {y : MethodName} {bytes cc : ByteArray} {maxL nL mc ms n index : Nat} {ret : Option FieldType} {ws : List Cond} {rm : Room} {Pc : Array Value → State → Prop} {Qc : Array Value → State → Outcome → State → Prop} {XC : String → Addr → State → State → Prop} {free : Addr → Prop} {Ts : List Cond} {own host : String} {As rest : List Value} {g : JFrame}
    (S : CallFix p m c cc nL s args Ts own) (hM : vx_Met l y ws rm Pc Qc XC mc ms free) {hh : List (Nat × Nat × Nat × Nat)} (hrc : rm.cells = mc) (hrs : rm.slots = ms) (hfr : rm.frames + 1 ≤ R.frames) (hlo : 8 + (maxL + 11) + rm.locals ≤ R.locals) (hws : ∀ w ∈ ws, ∀ (a' : Array Value) (U : State), s.WarmedH U.vm → w.before a' U = true) (hcw : Cond.codeWith y bytes maxL ret hh ∈ ws) (hcode : (Cond.codeWith y bytes maxL ret hh).before args s = true) (hini : (Cond.initialized y.cls).before args s = true) (hy : y.cls ≠ "java/lang/invoke/MethodHandle" ∧ y.cls ≠ "java/lang/invoke/VarHandle") (hlen : ∀ sig, parseMethodDescriptor y.desc = some sig → n = sig.parameters.length) (hl : (Cond.methodLinkNest own index y host).before args s = true) (hx1 : (Cond.static y).before args s = true) (hp : PreS s H Pc As)
    (hg : g.method = m) (hn : As.length = n) (hsize : g.locals.size = nL) (hstack : g.stack = As.reverse ++ rest) (hW : 2 * g.monitorRoom + (rest.map fun v => v.category).sum ≤ 8) (hdg : decode cc g.pc = .ok (.invokestatic index, 3)) (hf : cells + mc ≤ R.cells ∧ slots + ms ≤ R.slots) :
    vx_Run p l e R s m args below meth c H locs cells slots mc ms g rest (Qc As.toArray) XC free := by
  have hK : vx_Back l R p e below s args y 3 8 (PreOf R mc ms Pc) (PostOf Qc mc ms free) (vx_Post XC mc ms free) := vx_backW (hh := hh) (bytes := bytes) (maxL := maxL) (ret := ret) hM hp.1 hrc hrs hfr hlo hws hcw (fun a' U hW => word_at hW (Or.inl (by first | rfl | simp [Cond.onTables, Cond.keeps, Cond.steady])) hini)
  obtain ⟨hx, hb, hml, ho, -⟩ := S
  have hPc := hp.2
  intro T hT X
  rcases kw_callSNW X hx (hh := hh) (bytes := bytes) (maxL := maxL) (ret := ret) ho hl hx1 hini hcode hy hK hg (hsize.trans hml.symm) (argsL := As) (rest := rest) (fun sig h => hn.trans (hlen sig h)) hstack hW (by rw [hb]; exact hdg)
    (fun vm₁ hW₁ => ⟨hf.1, hf.2, hPc (T.setVm vm₁) hT hW₁⟩) with ⟨v, vm₁, ⟨U', l2, c2, s2⟩, hW₁, X', ⟨g', mk, t, L, e1, e2, hq, h1, hL, h2, h3⟩, st⟩ | ⟨q, vm₁, ⟨U', l2, c2, s2⟩, hW₁, X', ⟨g', mk, t, L, E, ce, e1, e2, hq, hce, hcv, hcl, h1, hL, h2, h3⟩, st⟩
  · dsimp only [Pt.U, Pt.locs, Pt.cells, Pt.slots] at X' e1 e2 h1 h2 h3 st
    subst h1; subst h2; subst h3
    exact Or.inl ⟨v, (T.setVm vm₁).calling g' mk As.toArray, t, U', L, hT, X', hL, e1, e2, hq, st⟩
  · dsimp only [Pt.U, Pt.locs, Pt.cells, Pt.slots] at X' e1 e2 h1 h2 h3 st hcl
    subst h1; subst h2; subst h3
    exact Or.inr ⟨q, (T.setVm vm₁).calling g' mk As.toArray, t, U', L, E, ce, hT, X', hL, e1, e2, hq, hce, hcv, vx_cls hW₁ hcl, st⟩

end KWH0

section KWH
variable {ρ α : Type} {E : kw_E} {enc : ρ → kw_R} {cc : ByteArray} {own nm : String} {ret : Option FieldType} {nL fr lo pc : Nat} {hh : List ExceptionTableEntry} {L : List (Nat × kw_L)} {st st0 : List kw_L}
theorem kw_metH {y : MethodName} {hd : List (Nat × Nat × Nat × Nat)} {As : List kw_L} {x : km_M ρ} {rt : Option FieldType} (hy : plainName y.cls = true) (hn : (As.map kw_c).sum ≤ nL) (body : ∀ E, kw_ok E cc y.cls y.name nL rt fr lo (tableOf hd) → kw_W E enc 0 (kw_args 0 As) [] x) (l : Launch) : kw_Met l y (wsW_ y cc nL rt hd) fr lo As enc x := by
  intro G σ r τ h0 hx
  refine vx_ofWH (cc := cc) (maxL := nL) (ret := rt) (hh := hd) hy rfl ?_
  intro p e s m args below meth c s₁ B hml hv
  obtain ⟨rfl, hP, hW⟩ := hv
  obtain ⟨m1, m2, -⟩ := x.2 _ _ _ hx
  have hts0 := atoms_spec (ws := wsW_ y cc nL rt hd) B.pre
  have hts : ∀ w ∈ lw_all, w.before _ s = true := fun w h => hts0 w (List.mem_cons_of_mem _ h)
  have htb : c.exceptionTable.toList = tableOf hd := vx_table (x := y) B (hts0 _ List.mem_cons_self)
  have hP' := hP
  obtain ⟨ws, w1, w2, w3, w4, w5, w6, w7, w8, w9⟩ := hP'
  rw [lg_entry_eq]
  have hl := lv_entry (kw_st As) (n := nL) (by rw [kw_sl_len]; exact hn)
  rw [kw_args_ls] at hl
  exact body (p, l, e, ({ frames := fr, cells := τ.2.1 - σ.2.1, slots := τ.2.2.1 - σ.2.2.1, locals := lo } : Room), s, m, (kw_st As).toArray, below, meth, c, G, σ.2.1, σ.2.2.1) ⟨B.exec, B.bytes, hml, B.returns, findClass_of_methodNamed B.named, hts, B.notSynchronized, (name_of_methodNamed B.named B.method).1, htb, rfl, rfl, h0, hW, w6, by rw [← w6]; exact w7, w5⟩ σ r τ s.heap [] 0 0 _ hx (by show τ.2.1 ≤ σ.2.1 + (τ.2.1 - σ.2.1); omega) (by show τ.2.2.1 ≤ σ.2.2.1 + (τ.2.2.1 - σ.2.2.1); omega) ⟨hP, (fun _ h => by cases h), rfl, rfl⟩ (by rw [hml]; exact hl)
/-- the frame with q thrown over it, q an object of a known class -/
def kw_V (E : kw_E) (enc : ρ → kw_R) (pc : Nat) (L : List (Nat × kw_L)) (st : List kw_L) (q : Nat) (x : km_M ρ) : Prop := match E with
  | (p, l, e, R, s, m, args, below, meth, c, G, n0, z0) => ∀ (σ : km_S) (r : ρ) (τ : km_S) (H : Heap) (locs : List Loc) (cells slots : Nat) (ls : Array Slot), x.1 σ = some (r, τ) → τ.2.1 ≤ n0 + R.cells → τ.2.2.1 ≤ z0 + R.slots → kw_S G n0 z0 σ H locs cells slots → lv_has ls c.maxLocals (kw_ls L) →
    ∀ (En : String) (ce : Cell), (∃ (c : Nat) (fs : List Value) (x : vw_C), σ.2.2.2 q = some (true, .inr (c, fs)) ∧ kcl[c]? = some x ∧ x.1 = En) → H[q]? = some ce → ce.vm = .none → s.vm.findClass En = some ce.cls →
    vx_W p l e R s m args below meth c H locs cells slots (vx_MQ below (kw_Qc G (enc r) τ) (kw_XC G (enc r) τ) args s (τ.2.1 - n0) (τ.2.2.1 - z0) (kw_A G)) (F0 m pc ls (kw_st st)) q
/-- caught by the row x9, past rows that name other classes -/
theorem kw_catch (B : kw_ok E cc own nm nL ret fr lo hh) {q ci : Nat} {rr : vw_C} (hci : kcl[ci]? = some rr) (pre : List ExceptionTableEntry) (x9 : ExceptionTableEntry) (suf : List ExceptionTableEntry) (hsplit : hh = pre ++ x9 :: suf) (hpass : ∀ z ∈ pre, covers z pc = false ∨ (z.catchType ≠ 0 ∧ ∃ nm9 : String, Cond.classLink own z.catchType nm9 ∈ lw_all ∧ (rr.1, nm9) ∈ kw_noc)) (hx9 : covers x9 pc = true) (h09 : x9.catchType ≠ 0) {name : String} (hlink : Cond.classLink own x9.catchType name ∈ lw_all) (hcast : Cond.castable rr.1 name ∈ lw_tbl) {hp : Nat} (hhp : x9.handlerPc = hp) {f : Unit → km_M ρ} (k : kw_W E enc hp L [kA (some q)] (f ())) : kw_V E enc pc L st q (km_bind (km_is ci (some q)) f) := by
  obtain ⟨p, l, e, R, s, m, args, below, meth, c, G, n0, z0⟩ := E
  obtain ⟨hx, hb, hml, hr, hown, hts, hlk, hnm, hhh, hfr, hlo, h0, hW, hsz, hbase, hold⟩ := B
  intro σ r1 τ H locs cells slots ls hx1 h1 h2 hS hl En ce hcl hce hcv hfc
  obtain ⟨u9, σ9, i1, hx2⟩ := km_bind_some hx1
  obtain ⟨e9, a9, f9, fs9, e8, ha9⟩ := km_is_some i1
  rw [e9] at hx2
  cases e8
  obtain ⟨c9, fs, y9, g1, g2, g3⟩ := hcl
  cases g1.symm.trans ha9
  cases g2.symm.trans hci
  subst g3
  have hgo := k σ r1 τ H locs cells slots ls hx2 h1 h2 hS hl
  rw [← hhp] at hgo
  have h00 := h0
  obtain ⟨b0, -, -, -, -, -, -, hnc, -⟩ := h00
  exact vx_catch hown pre x9 suf (by rw [hhh]; exact hsplit) (fun z hz => by
    rcases hpass z hz with h | ⟨q1, nm9, q2, q3⟩
    · exact Or.inl h
    · exact Or.inr ⟨q1, nm9, hts _ q2, va_Nc.moved hW.alike (hnc _ q3)⟩) hx9 h09 (hts _ hlink) (va_Nw.use rfl (kw_castW h0 hW hcast)) hce hcv hfc hgo

theorem kw_Vif {q k : Nat} {x y : km_M ρ} (kt : kw_V E enc pc L st q x) (kf : kw_V E enc pc L st q y) : kw_V E enc pc L st q (km_bind (km_cls (some q)) fun c => if c = k then x else y) := by
  obtain ⟨p, l, e, R, s, m, args, below, meth, c, G, n0, z0⟩ := E
  intro σ r1 τ H locs cells slots ls hx1 h1 h2 hS hl
  obtain ⟨c9, σ9, i1, hx2⟩ := km_bind_some hx1
  obtain ⟨e3, e4⟩ := km_rd_some i1
  rw [e4] at hx2
  by_cases hc : c9 = k
  · rw [if_pos hc] at hx2
    exact kt σ r1 τ H locs cells slots ls hx2 h1 h2 hS hl
  · rw [if_neg hc] at hx2
    exact kf σ r1 τ H locs cells slots ls hx2 h1 h2 hS hl

theorem kw_dispXH {ps : List (Nat × km_M (Nat ⊕ α))} {r : Option Nat} {f : α → km_M ρ} {hd9 : Nat → km_M ρ} {pc' : Nat} (push : α → List kw_L) (hcat : ∀ q, kw_V E enc pc L st q (hd9 q)) (hk : ∀ v, kw_W E enc pc' L (push v ++ st) (f v)) (k : ∀ q ∈ ps, (∀ q, kw_V E enc pc L st q (hd9 q)) → (∀ v, kw_W E enc pc' L (push v ++ st) (f v)) → kw_W E enc pc L st0 (km_bind (km_is q.1 r) fun _ => km_bind q.2 (km_h hd9 f))) : kw_W E enc pc L st0 (km_bind (km_disp r ps) (km_h hd9 f)) := by
  obtain ⟨p, l, e, R, s, m, args, below, meth, c, G, n0, z0⟩ := E
  intro σ r1 τ H locs cells slots ls hx1 h1 h2 hS hl
  obtain ⟨v, u, e1, e2⟩ := km_bind_some hx1
  obtain ⟨q, hq, i1, i2⟩ := km_disp_some e1
  refine k q hq hcat hk σ r1 τ H locs cells slots ls ?_ h1 h2 hS hl
  exact km_bind_mk i1 (km_bind_mk i2 e2)

variable {y : MethodName} {bytes : ByteArray} {maxL fr' lo' n index : Nat} {rt : Option FieldType} {enc' : α → kw_R} {As : List kw_L} {x : km_M α}

theorem kw_callSXH (B : kw_ok E cc own nm nL ret fr lo hh) (d : decode cc pc = .ok (.invokestatic index, 3)) {x : km_M (Nat ⊕ α)} {hd9 : Nat → km_M ρ} (hcat : ∀ q, kw_V E enc pc L st q (hd9 q)) (hM : ∀ l, kw_Met l y (ws_ y bytes maxL rt) fr' lo' As (kw_x enc') x) (hwl : Cond.methodLink own index y ∈ lw_all) (hws : Cond.static y ∈ lw_all) (hwi : Cond.initialized y.cls ∈ lw_all) (hwc : Cond.code y bytes maxL rt ∈ lw_all) (hd : y.cls ≠ "java/lang/invoke/MethodHandle" ∧ y.cls ≠ "java/lang/invoke/VarHandle" ∧ (parseMethodDescriptor y.desc).map (fun d => d.parameters.length) = some n) (hn : As.length = n) (hst : st0 = As.reverse ++ st) (hc8 : (st.map kw_c).sum ≤ 8) (hfr : fr' + 1 ≤ fr) (hlo : 8 + (maxL + 11) + lo' ≤ lo) {f : α → km_M ρ} {push : α → List kw_L} (hpush : kw_push enc' push) (k : ∀ v, kw_W E enc (pc + 3) L (push v ++ st) (f v)) : kw_W E enc pc L st0 (km_bind x (km_h hd9 f)) := by
  obtain ⟨p, l, e, R, s, m, args, below, meth, c, G, n0, z0⟩ := E
  obtain ⟨hx, hb, hml, hr, hown, hts, hlk, hnm, hhh, hfr1, hlo1, h0, hW, hsz, hbase, hold⟩ := B
  intro σ r1 τ H locs cells slots ls hx1 h1 h2 hS hl
  subst hst
  have hK := kw_K h0 hW
  have hx2 := hx1
  obtain ⟨r2, τ2, e1, e2⟩ := km_bind_some hx2
  obtain ⟨m1, m2, -⟩ := x.2 _ _ _ e1
  have hm3 : τ2.2.1 ≤ τ.2.1 ∧ τ2.2.2.1 ≤ τ.2.2.1 := by
    obtain ⟨q1, q2, -⟩ := (km_h hd9 f r2).2 _ _ _ e2
    exact ⟨q1, q2⟩
  obtain ⟨m3, m4⟩ := hm3
  have hP := hS.1
  obtain ⟨-, hloc, hc1, hc2⟩ := hS
  have hMet := hM l G σ r2 τ2 h0 e1
  have hrun := vx_runS (As := kw_st As) (rest := kw_st st) (g := F0 m pc ls (kw_st (As.reverse ++ st))) (H := H) (locs := locs) (cells := cells) (slots := slots) (meth := meth) (below := below) (e := e) (Ts := lw_all) ⟨hx, hb, hml, hown, hts⟩ hMet (va_cwS n hts (lw_S hwl hws hwi hwc) rfl rfl rfl hd ⟨by rw [hfr1]; exact hfr, by rw [hlo1]; exact hlo⟩) ⟨kw_blind G σ As, fun U hU hUW => ⟨rfl, by rw [hU]; exact hP, State.WarmedH.trans hW hUW⟩⟩ rfl (by unfold kw_st; rw [List.length_map]; exact hn) (hl.1.trans hml) (by rw [kw_st_app, kw_st_rev]) (lv_room (by rw [kw_st_cat]; exact hc8)) d ⟨by omega, by omega⟩
  refine kw_run (n0 := n0) (z0 := z0) hrun hloc (by omega) (by omega) (fun v H1 locs1 hv hS1 => ?_) (fun q En ce H1 locs1 hq hS1 hcl hce hcv hfc => ?_)
  · cases r2 with
    | inl q => cases hv
    | inr a2 =>
      have hv2 : v = (push a2).head?.map kw_v := Sum.inl.inj (hv.symm.trans (hpush a2).1)
      subst hv2
      rw [(hpush a2).2, ← kw_st_app]
      exact k a2 _ r1 τ H1 locs1 _ _ ls e2 h1 h2 hS1 hl
  · cases r2 with
    | inr a2 =>
      have h9 : enc' a2 = .inr q := hq
      rw [(hpush a2).1] at h9
      cases h9
    | inl q2 =>
      cases hq
      exact hcat _ _ r1 τ H1 locs1 _ _ ls e2 h1 h2 hS1 hl En ce hcl hce hcv hfc

theorem kw_callSNXH (B : kw_ok E cc own nm nL ret fr lo hh) (d : decode cc pc = .ok (.invokestatic index, 3)) {x : km_M (Nat ⊕ α)} {hd9 : Nat → km_M ρ} (hcat : ∀ q, kw_V E enc pc L st q (hd9 q)) (hM : ∀ l, kw_Met l y (ws_ y bytes maxL rt) fr' lo' As (kw_x enc') x) {host : String} (hwl : Cond.methodLinkNest own index y host ∈ lw_tbl) (hws : Cond.static y ∈ lw_all) (hwi : Cond.initialized y.cls ∈ lw_all) (hwc : Cond.code y bytes maxL rt ∈ lw_all) (hd : y.cls ≠ "java/lang/invoke/MethodHandle" ∧ y.cls ≠ "java/lang/invoke/VarHandle" ∧ (parseMethodDescriptor y.desc).map (fun d => d.parameters.length) = some n) (hn : As.length = n) (hst : st0 = As.reverse ++ st) (hc8 : (st.map kw_c).sum ≤ 8) (hfr : fr' + 1 ≤ fr) (hlo : 8 + (maxL + 11) + lo' ≤ lo) {f : α → km_M ρ} {push : α → List kw_L} (hpush : kw_push enc' push) (k : ∀ v, kw_W E enc (pc + 3) L (push v ++ st) (f v)) : kw_W E enc pc L st0 (km_bind x (km_h hd9 f)) := by
  obtain ⟨p, l, e, R, s, m, args, below, meth, c, G, n0, z0⟩ := E
  obtain ⟨hx, hb, hml, hr, hown, hts, hlk, hnm, hhh, hfr1, hlo1, h0, hW, hsz, hbase, hold⟩ := B
  intro σ r1 τ H locs cells slots ls hx1 h1 h2 hS hl
  subst hst
  have hK := kw_K h0 hW
  have hx2 := hx1
  obtain ⟨r2, τ2, e1, e2⟩ := km_bind_some hx2
  obtain ⟨m1, m2, -⟩ := x.2 _ _ _ e1
  have hm3 : τ2.2.1 ≤ τ.2.1 ∧ τ2.2.2.1 ≤ τ.2.2.1 := by
    obtain ⟨q1, q2, -⟩ := (km_h hd9 f r2).2 _ _ _ e2
    exact ⟨q1, q2⟩
  obtain ⟨m3, m4⟩ := hm3
  have hP := hS.1
  obtain ⟨-, hloc, hc1, hc2⟩ := hS
  have hMet := hM l G σ r2 τ2 h0 e1
  have hrun := vx_runSN (As := kw_st As) (rest := kw_st st) (g := F0 m pc ls (kw_st (As.reverse ++ st))) (H := H) (locs := locs) (cells := cells) (slots := slots) (meth := meth) (below := below) (e := e) (Ts := lw_all) ⟨hx, hb, hml, hown, hts⟩ hMet (⟨va_cnB n hts (lw_meth hwc) rfl rfl rfl (kw_nestM h0 hW hwl) (hts _ hwi) hd ⟨by rw [hfr1]; exact hfr, by rw [hlo1]; exact hlo⟩, hts _ hws, trivial⟩) ⟨kw_blind G σ As, fun U hU hUW => ⟨rfl, by rw [hU]; exact hP, State.WarmedH.trans hW hUW⟩⟩ rfl (by unfold kw_st; rw [List.length_map]; exact hn) (hl.1.trans hml) (by rw [kw_st_app, kw_st_rev]) (lv_room (by rw [kw_st_cat]; exact hc8)) d ⟨by omega, by omega⟩
  refine kw_run (n0 := n0) (z0 := z0) hrun hloc (by omega) (by omega) (fun v H1 locs1 hv hS1 => ?_) (fun q En ce H1 locs1 hq hS1 hcl hce hcv hfc => ?_)
  · cases r2 with
    | inl q => cases hv
    | inr a2 =>
      have hv2 : v = (push a2).head?.map kw_v := Sum.inl.inj (hv.symm.trans (hpush a2).1)
      subst hv2
      rw [(hpush a2).2, ← kw_st_app]
      exact k a2 _ r1 τ H1 locs1 _ _ ls e2 h1 h2 hS1 hl
  · cases r2 with
    | inr a2 =>
      have h9 : enc' a2 = .inr q := hq
      rw [(hpush a2).1] at h9
      cases h9
    | inl q2 =>
      cases hq
      exact hcat _ _ r1 τ H1 locs1 _ _ ls e2 h1 h2 hS1 hl En ce hcl hce hcv hfc

theorem kw_callAXH (B : kw_ok E cc own nm nL ret fr lo hh) (d : decode cc pc = .ok (.invokevirtual index, 3)) {r : Option Nat} {ci : Nat} {rr : vw_C} (hci : kcl[ci]? = some rr) {x : km_M (Nat ⊕ α)} {hd9 : Nat → km_M ρ} (hcat : ∀ q, kw_V E enc pc L st q (hd9 q)) (hM : ∀ l, kw_Met l y (ws_ y bytes maxL rt) fr' lo' (kA r :: As) (kw_x enc') x) {x0 : MethodName} {owner : String} (hwl : Cond.methodLink own index x0 ∈ lw_all) (hsm : Cond.sameMethod x0.cls owner x0.name x0.desc ∈ lw_all) (hwe : Cond.selects rr.1 x0 y ∈ lw_all) (hwm : Cond.instanceMethod y ∈ lw_all) (hwi : Cond.initialized y.cls ∈ lw_all) (hwc : Cond.code y bytes maxL rt ∈ lw_all) (hdec : Cond.declares ⟨owner, x0.name, x0.desc⟩ ∈ lw_tbl) (hd : owner ≠ "java/lang/invoke/MethodHandle" ∧ owner ≠ "java/lang/invoke/VarHandle" ∧ (parseMethodDescriptor x0.desc).map (fun d => d.parameters.length) = some n) (hn : As.length = n) (hst : st0 = As.reverse ++ (kA r :: st)) (hc8 : (st.map kw_c).sum ≤ 8) (hfr : fr' + 1 ≤ fr) (hlo : 8 + (maxL + 11) + lo' ≤ lo) {f : α → km_M ρ} {push : α → List kw_L} (hpush : kw_push enc' push) (k : ∀ v, kw_W E enc (pc + 3) L (push v ++ st) (f v)) : kw_W E enc pc L st0 (km_bind (km_is ci r) fun _ => km_bind x (km_h hd9 f)) := by
  obtain ⟨p, l, e, R, s, m, args, below, meth, c, G, n0, z0⟩ := E
  obtain ⟨hx, hb, hml, hr, hown, hts, hlk, hnm, hhh, hfr1, hlo1, h0, hW, hsz, hbase, hold⟩ := B
  intro σ r1 τ H locs cells slots ls hx1 h1 h2 hS hl
  subst hst
  have hK := kw_K h0 hW
  obtain ⟨u9, σ9, i1, hx2⟩ := km_bind_some hx1
  obtain ⟨e9, a9, f9, fs9, rfl, ha9⟩ := km_is_some i1
  rw [e9] at hx2
  obtain ⟨r2, τ2, e1, e2⟩ := km_bind_some hx2
  obtain ⟨m1, m2, -⟩ := x.2 _ _ _ e1
  have hm3 : τ2.2.1 ≤ τ.2.1 ∧ τ2.2.2.1 ≤ τ.2.2.1 := by
    obtain ⟨q1, q2, -⟩ := (km_h hd9 f r2).2 _ _ _ e2
    exact ⟨q1, q2⟩
  obtain ⟨m3, m4⟩ := hm3
  have hP := hS.1
  obtain ⟨-, hloc, hc1, hc2⟩ := hS
  have hMet := hM l G σ r2 τ2 h0 e1
  have hrun := vx_runU (As := kw_st As) (rest := kw_st st) (g := F0 m pc ls (kw_st (As.reverse ++ (kA (some a9) :: st)))) (H := H) (locs := locs) (cells := cells) (slots := slots) (meth := meth) (below := below) (e := e) (Ts := lw_all) ⟨hx, hb, hml, hown, hts⟩ hMet (va_cwA n hts (lw_app (kw_l5 hwl hsm hwe hwm hwi) (lw_meth hwc)) rfl rfl rfl (kw_decl h0 hW hdec) hd ⟨by rw [hfr1]; exact hfr, by rw [hlo1]; exact hlo⟩) ⟨kw_blind G σ (kA (some a9) :: As), kw_recv hK hP ha9 hci, fun U hU hUW => ⟨rfl, by rw [hU]; exact hP, State.WarmedH.trans hW hUW⟩⟩ rfl (by unfold kw_st; rw [List.length_map]; exact hn) (hl.1.trans hml) (by rw [kw_st_app, kw_st_rev]; rfl) (lv_room (by rw [kw_st_cat]; exact hc8)) d ⟨by omega, by omega⟩
  refine kw_run (n0 := n0) (z0 := z0) hrun hloc (by omega) (by omega) (fun v H1 locs1 hv hS1 => ?_) (fun q En ce H1 locs1 hq hS1 hcl hce hcv hfc => ?_)
  · cases r2 with
    | inl q => cases hv
    | inr a2 =>
      have hv2 : v = (push a2).head?.map kw_v := Sum.inl.inj (hv.symm.trans (hpush a2).1)
      subst hv2
      rw [(hpush a2).2, ← kw_st_app]
      exact k a2 _ r1 τ H1 locs1 _ _ ls e2 h1 h2 hS1 hl
  · cases r2 with
    | inr a2 =>
      have h9 : enc' a2 = .inr q := hq
      rw [(hpush a2).1] at h9
      cases h9
    | inl q2 =>
      cases hq
      exact hcat _ _ r1 τ H1 locs1 _ _ ls e2 h1 h2 hS1 hl En ce hcl hce hcv hfc

theorem kw_callVXH (B : kw_ok E cc own nm nL ret fr lo hh) (d : decode cc pc = .ok (.invokevirtual index, 3)) {r : Option Nat} {ci : Nat} {rr : vw_C} (hci : kcl[ci]? = some rr) {x : km_M (Nat ⊕ α)} {hd9 : Nat → km_M ρ} (hcat : ∀ q, kw_V E enc pc L st q (hd9 q)) (hM : ∀ l, kw_Met l y (ws_ y bytes maxL rt) fr' lo' (kA r :: As) (kw_x enc') x) (hwl : Cond.methodLink own index y ∈ lw_all) (hwm : Cond.instanceMethod y ∈ lw_all) (hwe : Cond.selects rr.1 y y ∈ lw_all) (hwi : Cond.initialized y.cls ∈ lw_all) (hwc : Cond.code y bytes maxL rt ∈ lw_all) (hd : y.cls ≠ "java/lang/invoke/MethodHandle" ∧ y.cls ≠ "java/lang/invoke/VarHandle" ∧ (parseMethodDescriptor y.desc).map (fun d => d.parameters.length) = some n) (hn : As.length = n) (hst : st0 = As.reverse ++ (kA r :: st)) (hc8 : (st.map kw_c).sum ≤ 8) (hfr : fr' + 1 ≤ fr) (hlo : 8 + (maxL + 11) + lo' ≤ lo) {f : α → km_M ρ} {push : α → List kw_L} (hpush : kw_push enc' push) (k : ∀ v, kw_W E enc (pc + 3) L (push v ++ st) (f v)) : kw_W E enc pc L st0 (km_bind (km_is ci r) fun _ => km_bind x (km_h hd9 f)) := by
  obtain ⟨p, l, e, R, s, m, args, below, meth, c, G, n0, z0⟩ := E
  obtain ⟨hx, hb, hml, hr, hown, hts, hlk, hnm, hhh, hfr1, hlo1, h0, hW, hsz, hbase, hold⟩ := B
  intro σ r1 τ H locs cells slots ls hx1 h1 h2 hS hl
  subst hst
  have hK := kw_K h0 hW
  obtain ⟨u9, σ9, i1, hx2⟩ := km_bind_some hx1
  obtain ⟨e9, a9, f9, fs9, rfl, ha9⟩ := km_is_some i1
  rw [e9] at hx2
  obtain ⟨r2, τ2, e1, e2⟩ := km_bind_some hx2
  obtain ⟨m1, m2, -⟩ := x.2 _ _ _ e1
  have hm3 : τ2.2.1 ≤ τ.2.1 ∧ τ2.2.2.1 ≤ τ.2.2.1 := by
    obtain ⟨q1, q2, -⟩ := (km_h hd9 f r2).2 _ _ _ e2
    exact ⟨q1, q2⟩
  obtain ⟨m3, m4⟩ := hm3
  have hP := hS.1
  obtain ⟨-, hloc, hc1, hc2⟩ := hS
  have hMet := hM l G σ r2 τ2 h0 e1
  have hrun := vx_runV (As := kw_st As) (rest := kw_st st) (g := F0 m pc ls (kw_st (As.reverse ++ (kA (some a9) :: st)))) (H := H) (locs := locs) (cells := cells) (slots := slots) (meth := meth) (below := below) (e := e) (Ts := lw_all) ⟨hx, hb, hml, hown, hts⟩ hMet (⟨callB_of n hts (lw_meth hwc) rfl rfl rfl (hts _ hwi) (hts _ hwl) hd ⟨by rw [hfr1]; exact hfr, by rw [hlo1]; exact hlo⟩, hts _ hwm, hts _ hwe⟩) ⟨kw_blind G σ (kA (some a9) :: As), kw_recv hK hP ha9 hci, fun U hU hUW => ⟨rfl, by rw [hU]; exact hP, State.WarmedH.trans hW hUW⟩⟩ rfl (by unfold kw_st; rw [List.length_map]; exact hn) (hl.1.trans hml) (by rw [kw_st_app, kw_st_rev]; rfl) (lv_room (by rw [kw_st_cat]; exact hc8)) d ⟨by omega, by omega⟩
  refine kw_run (n0 := n0) (z0 := z0) hrun hloc (by omega) (by omega) (fun v H1 locs1 hv hS1 => ?_) (fun q En ce H1 locs1 hq hS1 hcl hce hcv hfc => ?_)
  · cases r2 with
    | inl q => cases hv
    | inr a2 =>
      have hv2 : v = (push a2).head?.map kw_v := Sum.inl.inj (hv.symm.trans (hpush a2).1)
      subst hv2
      rw [(hpush a2).2, ← kw_st_app]
      exact k a2 _ r1 τ H1 locs1 _ _ ls e2 h1 h2 hS1 hl
  · cases r2 with
    | inr a2 =>
      have h9 : enc' a2 = .inr q := hq
      rw [(hpush a2).1] at h9
      cases h9
    | inl q2 =>
      cases hq
      exact hcat _ _ r1 τ H1 locs1 _ _ ls e2 h1 h2 hS1 hl En ce hcl hce hcv hfc

theorem kw_callVNXH (B : kw_ok E cc own nm nL ret fr lo hh) (d : decode cc pc = .ok (.invokevirtual index, 3)) {r : Option Nat} {ci : Nat} {rr : vw_C} (hci : kcl[ci]? = some rr) {x : km_M (Nat ⊕ α)} {hd9 : Nat → km_M ρ} (hcat : ∀ q, kw_V E enc pc L st q (hd9 q)) (hM : ∀ l, kw_Met l y (ws_ y bytes maxL rt) fr' lo' (kA r :: As) (kw_x enc') x) {host : String} (hwl : Cond.methodLinkNest own index y host ∈ lw_tbl) (hwm : Cond.instanceMethod y ∈ lw_all) (hwe : Cond.selects rr.1 y y ∈ lw_all) (hwi : Cond.initialized y.cls ∈ lw_all) (hwc : Cond.code y bytes maxL rt ∈ lw_all) (hd : y.cls ≠ "java/lang/invoke/MethodHandle" ∧ y.cls ≠ "java/lang/invoke/VarHandle" ∧ (parseMethodDescriptor y.desc).map (fun d => d.parameters.length) = some n) (hn : As.length = n) (hst : st0 = As.reverse ++ (kA r :: st)) (hc8 : (st.map kw_c).sum ≤ 8) (hfr : fr' + 1 ≤ fr) (hlo : 8 + (maxL + 11) + lo' ≤ lo) {f : α → km_M ρ} {push : α → List kw_L} (hpush : kw_push enc' push) (k : ∀ v, kw_W E enc (pc + 3) L (push v ++ st) (f v)) : kw_W E enc pc L st0 (km_bind (km_is ci r) fun _ => km_bind x (km_h hd9 f)) := by
  obtain ⟨p, l, e, R, s, m, args, below, meth, c, G, n0, z0⟩ := E
  obtain ⟨hx, hb, hml, hr, hown, hts, hlk, hnm, hhh, hfr1, hlo1, h0, hW, hsz, hbase, hold⟩ := B
  intro σ r1 τ H locs cells slots ls hx1 h1 h2 hS hl
  subst hst
  have hK := kw_K h0 hW
  obtain ⟨u9, σ9, i1, hx2⟩ := km_bind_some hx1
  obtain ⟨e9, a9, f9, fs9, rfl, ha9⟩ := km_is_some i1
  rw [e9] at hx2
  obtain ⟨r2, τ2, e1, e2⟩ := km_bind_some hx2
  obtain ⟨m1, m2, -⟩ := x.2 _ _ _ e1
  have hm3 : τ2.2.1 ≤ τ.2.1 ∧ τ2.2.2.1 ≤ τ.2.2.1 := by
    obtain ⟨q1, q2, -⟩ := (km_h hd9 f r2).2 _ _ _ e2
    exact ⟨q1, q2⟩
  obtain ⟨m3, m4⟩ := hm3
  have hP := hS.1
  obtain ⟨-, hloc, hc1, hc2⟩ := hS
  have hMet := hM l G σ r2 τ2 h0 e1
  have hrun := vx_runVN (As := kw_st As) (rest := kw_st st) (g := F0 m pc ls (kw_st (As.reverse ++ (kA (some a9) :: st)))) (H := H) (locs := locs) (cells := cells) (slots := slots) (meth := meth) (below := below) (e := e) (Ts := lw_all) ⟨hx, hb, hml, hown, hts⟩ hMet (⟨va_cnB n hts (lw_meth hwc) rfl rfl rfl (kw_nestM h0 hW hwl) (hts _ hwi) hd ⟨by rw [hfr1]; exact hfr, by rw [hlo1]; exact hlo⟩, hts _ hwm, hts _ hwe⟩) ⟨kw_blind G σ (kA (some a9) :: As), kw_recv hK hP ha9 hci, fun U hU hUW => ⟨rfl, by rw [hU]; exact hP, State.WarmedH.trans hW hUW⟩⟩ rfl (by unfold kw_st; rw [List.length_map]; exact hn) (hl.1.trans hml) (by rw [kw_st_app, kw_st_rev]; rfl) (lv_room (by rw [kw_st_cat]; exact hc8)) d ⟨by omega, by omega⟩
  refine kw_run (n0 := n0) (z0 := z0) hrun hloc (by omega) (by omega) (fun v H1 locs1 hv hS1 => ?_) (fun q En ce H1 locs1 hq hS1 hcl hce hcv hfc => ?_)
  · cases r2 with
    | inl q => cases hv
    | inr a2 =>
      have hv2 : v = (push a2).head?.map kw_v := Sum.inl.inj (hv.symm.trans (hpush a2).1)
      subst hv2
      rw [(hpush a2).2, ← kw_st_app]
      exact k a2 _ r1 τ H1 locs1 _ _ ls e2 h1 h2 hS1 hl
  · cases r2 with
    | inr a2 =>
      have h9 : enc' a2 = .inr q := hq
      rw [(hpush a2).1] at h9
      cases h9
    | inl q2 =>
      cases hq
      exact hcat _ _ r1 τ H1 locs1 _ _ ls e2 h1 h2 hS1 hl En ce hcl hce hcv hfc

theorem kw_callVW {hd : List (Nat × Nat × Nat × Nat)} (B : kw_ok E cc own nm nL ret fr lo hh) (d : decode cc pc = .ok (.invokevirtual index, 3)) {r : Option Nat} {ci : Nat} {rr : vw_C} (hci : kcl[ci]? = some rr) (hM : ∀ l, kw_Met l y (wsW_ y bytes maxL rt hd) fr' lo' (kA r :: As) enc' x) (hwl : Cond.methodLink own index y ∈ lw_all) (hwm : Cond.instanceMethod y ∈ lw_all) (hwe : Cond.selects rr.1 y y ∈ lw_all) (hwi : Cond.initialized y.cls ∈ lw_all) (hwc : Cond.codeWith y bytes maxL rt hd ∈ lw_all) (hd9 : y.cls ≠ "java/lang/invoke/MethodHandle" ∧ y.cls ≠ "java/lang/invoke/VarHandle" ∧ (parseMethodDescriptor y.desc).map (fun d => d.parameters.length) = some n) (hn : As.length = n) (hst : st0 = As.reverse ++ (kA r :: st)) (hc8 : (st.map kw_c).sum ≤ 8) (hfr : fr' + 1 ≤ fr) (hlo : 8 + (maxL + 11) + lo' ≤ lo) {f : α → km_M ρ} {push : α → List kw_L} (hpush : kw_push enc' push) (k : ∀ v, kw_W E enc (pc + 3) L (push v ++ st) (f v)) : kw_W E enc pc L st0 (km_bind (km_is ci r) fun _ => km_bind x f) := by
  obtain ⟨p, l, e, R, s, m, args, below, meth, c, G, n0, z0⟩ := E
  obtain ⟨hx, hb, hml, hr, hown, hts, hlk, hnm, hhh, hfr1, hlo1, h0, hW, hsz, hbase, hold⟩ := B
  intro σ r1 τ H locs cells slots ls hx1 h1 h2 hS hl
  subst hst
  have hK := kw_K h0 hW
  obtain ⟨u9, σ9, i1, hx2⟩ := km_bind_some hx1
  obtain ⟨e9, a9, f9, fs9, rfl, ha9⟩ := km_is_some i1
  rw [e9] at hx2
  obtain ⟨r2, τ2, e1, e2⟩ := km_bind_some hx2
  obtain ⟨m1, m2, -⟩ := x.2 _ _ _ e1
  obtain ⟨m3, m4, -⟩ := (f r2).2 _ _ _ e2
  have hP := hS.1
  obtain ⟨-, hloc, hc1, hc2⟩ := hS
  have hMet := hM l G σ r2 τ2 h0 e1
  have hrun := vx_runVX (hh := hd) (As := kw_st As) (rest := kw_st st) (g := F0 m pc ls (kw_st (As.reverse ++ (kA (some a9) :: st)))) (H := H) (locs := locs) (cells := cells) (slots := slots) (meth := meth) (below := below) (e := e) (Ts := lw_all) ⟨hx, hb, hml, hown, hts⟩ hMet (⟨⟨rfl, rfl, by rw [hfr1]; exact hfr, by rw [hlo1]; exact hlo, pay_in hts (lw_methW hwc), List.mem_cons_self⟩, hts _ hwc, hts _ hwi, ⟨hd9.1, hd9.2.1⟩, (fun sig h => by have h2 := hd9.2.2; rw [h] at h2; exact (Option.some.inj h2).symm), hts _ hwl, hts _ hwm, hts _ hwe⟩) ⟨kw_blind G σ (kA (some a9) :: As), kw_recv hK hP ha9 hci, fun U hU hUW => ⟨rfl, by rw [hU]; exact hP, State.WarmedH.trans hW hUW⟩⟩ rfl (by unfold kw_st; rw [List.length_map]; exact hn) (hl.1.trans hml) (by rw [kw_st_app, kw_st_rev]; rfl) (lv_room (by rw [kw_st_cat]; exact hc8)) d ⟨by omega, by omega⟩
  refine kw_run (n0 := n0) (z0 := z0) hrun hloc (by omega) (by omega) (fun v H1 locs1 hv hS1 => ?_) (fun q En ce H1 locs1 hq => ?_)
  · have hv2 : v = (push r2).head?.map kw_v := Sum.inl.inj (hv.symm.trans (hpush r2).1)
    subst hv2
    rw [(hpush r2).2, ← kw_st_app]
    exact k r2 _ r1 τ H1 locs1 _ _ ls e2 h1 h2 hS1 hl
  · rw [(hpush r2).1] at hq
    cases hq


theorem kw_callUW {hd : List (Nat × Nat × Nat × Nat)} (B : kw_ok E cc own nm nL ret fr lo hh) (d : decode cc pc = .ok (.invokevirtual index, 3)) {r : Option Nat} {ci : Nat} {rr : vw_C} (hci : kcl[ci]? = some rr) (hM : ∀ l, kw_Met l y (wsW_ y bytes maxL rt hd) fr' lo' (kA r :: As) enc' x) {x0 : MethodName} {owner : String} (hwl : Cond.methodLink own index x0 ∈ lw_all) (hsm : Cond.sameMethod x0.cls owner x0.name x0.desc ∈ lw_all) (hwe : Cond.selects rr.1 x0 y ∈ lw_all) (hwm : Cond.instanceMethod y ∈ lw_all) (hwm0 : Cond.instanceMethod y ∈ lw_all) (hwi : Cond.initialized y.cls ∈ lw_all) (hwc : Cond.codeWith y bytes maxL rt hd ∈ lw_all) (hyx : y = ⟨owner, x0.name, x0.desc⟩) (hd9 : owner ≠ "java/lang/invoke/MethodHandle" ∧ owner ≠ "java/lang/invoke/VarHandle" ∧ (parseMethodDescriptor x0.desc).map (fun d => d.parameters.length) = some n) (hn : As.length = n) (hst : st0 = As.reverse ++ (kA r :: st)) (hc8 : (st.map kw_c).sum ≤ 8) (hfr : fr' + 1 ≤ fr) (hlo : 8 + (maxL + 11) + lo' ≤ lo) {f : α → km_M ρ} {push : α → List kw_L} (hpush : kw_push enc' push) (k : ∀ v, kw_W E enc (pc + 3) L (push v ++ st) (f v)) : kw_W E enc pc L st0 (km_bind (km_is ci r) fun _ => km_bind x f) := by
  obtain ⟨p, l, e, R, s, m, args, below, meth, c, G, n0, z0⟩ := E
  obtain ⟨hx, hb, hml, hr, hown, hts, hlk, hnm, hhh, hfr1, hlo1, h0, hW, hsz, hbase, hold⟩ := B
  intro σ r1 τ H locs cells slots ls hx1 h1 h2 hS hl
  subst hst
  have hK := kw_K h0 hW
  obtain ⟨u9, σ9, i1, hx2⟩ := km_bind_some hx1
  obtain ⟨e9, a9, f9, fs9, rfl, ha9⟩ := km_is_some i1
  rw [e9] at hx2
  obtain ⟨r2, τ2, e1, e2⟩ := km_bind_some hx2
  obtain ⟨m1, m2, -⟩ := x.2 _ _ _ e1
  obtain ⟨m3, m4, -⟩ := (f r2).2 _ _ _ e2
  have hP := hS.1
  obtain ⟨-, hloc, hc1, hc2⟩ := hS
  have hMet := hM l G σ r2 τ2 h0 e1
  have hrun := kw_runUW (hh := hd) (As := kw_st As) (rest := kw_st st) (g := F0 m pc ls (kw_st (As.reverse ++ (kA (some a9) :: st)))) (H := H) (locs := locs) (cells := cells) (slots := slots) (meth := meth) (below := below) (e := e) (Ts := lw_all) ⟨hx, hb, hml, hown, hts⟩ hMet rfl rfl (by rw [hfr1]; exact hfr) (by rw [hlo1]; exact hlo) (pay_in hts (lw_methW hwc)) List.mem_cons_self (hts _ hwi) ⟨hd9.1, hd9.2.1⟩ (fun sig h => by have h2 := hd9.2.2; rw [h] at h2; exact (Option.some.inj h2).symm) (hts _ hwl) (hts _ hsm) (kw_declW (hts _ hwm0) (hts _ hwc) hyx) (hts _ hwe) (hts _ hwm) ⟨kw_blind G σ (kA (some a9) :: As), kw_recv hK hP ha9 hci, fun U hU hUW => ⟨rfl, by rw [hU]; exact hP, State.WarmedH.trans hW hUW⟩⟩ rfl (by unfold kw_st; rw [List.length_map]; exact hn) (hl.1.trans hml) (by rw [kw_st_app, kw_st_rev]; rfl) (lv_room (by rw [kw_st_cat]; exact hc8)) d ⟨by omega, by omega⟩
  refine kw_run (n0 := n0) (z0 := z0) hrun hloc (by omega) (by omega) (fun v H1 locs1 hv hS1 => ?_) (fun q En ce H1 locs1 hq => ?_)
  · have hv2 : v = (push r2).head?.map kw_v := Sum.inl.inj (hv.symm.trans (hpush r2).1)
    subst hv2
    rw [(hpush r2).2, ← kw_st_app]
    exact k r2 _ r1 τ H1 locs1 _ _ ls e2 h1 h2 hS1 hl
  · rw [(hpush r2).1] at hq
    cases hq


theorem kw_callSNXW {hd : List (Nat × Nat × Nat × Nat)} (B : kw_ok E cc own nm nL ret fr lo hh) (d : decode cc pc = .ok (.invokestatic index, 3)) {x : km_M (Nat ⊕ α)} {xq : Nat → ρ} (hxq : ∀ q, enc (xq q) = .inr q) (hno : ∀ z ∈ hh, covers z pc = false) (hM : ∀ l, kw_Met l y (wsW_ y bytes maxL rt hd) fr' lo' As (kw_x enc') x) {host : String} (hwl : Cond.methodLinkNest own index y host ∈ lw_tbl) (hws : Cond.static y ∈ lw_all) (hwi : Cond.initialized y.cls ∈ lw_all) (hwc : Cond.codeWith y bytes maxL rt hd ∈ lw_all) (hd9 : y.cls ≠ "java/lang/invoke/MethodHandle" ∧ y.cls ≠ "java/lang/invoke/VarHandle" ∧ (parseMethodDescriptor y.desc).map (fun d => d.parameters.length) = some n) (hn : As.length = n) (hst : st0 = As.reverse ++ st) (hc8 : (st.map kw_c).sum ≤ 8) (hfr : fr' + 1 ≤ fr) (hlo : 8 + (maxL + 11) + lo' ≤ lo) {f : α → km_M ρ} {push : α → List kw_L} (hpush : kw_push enc' push) (k : ∀ v, kw_W E enc (pc + 3) L (push v ++ st) (f v)) : kw_W E enc pc L st0 (km_bind x (km_x xq f)) := by
  obtain ⟨p, l, e, R, s, m, args, below, meth, c, G, n0, z0⟩ := E
  obtain ⟨hx, hb, hml, hr, hown, hts, hlk, hnm, hhh, hfr1, hlo1, h0, hW, hsz, hbase, hold⟩ := B
  intro σ r1 τ H locs cells slots ls hx1 h1 h2 hS hl
  subst hst
  have hK := kw_K h0 hW
  have hx2 := hx1
  obtain ⟨r2, τ2, e1, e2⟩ := km_bind_some hx2
  obtain ⟨m1, m2, -⟩ := x.2 _ _ _ e1
  have hm3 : τ2.2.1 ≤ τ.2.1 ∧ τ2.2.2.1 ≤ τ.2.2.1 := by
    obtain ⟨q1, q2, -⟩ := (km_x xq f r2).2 _ _ _ e2
    exact ⟨q1, q2⟩
  obtain ⟨m3, m4⟩ := hm3
  have hP := hS.1
  obtain ⟨-, hloc, hc1, hc2⟩ := hS
  have hMet := hM l G σ r2 τ2 h0 e1
  have hrun := kw_runSNW (hh := hd) (As := kw_st As) (rest := kw_st st) (g := F0 m pc ls (kw_st (As.reverse ++ st))) (H := H) (locs := locs) (cells := cells) (slots := slots) (meth := meth) (below := below) (e := e) (Ts := lw_all) ⟨hx, hb, hml, hown, hts⟩ hMet rfl rfl (by rw [hfr1]; exact hfr) (by rw [hlo1]; exact hlo) (pay_in hts (lw_methW hwc)) List.mem_cons_self (hts _ hwc) (hts _ hwi) ⟨hd9.1, hd9.2.1⟩ (fun sig h => by have h2 := hd9.2.2; rw [h] at h2; exact (Option.some.inj h2).symm) (va_Nw.use rfl (kw_nestM h0 hW hwl)) (hts _ hws) ⟨kw_blind G σ As, fun U hU hUW => ⟨rfl, by rw [hU]; exact hP, State.WarmedH.trans hW hUW⟩⟩ rfl (by unfold kw_st; rw [List.length_map]; exact hn) (hl.1.trans hml) (by rw [kw_st_app, kw_st_rev]) (lv_room (by rw [kw_st_cat]; exact hc8)) d ⟨by omega, by omega⟩
  refine kw_run (n0 := n0) (z0 := z0) hrun hloc (by omega) (by omega) (fun v H1 locs1 hv hS1 => ?_) (fun q En ce H1 locs1 hq hS1 hcl hce hcv hfc => ?_)
  · cases r2 with
    | inl q => cases hv
    | inr a2 =>
      have hv2 : v = (push a2).head?.map kw_v := Sum.inl.inj (hv.symm.trans (hpush a2).1)
      subst hv2
      rw [(hpush a2).2, ← kw_st_app]
      exact k a2 _ r1 τ H1 locs1 _ _ ls e2 h1 h2 hS1 hl
  · cases r2 with
    | inr a2 =>
      have h9 : enc' a2 = .inr q := hq
      rw [(hpush a2).1] at h9
      cases h9
    | inl q2 =>
      cases hq
      have e3 := Option.some.inj e2
      cases e3
      refine vx_widen (by omega) (by omega) (vx_out (fun z hz => by rw [hhh] at hz; exact hno z hz) hlk hce hcv hfc (fun t ht _ => ⟨hxq _, by rw [ht]; exact hS1.1, hcl⟩) hS1.2.1 (Nat.le_refl _) (Nat.le_refl _))


end KWH
