/-! ===== Refused.behind: it calls the synchronized getCause, and itself (vx_backY, kw_runUY, kw_callUY: vx_back, kw_runUW, kw_callUW with codeSync) ===== -/
set_option maxRecDepth 100000
/-- the words of a synchronized method's contract -/
abbrev wsY_ (y : MethodName) (b : ByteArray) (L : Nat) (r : Option FieldType) : List Cond := Cond.codeSync y b L r :: lw_all
theorem lw_methY {y : MethodName} {b : ByteArray} {L : Nat} {r : Option FieldType} (h : Cond.codeSync y b L r ∈ lw_all) : GoodIn lw_all (wsY_ y b L r) := by
  intro w hw
  rcases List.mem_cons.mp hw with e | e
  · rw [e]
    exact lw_self _ h
  · exact lw_self _ e
theorem kw_declY {args : Array Value} {s : State} {y : MethodName} {owner nm dc : String} {b : ByteArray} {mL : Nat} {ret : Option FieldType} (hi : (Cond.instanceMethod y).before args s = true) (hc : (Cond.codeSync y b mL ret).before args s = true) (he : y = ⟨owner, nm, dc⟩) : va_Decl s ⟨owner, nm, dc⟩ := by
  rw [← he]
  obtain ⟨mk, methM, hnamed, hmethM, hst, -⟩ := Cond.instanceMethod_spec hi
  obtain ⟨methM2, cM, hmethM2, -, -, -, -, -, -, hsigM⟩ := Cond.codeSync_spec hnamed hc
  cases hmethM.symm.trans hmethM2
  exact ⟨mk, methM, hnamed, hmethM, hst, hsigM⟩
section KWY0
variable {l : Launch} {R : Room} {p : Program} {e : Env} {below : List Frame} {s : State} {sargs : Array Value} {y : MethodName} {len W9 : Nat}
theorem vx_backY {ws : List Cond} {rm : Room} {Pc : Array Value → State → Prop} {Qc : Array Value → State → Outcome → State → Prop} {XC : String → Addr → State → State → Prop} {mc ms : Nat} {free : Addr → Prop} {bytes : ByteArray} {maxL : Nat} {ret : Option FieldType}
    (hM : vx_Met l y ws rm Pc Qc XC mc ms free) (hblind : FrameBlind Pc) (hrc : rm.cells = mc) (hrs : rm.slots = ms)
    (hframes : rm.frames + 1 ≤ R.frames) (hlocals : W9 + (maxL + 11) + rm.locals ≤ R.locals)
    (hws : ∀ w ∈ ws, ∀ a' U, s.WarmedH U.vm → w.before a' U = true) (hcode : Cond.codeSync y bytes maxL ret ∈ ws) (hinit : ∀ a' U, s.WarmedH U.vm → (Cond.initialized y.cls).before a' U = true) :
    vx_Back l R p e below s sargs y len W9 (PreOf R mc ms Pc) (PostOf Qc mc ms free) (vx_Post XC mc ms free) := by
  intro m meth c A g ig mk a X hg hsize hdg hW hn hp
  have h1 : (headSpec ws rm).pre.before a A.U = true := atoms_intro fun w hw => hws w hw _ _ X.warmed
  have h2 : (Cond.codeSync y bytes maxL ret).before a A.U = true := hws _ hcode _ _ X.warmed
  have h3 : (Cond.initialized y.cls).before a A.U = true := hinit _ _ X.warmed
  have h4 : A.cells + (headSpec ws rm).room.cells ≤ R.cells := by rw [show (headSpec ws rm).room.cells = mc from hrc]; exact hp.1
  have h5 : A.slots + (headSpec ws rm).room.slots ≤ R.slots := by rw [show (headSpec ws rm).room.slots = ms from hrs]; exact hp.2.1
  have hPc : Pc a (A.U.calling g mk a) := hblind _ _ _ _ hp.2.2
  obtain ⟨U, Ls, c0, s0⟩ := A
  dsimp only [Pt.U, Pt.locs, Pt.cells, Pt.slots] at h1 h2 h3 h4 h5 X hn hPc ⊢
  obtain ⟨methY, cY, hmY, hcY, -, hlY, -, -, -, -⟩ := Cond.codeSync_spec hn h2
  obtain ⟨kY, hkY, -⟩ := className_of_methodNamed hn
  have hinitY : kY.init = .initialized := Cond.initialized_spec (findClass_of_methodNamed hn) hkY h3
  have h : At U g.method c below := by rw [hg]; exact X.here
  have hlocals9 : W9 + (maxL + 11) + (headSpec ws rm).room.locals ≤ R.locals := hlocals
  have happ : (headSpec ws rm).appliesLoose y e.platform (U.calling g mk a) = true :=
    Spec.appliesLoose_calling (g := g) h hdg hn hkY hinitY
      (X.room_calling (g := g) (R' := (headSpec ws rm).room) hsize hmY hcY hframes (by rw [hlY]; omega) h4 h5) h1
  obtain ⟨mid, hmid⟩ := h.above
  have hfr : (U.setTop g).frames = (.java g :: mid) ++ below := by rw [State.frames_setTop' g h.top, hmid]; rfl
  obtain ⟨o, s₂, hsteps, -, hend, hq⟩ := Steps.callFree hM p X.admits X.cas X.clock (acts := []) hfr happ hPc trivial
  have hq' : vx_Q Qc XC mc ms free a (U.calling g mk a) o s₂ := hq
  rw [State.frames_setTop' g h.top] at hend
  obtain ⟨g₀, hg0⟩ := Option.isSome_iff_exists.mp h.top
  obtain ⟨r, hr⟩ := State.topJava?_eq_some.mp hg0
  have hr' : (({ U with heap := s₂.heap, slotsUsed := s₂.slotsUsed } : State).setVm s₂.vm).frames = .java g₀ :: r := hr
  rcases hq' with ⟨hqc, L, hfe, hL⟩ | ⟨q, rfl, E, ce, L, hx, hce, hcv, hcl, hW₂, hsm, hL⟩
  · obtain ⟨⟨v, rfl⟩, hW₂, e2, q2, q3, q4, q5, q6⟩ := id hfe
    have e3 : s₂ = ({ (U.calling g mk a).setFrames s₂.frames with heap := s₂.heap, slotsUsed := s₂.slotsUsed } : State).setVm s₂.vm := by
      have : s₂ = ({ s₂ with vm := (U.calling g mk a).vm } : State).setVm s₂.vm := rfl
      rw [e2] at this
      exact this
    obtain ⟨c₂, i₂, len₂, hc₂, hd₂, hf₂⟩ := hend
    have hW' : U.WarmedH s₂.vm := hW₂
    have hcc : c₂ = c := by
      have h1 : s₂.code? g.method = U.code? g.method := by
        rw [State.code?_eq, State.code?_eq, hW'.alike.method?]
      exact Option.some.inj (hc₂.symm.trans (h1.trans h.code))
    subst hcc
    have hlen : len₂ = len := by rw [hdg] at hd₂; cases hd₂; rfl
    subst hlen
    have hs₂ : s₂ = (({ U with heap := s₂.heap, slotsUsed := s₂.slotsUsed } : State).setVm s₂.vm).setTop { g with pc := g.pc + len₂, stack := v.toList ++ g.stack } := by
      refine e3.trans ?_
      rw [hf₂, State.calling_eq h.top, State.setFrames_setFrames, State.setTop_of_frames _ hr', hr]
      rfl
    have hsame : U.sameButNew ({ U with heap := s₂.heap, slotsUsed := s₂.slotsUsed } : State) L mc ms := by
      refine ⟨?_, q2, q3, q4, q5, q6⟩
      obtain ⟨t, ht, -⟩ := State.frames_cons hr
      show ({ U with heap := s₂.heap, slotsUsed := s₂.slotsUsed } : State) = { U.setFrames U.frames with heap := s₂.heap, slotsUsed := s₂.slotsUsed }
      rw [State.setFrames_self ht]
    subst hg
    refine Or.inl ⟨v, ⟨(({ U with heap := s₂.heap, slotsUsed := s₂.slotsUsed } : State).setVm s₂.vm), Ls ++ L, c0 + mc, s0 + ms⟩,
      ⟨X.admits, X.cas, X.clock, X.frames, X.room, X.hears, X.method, X.code, (X.here.setHeapUsed s₂.heap s₂.slotsUsed).setVm hW'.alike, X.tail, State.WarmedH.trans X.warmed hW', X.limits, X.bytes, X.same.trans (hsame.setVm s.vm)⟩,
      ⟨g, mk, s₂, L, rfl, rfl, hqc, rfl, hL, rfl, rfl⟩, ?_⟩
    show Steps p.tables e below _ ((({ U with heap := s₂.heap, slotsUsed := s₂.slotsUsed } : State).setVm s₂.vm).setTop { g with pc := g.pc + len₂, stack := v.toList ++ g.stack })
    rw [← hs₂]
    exact hsteps
  · obtain ⟨e2, q2, q3, q4, q5, q6⟩ := id hsm
    have e3 : s₂ = ({ (U.calling g mk a).setFrames s₂.frames with heap := s₂.heap, slotsUsed := s₂.slotsUsed } : State).setVm s₂.vm := by
      have : s₂ = ({ s₂ with vm := (U.calling g mk a).vm } : State).setVm s₂.vm := rfl
      rw [e2] at this
      exact this
    have hf₂ : s₂.frames = .throwing q :: .java g :: U.frames.tail := hend
    have hW' : U.WarmedH s₂.vm := hW₂
    have hs₂ : s₂ = ((({ U with heap := s₂.heap, slotsUsed := s₂.slotsUsed } : State).setVm s₂.vm).setTop g).pushFrame (.throwing q) := by
      refine e3.trans ?_
      rw [hf₂, State.calling_eq h.top, State.setFrames_setFrames, State.pushFrame, State.frames_setTop _ hr', State.setTop_of_frames _ hr', State.setFrames_setFrames, hr]
      rfl
    have hsame : U.sameButNew ({ U with heap := s₂.heap, slotsUsed := s₂.slotsUsed } : State) L mc ms := by
      refine ⟨?_, q2, q3, q4, q5, q6⟩
      obtain ⟨t, ht, -⟩ := State.frames_cons hr
      show ({ U with heap := s₂.heap, slotsUsed := s₂.slotsUsed } : State) = { U.setFrames U.frames with heap := s₂.heap, slotsUsed := s₂.slotsUsed }
      rw [State.setFrames_self ht]
    subst hg
    refine Or.inr ⟨q, ⟨(({ U with heap := s₂.heap, slotsUsed := s₂.slotsUsed } : State).setVm s₂.vm), Ls ++ L, c0 + mc, s0 + ms⟩,
      ⟨X.admits, X.cas, X.clock, X.frames, X.room, X.hears, X.method, X.code, (X.here.setHeapUsed s₂.heap s₂.slotsUsed).setVm hW'.alike, X.tail, State.WarmedH.trans X.warmed hW', X.limits, X.bytes, X.same.trans (hsame.setVm s.vm)⟩,
      ⟨g, mk, s₂, L, E, ce, rfl, rfl, hx, hce, hcv, hcl, rfl, hL, rfl, rfl⟩, ?_⟩
    show Steps p.tables e below _ (((({ U with heap := s₂.heap, slotsUsed := s₂.slotsUsed } : State).setVm s₂.vm).setTop g).pushFrame (.throwing q))
    rw [← hs₂]
    exact hsteps
end KWY0
section KWY1
variable {p : Program} {l : Launch} {e : Env} {R : Room} {s : State} {m : MethodId} {args : Array Value} {below : List Frame} {meth : Method} {c : Code} {H : Heap} {locs : List Loc} {cells slots : Nat} {Q : State → Prop}
theorem kw_runUY {x y : MethodName} {bytes cc : ByteArray} {maxL nL mc ms n index : Nat} {ret : Option FieldType} {ws : List Cond} {rm : Room} {Pc : Array Value → State → Prop} {Qc : Array Value → State → Outcome → State → Prop} {XC : String → Addr → State → State → Prop} {free : Addr → Prop} {Ts : List Cond} {own C owner : String} {b : Addr} {As rest : List Value} {g : JFrame}
    (S : CallFix p m c cc nL s args Ts own) (hM : vx_Met l y ws rm Pc Qc XC mc ms free) (hrc : rm.cells = mc) (hrs : rm.slots = ms) (hfr : rm.frames + 1 ≤ R.frames) (hlo : 8 + (maxL + 11) + rm.locals ≤ R.locals) (hws : ∀ w ∈ ws, ∀ (a' : Array Value) (U : State), s.WarmedH U.vm → w.before a' U = true) (hcw : Cond.codeSync y bytes maxL ret ∈ ws) (hini : (Cond.initialized y.cls).before args s = true) (howner : owner ≠ "java/lang/invoke/MethodHandle" ∧ owner ≠ "java/lang/invoke/VarHandle") (hlen : ∀ sig, parseMethodDescriptor x.desc = some sig → n = sig.parameters.length) (hlink : (Cond.methodLink own index x).before args s = true) (hsame : (Cond.sameMethod x.cls owner x.name x.desc).before args s = true) (hdecl : va_Decl s ⟨owner, x.name, x.desc⟩) (hsel : (Cond.selects C x y).before args s = true) (hinst : (Cond.instanceMethod y).before args s = true) (hp : PreV s H C b Pc As)
    (hg : g.method = m) (hn : As.length = n) (hsize : g.locals.size = nL) (hstack : g.stack = As.reverse ++ .ref b :: rest) (hW : 2 * g.monitorRoom + (rest.map fun v => v.category).sum ≤ 8) (hdg : decode cc g.pc = .ok (.invokevirtual index, 3)) (hf : cells + mc ≤ R.cells ∧ slots + ms ≤ R.slots) :
    vx_Run p l e R s m args below meth c H locs cells slots mc ms g rest (Qc (Value.ref b :: As).toArray) XC free := by
  have hK : vx_Back l R p e below s args y 3 8 (PreOf R mc ms Pc) (PostOf Qc mc ms free) (vx_Post XC mc ms free) := vx_backY (bytes := bytes) (maxL := maxL) (ret := ret) hM hp.1 hrc hrs hfr hlo hws hcw (fun a' U hW => word_at hW (Or.inl (by first | rfl | simp [Cond.onTables, Cond.keeps, Cond.steady])) hini)
  obtain ⟨hx, hb, hml, ho, -⟩ := S
  obtain ⟨-, ⟨cellB, hcB, hoB, hclB⟩, hPc⟩ := hp
  intro T hT X
  rcases kw_callVUW X hx (C := C) (owner := owner) ho hlink hsame hdecl howner hsel hinst hK (by rw [hT]; exact hcB) hoB hclB hg (hsize.trans hml.symm) (argsL := As) (rest := rest) (fun sig h => hn.trans (hlen sig h)) hstack hW (by rw [hb]; exact hdg)
    (fun vm₁ hW₁ => ⟨hf.1, hf.2, hPc (T.setVm vm₁) hT hW₁⟩) with ⟨v, vm₁, ⟨U', l2, c2, s2⟩, hW₁, X', ⟨g', mk, t, L, e1, e2, hq, h1, hL, h2, h3⟩, st⟩ | ⟨q, vm₁, ⟨U', l2, c2, s2⟩, hW₁, X', ⟨g', mk, t, L, E, ce, e1, e2, hq, hce, hcv, hcl, h1, hL, h2, h3⟩, st⟩
  · dsimp only [Pt.U, Pt.locs, Pt.cells, Pt.slots] at X' e1 e2 h1 h2 h3 st
    subst h1; subst h2; subst h3
    exact Or.inl ⟨v, (T.setVm vm₁).calling g' mk (Value.ref b :: As).toArray, t, U', L, hT, X', hL, e1, e2, hq, st⟩
  · dsimp only [Pt.U, Pt.locs, Pt.cells, Pt.slots] at X' e1 e2 h1 h2 h3 st hcl
    subst h1; subst h2; subst h3
    exact Or.inr ⟨q, (T.setVm vm₁).calling g' mk (Value.ref b :: As).toArray, t, U', L, E, ce, hT, X', hL, e1, e2, hq, hce, hcv, vx_cls hW₁ hcl, st⟩

end KWY1
section KWY2
variable {ρ α : Type} {E : kw_E} {enc : ρ → kw_R} {cc : ByteArray} {own nm : String} {ret : Option FieldType} {nL fr lo pc : Nat} {hh : List ExceptionTableEntry} {L : List (Nat × kw_L)} {st st0 : List kw_L}
variable {y : MethodName} {bytes : ByteArray} {maxL fr' lo' n index : Nat} {rt : Option FieldType} {enc' : α → kw_R} {As : List kw_L} {x : km_M α}
theorem kw_callUY (B : kw_ok E cc own nm nL ret fr lo hh) (d : decode cc pc = .ok (.invokevirtual index, 3)) {r : Option Nat} {ci : Nat} {rr : vw_C} (hci : kcl[ci]? = some rr) (hM : ∀ l, kw_Met l y (wsY_ y bytes maxL rt) fr' lo' (kA r :: As) enc' x) {x0 : MethodName} {owner : String} (hwl : Cond.methodLink own index x0 ∈ lw_all) (hsm : Cond.sameMethod x0.cls owner x0.name x0.desc ∈ lw_all) (hwe : Cond.selects rr.1 x0 y ∈ lw_all) (hwm : Cond.instanceMethod y ∈ lw_all) (hwm0 : Cond.instanceMethod y ∈ lw_all) (hwi : Cond.initialized y.cls ∈ lw_all) (hwc : Cond.codeSync y bytes maxL rt ∈ lw_all) (hyx : y = ⟨owner, x0.name, x0.desc⟩) (hd9 : owner ≠ "java/lang/invoke/MethodHandle" ∧ owner ≠ "java/lang/invoke/VarHandle" ∧ (parseMethodDescriptor x0.desc).map (fun d => d.parameters.length) = some n) (hn : As.length = n) (hst : st0 = As.reverse ++ (kA r :: st)) (hc8 : (st.map kw_c).sum ≤ 8) (hfr : fr' + 1 ≤ fr) (hlo : 8 + (maxL + 11) + lo' ≤ lo) {f : α → km_M ρ} {push : α → List kw_L} (hpush : kw_push enc' push) (k : ∀ v, kw_W E enc (pc + 3) L (push v ++ st) (f v)) : kw_W E enc pc L st0 (km_bind (km_is ci r) fun _ => km_bind x f) := by
  obtain ⟨p, l, e, R, s, m, args, below, meth, c, G, n0, z0⟩ := E
  obtain ⟨hx, hb, hml, hr, hown, hts, hlk, hnm, hhh, hfr1, hlo1, h0, hW, hsz, hbase, hold⟩ := B
  intro σ r1 τ H locs cells slots ls hx1 h1 h2 hS hl
  subst hst
  have hK := kw_K h0 hW
  obtain ⟨u9, σ9, i1, hx2⟩ := km_bind_some hx1
  obtain ⟨e9, a9, f9, fs9, rfl, ha9⟩ := km_is_some i1
  rw [e9] at hx2
  obtain ⟨r2, τ2, e1, e2⟩ := km_bind_some hx2
  obtain ⟨m1, m2, -⟩ := x.2 _ _ _ e1
  obtain ⟨m3, m4, -⟩ := (f r2).2 _ _ _ e2
  have hP := hS.1
  obtain ⟨-, hloc, hc1, hc2⟩ := hS
  have hMet := hM l G σ r2 τ2 h0 e1
  have hrun := kw_runUY (As := kw_st As) (rest := kw_st st) (g := F0 m pc ls (kw_st (As.reverse ++ (kA (some a9) :: st)))) (H := H) (locs := locs) (cells := cells) (slots := slots) (meth := meth) (below := below) (e := e) (Ts := lw_all) ⟨hx, hb, hml, hown, hts⟩ hMet rfl rfl (by rw [hfr1]; exact hfr) (by rw [hlo1]; exact hlo) (pay_in hts (lw_methY hwc)) List.mem_cons_self (hts _ hwi) ⟨hd9.1, hd9.2.1⟩ (fun sig h => by have h2 := hd9.2.2; rw [h] at h2; exact (Option.some.inj h2).symm) (hts _ hwl) (hts _ hsm) (kw_declY (hts _ hwm0) (hts _ hwc) hyx) (hts _ hwe) (hts _ hwm) ⟨kw_blind G σ (kA (some a9) :: As), kw_recv hK hP ha9 hci, fun U hU hUW => ⟨rfl, by rw [hU]; exact hP, State.WarmedH.trans hW hUW⟩⟩ rfl (by unfold kw_st; rw [List.length_map]; exact hn) (hl.1.trans hml) (by rw [kw_st_app, kw_st_rev]; rfl) (lv_room (by rw [kw_st_cat]; exact hc8)) d ⟨by omega, by omega⟩
  refine kw_run (n0 := n0) (z0 := z0) hrun hloc (by omega) (by omega) (fun v H1 locs1 hv hS1 => ?_) (fun q En ce H1 locs1 hq => ?_)
  · have hv2 : v = (push r2).head?.map kw_v := Sum.inl.inj (hv.symm.trans (hpush r2).1)
    subst hv2
    rw [(hpush r2).2, ← kw_st_app]
    exact k r2 _ r1 τ H1 locs1 _ _ ls e2 h1 h2 hS1 hl
  · rw [(hpush r2).1] at hq
    cases hq


end KWY2
/-- a synchronized method is entered: the walk stands over the start with the receiver's monitor entered -/
theorem kw_ofSync {l : Launch} {y : MethodName} {S : Spec} {P : Array Value → State → Prop} {Q : Array Value → State → Outcome → State → Prop} {code9 : ByteArray} {maxL : Nat} {ret : Option FieldType}
    (hy : plainFor y = true)
    (his : ∀ args (s : State) m, S.pre.before args s = true → s.methodNamed? y = some m → ∃ meth c, s.vm.method? m = some meth ∧ meth.code = some c ∧ c.code = code9 ∧ c.maxLocals = maxL ∧ meth.sig.returnType = ret ∧ meth.locks = true ∧ meth.isStatic = false)
    (hrecv : ∀ args (s : State), S.pre.before args s = true → P args s → ∃ a cell, args[0]? = some (.ref a) ∧ s.heap[a]? = some cell ∧ cell.enterable s.cur)
    (body : ∀ (p : Program) (e : Env) (s : State) (m : MethodId) (args : Array Value) (below : List Frame) (meth : Method) (c : Code) (a : Addr) (cell : Cell), p.tables.exec = Jvm.exec → S.pre.before args s = true → s.methodNamed? y = some m → P args s → meth.sig.returnType = ret → meth.locks = true → c.code = code9 → args[0]? = some (.ref a) → s.heap[a]? = some cell → cell.enterable s.cur →
      ∀ T : State, T.heap = s.heap.setIfInBounds a (cell.withEntry s.cur) → Stand p l e S.room (s.setCell a (cell.withEntry s.cur)) m args below meth c T [] 0 0 →
      ∃ t o, Steps p.tables e below (T.setTop (entryFrameSync m args maxL a)) t ∧ t.status = .running ∧ Ended t below o ∧ Q args s o t) : MetFree l y S P (fun _ _ _ _ _ => True) Q := by
  intro p e ha hc hk s m args below hf happ hP _
  obtain ⟨hrun, hable, halone, hname, hhears, hinit, hroom, hpre⟩ := (Spec.appliesLoose_iff hf).mp happ
  obtain ⟨meth, c, hmeth, hcode, hbytes, hlocals, hret, hlocks, hst⟩ := his args s m hpre hname
  obtain ⟨a, cell, harg, hcell, hent⟩ := hrecv args s hpre hP
  have hcur := State.cur_lt_of_frames hf
  have hcur' : (s.setCell a (cell.withEntry s.cur)).cur < (s.setCell a (cell.withEntry s.cur)).threads.size := hcur
  have hf1 : ((s.setCell a (cell.withEntry s.cur)).setFrames (.java (entryFrameSync m args maxL a) :: below)).frames = .java (entryFrameSync m args maxL a) :: below := State.frames_setFrames _ hcur'
  have ht1 := State.topJava?_of_frames hf1
  have hAt : At ((s.setCell a (cell.withEntry s.cur)).setFrames (.java (entryFrameSync m args maxL a) :: below)) m c below :=
    ⟨by rw [ht1]; rfl, ⟨[], by rw [hf1]; rfl⟩, hrun, by simpa using hable, by simpa using halone, by rw [State.code?_eq]; simp [State.setFrames, State.setCell, hmeth, hcode], State.plainMethod.of_named (s := s) hy hname hmeth⟩
  have X : Stand p l e S.room (s.setCell a (cell.withEntry s.cur)) m args below meth c ((s.setCell a (cell.withEntry s.cur)).setFrames (.java (entryFrameSync m args maxL a) :: below)) [] 0 0 := by
    obtain ⟨t, ht, -⟩ := State.frames_cons hf
    refine ⟨ha, hc, hk, hf, by rw [State.hasRoom_setCell (x := cell.withEntry s.cur) hcell rfl]; exact hroom, hhears, hmeth, hcode, hAt, by rw [hf1]; rfl, State.WarmedH.refl (s.setCell a (cell.withEntry s.cur)), by rw [State.stackLimits_setFrames], by rw [State.stackBytes_setFrames], ?_⟩
    exact (State.sameButNew.refl (s.setCell a (cell.withEntry s.cur)) (x := t) ht).setFrames (.java (entryFrameSync m args maxL a) :: below) hcur
  obtain ⟨s₂, o, hs, hr, he, hp⟩ := body p e s m args below meth c a cell (by cases p <;> rfl) hpre hname hP hret hlocks hbytes harg hcell hent _ rfl X
  have hstep : (stepThread p.tables e s).1 = ((s.setCell a (cell.withEntry s.cur)).setFrames (.java (entryFrameSync m args maxL a) :: below)).setTop (entryFrameSync m args maxL a) := by
    have hfull : e.platform.stackFull (s.setFrames below).me (s.setFrames below).frames (c.maxLocals + 2) = false := by
      obtain ⟨-, h1, -, h2⟩ := State.hasRoom_stack hroom
      rw [hf, List.length_cons] at h1
      rw [State.localsInUse_invoking hf hmeth hcode] at h2
      have hw := stackUse_le_stackWeight below
      rw [State.frames_setFrames _ hcur]
      simp only [vmFrameWords] at h2
      exact Platform.stackFull_eq_false (by rw [State.stackLimits_setFrames]; omega) (by rw [State.stackLimits_setFrames]; omega)
    rw [stepThread_invoking hf, (doInvoke_java_sync (s := s.setFrames below) (e := e) (meth := meth) (code := c) (a := a) (cell := cell) hmeth hcode hlocks hst harg hcell hent.either hfull).1, State.setTop_self ht1, hlocals]
    show (((s.setFrames below).setCell a (cell.withEntry s.cur)).setFrames (.java (entryFrameSync m args maxL a) :: ((s.setFrames below).setCell a (cell.withEntry s.cur)).frames)) = _
    rw [show ((s.setFrames below).setCell a (cell.withEntry s.cur)).frames = below from State.frames_setFrames _ hcur, State.setCell_setFrames, State.setFrames_setFrames]
  obtain ⟨n, hn, hw⟩ := Steps.head (tb := p.tables) (e := e) ⟨hrun, hable, halone⟩ ⟨[.invoking m args], hf, by simp, by simp⟩ (hstep ▸ hs)
  exact ⟨n, o, hw, hn ▸ hr, hn ▸ he, hn ▸ hp⟩
/-- the frame of a synchronized method's body -/
abbrev kw_F1 (m : MethodId) (pc : Nat) (ls : Array Slot) (st : List Value) (a : Addr) : JFrame := { method := m, pc := pc, locals := ls, stack := st, locked := some a, monitorRoom := 1 }
def yGC : MethodName := ⟨"java/lang/Throwable", "getCause", "()Ljava/lang/Throwable;"⟩
abbrev cGC : ByteArray := prog_54_method_8_code
theorem dGC_0 : decode cGC 0 = .ok (.aload_n 0, 1) := by decide +kernel
theorem dGC_1 : decode cGC 1 = .ok (.getfield 7, 3) := by decide +kernel
theorem dGC_4 : decode cGC 4 = .ok (.aload_n 0, 1) := by decide +kernel
theorem dGC_5 : decode cGC 5 = .ok (.if_acmp .ne 7, 3) := by decide +kernel
theorem dGC_8 : decode cGC 8 = .ok (.aconst_null, 1) := by decide +kernel
theorem dGC_9 : decode cGC 9 = .ok (.goto 7, 3) := by decide +kernel
theorem dGC_12 : decode cGC 12 = .ok (.aload_n 0, 1) := by decide +kernel
theorem dGC_13 : decode cGC 13 = .ok (.getfield 7, 3) := by decide +kernel
theorem dGC_16 : decode cGC 16 = .ok (.areturn, 1) := by decide +kernel
section KWY3
variable {p : Program} {l : Launch} {e : Env} {R : Room} {s : State} {m : MethodId} {args : Array Value} {below : List Frame} {meth : Method} {c : Code} {H : Heap} {locs : List Loc} {cells slots : Nat} {Q : State → Prop} {cc : ByteArray} {pc : Nat} {ls : Array Slot} {rest : List Value} {a9 : Addr}
theorem ky_aload (hexec : p.tables.exec = Jvm.exec) (hb : c.code = cc) {k : Fin 4} {i : Nat} {x : Nat} (hdg : decode cc pc = .ok (.aload_n k, 1)) (hi : (k : Nat) = i) (hl : ls[i]? = some (.val (.ref x)))
    (k : W p l e R s m args below meth c H locs cells slots Q (kw_F1 m (pc + 1) ls (.ref x :: rest) a9)) : W p l e R s m args below meth c H locs cells slots Q (kw_F1 m pc ls (rest) a9) := by
  subst hi
  intro T hT X
  obtain ⟨t, a, b⟩ := k T hT X
  refine ⟨t, ?_, b⟩
  jvm_step X.here [X.here.top, hexec, hb, hdg, hl, Value.isRef]
  exact a
theorem ky_null (hexec : p.tables.exec = Jvm.exec) (hb : c.code = cc) (hdg : decode cc pc = .ok (.aconst_null, 1)) (k : W p l e R s m args below meth c H locs cells slots Q (kw_F1 m (pc + 1) ls (.null :: rest) a9)) : W p l e R s m args below meth c H locs cells slots Q (kw_F1 m pc ls rest a9) := by
  intro T hT X
  obtain ⟨t, a, b⟩ := k T hT X
  refine ⟨t, ?_, b⟩
  jvm_step X.here [X.here.top, hexec, hb, hdg, Op.aconst_null.sem]
  exact a
theorem ky_goto (hexec : p.tables.exec = Jvm.exec) (hb : c.code = cc) {off : Int} {tgt : Nat} (hdg : decode cc pc = .ok (.goto off, 3)) (ht : (pc : Int) + off = (tgt : Int)) (k : W p l e R s m args below meth c H locs cells slots Q (kw_F1 m tgt ls rest a9)) : W p l e R s m args below meth c H locs cells slots Q (kw_F1 m pc ls rest a9) := by
  intro T hT X
  obtain ⟨t, a, b⟩ := k T hT X
  refine ⟨t, ?_, b⟩
  jvm_step X.here [X.here.top, hexec, hb, hdg, ht]
  exact a
theorem ky_acmp_ne (hexec : p.tables.exec = Jvm.exec) (hb : c.code = cc) {rx ry : Option Nat} {off : Int} {tgt : Nat} (hdg : decode cc pc = .ok (.if_acmp .ne off, 3)) (ht : (pc : Int) + off = (tgt : Int))
    (kt : ¬ rx = ry → W p l e R s m args below meth c H locs cells slots Q (kw_F1 m tgt ls rest a9)) (kf : rx = ry → W p l e R s m args below meth c H locs cells slots Q (kw_F1 m (pc + 3) ls rest a9)) : W p l e R s m args below meth c H locs cells slots Q (kw_F1 m pc ls (va_rf ry :: va_rf rx :: rest) a9) := by
  intro T hT X
  by_cases hP : rx = ry
  · obtain ⟨t, a, b⟩ := kf hP T hT X
    refine ⟨t, ?_, b⟩
    subst hP
    cases rx <;> (jvm_step X.here [X.here.top, hexec, hb, hdg, va_rf, Value.asRef?, Op.if_acmp.holds, ht]; exact a)
  · obtain ⟨t, a, b⟩ := kt hP T hT X
    refine ⟨t, ?_, b⟩
    cases rx with
    | none => cases ry with
      | none => exact absurd rfl hP
      | some y => jvm_step X.here [X.here.top, hexec, hb, hdg, va_rf, Value.asRef?, Op.if_acmp.holds, ht]; exact a
    | some x => cases ry with
      | none => jvm_step X.here [X.here.top, hexec, hb, hdg, va_rf, Value.asRef?, Op.if_acmp.holds, ht]; exact a
      | some y =>
        have hxy : ¬ x = y := fun q => hP (by rw [q])
        jvm_step X.here [X.here.top, hexec, hb, hdg, va_rf, Value.asRef?, Op.if_acmp.holds, ht, hxy]; exact a
end KWY3
theorem km_own_some {r : Option Nat} {s : km_S} {u : Unit} {t : km_S} (h : (km_own r).1 s = some (u, t)) : t = s ∧ ∃ a fs, r = some a ∧ s.2.2.2 a = some (true, .inr (8, fs)) := by
  obtain ⟨h1, h2⟩ := km_rd_some h
  refine ⟨h2, ?_⟩
  split at h1
  · next a c fs e =>
    split at h1
    · next hc =>
      obtain ⟨g1, g2⟩ := km_ob_some e
      subst hc
      exact ⟨a, fs, g1, g2⟩
    · cases h1
  · cases h1
theorem km_assoc {α β γ : Type} {x : km_M α} {g : α → km_M β} {f : β → km_M γ} : km_bind (km_bind x g) f = km_bind x (fun a => km_bind (g a) f) := by
  refine Subtype.ext (funext fun s => ?_)
  show km_bindF (km_bind x g) f s = km_bindF x (fun a => km_bind (g a) f) s
  unfold km_bindF
  have e : (km_bind x g).1 s = km_bindF x g s := rfl
  rw [e]
  unfold km_bindF
  cases x.1 s with
  | none => rfl
  | some p => rfl
theorem fl_GC : kw_fl "java/lang/Throwable" 7 "java/lang/Throwable" [(8, 0)] := kw_fl_c (C := RX9) (T := TX9) (N := 8) rfl (by decide) in_X9 q491 (Or.inl rfl) kw_fl_nil
/-- Throwable.getCause on a Refused -/
theorem ct_getCause (a0 : Option Nat) (l : Launch) : kw_Met l yGC (wsY_ yGC cGC 1 (some (.object "java/lang/Throwable"))) 0 0 [kA a0] kw_eA (km_cause1 a0) := by
  intro G σ r τ h0 hx
  obtain ⟨u, σ1, x1, x2⟩ := km_bind_some hx
  obtain ⟨es, a, fs, rfl, ha⟩ := km_own_some x1
  subst es
  obtain ⟨cv, σ2, x3, x4⟩ := km_bind_some x2
  obtain ⟨g1, es2⟩ := km_rd_some x3
  subst es2
  obtain ⟨v, g2, g3⟩ := Option.bind_eq_some_iff.mp g1
  obtain ⟨a', fl, ci, fs', kk, e1, e2, e3, e4⟩ := km_fld_some g2
  cases e1
  rw [ha] at e2
  cases e2
  have hkk : kk = 0 := by
    have : some 0 = some kk := e3
    exact (Option.some.inj this).symm
  subst hkk
  have hv : v = va_rf cv := km_vR_some g3
  have hend : τ = σ2 ∧ r = (if cv = some a then none else cv) := by
    by_cases hc : cv = some a
    · rw [if_pos hc] at x4 ⊢
      have h9 := Option.some.inj x4
      cases h9
      exact ⟨rfl, rfl⟩
    · rw [if_neg hc] at x4 ⊢
      have h9 := Option.some.inj x4
      cases h9
      exact ⟨rfl, rfl⟩
  obtain ⟨eτ, er⟩ := hend
  subst eτ
  refine kw_ofSync (code9 := cGC) (maxL := 1) (ret := some (.object "java/lang/Throwable")) (by decide) ?_ ?_ ?_
  · intro args s m hp hn
    have hts := atoms_spec (ws := wsY_ yGC cGC 1 (some (.object "java/lang/Throwable"))) hp
    obtain ⟨meth, c, h1, h2, h3, h4, h5, h6, -, -⟩ := Cond.codeSync_spec hn (hts _ List.mem_cons_self)
    obtain ⟨mk, methM, n1, n2, hst, -⟩ := Cond.instanceMethod_spec (hts _ (List.mem_cons_of_mem _ q2305))
    cases Option.some.inj (n1.symm.trans hn)
    cases Option.some.inj (n2.symm.trans h1)
    exact ⟨meth, c, h1, h2, h3, h4, h5, h6, hst⟩
  · intro args s hp hP
    obtain ⟨rfl, hP1, hW⟩ := hP
    obtain ⟨r9, cell, o1, o2, o3, o4, o5, o6⟩ := kw_obj hP1 ha
    obtain ⟨ws, hPw⟩ := hP1
    have hmon := hPw.2.2.2.2.2.2.2.2.2 a fs ha cell o2
    exact ⟨a, cell, rfl, o2, Or.inl hmon⟩
  · intro p e s m args below meth c a2 cell hexec hpre hname hP hret hlocks hb harg hcell hent T hT X
    obtain ⟨rfl, hP1, hW⟩ := hP
    have ea : a2 = a := by
      have h9 : some (Value.ref a) = some (.ref a2) := harg
      cases h9
      rfl
    subst ea
    obtain ⟨r9, cell9, o1, o2, o3, o4, o5, o6⟩ := kw_obj hP1 ha
    rw [hcell] at o2
    cases o2
    have hts := atoms_spec (ws := wsY_ yGC cGC 1 (some (.object "java/lang/Throwable"))) hpre
    have hts : ∀ w ∈ lw_all, w.before _ s = true := fun w h => hts w (List.mem_cons_of_mem _ h)
    have hK := kw_K h0 hW
    obtain ⟨C, T9, N, q1, q2, q3, q4, q5⟩ := fl_GC 8 0 rfl
    have err : r9 = (C, T9, N) := Option.some.inj (o1.symm.trans q1)
    subst err
    obtain ⟨hSl, hfc, kC, hkC, hkind⟩ := hK.1 8 _ q1
    obtain ⟨cf, kf, fi, fd, hi, hsl⟩ := hSl 0 q2
    have hslot : cell.slots[fd.slot]? = some (va_rf cv) := by
      rw [hsl, o6 0 q2, ← hv]
      simp [vp_V, e4]
    have hlt : a2 < s.heap.size := (Array.getElem?_eq_some_iff.mp hcell).1
    have hcT : T.heap[a2]? = some (cell.withEntry s.cur) := by
      rw [hT]
      simp [hlt]
    have hown : (s.setCell a2 (cell.withEntry s.cur)).vm.findClass "java/lang/Throwable" = some m.cls := findClass_of_methodNamed hname
    have hlink : (Cond.fieldLink "java/lang/Throwable" 7 "java/lang/Throwable" (T9 0).2.1 (T9 0).2.2.1).before #[] (s.setCell a2 (cell.withEntry s.cur)) = true := va_tabs (A := (kw_st [kA (some a2)]).toArray) (u := s) rfl rfl (hts _ q4)
    have hfound : (s.setCell a2 (cell.withEntry s.cur)).fieldFound? "java/lang/Throwable" (T9 0).2.1 (T9 0).2.2.1 = some (cf, kf, fi, fd) := kw_same hts q5 _ hi
    have hstat := (u_facts hfc hkC (u_lays hts q3 q2) hi).1
    have hfin : ∀ (w : Option Nat), w = r → W p l e { frames := 0, cells := τ.2.1 - τ.2.1, slots := τ.2.2.1 - τ.2.2.1, locals := 0 } (s.setCell a2 (cell.withEntry s.cur)) m (kw_st [kA (some a2)]).toArray below meth c T.heap [] 0 0 (fun t => t.status = .running ∧ ∃ o, Ended t below o ∧ vx_Q (kw_Qc G (kw_eA r) τ) (kw_XC G (kw_eA r) τ) (τ.2.1 - τ.2.1) (τ.2.2.1 - τ.2.2.1) (kw_A G) (kw_st [kA (some a2)]).toArray s o t) (kw_F1 m 16 #[.val (.ref a2)] [va_rf w] a2) := by
      intro w hw T2 hT2 X2
      subst hw
      obtain ⟨fs9, cellT, t1, t2, t3, t4, t5, t6⟩ := X2.leaveSync hcell hent hlocks (v := some (va_rf w)) (fun h => by rw [hret] at h; cases h)
      have hmeth' : T2.vm.method? m = some meth := X2.method'
      have eT : cellT = cell.withEntry s.cur := by
        rw [hT2, hcT] at t1
        exact (Option.some.inj t1).symm
      have eheap : ((T2.setCell a2 cellT.left).setFrames fs9).heap = s.heap := by
        show T2.heap.setIfInBounds a2 cellT.left = s.heap
        rw [eT, Cell.left_withEntry' hent, hT2, hT, Array.setIfInBounds_setIfInBounds]
        exact congrArg State.heap (State.setCell_same hcell)
      refine ⟨(T2.setCell a2 cellT.left).setFrames fs9, ?_, t3, .returned (some (va_rf w)), t4, Or.inl ⟨⟨⟨some (va_rf w), rfl, rfl⟩, by rw [eheap]; exact hP1⟩, [], ⟨⟨_, rfl⟩, t5, t6.mono (Nat.zero_le _) (Nat.zero_le _)⟩, fun q hq => by cases hq⟩⟩
      cases w <;>
        (simp only [va_rf] at t2
         jvm_step X2.here [X2.here.top, hexec, hb, dGC_16, hmeth', hret, va_rf]
         (try refine ⟨rfl, ?_⟩); (try refine ⟨rfl, ?_⟩)
         first | (intro acts; rw [t2 _ acts rfl rfl rfl]) | rw [t2 _ _ rfl rfl rfl]
         exact Steps.refl _)
    have hgo : W p l e { frames := 0, cells := τ.2.1 - τ.2.1, slots := τ.2.2.1 - τ.2.2.1, locals := 0 } (s.setCell a2 (cell.withEntry s.cur)) m (kw_st [kA (some a2)]).toArray below meth c T.heap [] 0 0 (fun t => t.status = .running ∧ ∃ o, Ended t below o ∧ vx_Q (kw_Qc G (kw_eA r) τ) (kw_XC G (kw_eA r) τ) (τ.2.1 - τ.2.1) (τ.2.2.1 - τ.2.2.1) (kw_A G) (kw_st [kA (some a2)]).toArray s o t) (kw_F1 m 0 #[.val (.ref a2)] [] a2) := by
      refine ky_aload hexec hb dGC_0 rfl (x := a2) rfl ?_
      refine W.getf hexec hb hown (va_any rfl hlink) hfound hstat hcT o5 hslot (g := kw_F1 m 1 #[.val (.ref a2)] [.ref a2] a2) rfl (rest := []) rfl dGC_1 ?_
      refine ky_aload (pc := 4) hexec hb dGC_4 rfl (x := a2) rfl ?_
      refine ky_acmp_ne (pc := 5) (rx := cv) (ry := some a2) (tgt := 12) hexec hb dGC_5 rfl (fun hne => ?_) (fun heq => ?_)
      · refine ky_aload (pc := 12) hexec hb dGC_12 rfl (x := a2) rfl ?_
        refine W.getf hexec hb hown (va_any rfl hlink) hfound hstat hcT o5 hslot (g := kw_F1 m 13 #[.val (.ref a2)] [.ref a2] a2) rfl (rest := []) rfl dGC_13 ?_
        exact hfin cv (by rw [er, if_neg hne])
      · refine ky_null (pc := 8) hexec hb dGC_8 ?_
        refine ky_goto (pc := 9) (tgt := 16) hexec hb dGC_9 rfl ?_
        exact hfin none (by rw [er, if_pos heq])
    obtain ⟨t, a1, b1, o, b2, b3⟩ := hgo T rfl X
    exact ⟨t, o, a1, b1, b2, b3⟩
theorem cs_Refused : kw_cs "RosaryCarvers$Refused" [8] := by
  intro c hc
  simp only [List.mem_cons, List.not_mem_nil, or_false] at hc
  subst hc
  exact ⟨_, rfl, Or.inr q798⟩
theorem ct_behind_n : ∀ (n : Nat) (a0 : Option Nat) (a1 : Int32) (l : Launch), kw_Met l yX9_behind (ws_ yX9_behind cX9_behind 4 (some (.object "RosaryCarvers$Refused"))) (n + 15) (23 * n + 193) [kA a0, kI a1] kw_eA (km_behind n a0 a1) := by
  intro n
  induction n with
  | zero =>
    intro a0 a1 l G σ r τ h0 hx
    cases hx
  | succ n ih =>
    intro a0 a1 l
    refine kw_met (by decide) (Nat.le_of_ble_eq_true rfl) (fun E B => ?_) l
    show kw_W E kw_eA 0 [(0, kA a0), (1, kI a1)] [] _
    unfold km_behind
    refine kw_iload_n (pc := 0) B dX9_behind_0 rfl 1 rfl ?_
    refine kw_if_ne (pc := 1) (tgt := 6) B dX9_behind_1 rfl ?_ ?_
    · refine kw_aload_n (pc := 6) B dX9_behind_6 rfl 0 rfl ?_
      unfold km_cause
      rw [km_assoc]
      refine kw_callUY (pc := 7) B dX9_behind_7 (ci := 8) rfl (ct_getCause a0) q2301 q2302 q2304 q2305 q2305 q85 q2306 rfl ⟨by decide, by decide, rfl⟩ (As := []) rfl (st := []) rfl (Nat.le_of_ble_eq_true rfl) (by omega) (by omega) kw_qA (fun c => ?_)
      refine kw_astore_n (pc := 10) B dX9_behind_10 rfl (by decide) (L2 := [(3, kA c), (0, kA a0), (1, kI a1)]) rfl ?_
      refine kw_aload_n (pc := 11) B dX9_behind_11 rfl 0 rfl ?_
      refine kw_inst (pc := 12) B dX9_behind_12 q2307 cs_Refused (fun c hc => ?_) (fun i => ?_)
      · simp only [List.mem_cons, List.not_mem_nil, or_false] at hc
        subst hc
        exact ⟨_, rfl, List.mem_cons_self⟩
      refine kw_if_eq (pc := 15) (tgt := 33) B dX9_behind_15 rfl ?_ ?_
      · refine kw_null (pc := 33) B dX9_behind_33 ?_
        exact kw_aret rfl B dX9_behind_34 rfl
      · refine kw_aload_n (pc := 18) B dX9_behind_18 rfl 0 rfl ?_
        refine kw_cast_ok (pc := 19) B dX9_behind_19 q2307 cs_Refused ?_
        refine kw_astore_n (pc := 22) B dX9_behind_22 rfl (by decide) (L2 := [(2, kA c), (3, kA c), (0, kA a0), (1, kI a1)]) rfl ?_
        refine kw_aload_n (pc := 23) B dX9_behind_23 rfl 0 rfl ?_
        refine kw_iload_n (pc := 24) B dX9_behind_24 rfl 3 rfl ?_
        refine kw_iconst (pc := 25) B dX9_behind_25 (v := (1 : Int32)) rfl ?_
        refine kw_isub (pc := 26) B dX9_behind_26 ?_
        refine kw_callV (pc := 27) B dX9_behind_27 (ci := 8) rfl (ih c (a1 - 1)) q2308 q2298 q2299 q98 q2300 ⟨by decide, by decide, rfl⟩ (As := [kI (a1 - 1)]) rfl (st := []) rfl (Nat.le_of_ble_eq_true rfl) (by omega) (by omega) kw_qA (fun v => ?_)
        refine kw_goto (pc := 30) (tgt := 34) B dX9_behind_30 rfl ?_
        exact kw_aret rfl B dX9_behind_34 rfl
    · refine kw_aload_n (pc := 4) B dX9_behind_4 rfl 0 rfl ?_
      exact kw_aret rfl B dX9_behind_5 rfl
theorem ct_X9_behind (a0 : Option Nat) (a1 : Int32) (l : Launch) : kw_Met l yX9_behind (ws_ yX9_behind cX9_behind 4 (some (.object "RosaryCarvers$Refused"))) 24 400 [kA a0, kI a1] kw_eA (pm_X9_behind a0 a1) := ct_behind_n 9 a0 a1 l
