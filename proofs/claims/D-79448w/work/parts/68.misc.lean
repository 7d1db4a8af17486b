/-! ===== contracts out of walks; returns; throws; constants; casts; switches; copies ===== -/
def kw_args : Nat → List kw_L → List (Nat × kw_L)
  | _, [] => []
  | i, v :: vs => (i, v) :: kw_args (if kw_c v = 2 then i + 2 else i + 1) vs
theorem kw_args_ls (As : List kw_L) : ∀ i, lv_args i (kw_st As) = kw_ls (kw_args i As) := by
  induction As with
  | nil => exact fun _ => rfl
  | cons v vs ih =>
    intro i
    show (i, kw_v v) :: lv_args (if (kw_v v).category = 2 then i + 2 else i + 1) (kw_st vs) = (i, kw_v v) :: kw_ls (kw_args (if kw_c v = 2 then i + 2 else i + 1) vs)
    rw [kw_c_v, ih]
theorem kw_sl_len (As : List kw_L) : (lg_sl (kw_st As)).length = (As.map kw_c).sum := by
  induction As with
  | nil => rfl
  | cons v vs ih =>
    have h : lg_sl (kw_st (v :: vs)) = (if (kw_v v).category = 2 then [.val (kw_v v), .second] else [.val (kw_v v)]) ++ lg_sl (kw_st vs) := rfl
    rw [h, List.length_append, ih, kw_c_v]
    show _ = kw_c v + _
    congr 1
    match v with
    | .inl x => rfl
    | .inr (.inl x) => rfl
    | .inr (.inr (.inl x)) => rfl
    | .inr (.inr (.inr (.inl x))) => rfl
    | .inr (.inr (.inr (.inr x))) => rfl
theorem kw_ofW {l : Launch} {y : MethodName} {ws ws' : List Cond} {rm : Room} {Pc : Array Value → State → Prop} {Qc : Array Value → State → Outcome → State → Prop} {XC : String → Addr → State → State → Prop} {mc ms : Nat} {free : Addr → Prop} {cc : ByteArray} {maxL : Nat} {ret : Option FieldType}
    (hy : plainFor y = true) (hw : ws = Cond.code y cc maxL ret :: ws')
    (body : ∀ p e s m args below meth c s₁, BodyLoose p l y (headSpec ws rm) cc maxL ret e s m args below meth c s₁ → c.maxLocals = maxL → (∀ x ∈ c.exceptionTable.toList, False) → Pc args s →
      W p l e (headSpec ws rm).room s m args below meth c s.heap [] 0 0 (vx_MQ below Qc XC args s mc ms free) (entryFrame m args maxL)) : vx_Met l y ws rm Pc Qc XC mc ms free := by
  refine MetFree.of_bodySF (code := cc) (maxLocals := maxL) (ret := ret) hy ?_ ?_
  · intro args s m h hn
    obtain ⟨meth, c, h1, h2, h3, h4, h5, h6, -, -⟩ := Cond.code_spec hn (atoms_spec (ws := ws) h _ (by rw [hw]; exact List.mem_cons_self))
    exact ⟨meth, c, h1, h2, h3, h4, h5, h6⟩
  · intro p e s m args below meth c s₁ B hml hP _
    have hh0 : s₁.heap = s.heap := by rw [B.state]; rfl
    have ht : ∀ x ∈ c.exceptionTable.toList, False := by
      obtain ⟨meth9, c9, h1, h2, -, -, -, -, h7, -⟩ := Cond.code_spec B.named (atoms_spec (ws := ws) B.pre _ (by rw [hw]; exact List.mem_cons_self))
      cases Option.some.inj (h1.symm.trans B.method)
      cases Option.some.inj (h2.symm.trans (Stand.of_body B).code)
      intro x hx
      rw [Array.isEmpty_iff.mp h7] at hx
      cases hx
    obtain ⟨t, a1, o, b1, b2, b3⟩ := body p e s m args below meth c s₁ B hml ht hP s₁ hh0 (Stand.of_body B)
    exact ⟨t, o, a1, b1, b2, b3⟩
theorem kw_met {ρ : Type} {y : MethodName} {cc : ByteArray} {nL fr lo : Nat} {rt : Option FieldType} {As : List kw_L} {enc : ρ → kw_R} {x : km_M ρ} (hy : plainFor y = true) (hn : (As.map kw_c).sum ≤ nL) (body : ∀ E, kw_ok E cc y.cls y.name nL rt fr lo [] → kw_W E enc 0 (kw_args 0 As) [] x) (l : Launch) : kw_Met l y (ws_ y cc nL rt) fr lo As enc x := by
  intro G σ r τ h0 hx
  refine kw_ofW (cc := cc) (maxL := nL) (ret := rt) hy rfl ?_
  intro p e s m args below meth c s₁ B hml htab hv
  obtain ⟨rfl, hP, hW⟩ := hv
  obtain ⟨m1, m2, -⟩ := x.2 _ _ _ hx
  have hts := atoms_spec (ws := ws_ y cc nL rt) B.pre
  have hts : ∀ w ∈ lw_all, w.before _ s = true := fun w h => hts w (List.mem_cons_of_mem _ h)
  have htb : c.exceptionTable.toList = [] := by
    cases hc : c.exceptionTable.toList with
    | nil => rfl
    | cons z zs => exact (htab z (by rw [hc]; exact List.mem_cons_self)).elim
  have hP' := hP
  obtain ⟨ws, w1, w2, w3, w4, w5, w6, w7, w8, w9⟩ := hP'
  rw [lg_entry_eq]
  have hl := lv_entry (kw_st As) (n := nL) (by rw [kw_sl_len]; exact hn)
  rw [kw_args_ls] at hl
  have hgo := body (p, l, e, ({ frames := fr, cells := τ.2.1 - σ.2.1, slots := τ.2.2.1 - σ.2.2.1, locals := lo } : Room), s, m, (kw_st As).toArray, below, meth, c, G, σ.2.1, σ.2.2.1) ⟨B.exec, B.bytes, hml, B.returns, findClass_of_methodNamed B.named, hts, B.notSynchronized, (name_of_methodNamed B.named B.method).1, htb, rfl, rfl, h0, hW, w6, by rw [← w6]; exact w7, w5⟩ σ r τ s.heap [] 0 0 _ hx (by show τ.2.1 ≤ σ.2.1 + (τ.2.1 - σ.2.1); omega) (by show τ.2.2.1 ≤ σ.2.2.1 + (τ.2.2.1 - σ.2.2.1); omega) ⟨hP, (fun _ h => by cases h), rfl, rfl⟩ (by rw [hml]; exact hl)
  exact hgo
section KWM
variable {ρ : Type} {E : kw_E} {enc : ρ → kw_R} {cc : ByteArray} {own nm : String} {ret : Option FieldType} {nL fr lo pc : Nat} {hh : List ExceptionTableEntry} {L : List (Nat × kw_L)} {st : List kw_L}
/-- the end: what the frame leaves -/
theorem kw_end {v : Option Value} {r : ρ} (henc : enc r = .inl v) {vs : List Value} (hvs : kw_st st = vs)
    (hret : ∀ {p : Program} {l : Launch} {e : Env} {R : Room} {s : State} {m : MethodId} {args : Array Value} {below : List Frame} {meth : Method} {c : Code} {G : kw_G} {n0 z0 : Nat}, E = (p, l, e, R, s, m, args, below, meth, c, G, n0, z0) → ∀ (H : Heap) (locs : List Loc) (cells slots : Nat) (ls : Array Slot) (Qc : Array Value → State → Outcome → State → Prop) (free : Addr → Prop), (∀ t : State, t.heap = H → s.WarmedH t.vm → Qc args s (.returned v) t) → (∀ q ∈ locs, free q.base) → W p l e R s m args below meth c H locs cells slots (MQ below Qc args s cells slots free) (F0 m pc ls vs)) : kw_W E enc pc L st (km_pure r) := by
  obtain ⟨p, l, e, R, s, m, args, below, meth, c, G, n0, z0⟩ := E
  intro σ r1 τ H locs cells slots ls hx1 h1 h2 hS hl
  have e1 := Option.some.inj hx1
  cases e1
  obtain ⟨hP, hloc, hc1, hc2⟩ := hS
  have d1 : σ.2.1 - n0 = cells := by omega
  have d2 : σ.2.2.1 - z0 = slots := by omega
  rw [d1, d2, hvs]
  exact vx_ret (hret rfl H locs cells slots ls _ _ (fun t ht _ => ⟨⟨v, henc, rfl⟩, by rw [ht]; exact hP⟩) hloc)
theorem kw_iret (B : kw_ok E cc own nm nL (some .int) fr lo hh) (d : decode cc pc = .ok (.ireturn, 1)) {v : Int32} {r : ρ} (henc : enc r = .inl (some (.int v))) : kw_W E enc pc L [kI v] (km_pure r) := by
  refine kw_end henc (vs := [.int v]) rfl ?_
  intro p l e R s m args below meth c G n0 z0 hE H locs cells slots ls Qc free hq hf
  subst hE
  obtain ⟨hx, hb, hml, hr, hown, hts, hlk, -⟩ := B
  exact W.iret hx hb hr hq hf d hlk
theorem kw_lret (B : kw_ok E cc own nm nL (some .long) fr lo hh) (d : decode cc pc = .ok (.lreturn, 1)) {v : Int64} {r : ρ} (henc : enc r = .inl (some (.long v))) : kw_W E enc pc L [kJ v] (km_pure r) := by
  refine kw_end henc (vs := [.long v]) rfl ?_
  intro p l e R s m args below meth c G n0 z0 hE H locs cells slots ls Qc free hq hf
  subst hE
  obtain ⟨hx, hb, hml, hr, hown, hts, hlk, -⟩ := B
  exact W.lret hx hb hr hq hf d hlk
theorem kw_dret (B : kw_ok E cc own nm nL (some .double) fr lo hh) (d : decode cc pc = .ok (.dreturn, 1)) {v : UInt64} {r : ρ} (henc : enc r = .inl (some (.double v))) : kw_W E enc pc L [kD v] (km_pure r) := by
  refine kw_end henc (vs := [.double v]) rfl ?_
  intro p l e R s m args below meth c G n0 z0 hE H locs cells slots ls Qc free hq hf
  subst hE
  obtain ⟨hx, hb, hml, hr, hown, hts, hlk, -⟩ := B
  exact W.dret hx hb hr hq hf d hlk
theorem kw_fret (B : kw_ok E cc own nm nL (some .float) fr lo hh) (d : decode cc pc = .ok (.freturn, 1)) {v : UInt32} {r : ρ} (henc : enc r = .inl (some (.float v))) : kw_W E enc pc L [kF v] (km_pure r) := by
  refine kw_end henc (vs := [.float v]) rfl ?_
  intro p l e R s m args below meth c G n0 z0 hE H locs cells slots ls Qc free hq hf
  subst hE
  obtain ⟨hx, hb, hml, hr, hown, hts, hlk, -⟩ := B
  exact W.fret hx hb hr hq hf d hlk
theorem kw_vret (B : kw_ok E cc own nm nL none fr lo hh) (d : decode cc pc = .ok (.return_, 1)) {r : ρ} (henc : enc r = .inl none) : kw_W E enc pc L [] (km_pure r) := by
  refine kw_end henc (vs := []) rfl ?_
  intro p l e R s m args below meth c G n0 z0 hE H locs cells slots ls Qc free hq hf
  subst hE
  obtain ⟨hx, hb, hml, hr, hown, hts, hlk, -⟩ := B
  exact W.vret hx hb hr hq hf d hlk
theorem kw_aret {rt : FieldType} (hrt : kw_isR rt = true) (B : kw_ok E cc own nm nL (some rt) fr lo hh) (d : decode cc pc = .ok (.areturn, 1)) {v : Option Nat} {r : ρ} (henc : enc r = .inl (some (va_rf v))) : kw_W E enc pc L [kA v] (km_pure r) := by
  refine kw_end henc (vs := [va_rf v]) rfl ?_
  intro p l e R s m args below meth c G n0 z0 hE H locs cells slots ls Qc free hq hf
  subst hE
  obtain ⟨hx, hb, hml, hr, hown, hts, hlk, -⟩ := B
  refine W.aret hx hb hr ?_ ?_ hq hf d hlk
  · cases rt <;> first | exact Or.inl ⟨_, rfl⟩ | exact Or.inr ⟨_, rfl⟩ | cases hrt
  · cases v <;> first | exact Or.inl rfl | exact Or.inr ⟨_, rfl⟩
/-- a number of a small type is returned -/
theorem kw_zret {rt : FieldType} (B : kw_ok E cc own nm nL (some rt) fr lo hh) (d : decode cc pc = .ok (.ireturn, 1)) {v : Int32} {g : Int32 → ρ} (henc : ∀ v, enc (g v) = .inl (some (.int v))) : kw_W E enc pc L [kI v] (km_bind (km_ret rt v) (fun v => km_pure (g v))) := by
  obtain ⟨p, l, e, R, s, m, args, below, meth, c, G, n0, z0⟩ := E
  obtain ⟨hx, hb, hml, hr, hown, hts, hlk, -⟩ := B
  intro σ r1 τ H locs cells slots ls hx1 h1 h2 hS hl
  obtain ⟨x, u, e1, e2⟩ := km_bind_some hx1
  obtain ⟨e3, e4⟩ := km_rd_some e1
  subst e4
  split at e3
  · next hfit =>
    cases e3
    have e5 := Option.some.inj e2
    cases e5
    obtain ⟨hP, hloc, hc1, hc2⟩ := hS
    have d1 : τ.2.1 - n0 = cells := by omega
    have d2 : τ.2.2.1 - z0 = slots := by omega
    rw [d1, d2]
    exact vx_ret (W.zret (v := v) hx hb hr (km_fitB_ok hfit).1 (fun t ht _ => ⟨⟨_, henc v, rfl⟩, by rw [ht]; exact hP⟩) hloc d hlk)
  · cases e3
/-- athrow, not caught here -/
theorem kw_athrow (B : kw_ok E cc own nm nL ret fr lo hh) (d : decode cc pc = .ok (.athrow, 1)) (hno : ∀ z ∈ hh, covers z pc = false) {α : Type} {enc' : α → kw_R} {r : Option Nat} : kw_W E (kw_x enc') pc L (kA r :: st) (km_throw (α := α) r) := by
  obtain ⟨p, l, e, R, s, m, args, below, meth, c, G, n0, z0⟩ := E
  obtain ⟨hx, hb, hml, hr, hown, hts, hlk, hnm, hhh, hfr, hlo, h0, hW, hsz, hbase, hold⟩ := B
  intro σ r1 τ H locs cells slots ls hx1 h1 h2 hS hl
  obtain ⟨e3, e4⟩ := km_rd_some hx1
  subst e4
  split at e3
  · next a c9 fs e5 =>
    cases e3
    obtain ⟨rfl, ha⟩ := km_ob_some e5
    have hK := kw_K h0 hW
    obtain ⟨rr, cell, g1, g2, g3, g4, g5, g6⟩ := kw_obj hS.1 ha
    obtain ⟨hP, hloc, hc1, hc2⟩ := hS
    have hcv : cell.vm = .none := by
      obtain ⟨ws, q1, q2, -⟩ := hP
      obtain ⟨k, hk⟩ := q1 a _ ha
      obtain ⟨r9, w1, cell9, w2, w3, w4, w5⟩ := q2 k _ hk
      cases Option.some.inj (g2.symm.trans w2)
      exact w4
    refine vx_athrow hx hb d (vx_out (E := rr.1) (fun z hz => by rw [hhh] at hz; exact hno z hz) hlk g2 hcv (by rw [g3]; exact (hK.1 c9 _ g1).2.1) (fun t ht _ => ⟨rfl, by rw [ht]; exact hP, c9, fs, rr, ha, g1, rfl⟩) hloc (by omega) (by omega))
  · cases e3
/-- Object's constructor -/
theorem kw_objInit (B : kw_ok E cc own nm nL ret fr lo hh) {idx : Nat} (d : decode cc pc = .ok (.invokespecial idx, 3)) (w1 : Cond.methodLink own idx Lib.objectInit ∈ lw_all) (w2 : Cond.instanceMethod Lib.objectInit ∈ lw_all) (w3 : Cond.code Lib.objectInit ⟨#[0xb1]⟩ 1 none ∈ lw_all) (hfr : 1 ≤ fr) (hlo : (st.map kw_c).sum + 12 ≤ lo) {r : Option Nat} {x : Unit → km_M ρ} (k : kw_W E enc (pc + 3) L st (x ())) : kw_W E enc pc L (kA r :: st) (km_bind (km_nn r) x) := by
  obtain ⟨p, l, e, R, s, m, args, below, meth, c, G, n0, z0⟩ := E
  obtain ⟨hx, hb, hml, hr, hown, hts, hlk, hnm, hhh, hfr1, hlo1, h0, hW, hsz, hbase, hold⟩ := B
  intro σ r1 τ H locs cells slots ls hx1 h1 h2 hS hl
  obtain ⟨u9, σ9, i1, hx2⟩ := km_bind_some hx1
  obtain ⟨e9, a9, rfl⟩ := km_nn_some i1
  rw [e9] at hx2
  refine W.objInit hx hb hown (hts _ w1) (hts _ w2) (hts _ w3) rfl hl.1 rfl d (by rw [hfr1]; exact hfr) ?_ (k σ r1 τ H locs cells slots ls hx2 h1 h2 hS hl)
  rw [hlo1]
  show 2 * 0 + ((kw_st st).map fun v => v.category).sum + 12 ≤ lo
  rw [kw_st_cat]
  omega
/-- a text constant -/
theorem kw_ldcS (B : kw_ok E cc own nm nL ret fr lo hh) {index i : Nat} {tx : String} (d : decode cc pc = .ok (.ldc index, 2)) (hk : (i, own, index, tx) ∈ kw_strs) {f : Option Nat → km_M ρ} (k : ∀ v, kw_W E enc (pc + 2) L (kA v :: st) (f v)) : kw_W E enc pc L st (km_bind (km_k i) f) := by
  obtain ⟨p, l, e, R, s, m, args, below, meth, c, G, n0, z0⟩ := E
  obtain ⟨hx, hb, hml, hr, hown, hts, hlk, hnm, hhh, hfr1, hlo1, ⟨b0, -, -, -, -, -, hstr, -⟩, hW, hsz, hbase, hold⟩ := B
  intro σ r1 τ H locs cells slots ls hx1 h1 h2 hS hl
  obtain ⟨u9, σ9, i1, hx2⟩ := km_bind_some hx1
  obtain ⟨e3, e4⟩ := km_rd_some i1
  rw [e4] at hx2
  obtain ⟨a, ha, hR⟩ := hstr _ hk
  have hG : σ.1 = G.2.2.2 := by
    obtain ⟨ws, -, -, -, -, -, -, -, h8, -⟩ := hS.1
    exact h8
  have e5 : u9 = some a := by rw [← ha, ← hG]; exact (Option.some.inj e3).symm
  subst e5
  exact va_ldcS hx hb hown (vk_R.warm hW hR) d (k _ σ r1 τ H locs cells slots ls hx2 h1 h2 hS hl)
theorem kw_ldcSW (B : kw_ok E cc own nm nL ret fr lo hh) {index i : Nat} {tx : String} (d : decode cc pc = .ok (.ldc_w index, 3)) (hk : (i, own, index, tx) ∈ kw_strs) {f : Option Nat → km_M ρ} (k : ∀ v, kw_W E enc (pc + 3) L (kA v :: st) (f v)) : kw_W E enc pc L st (km_bind (km_k i) f) := by
  obtain ⟨p, l, e, R, s, m, args, below, meth, c, G, n0, z0⟩ := E
  obtain ⟨hx, hb, hml, hr, hown, hts, hlk, hnm, hhh, hfr1, hlo1, ⟨b0, -, -, -, -, -, hstr, -⟩, hW, hsz, hbase, hold⟩ := B
  intro σ r1 τ H locs cells slots ls hx1 h1 h2 hS hl
  obtain ⟨u9, σ9, i1, hx2⟩ := km_bind_some hx1
  obtain ⟨e3, e4⟩ := km_rd_some i1
  rw [e4] at hx2
  obtain ⟨a, ha, hR⟩ := hstr _ hk
  have hG : σ.1 = G.2.2.2 := by
    obtain ⟨ws, -, -, -, -, -, -, -, h8, -⟩ := hS.1
    exact h8
  have e5 : u9 = some a := by rw [← ha, ← hG]; exact (Option.some.inj e3).symm
  subst e5
  have hR2 := vk_R.warm hW hR
  intro T hT X
  obtain ⟨t, a1, b1⟩ := k _ σ r1 τ H locs cells slots ls hx2 h1 h2 hS hl T hT X
  exact ⟨t, X.ldcStringW hx hown (text := tx) (a := a) hR2.1 hR2.2 (g := F0 m pc ls (kw_st st)) rfl (by rw [hb]; exact d) t a1, b1⟩
theorem kw_vaS {G : kw_G} {s : State} {σ : km_S} {H : Heap} {locs : List Loc} {n0 : Nat} (hP : kw_P G σ H) (hloc : ∀ q ∈ locs, kw_A G q.base) (hsz : s.heap.size = n0) (hn : n0 ≤ σ.2.1) (hold : ∀ q, q < kw_base G → s.heap[q]? = G.1.heap[q]?) : va_S (kw_A G) s.heap H locs := by
  obtain ⟨ws, -, -, -, -, h5, h6, -⟩ := hP
  exact ⟨by omega, fun q _ h2 => by rw [h5 q (Nat.not_le.mp h2), hold q (Nat.not_le.mp h2)], hloc⟩
theorem kw_Z {G : kw_G} {s : State} {C n d : String} {v : Value} (hW : G.1.WarmedH s.vm) (hold : ∀ q, q < kw_base G → s.heap[q]? = G.1.heap[q]?) (h : va_Z C n d v (kw_A G) G.1 G.1.heap) : va_Z C n d v (kw_A G) s s.heap := va_Z.moved hW.alike (va_Z.kept h (fun a _ h2 => hold a (Nat.not_le.mp h2)))
/-- getstatic of a reference -/
theorem kw_getsR (B : kw_ok E cc own nm nL ret fr lo hh) {index i : Nat} {C n dd ref : String} (d : decode cc pc = .ok (.getstatic index, 3)) (hk : (i, C, n, dd) ∈ kw_statR) (w : Cond.fieldLink own index ref n dd ∈ lw_all) (href : ref = C) {f : Option Nat → km_M ρ} (k : ∀ v, kw_W E enc (pc + 3) L (kA v :: st) (f v)) : kw_W E enc pc L st (km_bind (km_k i) f) := by
  obtain ⟨p, l, e, R, s, m, args, below, meth, c, G, n0, z0⟩ := E
  obtain ⟨hx, hb, hml, hr, hown, hts, hlk, hnm, hhh, hfr1, hlo1, ⟨b0, -, -, -, hstR, -⟩, hW, hsz, hbase, hold⟩ := B
  intro σ r1 τ H locs cells slots ls hx1 h1 h2 hS hl
  obtain ⟨u9, σ9, i1, hx2⟩ := km_bind_some hx1
  obtain ⟨e3, e4⟩ := km_rd_some i1
  rw [e4] at hx2
  have hG : σ.1 = G.2.2.2 := by
    obtain ⟨ws, -, -, -, -, -, -, -, h8, -⟩ := hS.1
    exact h8
  have e5 : u9 = G.2.2.2 i := by rw [← hG]; exact (Option.some.inj e3).symm
  subst href
  refine va_gets hx hb (kw_Z hW hold (hstR _ hk)) (kw_vaS hS.1 hS.2.1 hsz (by have := hS.2.2.1; omega) hold) hown (hts _ w) (fun x h => h) d ?_
  have hgo := k u9 σ r1 τ H locs cells slots ls hx2 h1 h2 hS hl
  rw [e5] at hgo
  exact hgo
/-- getstatic of a number that the start tells -/
theorem kw_getsI (B : kw_ok E cc own nm nL ret fr lo hh) {index : Nat} {v : Int32} {C n dd ref : String} (d : decode cc pc = .ok (.getstatic index, 3)) (hk : (C, n, dd, v) ∈ kw_statI) (w : Cond.fieldLink own index ref n dd ∈ lw_all) (href : ref = C) {x : km_M ρ} (k : kw_W E enc (pc + 3) L (kI v :: st) x) : kw_W E enc pc L st x := by
  obtain ⟨p, l, e, R, s, m, args, below, meth, c, G, n0, z0⟩ := E
  obtain ⟨hx, hb, hml, hr, hown, hts, hlk, hnm, hhh, hfr1, hlo1, ⟨b0, -, -, -, -, hstI, -⟩, hW, hsz, hbase, hold⟩ := B
  intro σ r1 τ H locs cells slots ls hx1 h1 h2 hS hl
  subst href
  exact va_gets hx hb (kw_Z hW hold (hstI _ hk)) (kw_vaS hS.1 hS.2.1 hsz (by have := hS.2.2.1; omega) hold) hown (hts _ w) (fun x h => h) d (k σ r1 τ H locs cells slots ls hx1 h1 h2 hS hl)
/-- Object[].class -/
theorem kw_ldcM (B : kw_ok E cc own nm nL ret fr lo hh) {index : Nat} (d : decode cc pc = .ok (.ldc index, 2)) (w : Cond.classLink own index "[Ljava/lang/Object;" ∈ lw_all) {f : Option Nat → km_M ρ} (k : ∀ v, kw_W E enc (pc + 2) L (kA v :: st) (f v)) : kw_W E enc pc L st (km_bind (km_k 1) f) := by
  obtain ⟨p, l, e, R, s, m, args, below, meth, c, G, n0, z0⟩ := E
  obtain ⟨hx, hb, hml, hr, hown, hts, hlk, hnm, hhh, hfr1, hlo1, ⟨b0, -, -, -, -, -, -, -, mi, hmi, hM, hDc⟩, hW, hsz, hbase, hold⟩ := B
  intro σ r1 τ H locs cells slots ls hx1 h1 h2 hS hl
  obtain ⟨u9, σ9, i1, hx2⟩ := km_bind_some hx1
  obtain ⟨e3, e4⟩ := km_rd_some i1
  rw [e4] at hx2
  have hG : σ.1 = G.2.2.2 := by
    obtain ⟨ws, -, -, -, -, -, -, -, h8, -⟩ := hS.1
    exact h8
  have e5 : u9 = some mi := by rw [← hmi, ← hG]; exact (Option.some.inj e3).symm
  subst e5
  exact va_ldcM hx hb hown (hts _ w) (va_Mi.moved hW.alike hM) d (k _ σ r1 τ H locs cells slots ls hx2 h1 h2 hS hl)
/-- getClass of an Object[] -/
theorem kw_getC (B : kw_ok E cc own nm nL ret fr lo hh) {index : Nat} (d : decode cc pc = .ok (.invokevirtual index, 3)) (w1 : Cond.methodLink own index ⟨"java/lang/Object", "getClass", "()Ljava/lang/Class;"⟩ ∈ lw_all) (w2 : Cond.selects "[Ljava/lang/Object;" ⟨"java/lang/Object", "getClass", "()Ljava/lang/Class;"⟩ ⟨"java/lang/Object", "getClass", "()Ljava/lang/Class;"⟩ ∈ lw_all) (w3 : Cond.instanceMethod ⟨"java/lang/Object", "getClass", "()Ljava/lang/Class;"⟩ ∈ lw_all) (w4 : Cond.native ⟨"java/lang/Object", "getClass", "()Ljava/lang/Class;"⟩ ∈ lw_all) (hfr : 1 ≤ fr) (hlo : (st.map kw_c).sum + 14 ≤ lo) {r : Option Nat} {f : Option Nat → km_M ρ} (k : ∀ v, kw_W E enc (pc + 3) L (kA v :: st) (f v)) : kw_W E enc pc L (kA r :: st) (km_bind (km_getC r) f) := by
  obtain ⟨p, l, e, R, s, m, args, below, meth, c, G, n0, z0⟩ := E
  obtain ⟨hx, hb, hml, hr, hown, hts, hlk, hnm, hhh, hfr1, hlo1, h0, hW, hsz, hbase, hold⟩ := B
  intro σ r1 τ H locs cells slots ls hx1 h1 h2 hS hl
  obtain ⟨u9, σ9, i1, hx2⟩ := km_bind_some hx1
  obtain ⟨e3, e4⟩ := km_rd_some i1
  rw [e4] at hx2
  split at e3
  · next a n q e6 =>
    obtain ⟨rfl, ha⟩ := km_ar_some e6
    have hK := kw_K h0 hW
    obtain ⟨b0, -, -, -, -, -, -, -, mi, hmi, hM, hDc, -⟩ := h0
    have hG : σ.1 = G.2.2.2 := by
      obtain ⟨ws, -, -, -, -, -, -, -, h8, -⟩ := hS.1
      exact h8
    have e5 : u9 = some mi := by rw [← hmi, ← hG]; exact (Option.some.inj e3).symm
    subst e5
    have hcell : ∃ cell : Cell, H[a]? = some cell ∧ cell.vm.isStatics = false ∧ s.vm.findClass "[Ljava/lang/Object;" = some cell.cls := by
      obtain ⟨ws, q1, q2, -⟩ := hS.1
      obtain ⟨j, hj⟩ := q1 a _ ha
      have h3 : H[a]? = some (vp_cell (G.2.2.1 4) (n, q)) := q2 j _ hj
      rw [kw_av_cell] at h3
      exact ⟨_, h3, rfl, va_nmO (hK.2 4 _ rfl).2 rfl⟩
    exact va_getC hx hb hl.1.symm hown (hts _ w1) (va_Dc.use (va_Dc.moved hW.alike hDc)) (hts _ w2) (hts _ w3) (hts _ w4) (va_Mi.moved hW.alike hM) hcell (by rw [hfr1]; exact hfr) (by have h9 := kw_st_cat st; unfold kw_st at h9; rw [h9, hlo1]; exact hlo) d (k _ σ r1 τ H locs cells slots ls hx2 h1 h2 hS hl)
  · next a n q e6 =>
    obtain ⟨rfl, ha⟩ := km_ar_some e6
    have hK := kw_K h0 hW
    obtain ⟨b0, -, -, -, -, -, -, -, mi, hmi, hM, hDc, a0, cell, z1, z2, z3, z4⟩ := h0
    have hG : σ.1 = G.2.2.2 := by
      obtain ⟨ws, -, -, -, -, -, -, -, h8, -⟩ := hS.1
      exact h8
    split at e3
    · next hz =>
      have e5 : u9 = some mi := by rw [← hmi, ← hG]; exact (Option.some.inj e3).symm
      subst e5
      have haa : a0 = a := by rw [hG, z1] at hz; exact Option.some.inj hz
      subst haa
      have hcell : ∃ cell : Cell, H[a0]? = some cell ∧ cell.vm.isStatics = false ∧ s.vm.findClass "[Ljava/lang/Object;" = some cell.cls := by
        obtain ⟨ws, q1, q2, q3, q4, q5, -⟩ := hS.1
        exact ⟨cell, by rw [q5 a0 (q4 a0 _ ha).1]; exact z2, z3, by rw [hW.alike.findClass]; exact z4⟩
      exact va_getC hx hb hl.1.symm hown (hts _ w1) (va_Dc.use (va_Dc.moved hW.alike hDc)) (hts _ w2) (hts _ w3) (hts _ w4) (va_Mi.moved hW.alike hM) hcell (by rw [hfr1]; exact hfr) (by have h9 := kw_st_cat st; unfold kw_st at h9; rw [h9, hlo1]; exact hlo) d (k _ σ r1 τ H locs cells slots ls hx2 h1 h2 hS hl)
    · cases e3
  · cases e3
/-! arithmetic that may throw -/
theorem kw_idiv (B : kw_ok E cc own nm nL ret fr lo hh) (d : decode cc pc = .ok (.idiv, 1)) {v w : Int32} {f : Int32 → km_M ρ} (k : ∀ x, kw_W E enc (pc + 1) L (kI x :: st) (f x)) : kw_W E enc pc L (kI w :: kI v :: st) (km_bind (km_div v w) f) := by
  obtain ⟨p, l, e, R, s, m, args, below, meth, c, G, n0, z0⟩ := E
  obtain ⟨hx, hb, -⟩ := B
  intro σ r1 τ H locs cells slots ls hx1 h1 h2 hS hl
  obtain ⟨u9, σ9, i1, hx2⟩ := km_bind_some hx1
  obtain ⟨e3, e4⟩ := km_rd_some i1
  rw [e4] at hx2
  split at e3
  · cases e3
  · next hne =>
    cases e3
    exact lv_idiv hx hb d hne (k _ σ r1 τ H locs cells slots ls hx2 h1 h2 hS hl)
theorem kw_irem (B : kw_ok E cc own nm nL ret fr lo hh) (d : decode cc pc = .ok (.irem, 1)) {v w : Int32} {f : Int32 → km_M ρ} (k : ∀ x, kw_W E enc (pc + 1) L (kI x :: st) (f x)) : kw_W E enc pc L (kI w :: kI v :: st) (km_bind (km_rem v w) f) := by
  obtain ⟨p, l, e, R, s, m, args, below, meth, c, G, n0, z0⟩ := E
  obtain ⟨hx, hb, -⟩ := B
  intro σ r1 τ H locs cells slots ls hx1 h1 h2 hS hl
  obtain ⟨u9, σ9, i1, hx2⟩ := km_bind_some hx1
  obtain ⟨e3, e4⟩ := km_rd_some i1
  rw [e4] at hx2
  split at e3
  · cases e3
  · next hne =>
    cases e3
    exact lv_irem hx hb d hne (k _ σ r1 τ H locs cells slots ls hx2 h1 h2 hS hl)
theorem kw_ddiv (B : kw_ok E cc own nm nL ret fr lo hh) (d : decode cc pc = .ok (.ddiv, 1)) {v w : UInt64} {f : UInt64 → km_M ρ} (k : ∀ x, kw_W E enc (pc + 1) L (kD x :: st) (f x)) : kw_W E enc pc L (kD w :: kD v :: st) (km_bind (km_ddiv v w) f) := by
  obtain ⟨p, l, e, R, s, m, args, below, meth, c, G, n0, z0⟩ := E
  obtain ⟨hx, hb, -⟩ := B
  intro σ r1 τ H locs cells slots ls hx1 h1 h2 hS hl
  obtain ⟨u9, σ9, i1, hx2⟩ := km_bind_some hx1
  obtain ⟨e3, e4⟩ := km_rd_some i1
  rw [e4] at hx2
  by_cases hne : vf_n64 (FP.ddiv v w)
  · rw [if_pos hne] at e3
    cases e3
    exact lv_ddiv hx hb d hne (k _ σ r1 τ H locs cells slots ls hx2 h1 h2 hS hl)
  · rw [if_neg hne] at e3
    cases e3
theorem kw_fdiv (B : kw_ok E cc own nm nL ret fr lo hh) (d : decode cc pc = .ok (.fdiv, 1)) {v w : UInt32} {f : UInt32 → km_M ρ} (k : ∀ x, kw_W E enc (pc + 1) L (kF x :: st) (f x)) : kw_W E enc pc L (kF w :: kF v :: st) (km_bind (km_fdiv v w) f) := by
  obtain ⟨p, l, e, R, s, m, args, below, meth, c, G, n0, z0⟩ := E
  obtain ⟨hx, hb, -⟩ := B
  intro σ r1 τ H locs cells slots ls hx1 h1 h2 hS hl
  obtain ⟨u9, σ9, i1, hx2⟩ := km_bind_some hx1
  obtain ⟨e3, e4⟩ := km_rd_some i1
  rw [e4] at hx2
  by_cases hne : vf_n32 (FP.fdiv v w)
  · rw [if_pos hne] at e3
    cases e3
    exact lv_fdiv hx hb d hne (k _ σ r1 τ H locs cells slots ls hx2 h1 h2 hS hl)
  · rw [if_neg hne] at e3
    cases e3
theorem kw_f2d (B : kw_ok E cc own nm nL ret fr lo hh) (d : decode cc pc = .ok (.f2d, 1)) {v : UInt32} {f : UInt64 → km_M ρ} (k : ∀ x, kw_W E enc (pc + 1) L (kD x :: st) (f x)) : kw_W E enc pc L (kF v :: st) (km_bind (km_f2d v) f) := by
  obtain ⟨p, l, e, R, s, m, args, below, meth, c, G, n0, z0⟩ := E
  obtain ⟨hx, hb, -⟩ := B
  intro σ r1 τ H locs cells slots ls hx1 h1 h2 hS hl
  obtain ⟨u9, σ9, i1, hx2⟩ := km_bind_some hx1
  obtain ⟨e3, e4⟩ := km_rd_some i1
  rw [e4] at hx2
  by_cases hne : vf_n64 (FP.f2d v)
  · rw [if_pos hne] at e3
    cases e3
    exact lv_f2d hx hb d hne (k _ σ r1 τ H locs cells slots ls hx2 h1 h2 hS hl)
  · rw [if_neg hne] at e3
    cases e3
theorem kw_mmax (B : kw_ok E cc own nm nL ret fr lo hh) {index : Nat} (d : decode cc pc = .ok (.invokestatic index, 3)) (w1 : Cond.methodLink own index Lib.Math.max.name ∈ lw_all) (w2 : Cond.static Lib.Math.max.name ∈ lw_all) (w3 : Cond.initialized "java/lang/Math" ∈ lw_all) (w4 : Cond.code Lib.Math.max.name Lib.Math.max.code 2 (some .int) ∈ lw_all) (hfr : 1 ≤ fr) (hlo : (st.map kw_c).sum + 13 ≤ lo) {v w : Int32} {x : km_M ρ} (k : kw_W E enc (pc + 3) L (kI (km_max v w) :: st) x) : kw_W E enc pc L (kI w :: kI v :: st) x := by
  obtain ⟨p, l, e, R, s, m, args, below, meth, c, G, n0, z0⟩ := E
  obtain ⟨hx, hb, hml, hr, hown, hts, hlk, hnm, hhh, hfr1, hlo1, h0, hW, hsz, hbase, hold⟩ := B
  intro σ r1 τ H locs cells slots ls hx1 h1 h2 hS hl
  obtain ⟨m1, m2, -⟩ := x.2 _ _ _ hx1
  obtain ⟨-, -, hc1, hc2⟩ := id hS
  exact va_mmax hx hb hl.1.symm hown (hts _ w1) (hts _ w2) (hts _ w3) (hts _ w4) (by rw [hfr1]; exact hfr) (by have h9 := kw_st_cat st; unfold kw_st at h9; rw [h9, hlo1]; exact hlo) (by omega) (by omega) d (k σ r1 τ H locs cells slots ls hx1 h1 h2 hS hl)
theorem kw_mmin (B : kw_ok E cc own nm nL ret fr lo hh) {index : Nat} (d : decode cc pc = .ok (.invokestatic index, 3)) (w1 : Cond.methodLink own index Lib.Math.min.name ∈ lw_all) (w2 : Cond.static Lib.Math.min.name ∈ lw_all) (w3 : Cond.initialized "java/lang/Math" ∈ lw_all) (w4 : Cond.code Lib.Math.min.name Lib.Math.min.code 2 (some .int) ∈ lw_all) (hfr : 1 ≤ fr) (hlo : (st.map kw_c).sum + 13 ≤ lo) {v w : Int32} {x : km_M ρ} (k : kw_W E enc (pc + 3) L (kI (km_min v w) :: st) x) : kw_W E enc pc L (kI w :: kI v :: st) x := by
  obtain ⟨p, l, e, R, s, m, args, below, meth, c, G, n0, z0⟩ := E
  obtain ⟨hx, hb, hml, hr, hown, hts, hlk, hnm, hhh, hfr1, hlo1, h0, hW, hsz, hbase, hold⟩ := B
  intro σ r1 τ H locs cells slots ls hx1 h1 h2 hS hl
  obtain ⟨m1, m2, -⟩ := x.2 _ _ _ hx1
  obtain ⟨-, -, hc1, hc2⟩ := id hS
  exact va_mmin hx hb hl.1.symm hown (hts _ w1) (hts _ w2) (hts _ w3) (hts _ w4) (by rw [hfr1]; exact hfr) (by have h9 := kw_st_cat st; unfold kw_st at h9; rw [h9, hlo1]; exact hlo) (by omega) (by omega) d (k σ r1 τ H locs cells slots ls hx1 h1 h2 hS hl)
/-! casts -/
def kw_cs (nm : String) (cs : List Nat) : Prop := ∀ c ∈ cs, ∃ r : vw_C, kcl[c]? = some r ∧ (r.1 = nm ∨ Cond.castable r.1 nm ∈ lw_tbl)
theorem kw_cast_ok (B : kw_ok E cc own nm nL ret fr lo hh) {index : Nat} {T : String} (d : decode cc pc = .ok (.checkcast index, 3)) (w : Cond.classLink own index T ∈ lw_all) {cs : List Nat} (hcs : kw_cs T cs) {r : Option Nat} {f : Unit → km_M ρ} (k : kw_W E enc (pc + 3) L (kA r :: st) (f ())) : kw_W E enc pc L (kA r :: st) (km_bind (km_cast cs r) f) := by
  obtain ⟨p, l, e, R, s, m, args, below, meth, c, G, n0, z0⟩ := E
  obtain ⟨hx, hb, hml, hr, hown, hts, hlk, hnm, hhh, hfr1, hlo1, h0, hW, hsz, hbase, hold⟩ := B
  intro σ r1 τ H locs cells slots ls hx1 h1 h2 hS hl
  obtain ⟨u9, σ9, i1, hx2⟩ := km_bind_some hx1
  obtain ⟨e3, e4⟩ := km_rd_some i1
  rw [e4] at hx2
  have hgo := k σ r1 τ H locs cells slots ls hx2 h1 h2 hS hl
  split at e3
  · exact lv_castN hx hb d hgo
  · split at e3
    · next a f9 c9 fs9 e6 =>
      split at e3
      · next hel =>
        obtain ⟨e7, ha⟩ := km_ob_some e6
        cases e7
        obtain ⟨rr, q1, q2⟩ := hcs c9 (by simpa using hel)
        have hre := kw_recv (kw_K h0 hW) hS.1 ha q1
        rcases q2 with q2 | q2
        · rw [q2] at hre
          exact va_castE hx hb hown (hts _ w) hre d hgo
        · exact va_castY hx hb hown (hts _ w) (kw_castW h0 hW q2) hre d hgo
      · cases e3
    · cases e3
theorem kw_inst (B : kw_ok E cc own nm nL ret fr lo hh) {index : Nat} {T : String} (d : decode cc pc = .ok (.instanceof index, 3)) (w : Cond.classLink own index T ∈ lw_all) {yes no : List Nat} (hcs : kw_cs T yes) (hno : ∀ c ∈ no, ∃ r : vw_C, kcl[c]? = some r ∧ (r.1, T) ∈ kw_noc) {r : Option Nat} {f : Int32 → km_M ρ} (k : ∀ v, kw_W E enc (pc + 3) L (kI v :: st) (f v)) : kw_W E enc pc L (kA r :: st) (km_bind (km_inst yes no r) f) := by
  obtain ⟨p, l, e, R, s, m, args, below, meth, c, G, n0, z0⟩ := E
  obtain ⟨hx, hb, hml, hr, hown, hts, hlk, hnm, hhh, hfr1, hlo1, h0, hW, hsz, hbase, hold⟩ := B
  intro σ r1 τ H locs cells slots ls hx1 h1 h2 hS hl
  obtain ⟨u9, σ9, i1, hx2⟩ := km_bind_some hx1
  obtain ⟨e3, e4⟩ := km_rd_some i1
  rw [e4] at hx2
  have hgo := k u9 σ r1 τ H locs cells slots ls hx2 h1 h2 hS hl
  split at e3
  · cases e3
    exact lv_instN hx hb d hgo
  · split at e3
    · next a f9 c9 fs9 e6 =>
      obtain ⟨e7, ha⟩ := km_ob_some e6
      cases e7
      split at e3
      · next hel =>
        cases e3
        obtain ⟨rr, q1, q2⟩ := hcs c9 (by simpa using hel)
        have hre := kw_recv (kw_K h0 hW) hS.1 ha q1
        rcases q2 with q2 | q2
        · rw [q2] at hre
          exact va_instE hx hb hown (hts _ w) hre d hgo
        · exact va_instY hx hb hown (hts _ w) (kw_castW h0 hW q2) hre d hgo
      · split at e3
        · next hel =>
          cases e3
          obtain ⟨rr, q1, q2⟩ := hno c9 (by simpa using hel)
          have hre := kw_recv (kw_K h0 hW) hS.1 ha q1
          obtain ⟨b0, -, -, -, -, -, -, hnc, -⟩ := h0
          exact va_instNo hx hb hown (hts _ w) (va_Nc.moved hW.alike (hnc _ q2)) hre d hgo
        · cases e3
    · cases e3
/-! switches -/
def kw_tall (E : kw_E) (enc : ρ → kw_R) (pc : Nat) (L : List (Nat × kw_L)) (st : List kw_L) : List Int → List (km_M ρ) → Prop
  | [], [] => True
  | o :: os, P :: Ps => (∃ tgt : Nat, (pc : Int) + o = (tgt : Int) ∧ kw_W E enc tgt L st P) ∧ kw_tall E enc pc L st os Ps
  | _, _ => False
theorem kw_tall_get : ∀ (os : List Int) (Ps : List (km_M ρ)), kw_tall E enc pc L st os Ps → ∀ (i : Nat) (d : km_M ρ), i < os.length → ∃ (o : Int) (tgt : Nat), os[i]? = some o ∧ (pc : Int) + o = (tgt : Int) ∧ kw_W E enc tgt L st (Ps.getD i d) := by
  intro os
  induction os with
  | nil => intro Ps h i d hi; cases hi
  | cons o os ih =>
    intro Ps h i d hi
    cases Ps with
    | nil => cases h
    | cons P Ps =>
      cases i with
      | zero =>
        obtain ⟨⟨tgt, h1, h2⟩, -⟩ := h
        exact ⟨o, tgt, rfl, h1, h2⟩
      | succ i =>
        obtain ⟨o2, tgt, g1, g2, g3⟩ := ih Ps h.2 i d (by simpa using hi)
        exact ⟨o2, tgt, g1, g2, g3⟩
theorem kw_tsw (B : kw_ok E cc own nm nL ret fr lo hh) {dflt lo' hi' : Int} {offs : Array Int} {len tgt : Nat} (d : decode cc pc = .ok (.tableswitch dflt lo' hi' offs, len)) (hsz : (offs.toList.length : Int) = hi' - lo' + 1) (ht : (pc : Int) + dflt = (tgt : Int)) {v : Int32} {Ps : List (km_M ρ)} {D : km_M ρ} (hall : kw_tall E enc pc L st offs.toList Ps) (kd : kw_W E enc tgt L st D) : kw_W E enc pc L (kI v :: st) (km_tsw v lo' hi' Ps D) := by
  have hg := kw_tall_get offs.toList Ps hall
  obtain ⟨p, l, e, R, s, m, args, below, meth, c, G, n0, z0⟩ := E
  obtain ⟨hx, hb, -⟩ := B
  intro σ r1 τ H locs cells slots ls hx1 h1 h2 hS hl
  unfold km_tsw at hx1
  by_cases hout : v.toInt < lo' ∨ hi' < v.toInt
  · rw [if_pos hout] at hx1
    exact lv_tableOut hx hb d hout ht (kd σ r1 τ H locs cells slots ls hx1 h1 h2 hS hl)
  · rw [if_neg hout] at hx1
    obtain ⟨o, tgt2, g1, g2, g3⟩ := hg (v.toInt - lo').toNat D (by omega)
    exact lv_tableIn hx hb d (fun h => hout (Or.inl h)) (fun h => hout (Or.inr h)) (by rw [← Array.getElem?_toList]; exact g1) g2 (g3 σ r1 τ H locs cells slots ls hx1 h1 h2 hS hl)
def kw_lall (E : kw_E) (enc : ρ → kw_R) (pc : Nat) (L : List (Nat × kw_L)) (st : List kw_L) : List (Int × Int) → List (Int32 × km_M ρ) → Prop
  | [], [] => True
  | (a, o) :: os, (k, P) :: Ps => (k.toInt = a ∧ ∃ tgt : Nat, (pc : Int) + o = (tgt : Int) ∧ kw_W E enc tgt L st P) ∧ kw_lall E enc pc L st os Ps
  | _, _ => False
theorem kw_lall_get {dflt : Int} {tgt0 : Nat} {D : km_M ρ} (ht : (pc : Int) + dflt = (tgt0 : Int)) (kd : kw_W E enc tgt0 L st D) (v : Int32) : ∀ (os : List (Int × Int)) (Ps : List (Int32 × km_M ρ)), kw_lall E enc pc L st os Ps → ∃ (o : Int) (tgt : Nat), Op.lookupswitch.offset os dflt v.toInt = o ∧ (pc : Int) + o = (tgt : Int) ∧ kw_W E enc tgt L st (km_lsw v Ps D) := by
  intro os
  induction os with
  | nil =>
    intro Ps h
    cases Ps with
    | nil => exact ⟨dflt, tgt0, rfl, ht, kd⟩
    | cons P Ps => cases h
  | cons q os ih =>
    intro Ps h
    obtain ⟨a, o⟩ := q
    cases Ps with
    | nil => cases h
    | cons P Ps =>
      obtain ⟨k, P⟩ := P
      obtain ⟨⟨hk, tgt, g1, g2⟩, h3⟩ := h
      by_cases hv : v = k
      · refine ⟨o, tgt, ?_, g1, ?_⟩
        · rw [Op.lookupswitch.offset_cons, if_pos (by rw [hv]; exact hk.symm)]
        · unfold km_lsw
          rw [if_pos hv]
          exact g2
      · obtain ⟨o2, tgt2, q1, q2, q3⟩ := ih Ps h3
        refine ⟨o2, tgt2, ?_, q2, ?_⟩
        · rw [lv_osw hv hk]
          exact q1
        · unfold km_lsw
          rw [if_neg hv]
          exact q3
theorem kw_lsw (B : kw_ok E cc own nm nL ret fr lo hh) {dflt : Int} {ps : Array (Int × Int)} {len tgt : Nat} (d : decode cc pc = .ok (.lookupswitch dflt ps, len)) (hp : (ps.toList.zip (ps.toList.drop 1)).all (fun (a, next) => a.1 < next.1) = true) (ht : (pc : Int) + dflt = (tgt : Int)) {v : Int32} {Ps : List (Int32 × km_M ρ)} {D : km_M ρ} (hall : kw_lall E enc pc L st ps.toList Ps) (kd : kw_W E enc tgt L st D) : kw_W E enc pc L (kI v :: st) (km_lsw v Ps D) := by
  obtain ⟨o, tgt2, g1, g2, g3⟩ := kw_lall_get ht kd v ps.toList Ps hall
  obtain ⟨p, l, e, R, s, m, args, below, meth, c, G, n0, z0⟩ := E
  obtain ⟨hx, hb, -⟩ := B
  intro σ r1 τ H locs cells slots ls hx1 h1 h2 hS hl
  exact lv_lookup hx hb d hp g1 g2 (g3 σ r1 τ H locs cells slots ls hx1 h1 h2 hS hl)
end KWM
