/-! ===== arrays ===== -/
def kw_av (x : (Nat → Int32) ⊕ (Nat → Int64) ⊕ (Nat → UInt32) ⊕ (Nat → UInt64) ⊕ (Nat → Option Nat)) : Nat → Value := match x with
  | .inl f => fun j => .int (f j)
  | .inr (.inl f) => fun j => .long (f j)
  | .inr (.inr (.inl f)) => fun j => .float (f j)
  | .inr (.inr (.inr (.inl f))) => fun j => .double (f j)
  | .inr (.inr (.inr (.inr f))) => fun j => va_rf (f j)
theorem kw_av_cell (c : ClassId) (n : Nat) (x : (Nat → Int32) ⊕ (Nat → Int64) ⊕ (Nat → UInt32) ⊕ (Nat → UInt64) ⊕ (Nat → Option Nat)) : vp_cell c (n, x) = arrV c n (kw_av x) := by
  rcases x with f | f | f | f | f <;> rfl
theorem kw_T {G : kw_G} {s : State} {σ : km_S} {H : Heap} (hW : G.1.WarmedH s.vm) (hP : kw_P G σ H) {ty : FieldType} {a n : Nat} {f : Nat → Value} (h : va_T ty a n f (kw_A G) G.1 G.1.heap) : va_T ty a n f (kw_A G) s H := by
  obtain ⟨ws, -, -, -, -, h5, -⟩ := hP
  exact va_T.moved hW.alike (va_T.kept h (fun q _ h2 => h5 q (Nat.not_le.mp h2)))
/-- an array of the pure machine in the heap -/
theorem kw_arr {G : kw_G} {s : State} {σ : km_S} {H : Heap} (hK : va_K G.2.1 kcl (kw_tys G) s) (hW : G.1.WarmedH s.vm) (hP : kw_P G σ H) {a : Nat} {fl : Bool} {k n : Nat} {x : (Nat → Int32) ⊕ (Nat → Int64) ⊕ (Nat → UInt32) ⊕ (Nat → UInt64) ⊕ (Nat → Option Nat)} (ha : σ.2.2.2 a = some (fl, .inl (k, n, x))) (hk : k ≤ 5) : ∃ cell : Cell, H[a]? = some cell ∧ s.isArrayOf cell (km_ty k) ∧ cell.vm ≠ .unknown ∧ n ≤ cell.slots.size ∧ cell.slots.size.toInt32 = Int32.ofNat n ∧ ∀ j, j < n → cell.slots[j]? = some (kw_av x j) := by
  cases fl with
  | true =>
    obtain ⟨ws, h1, h2, -⟩ := hP
    obtain ⟨q, hq⟩ := h1 a _ ha
    have h3 : H[a]? = some (vp_cell (G.2.2.1 k) (n, x)) := h2 q _ hq
    rw [kw_av_cell] at h3
    refine ⟨_, h3, (hK.2 k _ (kw_tys_at G hk)).1 n (kw_av x), (fun h => by cases h), ?_, ?_, fun j hj => arrV_read _ _ hj⟩
    · rw [arrV_size]; exact Nat.le_refl _
    · rw [arrV_size]
  | false =>
    have hP0 := hP
    obtain ⟨ws, -, -, -, h4, -⟩ := hP
    obtain ⟨-, h5⟩ := h4 a _ ha
    have h6 : va_T (km_ty k) a n (kw_av x) (kw_A G) G.1 G.1.heap := by
      rcases x with f | f | f | f | f
      · exact h5.1
      · exact h5.elim
      · exact h5.elim
      · exact h5.elim
      · exact h5.1
    obtain ⟨cell, g1, g2, g3, g4, g5, g6, -⟩ := kw_T hW hP0 h6
    exact ⟨cell, g1, g2, g3, g4, g5, g6⟩
theorem kw_kI {G : kw_G} {σ : km_S} {H : Heap} (hP : kw_P G σ H) {a : Nat} {fl : Bool} {k n : Nat} {f : Nat → Int32} (ha : σ.2.2.2 a = some (fl, .inl (k, n, .inl f))) : k ≤ 2 ∧ ∀ i, fits (km_ty k) (.int (f i)) = true := by
  obtain ⟨ws, h⟩ := hP
  exact h.2.2.2.2.2.2.2.2.1.1 a fl k n f ha
theorem kw_kJ {G : kw_G} {σ : km_S} {H : Heap} (hP : kw_P G σ H) {a : Nat} {fl : Bool} {k n : Nat} {f : Nat → Int64} (ha : σ.2.2.2 a = some (fl, .inl (k, n, .inr (.inl f)))) : k = 3 := by
  obtain ⟨ws, h⟩ := hP
  exact h.2.2.2.2.2.2.2.2.1.2.1 a fl k n f ha
theorem kw_kR {G : kw_G} {σ : km_S} {H : Heap} (hP : kw_P G σ H) {a : Nat} {fl : Bool} {k n : Nat} {f : Nat → Option Nat} (ha : σ.2.2.2 a = some (fl, .inl (k, n, .inr (.inr (.inr (.inr f)))))) : (k = 4 ∨ k = 5) ∧ ∀ i y, f i = some y → ∃ (f' : Bool) (c : Nat) (fs : List Value) (r : vw_C), σ.2.2.2 y = some (f', .inr (c, fs)) ∧ kcl[c]? = some r ∧ (k = 5 → c = kn_String) := by
  obtain ⟨ws, h⟩ := hP
  exact h.2.2.2.2.2.2.2.2.1.2.2 a fl k n f ha
/-- an object of the pure machine may stand in an array of its kind -/
theorem kw_any {G : kw_G} {s : State} {σ : km_S} {H : Heap} (h0 : kw_G0 G) (hW : G.1.WarmedH s.vm) (hP : kw_P G σ H) {k y : Nat} (hk : k = 4 ∨ k = 5) {f' : Bool} {c : Nat} {fs : List Value} {r : vw_C} (hy : σ.2.2.2 y = some (f', .inr (c, fs))) (hc : kcl[c]? = some r) (h5 : k = 5 → c = kn_String) : ∃ E : String, km_ty k = .object E ∧ va_Any E s H y := by
  have hK := kw_K h0 hW
  obtain ⟨cell, g1, g2, g3⟩ := kw_recv hK hP hy hc
  obtain ⟨kC, hkC, -⟩ := (hK.1 c r hc).2.2
  have hcl : (G.2.1.1 c) = cell.cls := Option.some.inj ((hK.1 c r hc).2.1.symm.trans g3)
  rcases hk with rfl | rfl
  · refine ⟨_, rfl, cell, g1, g2, ⟨kC, by rw [← hcl]; exact hkC⟩, fun comp hcomp => ?_⟩
    obtain ⟨c3, c4, hc3, hc4, hasg⟩ := Cond.castable_spec (args := #[]) (va_Nw.use rfl (kw_castW h0 hW (kcl_object c r hc)))
    cases Option.some.inj (hc3.symm.trans g3)
    cases Option.some.inj (hc4.symm.trans hcomp)
    exact hasg
  · refine ⟨_, rfl, cell, g1, g2, ⟨kC, by rw [← hcl]; exact hkC⟩, fun comp hcomp => ?_⟩
    have e := h5 rfl
    subst e
    have e2 : r.1 = "java/lang/String" := kcl_string r hc
    rw [e2] at g3
    cases Option.some.inj (hcomp.symm.trans g3)
    exact va_asg _ _
theorem kw_cellA {G : kw_G} {σ : km_S} {H : Heap} {ws : va_W} {w0 a n : Nat} {c : ClassId} {x : (Nat → Int32) ⊕ (Nat → Int64) ⊕ (Nat → UInt32) ⊕ (Nat → UInt64) ⊕ (Nat → Option Nat)} (hPw : kw_Pw G σ H ws) (hw : ws[w0]? = some (a, .inl (c, n, x))) : H[a]? = some (arrV c n (kw_av x)) := by
  have h : H[a]? = some (vp_cell c (n, x)) := hPw.2.1 w0 _ hw
  rw [kw_av_cell] at h
  exact h
theorem kw_hatA {D : va_G} {H1 : Heap} {a n j : Nat} {c : ClassId} {v : Value} {x x' : (Nat → Int32) ⊕ (Nat → Int64) ⊕ (Nat → UInt32) ⊕ (Nat → UInt64) ⊕ (Nat → Option Nat)} (e : H1[a]? = some ((arrV c n (kw_av x)).setSlot j v)) (hx : kw_av x' = updV (kw_av x) j v) : va_at D kcl (a, .inl (c, n, x')) H1 := by
  show H1[a]? = some (vp_cell c (n, x'))
  rw [kw_av_cell, hx, ← arrV_store]
  exact e
theorem kw_inA {c : ClassId} {n : Nat} {f : Nat → Value} {i : Int32} (h : km_inB i n = true) : ¬ (i < 0 ∨ (arrV c n f).slots.size ≤ i.toNatClampNeg) := by
  rw [arrV_size]
  exact km_inB_in h
theorem kw_avI (f : Nat → Int32) (j : Nat) (x : Int32) : kw_av (.inl (upd f j x)) = updV (kw_av (.inl f)) j (.int x) := by
  funext q
  by_cases hq : q = j <;> simp [kw_av, updV, upd, hq]
theorem kw_avJ (f : Nat → Int64) (j : Nat) (x : Int64) : kw_av (.inr (.inl (vp_updL f j x))) = updV (kw_av (.inr (.inl f))) j (.long x) := by
  funext q
  by_cases hq : q = j <;> simp [kw_av, updV, vp_updL, hq]
theorem kw_avR (f : Nat → Option Nat) (j : Nat) (x : Option Nat) : kw_av (.inr (.inr (.inr (.inr (va_up f j x))))) = updV (kw_av (.inr (.inr (.inr (.inr f))))) j (va_rf x) := by
  funext q
  by_cases hq : q = j <;> simp [kw_av, updV, va_up, hq]
section KWA
variable {ρ : Type} {E : kw_E} {enc : ρ → kw_R} {cc : ByteArray} {own nm : String} {ret : Option FieldType} {nL fr lo pc : Nat} {hh : List ExceptionTableEntry} {L : List (Nat × kw_L)} {st : List kw_L}
theorem kw_alen (B : kw_ok E cc own nm nL ret fr lo hh) (d : decode cc pc = .ok (.arraylength, 1)) {r : Option Nat} {f : Int32 → km_M ρ} (k : ∀ v, kw_W E enc (pc + 1) L (kI v :: st) (f v)) : kw_W E enc pc L (kA r :: st) (km_bind (km_len r) f) := by
  obtain ⟨p, l, e, R, s, m, args, below, meth, c, G, n0, z0⟩ := E
  obtain ⟨hx, hb, hml, hr, hown, hts, hlk, hnm, hhh, hfr, hlo, h0, hW, hsz, hbase, hold⟩ := B
  intro σ r1 τ H locs cells slots ls hx1 h1 h2 hS hl
  obtain ⟨x, u, e1, e2⟩ := km_bind_some hx1
  obtain ⟨e3, e4⟩ := km_rd_some e1
  subst e4
  split at e3
  · next a fl kd n y e5 =>
    split at e3
    · next hso =>
      cases e3
      obtain ⟨rfl, ha⟩ := km_ar_some e5
      have hk5 : kd ≤ 5 := by
        rcases y with f | f | f | f | f
        · exact Nat.le_trans (kw_kI hS.1 ha).1 (by decide)
        · rw [kw_kJ hS.1 ha]; decide
        · cases hso
        · cases hso
        · rcases (kw_kR hS.1 ha).1 with e | e <;> rw [e] <;> decide
      obtain ⟨cell, g1, g2, g3, g4, g5, g6⟩ := kw_arr (kw_K h0 hW) hW hS.1 ha hk5
      exact W.alen hx hb g1 g2 g5 rfl rfl d (k _ u r1 τ H locs cells slots ls e2 h1 h2 hS hl)
    · cases e3
  · cases e3
/-- a number is read from an array of ints, chars or bytes -/
theorem kw_aldI {kd : Nat} {ig : Instr} (hrow : ∀ {p : Program} {l : Launch} {e : Env} {R : Room} {s : State} {m : MethodId} {args : Array Value} {below : List Frame} {meth : Method} {c : Code} {H : Heap} {locs : List Loc} {cells slots : Nat} {Q : State → Prop} {ls : Array Slot} {a : Nat} {cell : Cell} {i v : Int32} {rest : List Value}, p.tables.exec = Jvm.exec → c.code = cc → H[a]? = some cell → s.isArrayOf cell (km_ty kd) → cell.vm ≠ .unknown → ¬ (i < 0 ∨ cell.slots.size ≤ i.toNatClampNeg) → cell.slots[i.toNatClampNeg]? = some (.int v) → W p l e R s m args below meth c H locs cells slots Q (F0 m (pc + 1) ls (.int v :: rest)) → W p l e R s m args below meth c H locs cells slots Q (F0 m pc ls (.int i :: .ref a :: rest)))
    (B : kw_ok E cc own nm nL ret fr lo hh) {r : Option Nat} {i : Int32} {f : Int32 → km_M ρ} (k : ∀ v, kw_W E enc (pc + 1) L (kI v :: st) (f v)) : kw_W E enc pc L (kI i :: kA r :: st) (km_bind (km_ldI kd r i) f) := by
  obtain ⟨p, l, e, R, s, m, args, below, meth, c, G, n0, z0⟩ := E
  obtain ⟨hx, hb, hml, hr, hown, hts, hlk, hnm, hhh, hfr, hlo, h0, hW, hsz, hbase, hold⟩ := B
  intro σ r1 τ H locs cells slots ls hx1 h1 h2 hS hl
  obtain ⟨x, u, e1, e2⟩ := km_bind_some hx1
  obtain ⟨e3, e4⟩ := km_rd_some e1
  subst e4
  split at e3
  · next a fl k2 n f2 e5 =>
    split at e3
    · next hc =>
      obtain ⟨rfl, hin⟩ := hc
      cases e3
      obtain ⟨rfl, ha⟩ := km_ar_some e5
      obtain ⟨cell, g1, g2, g3, g4, g5, g6⟩ := kw_arr (kw_K h0 hW) hW hS.1 ha (Nat.le_trans (kw_kI hS.1 ha).1 (by decide))
      have hin2 := km_inB_in hin
      have hlt : i.toNatClampNeg < n := Nat.not_le.mp fun q => hin2 (Or.inr q)
      exact hrow hx hb g1 g2 g3 (fun h => h.elim (fun q => hin2 (Or.inl q)) (fun q => by omega)) (g6 _ hlt) (k _ u r1 τ H locs cells slots ls e2 h1 h2 hS hl)
    · cases e3
  · cases e3
theorem kw_iald (B : kw_ok E cc own nm nL ret fr lo hh) (d : decode cc pc = .ok (.iaload, 1)) {r : Option Nat} {i : Int32} {f : Int32 → km_M ρ} (k : ∀ v, kw_W E enc (pc + 1) L (kI v :: st) (f v)) : kw_W E enc pc L (kI i :: kA r :: st) (km_bind (km_ldI 0 r i) f) :=
  kw_aldI (ig := .iaload) (fun hx hb h1 h2 h3 h4 h5 h6 => W.iald hx hb h1 h2 h3 h4 h5 rfl rfl d h6) B k
theorem kw_cald (B : kw_ok E cc own nm nL ret fr lo hh) (d : decode cc pc = .ok (.caload, 1)) {r : Option Nat} {i : Int32} {f : Int32 → km_M ρ} (k : ∀ v, kw_W E enc (pc + 1) L (kI v :: st) (f v)) : kw_W E enc pc L (kI i :: kA r :: st) (km_bind (km_ldI 1 r i) f) :=
  kw_aldI (ig := .caload) (fun hx hb h1 h2 h3 h4 h5 h6 => W.cald hx hb h1 h2 h3 h4 h5 rfl rfl d h6) B k
theorem kw_bald (B : kw_ok E cc own nm nL ret fr lo hh) (d : decode cc pc = .ok (.baload, 1)) {r : Option Nat} {i : Int32} {f : Int32 → km_M ρ} (k : ∀ v, kw_W E enc (pc + 1) L (kI v :: st) (f v)) : kw_W E enc pc L (kI i :: kA r :: st) (km_bind (km_ldI 2 r i) f) :=
  kw_aldI (ig := .baload) (fun hx hb h1 h2 h3 h4 h5 h6 => W.bald hx hb h1 h2 h3 h4 h5 rfl rfl d h6) B k
theorem kw_lald (B : kw_ok E cc own nm nL ret fr lo hh) (d : decode cc pc = .ok (.laload, 1)) {r : Option Nat} {i : Int32} {f : Int64 → km_M ρ} (k : ∀ v, kw_W E enc (pc + 1) L (kJ v :: st) (f v)) : kw_W E enc pc L (kI i :: kA r :: st) (km_bind (km_ldJ r i) f) := by
  obtain ⟨p, l, e, R, s, m, args, below, meth, c, G, n0, z0⟩ := E
  obtain ⟨hx, hb, hml, hr, hown, hts, hlk, hnm, hhh, hfr, hlo, h0, hW, hsz, hbase, hold⟩ := B
  intro σ r1 τ H locs cells slots ls hx1 h1 h2 hS hl
  obtain ⟨x, u, e1, e2⟩ := km_bind_some hx1
  obtain ⟨e3, e4⟩ := km_rd_some e1
  subst e4
  split at e3
  · next a fl k2 n f2 e5 =>
    split at e3
    · next hc =>
      obtain ⟨rfl, hin⟩ := hc
      cases e3
      obtain ⟨rfl, ha⟩ := km_ar_some e5
      obtain ⟨cell, g1, g2, g3, g4, g5, g6⟩ := kw_arr (kw_K h0 hW) hW hS.1 ha (by decide)
      have hin2 := km_inB_in hin
      have hlt : i.toNatClampNeg < n := Nat.not_le.mp fun q => hin2 (Or.inr q)
      exact W.lald hx hb g1 g2 g3 (fun h => h.elim (fun q => hin2 (Or.inl q)) (fun q => by omega)) (g6 _ hlt) rfl rfl d (k _ u r1 τ H locs cells slots ls e2 h1 h2 hS hl)
    · cases e3
  · cases e3
theorem kw_aald (B : kw_ok E cc own nm nL ret fr lo hh) (d : decode cc pc = .ok (.aaload, 1)) {r : Option Nat} {i : Int32} {f : Option Nat → km_M ρ} (k : ∀ v, kw_W E enc (pc + 1) L (kA v :: st) (f v)) : kw_W E enc pc L (kI i :: kA r :: st) (km_bind (km_ldR r i) f) := by
  obtain ⟨p, l, e, R, s, m, args, below, meth, c, G, n0, z0⟩ := E
  obtain ⟨hx, hb, hml, hr, hown, hts, hlk, hnm, hhh, hfr, hlo, h0, hW, hsz, hbase, hold⟩ := B
  intro σ r1 τ H locs cells slots ls hx1 h1 h2 hS hl
  obtain ⟨x, u, e1, e2⟩ := km_bind_some hx1
  obtain ⟨e3, e4⟩ := km_rd_some e1
  subst e4
  split at e3
  · next a fl k2 n f2 e5 =>
    split at e3
    · next hin =>
      cases e3
      obtain ⟨rfl, ha⟩ := km_ar_some e5
      have hk := (kw_kR hS.1 ha).1
      obtain ⟨cell, g1, g2, g3, g4, g5, g6⟩ := kw_arr (kw_K h0 hW) hW hS.1 ha (by rcases hk with e | e <;> rw [e] <;> decide)
      have hin2 := km_inB_in hin
      have hlt : i.toNatClampNeg < n := Nat.not_le.mp fun q => hin2 (Or.inr q)
      exact W.aald hx hb g1 g2 (by rcases hk with e | e <;> rw [e] <;> rfl) g3 (fun h => h.elim (fun q => hin2 (Or.inl q)) (fun q => by omega)) (g6 _ hlt) rfl rfl d (k _ u r1 τ H locs cells slots ls e2 h1 h2 hS hl)
    · cases e3
  · cases e3
theorem kw_stI_some {kd : Nat} {r : Option Nat} {i x : Int32} {σ : km_S} {u : Unit} {τ : km_S} (h : (km_stI kd r i x).1 σ = some (u, τ)) : ∃ a n f, r = some a ∧ σ.2.2.2 a = some (true, .inl (kd, n, .inl f)) ∧ km_inB i n = true ∧ τ = (σ.1, σ.2.1, σ.2.2.1, km_up σ.2.2.2 a (true, .inl (kd, n, .inl (upd f i.toNatClampNeg (vp_nar (km_ty kd) x))))) := by
  obtain ⟨a, e, h1, h2⟩ := km_wr_some h
  split at h1
  · next a' k n f e5 =>
    split at h1
    · next hc =>
      obtain ⟨rfl, hin⟩ := hc
      obtain ⟨rfl, ha⟩ := km_ar_some e5
      cases h1
      exact ⟨a, n, f, rfl, ha, hin, h2⟩
    · cases h1
  · cases h1
/-- a number is stored into an array of ints, chars or bytes -/
theorem kw_iast (B : kw_ok E cc own nm nL ret fr lo hh) (d : decode cc pc = .ok (.iastore, 1)) {r : Option Nat} {i x : Int32} {f : Unit → km_M ρ} (k : kw_W E enc (pc + 1) L st (f ())) : kw_W E enc pc L (kI x :: kI i :: kA r :: st) (km_bind (km_stI 0 r i x) f) := by
  obtain ⟨p, l, e, R, s, m, args, below, meth, c, G, n0, z0⟩ := E
  obtain ⟨hx, hb, hml, hr, hown, hts, hlk, hnm, hhh, hfr, hlo, h0, hW, hsz, hbase, hold⟩ := B
  intro σ r1 τ H locs cells slots ls hx1 h1 h2 hS hl
  obtain ⟨u0, u, e1, e2⟩ := km_bind_some hx1
  obtain ⟨a, n, g, rfl, ha, hin, rfl⟩ := kw_stI_some e1
  obtain ⟨⟨ws, hPw⟩, hloc, hc1, hc2⟩ := hS
  obtain ⟨w0, hw0⟩ := hPw.1 a _ ha
  refine W.iast hx hb (kw_cellA hPw hw0) ((kw_K h0 hW).2 0 _ rfl |>.1 n _) (fun h => by cases h) (kw_inA hin) rfl rfl d fun H1 z1 z2 z3 => ?_
  refine kw_set_W hPw hw0 hloc kw_mem1 hc1 hc2 (en := .inl (0, n, .inl (upd g i.toNatClampNeg (vp_nar (km_ty 0) x)))) (kw_inv_up hPw.2.2.2.2.2.2.2.2.1 (fun f' c' fs' h' => ?_) (fun k n g h => ?_) (fun k n g h => by cases h) (fun k n g h => by cases h)) (fun fs9 h9 => by cases h9) (kw_hatA z1 (kw_avI _ _ _)) z2 z3 fun hS2 => k _ r1 τ H1 _ cells slots ls e2 h1 h2 hS2 hl
  · rw [ha] at h'
    cases h'
  · cases h
    exact ⟨by decide, fun _ => rfl⟩
theorem kw_bast (B : kw_ok E cc own nm nL ret fr lo hh) (d : decode cc pc = .ok (.bastore, 1)) {r : Option Nat} {i x : Int32} {f : Unit → km_M ρ} (k : kw_W E enc (pc + 1) L st (f ())) : kw_W E enc pc L (kI x :: kI i :: kA r :: st) (km_bind (km_stI 2 r i x) f) := by
  obtain ⟨p, l, e, R, s, m, args, below, meth, c, G, n0, z0⟩ := E
  obtain ⟨hx, hb, hml, hr, hown, hts, hlk, hnm, hhh, hfr, hlo, h0, hW, hsz, hbase, hold⟩ := B
  intro σ r1 τ H locs cells slots ls hx1 h1 h2 hS hl
  obtain ⟨u0, u, e1, e2⟩ := km_bind_some hx1
  obtain ⟨a, n, g, rfl, ha, hin, rfl⟩ := kw_stI_some e1
  have hfit := (kw_kI hS.1 ha).2
  obtain ⟨⟨ws, hPw⟩, hloc, hc1, hc2⟩ := hS
  obtain ⟨w0, hw0⟩ := hPw.1 a _ ha
  refine W.bast hx hb (kw_cellA hPw hw0) ((kw_K h0 hW).2 2 _ rfl |>.1 n _) (fun h => by cases h) (kw_inA hin) rfl rfl d fun H1 z1 z2 z3 => ?_
  refine kw_set_W hPw hw0 hloc kw_mem1 hc1 hc2 (en := .inl (2, n, .inl (upd g i.toNatClampNeg (vp_nar (km_ty 2) x)))) (kw_inv_up hPw.2.2.2.2.2.2.2.2.1 (fun f' c' fs' h' => ?_) (fun k n2 g2 h => ?_) (fun k n g h => by cases h) (fun k n g h => by cases h)) (fun fs9 h9 => by cases h9) (kw_hatA z1 (kw_avI _ _ _)) z2 z3 fun hS2 => k _ r1 τ H1 _ cells slots ls e2 h1 h2 hS2 hl
  · rw [ha] at h'
    cases h'
  · cases h
    refine ⟨by decide, fun j => ?_⟩
    unfold upd
    split
    · exact kw_fit_byte x
    · exact hfit j
theorem kw_cast (B : kw_ok E cc own nm nL ret fr lo hh) (d : decode cc pc = .ok (.castore, 1)) {r : Option Nat} {i x : Int32} {f : Unit → km_M ρ} (k : kw_W E enc (pc + 1) L st (f ())) : kw_W E enc pc L (kI x :: kI i :: kA r :: st) (km_bind (km_stI 1 r i x) f) := by
  obtain ⟨p, l, e, R, s, m, args, below, meth, c, G, n0, z0⟩ := E
  obtain ⟨hx, hb, hml, hr, hown, hts, hlk, hnm, hhh, hfr, hlo, h0, hW, hsz, hbase, hold⟩ := B
  intro σ r1 τ H locs cells slots ls hx1 h1 h2 hS hl
  obtain ⟨u0, u, e1, e2⟩ := km_bind_some hx1
  obtain ⟨a, n, g, rfl, ha, hin, rfl⟩ := kw_stI_some e1
  have hfit := (kw_kI hS.1 ha).2
  obtain ⟨⟨ws, hPw⟩, hloc, hc1, hc2⟩ := hS
  obtain ⟨w0, hw0⟩ := hPw.1 a _ ha
  refine W.cast hx hb (kw_cellA hPw hw0) ((kw_K h0 hW).2 1 _ rfl |>.1 n _) (fun h => by cases h) (kw_inA hin) rfl rfl d fun H1 z1 z2 z3 => ?_
  refine kw_set_W hPw hw0 hloc kw_mem1 hc1 hc2 (en := .inl (1, n, .inl (upd g i.toNatClampNeg (vp_nar (km_ty 1) x)))) (kw_inv_up hPw.2.2.2.2.2.2.2.2.1 (fun f' c' fs' h' => ?_) (fun k n2 g2 h => ?_) (fun k n g h => by cases h) (fun k n g h => by cases h)) (fun fs9 h9 => by cases h9) (kw_hatA z1 (kw_avI _ _ _)) z2 z3 fun hS2 => k _ r1 τ H1 _ cells slots ls e2 h1 h2 hS2 hl
  · rw [ha] at h'
    cases h'
  · cases h
    refine ⟨by decide, fun j => ?_⟩
    unfold upd
    split
    · exact kw_fit_char x
    · exact hfit j
theorem kw_last (B : kw_ok E cc own nm nL ret fr lo hh) (d : decode cc pc = .ok (.lastore, 1)) {r : Option Nat} {i : Int32} {x : Int64} {f : Unit → km_M ρ} (k : kw_W E enc (pc + 1) L st (f ())) : kw_W E enc pc L (kJ x :: kI i :: kA r :: st) (km_bind (km_stJ r i x) f) := by
  obtain ⟨p, l, e, R, s, m, args, below, meth, c, G, n0, z0⟩ := E
  obtain ⟨hx, hb, hml, hr, hown, hts, hlk, hnm, hhh, hfr, hlo, h0, hW, hsz, hbase, hold⟩ := B
  intro σ r1 τ H locs cells slots ls hx1 h1 h2 hS hl
  obtain ⟨u0, u, e1, e2⟩ := km_bind_some hx1
  obtain ⟨a, en, h5, rfl⟩ := km_wr_some e1
  split at h5
  · next a' k2 n g e5 =>
    split at h5
    · next hc =>
      obtain ⟨rfl, hin⟩ := hc
      obtain ⟨rfl, ha⟩ := km_ar_some e5
      cases h5
      obtain ⟨⟨ws, hPw⟩, hloc, hc1, hc2⟩ := hS
      obtain ⟨w0, hw0⟩ := hPw.1 _ _ ha
      refine W.last hx hb (kw_cellA hPw hw0) ((kw_K h0 hW).2 3 _ rfl |>.1 n _) (fun h => by cases h) (kw_inA hin) rfl rfl d fun H1 z1 z2 z3 => ?_
      refine kw_set_W hPw hw0 hloc kw_mem1 hc1 hc2 (en := .inl (3, n, .inr (.inl (vp_updL g i.toNatClampNeg x)))) (kw_inv_up hPw.2.2.2.2.2.2.2.2.1 (fun f' c' fs' h' => ?_) (fun k n g h => by cases h) (fun k n g h => by cases h; rfl) (fun k n g h => by cases h)) (fun fs9 h9 => by cases h9) (kw_hatA z1 (kw_avJ _ _ _)) z2 z3 fun hS2 => k _ r1 τ H1 _ cells slots ls e2 h1 h2 hS2 hl
      rw [ha] at h'
      cases h'
    · cases h5
  · cases h5
theorem kw_aast (B : kw_ok E cc own nm nL ret fr lo hh) (d : decode cc pc = .ok (.aastore, 1)) {r v : Option Nat} {i : Int32} {f : Unit → km_M ρ} (k : kw_W E enc (pc + 1) L st (f ())) : kw_W E enc pc L (kA v :: kI i :: kA r :: st) (km_bind (km_stR kn_String r i v) f) := by
  obtain ⟨p, l, e, R, s, m, args, below, meth, c, G, n0, z0⟩ := E
  obtain ⟨hx, hb, hml, hr, hown, hts, hlk, hnm, hhh, hfr, hlo, h0, hW, hsz, hbase, hold⟩ := B
  intro σ r1 τ H locs cells slots ls hx1 h1 h2 hS hl
  obtain ⟨u0, u, e1, e2⟩ := km_bind_some hx1
  obtain ⟨a, en, h5, rfl⟩ := km_wr_some e1
  split at h5
  · next a' k2 n g e5 =>
    split at h5
    · next hc =>
      obtain ⟨hmay, hin⟩ := hc
      obtain ⟨rfl, ha⟩ := km_ar_some e5
      cases h5
      have hkR := kw_kR hS.1 ha
      have hP := hS.1
      obtain ⟨⟨ws, hPw⟩, hloc, hc1, hc2⟩ := hS
      obtain ⟨w0, hw0⟩ := hPw.1 _ _ ha
      have hk5 : k2 ≤ 5 := by rcases hkR.1 with e | e <;> rw [e] <;> decide
      have hgo : ∀ (H1 : Heap), H1[a]? = some ((arrV (G.2.2.1 k2) n (kw_av (.inr (.inr (.inr (.inr g)))))).setSlot i.toNatClampNeg (va_rf v)) → H1.size = H.size → (∀ q : Nat, q ≠ a → H1[q]? = H[q]?) → (∀ y, v = some y → ∃ (f' : Bool) (c : Nat) (fs : List Value) (r : vw_C), σ.2.2.2 y = some (f', .inr (c, fs)) ∧ kcl[c]? = some r ∧ (k2 = 5 → c = kn_String)) → W p l e R s m args below meth c H1 (locs ++ [⟨a, i.toNatClampNeg⟩]) cells slots (vx_MQ below (kw_Qc G (enc r1) τ) (kw_XC G (enc r1) τ) args s (τ.2.1 - n0) (τ.2.2.1 - z0) (kw_A G)) (F0 m (pc + 1) ls (kw_st st)) := by
        intro H1 z1 z2 z3 hy
        refine kw_set_W hPw hw0 hloc kw_mem1 hc1 hc2 (en := .inl (k2, n, .inr (.inr (.inr (.inr (va_up g i.toNatClampNeg v)))))) (kw_inv_up hPw.2.2.2.2.2.2.2.2.1 (fun f' c' fs' h' => ?_) (fun k n g h => by cases h) (fun k n g h => by cases h) (fun k n g2 h => ?_)) (fun fs9 h9 => by cases h9) (kw_hatA z1 (kw_avR _ _ _)) z2 z3 fun hS2 => k _ r1 τ H1 _ cells slots ls e2 h1 h2 hS2 hl
        · rw [ha] at h'
          cases h'
        · cases h
          refine ⟨hkR.1, fun j y hj => ?_⟩
          unfold va_up at hj
          split at hj
          · exact hy y hj
          · exact hkR.2 j y hj
      cases v with
      | none =>
        have ht : (kw_tys G)[k2]? = some (G.2.2.1 k2, .object (if k2 = 4 then "java/lang/Object" else "java/lang/String")) := by
          rw [kw_tys_at G hk5]
          rcases hkR.1 with e | e <;> rw [e] <;> rfl
        exact va_WaastN (C := if k2 = 4 then "java/lang/Object" else "java/lang/String") hx hb (kw_cellA hPw hw0) (((kw_K h0 hW).2 k2 _ ht).1 n _) (fun h => by cases h) (kw_inA hin) rfl rfl d fun H1 z1 z2 z3 => hgo H1 z1 z2 z3 (fun y h => by cases h)
      | some y =>
        have hy : ∃ (f' : Bool) (c : Nat) (fs : List Value) (r : vw_C), σ.2.2.2 y = some (f', .inr (c, fs)) ∧ kcl[c]? = some r ∧ (k2 = 5 → c = kn_String) := by
          unfold km_may at hmay
          split at hmay
          · next h => cases h
          · next h =>
            split at hmay
            · next y2 f2 c2 fs2 e7 =>
              obtain ⟨e8, e9⟩ := km_ob_some e7
              cases e8
              obtain ⟨r2, cell, q1, -⟩ := kw_obj hP e9
              refine ⟨f2, c2, fs2, r2, e9, q1, fun hk => ?_⟩
              subst hk
              simpa using hmay
            · cases hmay
        obtain ⟨f', c', fs', r', y1, y2, y3⟩ := hy
        obtain ⟨En, t1, t2⟩ := kw_any h0 hW hP hkR.1 y1 y2 y3
        have ht : (kw_tys G)[k2]? = some (G.2.2.1 k2, .object En) := by rw [kw_tys_at G hk5, t1]
        have hK := kw_K h0 hW
        obtain ⟨cellV, y4, y5, ⟨kC, y6⟩, y7⟩ := t2
        obtain ⟨kA, comp, q1, q2, q3, -⟩ := (hK.2 k2 _ ht).2
        obtain ⟨kE, hkE, -⟩ := Vm.findClass_spec q3
        exact W.aast hx hb (kw_cellA hPw hw0) (fun q h => by cases h) (fun h => by cases h) q1 q2 rfl hkE ⟨fun q => km_inB_in hin (Or.inl q), by rw [arrV_size]; exact Nat.not_le.mp fun q => km_inB_in hin (Or.inr q)⟩ y4 (fun q h => by rw [h] at y5; cases y5) y6 (y7 comp q3) rfl rfl d fun H1 z1 z2 z3 => hgo H1 z1 z2 z3 (fun z hz => by cases hz; exact ⟨f', c', fs', r', y1, y2, y3⟩)
    · cases h5
  · cases h5
/-- new arrays -/
theorem kw_newaV (B : kw_ok E cc own nm nL ret fr lo hh) {at' : ArrayType} (d : decode cc pc = .ok (.newarray at', 2)) {kd : Nat} (hkd : kd ≤ 3) (hty : newarray.typeOf at' = km_ty kd) (w1 : Cond.arrayClass (km_ty kd) ∈ lw_all) (hb8 : componentBytes (km_ty kd) ≤ 8) {n : Int32} {x : (Nat → Int32) ⊕ (Nat → Int64) ⊕ (Nat → UInt32) ⊕ (Nat → UInt64) ⊕ (Nat → Option Nat)} (hx0 : kw_av x = fun _ => defaultValue (km_ty kd))
    (i1 : ∀ (k n n2 : Nat) (g : Nat → Int32), (.inl (kd, n, x) : km_E) = .inl (k, n2, .inl g) → k ≤ 2 ∧ ∀ i, fits (km_ty k) (.int (g i)) = true) (i2 : ∀ (k n n2 : Nat) (g : Nat → Int64), (.inl (kd, n, x) : km_E) = .inl (k, n2, .inr (.inl g)) → k = 3) (i3 : ∀ (k n n2 : Nat) (g : Nat → Option Nat), (.inl (kd, n, x) : km_E) = .inl (k, n2, .inr (.inr (.inr (.inr g)))) → False)
    {f : Option Nat → km_M ρ} (k : ∀ v, kw_W E enc (pc + 2) L (kA v :: st) (f v)) : kw_W E enc pc L (kI n :: st) (km_bind (km_al (fun _ => if ¬ n < 0 ∧ n.toNatClampNeg * 8 ≤ 536870912 then some (n.toNatClampNeg, .inl (kd, n.toNatClampNeg, x)) else none)) f) := by
  obtain ⟨p, l, e, R, s, m, args, below, meth, c, G, n0, z0⟩ := E
  obtain ⟨hx, hb, hml, hr, hown, hts, hlk, hnm, hhh, hfr, hlo, h0, hW, hsz, hbase, hold⟩ := B
  intro σ r1 τ H locs cells slots ls hx1 h1 h2 hS hl
  obtain ⟨x9, u, e1, e2⟩ := km_bind_some hx1
  obtain ⟨n9, en, e3, rfl, e4⟩ := km_al_some e1
  split at e3
  · next hc =>
    have e5 := Option.some.inj e3
    cases e5
    obtain ⟨m1, m2, -⟩ := (f (some σ.2.1)).2 _ _ _ e2
    subst e4
    obtain ⟨⟨ws, hPw⟩, hloc, hc1, hc2⟩ := hS
    have hK := kw_K h0 hW
    have hHs : H.size = σ.2.1 := hPw.2.2.2.2.2.1
    change σ.2.1 + 1 ≤ τ.2.1 at m1
    change σ.2.2.1 + n.toNatClampNeg ≤ τ.2.2.1 at m2
    refine va_newaK hx hb (by rw [hty]; exact hts _ w1) rfl d rfl hc.1 rfl (by rw [hty]; exact Nat.le_trans (Nat.mul_le_mul_left _ hb8) hc.2) (by omega) (by omega) rfl fun H1 cA g1 z1 o1 hAr hNm => ?_
    have hcA : cA = G.2.2.1 kd := by
      have h7 := (hK.2 kd _ (kw_tys_at G (by omega))).2
      rw [hty] at hNm
      have h8 : s.vm.findClass ("[" ++ (km_ty kd).toString) = some (G.2.2.1 kd) := by
        rcases (show kd = 0 ∨ kd = 1 ∨ kd = 2 ∨ kd = 3 by omega) with e | e | e | e <;> subst e <;> exact h7
      exact Option.some.inj (hNm.symm.trans h8)
    have hgo := k (some σ.2.1) _ r1 τ H1 locs (cells + 1) (slots + n.toNatClampNeg) ls e2 h1 h2 ⟨kw_Pw_push hPw (e := .inl (kd, n.toNatClampNeg, x)) (by show H1[H.size]? = some (vp_cell (G.2.2.1 kd) (n.toNatClampNeg, x)); rw [kw_av_cell, hx0, ← hcA, ← hty]; exact g1) z1 o1 (fun k' n' g' h' => i1 _ _ _ _ h') (fun k' n' g' h' => i2 _ _ _ _ h') (fun k' n' g' h' => (i3 _ _ _ _ h').elim) (fun fs9 h9 => by cases h9), hloc, by show n0 + (cells + 1) = σ.2.1 + 1; omega, by show z0 + (slots + n.toNatClampNeg) = σ.2.2.1 + n.toNatClampNeg; omega⟩ hl
    rw [← hHs] at hgo
    exact hgo
  · cases e3
theorem kw_newaI (B : kw_ok E cc own nm nL ret fr lo hh) (d : decode cc pc = .ok (.newarray .int, 2)) (w1 : Cond.arrayClass .int ∈ lw_all) {n : Int32} {f : Option Nat → km_M ρ} (k : ∀ v, kw_W E enc (pc + 2) L (kA v :: st) (f v)) : kw_W E enc pc L (kI n :: st) (km_bind (km_nI 0 n) f) :=
  kw_newaV B d (kd := 0) (by decide) rfl w1 (by decide) (x := .inl (fun _ => 0)) rfl (fun k n n2 g h => by cases h; exact ⟨by decide, fun _ => rfl⟩) (fun k n n2 g h => by cases h) (fun k n n2 g h => by cases h) k
theorem kw_newaC (B : kw_ok E cc own nm nL ret fr lo hh) (d : decode cc pc = .ok (.newarray .char, 2)) (w1 : Cond.arrayClass .char ∈ lw_all) {n : Int32} {f : Option Nat → km_M ρ} (k : ∀ v, kw_W E enc (pc + 2) L (kA v :: st) (f v)) : kw_W E enc pc L (kI n :: st) (km_bind (km_nI 1 n) f) :=
  kw_newaV B d (kd := 1) (by decide) rfl w1 (by decide) (x := .inl (fun _ => 0)) rfl (fun k n n2 g h => by cases h; exact ⟨by decide, fun _ => rfl⟩) (fun k n n2 g h => by cases h) (fun k n n2 g h => by cases h) k
theorem kw_newaB (B : kw_ok E cc own nm nL ret fr lo hh) (d : decode cc pc = .ok (.newarray .byte, 2)) (w1 : Cond.arrayClass .byte ∈ lw_all) {n : Int32} {f : Option Nat → km_M ρ} (k : ∀ v, kw_W E enc (pc + 2) L (kA v :: st) (f v)) : kw_W E enc pc L (kI n :: st) (km_bind (km_nI 2 n) f) :=
  kw_newaV B d (kd := 2) (by decide) rfl w1 (by decide) (x := .inl (fun _ => 0)) rfl (fun k n n2 g h => by cases h; exact ⟨by decide, fun _ => rfl⟩) (fun k n n2 g h => by cases h) (fun k n n2 g h => by cases h) k
theorem kw_newaJ (B : kw_ok E cc own nm nL ret fr lo hh) (d : decode cc pc = .ok (.newarray .long, 2)) (w1 : Cond.arrayClass .long ∈ lw_all) {n : Int32} {f : Option Nat → km_M ρ} (k : ∀ v, kw_W E enc (pc + 2) L (kA v :: st) (f v)) : kw_W E enc pc L (kI n :: st) (km_bind (km_nJ n) f) :=
  kw_newaV B d (kd := 3) (by decide) rfl w1 (by decide) (x := .inr (.inl (fun _ => 0))) rfl (fun k n n2 g h => by cases h) (fun k n n2 g h => by cases h; rfl) (fun k n n2 g h => by cases h) k
theorem kw_anew (B : kw_ok E cc own nm nL ret fr lo hh) {index : Nat} (d : decode cc pc = .ok (.anewarray index, 3)) {kd : Nat} {C : String} (hkd : kd = 4 ∨ kd = 5) (hC : km_ty kd = .object C) (w1 : Cond.classLink own index C ∈ lw_all) (w2 : Cond.arrayOver (.object C) ∈ lw_tbl) {n : Int32} {f : Option Nat → km_M ρ} (k : ∀ v, kw_W E enc (pc + 3) L (kA v :: st) (f v)) : kw_W E enc pc L (kI n :: st) (km_bind (km_nR kd n) f) := by
  obtain ⟨p, l, e, R, s, m, args, below, meth, c, G, n0, z0⟩ := E
  obtain ⟨hx, hb, hml, hr, hown, hts, hlk, hnm, hhh, hfr, hlo, h0, hW, hsz, hbase, hold⟩ := B
  intro σ r1 τ H locs cells slots ls hx1 h1 h2 hS hl
  obtain ⟨x9, u, e1, e2⟩ := km_bind_some hx1
  obtain ⟨n9, en, e3, rfl, e4⟩ := km_al_some e1
  split at e3
  · next hc =>
    have e5 := Option.some.inj e3
    cases e5
    obtain ⟨m1, m2, -⟩ := (f (some σ.2.1)).2 _ _ _ e2
    subst e4
    obtain ⟨⟨ws, hPw⟩, hloc, hc1, hc2⟩ := hS
    have hK := kw_K h0 hW
    have hHs : H.size = σ.2.1 := hPw.2.2.2.2.2.1
    change σ.2.1 + 1 ≤ τ.2.1 at m1
    change σ.2.2.1 + n.toNatClampNeg ≤ τ.2.2.1 at m2
    have hAO : va_AO C s := by
      obtain ⟨b0, ht, -⟩ := h0
      exact va_AO.moved hW.alike (va_AO.of (ht _ w2))
    refine W.anew hx hb hown (hts _ w1) (va_AO.use hAO) rfl d rfl hc.1 (by omega) (by omega) (by omega) fun cA kA comp f1 f2 f3 f4 => ?_
    generalize hH1 : H.push ({ cls := cA, slots := Array.replicate n.toNatClampNeg .null, vm := .none } : Cell) = H1
    have z1 : H1.size = H.size + 1 := by rw [← hH1, Array.size_push]
    have g1 : H1[H.size]? = some (arrV cA n.toNatClampNeg (fun _ => .null)) := by rw [← hH1, Array.getElem?_push_size, ← arrV_new]
    have o1 : ∀ q : Nat, q < H.size → H1[q]? = H[q]? := fun q hq => by rw [← hH1, Array.getElem?_push, if_neg (Nat.ne_of_lt hq)]
    have hcA : cA = G.2.2.1 kd := by
      have h7 := (hK.2 kd _ (kw_tys_at G (by omega))).2
      rw [hC] at h7
      obtain ⟨-, -, -, -, -, h8⟩ := h7
      exact Option.some.inj (f1.symm.trans h8)
    have hgo := k (some σ.2.1) _ r1 τ H1 locs (cells + 1) (slots + n.toNatClampNeg) ls e2 h1 h2 ⟨kw_Pw_push hPw (e := .inl (kd, n.toNatClampNeg, .inr (.inr (.inr (.inr (fun _ => none)))))) (by show H1[H.size]? = some (vp_cell (G.2.2.1 kd) _); rw [vp_cell_q, ← hcA]; exact g1) z1 o1 (fun k' n' g' h' => by cases h') (fun k' n' g' h' => by cases h') (fun k' n' g' h' => by cases h'; exact ⟨hkd, fun _ => rfl⟩) (fun fs9 h9 => by cases h9), hloc, by show n0 + (cells + 1) = σ.2.1 + 1; omega, by show z0 + (slots + n.toNatClampNeg) = σ.2.2.1 + n.toNatClampNeg; omega⟩ hl
    rw [← hHs] at hgo
    exact hgo
  · cases e3
end KWA
