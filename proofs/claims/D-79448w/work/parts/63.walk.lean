/-! ===== the walk: bytecode against the pure machine ===== -/
/-- the law's start: its state; class numbers and slots; array classes by kind; the constants -/
abbrev kw_G : Type := State × va_G × (Nat → ClassId) × (Nat → Option Nat)
def kw_base (G : kw_G) : Nat := G.1.heap.size
def kw_A (G : kw_G) : Nat → Prop := fun q => kw_base G ≤ q
def kw_e (G : kw_G) (e : km_E) : va_E := match e with
  | .inl (k, x) => .inl (G.2.2.1 k, x)
  | .inr o => .inr o
/-- a constant's cell -/
def kw_atC (G : kw_G) (a : Nat) (e : km_E) : Prop := match e with
  | .inl (k, n, .inl f) => va_T (km_ty k) a n (fun j => .int (f j)) (kw_A G) G.1 G.1.heap ∧ k ≤ 2
  | .inl (k, n, .inr (.inr (.inr (.inr f)))) => va_T (km_ty k) a n (fun j => va_rf (f j)) (kw_A G) G.1 G.1.heap ∧ (k = 4 ∨ k = 5)
  | .inl _ => False
  | .inr (c, fs) => ∃ (r : vw_C) (cell : Cell), kcl[c]? = some r ∧ G.1.heap[a]? = some cell ∧ cell.cls = G.2.1.1 c ∧ cell.vm.isStatics = false ∧ cell.vm ≠ .unknown ∧ ∀ k, k < r.2.2 → cell.slots[G.2.1.2 c k]? = some (vp_V fs k)
/-- what holds of the cells at all times: small numbers fit; references in arrays point to objects -/
def kw_inv (m : km_Mem) : Prop :=
  (∀ (a : Nat) (f : Bool) (k n : Nat) (g : Nat → Int32), m a = some (f, .inl (k, n, .inl g)) → k ≤ 2 ∧ ∀ i, fits (km_ty k) (.int (g i)) = true) ∧
  (∀ (a : Nat) (f : Bool) (k n : Nat) (g : Nat → Int64), m a = some (f, .inl (k, n, .inr (.inl g))) → k = 3) ∧
  (∀ (a : Nat) (f : Bool) (k n : Nat) (g : Nat → Option Nat), m a = some (f, .inl (k, n, .inr (.inr (.inr (.inr g))))) → (k = 4 ∨ k = 5) ∧ ∀ i y, g i = some y → ∃ (f' : Bool) (c : Nat) (fs : List Value) (r : vw_C), m y = some (f', .inr (c, fs)) ∧ kcl[c]? = some r ∧ (k = 5 → c = kn_String))
/-- nobody holds the monitor of a Refused -/
def kw_mon (σ : km_S) (H : Heap) : Prop := ∀ (a : Nat) (fs : List Value), σ.2.2.2 a = some (true, .inr (kn_Refused, fs)) → ∀ cell : Cell, H[a]? = some cell → cell.monitor.owner = none ∧ cell.monitor.count = 0
def kw_Pw (G : kw_G) (σ : km_S) (H : Heap) (ws : va_W) : Prop :=
  (∀ a e, σ.2.2.2 a = some (true, e) → ∃ k : Nat, ws[k]? = some (a, kw_e G e)) ∧
  va_P G.2.1 kcl ws H ∧ va_D (kw_A G) ws ∧
  (∀ a e, σ.2.2.2 a = some (false, e) → a < kw_base G ∧ kw_atC G a e) ∧
  (∀ q, q < kw_base G → H[q]? = G.1.heap[q]?) ∧ H.size = σ.2.1 ∧ kw_base G ≤ H.size ∧ σ.1 = G.2.2.2 ∧ kw_inv σ.2.2.2 ∧ kw_mon σ H
/-- the heap is as the pure machine has it -/
def kw_P (G : kw_G) (σ : km_S) (H : Heap) : Prop := ∃ ws : va_W, kw_Pw G σ H ws
def kw_tys (G : kw_G) : List (ClassId × FieldType) := [(G.2.2.1 0, .int), (G.2.2.1 1, .char), (G.2.2.1 2, .byte), (G.2.2.1 3, .long), (G.2.2.1 4, .object "java/lang/Object"), (G.2.2.1 5, .object "java/lang/String")]
theorem kw_tys_at (G : kw_G) {k : Nat} (hk : k ≤ 5) : (kw_tys G)[k]? = some (G.2.2.1 k, km_ty k) := by
  match k, hk with
  | 0, _ => rfl
  | 1, _ => rfl
  | 2, _ => rfl
  | 3, _ => rfl
  | 4, _ => rfl
  | 5, _ => rfl
  | k + 6, h => omega
/-- the start, as the claim gives it -/
def kw_G0 (G : kw_G) : Prop := ∃ b : Nat, (∀ w ∈ lw_tbl, w.before #[Value.ref b] G.1 = true) ∧ narrow_1.before #[Value.ref b] G.1 = true ∧ va_K G.2.1 kcl (kw_tys G) G.1 ∧
  (∀ q ∈ kw_statR, va_Z q.2.1 q.2.2.1 q.2.2.2 (va_rf (G.2.2.2 q.1)) (kw_A G) G.1 G.1.heap) ∧ (∀ q ∈ kw_statI, va_Z q.1 q.2.1 q.2.2.1 (.int q.2.2.2) (kw_A G) G.1 G.1.heap) ∧
  (∀ q ∈ kw_strs, ∃ a : Nat, G.2.2.2 q.1 = some a ∧ vk_R q.2.1 q.2.2.1 q.2.2.2 a G.1) ∧ (∀ q ∈ kw_noc, va_Nc q.1 q.2 G.1) ∧ (∃ mi : Nat, G.2.2.2 1 = some mi ∧ va_Mi "[Ljava/lang/Object;" mi G.1 ∧ va_Dc G.1 ∧ ∃ (a0 : Nat) (cell : Cell), G.2.2.2 0 = some a0 ∧ G.1.heap[a0]? = some cell ∧ cell.vm.isStatics = false ∧ G.1.vm.findClass "[Ljava/lang/Object;" = some cell.cls)
/-- a result: returned, or thrown -/
abbrev kw_R : Type := Option Value ⊕ Nat
def kw_Qc (G : kw_G) (r : kw_R) (τ : km_S) : Array Value → State → Outcome → State → Prop := fun _ _ o t => (∃ v, r = .inl v ∧ o = .returned v) ∧ kw_P G τ t.heap
def kw_XC (G : kw_G) (r : kw_R) (τ : km_S) : String → Addr → State → State → Prop := fun E q _ t => r = .inr q ∧ kw_P G τ t.heap ∧ ∃ (c : Nat) (fs : List Value) (x : vw_C), τ.2.2.2 q = some (true, .inr (c, fs)) ∧ kcl[c]? = some x ∧ x.1 = E
/-- locals and stack: typed values -/
abbrev kw_L : Type := Int32 ⊕ Int64 ⊕ Option Nat ⊕ UInt64 ⊕ UInt32
abbrev kI (x : Int32) : kw_L := .inl x
abbrev kJ (x : Int64) : kw_L := .inr (.inl x)
abbrev kA (r : Option Nat) : kw_L := .inr (.inr (.inl r))
abbrev kD (x : UInt64) : kw_L := .inr (.inr (.inr (.inl x)))
abbrev kF (x : UInt32) : kw_L := .inr (.inr (.inr (.inr x)))
def kw_v (x : kw_L) : Value := match x with
  | .inl x => .int x
  | .inr (.inl x) => .long x
  | .inr (.inr (.inl r)) => va_rf r
  | .inr (.inr (.inr (.inl x))) => .double x
  | .inr (.inr (.inr (.inr x))) => .float x
def kw_c (x : kw_L) : Nat := match x with
  | .inl _ => 1
  | .inr (.inl _) => 2
  | .inr (.inr (.inl _)) => 1
  | .inr (.inr (.inr (.inl _))) => 2
  | .inr (.inr (.inr (.inr _))) => 1
theorem kw_c_v (x : kw_L) : (kw_v x).category = kw_c x := by
  match x with
  | .inl x => rfl
  | .inr (.inl x) => rfl
  | .inr (.inr (.inl none)) => rfl
  | .inr (.inr (.inl (some _))) => rfl
  | .inr (.inr (.inr (.inl x))) => rfl
  | .inr (.inr (.inr (.inr x))) => rfl
def kw_ls (L : List (Nat × kw_L)) : List (Nat × Value) := L.map (fun q => (q.1, kw_v q.2))
def kw_st (st : List kw_L) : List Value := st.map kw_v
theorem kw_st_cat (st : List kw_L) : ((kw_st st).map fun v => v.category).sum = (st.map kw_c).sum := by
  induction st with
  | nil => rfl
  | cons a l ih =>
    show (kw_v a).category + _ = kw_c a + _
    rw [kw_c_v a]
    exact congrArg _ ih
/-- a walk's fixed things -/
abbrev kw_E : Type := Program × Launch × Env × Room × State × MethodId × Array Value × List Frame × Method × Code × kw_G × Nat × Nat
/-- the state between two instructions -/
def kw_S (G : kw_G) (n0 z0 : Nat) (σ : km_S) (H : Heap) (locs : List Loc) (cells slots : Nat) : Prop := kw_P G σ H ∧ (∀ q ∈ locs, kw_A G q.base) ∧ n0 + cells = σ.2.1 ∧ z0 + slots = σ.2.2.1
def kw_W {ρ : Type} (E : kw_E) (enc : ρ → kw_R) (pc : Nat) (L : List (Nat × kw_L)) (st : List kw_L) (x : km_M ρ) : Prop := match E with
  | (p, l, e, R, s, m, args, below, meth, c, G, n0, z0) => ∀ (σ : km_S) (r : ρ) (τ : km_S) (H : Heap) (locs : List Loc) (cells slots : Nat) (ls : Array Slot), x.1 σ = some (r, τ) → τ.2.1 ≤ n0 + R.cells → τ.2.2.1 ≤ z0 + R.slots → kw_S G n0 z0 σ H locs cells slots → lv_has ls c.maxLocals (kw_ls L) →
    W p l e R s m args below meth c H locs cells slots (vx_MQ below (kw_Qc G (enc r) τ) (kw_XC G (enc r) τ) args s (τ.2.1 - n0) (τ.2.2.1 - z0) (kw_A G)) (F0 m pc ls (kw_st st))
/-- what a walk of this method knows -/
def kw_ok (E : kw_E) (cc : ByteArray) (own nm : String) (nL : Nat) (ret : Option FieldType) (fr lo : Nat) (hh : List ExceptionTableEntry) : Prop := match E with
  | (p, _, _, R, s, m, args, _, meth, c, G, n0, _) => p.tables.exec = Jvm.exec ∧ c.code = cc ∧ c.maxLocals = nL ∧ meth.sig.returnType = ret ∧ s.vm.findClass own = some m.cls ∧ (∀ w ∈ lw_all, w.before args s = true) ∧ meth.locks = false ∧ meth.name = nm ∧ c.exceptionTable.toList = hh ∧ R.frames = fr ∧ R.locals = lo ∧
    kw_G0 G ∧ G.1.WarmedH s.vm ∧ s.heap.size = n0 ∧ kw_base G ≤ n0 ∧ (∀ q, q < kw_base G → s.heap[q]? = G.1.heap[q]?)
/-- a method's contract: it does what the pure program does -/
def kw_Met {ρ : Type} (l : Launch) (y : MethodName) (ws : List Cond) (fr lo : Nat) (As : List kw_L) (enc : ρ → kw_R) (x : km_M ρ) : Prop := ∀ (G : kw_G) (σ : km_S) (r : ρ) (τ : km_S), kw_G0 G → x.1 σ = some (r, τ) →
  vx_Met l y ws { frames := fr, cells := τ.2.1 - σ.2.1, slots := τ.2.2.1 - σ.2.2.1, locals := lo } (va_Pc (kw_st As) (fun U => kw_P G σ U.heap ∧ G.1.WarmedH U.vm)) (kw_Qc G (enc r) τ) (kw_XC G (enc r) τ) (τ.2.1 - σ.2.1) (τ.2.2.1 - σ.2.2.1) (kw_A G)
/-! steps that leave the cells alone -/
section KW1
variable {ρ : Type} {E : kw_E} {enc : ρ → kw_R} {cc : ByteArray} {own nm : String} {ret : Option FieldType} {fr lo pc : Nat} {hh : List ExceptionTableEntry} {L : List (Nat × kw_L)} {st : List kw_L} {x : km_M ρ}
/-- one step of the machine that changes the frame alone -/
theorem kw_go {pc' : Nat} {L' : List (Nat × kw_L)} {st' : List kw_L} (k : kw_W E enc pc' L' st' x)
    (h : ∀ (p : Program) (l : Launch) (e : Env) (R : Room) (s : State) (m : MethodId) (args : Array Value) (below : List Frame) (meth : Method) (c : Code) (G : kw_G) (n0 z0 : Nat), E = (p, l, e, R, s, m, args, below, meth, c, G, n0, z0) → ∀ (H : Heap) (locs : List Loc) (cells slots : Nat) (Q : State → Prop) (ls : Array Slot), lv_has ls c.maxLocals (kw_ls L) →
      (∀ ls' : Array Slot, lv_has ls' c.maxLocals (kw_ls L') → W p l e R s m args below meth c H locs cells slots Q (F0 m pc' ls' (kw_st st'))) → W p l e R s m args below meth c H locs cells slots Q (F0 m pc ls (kw_st st))) : kw_W E enc pc L st x := by
  obtain ⟨p, l, e, R, s, m, args, below, meth, c, G, n0, z0⟩ := E
  intro σ r τ H locs cells slots ls hx h1 h2 hS hl
  exact h p l e R s m args below meth c G n0 z0 rfl H locs cells slots _ ls hl (fun ls' hl' => k σ r τ H locs cells slots ls' hx h1 h2 hS hl')
theorem kw_fail_ok : kw_W E enc pc L st (km_fail : km_M ρ) := by
  obtain ⟨p, l, e, R, s, m, args, below, meth, c, G, n0, z0⟩ := E
  intro σ r τ H locs cells slots ls hx
  cases hx
/-- fewer locals -/
theorem kw_sub {L' : List (Nat × kw_L)} (k : kw_W E enc pc L' st x) (h : ∀ q ∈ L', q ∈ L) : kw_W E enc pc L st x := by
  refine kw_go k ?_
  intro p l e R s m args below meth c G n0 z0 hE H locs cells slots Q ls hl kk
  refine kk ls ⟨hl.1, hl.2.1, fun q hq => ?_⟩
  obtain ⟨q0, h1, h2⟩ := List.mem_map.mp hq
  exact hl.2.2 q (List.mem_map.mpr ⟨q0, h q0 h1, h2⟩)
theorem kw_pick {L' : List (Nat × kw_L)} (ks : List Nat) (hs : ks.filterMap (fun k => L[k]?) = L') (k : kw_W E enc pc L' st x) : kw_W E enc pc L st x := by
  refine kw_sub k fun q hq => ?_
  rw [← hs] at hq
  obtain ⟨i, -, hi⟩ := List.mem_filterMap.mp hq
  exact List.mem_of_getElem? hi
theorem kw_at {ls : Array Slot} {nL : Nat} (hl : lv_has ls nL (kw_ls L)) (k : Nat) {i : Nat} {v : kw_L} (hk : L[k]? = some (i, v)) : ls[i]? = some (.val (kw_v v)) := by
  refine hl.2.2 (i, kw_v v) ?_
  exact List.mem_map.mpr ⟨(i, v), List.mem_of_getElem? hk, rfl⟩
end KW1
