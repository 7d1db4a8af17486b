/-! ===== the cells: what the pure machine's cells say of the heap, and how a step changes both ===== -/
theorem kw_fit_byte (x : Int32) : fits .byte (.int (vp_nar .byte x)) = true := by
  have h1 : (x.toInt8.toInt32).toInt = x.toInt8.toInt := Int8.toInt_toInt32 _
  have h2 := x.toInt8.toInt_lt
  have h3 := x.toInt8.le_toInt
  have e1 : (-128 : Int32).toInt = -128 := by decide
  have e2 : (127 : Int32).toInt = 127 := by decide
  rw [vp_nar_byte]
  simp only [fits, Bool.and_eq_true, decide_eq_true_eq]
  rw [Int32.le_iff_toInt_le, Int32.le_iff_toInt_le, h1, e1, e2]
  omega
theorem kw_fit_char (x : Int32) : fits .char (.int (vp_nar .char x)) = true := by
  have h0 : x.toUInt32.toUInt16.toUInt32.toNat < 65536 := by
    rw [UInt16.toNat_toUInt32]
    exact x.toUInt32.toUInt16.toNat_lt
  have h1 : (x.toUInt32.toUInt16.toUInt32.toInt32).toInt = (x.toUInt32.toUInt16.toUInt32.toNat : Int) := by
    show BitVec.toInt x.toUInt32.toUInt16.toUInt32.toBitVec = _
    have h2 : x.toUInt32.toUInt16.toUInt32.toBitVec.toNat < 65536 := h0
    rw [BitVec.toInt_eq_toNat_cond, if_pos (by omega)]
    rfl
  have e1 : (0 : Int32).toInt = 0 := by decide
  have e2 : (65535 : Int32).toInt = 65535 := by decide
  rw [vp_nar_char]
  simp only [fits, Bool.and_eq_true, decide_eq_true_eq]
  rw [Int32.le_iff_toInt_le, Int32.le_iff_toInt_le, h1, e1, e2]
  omega
theorem kw_K {G : kw_G} {s : State} (h0 : kw_G0 G) (hW : G.1.WarmedH s.vm) : va_K G.2.1 kcl (kw_tys G) s := by
  obtain ⟨b, -, -, hK, -⟩ := h0
  exact va_K.moved hW.alike hK
/-- an object of the pure machine in the heap -/
theorem kw_obj {G : kw_G} {σ : km_S} {H : Heap} (hP : kw_P G σ H) {a : Nat} {f : Bool} {c : Nat} {fs : List Value} (ha : σ.2.2.2 a = some (f, .inr (c, fs))) : ∃ (r : vw_C) (cell : Cell), kcl[c]? = some r ∧ H[a]? = some cell ∧ cell.cls = G.2.1.1 c ∧ cell.vm.isStatics = false ∧ cell.vm ≠ .unknown ∧ ∀ k, k < r.2.2 → cell.slots[G.2.1.2 c k]? = some (vp_V fs k) := by
  obtain ⟨ws, h1, h2, h3, h4, h5, h6, h7, h8, h9⟩ := hP
  cases f with
  | true =>
    obtain ⟨k, hk⟩ := h1 a _ ha
    obtain ⟨r, g1, cell, q1, q2, q3, q4⟩ := h2 k _ hk
    exact ⟨r, cell, g1, q1, q2, by rw [q3]; rfl, (by rw [q3]; exact fun h => by cases h), q4⟩
  | false =>
    obtain ⟨g0, r, cell, g1, g2, g3, g4, g5, g6⟩ := h4 a _ ha
    exact ⟨r, cell, g1, by rw [h5 a g0]; exact g2, g3, g4, g5, g6⟩
theorem kw_recv {G : kw_G} {s : State} {σ : km_S} {H : Heap} (hK : va_K G.2.1 kcl (kw_tys G) s) (hP : kw_P G σ H) {a : Nat} {f : Bool} {c : Nat} {fs : List Value} (ha : σ.2.2.2 a = some (f, .inr (c, fs))) {r : vw_C} (hc : kcl[c]? = some r) : ∃ cell : Cell, H[a]? = some cell ∧ cell.vm.isStatics = false ∧ s.vm.findClass r.1 = some cell.cls := by
  obtain ⟨r', cell, h1, h2, h3, h4, h5, h6⟩ := kw_obj hP ha
  have e : r' = r := Option.some.inj (h1.symm.trans hc)
  subst e
  exact ⟨cell, h2, h4, by rw [h3]; exact (hK.1 c _ hc).2.1⟩
theorem kw_lt {G : kw_G} {σ : km_S} {H : Heap} (hP : kw_P G σ H) {a : Nat} {v : Bool × km_E} (ha : σ.2.2.2 a = some v) : a < σ.2.1 := by
  obtain ⟨ws, h1, h2, h3, h4, h5, h6, h7, h8, h9⟩ := hP
  obtain ⟨f, e⟩ := v
  rw [← h6]
  cases f with
  | true =>
    obtain ⟨k, hk⟩ := h1 a _ ha
    exact (h2 k _ hk).lt
  | false => exact Nat.lt_of_lt_of_le (h4 a _ ha).1 h7
/-- the invariant of the cells, after a cell was written or made -/
theorem kw_inv_up {m : km_Mem} {a : Nat} {b : Bool} {e : km_E} (h : kw_inv m) (h1 : ∀ f c fs, m a = some (f, .inr (c, fs)) → ∃ fs', e = .inr (c, fs'))
    (h2 : ∀ (k n : Nat) (g : Nat → Int32), e = .inl (k, n, .inl g) → k ≤ 2 ∧ ∀ i, fits (km_ty k) (.int (g i)) = true)
    (h3 : ∀ (k n : Nat) (g : Nat → Int64), e = .inl (k, n, .inr (.inl g)) → k = 3)
    (h4 : ∀ (k n : Nat) (g : Nat → Option Nat), e = .inl (k, n, .inr (.inr (.inr (.inr g)))) → (k = 4 ∨ k = 5) ∧ ∀ i y, g i = some y → ∃ (f' : Bool) (c : Nat) (fs : List Value) (r : vw_C), m y = some (f', .inr (c, fs)) ∧ kcl[c]? = some r ∧ (k = 5 → c = kn_String)) : kw_inv (km_up m a (b, e)) := by
  have keep : ∀ (y : Nat) (f' : Bool) (c : Nat) (fs : List Value), m y = some (f', .inr (c, fs)) → ∃ (f2 : Bool) (fs2 : List Value), km_up m a (b, e) y = some (f2, .inr (c, fs2)) := by
    intro y f' c fs hy
    by_cases hya : y = a
    · subst hya
      obtain ⟨fs', he⟩ := h1 f' c fs hy
      exact ⟨b, fs', by unfold km_up; rw [if_pos rfl, he]⟩
    · exact ⟨f', fs, by unfold km_up; rw [if_neg hya]; exact hy⟩
  refine ⟨fun x f k n g hx => ?_, fun x f k n g hx => ?_, fun x f k n g hx => ?_⟩
  · unfold km_up at hx
    split at hx
    · have h5 := Option.some.inj hx
      cases h5
      exact h2 k n g rfl
    · exact h.1 x f k n g hx
  · unfold km_up at hx
    split at hx
    · have h5 := Option.some.inj hx
      cases h5
      exact h3 k n g rfl
    · exact h.2.1 x f k n g hx
  · have h6 : (k = 4 ∨ k = 5) ∧ ∀ i y, g i = some y → ∃ (f' : Bool) (c : Nat) (fs : List Value) (r : vw_C), m y = some (f', .inr (c, fs)) ∧ kcl[c]? = some r ∧ (k = 5 → c = kn_String) := by
      unfold km_up at hx
      split at hx
      · have h5 := Option.some.inj hx
        cases h5
        exact h4 k n g rfl
      · exact h.2.2 x f k n g hx
    refine ⟨h6.1, fun i y hy => ?_⟩
    obtain ⟨f', c, fs, r, g1, g2, g3⟩ := h6.2 i y hy
    obtain ⟨f2, fs2, g4⟩ := keep y f' c fs g1
    exact ⟨f2, c, fs2, r, g4, g2, g3⟩
/-- after a cell was written -/
theorem kw_Pw_set {G : kw_G} {σ : km_S} {H H1 : Heap} {ws : va_W} {k a : Nat} {e0 e : km_E} (h : kw_Pw G σ H ws) (hk : ws[k]? = some (a, kw_e G e0)) (hat : va_at G.2.1 kcl (a, kw_e G e) H1) (hz : H1.size = H.size) (ho : ∀ q : Nat, q ≠ a → H1[q]? = H[q]?) (hinv : kw_inv (km_up σ.2.2.2 a (true, e))) (hmon : ∀ fs, e = .inr (kn_Refused, fs) → (∃ fs0, σ.2.2.2 a = some (true, .inr (kn_Refused, fs0))) ∧ ∀ c1 : Cell, H1[a]? = some c1 → ∃ c0 : Cell, H[a]? = some c0 ∧ c1.monitor = c0.monitor) :
    kw_P G (σ.1, σ.2.1, σ.2.2.1, km_up σ.2.2.2 a (true, e)) H1 := by
  obtain ⟨h1, h2, h3, h4, h5, h6, h7, h8, h9, h10⟩ := h
  have hl := (List.getElem?_eq_some_iff.mp hk).1
  have haA : kw_base G ≤ a := h3.2 k _ hk
  refine ⟨ws.set k (a, kw_e G e), fun x ex hx => ?_, h2.set h3 hk hat ho, h3.set hk, fun x ex hx => ?_, fun q hq2 => ?_, by rw [hz]; exact h6, by rw [hz]; exact h7, h8, hinv, fun x fs hx cell hcell => ?_⟩
  · change km_up σ.2.2.2 a (true, e) x = some (true, ex) at hx
    unfold km_up at hx
    split at hx
    · next hxa =>
      have h10 := Option.some.inj hx
      cases h10
      exact ⟨k, by rw [hxa]; exact List.getElem?_set_self hl⟩
    · next hxa =>
      obtain ⟨j, hj⟩ := h1 x ex hx
      refine ⟨j, ?_⟩
      have hjk : k ≠ j := by
        intro hjk
        subst hjk
        rw [hk] at hj
        exact hxa (Prod.mk.inj (Option.some.inj hj)).1.symm
      rw [List.getElem?_set_ne hjk]
      exact hj
  · change km_up σ.2.2.2 a (true, e) x = some (false, ex) at hx
    unfold km_up at hx
    split at hx
    · have h10 := (Prod.mk.inj (Option.some.inj hx)).1
      cases h10
    · exact h4 x ex hx
  · rw [ho q (by omega)]
    exact h5 q hq2
  · change km_up σ.2.2.2 a (true, e) x = some (true, .inr (kn_Refused, fs)) at hx
    unfold km_up at hx
    split at hx
    · next hxa =>
      have h11 := (Prod.mk.inj (Option.some.inj hx)).2
      obtain ⟨⟨fs0, g1⟩, g2⟩ := hmon fs h11
      rw [hxa] at hcell
      obtain ⟨c0, g3, g4⟩ := g2 cell hcell
      rw [g4]
      exact h10 a fs0 g1 c0 g3
    · next hxa =>
      rw [ho x hxa] at hcell
      exact h10 x fs hx cell hcell
/-- after a cell was made -/
theorem kw_Pw_push {G : kw_G} {σ : km_S} {H H1 : Heap} {ws : va_W} {n : Nat} {e : km_E} (h : kw_Pw G σ H ws) (hat : va_at G.2.1 kcl (H.size, kw_e G e) H1) (hz : H1.size = H.size + 1) (ho : ∀ q, q < H.size → H1[q]? = H[q]?) 
    (h2' : ∀ (k n : Nat) (g : Nat → Int32), e = .inl (k, n, .inl g) → k ≤ 2 ∧ ∀ i, fits (km_ty k) (.int (g i)) = true)
    (h3' : ∀ (k n : Nat) (g : Nat → Int64), e = .inl (k, n, .inr (.inl g)) → k = 3)
    (h4' : ∀ (k n : Nat) (g : Nat → Option Nat), e = .inl (k, n, .inr (.inr (.inr (.inr g)))) → (k = 4 ∨ k = 5) ∧ ∀ i, g i = none)
    (hmon : ∀ fs, e = .inr (kn_Refused, fs) → ∀ c1 : Cell, H1[H.size]? = some c1 → c1.monitor.owner = none ∧ c1.monitor.count = 0) :
    kw_P G (σ.1, σ.2.1 + 1, σ.2.2.1 + n, km_up σ.2.2.2 σ.2.1 (true, e)) H1 := by
  have hP0 : kw_P G σ H := ⟨ws, h⟩
  obtain ⟨h1, h2, h3, h4, h5, h6, h7, h8, h9, h10⟩ := h
  have hfresh : ∀ v, σ.2.2.2 σ.2.1 = some v → False := fun v hv => Nat.lt_irrefl _ (kw_lt hP0 hv)
  have hk : ∀ (k : Nat) (x : Nat × va_E), ws[k]? = some x → H1[x.1]? = H[x.1]? := fun k x hx => ho x.1 ((h2 k x hx).lt)
  refine ⟨ws ++ [(H.size, kw_e G e)], fun x ex hx => ?_, (h2.kept hk).app (fun k x hx => ?_), h3.push h2 rfl h7, fun x ex hx => ?_, fun q hq2 => ?_, by rw [hz, h6], by omega, h8, kw_inv_up h9 (fun f c fs hv => (hfresh _ hv).elim) h2' h3' (fun k n g he => ⟨(h4' k n g he).1, fun i y hy => by rw [(h4' k n g he).2 i] at hy; cases hy⟩), fun x fs hx cell hcell => ?_⟩
  · change km_up σ.2.2.2 σ.2.1 (true, e) x = some (true, ex) at hx
    unfold km_up at hx
    split at hx
    · next hxa =>
      have h10 := Option.some.inj hx
      cases h10
      exact ⟨ws.length, by rw [hxa, ← h6, List.getElem?_append_right (Nat.le_refl _), Nat.sub_self]; rfl⟩
    · obtain ⟨j, hj⟩ := h1 x ex hx
      exact ⟨j, by rw [List.getElem?_append_left (List.getElem?_eq_some_iff.mp hj).1]; exact hj⟩
  · have hz2 : k < 1 := (List.getElem?_eq_some_iff.mp hx).1
    rw [show k = 0 by omega] at hx
    cases hx
    exact hat
  · change km_up σ.2.2.2 σ.2.1 (true, e) x = some (false, ex) at hx
    unfold km_up at hx
    split at hx
    · have h10 := (Prod.mk.inj (Option.some.inj hx)).1
      cases h10
    · exact h4 x ex hx
  · rw [ho q (Nat.lt_of_lt_of_le hq2 h7)]
    exact h5 q hq2
  · change km_up σ.2.2.2 σ.2.1 (true, e) x = some (true, .inr (kn_Refused, fs)) at hx
    unfold km_up at hx
    split at hx
    · next hxa =>
      have h11 := (Prod.mk.inj (Option.some.inj hx)).2
      rw [hxa, ← h6] at hcell
      exact hmon fs h11 cell hcell
    · next hxa =>
      have hlt : x < H.size := by rw [h6]; exact kw_lt hP0 hx
      rw [ho x hlt] at hcell
      exact h10 x fs hx cell hcell
/-- what follows a store -/
theorem kw_set_W {p : Program} {l : Launch} {e : Env} {R : Room} {s : State} {m : MethodId} {args : Array Value} {below : List Frame} {meth : Method} {c : Code} {H H1 : Heap} {locs locs1 : List Loc} {cells slots : Nat} {Q : State → Prop} {g : JFrame} {G : kw_G} {σ : km_S} {ws : va_W} {k a n0 z0 : Nat} {e0 en : km_E} (hPw : kw_Pw G σ H ws) (hk : ws[k]? = some (a, kw_e G e0)) (hloc : ∀ q ∈ locs, kw_A G q.base) (hl1 : ∀ z ∈ locs1, z ∈ locs ∨ z.base = a) (hc1 : n0 + cells = σ.2.1) (hc2 : z0 + slots = σ.2.2.1) (hinv : kw_inv (km_up σ.2.2.2 a (true, en))) (hmon : ∀ fs, en = .inr (kn_Refused, fs) → (∃ fs0, σ.2.2.2 a = some (true, .inr (kn_Refused, fs0))) ∧ ∀ c1 : Cell, H1[a]? = some c1 → ∃ c0 : Cell, H[a]? = some c0 ∧ c1.monitor = c0.monitor) (hat : va_at G.2.1 kcl (a, kw_e G en) H1) (hz : H1.size = H.size) (ho : ∀ q : Nat, q ≠ a → H1[q]? = H[q]?)
    (kk : kw_S G n0 z0 (σ.1, σ.2.1, σ.2.2.1, km_up σ.2.2.2 a (true, en)) H1 locs1 cells slots → W p l e R s m args below meth c H1 locs1 cells slots Q g) : W p l e R s m args below meth c H1 locs1 cells slots Q g := by
  have haA : kw_base G ≤ a := hPw.2.2.1.2 k _ hk
  refine kk ⟨kw_Pw_set hPw hk hat hz ho hinv hmon, fun z hz => ?_, hc1, hc2⟩
  rcases hl1 z hz with h | h
  · exact hloc z h
  · rw [h]; exact haA
theorem kw_mem1 {locs : List Loc} {a j : Nat} : ∀ z ∈ locs ++ [(⟨a, j⟩ : Loc)], z ∈ locs ∨ z.base = a := by
  intro z hz
  rcases List.mem_append.mp hz with h | h
  · exact Or.inl h
  · rw [List.mem_singleton.mp h]; exact Or.inr rfl
/-- the machine's own count of cells bounds the heap -/
theorem kw_size {p : Program} {l : Launch} {e : Env} {R : Room} {s : State} {m : MethodId} {args : Array Value} {below : List Frame} {meth : Method} {c : Code} {H : Heap} {locs : List Loc} {cells slots : Nat} {Q : State → Prop} {g : JFrame} (k : H.size ≤ s.heap.size + cells → W p l e R s m args below meth c H locs cells slots Q g) : W p l e R s m args below meth c H locs cells slots Q g := by
  intro T hT X
  exact k (by rw [← hT]; exact X.heapSize) T hT X
/-! field words -/
def kw_fl (own : String) (index : Nat) (ref : String) (tbl : List (Nat × Nat)) : Prop := ∀ c k, tbl.lookup c = some k → ∃ (C : String) (T : u_T) (N : Nat), kcl[c]? = some (C, T, N) ∧ k < N ∧ (∀ w ∈ u_ws C T N, w ∈ lw_all) ∧ Cond.fieldLink own index ref (T k).2.1 (T k).2.2.1 ∈ lw_all ∧ (ref = (T k).1 ∨ Cond.sameField ref (T k).1 (T k).2.1 (T k).2.2.1 ∈ lw_all)
def kw_flN (own : String) (index : Nat) (ref host : String) (tbl : List (Nat × Nat)) : Prop := ∀ c k, tbl.lookup c = some k → ∃ (C : String) (T : u_T) (N : Nat), kcl[c]? = some (C, T, N) ∧ k < N ∧ (∀ w ∈ u_ws C T N, w ∈ lw_all) ∧ Cond.fieldLinkNest own index ref (T k).2.1 (T k).2.2.1 host ∈ lw_tbl ∧ (ref = (T k).1 ∨ Cond.sameField ref (T k).1 (T k).2.1 (T k).2.2.1 ∈ lw_all)
/-- two fields lie apart: by their names, or (final ones) by the classes that declare them -/
def kw_ap (T : u_T) (a b : Nat) : Prop := (T a).2.1 ≠ (T b).2.1 ∨ ((T a).2.2.2 = true ∧ (T b).2.2.2 = true ∧ (T a).1 ≠ (T b).1)
/-- what a store needs beside: types, fields apart, final or not -/
def kw_fp (own : String) (ty : FieldType) (fin : Bool) (tbl : List (Nat × Nat)) : Prop := ∀ c k, tbl.lookup c = some k → ∃ (C : String) (T : u_T) (N : Nat) (ty0 : Nat → FieldType), kcl[c]? = some (C, T, N) ∧ (∀ k, k < N → parseFieldDescriptor (T k).2.2.1 = some (ty0 k)) ∧ (∀ a, a < N → ∀ b, b < N → a ≠ b → kw_ap T a b) ∧ (fin = false → ∀ a, a < N → ∀ b, b < N → a ≠ b → (T a).2.1 ≠ (T b).2.1) ∧ (T k).2.2.2 = fin ∧ (fin = true → (T k).1 = own) ∧ parseFieldDescriptor (T k).2.2.1 = some ty
theorem kw_lk1 {c k c' k' : Nat} (h : ([(c, k)] : List (Nat × Nat)).lookup c' = some k') : c' = c ∧ k' = k := by
  simp only [List.lookup_cons, List.lookup_nil] at h
  split at h
  · next e =>
    cases h
    exact ⟨by simpa using e, rfl⟩
  · cases h
theorem kw_lkc {c k c' k' : Nat} {t : List (Nat × Nat)} (h : ((c, k) :: t).lookup c' = some k') : (c' = c ∧ k' = k) ∨ t.lookup c' = some k' := by
  simp only [List.lookup_cons] at h
  split at h
  · next e =>
    cases h
    exact Or.inl ⟨by simpa using e, rfl⟩
  · exact Or.inr h
theorem kw_fl_nil {own : String} {index : Nat} {ref : String} : kw_fl own index ref [] := fun c k h => by cases h
theorem kw_fl_c {own : String} {index : Nat} {ref : String} {tbl : List (Nat × Nat)} {c k N : Nat} {C : String} {T : u_T} (h1 : kcl[c]? = some (C, T, N)) (h2 : k < N) (h3 : ∀ w ∈ u_ws C T N, w ∈ lw_all) (h4 : Cond.fieldLink own index ref (T k).2.1 (T k).2.2.1 ∈ lw_all) (h5 : ref = (T k).1 ∨ Cond.sameField ref (T k).1 (T k).2.1 (T k).2.2.1 ∈ lw_all) (ht : kw_fl own index ref tbl) : kw_fl own index ref ((c, k) :: tbl) := by
  intro c' k' h
  rcases kw_lkc h with ⟨e1, e2⟩ | h
  · subst e1; subst e2
    exact ⟨C, T, N, h1, h2, h3, h4, h5⟩
  · exact ht c' k' h
theorem kw_flN_nil {own : String} {index : Nat} {ref host : String} : kw_flN own index ref host [] := fun c k h => by cases h
theorem kw_flN_c {own : String} {index : Nat} {ref host : String} {tbl : List (Nat × Nat)} {c k N : Nat} {C : String} {T : u_T} (h1 : kcl[c]? = some (C, T, N)) (h2 : k < N) (h3 : ∀ w ∈ u_ws C T N, w ∈ lw_all) (h4 : Cond.fieldLinkNest own index ref (T k).2.1 (T k).2.2.1 host ∈ lw_tbl) (h5 : ref = (T k).1 ∨ Cond.sameField ref (T k).1 (T k).2.1 (T k).2.2.1 ∈ lw_all) (ht : kw_flN own index ref host tbl) : kw_flN own index ref host ((c, k) :: tbl) := by
  intro c' k' h
  rcases kw_lkc h with ⟨e1, e2⟩ | h
  · subst e1; subst e2
    exact ⟨C, T, N, h1, h2, h3, h4, h5⟩
  · exact ht c' k' h
theorem kw_fp_nil {own : String} {ty : FieldType} {fin : Bool} : kw_fp own ty fin [] := fun c k h => by cases h
theorem kw_fp_c {own : String} {ty : FieldType} {fin : Bool} {tbl : List (Nat × Nat)} {c k N : Nat} {C : String} {T : u_T} {ty0 : Nat → FieldType} (h1 : kcl[c]? = some (C, T, N)) (h2 : ∀ k, k < N → parseFieldDescriptor (T k).2.2.1 = some (ty0 k)) (h3 : ∀ a, a < N → ∀ b, b < N → a ≠ b → (T a).2.1 ≠ (T b).2.1) (h4 : (T k).2.2.2 = fin) (h5 : fin = true → (T k).1 = own) (hk : k < N) (h6 : ty0 k = ty) (ht : kw_fp own ty fin tbl) : kw_fp own ty fin ((c, k) :: tbl) := by
  intro c' k' h
  rcases kw_lkc h with ⟨e1, e2⟩ | h
  · subst e1; subst e2
    exact ⟨C, T, N, ty0, h1, h2, fun a ha b hb hab => Or.inl (h3 a ha b hb hab), fun _ => h3, h4, h5, by rw [h2 _ hk, h6]⟩
  · exact ht c' k' h
theorem kw_fp_d {own : String} {ty : FieldType} {tbl : List (Nat × Nat)} {c k N : Nat} {C : String} {T : u_T} {ty0 : Nat → FieldType} (h1 : kcl[c]? = some (C, T, N)) (h2 : ∀ k, k < N → parseFieldDescriptor (T k).2.2.1 = some (ty0 k)) (h3 : ∀ a, a < N → ∀ b, b < N → a ≠ b → kw_ap T a b) (h4 : (T k).2.2.2 = true) (h5 : (T k).1 = own) (hk : k < N) (h6 : ty0 k = ty) (ht : kw_fp own ty true tbl) : kw_fp own ty true ((c, k) :: tbl) := by
  intro c' k' h
  rcases kw_lkc h with ⟨e1, e2⟩ | h
  · subst e1; subst e2
    exact ⟨C, T, N, ty0, h1, h2, h3, (fun h => by cases h), h4, fun _ => h5, by rw [h2 _ hk, h6]⟩
  · exact ht c' k' h
theorem kw_lays_final {args : Array Value} {s : State} {C : String} {T : u_T} {N k : Nat} (hts : ∀ w ∈ lw_all, w.before args s = true) (hin : ∀ w ∈ u_ws C T N, w ∈ lw_all) (hk : k < N) (hfin : (T k).2.2.2 = true) : (Cond.laysFinal C (T k).1 (T k).2.1 (T k).2.2.1).before args s = true := by
  have h := hts _ (hin _ (u_in_lay hk))
  unfold u_lay at h
  rw [if_pos hfin] at h
  exact h
/-- the fields of a class lie apart -/
theorem kw_apart {G : kw_G} {args : Array Value} {s : State} {C : String} {T : u_T} {N ci : Nat} {ty0 : Nat → FieldType} (hts : ∀ w ∈ lw_all, w.before args s = true) (hin : ∀ w ∈ u_ws C T N, w ∈ lw_all) (hty : ∀ k, k < N → parseFieldDescriptor (T k).2.2.1 = some (ty0 k)) (hap : ∀ a, a < N → ∀ b, b < N → a ≠ b → kw_ap T a b) (hK : va_K G.2.1 kcl (kw_tys G) s) (hc : kcl[ci]? = some (C, T, N)) : ∀ x y, x < N → y < N → x ≠ y → G.2.1.2 ci x ≠ G.2.1.2 ci y := by
  intro x y hx hy hne
  obtain ⟨hS, -⟩ := hK.1 ci _ hc
  obtain ⟨_, ka, _, fa, hia, ea⟩ := hS x hx
  obtain ⟨_, kb, _, fb, hib, eb⟩ := hS y hy
  rw [← ea, ← eb]
  rcases hap x hx y hy hne with h | ⟨f1, f2, h⟩
  · refine u_apart (u_lays hts hin hx) (u_lays hts hin hy) hia hib ?_
    rw [(State.fieldFound?_type hia (hty x hx)).1, (State.fieldFound?_type hib (hty y hy)).1]
    exact h
  · obtain ⟨c1, k1, c1', k1', i1, g1, a1, -, a3, -, -, -, a7, -, d1, a9, a10, -⟩ := Cond.laysFinal_spec (kw_lays_final hts hin hx f1)
    obtain ⟨c2, k2, c2', k2', i2, g2, b1, -, b3, -, -, -, b7, -, d2, b9, b10, -⟩ := Cond.laysFinal_spec (kw_lays_final hts hin hy f2)
    cases a3.symm.trans hia
    cases b3.symm.trans hib
    cases a1.symm.trans b1
    intro he
    rw [he] at a9
    cases a9.symm.trans b9
    apply h
    obtain ⟨z1, z2, z3⟩ := Vm.findClass_spec a7
    obtain ⟨w1, w2, w3⟩ := Vm.findClass_spec b7
    have y1 := (State.fieldFound?_spec a3)
    have y2 := (State.fieldFound?_spec b3)
    rw [← z3, ← w3]
    have q1 : ka = z1 := Option.some.inj (y1.1.symm.trans z2)
    have q2 : kb = w1 := Option.some.inj (y2.1.symm.trans w2)
    rw [← q1, ← q2]
    exact a10.symm.trans b10
theorem kw_same {args : Array Value} {s : State} {ref : String} {T : u_T} {k : Nat} (hts : ∀ w ∈ lw_all, w.before args s = true) (h : ref = (T k).1 ∨ Cond.sameField ref (T k).1 (T k).2.1 (T k).2.2.1 ∈ lw_all) : ∀ x, s.fieldFound? (T k).1 (T k).2.1 (T k).2.2.1 = some x → s.fieldFound? ref (T k).2.1 (T k).2.2.1 = some x := by
  intro x hx
  rcases h with e | h
  · rw [e]; exact hx
  · exact u_same (hts _ h) x hx
/-! words of the tables that don't ride in the lists: from the start -/
theorem kw_nestF {G : kw_G} {s : State} (h0 : kw_G0 G) (hW : G.1.WarmedH s.vm) {a : String} {i : Nat} {b n d h : String} (hw : Cond.fieldLinkNest a i b n d h ∈ lw_tbl) {args : Array Value} : (Cond.fieldLinkNest a i b n d h).before args s = true := by
  obtain ⟨b0, ht, -⟩ := h0
  exact va_Nw.use rfl (va_Nw.warmF hW (va_Nw.of rfl (ht _ hw)))
theorem kw_nestM {G : kw_G} {s : State} (h0 : kw_G0 G) (hW : G.1.WarmedH s.vm) {a : String} {i : Nat} {x : MethodName} {h : String} (hw : Cond.methodLinkNest a i x h ∈ lw_tbl) : va_Nw (.methodLinkNest a i x h) s := by
  obtain ⟨b0, ht, -⟩ := h0
  exact va_Nw.warmM hW (va_Nw.of rfl (ht _ hw))
theorem kw_castW {G : kw_G} {s : State} (h0 : kw_G0 G) (hW : G.1.WarmedH s.vm) {C T : String} (hw : Cond.castable C T ∈ lw_tbl) : va_Nw (.castable C T) s := by
  obtain ⟨b0, ht, -⟩ := h0
  exact va_Nw.warmC hW (va_Nw.of rfl (ht _ hw))
section KWG
variable {ρ : Type} {E : kw_E} {enc : ρ → kw_R} {cc : ByteArray} {own nm : String} {ret : Option FieldType} {nL fr lo pc : Nat} {hh : List ExceptionTableEntry} {L : List (Nat × kw_L)} {st : List kw_L}
/-- a field is read -/
theorem kw_gV {α : Type} (cv : Value → Option α) (lv : α → kw_L) (hcv : ∀ v x, cv v = some x → v = kw_v (lv x)) (B : kw_ok E cc own nm nL ret fr lo hh) {index : Nat} (d : decode cc pc = .ok (.getfield index, 3)) {ref : String} {tbl : List (Nat × Nat)} (hf : kw_fl own index ref tbl ∨ ∃ host, kw_flN own index ref host tbl) {r : Option Nat} {f : α → km_M ρ} (k : ∀ v, kw_W E enc (pc + 3) L (lv v :: st) (f v)) : kw_W E enc pc L (kA r :: st) (km_bind (km_rd (fun s => (km_fld tbl s r).bind cv)) f) := by
  obtain ⟨p, l, e, R, s, m, args, below, meth, c, G, n0, z0⟩ := E
  obtain ⟨hx, hb, hml, hr, hown, hts, hlk, hnm, hhh, hfr, hlo, h0, hW, hsz, hbase, hold⟩ := B
  intro σ r1 τ H locs cells slots ls hx1 h1 h2 hS hl
  obtain ⟨x, u, e1, e2⟩ := km_bind_some hx1
  obtain ⟨e3, e4⟩ := km_rd_some e1
  subst e4
  obtain ⟨v, e5, e6⟩ := Option.bind_eq_some_iff.mp e3
  obtain ⟨a, fl, ci, fs, kk, rfl, ha, hl2, hk⟩ := km_fld_some e5
  obtain ⟨r', cell, g1, g2, g3, g4, g5, g6⟩ := kw_obj hS.1 ha
  have hK := kw_K h0 hW
  have hgo := k x u r1 τ H locs cells slots ls e2 h1 h2 hS hl
  have hv := hcv v x e6
  rcases hf with hf | ⟨host, hf⟩
  · obtain ⟨C, T, N, q1, q2, q3, q4, q5⟩ := hf ci kk hl2
    have er : r' = (C, T, N) := Option.some.inj (g1.symm.trans q1)
    subst er
    obtain ⟨hSl, hfc, kC, hkC, hkind⟩ := hK.1 ci _ q1
    obtain ⟨cf, kf, fi, fd, hi, hsl⟩ := hSl kk q2
    refine W.getf hx hb hown (hts _ q4) (kw_same hts q5 _ hi) (u_facts hfc hkC (u_lays hts q3 q2) hi).1 g2 g5 (v := v) ?_ rfl rfl d (by rw [hv]; exact hgo)
    rw [hsl, g6 kk q2]
    simp [vp_V, hk]
  · obtain ⟨C, T, N, q1, q2, q3, q4, q5⟩ := hf ci kk hl2
    have er : r' = (C, T, N) := Option.some.inj (g1.symm.trans q1)
    subst er
    obtain ⟨hSl, hfc, kC, hkC, hkind⟩ := hK.1 ci _ q1
    obtain ⟨cf, kf, fi, fd, hi, hsl⟩ := hSl kk q2
    refine va_Wgetf hx hb hown (kw_nestF h0 hW q4) (kw_same hts q5 _ hi) (u_facts hfc hkC (u_lays hts q3 q2) hi).1 g2 g5 (v := v) ?_ rfl rfl d (by rw [hv]; exact hgo)
    rw [hsl, g6 kk q2]
    simp [vp_V, hk]
theorem kw_gI (B : kw_ok E cc own nm nL ret fr lo hh) {index : Nat} (d : decode cc pc = .ok (.getfield index, 3)) {ref : String} {tbl : List (Nat × Nat)} (hf : kw_fl own index ref tbl) {r : Option Nat} {f : Int32 → km_M ρ} (k : ∀ v, kw_W E enc (pc + 3) L (kI v :: st) (f v)) : kw_W E enc pc L (kA r :: st) (km_bind (km_gI tbl r) f) :=
  kw_gV km_vI kI (fun v x h => km_vI_some h) B d (Or.inl hf) k
theorem kw_gR (B : kw_ok E cc own nm nL ret fr lo hh) {index : Nat} (d : decode cc pc = .ok (.getfield index, 3)) {ref : String} {tbl : List (Nat × Nat)} (hf : kw_fl own index ref tbl) {r : Option Nat} {f : Option Nat → km_M ρ} (k : ∀ v, kw_W E enc (pc + 3) L (kA v :: st) (f v)) : kw_W E enc pc L (kA r :: st) (km_bind (km_gR tbl r) f) :=
  kw_gV km_vR kA (fun v x h => km_vR_some h) B d (Or.inl hf) k
theorem kw_gIN (B : kw_ok E cc own nm nL ret fr lo hh) {index : Nat} (d : decode cc pc = .ok (.getfield index, 3)) {ref host : String} {tbl : List (Nat × Nat)} (hf : kw_flN own index ref host tbl) {r : Option Nat} {f : Int32 → km_M ρ} (k : ∀ v, kw_W E enc (pc + 3) L (kI v :: st) (f v)) : kw_W E enc pc L (kA r :: st) (km_bind (km_gI tbl r) f) :=
  kw_gV km_vI kI (fun v x h => km_vI_some h) B d (Or.inr ⟨_, hf⟩) k
theorem kw_gRN (B : kw_ok E cc own nm nL ret fr lo hh) {index : Nat} (d : decode cc pc = .ok (.getfield index, 3)) {ref host : String} {tbl : List (Nat × Nat)} (hf : kw_flN own index ref host tbl) {r : Option Nat} {f : Option Nat → km_M ρ} (k : ∀ v, kw_W E enc (pc + 3) L (kA v :: st) (f v)) : kw_W E enc pc L (kA r :: st) (km_bind (km_gR tbl r) f) :=
  kw_gV km_vR kA (fun v x h => km_vR_some h) B d (Or.inr ⟨_, hf⟩) k
/-- a field is written -/
theorem kw_pV (B : kw_ok E cc own nm nL ret fr lo hh) {index : Nat} (d : decode cc pc = .ok (.putfield index, 3)) {ref : String} {ty : FieldType} {fin : Bool} {tbl : List (Nat × Nat)} (hf : kw_fl own index ref tbl ∨ (fin = false ∧ ∃ host, kw_flN own index ref host tbl)) (hp : kw_fp own ty fin tbl) (hini : fin = true → nm = "<init>") {r : Option Nat} (v : kw_L) (g : km_S → Option (Nat × km_E)) (hg : ∀ s q, g s = some q → km_pv tbl r (kw_v v) s = some q ∧ narrow ty (kw_v v) = kw_v v ∧ fits ty (kw_v v) = true) {f : Unit → km_M ρ} (k : kw_W E enc (pc + 3) L st (f ())) : kw_W E enc pc L (v :: kA r :: st) (km_bind (km_wr g) f) := by
  obtain ⟨p, l, e, R, s, m, args, below, meth, c, G, n0, z0⟩ := E
  obtain ⟨hx, hb, hml, hr, hown, hts, hlk, hnm, hhh, hfr, hlo, h0, hW, hsz, hbase, hold⟩ := B
  intro σ r1 τ H locs cells slots ls hx1 h1 h2 hS hl
  obtain ⟨x, u, e1, e2⟩ := km_bind_some hx1
  obtain ⟨a, en, e3, e4⟩ := km_wr_some e1
  subst e4
  obtain ⟨e5, hn, hfit⟩ := hg σ _ e3
  obtain ⟨ci, fs, kk, rfl, ha, hl2, hlen, rfl⟩ := km_pv_some e5
  have hK := kw_K h0 hW
  obtain ⟨⟨ws, hPw⟩, hloc, hc1, hc2⟩ := hS
  obtain ⟨w0, hw0⟩ := hPw.1 a _ ha
  obtain ⟨C, T, N, ty0, p1, p2, p3a, p3, p4, p5, p6⟩ := hp ci kk hl2
  obtain ⟨rr, g1, cell, g2, g3, g4, g5⟩ := hPw.2.1 w0 _ hw0
  have er : rr = (C, T, N) := Option.some.inj (g1.symm.trans p1)
  subst er
  have fin' : ∀ (q1 : kk < N) (q3 : ∀ w ∈ u_ws C T N, w ∈ lw_all) (H1 : Heap), H1[a]? = some (cell.setSlot (G.2.1.2 ci kk) (kw_v v)) → H1.size = H.size → (∀ q : Nat, q ≠ a → H1[q]? = H[q]?) → W p l e R s m args below meth c H1 (locs ++ [⟨a, G.2.1.2 ci kk⟩]) cells slots (vx_MQ below (kw_Qc G (enc r1) τ) (kw_XC G (enc r1) τ) args s (τ.2.1 - n0) (τ.2.2.1 - z0) (kw_A G)) (F0 m (pc + 3) ls (kw_st st)) := by
    intro q1 q3 H1 z1 z2 z3
    have hap := kw_apart (G := G) hts q3 p2 p3a hK p1
    refine kw_set_W hPw hw0 hloc kw_mem1 hc1 hc2 (en := .inr (ci, fs.set kk (kw_v v))) (kw_inv_up hPw.2.2.2.2.2.2.2.2.1 (fun f' c' fs' h' => ?_) (fun k n g h => by cases h) (fun k n g h => by cases h) (fun k n g h => by cases h)) (fun fs9 h9 => ?_) ⟨_, p1, t_OB.to (V := updV (vp_V fs) kk (kw_v v)) ⟨_, z1, g3, g4, t_set g5 hap q1 (kw_v v)⟩ (fun j _ => vp_updV_set hlen (kw_v v) j)⟩ z2 z3 fun hS2 => k _ r1 τ H1 _ cells slots ls e2 h1 h2 hS2 hl
    · rw [ha] at h'
      cases h'
      exact ⟨_, rfl⟩
    · have h8 : ci = kn_Refused := (Prod.mk.inj (Sum.inr.inj h9)).1
      subst h8
      refine ⟨⟨fs, ha⟩, fun c1 hc => ⟨cell, g2, ?_⟩⟩
      rw [z1] at hc
      cases hc
      rfl
  rcases hf with hf | ⟨hfin, host, hf⟩
  · obtain ⟨C', T', N', q1, q2, q3, q4, q5⟩ := hf ci kk hl2
    have er : (C, T, N) = (C', T', N') := Option.some.inj (p1.symm.trans q1)
    cases er
    obtain ⟨hSl, hfc, kC, hkC, hkind⟩ := hK.1 ci _ q1
    obtain ⟨cf, kf, fi, fd, hi, hsl⟩ := hSl kk q2
    have hst := (u_facts hfc hkC (u_lays hts q3 q2) hi).1
    cases fin with
    | false =>
      have hlay := hts _ (q3 _ (u_in_lay q2))
      unfold u_lay at hlay
      rw [if_neg (by rw [p4]; decide)] at hlay
      refine W.putK hx hb (f := fd) ⟨hown, hts _ q4, ⟨_, _, _, kw_same hts q5 _ hi⟩, hst⟩ (by rw [g3]; exact u_store hfc hkC hkind hlay hi p6 hn hfit) g2 g4 (by rw [hsl]; exact (Array.getElem?_eq_some_iff.mp (g5 kk q2)).1) rfl rfl d fun H1 z1 z2 z3 => ?_
      rw [hsl] at z1 ⊢
      exact fin' q2 q3 H1 z1 z2 z3
    | true =>
      have hlay := kw_lays_final hts q3 q2 p4
      have hcf : m.cls = cf := by
        obtain ⟨_, _, c', _, _, _, -, -, hf', -, -, -, hown2, -⟩ := Cond.laysFinal_spec hlay
        cases hf'.symm.trans hi
        rw [p5 rfl] at hown2
        exact Option.some.inj (hown.symm.trans hown2)
      have h6 := u_fits hfc hkC hkind (Or.inr hlay) hi p6 hn hfit
      refine W.putFinK hx hb hown (hts _ q4) (kw_same hts q5 _ hi) hst hcf (hnm.trans (hini rfl)) (by rw [g3]; exact h6) g2 g4 (by rw [hsl]; exact (Array.getElem?_eq_some_iff.mp (g5 kk q2)).1) rfl rfl d fun H1 z1 z2 z3 => ?_
      rw [hsl] at z1 ⊢
      exact fin' q2 q3 H1 z1 z2 z3
  · obtain ⟨C', T', N', q1, q2, q3, q4, q5⟩ := hf ci kk hl2
    have er : (C, T, N) = (C', T', N') := Option.some.inj (p1.symm.trans q1)
    cases er
    subst hfin
    obtain ⟨hSl, hfc, kC, hkC, hkind⟩ := hK.1 ci _ q1
    obtain ⟨cf, kf, fi, fd, hi, hsl⟩ := hSl kk q2
    have hst := (u_facts hfc hkC (u_lays hts q3 q2) hi).1
    have hlay := hts _ (q3 _ (u_in_lay q2))
    unfold u_lay at hlay
    rw [if_neg (by rw [p4]; decide)] at hlay
    refine va_WputK hx hb (f := fd) hown (kw_nestF h0 hW q4) (kw_same hts q5 _ hi) hst (by rw [g3]; exact u_store hfc hkC hkind hlay hi p6 hn hfit) g2 g4 (by rw [hsl]; exact (Array.getElem?_eq_some_iff.mp (g5 kk q2)).1) rfl rfl d fun H1 z1 z2 z3 => ?_
    rw [hsl] at z1 ⊢
    exact fin' q2 q3 H1 z1 z2 z3
theorem km_fitB_ok {ty : FieldType} {x : Int32} (h : km_fitB ty x = true) : narrow ty (.int x) = .int x ∧ fits ty (.int x) = true := by
  cases ty with
  | int => exact ⟨rfl, rfl⟩
  | boolean =>
    have h1 : x = 0 ∨ x = 1 := by simpa [km_fitB] using h
    rcases h1 with rfl | rfl <;> exact ⟨rfl, rfl⟩
  | byte =>
    have h1 : vp_nar .byte x = x := by simpa [km_fitB] using h
    have h2 : narrow .byte (.int x) = .int (vp_nar .byte x) := rfl
    exact ⟨by rw [h2, h1], by rw [← h1]; exact kw_fit_byte x⟩
  | char =>
    have h1 : vp_nar .char x = x := by simpa [km_fitB] using h
    have h2 : narrow .char (.int x) = .int (vp_nar .char x) := rfl
    exact ⟨by rw [h2, h1], by rw [← h1]; exact kw_fit_char x⟩
  | _ => cases h
theorem kw_pI (B : kw_ok E cc own nm nL ret fr lo hh) {index : Nat} (d : decode cc pc = .ok (.putfield index, 3)) {ref : String} {ty : FieldType} {fin : Bool} {tbl : List (Nat × Nat)} (hf : kw_fl own index ref tbl) (hp : kw_fp own ty fin tbl) (hini : fin = true → nm = "<init>") {r : Option Nat} {v : Int32} {f : Unit → km_M ρ} (k : kw_W E enc (pc + 3) L st (f ())) : kw_W E enc pc L (kI v :: kA r :: st) (km_bind (km_pI ty tbl r v) f) := by
  refine kw_pV B d (Or.inl hf) hp hini (kI v) _ (fun s q h => ?_) k
  split at h
  · next hb => exact ⟨h, km_fitB_ok hb⟩
  · cases h
theorem kw_pIN (B : kw_ok E cc own nm nL ret fr lo hh) {index : Nat} (d : decode cc pc = .ok (.putfield index, 3)) {ref host : String} {ty : FieldType} {tbl : List (Nat × Nat)} (hf : kw_flN own index ref host tbl) (hp : kw_fp own ty false tbl) {r : Option Nat} {v : Int32} {f : Unit → km_M ρ} (k : kw_W E enc (pc + 3) L st (f ())) : kw_W E enc pc L (kI v :: kA r :: st) (km_bind (km_pI ty tbl r v) f) := by
  refine kw_pV B d (Or.inr ⟨rfl, _, hf⟩) hp (fun h => by cases h) (kI v) _ (fun s q h => ?_) k
  split at h
  · next hb => exact ⟨h, km_fitB_ok hb⟩
  · cases h
def kw_isR (ty : FieldType) : Bool := match ty with
  | .object _ => true
  | .array _ => true
  | _ => false
theorem kw_isR_ok {ty : FieldType} (h : kw_isR ty = true) (v : Option Nat) : narrow ty (va_rf v) = va_rf v ∧ fits ty (va_rf v) = true := by
  cases ty <;> first | (cases v <;> exact ⟨rfl, rfl⟩) | cases h
theorem kw_pR (B : kw_ok E cc own nm nL ret fr lo hh) {index : Nat} (d : decode cc pc = .ok (.putfield index, 3)) {ref : String} {ty : FieldType} {fin : Bool} {tbl : List (Nat × Nat)} (hf : kw_fl own index ref tbl) (hp : kw_fp own ty fin tbl) (hini : fin = true → nm = "<init>") (hty : kw_isR ty = true) {r v : Option Nat} {f : Unit → km_M ρ} (k : kw_W E enc (pc + 3) L st (f ())) : kw_W E enc pc L (kA v :: kA r :: st) (km_bind (km_pR tbl r v) f) :=
  kw_pV B d (Or.inl hf) hp hini (kA v) _ (fun s q h => ⟨h, kw_isR_ok hty v⟩) k
theorem kw_pRN (B : kw_ok E cc own nm nL ret fr lo hh) {index : Nat} (d : decode cc pc = .ok (.putfield index, 3)) {ref host : String} {ty : FieldType} {tbl : List (Nat × Nat)} (hf : kw_flN own index ref host tbl) (hp : kw_fp own ty false tbl) (hty : kw_isR ty = true) {r v : Option Nat} {f : Unit → km_M ρ} (k : kw_W E enc (pc + 3) L st (f ())) : kw_W E enc pc L (kA v :: kA r :: st) (km_bind (km_pR tbl r v) f) :=
  kw_pV B d (Or.inr ⟨rfl, _, hf⟩) hp (fun h => by cases h) (kA v) _ (fun s q h => ⟨h, kw_isR_ok hty v⟩) k
/-- new -/
theorem kw_new (B : kw_ok E cc own nm nL ret fr lo hh) {index : Nat} (d : decode cc pc = .ok (.new index, 3)) {ci N : Nat} {C : String} {T : u_T} {ty : Nat → FieldType} {fs : List Value} (hc : kcl[ci]? = some (C, T, N)) (hin : ∀ w ∈ u_ws C T N, w ∈ lw_all) (hty : ∀ k, k < N → parseFieldDescriptor (T k).2.2.1 = some (ty k)) (hfs : ∀ j, j < N → defaultValue (ty j) = vp_V fs j) (w1 : Cond.classLink own index C ∈ lw_all) (w2 : Cond.instantiable C N ∈ lw_all) (w3 : Cond.initialized C ∈ lw_all) {f : Option Nat → km_M ρ} (k : ∀ v, kw_W E enc (pc + 3) L (kA v :: st) (f v)) : kw_W E enc pc L st (km_bind (km_new ci N fs) f) := by
  obtain ⟨p, l, e, R, s, m, args, below, meth, c, G, n0, z0⟩ := E
  obtain ⟨hx, hb, hml, hr, hown, hts, hlk, hnm, hhh, hfr, hlo, h0, hW, hsz, hbase, hold⟩ := B
  intro σ r1 τ H locs cells slots ls hx1 h1 h2 hS hl
  obtain ⟨x, u, e1, e2⟩ := km_bind_some hx1
  obtain ⟨n, en, e3, rfl, e4⟩ := km_al_some e1
  have e5 := Option.some.inj e3
  cases e5
  obtain ⟨m1, m2, -⟩ := (f (some σ.2.1)).2 _ _ _ e2
  subst e4
  obtain ⟨⟨ws, hPw⟩, hloc, hc1, hc2⟩ := hS
  have hK := kw_K h0 hW
  have hKn := hK.1 ci _ hc
  have hHs : H.size = σ.2.1 := hPw.2.2.2.2.2.1
  change σ.2.1 + 1 ≤ τ.2.1 at m1
  change σ.2.2.1 + N ≤ τ.2.2.1 at m2
  refine W.newcK hx hb hown (hts _ w1) (hts _ w2) (hts _ w3) rfl d (by omega) (by omega) hKn.2.1 rfl fun H1 kC hkC g1 z1 o1 => ?_
  have hgo := k (some σ.2.1) _ r1 τ H1 locs (cells + 1) (slots + N) ls e2 h1 h2 ⟨kw_Pw_push hPw (e := .inr (ci, fs)) ⟨_, hc, (u_born ty hts hin hKn hkC g1 hty).to hfs⟩ z1 o1 (fun k n g h => by cases h) (fun k n g h => by cases h) (fun k n g h => by cases h) (fun fs9 _ c1 h9 => by rw [g1] at h9; cases h9; exact ⟨rfl, rfl⟩), hloc, by show n0 + (cells + 1) = σ.2.1 + 1; omega, by show z0 + (slots + N) = σ.2.2.1 + N; omega⟩ hl
  rw [← hHs] at hgo
  exact hgo
end KWG
