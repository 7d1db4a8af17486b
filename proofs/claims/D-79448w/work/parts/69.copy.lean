/-! ===== System.arraycopy ===== -/
section KWY0
variable {p : Program} {l : Launch} {e : Env} {R : Room} {s : State} {m : MethodId} {args : Array Value} {below : List Frame} {meth : Method} {c : Code} {H : Heap} {locs : List Loc} {cells slots : Nat} {Q : State → Prop}
variable {pc : Nat} {ls : Array Slot} {rest : List Value} {cc : ByteArray}
theorem kw_toInt {z : Int32} (hz : ¬ z < 0) : z.toInt = (z.toNatClampNeg : Int) := by
  have hz0 : (0 : Int) ≤ z.toInt := by
    have := Int32.not_lt.mp hz
    simpa using Int32.le_iff_toInt_le.mp this
  show z.toInt = ((z.toInt.toNat : Nat) : Int)
  omega
/-- arraycopy into an array that is known whole -/
theorem kw_Wcopy (hexec : p.tables.exec = Jvm.exec) (hb : c.code = cc) (hml : c.maxLocals = ls.size) {own : String} {index : Nat} (hown : s.vm.findClass own = some m.cls) (hlink : (Cond.methodLink own index arraycopyName).before args s = true) (hnat : (Cond.native arraycopyName).before args s = true) (hstat : (Cond.static arraycopyName).before args s = true) (hini : (Cond.initialized "java/lang/System").before args s = true)
    {a0 a : Nat} {cs : Cell} {c1 : ClassId} {n1 : Nat} {g g2 : Nat → Value} {k0 k1 : Class} {cm0 cm1 : ClassId} {t0 t1 : FieldType} (hc0 : H[a0]? = some cs) (hc1 : H[a]? = some (arrV c1 n1 g)) (hs1 : ∀ q, cs.vm ≠ .statics q) (hs2 : cs.vm ≠ .unknown) (hk0 : s.vm.classes[cs.cls]? = some k0) (hk1 : s.vm.classes[c1]? = some k1) (hkk0 : k0.kind = .array cm0 t0) (hkk1 : k1.kind = .array cm1 t1) (hty : ((refKind t0 != refKind t1) || (!refKind t0 && t0 != t1)) = false)
    {sp dp n : Int32} (h1 : ¬ sp < 0) (h2 : ¬ dp < 0) (h3 : ¬ n < 0) (h4 : sp.toNatClampNeg + n.toNatClampNeg ≤ cs.slots.size) (h5 : dp.toNatClampNeg + n.toNatClampNeg ≤ n1)
    (hvals : ∀ T : State, T.heap = H → ∀ vm', s.vm.Alike vm' → ∀ i, i < n.toNatClampNeg → fits t1 (cs.slots.getD (sp.toNatClampNeg + i) .null) = true ∧ (T.setVm vm').takes cm1 (cs.slots.getD (sp.toNatClampNeg + i) .null))
    (hcp : copied cs (arrV c1 n1 g) sp dp n = arrV c1 n1 g2)
    (hframes : 1 ≤ R.frames) (hlocals : (rest.map fun v => v.category).sum + (nativeFrameWords "java/lang/System" "arraycopy" 5 + 11) ≤ R.locals) (hdg : decode cc pc = .ok (.invokestatic index, 3))
    (kk : ∀ (H1 : Heap) (locs1 : List Loc), H1[a]? = some (arrV c1 n1 g2) → H1.size = H.size → (∀ q : Nat, q ≠ a → H1[q]? = H[q]?) → (∀ z ∈ locs1, z ∈ locs ∨ z.base = a) → W p l e R s m args below meth c H1 locs1 cells slots Q (F0 m (pc + 3) ls rest)) : W p l e R s m args below meth c H locs cells slots Q (F0 m pc ls (.int n :: .int dp :: .ref a :: .int sp :: .ref a0 :: rest)) := by
  intro T hT X
  obtain ⟨vm', X', step⟩ := X.arraycopy hexec hown hlink hnat hstat hini (src := a0) (dst := a) (cs := cs) (cd := arrV c1 n1 g) (srcPos := sp) (destPos := dp) (n := n) (by rw [hT]; exact hc0) (by rw [hT]; exact hc1)
    hs1 (fun _ h => by cases h) hs2 (fun h => by cases h) hk0 hk1 hkk0 hkk1 hty h1 h2 h3 (by rw [kw_toInt h1, kw_toInt h3]; omega) (by rw [kw_toInt h2, kw_toInt h3, arrV_size]; omega) (hvals T hT)
    (g := F0 m pc ls (.int n :: .int dp :: .ref a :: .int sp :: .ref a0 :: rest)) rfl (by rw [hml]) (rest := rest) rfl (by rw [hb]; exact hdg) hframes (by show 2 * 0 + _ + _ ≤ _; omega)
  rw [hcp] at X' step
  have hl : a < H.size := (Array.getElem?_eq_some_iff.mp hc1).1
  have hheap : ((T.setVm vm').setCell a (arrV c1 n1 g2)).heap = H.setIfInBounds a (arrV c1 n1 g2) := by rw [← hT]; rfl
  obtain ⟨t, q1, q2⟩ := kk (H.setIfInBounds a (arrV c1 n1 g2)) _ (by simp [Array.getElem?_setIfInBounds, hl]) (by simp) (fun q hq => by simp [Array.getElem?_setIfInBounds, Ne.symm hq]) (fun z hz => by
    rcases List.mem_append.mp hz with h | h
    · exact Or.inl h
    · obtain ⟨y, -, hy⟩ := List.mem_map.mp h
      rw [← hy]
      exact Or.inr rfl) _ hheap X'
  exact ⟨t, step t q1, q2⟩
end KWY0
section KWY
variable {ρ : Type} {E : kw_E} {enc : ρ → kw_R} {cc : ByteArray} {own nm : String} {ret : Option FieldType} {nL fr lo pc : Nat} {hh : List ExceptionTableEntry} {L : List (Nat × kw_L)} {st : List kw_L}
theorem kw_acopy (B : kw_ok E cc own nm nL ret fr lo hh) {index : Nat} (d : decode cc pc = .ok (.invokestatic index, 3)) (w1 : Cond.methodLink own index arraycopyName ∈ lw_all) (w2 : Cond.native arraycopyName ∈ lw_all) (w3 : Cond.static arraycopyName ∈ lw_all) (w4 : Cond.initialized "java/lang/System" ∈ lw_all) (hfr : 1 ≤ fr) (hlo : (st.map kw_c).sum + 18 ≤ lo) {a0 a1 : Option Nat} {sp dp n : Int32} {f : Unit → km_M ρ} (k : kw_W E enc (pc + 3) L st (f ())) : kw_W E enc pc L (kI n :: kI dp :: kA a1 :: kI sp :: kA a0 :: st) (km_bind (km_cp a0 sp a1 dp n) f) := by
  obtain ⟨p, l, e, R, s, m, args, below, meth, c, G, n0, z0⟩ := E
  obtain ⟨hx, hb, hml, hr, hown, hts, hlk, hnm, hhh, hfr1, hlo1, h0, hW, hsz, hbase, hold⟩ := B
  intro σ r1 τ H locs cells slots ls hx1 h1 h2 hS hl
  obtain ⟨u9, σ9, i1, hx2⟩ := km_bind_some hx1
  obtain ⟨a, en, e3, e4⟩ := km_wr_some i1
  have hK := kw_K h0 hW
  have hP := hS.1
  have hlo2 : ((kw_st st).map fun v => v.category).sum + (nativeFrameWords "java/lang/System" "arraycopy" 5 + 11) ≤ R.locals := by
    have hw : nativeFrameWords "java/lang/System" "arraycopy" 5 = 7 := by decide
    rw [kw_st_cat, hlo1, hw]
    exact hlo
  have hfr2 : 1 ≤ R.frames := by rw [hfr1]; exact hfr
  split at e3
  · next z1 z2 x1 f0 k0 m0 g0 a9 k1 m1 g1 e5 e6 =>
    split at e3
    · next hc =>
      obtain ⟨rfl, c1, c2, c3, c4, c5⟩ := hc
      cases e3
      obtain ⟨rfl, ha0⟩ := km_ar_some e5
      obtain ⟨rfl, ha1⟩ := km_ar_some e6
      have hk := kw_kI hP ha1
      have hk0 := kw_kI hP ha0
      obtain ⟨cs, q1, ⟨q2, kA, q3, cm, q4⟩, q5, q6, -, q7⟩ := kw_arr hK hW hP ha0 (Nat.le_trans hk.1 (by decide))
      obtain ⟨⟨ws, hPw⟩, hloc, hc1, hc2⟩ := hS
      obtain ⟨w1', hw1'⟩ := hPw.1 _ _ ha1
      obtain ⟨-, kB, r3, cmB, r4⟩ := (hK.2 k0 _ (kw_tys_at G (Nat.le_trans hk.1 (by decide)))).1 m1 (kw_av (.inl g1))
      have hty : ((refKind (km_ty k0) != refKind (km_ty k0)) || (!refKind (km_ty k0) && km_ty k0 != km_ty k0)) = false := by
        rcases (show k0 = 0 ∨ k0 = 1 ∨ k0 = 2 by omega) with e | e | e <;> subst e <;> rfl
      refine kw_Wcopy hx hb hl.1.symm hown (hts _ w1) (hts _ w2) (hts _ w3) (hts _ w4) q1 (kw_cellA hPw hw1') q2 q5 q3 r3 q4 r4 hty c1 c2 c3 (Nat.le_trans c4 q6) c5 (fun T hT vm' hal i hi => ?_) (va_copiedX (fun z => .int z) cs (G.2.2.1 k0) g0 g1 q7 c4) hfr2 hlo2 d fun H1 locs1 y1 y2 y3 y4 => ?_
      · have e : cs.slots.getD (sp.toNatClampNeg + i) .null = .int (g0 (sp.toNatClampNeg + i)) := by
          rw [Array.getD_eq_getD_getElem?, q7 _ (by omega)]
          rfl
        rw [e]
        exact ⟨hk0.2 _, trivial⟩
      · refine kw_set_W hPw hw1' hloc y4 hc1 hc2 (en := .inl (k0, m1, .inl (va_cpy g0 g1 sp.toNatClampNeg dp.toNatClampNeg n.toNatClampNeg))) (kw_inv_up hPw.2.2.2.2.2.2.2.2.1 (fun f' c' fs' h' => ?_) (fun k n2 g2 h => ?_) (fun k n g h => by cases h) (fun k n g h => by cases h)) (fun fs9 h9 => by cases h9) y1 y2 y3 fun hS2 => ?_
        · rw [ha1] at h'
          cases h'
        · cases h
          refine ⟨hk.1, fun j => ?_⟩
          unfold va_cpy
          split
          · exact hk0.2 _
          · exact hk.2 _
        · rw [e4] at hx2
          exact k _ r1 τ H1 locs1 cells slots ls hx2 h1 h2 hS2 hl
    · cases e3
  · next z1 z2 x1 f0 k0 m0 g0 a9 k1 m1 g1 e5 e6 =>
    split at e3
    · next hc =>
      obtain ⟨rfl, c1, c2, c3, c4, c5⟩ := hc
      cases e3
      obtain ⟨rfl, ha0⟩ := km_ar_some e5
      obtain ⟨rfl, ha1⟩ := km_ar_some e6
      have hk := kw_kJ hP ha1
      subst hk
      obtain ⟨cs, q1, ⟨q2, kA, q3, cm, q4⟩, q5, q6, -, q7⟩ := kw_arr hK hW hP ha0 (by decide)
      obtain ⟨⟨ws, hPw⟩, hloc, hc1, hc2⟩ := hS
      obtain ⟨w1', hw1'⟩ := hPw.1 _ _ ha1
      obtain ⟨-, kB, r3, cmB, r4⟩ := (hK.2 3 _ rfl).1 m1 (kw_av (.inr (.inl g1)))
      refine kw_Wcopy hx hb hl.1.symm hown (hts _ w1) (hts _ w2) (hts _ w3) (hts _ w4) q1 (kw_cellA hPw hw1') q2 q5 q3 r3 q4 r4 rfl c1 c2 c3 (Nat.le_trans c4 q6) c5 (fun T hT vm' hal i hi => ?_) (va_copiedX (fun z => .long z) cs (G.2.2.1 3) g0 g1 q7 c4) hfr2 hlo2 d fun H1 locs1 y1 y2 y3 y4 => ?_
      · have e : cs.slots.getD (sp.toNatClampNeg + i) .null = .long (g0 (sp.toNatClampNeg + i)) := by
          rw [Array.getD_eq_getD_getElem?, q7 _ (by omega)]
          rfl
        rw [e]
        exact ⟨rfl, trivial⟩
      · refine kw_set_W hPw hw1' hloc y4 hc1 hc2 (en := .inl (3, m1, .inr (.inl (va_cpy g0 g1 sp.toNatClampNeg dp.toNatClampNeg n.toNatClampNeg)))) (kw_inv_up hPw.2.2.2.2.2.2.2.2.1 (fun f' c' fs' h' => ?_) (fun k n2 g2 h => by cases h) (fun k n g h => by cases h; rfl) (fun k n g h => by cases h)) (fun fs9 h9 => by cases h9) y1 y2 y3 fun hS2 => ?_
        · rw [ha1] at h'
          cases h'
        · rw [e4] at hx2
          exact k _ r1 τ H1 locs1 cells slots ls hx2 h1 h2 hS2 hl
    · cases e3
  · next z1 z2 x1 f0 k0 m0 g0 a9 k1 m1 g1 e5 e6 =>
    split at e3
    · next hc =>
      obtain ⟨rfl, c1, c2, c3, c4, c5⟩ := hc
      cases e3
      obtain ⟨rfl, ha0⟩ := km_ar_some e5
      obtain ⟨rfl, ha1⟩ := km_ar_some e6
      have hk1 := kw_kR hP ha1
      have hk0 := kw_kR hP ha0
      have hk5 : k0 ≤ 5 := by rcases hk1.1 with e | e <;> rw [e] <;> decide
      have hEn : ∃ En : String, km_ty k0 = .object En := by rcases hk1.1 with e | e <;> rw [e] <;> exact ⟨_, rfl⟩
      obtain ⟨En, hEn⟩ := hEn
      obtain ⟨cs, q1, ⟨q2, kA, q3, cm, q4⟩, q5, q6, -, q7⟩ := kw_arr hK hW hP ha0 hk5
      obtain ⟨⟨ws, hPw⟩, hloc, hc1, hc2⟩ := hS
      obtain ⟨w1', hw1'⟩ := hPw.1 _ _ ha1
      have ht : (kw_tys G)[k0]? = some (G.2.2.1 k0, .object En) := by rw [kw_tys_at G hk5, hEn]
      obtain ⟨kB, cmB, r3, r4, r5, -⟩ := (hK.2 k0 _ ht).2
      have hty : ((refKind (km_ty k0) != refKind (.object En)) || (!refKind (km_ty k0) && km_ty k0 != .object En)) = false := by rw [hEn]; rfl
      refine kw_Wcopy hx hb hl.1.symm hown (hts _ w1) (hts _ w2) (hts _ w3) (hts _ w4) q1 (kw_cellA hPw hw1') q2 q5 q3 r3 q4 r4 hty c1 c2 c3 (Nat.le_trans c4 q6) c5 (fun T hT vm' hal i hi => ?_) (va_copiedX (fun z => va_rf z) cs (G.2.2.1 k0) g0 g1 q7 c4) hfr2 hlo2 d fun H1 locs1 y1 y2 y3 y4 => ?_
      · have e : cs.slots.getD (sp.toNatClampNeg + i) .null = va_rf (g0 (sp.toNatClampNeg + i)) := by
          rw [Array.getD_eq_getD_getElem?, q7 _ (by omega)]
          rfl
        rw [e]
        cases hy : g0 (sp.toNatClampNeg + i) with
        | none => exact ⟨rfl, trivial⟩
        | some y =>
          obtain ⟨f', c', fs', r', b1, b2, b3⟩ := hk0.2 _ y hy
          obtain ⟨En2, t1, cellV, b4, b5, ⟨kC, hkC⟩, hasg⟩ := kw_any h0 hW hP hk1.1 b1 b2 b3
          rw [hEn] at t1
          cases t1
          obtain ⟨kE, hkE, -⟩ := Vm.findClass_spec r5
          obtain ⟨kC', hkC', -⟩ := hal.2.2 _ _ hkC
          obtain ⟨kE', hkE', -⟩ := hal.2.2 _ _ hkE
          refine ⟨rfl, cellV, (show T.heap[y]? = some cellV by rw [hT]; exact b4), (fun q h => by rw [h] at b5; cases b5), ⟨kC', hkC'⟩, ⟨kE', hkE'⟩, ?_⟩
          show vm'.assignable _ _ = true
          rw [hal.assignable]
          exact hasg _ r5
      · refine kw_set_W hPw hw1' hloc y4 hc1 hc2 (en := .inl (k0, m1, .inr (.inr (.inr (.inr (va_cpy g0 g1 sp.toNatClampNeg dp.toNatClampNeg n.toNatClampNeg)))))) (kw_inv_up hPw.2.2.2.2.2.2.2.2.1 (fun f' c' fs' h' => ?_) (fun k n2 g2 h => by cases h) (fun k n g h => by cases h) (fun k n2 g2 h => ?_)) (fun fs9 h9 => by cases h9) y1 y2 y3 fun hS2 => ?_
        · rw [ha1] at h'
          cases h'
        · cases h
          refine ⟨hk1.1, fun j y hj => ?_⟩
          unfold va_cpy at hj
          split at hj
          · exact hk0.2 _ y hj
          · exact hk1.2 _ y hj
        · rw [e4] at hx2
          exact k _ r1 τ H1 locs1 cells slots ls hx2 h1 h2 hS2 hl
    · cases e3
  · cases e3
end KWY
