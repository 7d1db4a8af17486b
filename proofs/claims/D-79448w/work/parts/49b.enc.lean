set_option maxRecDepth 100000
/-! ===== the twin's row: what it says of a workshop ===== -/
def ke_N (f : Nat → Int32) (V : kV) : Prop := (∀ k, k < 9 → f k = V.sc k) ∧ f 9 = Int32.ofNat V.cs.length ∧ f 10 = Int32.ofNat V.ls.length ∧ f 11 = Int32.ofNat V.bx.length ∧ f 12 = Int32.ofNat V.st.length ∧ f 13 = Int32.ofNat V.ps.length ∧ f 14 = Int32.ofNat V.so.length ∧ f 15 = Int32.ofNat V.wa.length
def ke_C (f : Nat → Int32) (cs : List vC) (ls : List vL) : Prop := ∀ i c, cs[i]? = some c → f (16 + 5 * i + 0) = c.1 ∧ f (16 + 5 * i + 1) = c.2.1 ∧ f (16 + 5 * i + 2) = v_lens (Int32.ofNat i) ls 0 ∧ f (16 + 5 * i + 3) = c.2.2.1 ∧ f (16 + 5 * i + 4) = c.2.2.2
def ke_L (f : Nat → Int32) (ls : List vL) : Prop := ∀ i l, ls[i]? = some l → f (36 + 2 * i + 0) = l.1 ∧ f (36 + 2 * i + 1) = (if l.2 = -1 then -6 else l.2)
def ke_B (f : Nat → Int32) (bx : List vB) : Prop := ∀ i b, bx[i]? = some b → f (44 + 3 * i + 0) = b.1 ∧ f (44 + 3 * i + 1) = b.2.1 ∧ f (44 + 3 * i + 2) = b.2.2
def ke_S1 (f : Nat → Int32) (i : Nat) (r : vS) : Prop := f (764 + 60 * i + 0) = r.1 ∧ f (764 + 60 * i + 1) = r.2.1 ∧ f (764 + 60 * i + 2) = r.2.2.1 ∧ f (764 + 60 * i + 3) = Int32.ofNat r.bs.length ∧ ∀ p b, r.bs[p]? = some b → f (764 + 60 * i + (4 + 2 * p)) = b.1 ∧ f (764 + 60 * i + (4 + 2 * p) + 1) = b.2.2
def ke_S (f : Nat → Int32) (st : List vS) : Prop := ∀ i r, st[i]? = some r → ke_S1 f i r
def ke_P (f : Nat → Int32) (ps : List vP) : Prop := ∀ i p, ps[i]? = some p → f (1124 + 4 * i + 0) = p.1 ∧ f (1124 + 4 * i + 1) = p.2.1 ∧ f (1124 + 4 * i + 2) = p.2.2.1 ∧ f (1124 + 4 * i + 3) = p.2.2.2
def ke_D (f : Nat → Int32) (so : List vD) : Prop := ∀ i d, so[i]? = some d → f (1148 + 5 * i + 0) = v_last d ∧ f (1148 + 5 * i + 1) = Int32.ofNat d.bs.length ∧ f (1148 + 5 * i + 2) = v_fsum 0 d.bs ∧ ∀ b, v_weak none d.bs = some b → f (1148 + 5 * i + 3) = b.2.1 ∧ f (1148 + 5 * i + 4) = b.2.2
def ke_W (f : Nat → Int32) (wa : List vD) : Prop := ∀ i d, wa[i]? = some d → f (1188 + 5 * i + 1) = Int32.ofNat d.bs.length ∧ f (1188 + 5 * i + 2) = v_fsum 0 d.bs ∧ ∀ b, d.2.1 = some b → f (1188 + 5 * i + 3) = b.2.1
def ke (f : Nat → Int32) (V : kV) : Prop := ke_N f V ∧ ke_C f V.cs V.ls ∧ ke_L f V.ls ∧ ke_B f V.bx ∧ ke_S f V.st ∧ ke_P f V.ps ∧ ke_D f V.so ∧ ke_W f V.wa
/-- how many there may be -/
def v_sz (V : kV) : Prop := V.cs.length ≤ 4 ∧ V.ls.length ≤ 4 ∧ V.bx.length ≤ 240 ∧ V.st.length ≤ 6 ∧ V.ps.length ≤ 6 ∧ V.so.length ≤ 8 ∧ V.wa.length ≤ 120 ∧ ∀ r ∈ V.st, r.bs.length ≤ 28
/-- the box in another order -/
def kV.wb (V : kV) (l : List vB) : kV := (V.cs, V.ls, l, V.2.2.2)
/-- stones are as many as there may be -/
def v_st (V : kV) : Prop := ∃ n, n ≤ 999 ∧ V.sc 1 = Int32.ofNat n
def keP (f : Nat → Int32) (V : kV) : Prop := v_st V ∧ ∃ l, l.Perm V.bx ∧ ke f (V.wb l)
theorem ke_get_lt {α : Type} {l : List α} {i : Nat} {x : α} (h : l[i]? = some x) : i < l.length := (List.getElem?_eq_some_iff.mp h).1
section KE
variable {f f' : Nat → Int32} {V V' : kV}
theorem ke_C_cong {cs : List vC} {ls : List vL} (h : ke_C f cs ls) (hn : cs.length ≤ 4) (k : ∀ p, 16 ≤ p → p < 36 → f' p = f p) : ke_C f' cs ls := by
  intro i c hc
  have hi := ke_get_lt hc
  obtain ⟨h0, h1, h2, h3, h4⟩ := h i c hc
  exact ⟨by rw [k _ (by omega) (by omega), h0], by rw [k _ (by omega) (by omega), h1], by rw [k _ (by omega) (by omega), h2], by rw [k _ (by omega) (by omega), h3], by rw [k _ (by omega) (by omega), h4]⟩
theorem ke_L_cong {ls : List vL} (h : ke_L f ls) (hn : ls.length ≤ 4) (k : ∀ p, 36 ≤ p → p < 44 → f' p = f p) : ke_L f' ls := by
  intro i c hc
  have hi := ke_get_lt hc
  obtain ⟨h0, h1⟩ := h i c hc
  exact ⟨by rw [k _ (by omega) (by omega), h0], by rw [k _ (by omega) (by omega), h1]⟩
theorem ke_B_cong {bx : List vB} (h : ke_B f bx) (hn : bx.length ≤ 240) (k : ∀ p, 44 ≤ p → p < 764 → f' p = f p) : ke_B f' bx := by
  intro i c hc
  have hi := ke_get_lt hc
  obtain ⟨h0, h1, h2⟩ := h i c hc
  exact ⟨by rw [k _ (by omega) (by omega), h0], by rw [k _ (by omega) (by omega), h1], by rw [k _ (by omega) (by omega), h2]⟩
theorem ke_S1_cong {i : Nat} {r : vS} (h : ke_S1 f i r) (hr : r.bs.length ≤ 28) (k : ∀ p, 764 + 60 * i ≤ p → p < 764 + 60 * i + 60 → f' p = f p) : ke_S1 f' i r := by
  obtain ⟨h0, h1, h2, h3, h4⟩ := h
  refine ⟨by rw [k _ (by omega) (by omega), h0], by rw [k _ (by omega) (by omega), h1], by rw [k _ (by omega) (by omega), h2], by rw [k _ (by omega) (by omega), h3], fun p b hb => ?_⟩
  have hp := ke_get_lt hb
  exact ⟨by rw [k _ (by omega) (by omega), (h4 p b hb).1], by rw [k _ (by omega) (by omega), (h4 p b hb).2]⟩
theorem ke_S_cong {st : List vS} (h : ke_S f st) (hn : st.length ≤ 6) (hr : ∀ r ∈ st, r.bs.length ≤ 28) (k : ∀ p, 764 ≤ p → p < 1124 → f' p = f p) : ke_S f' st := by
  intro i r hc
  have hi := ke_get_lt hc
  exact ke_S1_cong (h i r hc) (hr r (List.mem_of_getElem? hc)) (fun p h1 h2 => k p (by omega) (by omega))
theorem ke_P_cong {ps : List vP} (h : ke_P f ps) (hn : ps.length ≤ 6) (k : ∀ p, 1124 ≤ p → p < 1148 → f' p = f p) : ke_P f' ps := by
  intro i c hc
  have hi := ke_get_lt hc
  obtain ⟨h0, h1, h2, h3⟩ := h i c hc
  exact ⟨by rw [k _ (by omega) (by omega), h0], by rw [k _ (by omega) (by omega), h1], by rw [k _ (by omega) (by omega), h2], by rw [k _ (by omega) (by omega), h3]⟩
theorem ke_D_cong {so : List vD} (h : ke_D f so) (hn : so.length ≤ 8) (k : ∀ p, 1148 ≤ p → p < 1188 → f' p = f p) : ke_D f' so := by
  intro i c hc
  have hi := ke_get_lt hc
  obtain ⟨h0, h1, h2, h3⟩ := h i c hc
  exact ⟨by rw [k _ (by omega) (by omega), h0], by rw [k _ (by omega) (by omega), h1], by rw [k _ (by omega) (by omega), h2], fun b hb => ⟨by rw [k _ (by omega) (by omega), (h3 b hb).1], by rw [k _ (by omega) (by omega), (h3 b hb).2]⟩⟩
theorem ke_W_cong {wa : List vD} (h : ke_W f wa) (hn : wa.length ≤ 200) (k : ∀ p, 1188 ≤ p → p < 2188 → f' p = f p) : ke_W f' wa := by
  intro i c hc
  have hi := ke_get_lt hc
  obtain ⟨h0, h1, h2⟩ := h i c hc
  exact ⟨by rw [k _ (by omega) (by omega), h0], by rw [k _ (by omega) (by omega), h1], fun b hb => by rw [k _ (by omega) (by omega), h2 b hb]⟩
theorem ke_N_cong (h : ke_N f V) (k : ∀ p, p < 16 → f' p = f p) : ke_N f' V := by
  obtain ⟨h0, h1, h2, h3, h4, h5, h6, h7⟩ := h
  exact ⟨fun j hj => by rw [k _ (by omega), h0 j hj], by rw [k _ (by omega), h1], by rw [k _ (by omega), h2], by rw [k _ (by omega), h3], by rw [k _ (by omega), h4], by rw [k _ (by omega), h5], by rw [k _ (by omega), h6], by rw [k _ (by omega), h7]⟩
theorem ke_cong (h : ke f V) (hz : v_sz V) (k : ∀ p, p < 2188 → f' p = f p) : ke f' V := by
  obtain ⟨h0, h1, h2, h3, h4, h5, h6, h7⟩ := h
  obtain ⟨z1, z2, z3, z4, z5, z6, z7, z8⟩ := hz
  exact ⟨ke_N_cong h0 (fun p hp => k p (by omega)), ke_C_cong h1 z1 (fun p _ hp => k p (by omega)), ke_L_cong h2 z2 (fun p _ hp => k p (by omega)), ke_B_cong h3 z3 (fun p _ hp => k p (by omega)), ke_S_cong h4 z4 z8 (fun p _ hp => k p (by omega)), ke_P_cong h5 z5 (fun p _ hp => k p (by omega)), ke_D_cong h6 z6 (fun p _ hp => k p (by omega)), ke_W_cong h7 (by omega) (fun p _ hp => k p hp)⟩
theorem v_sz_wb {l : List vB} (h : v_sz V) (hl : l.Perm V.bx) : v_sz (V.wb l) := by
  obtain ⟨z1, z2, z3, z4, z5, z6, z7, z8⟩ := h
  exact ⟨z1, z2, by rw [← hl.length_eq] at z3; exact z3, z4, z5, z6, z7, z8⟩
theorem keP_cong (h : keP f V) (hz : v_sz V) (k : ∀ p, p < 2188 → f' p = f p) : keP f' V := by
  obtain ⟨h0, l, h1, h2⟩ := h
  exact ⟨h0, l, h1, ke_cong h2 (v_sz_wb hz h1) k⟩
theorem v_sz_of {cc dd : Nat} (h : v_ok cc dd V) (hcc : cc ≤ 240) : v_sz V := by
  obtain ⟨c1, c2, c3, c4, c5⟩ := h.2.2.1
  obtain ⟨c, W, q1, q2, q3, q4, q5⟩ := v_ok_card h
  have h1 := v_all_len V
  refine ⟨c1, c2, by omega, c3, c4, c5, ?_, fun r hr => ?_⟩
  · obtain ⟨c', day, W', p1, p2, p3, p4, p5, p6, p7, p8⟩ := h.2.2.2.2.2
    have h3 := p5.length_eq
    rw [List.length_append, List.length_map, List.length_range] at h3
    have h4 := v_fm_len (l := V.wa) (fun d hd => (h.2.1.2 d hd).2.1)
    omega
  · obtain ⟨g, m, k, hs⟩ := h.2.2.2.2.1 r hr
    have h2 := hs.2.2.2.2.2.2.2.2.2.2.1
    have h3 := hs.2.2.2.2.1
    have h4 := hs.2.2.2.2.2.2.1
    have h5 : g * (m + 1) ≤ 4 * 7 := Nat.mul_le_mul h3 (by omega)
    omega
end KE
