set_option maxRecDepth 100000
/-! ===== the workshop as a value: what both sides compute ===== -/
/-- bead: number, large, fineness; carver: eye, tired, carved, spoilt; lens: power, carver; string: groups, small, knots, beads; pilgrim: day, groups, fineness, coins; sold: since, broken, beads -/
abbrev vB : Type := Int32 × Int32 × Int32
abbrev vC : Type := Int32 × Int32 × Int32 × Int32
abbrev vL : Type := Int32 × Int32
abbrev vS : Type := Int32 × Int32 × Int32 × List vB
abbrev vP : Type := Int32 × Int32 × Int32 × Int32
abbrev vD : Type := Int32 × Option vB × List vB
abbrev kV : Type := List vC × List vL × List vB × List vS × List vP × List vD × List vD × (Nat → Bool) × (Nat → Int32)
abbrev kV.cs (V : kV) : List vC := V.1
abbrev kV.ls (V : kV) : List vL := V.2.1
abbrev kV.bx (V : kV) : List vB := V.2.2.1
abbrev kV.st (V : kV) : List vS := V.2.2.2.1
abbrev kV.ps (V : kV) : List vP := V.2.2.2.2.1
abbrev kV.so (V : kV) : List vD := V.2.2.2.2.2.1
abbrev kV.wa (V : kV) : List vD := V.2.2.2.2.2.2.1
abbrev kV.aw (V : kV) : Nat → Bool := V.2.2.2.2.2.2.2.1
abbrev kV.sc (V : kV) : Nat → Int32 := V.2.2.2.2.2.2.2.2
abbrev vS.bs (r : vS) : List vB := r.2.2.2
abbrev vD.bs (d : vD) : List vB := d.2.2
abbrev kS.V (r : kS) : vS := (r.2.2.1, r.2.2.2.1, r.2.2.2.2.1, r.bs.map (·.2))
abbrev kDp.V (d : kDp) : vD := (d.2.2.1, d.2.2.2.1.map (·.2), d.bs.map (·.2))
abbrev kAp.V (A : kAp) : kV := (A.cs.map (·.2), A.ls.map (·.2), A.bx.map (·.2), A.st.map kS.V, A.ps.map (·.2), A.so.map kDp.V, A.wa.map kDp.V, A.aw, A.sc)
/-- a refusal's reasons, the outer one first; or an answer -/
abbrev vR : Type := List (Int32 × Int32) ⊕ (Int32 × kV)
def v_num (f : Nat → Int32) (i : Nat) (x : Int32) : Nat → Int32 := fun j => if j = i then x else f j
def v_fsum : Int32 → List vB → Int32
  | a, [] => a
  | a, b :: t => v_fsum (a + b.2.2) t
def v_finer (b c : vB) : Bool := decide (c.2.2 < b.2.2) || (decide (b.2.2 = c.2.2) && decide (b.1 < c.1))
def v_fin : Option vB → List vB → Option vB
  | x, [] => x
  | none, b :: t => v_fin (some b) t
  | some c, b :: t => v_fin (if v_finer b c = true then some b else some c) t
def v_weak : Option vB → List vB → Option vB
  | x, [] => x
  | none, b :: t => v_weak (some b) t
  | some c, b :: t => v_weak (if b.2.2 < c.2.2 then some b else some c) t
def v_of (k : Int32) (bs : List vB) : List vB := bs.filter (fun b => decide (b.2.1 = k))
def v_fine (bs : List vB) : Int32 := if bs = [] then 0 else v_fsum 0 bs / Int32.ofNat bs.length
def v_loose (r : vS) : Int32 := Int32.ofNat r.bs.length - r.2.2.1 * (r.2.1 + 1)
def v_done (r : vS) : Bool := decide (r.2.2.1 = r.1)
def v_whole (r : vS) : Bool := decide (v_loose r = r.2.1 + 1)
def v_bit (k : Int32) : Int32 := if k = 0 then 0 else 1
def v_lens (c : Int32) : List vL → Nat → Int32
  | [], _ => -6
  | l :: t, i => if l.2 = c then Int32.ofNat i else v_lens c t (i + 1)
def v_lensOf (V : kV) (c : Int32) : Int32 := v_lens c V.ls 0
def v_sight (V : kV) (i : Nat) : Int32 := (V.cs.getD i (0, 0, 0, 0)).1 + (if v_lensOf V (Int32.ofNat i) = -6 then 0 else (V.ls.getD (v_lensOf V (Int32.ofNat i)).toNatClampNeg (0, 0)).1) - (V.cs.getD i (0, 0, 0, 0)).2.1 / 10
/-- stones -/
def v_brings (V : kV) (n : Int32) : Int32 × kV := (km_min 999 (V.sc 1 + n), V.cs, V.ls, V.bx, V.st, V.ps, V.so, V.wa, V.aw, v_num V.sc 1 (km_min 999 (V.sc 1 + n)))
def v_addC (V : kV) (eye : Int32) : vR := if 4 ≤ V.cs.length then .inl [(1, 4)] else .inr (Int32.ofNat V.cs.length, V.cs ++ [(eye, 0, 0, 0)], V.2)
def v_addL (V : kV) (power : Int32) : vR := if 4 ≤ V.ls.length then .inl [(1, 4)] else .inr (Int32.ofNat V.ls.length, V.cs, V.ls ++ [(power, -1)], V.2.2)
def v_setL (ls : List vL) (i : Nat) (c : Int32) : List vL := ls.set i ((ls.getD i (0, 0)).1, c)
def v_gives (V : kV) (i : Nat) (c : Int32) : Int32 × kV :=
  let was := (V.ls.getD i (0, 0)).2
  let ls := if c = -1 ∨ v_lensOf V c = -6 then V.ls else v_setL V.ls (v_lensOf V c).toNatClampNeg (-1)
  (if was = -1 then -6 else was, V.cs, v_setL ls i c, V.2.2)
def v_one (V : kV) (i : Nat) (k : Int32) : Int32 × kV :=
  let x := v_sight V i
  let c := V.cs.getD i (0, 0, 0, 0)
  let t := km_min 99 (c.2.1 + (if k = 0 then 3 else 2))
  let s := V.sc 1 - (if k = 0 then 1 else 2)
  if x < (if k = 0 then 4 else 2) then (0, V.cs.set i (c.1, t, c.2.2.1, c.2.2.2 + 1), V.ls, V.bx, V.st, V.ps, V.so, V.wa, V.aw, v_num (v_num V.sc 1 s) 3 (V.sc 3 + 1))
  else (1, V.cs.set i (c.1, t, c.2.2.1 + 1, c.2.2.2), V.ls, V.bx ++ [(V.sc 2, k, km_min 9 x)], V.st, V.ps, V.so, V.wa, V.aw, v_num (v_num V.sc 1 s) 2 (V.sc 2 + 1))
def v_many (i : Nat) (k : Int32) : Nat → Int32 → kV → Int32 × kV
  | 0, n, V => (n, V)
  | m + 1, n, V => v_many i k m (n + (v_one V i k).1) (v_one V i k).2
def v_carves (V : kV) (i : Nat) (k : Int32) (many : Nat) : vR :=
  let c := V.cs.getD i (0, 0, 0, 0)
  let lacks := Int32.ofNat many * (if k = 0 then 1 else 2) - V.sc 1
  if 60 ≤ c.2.1 then .inl [(2, c.2.1)] else if 0 < lacks then .inl [(3, lacks)] else if 60 < V.bx.length + many then .inl [(1, 60)] else .inr (v_many i k many 0 V)
def v_begins (V : kV) (g m : Int32) : vR := if 6 ≤ V.st.length then .inl [(1, 6)] else .inr (Int32.ofNat V.st.length, V.cs, V.ls, V.bx, V.st ++ [(g, m, 0, [])], V.2.2.2.2)
def v_on (k : Int32) : List vS → Int32 → Int32
  | [], a => a
  | r :: t, a => v_on k t (a + (if v_done r = true then 0 else Int32.ofNat (v_of k r.bs).length))
def v_takes (V : kV) (k : Int32) : List (Int32 × Int32) ⊕ (vB × kV) := match v_fin none (v_of k V.bx) with
  | none => .inl [(6, v_bit k), (10, v_on k V.st 0)]
  | some b => .inr (b, V.cs, V.ls, V.bx.filter (fun c => decide (c.1 ≠ b.1)), V.2.2.2)
def v_setS (V : kV) (i : Nat) (r : vS) : kV := (V.cs, V.ls, V.bx, V.st.set i r, V.2.2.2.2)
def v_thread (V : kV) (i : Nat) : vR :=
  let r := V.st.getD i (0, 0, 0, [])
  if v_done r = true then .inl [(4, Int32.ofNat i)] else if v_whole r = true then .inl [(5, r.2.2.1)] else match v_takes V (if v_loose r = 0 then 1 else 0) with
    | .inl ch => .inl ch
    | .inr (b, W) => .inr (b.1, v_setS W i (r.1, r.2.1, r.2.2.1, r.bs ++ [b]))
def v_threads (i : Nat) : Nat → Int32 → kV → vR
  | 0, last, V => .inr (last, V)
  | m + 1, _, V => match v_thread V i with
    | .inl ch => .inl ch
    | .inr (n, W) => v_threads i m n W
def v_ties (V : kV) (i : Nat) : vR :=
  let r := V.st.getD i (0, 0, 0, [])
  if v_done r = true then .inl [(4, Int32.ofNat i)] else if v_whole r = false then .inl [(7, r.2.1 + 1 - v_loose r)] else .inr (r.2.2.1 + 1, v_setS V i (r.1, r.2.1, r.2.2.1 + 1, r.bs))
def v_drop : Nat → List vB → List vB → List vB × List vB
  | 0, bx, bs => (bx, bs)
  | m + 1, bx, bs => v_drop m (bx ++ bs.getLast?.toList) bs.dropLast
def v_drops (V : kV) (i : Nat) : Int32 × kV :=
  let r := V.st.getD i (0, 0, 0, [])
  let q := v_drop (v_loose r).toNatClampNeg V.bx r.bs
  (v_loose r, V.cs, V.ls, q.1, V.st.set i (r.1, r.2.1, r.2.2.1, q.2), V.2.2.2.2)
def v_season (d : Int32) : Int32 := d / 30 - d / 30 / 4 * 4
def v_tells (V : kV) (days g f c : Int32) : vR :=
  let t := V.sc 0 + days
  if 6 ≤ V.ps.length then .inl [(1, 6)] else .inr (Int32.ofNat (V.ps.length + 1), V.cs, V.ls, V.bx, V.st, V.ps ++ [(if v_season t = 3 then (t / 30 + 1) * 30 else t, g, f, c)], V.2.2.2.2.2)
def v_want (p : vP) (all : List vS) : List vS → Nat → Int32 → Int32
  | [], _, best => best
  | r :: t, s, best => if v_done r = true ∧ r.1 = p.2.1 ∧ ¬ v_fine r.bs < p.2.2.1 ∧ (best = -6 ∨ v_fine r.bs < v_fine (all.getD best.toNatClampNeg (0, 0, 0, [])).bs) then v_want p all t (s + 1) (Int32.ofNat s) else v_want p all t (s + 1) best
def v_wanted (V : kV) (p : vP) : Int32 := if 8 ≤ V.so.length then -6 else v_want p V.st V.st 0 (-6)
def v_buys (V : kV) (p : vP) : Int32 × kV :=
  let s := v_wanted V p
  if s = -6 then (0, V) else (1, V.cs, V.ls, V.bx, V.st.eraseIdx s.toNatClampNeg, V.ps, V.so ++ [(V.sc 0, none, (V.st.getD s.toNatClampNeg (0, 0, 0, [])).bs)], V.wa, V.aw, v_num (v_num V.sc 6 (V.sc 6 + p.2.2.2)) 4 (V.sc 4 + 1))
def v_last (d : vD) : Int32 := d.1 + 10 * v_fine d.bs
/-- what comes back: those that stay out, those that wait, away, broken -/
def v_back (day : Int32) : List vD → List vD → List vD → (Nat → Bool) → Int32 → List vD × List vD × (Nat → Bool) × Int32
  | [], out, wa, aw, n => (out, wa, aw, n)
  | d :: t, out, wa, aw, n => if day < v_last d then v_back day t (out ++ [d]) wa aw n else match v_weak none d.bs with
    | none => (out, wa, aw, n)
    | some b => v_back day t out (wa ++ [(d.1, some b, d.bs.filter (fun c => decide (c.1 ≠ b.1)))]) (kn_add aw b.1.toNatClampNeg) (n + 1)
def v_come (V : kV) : kV := match v_back (V.sc 0) V.so [] V.wa V.aw (V.sc 7) with
  | (out, wa, aw, n) => (V.cs, V.ls, V.bx, V.st, V.ps, out, wa, aw, v_num V.sc 7 n)
def v_adds (f : Nat → Bool) : List vB → Nat → Bool
  | [] => f
  | b :: t => v_adds (kn_add f b.1.toNatClampNeg) t
def v_mends (V : kV) : vR := match V.wa with
  | [] => .inl [(8, 0)]
  | d :: rest => match d.2.1 with
    | none => .inl []
    | some x => match v_takes V x.2.1 with
      | .inl ch => .inl ch
      | .inr (b, W) => .inr (b.1, W.cs, W.ls, W.bx, W.st, W.ps, W.so, rest, v_adds (kn_add W.aw b.1.toNatClampNeg) d.bs, v_num (v_num (v_num W.sc 8 (W.sc 8 + (Int32.ofNat d.bs.length + 1))) 5 (W.sc 5 + 1)) 6 (W.sc 6 + 3))
/-- the pilgrims come: those that are still to come, how many strings are sold -/
def v_pil : List vP → List vP → Int32 → kV → Int32 × kV
  | [], keep, n, V => (n, V.cs, V.ls, V.bx, V.st, keep, V.2.2.2.2.2)
  | p :: t, keep, n, V => if p.1 = V.sc 0 then v_pil t keep (n + (v_buys V p).1) (v_buys V p).2 else v_pil t (keep ++ [p]) n V
def v_day (V : kV) : Int32 × kV :=
  let W := v_come (V.cs.map (fun c => (c.1, km_max 0 (c.2.1 - 30), c.2.2.1, c.2.2.2)), V.ls, V.bx, V.st, V.ps, V.so, V.wa, V.aw, v_num V.sc 0 (V.sc 0 + 1))
  v_pil W.ps [] 0 W
def v_passes : Nat → Int32 → kV → Int32 × kV
  | 0, n, V => (n, V)
  | m + 1, n, V => v_passes m (n + (v_day V).1) (v_day V).2
/-! folds over beads, with and without addresses -/
theorem kv_fsum : ∀ (bs : List kB) (a : Int32), kb_fsum a bs = v_fsum a (bs.map (·.2)) := by
  intro bs
  induction bs with
  | nil => intro a; rfl
  | cons b t ih => intro a; exact ih _
theorem kv_fine (bs : List kB) : kb_fine bs = v_fine (bs.map (·.2)) := by
  unfold kb_fine v_fine
  rw [kv_fsum, List.length_map]
  cases bs <;> rfl
theorem kv_of (k : Int32) (bs : List kB) : (kb_of k bs).map (·.2) = v_of k (bs.map (·.2)) := by
  unfold kb_of v_of
  rw [List.filter_map]
  rfl
theorem kv_fin : ∀ (bs : List kB) (x : Option kB), (kb_fin x bs).map (·.2) = v_fin (x.map (·.2)) (bs.map (·.2)) := by
  intro bs
  induction bs with
  | nil => intro x; cases x <;> rfl
  | cons b t ih =>
    intro x
    cases x with
    | none => exact ih (some b)
    | some c =>
      show (kb_fin (if kb_finer b c = true then some b else some c) t).map (·.2) = v_fin (if v_finer b.2 c.2 = true then some b.2 else some c.2) (t.map (·.2))
      have e : kb_finer b c = v_finer b.2 c.2 := rfl
      rw [e]
      by_cases h : v_finer b.2 c.2 = true
      · rw [if_pos h, if_pos h]
        exact ih (some b)
      · rw [if_neg h, if_neg h]
        exact ih (some c)
theorem kv_weak : ∀ (bs : List kB) (x : Option kB), (kb_weak x bs).map (·.2) = v_weak (x.map (·.2)) (bs.map (·.2)) := by
  intro bs
  induction bs with
  | nil => intro x; cases x <;> rfl
  | cons b t ih =>
    intro x
    cases x with
    | none => exact ih (some b)
    | some c =>
      show (kb_weak (if b.2.2.2 < c.2.2.2 then some b else some c) t).map (·.2) = v_weak (if b.2.2.2 < c.2.2.2 then some b.2 else some c.2) (t.map (·.2))
      by_cases h : b.2.2.2 < c.2.2.2
      · rw [if_pos h, if_pos h]
        exact ih (some b)
      · rw [if_neg h, if_neg h]
        exact ih (some c)
theorem kb_fin_mem : ∀ (bs : List kB) (x : Option kB) (b : kB), kb_fin x bs = some b → b ∈ bs ∨ x = some b := by
  intro bs
  induction bs with
  | nil => intro x b h; cases x <;> exact Or.inr h
  | cons c t ih =>
    intro x b h
    cases x with
    | none =>
      rcases ih (some c) b h with e | e
      · exact Or.inl (List.mem_cons_of_mem _ e)
      · cases e
        exact Or.inl List.mem_cons_self
    | some d =>
      unfold kb_fin at h
      split at h
      · rcases ih (some c) b h with e | e
        · exact Or.inl (List.mem_cons_of_mem _ e)
        · cases e
          exact Or.inl List.mem_cons_self
      · rcases ih (some d) b h with e | e
        · exact Or.inl (List.mem_cons_of_mem _ e)
        · exact Or.inr e
theorem kb_weak_mem : ∀ (bs : List kB) (x : Option kB) (b : kB), kb_weak x bs = some b → b ∈ bs ∨ x = some b := by
  intro bs
  induction bs with
  | nil => intro x b h; cases x <;> exact Or.inr h
  | cons c t ih =>
    intro x b h
    cases x with
    | none =>
      rcases ih (some c) b h with e | e
      · exact Or.inl (List.mem_cons_of_mem _ e)
      · cases e
        exact Or.inl List.mem_cons_self
    | some d =>
      unfold kb_weak at h
      split at h
      · rcases ih (some c) b h with e | e
        · exact Or.inl (List.mem_cons_of_mem _ e)
        · cases e
          exact Or.inl List.mem_cons_self
      · rcases ih (some d) b h with e | e
        · exact Or.inl (List.mem_cons_of_mem _ e)
        · exact Or.inr e
theorem kvl_cs (A : kAp) : A.V.cs.length = A.cs.length := List.length_map ..
theorem kvl_ls (A : kAp) : A.V.ls.length = A.ls.length := List.length_map ..
theorem kvl_bx (A : kAp) : A.V.bx.length = A.bx.length := List.length_map ..
theorem kvl_st (A : kAp) : A.V.st.length = A.st.length := List.length_map ..
theorem kvl_ps (A : kAp) : A.V.ps.length = A.ps.length := List.length_map ..
theorem kvl_so (A : kAp) : A.V.so.length = A.so.length := List.length_map ..
theorem kvl_wa (A : kAp) : A.V.wa.length = A.wa.length := List.length_map ..
theorem kv_getD {α β : Type} {f : α → β} {l : List α} {i : Nat} {a : α} {d : β} (h : l[i]? = some a) : (l.map f).getD i d = f a := by simp [List.getD, h]
theorem kvg_cs {A : kAp} {i : Nat} {c : kC} {d : vC} (h : A.cs[i]? = some c) : A.V.cs.getD i d = c.2 := kv_getD h
theorem kvg_ls {A : kAp} {i : Nat} {c : kLn} {d : vL} (h : A.ls[i]? = some c) : A.V.ls.getD i d = c.2 := kv_getD h
theorem kvg_st {A : kAp} {i : Nat} {c : kS} {d : vS} (h : A.st[i]? = some c) : A.V.st.getD i d = c.V := kv_getD h
