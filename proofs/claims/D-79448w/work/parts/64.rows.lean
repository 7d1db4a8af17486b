/-! rows of instructions that leave the cells alone -/
section KWR
variable {ρ : Type} {E : kw_E} {enc : ρ → kw_R} {cc : ByteArray} {own nm : String} {ret : Option FieldType} {nL fr lo pc : Nat} {hh : List ExceptionTableEntry} {L : List (Nat × kw_L)} {st : List kw_L} {x : km_M ρ}
def kw_st1 (L : List (Nat × kw_L)) (i : Nat) : List (Nat × kw_L) := L.filter (fun q => !(q.1 == i) && !(q.1 + 1 == i && kw_c q.2 == 2))
def kw_st2 (L : List (Nat × kw_L)) (i : Nat) : List (Nat × kw_L) := L.filter (fun q => !(q.1 == i) && (!(q.1 == i + 1) && !(q.1 + 1 == i && kw_c q.2 == 2)))
theorem kw_st1_ls (L : List (Nat × kw_L)) (i : Nat) (v : kw_L) : (i, kw_v v) :: (kw_ls L).filter (fun q => !(q.1 == i) && !(q.1 + 1 == i && q.2.category == 2)) = kw_ls ((i, v) :: kw_st1 L i) := by
  show _ :: _ = _ :: _
  refine congrArg _ ?_
  unfold kw_ls kw_st1
  rw [List.filter_map]
  refine congrArg _ (List.filter_congr fun q _ => ?_)
  show (!(q.1 == i) && !(q.1 + 1 == i && (kw_v q.2).category == 2)) = _
  rw [kw_c_v]
theorem kw_st2_ls (L : List (Nat × kw_L)) (i : Nat) (v : kw_L) : (i, kw_v v) :: (kw_ls L).filter (fun q => !(q.1 == i) && (!(q.1 == i + 1) && !(q.1 + 1 == i && q.2.category == 2))) = kw_ls ((i, v) :: kw_st2 L i) := by
  show _ :: _ = _ :: _
  refine congrArg _ ?_
  unfold kw_ls kw_st2
  rw [List.filter_map]
  refine congrArg _ (List.filter_congr fun q _ => ?_)
  show (!(q.1 == i) && (!(q.1 == i + 1) && !(q.1 + 1 == i && (kw_v q.2).category == 2))) = _
  rw [kw_c_v]

theorem kw_iconst (B : kw_ok E cc own nm nL ret fr lo hh) {n : Int} {v : Int32} (d : decode cc pc = .ok (.iconst n, 1)) (hv : Int32.ofInt n = v) (k : kw_W E enc (pc + 1) L (kI v :: st) x) : kw_W E enc pc L st x := by
  obtain ⟨p, l, e, R, s, m, args, below, meth, c, G, n0, z0⟩ := E
  obtain ⟨hx, hb, hml, hr, hown, hts, hlk, hnm, hhh, -⟩ := B
  refine kw_go k ?_
  intro p l e R s m args below meth c G n0 z0 hE H locs cells slots Q ls hl kk
  cases hE
  exact lv_iconst hx hb d hv (kk ls hl)

theorem kw_bipush (B : kw_ok E cc own nm nL ret fr lo hh) {n : Int} {v : Int32} (d : decode cc pc = .ok (.bipush n, 2)) (hv : (Int8.ofInt n).toInt32 = v) (k : kw_W E enc (pc + 2) L (kI v :: st) x) : kw_W E enc pc L st x := by
  obtain ⟨p, l, e, R, s, m, args, below, meth, c, G, n0, z0⟩ := E
  obtain ⟨hx, hb, hml, hr, hown, hts, hlk, hnm, hhh, -⟩ := B
  refine kw_go k ?_
  intro p l e R s m args below meth c G n0 z0 hE H locs cells slots Q ls hl kk
  cases hE
  exact lv_bipush hx hb d hv (kk ls hl)

theorem kw_sipush (B : kw_ok E cc own nm nL ret fr lo hh) {n : Int} {v : Int32} (d : decode cc pc = .ok (.sipush n, 3)) (hv : (Int16.ofInt n).toInt32 = v) (k : kw_W E enc (pc + 3) L (kI v :: st) x) : kw_W E enc pc L st x := by
  obtain ⟨p, l, e, R, s, m, args, below, meth, c, G, n0, z0⟩ := E
  obtain ⟨hx, hb, hml, hr, hown, hts, hlk, hnm, hhh, -⟩ := B
  refine kw_go k ?_
  intro p l e R s m args below meth c G n0 z0 hE H locs cells slots Q ls hl kk
  cases hE
  exact lv_sipush hx hb d hv (kk ls hl)

theorem kw_lconst (B : kw_ok E cc own nm nL ret fr lo hh) {n : Fin 2} {v : Int64} (d : decode cc pc = .ok (.lconst n, 1)) (hv : Int64.ofNat (n : Nat) = v) (k : kw_W E enc (pc + 1) L (kJ v :: st) x) : kw_W E enc pc L st x := by
  obtain ⟨p, l, e, R, s, m, args, below, meth, c, G, n0, z0⟩ := E
  obtain ⟨hx, hb, hml, hr, hown, hts, hlk, hnm, hhh, -⟩ := B
  refine kw_go k ?_
  intro p l e R s m args below meth c G n0 z0 hE H locs cells slots Q ls hl kk
  cases hE
  exact lv_lconst hx hb d hv (kk ls hl)

theorem kw_ldcI (B : kw_ok E cc own nm nL ret fr lo hh) {index : Nat} {v : Int32} (d : decode cc pc = .ok (.ldc index, 2)) (q : Cond.constant own index v ∈ lw_all) (k : kw_W E enc (pc + 2) L (kI v :: st) x) : kw_W E enc pc L st x := by
  obtain ⟨p, l, e, R, s, m, args, below, meth, c, G, n0, z0⟩ := E
  obtain ⟨hx, hb, hml, hr, hown, hts, hlk, hnm, hhh, -⟩ := B
  refine kw_go k ?_
  intro p l e R s m args below meth c G n0 z0 hE H locs cells slots Q ls hl kk
  cases hE
  exact lv_ldc hx hb hown (hts _ q) d (kk ls hl)

theorem kw_ldcIW (B : kw_ok E cc own nm nL ret fr lo hh) {index : Nat} {v : Int32} (d : decode cc pc = .ok (.ldc_w index, 3)) (q : Cond.constant own index v ∈ lw_all) (k : kw_W E enc (pc + 3) L (kI v :: st) x) : kw_W E enc pc L st x := by
  obtain ⟨p, l, e, R, s, m, args, below, meth, c, G, n0, z0⟩ := E
  obtain ⟨hx, hb, hml, hr, hown, hts, hlk, hnm, hhh, -⟩ := B
  refine kw_go k ?_
  intro p l e R s m args below meth c G n0 z0 hE H locs cells slots Q ls hl kk
  cases hE
  exact lv_ldcw hx hb hown (hts _ q) d (kk ls hl)

theorem kw_ldcJ (B : kw_ok E cc own nm nL ret fr lo hh) {index : Nat} {v : Int64} (d : decode cc pc = .ok (.ldc2_w index, 3)) (q : Cond.constantLong own index v ∈ lw_all) (k : kw_W E enc (pc + 3) L (kJ v :: st) x) : kw_W E enc pc L st x := by
  obtain ⟨p, l, e, R, s, m, args, below, meth, c, G, n0, z0⟩ := E
  obtain ⟨hx, hb, hml, hr, hown, hts, hlk, hnm, hhh, -⟩ := B
  refine kw_go k ?_
  intro p l e R s m args below meth c G n0 z0 hE H locs cells slots Q ls hl kk
  cases hE
  exact lv_ldc2 hx hb hown (hts _ q) d (kk ls hl)

theorem kw_fconst0 (B : kw_ok E cc own nm nL ret fr lo hh) (d : decode cc pc = .ok (.fconst 0, 1)) (k : kw_W E enc (pc + 1) L (kF FP.fconst0 :: st) x) : kw_W E enc pc L st x := by
  obtain ⟨p, l, e, R, s, m, args, below, meth, c, G, n0, z0⟩ := E
  obtain ⟨hx, hb, hml, hr, hown, hts, hlk, hnm, hhh, -⟩ := B
  refine kw_go k ?_
  intro p l e R s m args below meth c G n0 z0 hE H locs cells slots Q ls hl kk
  cases hE
  exact lv_fconst0 hx hb d (kk ls hl)

theorem kw_dconst0 (B : kw_ok E cc own nm nL ret fr lo hh) (d : decode cc pc = .ok (.dconst 0, 1)) (k : kw_W E enc (pc + 1) L (kD FP.dconst0 :: st) x) : kw_W E enc pc L st x := by
  obtain ⟨p, l, e, R, s, m, args, below, meth, c, G, n0, z0⟩ := E
  obtain ⟨hx, hb, hml, hr, hown, hts, hlk, hnm, hhh, -⟩ := B
  refine kw_go k ?_
  intro p l e R s m args below meth c G n0 z0 hE H locs cells slots Q ls hl kk
  cases hE
  exact lv_dconst0 hx hb d (kk ls hl)

theorem kw_iload_n (B : kw_ok E cc own nm nL ret fr lo hh) {k : Fin 4} {i : Nat} {v : Int32} (d : decode cc pc = .ok (.iload_n k, 1)) (hi : (k : Nat) = i) (q : Nat) (hq : L[q]? = some (i, kI v)) (k : kw_W E enc (pc + 1) L (kI v :: st) x) : kw_W E enc pc L st x := by
  obtain ⟨p, l, e, R, s, m, args, below, meth, c, G, n0, z0⟩ := E
  obtain ⟨hx, hb, hml, hr, hown, hts, hlk, hnm, hhh, -⟩ := B
  refine kw_go k ?_
  intro p l e R s m args below meth c G n0 z0 hE H locs cells slots Q ls hl kk
  cases hE
  exact lv_iload_n hx hb d hi (kw_at hl q hq) (kk ls hl)

theorem kw_iload (B : kw_ok E cc own nm nL ret fr lo hh) {i : Nat} {v : Int32} (d : decode cc pc = .ok (.iload i, 2)) (q : Nat) (hq : L[q]? = some (i, kI v)) (k : kw_W E enc (pc + 2) L (kI v :: st) x) : kw_W E enc pc L st x := by
  obtain ⟨p, l, e, R, s, m, args, below, meth, c, G, n0, z0⟩ := E
  obtain ⟨hx, hb, hml, hr, hown, hts, hlk, hnm, hhh, -⟩ := B
  refine kw_go k ?_
  intro p l e R s m args below meth c G n0 z0 hE H locs cells slots Q ls hl kk
  cases hE
  exact lv_iload hx hb d (kw_at hl q hq) (kk ls hl)

theorem kw_istore_n (B : kw_ok E cc own nm nL ret fr lo hh) {k : Fin 4} {i : Nat} {v : Int32} {L2 : List (Nat × kw_L)} (d : decode cc pc = .ok (.istore_n k, 1)) (hi : (k : Nat) = i) (hn : i < nL) (hL : (i, kI v) :: kw_st1 L i = L2) (k : kw_W E enc (pc + 1) L2 st x) : kw_W E enc pc L (kI v :: st) x := by
  obtain ⟨p, l, e, R, s, m, args, below, meth, c, G, n0, z0⟩ := E
  obtain ⟨hx, hb, hml, hr, hown, hts, hlk, hnm, hhh, -⟩ := B
  refine kw_go k ?_
  intro p l e R s m args below meth c G n0 z0 hE H locs cells slots Q ls hl kk
  cases hE
  exact lv_istore_n hx hb d hi hl (hml ▸ hn) ((kw_st1_ls L i (kI v)).trans (congrArg kw_ls hL)) kk

theorem kw_istore (B : kw_ok E cc own nm nL ret fr lo hh) {i : Nat} {v : Int32} {L2 : List (Nat × kw_L)} (d : decode cc pc = .ok (.istore i, 2)) (hn : i < nL) (hL : (i, kI v) :: kw_st1 L i = L2) (k : kw_W E enc (pc + 2) L2 st x) : kw_W E enc pc L (kI v :: st) x := by
  obtain ⟨p, l, e, R, s, m, args, below, meth, c, G, n0, z0⟩ := E
  obtain ⟨hx, hb, hml, hr, hown, hts, hlk, hnm, hhh, -⟩ := B
  refine kw_go k ?_
  intro p l e R s m args below meth c G n0 z0 hE H locs cells slots Q ls hl kk
  cases hE
  exact lv_istore hx hb d hl (hml ▸ hn) ((kw_st1_ls L i (kI v)).trans (congrArg kw_ls hL)) kk

theorem kw_lload_n (B : kw_ok E cc own nm nL ret fr lo hh) {k : Fin 4} {i : Nat} {v : Int64} (d : decode cc pc = .ok (.lload_n k, 1)) (hi : (k : Nat) = i) (q : Nat) (hq : L[q]? = some (i, kJ v)) (k : kw_W E enc (pc + 1) L (kJ v :: st) x) : kw_W E enc pc L st x := by
  obtain ⟨p, l, e, R, s, m, args, below, meth, c, G, n0, z0⟩ := E
  obtain ⟨hx, hb, hml, hr, hown, hts, hlk, hnm, hhh, -⟩ := B
  refine kw_go k ?_
  intro p l e R s m args below meth c G n0 z0 hE H locs cells slots Q ls hl kk
  cases hE
  exact lv_lload_n hx hb d hi (kw_at hl q hq) (kk ls hl)

theorem kw_lload (B : kw_ok E cc own nm nL ret fr lo hh) {i : Nat} {v : Int64} (d : decode cc pc = .ok (.lload i, 2)) (q : Nat) (hq : L[q]? = some (i, kJ v)) (k : kw_W E enc (pc + 2) L (kJ v :: st) x) : kw_W E enc pc L st x := by
  obtain ⟨p, l, e, R, s, m, args, below, meth, c, G, n0, z0⟩ := E
  obtain ⟨hx, hb, hml, hr, hown, hts, hlk, hnm, hhh, -⟩ := B
  refine kw_go k ?_
  intro p l e R s m args below meth c G n0 z0 hE H locs cells slots Q ls hl kk
  cases hE
  exact lv_lload hx hb d (kw_at hl q hq) (kk ls hl)

theorem kw_lstore_n (B : kw_ok E cc own nm nL ret fr lo hh) {k : Fin 4} {i : Nat} {v : Int64} {L2 : List (Nat × kw_L)} (d : decode cc pc = .ok (.lstore_n k, 1)) (hi : (k : Nat) = i) (hn : i + 1 < nL) (hL : (i, kJ v) :: kw_st2 L i = L2) (k : kw_W E enc (pc + 1) L2 st x) : kw_W E enc pc L (kJ v :: st) x := by
  obtain ⟨p, l, e, R, s, m, args, below, meth, c, G, n0, z0⟩ := E
  obtain ⟨hx, hb, hml, hr, hown, hts, hlk, hnm, hhh, -⟩ := B
  refine kw_go k ?_
  intro p l e R s m args below meth c G n0 z0 hE H locs cells slots Q ls hl kk
  cases hE
  exact lv_lstore_n hx hb d hi hl (hml ▸ hn) ((kw_st2_ls L i (kJ v)).trans (congrArg kw_ls hL)) kk

theorem kw_lstore (B : kw_ok E cc own nm nL ret fr lo hh) {i : Nat} {v : Int64} {L2 : List (Nat × kw_L)} (d : decode cc pc = .ok (.lstore i, 2)) (hn : i + 1 < nL) (hL : (i, kJ v) :: kw_st2 L i = L2) (k : kw_W E enc (pc + 2) L2 st x) : kw_W E enc pc L (kJ v :: st) x := by
  obtain ⟨p, l, e, R, s, m, args, below, meth, c, G, n0, z0⟩ := E
  obtain ⟨hx, hb, hml, hr, hown, hts, hlk, hnm, hhh, -⟩ := B
  refine kw_go k ?_
  intro p l e R s m args below meth c G n0 z0 hE H locs cells slots Q ls hl kk
  cases hE
  exact lv_lstore hx hb d hl (hml ▸ hn) ((kw_st2_ls L i (kJ v)).trans (congrArg kw_ls hL)) kk

theorem kw_dload_n (B : kw_ok E cc own nm nL ret fr lo hh) {k : Fin 4} {i : Nat} {v : UInt64} (d : decode cc pc = .ok (.dload_n k, 1)) (hi : (k : Nat) = i) (q : Nat) (hq : L[q]? = some (i, kD v)) (k : kw_W E enc (pc + 1) L (kD v :: st) x) : kw_W E enc pc L st x := by
  obtain ⟨p, l, e, R, s, m, args, below, meth, c, G, n0, z0⟩ := E
  obtain ⟨hx, hb, hml, hr, hown, hts, hlk, hnm, hhh, -⟩ := B
  refine kw_go k ?_
  intro p l e R s m args below meth c G n0 z0 hE H locs cells slots Q ls hl kk
  cases hE
  exact lv_dload_n hx hb d hi (kw_at hl q hq) (kk ls hl)

theorem kw_dload (B : kw_ok E cc own nm nL ret fr lo hh) {i : Nat} {v : UInt64} (d : decode cc pc = .ok (.dload i, 2)) (q : Nat) (hq : L[q]? = some (i, kD v)) (k : kw_W E enc (pc + 2) L (kD v :: st) x) : kw_W E enc pc L st x := by
  obtain ⟨p, l, e, R, s, m, args, below, meth, c, G, n0, z0⟩ := E
  obtain ⟨hx, hb, hml, hr, hown, hts, hlk, hnm, hhh, -⟩ := B
  refine kw_go k ?_
  intro p l e R s m args below meth c G n0 z0 hE H locs cells slots Q ls hl kk
  cases hE
  exact lv_dload hx hb d (kw_at hl q hq) (kk ls hl)

theorem kw_dstore_n (B : kw_ok E cc own nm nL ret fr lo hh) {k : Fin 4} {i : Nat} {v : UInt64} {L2 : List (Nat × kw_L)} (d : decode cc pc = .ok (.dstore_n k, 1)) (hi : (k : Nat) = i) (hn : i + 1 < nL) (hL : (i, kD v) :: kw_st2 L i = L2) (k : kw_W E enc (pc + 1) L2 st x) : kw_W E enc pc L (kD v :: st) x := by
  obtain ⟨p, l, e, R, s, m, args, below, meth, c, G, n0, z0⟩ := E
  obtain ⟨hx, hb, hml, hr, hown, hts, hlk, hnm, hhh, -⟩ := B
  refine kw_go k ?_
  intro p l e R s m args below meth c G n0 z0 hE H locs cells slots Q ls hl kk
  cases hE
  exact lv_dstore_n hx hb d hi hl (hml ▸ hn) ((kw_st2_ls L i (kD v)).trans (congrArg kw_ls hL)) kk

theorem kw_dstore (B : kw_ok E cc own nm nL ret fr lo hh) {i : Nat} {v : UInt64} {L2 : List (Nat × kw_L)} (d : decode cc pc = .ok (.dstore i, 2)) (hn : i + 1 < nL) (hL : (i, kD v) :: kw_st2 L i = L2) (k : kw_W E enc (pc + 2) L2 st x) : kw_W E enc pc L (kD v :: st) x := by
  obtain ⟨p, l, e, R, s, m, args, below, meth, c, G, n0, z0⟩ := E
  obtain ⟨hx, hb, hml, hr, hown, hts, hlk, hnm, hhh, -⟩ := B
  refine kw_go k ?_
  intro p l e R s m args below meth c G n0 z0 hE H locs cells slots Q ls hl kk
  cases hE
  exact lv_dstore hx hb d hl (hml ▸ hn) ((kw_st2_ls L i (kD v)).trans (congrArg kw_ls hL)) kk

theorem kw_aload_n (B : kw_ok E cc own nm nL ret fr lo hh) {k : Fin 4} {i : Nat} {v : Option Nat} (d : decode cc pc = .ok (.aload_n k, 1)) (hi : (k : Nat) = i) (q : Nat) (hq : L[q]? = some (i, kA v)) (k : kw_W E enc (pc + 1) L (kA v :: st) x) : kw_W E enc pc L st x := by
  obtain ⟨p, l, e, R, s, m, args, below, meth, c, G, n0, z0⟩ := E
  obtain ⟨hx, hb, hml, hr, hown, hts, hlk, hnm, hhh, -⟩ := B
  refine kw_go k ?_
  intro p l e R s m args below meth c G n0 z0 hE H locs cells slots Q ls hl kk
  cases hE
  have h9 := kw_at hl q hq
  cases v with
  | none => exact lv_aload_nN hx hb d hi h9 (kk ls hl)
  | some a => exact lv_aload_n hx hb d hi h9 (kk ls hl)

theorem kw_aload (B : kw_ok E cc own nm nL ret fr lo hh) {i : Nat} {v : Option Nat} (d : decode cc pc = .ok (.aload i, 2)) (q : Nat) (hq : L[q]? = some (i, kA v)) (k : kw_W E enc (pc + 2) L (kA v :: st) x) : kw_W E enc pc L st x := by
  obtain ⟨p, l, e, R, s, m, args, below, meth, c, G, n0, z0⟩ := E
  obtain ⟨hx, hb, hml, hr, hown, hts, hlk, hnm, hhh, -⟩ := B
  refine kw_go k ?_
  intro p l e R s m args below meth c G n0 z0 hE H locs cells slots Q ls hl kk
  cases hE
  have h9 := kw_at hl q hq
  cases v with
  | none => exact lv_aloadN hx hb d h9 (kk ls hl)
  | some a => exact lv_aload hx hb d h9 (kk ls hl)

theorem kw_astore_n (B : kw_ok E cc own nm nL ret fr lo hh) {k : Fin 4} {i : Nat} {v : Option Nat} {L2 : List (Nat × kw_L)} (d : decode cc pc = .ok (.astore_n k, 1)) (hi : (k : Nat) = i) (hn : i < nL) (hL : (i, kA v) :: kw_st1 L i = L2) (k : kw_W E enc (pc + 1) L2 st x) : kw_W E enc pc L (kA v :: st) x := by
  obtain ⟨p, l, e, R, s, m, args, below, meth, c, G, n0, z0⟩ := E
  obtain ⟨hx, hb, hml, hr, hown, hts, hlk, hnm, hhh, -⟩ := B
  refine kw_go k ?_
  intro p l e R s m args below meth c G n0 z0 hE H locs cells slots Q ls hl kk
  cases hE
  have h9 := (kw_st1_ls L i (kA v)).trans (congrArg kw_ls hL)
  cases v with
  | none => exact lv_astore_nN hx hb d hi hl (hml ▸ hn) h9 kk
  | some a => exact lv_astore_n hx hb d hi hl (hml ▸ hn) h9 kk

theorem kw_astore (B : kw_ok E cc own nm nL ret fr lo hh) {i : Nat} {v : Option Nat} {L2 : List (Nat × kw_L)} (d : decode cc pc = .ok (.astore i, 2)) (hn : i < nL) (hL : (i, kA v) :: kw_st1 L i = L2) (k : kw_W E enc (pc + 2) L2 st x) : kw_W E enc pc L (kA v :: st) x := by
  obtain ⟨p, l, e, R, s, m, args, below, meth, c, G, n0, z0⟩ := E
  obtain ⟨hx, hb, hml, hr, hown, hts, hlk, hnm, hhh, -⟩ := B
  refine kw_go k ?_
  intro p l e R s m args below meth c G n0 z0 hE H locs cells slots Q ls hl kk
  cases hE
  have h9 := (kw_st1_ls L i (kA v)).trans (congrArg kw_ls hL)
  cases v with
  | none => exact lv_astoreN hx hb d hl (hml ▸ hn) h9 kk
  | some a => exact lv_astore hx hb d hl (hml ▸ hn) h9 kk

theorem kw_null (B : kw_ok E cc own nm nL ret fr lo hh) (d : decode cc pc = .ok (.aconst_null, 1)) (k : kw_W E enc (pc + 1) L (kA none :: st) x) : kw_W E enc pc L st x := by
  obtain ⟨p, l, e, R, s, m, args, below, meth, c, G, n0, z0⟩ := E
  obtain ⟨hx, hb, hml, hr, hown, hts, hlk, hnm, hhh, -⟩ := B
  refine kw_go k ?_
  intro p l e R s m args below meth c G n0 z0 hE H locs cells slots Q ls hl kk
  cases hE
  exact lv_null hx hb d (kk ls hl)

theorem kw_iinc (B : kw_ok E cc own nm nL ret fr lo hh) {i : Nat} {n : Int} {v w : Int32} {L2 : List (Nat × kw_L)} (d : decode cc pc = .ok (.iinc i n, 3)) (q : Nat) (hq : L[q]? = some (i, kI v)) (hv : v + Int32.ofInt n = w) (hn : i < nL) (hL : (i, kI w) :: kw_st1 L i = L2) (k : kw_W E enc (pc + 3) L2 st x) : kw_W E enc pc L st x := by
  obtain ⟨p, l, e, R, s, m, args, below, meth, c, G, n0, z0⟩ := E
  obtain ⟨hx, hb, hml, hr, hown, hts, hlk, hnm, hhh, -⟩ := B
  refine kw_go k ?_
  intro p l e R s m args below meth c G n0 z0 hE H locs cells slots Q ls hl kk
  cases hE
  have h9 : (kw_ls L)[q]? = some (i, .int v) := by
    unfold kw_ls
    rw [List.getElem?_map, hq]
    rfl
  exact lv_iinc hx hb d hl h9 hv (hml ▸ hn) ((kw_st1_ls L i (kI w)).trans (congrArg kw_ls hL)) kk

theorem kw_iadd (B : kw_ok E cc own nm nL ret fr lo hh) {v w : Int32} (d : decode cc pc = .ok (.iadd, 1)) (k : kw_W E enc (pc + 1) L (kI (v + w) :: st) x) : kw_W E enc pc L (kI w :: kI v :: st) x := by
  obtain ⟨p, l, e, R, s, m, args, below, meth, c, G, n0, z0⟩ := E
  obtain ⟨hx, hb, hml, hr, hown, hts, hlk, hnm, hhh, -⟩ := B
  refine kw_go k ?_
  intro p l e R s m args below meth c G n0 z0 hE H locs cells slots Q ls hl kk
  cases hE
  exact lv_iadd hx hb d (kk ls hl)

theorem kw_isub (B : kw_ok E cc own nm nL ret fr lo hh) {v w : Int32} (d : decode cc pc = .ok (.isub, 1)) (k : kw_W E enc (pc + 1) L (kI (v - w) :: st) x) : kw_W E enc pc L (kI w :: kI v :: st) x := by
  obtain ⟨p, l, e, R, s, m, args, below, meth, c, G, n0, z0⟩ := E
  obtain ⟨hx, hb, hml, hr, hown, hts, hlk, hnm, hhh, -⟩ := B
  refine kw_go k ?_
  intro p l e R s m args below meth c G n0 z0 hE H locs cells slots Q ls hl kk
  cases hE
  exact lv_isub hx hb d (kk ls hl)

theorem kw_imul (B : kw_ok E cc own nm nL ret fr lo hh) {v w : Int32} (d : decode cc pc = .ok (.imul, 1)) (k : kw_W E enc (pc + 1) L (kI (v * w) :: st) x) : kw_W E enc pc L (kI w :: kI v :: st) x := by
  obtain ⟨p, l, e, R, s, m, args, below, meth, c, G, n0, z0⟩ := E
  obtain ⟨hx, hb, hml, hr, hown, hts, hlk, hnm, hhh, -⟩ := B
  refine kw_go k ?_
  intro p l e R s m args below meth c G n0 z0 hE H locs cells slots Q ls hl kk
  cases hE
  exact lv_imul hx hb d (kk ls hl)

theorem kw_iand (B : kw_ok E cc own nm nL ret fr lo hh) {v w : Int32} (d : decode cc pc = .ok (.iand, 1)) (k : kw_W E enc (pc + 1) L (kI (v &&& w) :: st) x) : kw_W E enc pc L (kI w :: kI v :: st) x := by
  obtain ⟨p, l, e, R, s, m, args, below, meth, c, G, n0, z0⟩ := E
  obtain ⟨hx, hb, hml, hr, hown, hts, hlk, hnm, hhh, -⟩ := B
  refine kw_go k ?_
  intro p l e R s m args below meth c G n0 z0 hE H locs cells slots Q ls hl kk
  cases hE
  exact lv_iand hx hb d (kk ls hl)

theorem kw_ior (B : kw_ok E cc own nm nL ret fr lo hh) {v w : Int32} (d : decode cc pc = .ok (.ior, 1)) (k : kw_W E enc (pc + 1) L (kI (v ||| w) :: st) x) : kw_W E enc pc L (kI w :: kI v :: st) x := by
  obtain ⟨p, l, e, R, s, m, args, below, meth, c, G, n0, z0⟩ := E
  obtain ⟨hx, hb, hml, hr, hown, hts, hlk, hnm, hhh, -⟩ := B
  refine kw_go k ?_
  intro p l e R s m args below meth c G n0 z0 hE H locs cells slots Q ls hl kk
  cases hE
  exact lv_ior hx hb d (kk ls hl)

theorem kw_ixor (B : kw_ok E cc own nm nL ret fr lo hh) {v w : Int32} (d : decode cc pc = .ok (.ixor, 1)) (k : kw_W E enc (pc + 1) L (kI (v ^^^ w) :: st) x) : kw_W E enc pc L (kI w :: kI v :: st) x := by
  obtain ⟨p, l, e, R, s, m, args, below, meth, c, G, n0, z0⟩ := E
  obtain ⟨hx, hb, hml, hr, hown, hts, hlk, hnm, hhh, -⟩ := B
  refine kw_go k ?_
  intro p l e R s m args below meth c G n0 z0 hE H locs cells slots Q ls hl kk
  cases hE
  exact lv_ixor hx hb d (kk ls hl)

theorem kw_ladd (B : kw_ok E cc own nm nL ret fr lo hh) {v w : Int64} (d : decode cc pc = .ok (.ladd, 1)) (k : kw_W E enc (pc + 1) L (kJ (v + w) :: st) x) : kw_W E enc pc L (kJ w :: kJ v :: st) x := by
  obtain ⟨p, l, e, R, s, m, args, below, meth, c, G, n0, z0⟩ := E
  obtain ⟨hx, hb, hml, hr, hown, hts, hlk, hnm, hhh, -⟩ := B
  refine kw_go k ?_
  intro p l e R s m args below meth c G n0 z0 hE H locs cells slots Q ls hl kk
  cases hE
  exact lv_ladd hx hb d (kk ls hl)

theorem kw_lsub (B : kw_ok E cc own nm nL ret fr lo hh) {v w : Int64} (d : decode cc pc = .ok (.lsub, 1)) (k : kw_W E enc (pc + 1) L (kJ (v - w) :: st) x) : kw_W E enc pc L (kJ w :: kJ v :: st) x := by
  obtain ⟨p, l, e, R, s, m, args, below, meth, c, G, n0, z0⟩ := E
  obtain ⟨hx, hb, hml, hr, hown, hts, hlk, hnm, hhh, -⟩ := B
  refine kw_go k ?_
  intro p l e R s m args below meth c G n0 z0 hE H locs cells slots Q ls hl kk
  cases hE
  exact lv_lsub hx hb d (kk ls hl)

theorem kw_lmul (B : kw_ok E cc own nm nL ret fr lo hh) {v w : Int64} (d : decode cc pc = .ok (.lmul, 1)) (k : kw_W E enc (pc + 1) L (kJ (v * w) :: st) x) : kw_W E enc pc L (kJ w :: kJ v :: st) x := by
  obtain ⟨p, l, e, R, s, m, args, below, meth, c, G, n0, z0⟩ := E
  obtain ⟨hx, hb, hml, hr, hown, hts, hlk, hnm, hhh, -⟩ := B
  refine kw_go k ?_
  intro p l e R s m args below meth c G n0 z0 hE H locs cells slots Q ls hl kk
  cases hE
  exact lv_lmul hx hb d (kk ls hl)

theorem kw_land (B : kw_ok E cc own nm nL ret fr lo hh) {v w : Int64} (d : decode cc pc = .ok (.land, 1)) (k : kw_W E enc (pc + 1) L (kJ (v &&& w) :: st) x) : kw_W E enc pc L (kJ w :: kJ v :: st) x := by
  obtain ⟨p, l, e, R, s, m, args, below, meth, c, G, n0, z0⟩ := E
  obtain ⟨hx, hb, hml, hr, hown, hts, hlk, hnm, hhh, -⟩ := B
  refine kw_go k ?_
  intro p l e R s m args below meth c G n0 z0 hE H locs cells slots Q ls hl kk
  cases hE
  exact lv_land hx hb d (kk ls hl)

theorem kw_lor (B : kw_ok E cc own nm nL ret fr lo hh) {v w : Int64} (d : decode cc pc = .ok (.lor, 1)) (k : kw_W E enc (pc + 1) L (kJ (v ||| w) :: st) x) : kw_W E enc pc L (kJ w :: kJ v :: st) x := by
  obtain ⟨p, l, e, R, s, m, args, below, meth, c, G, n0, z0⟩ := E
  obtain ⟨hx, hb, hml, hr, hown, hts, hlk, hnm, hhh, -⟩ := B
  refine kw_go k ?_
  intro p l e R s m args below meth c G n0 z0 hE H locs cells slots Q ls hl kk
  cases hE
  exact lv_lor hx hb d (kk ls hl)

theorem kw_ineg (B : kw_ok E cc own nm nL ret fr lo hh) {v : Int32} (d : decode cc pc = .ok (.ineg, 1)) (k : kw_W E enc (pc + 1) L (kI (-v) :: st) x) : kw_W E enc pc L (kI v :: st) x := by
  obtain ⟨p, l, e, R, s, m, args, below, meth, c, G, n0, z0⟩ := E
  obtain ⟨hx, hb, hml, hr, hown, hts, hlk, hnm, hhh, -⟩ := B
  refine kw_go k ?_
  intro p l e R s m args below meth c G n0 z0 hE H locs cells slots Q ls hl kk
  cases hE
  exact lv_ineg hx hb d (kk ls hl)

theorem kw_ishl (B : kw_ok E cc own nm nL ret fr lo hh) {v w : Int32} (d : decode cc pc = .ok (.ishl, 1)) (k : kw_W E enc (pc + 1) L (kI (v <<< (w &&& 31)) :: st) x) : kw_W E enc pc L (kI w :: kI v :: st) x := by
  obtain ⟨p, l, e, R, s, m, args, below, meth, c, G, n0, z0⟩ := E
  obtain ⟨hx, hb, hml, hr, hown, hts, hlk, hnm, hhh, -⟩ := B
  refine kw_go k ?_
  intro p l e R s m args below meth c G n0 z0 hE H locs cells slots Q ls hl kk
  cases hE
  exact lv_ishl hx hb d (kk ls hl)

theorem kw_ishr (B : kw_ok E cc own nm nL ret fr lo hh) {v w : Int32} (d : decode cc pc = .ok (.ishr, 1)) (k : kw_W E enc (pc + 1) L (kI (v >>> (w &&& 31)) :: st) x) : kw_W E enc pc L (kI w :: kI v :: st) x := by
  obtain ⟨p, l, e, R, s, m, args, below, meth, c, G, n0, z0⟩ := E
  obtain ⟨hx, hb, hml, hr, hown, hts, hlk, hnm, hhh, -⟩ := B
  refine kw_go k ?_
  intro p l e R s m args below meth c G n0 z0 hE H locs cells slots Q ls hl kk
  cases hE
  exact lv_ishr hx hb d (kk ls hl)

theorem kw_iushr (B : kw_ok E cc own nm nL ret fr lo hh) {v w : Int32} (d : decode cc pc = .ok (.iushr, 1)) (k : kw_W E enc (pc + 1) L (kI (v.toUInt32 >>> (w.toUInt32 &&& Int32.toUInt32 31)).toInt32 :: st) x) : kw_W E enc pc L (kI w :: kI v :: st) x := by
  obtain ⟨p, l, e, R, s, m, args, below, meth, c, G, n0, z0⟩ := E
  obtain ⟨hx, hb, hml, hr, hown, hts, hlk, hnm, hhh, -⟩ := B
  refine kw_go k ?_
  intro p l e R s m args below meth c G n0 z0 hE H locs cells slots Q ls hl kk
  cases hE
  exact lv_iushr hx hb d rfl (kk ls hl)

theorem kw_lshl (B : kw_ok E cc own nm nL ret fr lo hh) {v : Int64} {w : Int32} (d : decode cc pc = .ok (.lshl, 1)) (k : kw_W E enc (pc + 1) L (kJ (v <<< (w.toInt64 &&& 63)) :: st) x) : kw_W E enc pc L (kI w :: kJ v :: st) x := by
  obtain ⟨p, l, e, R, s, m, args, below, meth, c, G, n0, z0⟩ := E
  obtain ⟨hx, hb, hml, hr, hown, hts, hlk, hnm, hhh, -⟩ := B
  refine kw_go k ?_
  intro p l e R s m args below meth c G n0 z0 hE H locs cells slots Q ls hl kk
  cases hE
  exact lv_lshl hx hb d rfl (kk ls hl)

theorem kw_lushr (B : kw_ok E cc own nm nL ret fr lo hh) {v : Int64} {w : Int32} (d : decode cc pc = .ok (.lushr, 1)) (k : kw_W E enc (pc + 1) L (kJ (v.toUInt64 >>> (w.toInt64.toUInt64 &&& Int64.toUInt64 63)).toInt64 :: st) x) : kw_W E enc pc L (kI w :: kJ v :: st) x := by
  obtain ⟨p, l, e, R, s, m, args, below, meth, c, G, n0, z0⟩ := E
  obtain ⟨hx, hb, hml, hr, hown, hts, hlk, hnm, hhh, -⟩ := B
  refine kw_go k ?_
  intro p l e R s m args below meth c G n0 z0 hE H locs cells slots Q ls hl kk
  cases hE
  exact lv_lushr hx hb d rfl (kk ls hl)

theorem kw_l2i (B : kw_ok E cc own nm nL ret fr lo hh) {v : Int64} (d : decode cc pc = .ok (.l2i, 1)) (k : kw_W E enc (pc + 1) L (kI v.toInt32 :: st) x) : kw_W E enc pc L (kJ v :: st) x := by
  obtain ⟨p, l, e, R, s, m, args, below, meth, c, G, n0, z0⟩ := E
  obtain ⟨hx, hb, hml, hr, hown, hts, hlk, hnm, hhh, -⟩ := B
  refine kw_go k ?_
  intro p l e R s m args below meth c G n0 z0 hE H locs cells slots Q ls hl kk
  cases hE
  exact lv_l2i hx hb d rfl (kk ls hl)

theorem kw_i2l (B : kw_ok E cc own nm nL ret fr lo hh) {v : Int32} (d : decode cc pc = .ok (.i2l, 1)) (k : kw_W E enc (pc + 1) L (kJ v.toInt64 :: st) x) : kw_W E enc pc L (kI v :: st) x := by
  obtain ⟨p, l, e, R, s, m, args, below, meth, c, G, n0, z0⟩ := E
  obtain ⟨hx, hb, hml, hr, hown, hts, hlk, hnm, hhh, -⟩ := B
  refine kw_go k ?_
  intro p l e R s m args below meth c G n0 z0 hE H locs cells slots Q ls hl kk
  cases hE
  exact lv_i2l hx hb d rfl (kk ls hl)

theorem kw_i2b (B : kw_ok E cc own nm nL ret fr lo hh) {v : Int32} (d : decode cc pc = .ok (.i2b, 1)) (k : kw_W E enc (pc + 1) L (kI v.toInt8.toInt32 :: st) x) : kw_W E enc pc L (kI v :: st) x := by
  obtain ⟨p, l, e, R, s, m, args, below, meth, c, G, n0, z0⟩ := E
  obtain ⟨hx, hb, hml, hr, hown, hts, hlk, hnm, hhh, -⟩ := B
  refine kw_go k ?_
  intro p l e R s m args below meth c G n0 z0 hE H locs cells slots Q ls hl kk
  cases hE
  exact lv_i2b hx hb d rfl (kk ls hl)

theorem kw_i2c (B : kw_ok E cc own nm nL ret fr lo hh) {v : Int32} (d : decode cc pc = .ok (.i2c, 1)) (k : kw_W E enc (pc + 1) L (kI (v.toUInt32 % 65536).toInt32 :: st) x) : kw_W E enc pc L (kI v :: st) x := by
  obtain ⟨p, l, e, R, s, m, args, below, meth, c, G, n0, z0⟩ := E
  obtain ⟨hx, hb, hml, hr, hown, hts, hlk, hnm, hhh, -⟩ := B
  refine kw_go k ?_
  intro p l e R s m args below meth c G n0 z0 hE H locs cells slots Q ls hl kk
  cases hE
  exact lv_i2c hx hb d rfl (kk ls hl)

theorem kw_i2d (B : kw_ok E cc own nm nL ret fr lo hh) {v : Int32} (d : decode cc pc = .ok (.i2d, 1)) (k : kw_W E enc (pc + 1) L (kD (FP.i2d v) :: st) x) : kw_W E enc pc L (kI v :: st) x := by
  obtain ⟨p, l, e, R, s, m, args, below, meth, c, G, n0, z0⟩ := E
  obtain ⟨hx, hb, hml, hr, hown, hts, hlk, hnm, hhh, -⟩ := B
  refine kw_go k ?_
  intro p l e R s m args below meth c G n0 z0 hE H locs cells slots Q ls hl kk
  cases hE
  exact lv_i2d hx hb d (kk ls hl)

theorem kw_i2f (B : kw_ok E cc own nm nL ret fr lo hh) {v : Int32} (d : decode cc pc = .ok (.i2f, 1)) (k : kw_W E enc (pc + 1) L (kF (FP.i2f v) :: st) x) : kw_W E enc pc L (kI v :: st) x := by
  obtain ⟨p, l, e, R, s, m, args, below, meth, c, G, n0, z0⟩ := E
  obtain ⟨hx, hb, hml, hr, hown, hts, hlk, hnm, hhh, -⟩ := B
  refine kw_go k ?_
  intro p l e R s m args below meth c G n0 z0 hE H locs cells slots Q ls hl kk
  cases hE
  exact lv_i2f hx hb d (kk ls hl)

theorem kw_lcmp (B : kw_ok E cc own nm nL ret fr lo hh) {v w : Int64} (d : decode cc pc = .ok (.lcmp, 1)) (k : kw_W E enc (pc + 1) L (kI (lg_cmp v w) :: st) x) : kw_W E enc pc L (kJ w :: kJ v :: st) x := by
  obtain ⟨p, l, e, R, s, m, args, below, meth, c, G, n0, z0⟩ := E
  obtain ⟨hx, hb, hml, hr, hown, hts, hlk, hnm, hhh, -⟩ := B
  refine kw_go k ?_
  intro p l e R s m args below meth c G n0 z0 hE H locs cells slots Q ls hl kk
  cases hE
  exact W.lcmp hx hb d (kk ls hl)

theorem kw_dcmp (B : kw_ok E cc own nm nL ret fr lo hh) {v w : UInt64} {op : CmpOp} (d : decode cc pc = .ok (.dcmp op, 1)) (k : kw_W E enc (pc + 1) L (kI (Op.cmpValue (FP.dcmp v w) op) :: st) x) : kw_W E enc pc L (kD w :: kD v :: st) x := by
  obtain ⟨p, l, e, R, s, m, args, below, meth, c, G, n0, z0⟩ := E
  obtain ⟨hx, hb, hml, hr, hown, hts, hlk, hnm, hhh, -⟩ := B
  refine kw_go k ?_
  intro p l e R s m args below meth c G n0 z0 hE H locs cells slots Q ls hl kk
  cases hE
  exact lv_dcmp hx hb d (kk ls hl)

theorem kw_dup (B : kw_ok E cc own nm nL ret fr lo hh) {v : kw_L} (d : decode cc pc = .ok (.dup, 1)) (hc : kw_c v = 1) (k : kw_W E enc (pc + 1) L (v :: v :: st) x) : kw_W E enc pc L (v :: st) x := by
  obtain ⟨p, l, e, R, s, m, args, below, meth, c, G, n0, z0⟩ := E
  obtain ⟨hx, hb, hml, hr, hown, hts, hlk, hnm, hhh, -⟩ := B
  refine kw_go k ?_
  intro p l e R s m args below meth c G n0 z0 hE H locs cells slots Q ls hl kk
  cases hE
  exact lv_dup hx hb d (by rw [kw_c_v]; exact hc) (kk ls hl)

theorem kw_pop (B : kw_ok E cc own nm nL ret fr lo hh) {v : kw_L} (d : decode cc pc = .ok (.pop, 1)) (hc : kw_c v = 1) (k : kw_W E enc (pc + 1) L st x) : kw_W E enc pc L (v :: st) x := by
  obtain ⟨p, l, e, R, s, m, args, below, meth, c, G, n0, z0⟩ := E
  obtain ⟨hx, hb, hml, hr, hown, hts, hlk, hnm, hhh, -⟩ := B
  refine kw_go k ?_
  intro p l e R s m args below meth c G n0 z0 hE H locs cells slots Q ls hl kk
  cases hE
  exact lv_pop hx hb d (by rw [kw_c_v]; exact hc) (kk ls hl)

theorem kw_dup_x1 (B : kw_ok E cc own nm nL ret fr lo hh) {v w : kw_L} (d : decode cc pc = .ok (.dup_x1, 1)) (hv : kw_c v = 1) (hw : kw_c w = 1) (k : kw_W E enc (pc + 1) L (w :: v :: w :: st) x) : kw_W E enc pc L (w :: v :: st) x := by
  obtain ⟨p, l, e, R, s, m, args, below, meth, c, G, n0, z0⟩ := E
  obtain ⟨hx, hb, hml, hr, hown, hts, hlk, hnm, hhh, -⟩ := B
  refine kw_go k ?_
  intro p l e R s m args below meth c G n0 z0 hE H locs cells slots Q ls hl kk
  cases hE
  exact lv_dup_x1 hx hb d (by rw [kw_c_v]; exact hw) (by rw [kw_c_v]; exact hv) (kk ls hl)

theorem kw_dup2 (B : kw_ok E cc own nm nL ret fr lo hh) {v w : kw_L} (d : decode cc pc = .ok (.dup2, 1)) (hv : kw_c v = 1) (hw : kw_c w = 1) (k : kw_W E enc (pc + 1) L (w :: v :: w :: v :: st) x) : kw_W E enc pc L (w :: v :: st) x := by
  obtain ⟨p, l, e, R, s, m, args, below, meth, c, G, n0, z0⟩ := E
  obtain ⟨hx, hb, hml, hr, hown, hts, hlk, hnm, hhh, -⟩ := B
  refine kw_go k ?_
  intro p l e R s m args below meth c G n0 z0 hE H locs cells slots Q ls hl kk
  cases hE
  exact lv_dup2_11 hx hb d (by rw [kw_c_v]; exact hw) (by rw [kw_c_v]; exact hv) (kk ls hl)

theorem kw_goto (B : kw_ok E cc own nm nL ret fr lo hh) {off : Int} {tgt : Nat} (d : decode cc pc = .ok (.goto off, 3)) (ht : (pc : Int) + off = (tgt : Int)) (k : kw_W E enc tgt L st x) : kw_W E enc pc L st x := by
  obtain ⟨p, l, e, R, s, m, args, below, meth, c, G, n0, z0⟩ := E
  obtain ⟨hx, hb, hml, hr, hown, hts, hlk, hnm, hhh, -⟩ := B
  refine kw_go k ?_
  intro p l e R s m args below meth c G n0 z0 hE H locs cells slots Q ls hl kk
  cases hE
  exact lv_goto hx hb d ht (kk ls hl)

theorem kw_if_eq (B : kw_ok E cc own nm nL ret fr lo hh) {v : Int32} {off : Int} {tgt : Nat} (d : decode cc pc = .ok (.ifCond .eq off, 3)) (ht : (pc : Int) + off = (tgt : Int)) {y : km_M ρ} (kt : kw_W E enc tgt L st x) (kf : kw_W E enc (pc + 3) L st y) : kw_W E enc pc L (kI v :: st) (if v = 0 then x else y) := by
  obtain ⟨p, l, e, R, s, m, args, below, meth, c, G, n0, z0⟩ := E
  obtain ⟨hx, hb, hml, hr, hown, hts, hlk, hnm, hhh, -⟩ := B
  intro σ r τ H locs cells slots ls hx1 h1 h2 hS hl
  refine lv_if_eq hx hb d ht (fun hc => ?_) (fun hc => ?_)
  · rw [if_pos hc] at hx1
    exact kt σ r τ H locs cells slots ls hx1 h1 h2 hS hl
  · rw [if_neg hc] at hx1
    exact kf σ r τ H locs cells slots ls hx1 h1 h2 hS hl

theorem kw_if_ne (B : kw_ok E cc own nm nL ret fr lo hh) {v : Int32} {off : Int} {tgt : Nat} (d : decode cc pc = .ok (.ifCond .ne off, 3)) (ht : (pc : Int) + off = (tgt : Int)) {y : km_M ρ} (kt : kw_W E enc tgt L st x) (kf : kw_W E enc (pc + 3) L st y) : kw_W E enc pc L (kI v :: st) (if ¬ v = 0 then x else y) := by
  obtain ⟨p, l, e, R, s, m, args, below, meth, c, G, n0, z0⟩ := E
  obtain ⟨hx, hb, hml, hr, hown, hts, hlk, hnm, hhh, -⟩ := B
  intro σ r τ H locs cells slots ls hx1 h1 h2 hS hl
  refine lv_if_ne hx hb d ht (fun hc => ?_) (fun hc => ?_)
  · rw [if_pos hc] at hx1
    exact kt σ r τ H locs cells slots ls hx1 h1 h2 hS hl
  · rw [if_neg (fun h => h hc)] at hx1
    exact kf σ r τ H locs cells slots ls hx1 h1 h2 hS hl

theorem kw_if_lt (B : kw_ok E cc own nm nL ret fr lo hh) {v : Int32} {off : Int} {tgt : Nat} (d : decode cc pc = .ok (.ifCond .lt off, 3)) (ht : (pc : Int) + off = (tgt : Int)) {y : km_M ρ} (kt : kw_W E enc tgt L st x) (kf : kw_W E enc (pc + 3) L st y) : kw_W E enc pc L (kI v :: st) (if v < 0 then x else y) := by
  obtain ⟨p, l, e, R, s, m, args, below, meth, c, G, n0, z0⟩ := E
  obtain ⟨hx, hb, hml, hr, hown, hts, hlk, hnm, hhh, -⟩ := B
  intro σ r τ H locs cells slots ls hx1 h1 h2 hS hl
  refine lv_if_lt hx hb d ht (fun hc => ?_) (fun hc => ?_)
  · rw [if_pos hc] at hx1
    exact kt σ r τ H locs cells slots ls hx1 h1 h2 hS hl
  · rw [if_neg hc] at hx1
    exact kf σ r τ H locs cells slots ls hx1 h1 h2 hS hl

theorem kw_if_ge (B : kw_ok E cc own nm nL ret fr lo hh) {v : Int32} {off : Int} {tgt : Nat} (d : decode cc pc = .ok (.ifCond .ge off, 3)) (ht : (pc : Int) + off = (tgt : Int)) {y : km_M ρ} (kt : kw_W E enc tgt L st x) (kf : kw_W E enc (pc + 3) L st y) : kw_W E enc pc L (kI v :: st) (if 0 ≤ v then x else y) := by
  obtain ⟨p, l, e, R, s, m, args, below, meth, c, G, n0, z0⟩ := E
  obtain ⟨hx, hb, hml, hr, hown, hts, hlk, hnm, hhh, -⟩ := B
  intro σ r τ H locs cells slots ls hx1 h1 h2 hS hl
  refine lv_if_ge hx hb d ht (fun hc => ?_) (fun hc => ?_)
  · rw [if_pos hc] at hx1
    exact kt σ r τ H locs cells slots ls hx1 h1 h2 hS hl
  · rw [if_neg hc] at hx1
    exact kf σ r τ H locs cells slots ls hx1 h1 h2 hS hl

theorem kw_if_gt (B : kw_ok E cc own nm nL ret fr lo hh) {v : Int32} {off : Int} {tgt : Nat} (d : decode cc pc = .ok (.ifCond .gt off, 3)) (ht : (pc : Int) + off = (tgt : Int)) {y : km_M ρ} (kt : kw_W E enc tgt L st x) (kf : kw_W E enc (pc + 3) L st y) : kw_W E enc pc L (kI v :: st) (if 0 < v then x else y) := by
  obtain ⟨p, l, e, R, s, m, args, below, meth, c, G, n0, z0⟩ := E
  obtain ⟨hx, hb, hml, hr, hown, hts, hlk, hnm, hhh, -⟩ := B
  intro σ r τ H locs cells slots ls hx1 h1 h2 hS hl
  refine lv_if_gt hx hb d ht (fun hc => ?_) (fun hc => ?_)
  · rw [if_pos hc] at hx1
    exact kt σ r τ H locs cells slots ls hx1 h1 h2 hS hl
  · rw [if_neg hc] at hx1
    exact kf σ r τ H locs cells slots ls hx1 h1 h2 hS hl

theorem kw_if_le (B : kw_ok E cc own nm nL ret fr lo hh) {v : Int32} {off : Int} {tgt : Nat} (d : decode cc pc = .ok (.ifCond .le off, 3)) (ht : (pc : Int) + off = (tgt : Int)) {y : km_M ρ} (kt : kw_W E enc tgt L st x) (kf : kw_W E enc (pc + 3) L st y) : kw_W E enc pc L (kI v :: st) (if v ≤ 0 then x else y) := by
  obtain ⟨p, l, e, R, s, m, args, below, meth, c, G, n0, z0⟩ := E
  obtain ⟨hx, hb, hml, hr, hown, hts, hlk, hnm, hhh, -⟩ := B
  intro σ r τ H locs cells slots ls hx1 h1 h2 hS hl
  refine lv_if_le hx hb d ht (fun hc => ?_) (fun hc => ?_)
  · rw [if_pos hc] at hx1
    exact kt σ r τ H locs cells slots ls hx1 h1 h2 hS hl
  · rw [if_neg hc] at hx1
    exact kf σ r τ H locs cells slots ls hx1 h1 h2 hS hl

theorem kw_icmp_eq (B : kw_ok E cc own nm nL ret fr lo hh) {v w : Int32} {off : Int} {tgt : Nat} (d : decode cc pc = .ok (.if_icmp .eq off, 3)) (ht : (pc : Int) + off = (tgt : Int)) {y : km_M ρ} (kt : kw_W E enc tgt L st x) (kf : kw_W E enc (pc + 3) L st y) : kw_W E enc pc L (kI w :: kI v :: st) (if v = w then x else y) := by
  obtain ⟨p, l, e, R, s, m, args, below, meth, c, G, n0, z0⟩ := E
  obtain ⟨hx, hb, hml, hr, hown, hts, hlk, hnm, hhh, -⟩ := B
  intro σ r τ H locs cells slots ls hx1 h1 h2 hS hl
  refine lv_icmp_eq hx hb d ht (fun hc => ?_) (fun hc => ?_)
  · rw [if_pos hc] at hx1
    exact kt σ r τ H locs cells slots ls hx1 h1 h2 hS hl
  · rw [if_neg hc] at hx1
    exact kf σ r τ H locs cells slots ls hx1 h1 h2 hS hl

theorem kw_icmp_ne (B : kw_ok E cc own nm nL ret fr lo hh) {v w : Int32} {off : Int} {tgt : Nat} (d : decode cc pc = .ok (.if_icmp .ne off, 3)) (ht : (pc : Int) + off = (tgt : Int)) {y : km_M ρ} (kt : kw_W E enc tgt L st x) (kf : kw_W E enc (pc + 3) L st y) : kw_W E enc pc L (kI w :: kI v :: st) (if ¬ v = w then x else y) := by
  obtain ⟨p, l, e, R, s, m, args, below, meth, c, G, n0, z0⟩ := E
  obtain ⟨hx, hb, hml, hr, hown, hts, hlk, hnm, hhh, -⟩ := B
  intro σ r τ H locs cells slots ls hx1 h1 h2 hS hl
  refine lv_icmp_ne hx hb d ht (fun hc => ?_) (fun hc => ?_)
  · rw [if_pos hc] at hx1
    exact kt σ r τ H locs cells slots ls hx1 h1 h2 hS hl
  · rw [if_neg (fun h => h hc)] at hx1
    exact kf σ r τ H locs cells slots ls hx1 h1 h2 hS hl

theorem kw_icmp_lt (B : kw_ok E cc own nm nL ret fr lo hh) {v w : Int32} {off : Int} {tgt : Nat} (d : decode cc pc = .ok (.if_icmp .lt off, 3)) (ht : (pc : Int) + off = (tgt : Int)) {y : km_M ρ} (kt : kw_W E enc tgt L st x) (kf : kw_W E enc (pc + 3) L st y) : kw_W E enc pc L (kI w :: kI v :: st) (if v < w then x else y) := by
  obtain ⟨p, l, e, R, s, m, args, below, meth, c, G, n0, z0⟩ := E
  obtain ⟨hx, hb, hml, hr, hown, hts, hlk, hnm, hhh, -⟩ := B
  intro σ r τ H locs cells slots ls hx1 h1 h2 hS hl
  refine lv_icmp_lt hx hb d ht (fun hc => ?_) (fun hc => ?_)
  · rw [if_pos hc] at hx1
    exact kt σ r τ H locs cells slots ls hx1 h1 h2 hS hl
  · rw [if_neg hc] at hx1
    exact kf σ r τ H locs cells slots ls hx1 h1 h2 hS hl

theorem kw_icmp_ge (B : kw_ok E cc own nm nL ret fr lo hh) {v w : Int32} {off : Int} {tgt : Nat} (d : decode cc pc = .ok (.if_icmp .ge off, 3)) (ht : (pc : Int) + off = (tgt : Int)) {y : km_M ρ} (kt : kw_W E enc tgt L st x) (kf : kw_W E enc (pc + 3) L st y) : kw_W E enc pc L (kI w :: kI v :: st) (if w ≤ v then x else y) := by
  obtain ⟨p, l, e, R, s, m, args, below, meth, c, G, n0, z0⟩ := E
  obtain ⟨hx, hb, hml, hr, hown, hts, hlk, hnm, hhh, -⟩ := B
  intro σ r τ H locs cells slots ls hx1 h1 h2 hS hl
  refine lv_icmp_ge hx hb d ht (fun hc => ?_) (fun hc => ?_)
  · rw [if_pos hc] at hx1
    exact kt σ r τ H locs cells slots ls hx1 h1 h2 hS hl
  · rw [if_neg hc] at hx1
    exact kf σ r τ H locs cells slots ls hx1 h1 h2 hS hl

theorem kw_icmp_gt (B : kw_ok E cc own nm nL ret fr lo hh) {v w : Int32} {off : Int} {tgt : Nat} (d : decode cc pc = .ok (.if_icmp .gt off, 3)) (ht : (pc : Int) + off = (tgt : Int)) {y : km_M ρ} (kt : kw_W E enc tgt L st x) (kf : kw_W E enc (pc + 3) L st y) : kw_W E enc pc L (kI w :: kI v :: st) (if w < v then x else y) := by
  obtain ⟨p, l, e, R, s, m, args, below, meth, c, G, n0, z0⟩ := E
  obtain ⟨hx, hb, hml, hr, hown, hts, hlk, hnm, hhh, -⟩ := B
  intro σ r τ H locs cells slots ls hx1 h1 h2 hS hl
  refine lv_icmp_gt hx hb d ht (fun hc => ?_) (fun hc => ?_)
  · rw [if_pos hc] at hx1
    exact kt σ r τ H locs cells slots ls hx1 h1 h2 hS hl
  · rw [if_neg hc] at hx1
    exact kf σ r τ H locs cells slots ls hx1 h1 h2 hS hl

theorem kw_icmp_le (B : kw_ok E cc own nm nL ret fr lo hh) {v w : Int32} {off : Int} {tgt : Nat} (d : decode cc pc = .ok (.if_icmp .le off, 3)) (ht : (pc : Int) + off = (tgt : Int)) {y : km_M ρ} (kt : kw_W E enc tgt L st x) (kf : kw_W E enc (pc + 3) L st y) : kw_W E enc pc L (kI w :: kI v :: st) (if v ≤ w then x else y) := by
  obtain ⟨p, l, e, R, s, m, args, below, meth, c, G, n0, z0⟩ := E
  obtain ⟨hx, hb, hml, hr, hown, hts, hlk, hnm, hhh, -⟩ := B
  intro σ r τ H locs cells slots ls hx1 h1 h2 hS hl
  refine lv_icmp_le hx hb d ht (fun hc => ?_) (fun hc => ?_)
  · rw [if_pos hc] at hx1
    exact kt σ r τ H locs cells slots ls hx1 h1 h2 hS hl
  · rw [if_neg hc] at hx1
    exact kf σ r τ H locs cells slots ls hx1 h1 h2 hS hl

theorem kw_acmp_eq (B : kw_ok E cc own nm nL ret fr lo hh) {v w : Option Nat} {off : Int} {tgt : Nat} (d : decode cc pc = .ok (.if_acmp .eq off, 3)) (ht : (pc : Int) + off = (tgt : Int)) {y : km_M ρ} (kt : kw_W E enc tgt L st x) (kf : kw_W E enc (pc + 3) L st y) : kw_W E enc pc L (kA w :: kA v :: st) (if v = w then x else y) := by
  obtain ⟨p, l, e, R, s, m, args, below, meth, c, G, n0, z0⟩ := E
  obtain ⟨hx, hb, hml, hr, hown, hts, hlk, hnm, hhh, -⟩ := B
  intro σ r τ H locs cells slots ls hx1 h1 h2 hS hl
  refine lv_acmp_eq hx hb d ht (fun hc => ?_) (fun hc => ?_)
  · rw [if_pos hc] at hx1
    exact kt σ r τ H locs cells slots ls hx1 h1 h2 hS hl
  · rw [if_neg hc] at hx1
    exact kf σ r τ H locs cells slots ls hx1 h1 h2 hS hl

theorem kw_acmp_ne (B : kw_ok E cc own nm nL ret fr lo hh) {v w : Option Nat} {off : Int} {tgt : Nat} (d : decode cc pc = .ok (.if_acmp .ne off, 3)) (ht : (pc : Int) + off = (tgt : Int)) {y : km_M ρ} (kt : kw_W E enc tgt L st x) (kf : kw_W E enc (pc + 3) L st y) : kw_W E enc pc L (kA w :: kA v :: st) (if ¬ v = w then x else y) := by
  obtain ⟨p, l, e, R, s, m, args, below, meth, c, G, n0, z0⟩ := E
  obtain ⟨hx, hb, hml, hr, hown, hts, hlk, hnm, hhh, -⟩ := B
  intro σ r τ H locs cells slots ls hx1 h1 h2 hS hl
  refine lv_acmp_ne hx hb d ht (fun hc => ?_) (fun hc => ?_)
  · rw [if_pos hc] at hx1
    exact kt σ r τ H locs cells slots ls hx1 h1 h2 hS hl
  · rw [if_neg (fun h => h hc)] at hx1
    exact kf σ r τ H locs cells slots ls hx1 h1 h2 hS hl

theorem kw_ifnull (B : kw_ok E cc own nm nL ret fr lo hh) {v : Option Nat} {off : Int} {tgt : Nat} (d : decode cc pc = .ok (.ifnull off, 3)) (ht : (pc : Int) + off = (tgt : Int)) {y : km_M ρ} (kt : kw_W E enc tgt L st x) (kf : kw_W E enc (pc + 3) L st y) : kw_W E enc pc L (kA v :: st) (if v = none then x else y) := by
  obtain ⟨p, l, e, R, s, m, args, below, meth, c, G, n0, z0⟩ := E
  obtain ⟨hx, hb, hml, hr, hown, hts, hlk, hnm, hhh, -⟩ := B
  intro σ r τ H locs cells slots ls hx1 h1 h2 hS hl
  cases v with
  | none => exact lv_ifnullN hx hb d ht (kt σ r τ H locs cells slots ls hx1 h1 h2 hS hl)
  | some a => exact lv_ifnull hx hb d (kf σ r τ H locs cells slots ls hx1 h1 h2 hS hl)
theorem kw_ifnonnull (B : kw_ok E cc own nm nL ret fr lo hh) {v : Option Nat} {off : Int} {tgt : Nat} (d : decode cc pc = .ok (.ifnonnull off, 3)) (ht : (pc : Int) + off = (tgt : Int)) {y : km_M ρ} (kt : kw_W E enc tgt L st x) (kf : kw_W E enc (pc + 3) L st y) : kw_W E enc pc L (kA v :: st) (if v = none then y else x) := by
  obtain ⟨p, l, e, R, s, m, args, below, meth, c, G, n0, z0⟩ := E
  obtain ⟨hx, hb, hml, hr, hown, hts, hlk, hnm, hhh, -⟩ := B
  intro σ r τ H locs cells slots ls hx1 h1 h2 hS hl
  cases v with
  | none => exact lv_ifnonnullN hx hb d (kf σ r τ H locs cells slots ls hx1 h1 h2 hS hl)
  | some a => exact lv_ifnonnull hx hb d ht (kt σ r τ H locs cells slots ls hx1 h1 h2 hS hl)

end KWR
