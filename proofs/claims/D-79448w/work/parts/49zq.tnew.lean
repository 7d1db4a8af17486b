set_option maxRecDepth 100000
/-! ===== the twin: a new one ===== -/
def ka_ups (H : ka_H) : List (Nat × ka_O) → ka_H
  | [] => H
  | p :: t => ka_up (ka_ups H t) p.1 p.2
theorem ka_ups_out {H : ka_H} {a : Nat} : ∀ {L : List (Nat × ka_O)}, a ∉ L.map (·.1) → ka_ups H L a = H a := by
  intro L
  induction L with
  | nil => intro _; rfl
  | cons p t ih =>
    intro h
    rw [List.map_cons, List.mem_cons] at h
    exact (ka_ne (fun z => h (Or.inl z))).trans (ih (fun z => h (Or.inr z)))
theorem ka_ups_in {H : ka_H} : ∀ {L : List (Nat × ka_O)} {p : Nat × ka_O}, p ∈ L → (L.map (·.1)).Nodup → ka_ups H L p.1 = some p.2 := by
  intro L
  induction L with
  | nil => intro p h; cases h
  | cons q t ih =>
    intro p h hn
    rw [List.map_cons, List.nodup_cons] at hn
    rcases List.mem_cons.mp h with e | e
    · subst e
      exact ka_same
    · have hne : p.1 ≠ q.1 := fun z => hn.1 (by rw [← z]; exact List.mem_map_of_mem (f := fun x : Nat × ka_O => x.1) e)
      exact (ka_ne hne).trans (ih e hn.2)
theorem ka_ups_le {H : ka_H} {L : List (Nat × ka_O)} (h : ∀ p ∈ L, H p.1 = none) : ka_le H (ka_ups H L) := by
  intro a o ha
  rw [ka_ups_out (fun z => ?_), ha]
  obtain ⟨p, hp, e⟩ := List.mem_map.mp z
  have := h p hp
  rw [e, ha] at this
  cases this
def kt_I0 (H : ka_H) (m : Nat) (L : List (Nat × ka_O)) : Prop := (L.map (·.1)).Nodup ∧ ∀ p ∈ L, H p.1 = none ∧ p.1 ≠ m
theorem kt_I0_new {H : ka_H} {m a : Nat} {o : ka_O} {L : List (Nat × ka_O)} (h : kt_I0 H m L) (ha : ka_ups H L a = none) (hm : a ≠ m) : kt_I0 H m ((a, o) :: L) := by
  have hout : a ∉ L.map (·.1) := by
    intro z
    obtain ⟨p, hp, e⟩ := List.mem_map.mp z
    have h1 := ka_ups_in (H := H) hp h.1
    rw [e, ha] at h1
    cases h1
  refine ⟨by rw [List.map_cons, List.nodup_cons]; exact ⟨hout, h.1⟩, fun p hp => ?_⟩
  rcases List.mem_cons.mp hp with e | e
  · subst e
    exact ⟨(ka_ups_out hout).symm.trans ha, hm⟩
  · exact h.2 p e
theorem kt_I0_key {H : ka_H} {m b : Nat} {L : List (Nat × ka_O)} (h : kt_I0 H m L) (hb : b ∈ L.map (fun x => x.1)) : H b = none ∧ b ≠ m := by
  obtain ⟨p, hp, e⟩ := List.mem_map.mp hb
  rw [← e]
  exact h.2 p hp
theorem nodup_inj {f : Nat → Nat} : ∀ {L : List Nat}, (L.map f).Nodup → ∀ k ∈ L, ∀ j ∈ L, f k = f j → k = j := by
  intro L
  induction L with
  | nil => intro _ k hk; cases hk
  | cons x t ih =>
    intro hn k hk j hj e
    rw [List.map_cons, List.nodup_cons] at hn
    rcases List.mem_cons.mp hk with e1 | e1 <;> rcases List.mem_cons.mp hj with e2 | e2
    · rw [e1, e2]
    · subst e1
      exact absurd (by rw [e]; exact List.mem_map_of_mem (f := f) e2) hn.1
    · subst e2
      exact absurd (by rw [← e]; exact List.mem_map_of_mem (f := f) e1) hn.1
    · exact ih hn.2 k e1 j e2 e
abbrev kt_LL : List Nat := [12, 11, 10, 8, 7, 6, 3, 2, 1, 0]
def kT0 : kT := (fun _ _ => 0, fun k => if k = 17 then -1 else 0)
/-- the twin's cells lie in H -/
def kL1 (H : ka_H) (m : Nat) (ad : Nat → Nat) (T : kT) : Prop := H m = some (kt_ob ad T.2) ∧ ∀ k ∈ kt_L, H (ad k) = some (ka_aI 0 (kt_sz k) (T.1 k))
theorem kR_0 : kR kT0 vX0 := by
  refine ⟨⟨⟨0, by omega, rfl⟩, [], List.Perm.refl _, ⟨⟨fun k hk => rfl, rfl, rfl, rfl, rfl, rfl, rfl, rfl⟩, fun i c h => (by cases h), fun i c h => (by cases h), fun i c h => (by cases h), fun i c h => (by cases h), fun i c h => (by cases h), fun i c h => (by cases h), fun i c h => (by cases h)⟩⟩, rfl, ⟨Nat.zero_le _, rfl, fun i V h => (by cases h)⟩, ⟨rfl, fun V h => (by cases h)⟩, ⟨rfl, fun i c h => (by cases h)⟩, ⟨rfl, fun i c h => (by cases h)⟩, rfl⟩
section KTZQ
variable {Z : ka_Z} {w : Nat} {H : ka_H} {m : Nat}
theorem kt_mk {L : List (Nat × ka_O)} {fs : List Value} {n : Int32} {sz k : Nat} {f : Unit → km_M Unit} {Q : Unit → Nat → ka_H → Prop} (h : kt_I0 H m L) (hn : ¬ n < 0) (hsz : n.toNatClampNeg = sz) (h8 : sz * 8 ≤ 536870912) (hk : k < fs.length) (hw : sz + 5 ≤ w) (kk : ∀ a, kt_I0 H m ((a, ka_aI 0 sz (fun _ => 0)) :: L) → ka_T Z (f ()) (w - (sz + 5)) (ka_up (ka_ups H ((a, ka_aI 0 sz (fun _ => 0)) :: L)) m (ka_ob 3 (fs.set k (.ref a)))) Q) : ka_T Z (km_bind (km_nI 0 n) fun r => km_bind (km_pR [(3, k)] (some m) r) f) w (ka_up (ka_ups H L) m (ka_ob 3 fs)) Q := by
  refine ka_nI hn hsz h8 hw (fun a ha => ?_)
  have hma : m ≠ a := ka_dom ka_same ha
  have hau : ka_ups H L a = none := (ka_ne hma.symm).symm.trans ha
  refine ka_pR (n := k) (v := some a) ((ka_ne hma).trans ka_same) (by simp) hk ?_
  rw [ka_up_comm hma, ka_up_up]
  exact kk a (kt_I0_new h hau hma.symm)
theorem kt_init (hm : H m = none) (hW : ∀ i, i < 8 → ∃ a o, Z.1 (vt_k i) = some a ∧ H a = some o ∧ ka_cls o = some 35) (hw : 25000 ≤ w) : ka_T Z (pm_X3_init (some m)) w (ka_up H m (ka_ob 3 kz_Model)) (fun _ w' H' => w ≤ w' + 25000 ∧ ka_le H H' ∧ ∃ ad, (∀ k ∈ kt_LL, H (ad k) = none ∧ ad k ≠ m) ∧ kt_sep m ad ∧ (∀ k ∈ kt_L, ad k ≠ ad 10) ∧ kL1 H' m ad kT0 ∧ ∃ gw, H' (ad 10) = some (ka_aR 5 8 gw) ∧ ∀ i, i < 8 → ∃ a, gw i = some a ∧ Z.1 (vt_k i) = some a) := by
  obtain ⟨c0, o0, z0, d0, s0⟩ := hW 0 (by omega)
  obtain ⟨c1, o1, z1, d1, s1⟩ := hW 1 (by omega)
  obtain ⟨c2, o2, z2, d2, s2⟩ := hW 2 (by omega)
  obtain ⟨c3, o3, z3, d3, s3⟩ := hW 3 (by omega)
  obtain ⟨c4, o4, z4, d4, s4⟩ := hW 4 (by omega)
  obtain ⟨c5, o5, z5, d5, s5⟩ := hW 5 (by omega)
  obtain ⟨c6, o6, z6, d6, s6⟩ := hW 6 (by omega)
  obtain ⟨c7, o7, z7, d7, s7⟩ := hW 7 (by omega)
  have z0 : Z.1 19 = some c0 := z0
  have z1 : Z.1 22 = some c1 := z1
  have z2 : Z.1 12 = some c2 := z2
  have z3 : Z.1 24 = some c3 := z3
  have z4 : Z.1 17 = some c4 := z4
  have z5 : Z.1 14 = some c5 := z5
  have z6 : Z.1 20 = some c6 := z6
  have z7 : Z.1 26 = some c7 := z7
  have hI0 : kt_I0 H m [] := ⟨List.nodup_nil, fun p hp => by cases hp⟩
  unfold pm_X3_init
  refine ka_nn ?_
  show ka_T Z _ w (ka_up (ka_ups H []) m (ka_ob 3 kz_Model)) _
  refine kt_mk (sz := 2188) (k := 0) hI0 (by decide) rfl (by decide) (Nat.le_of_ble_eq_true rfl) (by omega) (fun a0 hI0 => ?_)
  refine kt_mk (sz := 2188) (k := 1) hI0 (by decide) rfl (by decide) (Nat.le_of_ble_eq_true rfl) (by omega) (fun a1 hI1 => ?_)
  refine kt_mk (sz := 2188) (k := 2) hI1 (by decide) rfl (by decide) (Nat.le_of_ble_eq_true rfl) (by omega) (fun a2 hI2 => ?_)
  refine kt_mk (sz := 17504) (k := 3) hI2 (by decide) rfl (by decide) (Nat.le_of_ble_eq_true rfl) (by omega) (fun a3 hI3 => ?_)
  refine kt_mk (sz := 3) (k := 6) hI3 (by decide) rfl (by decide) (Nat.le_of_ble_eq_true rfl) (by omega) (fun a6 hI6 => ?_)
  refine kt_mk (sz := 3) (k := 7) hI6 (by decide) rfl (by decide) (Nat.le_of_ble_eq_true rfl) (by omega) (fun a7 hI7 => ?_)
  refine kt_mk (sz := 80) (k := 8) hI7 (by decide) rfl (by decide) (Nat.le_of_ble_eq_true rfl) (by omega) (fun a8 hI8 => ?_)
  generalize hU : ka_ups H [(a8, ka_aI 0 80 (fun _ => 0)), (a7, ka_aI 0 3 (fun _ => 0)), (a6, ka_aI 0 3 (fun _ => 0)), (a3, ka_aI 0 17504 (fun _ => 0)), (a2, ka_aI 0 2188 (fun _ => 0)), (a1, ka_aI 0 2188 (fun _ => 0)), (a0, ka_aI 0 2188 (fun _ => 0))] = U
  have hleU : ka_le H U := by rw [← hU]; exact ka_ups_le (fun p hp => (hI8.2 p hp).1)
  refine ka_nR (m := 8) (by decide) rfl (by decide) (by omega) (fun wa hwa => ?_)
  have hrw : m ≠ wa := ka_dom ka_same hwa
  have hwa0 : U wa = none := (ka_ne hrw.symm).symm.trans hwa
  have hmU : ∀ {a : Nat} {c : ka_O}, H a = some c → a ≠ m := fun ha => ka_dom ha hm
  rw [ka_up_comm hrw]
  have hk : ∀ {a : Nat} {c o o' : ka_O}, H a = some c → ka_up (ka_up U wa o) m o' a = some c := fun ha => (ka_ne (hmU ha)).trans ((ka_ne (ka_dom (hleU _ _ ha) hwa0)).trans (hleU _ _ ha))
  have hA : ∀ {o o' : ka_O}, ka_up (ka_up U wa o) m o' wa = some o := (ka_ne hrw.symm).trans ka_same
  have hUp : ∀ {o o' o2 : ka_O}, ka_up (ka_up (ka_up U wa o) m o') wa o2 = ka_up (ka_up U wa o2) m o' := by
    intro o o' o2
    rw [ka_up_comm hrw, ka_up_up]
  refine ka_k ?_
  rw [z0]
  refine ka_stR hA (hk d0) s0 (Or.inr ⟨rfl, rfl⟩) rfl ?_
  rw [hUp]
  refine ka_k ?_
  rw [z1]
  refine ka_stR hA (hk d1) s1 (Or.inr ⟨rfl, rfl⟩) rfl ?_
  rw [hUp]
  refine ka_k ?_
  rw [z2]
  refine ka_stR hA (hk d2) s2 (Or.inr ⟨rfl, rfl⟩) rfl ?_
  rw [hUp]
  refine ka_k ?_
  rw [z3]
  refine ka_stR hA (hk d3) s3 (Or.inr ⟨rfl, rfl⟩) rfl ?_
  rw [hUp]
  refine ka_k ?_
  rw [z4]
  refine ka_stR hA (hk d4) s4 (Or.inr ⟨rfl, rfl⟩) rfl ?_
  rw [hUp]
  refine ka_k ?_
  rw [z5]
  refine ka_stR hA (hk d5) s5 (Or.inr ⟨rfl, rfl⟩) rfl ?_
  rw [hUp]
  refine ka_k ?_
  rw [z6]
  refine ka_stR hA (hk d6) s6 (Or.inr ⟨rfl, rfl⟩) rfl ?_
  rw [hUp]
  refine ka_k ?_
  rw [z7]
  refine ka_stR hA (hk d7) s7 (Or.inr ⟨rfl, rfl⟩) rfl ?_
  rw [hUp]
  generalize hgA : (va_up (va_up (va_up (va_up (va_up (va_up (va_up (va_up (fun _ => none) ((0 : Int32).toNatClampNeg) (some c0)) ((1 : Int32).toNatClampNeg) (some c1)) ((2 : Int32).toNatClampNeg) (some c2)) ((3 : Int32).toNatClampNeg) (some c3)) ((4 : Int32).toNatClampNeg) (some c4)) ((5 : Int32).toNatClampNeg) (some c5)) ((6 : Int32).toNatClampNeg) (some c6)) ((7 : Int32).toNatClampNeg) (some c7)) = gA
  refine ka_pR (n := 10) (v := some wa) ka_same rfl (Nat.le_of_ble_eq_true rfl) ?_
  rw [ka_up_up]
  subst hU
  have hI10 := kt_I0_new (o := ka_aR 5 8 gA) hI8 hwa0 hrw.symm
  show ka_T Z _ _ (ka_up (ka_ups H ((wa, ka_aR 5 8 gA) :: _)) m _) _
  refine kt_mk (sz := 60) (k := 11) hI10 (by decide) rfl (by decide) (Nat.le_of_ble_eq_true rfl) (by omega) (fun a11 hI11 => ?_)
  refine kt_mk (sz := 63) (k := 12) hI11 (by decide) rfl (by decide) (Nat.le_of_ble_eq_true rfl) (by omega) (fun a12 hI12 => ?_)
  refine ka_pI (n := 17) ka_same rfl rfl (Nat.le_of_ble_eq_true rfl) ?_
  rw [ka_up_up]
  have hmem : ∀ k ∈ kt_LL, ([a0, a1, a2, a3, a0, a0, a6, a7, a8, a0, wa, a11, a12].getD k a0) ∈ ([a12, a11, wa, a8, a7, a6, a3, a2, a1, a0] : List Nat) := fun k hk => by
    have h := List.mem_map_of_mem (f := fun k => ([a0, a1, a2, a3, a0, a0, a6, a7, a8, a0, wa, a11, a12] : List Nat).getD k a0) hk
    exact h
  have hall : ∀ k ∈ kt_LL, H ([a0, a1, a2, a3, a0, a0, a6, a7, a8, a0, wa, a11, a12].getD k a0) = none ∧ ([a0, a1, a2, a3, a0, a0, a6, a7, a8, a0, wa, a11, a12] : List Nat).getD k a0 ≠ m := by
    intro k hk
    exact kt_I0_key hI12 (hmem k hk)
  have hnd : (kt_LL.map (fun k => ([a0, a1, a2, a3, a0, a0, a6, a7, a8, a0, wa, a11, a12] : List Nat).getD k a0)).Nodup := hI12.1
  have hsub : ∀ k ∈ kt_L, k ∈ kt_LL := by decide
  have h10 : ∀ k ∈ kt_L, k ≠ 10 := by decide
  have hlk : ∀ {p : Nat × ka_O} {o : ka_O} {i : Nat}, ([(a12, ka_aI 0 63 (fun _ => 0)), (a11, ka_aI 0 60 (fun _ => 0)), (wa, ka_aR 5 8 gA), (a8, ka_aI 0 80 (fun _ => 0)), (a7, ka_aI 0 3 (fun _ => 0)), (a6, ka_aI 0 3 (fun _ => 0)), (a3, ka_aI 0 17504 (fun _ => 0)), (a2, ka_aI 0 2188 (fun _ => 0)), (a1, ka_aI 0 2188 (fun _ => 0)), (a0, ka_aI 0 2188 (fun _ => 0))] : List (Nat × ka_O))[i]? = some p → ka_up (ka_ups H [(a12, ka_aI 0 63 (fun _ => 0)), (a11, ka_aI 0 60 (fun _ => 0)), (wa, ka_aR 5 8 gA), (a8, ka_aI 0 80 (fun _ => 0)), (a7, ka_aI 0 3 (fun _ => 0)), (a6, ka_aI 0 3 (fun _ => 0)), (a3, ka_aI 0 17504 (fun _ => 0)), (a2, ka_aI 0 2188 (fun _ => 0)), (a1, ka_aI 0 2188 (fun _ => 0)), (a0, ka_aI 0 2188 (fun _ => 0))]) m o p.1 = some p.2 := by
    intro p o i hi
    have hp := List.mem_of_getElem? hi
    exact (ka_ne (hI12.2 p hp).2).trans (ka_ups_in hp hI12.1)
  refine ka_pure ⟨by omega, ?_, fun k => ([a0, a1, a2, a3, a0, a0, a6, a7, a8, a0, wa, a11, a12] : List Nat).getD k a0, hall, ⟨fun k hk => (hall k (hsub k hk)).2, fun k hk j hj e => nodup_inj hnd k (hsub k hk) j (hsub j hj) e⟩, fun k hk e => h10 k hk (nodup_inj hnd k (hsub k hk) 10 (by decide) e), ⟨ka_same, fun k hk => ?_⟩, gA, hlk (i := 2) rfl, fun i hi => ?_⟩
  · exact ka_le_mut (ka_ups_le (fun p hp => (hI12.2 p hp).1)) hm
  · simp only [List.mem_cons, List.not_mem_nil, or_false] at hk
    rcases hk with e | e | e | e | e | e | e | e | e <;> subst e
    · exact hlk (p := (a0, _)) (i := 9) rfl
    · exact hlk (p := (a1, _)) (i := 8) rfl
    · exact hlk (p := (a2, _)) (i := 7) rfl
    · exact hlk (p := (a3, _)) (i := 6) rfl
    · exact hlk (p := (a6, _)) (i := 5) rfl
    · exact hlk (p := (a7, _)) (i := 4) rfl
    · exact hlk (p := (a8, _)) (i := 3) rfl
    · exact hlk (p := (a11, _)) (i := 1) rfl
    · exact hlk (p := (a12, _)) (i := 0) rfl
  · have h8 : i = 0 ∨ i = 1 ∨ i = 2 ∨ i = 3 ∨ i = 4 ∨ i = 5 ∨ i = 6 ∨ i = 7 := by omega
    rcases h8 with e | e | e | e | e | e | e | e <;> subst e
    · exact ⟨c0, by rw [← hgA]; rfl, z0⟩
    · exact ⟨c1, by rw [← hgA]; rfl, z1⟩
    · exact ⟨c2, by rw [← hgA]; rfl, z2⟩
    · exact ⟨c3, by rw [← hgA]; rfl, z3⟩
    · exact ⟨c4, by rw [← hgA]; rfl, z4⟩
    · exact ⟨c5, by rw [← hgA]; rfl, z5⟩
    · exact ⟨c6, by rw [← hgA]; rfl, z6⟩
    · exact ⟨c7, by rw [← hgA]; rfl, z7⟩
end KTZQ
