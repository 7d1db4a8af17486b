set_option maxRecDepth 100000
/-! ===== a new workshop ===== -/
section KSN
variable {α : Type} {Z : ka_Z} {w : Nat} {F : ka_H} {Q : α → Nat → ka_H → Prop} {s : Nat} {fs : List Value}
theorem kn_list {k : Nat} {rest : km_M α} (hE : ka_E0 Z) (hs : F s = none) (hk : k < fs.length) (hw : 8 ≤ w) (kk : ∀ l mc, F l = none → l ≠ s → s ≠ l → ka_T Z rest (w - 8) (ka_up (ka_up F l (ka_ls mc [])) s (ka_ob 1 (fs.set k (.ref l)))) Q) : ka_T Z (km_bind (km_new 30 3 kz_AL) fun r1 => km_bind (km_nn r1) fun _ => km_bind (pm_J2_init r1) fun _ => km_bind (km_pR [(1, k)] (some s) r1) fun _ => rest) w (ka_up F s (ka_ob 1 fs)) Q := by
  refine ka_new hw (fun l hl => ?_)
  obtain ⟨h1, h2, hl⟩ := ka_fr hl
  refine ka_nn (ka_call (kl_init hE ka_same) (fun _ w' H' hp => ?_))
  obtain ⟨rfl, mc, rfl⟩ := hp
  rw [ka_up_up]
  refine ka_pR (c := 1) (fs := fs) (n := k) (by first | exact ka_same | assumption | exact ka_ne1 (by first | assumption | exact Ne.symm (by assumption)) (by first | exact ka_same | assumption | exact ka_ne1 (by first | assumption | exact Ne.symm (by assumption)) (by first | exact ka_same | assumption | exact ka_ne1 (by first | assumption | exact Ne.symm (by assumption)) (by first | exact ka_same | assumption | exact ka_ne1 (by first | assumption | exact Ne.symm (by assumption)) (by first | exact ka_same | assumption | exact ka_ne1 (by first | assumption | exact Ne.symm (by assumption)) (by first | exact ka_same | assumption | exact ka_ne1 (by first | assumption | exact Ne.symm (by assumption)) (by first | exact ka_same | assumption))))))) ?_ hk ?_
  · simp
  · rw [ka_up_comm h2, ka_up_up]
    exact kk l mc hl h1 h2
theorem kn_box {rest : km_M α} (hE : ka_E0 Z) (hs : F s = none) (hk : 2 < fs.length) (hw : 14 ≤ w) (kk : ∀ b l mc, F b = none → b ≠ s → s ≠ b → F l = none → l ≠ s → s ≠ l → l ≠ b → b ≠ l → ka_T Z rest (w - 6 - 8) (ka_up (ka_up (ka_up F l (ka_ls mc [])) b (ka_ob 2 [.ref l])) s (ka_ob 1 (fs.set 2 (.ref b)))) Q) : ka_T Z (km_bind (km_new 2 1 kz_Beads) fun r5 => km_bind (km_nn r5) fun _ => km_bind (pm_X2_init r5) fun _ => km_bind (km_pR [(1, 2)] (some s) r5) fun _ => rest) w (ka_up F s (ka_ob 1 fs)) Q := by
  refine ka_new (by omega) (fun b hb => ?_)
  obtain ⟨h1, h2, hb⟩ := ka_fr hb
  refine ka_nn (ka_call (kb_init (c := 2) (fs := []) hE ka_same (Or.inl rfl) (by omega)) (fun _ w' H' hp => ?_))
  obtain ⟨rfl, l, mc, hl, rfl⟩ := hp
  obtain ⟨h3, h4, hl⟩ := ka_fr hl
  obtain ⟨h5, h6, hl⟩ := ka_fr hl
  refine ka_pR (c := 1) (fs := fs) (n := 2) (by first | exact ka_same | assumption | exact ka_ne1 (by first | assumption | exact Ne.symm (by assumption)) (by first | exact ka_same | assumption | exact ka_ne1 (by first | assumption | exact Ne.symm (by assumption)) (by first | exact ka_same | assumption | exact ka_ne1 (by first | assumption | exact Ne.symm (by assumption)) (by first | exact ka_same | assumption | exact ka_ne1 (by first | assumption | exact Ne.symm (by assumption)) (by first | exact ka_same | assumption | exact ka_ne1 (by first | assumption | exact Ne.symm (by assumption)) (by first | exact ka_same | assumption | exact ka_ne1 (by first | assumption | exact Ne.symm (by assumption)) (by first | exact ka_same | assumption))))))) rfl hk ?_
  have e : ka_up (ka_up (ka_up (ka_up (ka_up F s (ka_ob 1 fs)) b (ka_ob 2 kz_Beads)) l (ka_ls mc [])) b (ka_ob 2 [.ref l])) s (ka_ob 1 (fs.set 2 (va_rf (some b)))) = ka_up (ka_up (ka_up F l (ka_ls mc [])) b (ka_ob 2 [.ref l])) s (ka_ob 1 (fs.set 2 (.ref b))) := by
    rw [ka_up_comm (H := ka_up F s (ka_ob 1 fs)) h4, ka_up_up, ka_up_comm (H := F) h6, ka_up_comm (H := ka_up F l (ka_ls mc [])) h2, ka_up_up]
    rfl
  rw [e]
  exact kk b l mc hb h1 h2 hl h5 h6 h3 h4
theorem kn_bits {rest : km_M α} (hs : F s = none) (hk : 7 < fs.length) (hw : 14 ≤ w) (kk : ∀ l, F l = none → l ≠ s → s ≠ l → ka_T Z rest (w - 8 - 6) (ka_up (ka_up F l (ka_bs (fun _ => false))) s (ka_ob 1 (fs.set 7 (.ref l)))) Q) : ka_T Z (km_bind (km_new 31 3 kz_BS) fun r1 => km_bind (km_nn r1) fun _ => km_bind (pm_J3_init r1) fun _ => km_bind (km_pR [(1, 7)] (some s) r1) fun _ => rest) w (ka_up F s (ka_ob 1 fs)) Q := by
  refine ka_new (by omega) (fun l hl => ?_)
  obtain ⟨h1, h2, hl⟩ := ka_fr hl
  refine ka_nn (ka_call (kn_init ka_same (by omega)) (fun _ w' H' hp => ?_))
  obtain ⟨rfl, rfl⟩ := hp
  rw [ka_up_up]
  refine ka_pR (c := 1) (fs := fs) (n := 7) (by first | exact ka_same | assumption | exact ka_ne1 (by first | assumption | exact Ne.symm (by assumption)) (by first | exact ka_same | assumption | exact ka_ne1 (by first | assumption | exact Ne.symm (by assumption)) (by first | exact ka_same | assumption | exact ka_ne1 (by first | assumption | exact Ne.symm (by assumption)) (by first | exact ka_same | assumption | exact ka_ne1 (by first | assumption | exact Ne.symm (by assumption)) (by first | exact ka_same | assumption | exact ka_ne1 (by first | assumption | exact Ne.symm (by assumption)) (by first | exact ka_same | assumption | exact ka_ne1 (by first | assumption | exact Ne.symm (by assumption)) (by first | exact ka_same | assumption))))))) rfl hk ?_
  rw [ka_up_comm h2, ka_up_up]
  exact kk l hl h1 h2
end KSN
noncomputable def kc_prefix {α : Type} (a0 : Option Nat) (rest : km_M α) : km_M α :=
  km_bind (km_nn a0) fun _ =>
  km_bind (km_new 30 3 kz_AL) fun r1 =>
  km_bind (km_nn r1) fun _ => km_bind (pm_J2_init r1) fun _ =>
  km_bind (km_pR [(1, 0)] a0 r1) fun _ =>
  km_bind (km_new 30 3 kz_AL) fun r3 =>
  km_bind (km_nn r3) fun _ => km_bind (pm_J2_init r3) fun _ =>
  km_bind (km_pR [(1, 1)] a0 r3) fun _ =>
  km_bind (km_new 2 1 kz_Beads) fun r5 =>
  km_bind (km_nn r5) fun _ => km_bind (pm_X2_init r5) fun _ =>
  km_bind (km_pR [(1, 2)] a0 r5) fun _ =>
  km_bind (km_new 30 3 kz_AL) fun r7 =>
  km_bind (km_nn r7) fun _ => km_bind (pm_J2_init r7) fun _ =>
  km_bind (km_pR [(1, 3)] a0 r7) fun _ =>
  km_bind (km_new 30 3 kz_AL) fun r9 =>
  km_bind (km_nn r9) fun _ => km_bind (pm_J2_init r9) fun _ =>
  km_bind (km_pR [(1, 4)] a0 r9) fun _ =>
  km_bind (km_new 30 3 kz_AL) fun r11 =>
  km_bind (km_nn r11) fun _ => km_bind (pm_J2_init r11) fun _ =>
  km_bind (km_pR [(1, 5)] a0 r11) fun _ =>
  km_bind (km_new 30 3 kz_AL) fun r13 =>
  km_bind (km_nn r13) fun _ => km_bind (pm_J2_init r13) fun _ =>
  km_bind (km_pR [(1, 6)] a0 r13) fun _ =>
  km_bind (km_new 31 3 kz_BS) fun r15 =>
  km_bind (km_nn r15) fun _ => km_bind (pm_J3_init r15) fun _ =>
  km_bind (km_pR [(1, 7)] a0 r15) fun _ => rest
abbrev kA0 : kAp := ([], [], [], [], [], [], [], (fun _ => false), fun _ => 0)
/-- nine addresses -/
def kc_ad (l0 l1 l2 l3 l4 l5 l6 l7 l8 : Nat) : Nat → Nat := fun i => if i = 0 then l0 else if i = 1 then l1 else if i = 2 then l2 else if i = 3 then l3 else if i = 4 then l4 else if i = 5 then l5 else if i = 6 then l6 else if i = 7 then l7 else l8
theorem ks_empty {α : Type} {Z : ka_Z} {w : Nat} {H : ka_H} {Q : α → Nat → ka_H → Prop} {s : Nat} {rest : km_M α} (hE : ka_E0 Z) (hs : H s = none) (hw : 76 ≤ w) (kk : ∀ ad G, kc_mut H G s ad kA0 → ka_T Z rest (w - 76) G Q) : ka_T Z (kc_prefix (some s) rest) w (ka_up H s (ka_ob 1 kz_Shop)) Q := by
  unfold kc_prefix
  refine ka_nn ?_
  refine kn_list hE hs (Nat.le_of_ble_eq_true rfl) (by omega) (fun l0 m0 f0 x0 y0 => ?_)
  refine kn_list hE ((ka_ne y0).trans hs) (Nat.le_of_ble_eq_true rfl) (by omega) (fun l1 m1 f1 x1 y1 => ?_)
  refine kn_box hE ((ka_ne y1).trans ((ka_ne y0).trans hs)) (Nat.le_of_ble_eq_true rfl) (by omega) (fun l2 l8 m8 f2 x2 y2 f8 x8 y8 d82 d28 => ?_)
  have s2 : (ka_up (ka_up (ka_up (ka_up H l0 (ka_ls m0 [])) l1 (ka_ls m1 [])) l8 (ka_ls m8 [])) l2 (ka_ob 2 [.ref l8])) s = none := (ka_ne y2).trans ((ka_ne y8).trans ((ka_ne y1).trans ((ka_ne y0).trans hs)))
  refine kn_list hE s2 (Nat.le_of_ble_eq_true rfl) (by omega) (fun l3 m3 f3 x3 y3 => ?_)
  have s3 := (ka_ne (o := ka_ls m3 []) y3).trans s2
  refine kn_list hE s3 (Nat.le_of_ble_eq_true rfl) (by omega) (fun l4 m4 f4 x4 y4 => ?_)
  have s4 := (ka_ne (o := ka_ls m4 []) y4).trans s3
  refine kn_list hE s4 (Nat.le_of_ble_eq_true rfl) (by omega) (fun l5 m5 f5 x5 y5 => ?_)
  have s5 := (ka_ne (o := ka_ls m5 []) y5).trans s4
  refine kn_list hE s5 (Nat.le_of_ble_eq_true rfl) (by omega) (fun l6 m6 f6 x6 y6 => ?_)
  have s6 := (ka_ne (o := ka_ls m6 []) y6).trans s5
  refine kn_bits s6 (Nat.le_of_ble_eq_true rfl) (by omega) (fun l7 f7 x7 y7 => ?_)
  refine ka_pre ka_le_refl (by omega) (kk (kc_ad l0 l1 l2 l3 l4 l5 l6 l7 l8) _ ?_)
  obtain ⟨d10, e10, g1⟩ := ka_fr f1
  obtain ⟨d21, e21, g2⟩ := ka_fr f2
  obtain ⟨d20, e20, g2⟩ := ka_fr g2
  obtain ⟨d81, e81, g8⟩ := ka_fr f8
  obtain ⟨d80, e80, g8⟩ := ka_fr g8
  obtain ⟨d32, e32, g3⟩ := ka_fr f3
  obtain ⟨d38, e38, g3⟩ := ka_fr g3
  obtain ⟨d31, e31, g3⟩ := ka_fr g3
  obtain ⟨d30, e30, g3⟩ := ka_fr g3
  obtain ⟨d43, e43, g4⟩ := ka_fr f4
  obtain ⟨d42, e42, g4⟩ := ka_fr g4
  obtain ⟨d48, e48, g4⟩ := ka_fr g4
  obtain ⟨d41, e41, g4⟩ := ka_fr g4
  obtain ⟨d40, e40, g4⟩ := ka_fr g4
  obtain ⟨d54, e54, g5⟩ := ka_fr f5
  obtain ⟨d53, e53, g5⟩ := ka_fr g5
  obtain ⟨d52, e52, g5⟩ := ka_fr g5
  obtain ⟨d58, e58, g5⟩ := ka_fr g5
  obtain ⟨d51, e51, g5⟩ := ka_fr g5
  obtain ⟨d50, e50, g5⟩ := ka_fr g5
  obtain ⟨d65, e65, g6⟩ := ka_fr f6
  obtain ⟨d64, e64, g6⟩ := ka_fr g6
  obtain ⟨d63, e63, g6⟩ := ka_fr g6
  obtain ⟨d62, e62, g6⟩ := ka_fr g6
  obtain ⟨d68, e68, g6⟩ := ka_fr g6
  obtain ⟨d61, e61, g6⟩ := ka_fr g6
  obtain ⟨d60, e60, g6⟩ := ka_fr g6
  obtain ⟨d76, e76, g7⟩ := ka_fr f7
  obtain ⟨d75, e75, g7⟩ := ka_fr g7
  obtain ⟨d74, e74, g7⟩ := ka_fr g7
  obtain ⟨d73, e73, g7⟩ := ka_fr g7
  obtain ⟨d72, e72, g7⟩ := ka_fr g7
  obtain ⟨d78, e78, g7⟩ := ka_fr g7
  obtain ⟨d71, e71, g7⟩ := ka_fr g7
  obtain ⟨d70, e70, g7⟩ := ka_fr g7
  refine ⟨?_, ⟨ka_same, ?_, ?_, fun q hq => ?_, fun q hq => by cases hq⟩, fun a ha => ?_, ?_, List.nodup_nil, List.nodup_nil, List.nodup_nil⟩
  · exact ka_le_mut (ka_le_mut (ka_le_mut (ka_le_mut (ka_le_mut (ka_le_mut (ka_le_mut (ka_le_mut (ka_le_mut (ka_le_mut ka_le_refl f0) g1) g8) g2) g3) g4) g5) g6) g7) hs
  · exact (ka_ne x2).trans ((ka_ne e72).trans ((ka_ne e62).trans ((ka_ne e52).trans ((ka_ne e42).trans ((ka_ne e32).trans ka_same)))))
  · exact (ka_ne x7).trans ka_same
  · have hq2 : q = (l0, []) ∨ q = (l1, []) ∨ q = (l8, []) ∨ q = (l3, []) ∨ q = (l4, []) ∨ q = (l5, []) ∨ q = (l6, []) := by simpa [kc_lists, kc_top, kc_inS, kc_inD, kc_ad, kAp.cs, kAp.ls, kAp.bx, kAp.st, kAp.ps, kAp.so, kAp.wa] using hq
    rcases hq2 with e | e | e | e | e | e | e
    · subst e
      exact ⟨m0, (ka_ne x0).trans ((ka_ne e70).trans ((ka_ne e60).trans ((ka_ne e50).trans ((ka_ne e40).trans ((ka_ne e30).trans ((ka_ne e20).trans ((ka_ne e80).trans ((ka_ne e10).trans ka_same))))))))⟩
    · subst e
      exact ⟨m1, (ka_ne x1).trans ((ka_ne e71).trans ((ka_ne e61).trans ((ka_ne e51).trans ((ka_ne e41).trans ((ka_ne e31).trans ((ka_ne e21).trans ((ka_ne e81).trans ka_same)))))))⟩
    · subst e
      exact ⟨m8, (ka_ne x8).trans ((ka_ne e78).trans ((ka_ne e68).trans ((ka_ne e58).trans ((ka_ne e48).trans ((ka_ne e38).trans ((ka_ne d82).trans ka_same))))))⟩
    · subst e
      exact ⟨m3, (ka_ne x3).trans ((ka_ne e73).trans ((ka_ne e63).trans ((ka_ne e53).trans ((ka_ne e43).trans ka_same))))⟩
    · subst e
      exact ⟨m4, (ka_ne x4).trans ((ka_ne e74).trans ((ka_ne e64).trans ((ka_ne e54).trans ka_same)))⟩
    · subst e
      exact ⟨m5, (ka_ne x5).trans ((ka_ne e75).trans ((ka_ne e65).trans ka_same))⟩
    · subst e
      exact ⟨m6, (ka_ne x6).trans ((ka_ne e76).trans ka_same)⟩
  · have ha2 : a = s ∨ a = l0 ∨ a = l1 ∨ a = l2 ∨ a = l3 ∨ a = l4 ∨ a = l5 ∨ a = l6 ∨ a = l7 ∨ a = l8 := by simpa [kc_mine, kc_ad, kAp.cs, kAp.ls, kAp.st] using ha
    rcases ha2 with e | e | e | e | e | e | e | e | e | e <;> subst e <;> assumption
  · show ([l0, l1, l8, l3, l4, l5, l6] : List Nat).Nodup
    simp only [List.nodup_cons, List.mem_cons, List.not_mem_nil, or_false, not_or, not_false_eq_true, List.nodup_nil, and_true]
    exact ⟨⟨e10, e80, e30, e40, e50, e60⟩, ⟨e81, e31, e41, e51, e61⟩, ⟨e38, e48, e58, e68⟩, ⟨e43, e53, e63⟩, ⟨e54, e64⟩, e65⟩
