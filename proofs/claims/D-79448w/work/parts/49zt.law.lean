set_option maxRecDepth 100000
/-! ===== the law answers 1 ===== -/
section KTZT
variable {Z : ka_Z} {w : Nat} {H : ka_H}
theorem kt_consts {α : Type} {Q : α → Nat → ka_H → Prop} {y : km_M α} (hK : kz_twords Z) : ∀ n, n ≤ 8 → ∀ H : ka_H, (∀ G, ka_le H G → (∀ i, i < n → ∃ a o, Z.1 (vt_k i) = some a ∧ G a = some o ∧ ka_cls o = some 35) → ka_T Z y w G Q) → ka_T Z y w H Q := by
  intro n
  induction n with
  | zero => intro _ H k; exact k H ka_le_refl (fun i hi => by omega)
  | succ n ih =>
    intro hn H k
    refine ih (by omega) H (fun G hle hG => ?_)
    obtain ⟨hh, hz⟩ := hK n (by omega)
    refine kx_txt hz (fun G2 a b y2 z1 hle2 hstr hcell => k G2 (ka_le_trans hle hle2) (fun i hi => ?_))
    by_cases e : i = n
    · subst e
      exact ⟨a, _, z1, hcell, rfl⟩
    · obtain ⟨a2, o2, g1, g2, g3⟩ := hG i (by omega)
      exact ⟨a2, o2, g1, hle2 _ _ g2, g3⟩
theorem kl_law {a0 n : Nat} {g : Nat → Int32} {fl : Bool} (hE : ka_E0 Z) (hD : kz_dig Z) (hT0 : ∃ h, kz_txt Z 10 [] h) (hT : ∃ h, kz_txt Z 15 v_empty h) (hK : kz_words Z) (hTw : kz_twords Z) (hn : n ≤ 120) (ha : H a0 = some (.inl (fl, .inl (0, n, .inl g)))) (hw : 3000000 ≤ w) : ka_T Z (pm_L_law (some a0)) w H (fun r _ _ => r = 1) := by
  unfold pm_L_law
  refine ka_new (by omega) (fun x hx => ?_)
  refine ka_nn (ka_call (kx_init hE hT0 hx (by omega)) (fun _ w1 H1 hp => ?_))
  obtain ⟨hw1, hle1, dq, ip, hX⟩ := hp
  refine kt_consts hTw 8 (Nat.le_refl _) H1 (fun G hleG hW => ?_)
  refine ka_new (by omega) (fun m hm => ?_)
  refine ka_nn (ka_call (kt_init hm hW (by omega)) (fun _ w2 H2 hp => ?_))
  obtain ⟨hw2, hle2, ad, hfr, hs, h10, hL1, gw, hgw, hgw2⟩ := hp
  have haG := hleG _ _ (hle1 _ _ ha)
  have hsub : ∀ k ∈ kt_L, k ∈ kt_LL := by decide
  have hM : kM Z H2 a0 n g x dq ip m ad 0 0 kT0 vX0 vX0 := ⟨⟨⟨fl, hle2 _ _ haG⟩, ka_dom haG hm, fun k hk => (ka_dom haG (hfr k (hsub k hk)).1).symm, hs, (hfr 10 (by decide)).2, h10, gw, hgw, hgw2⟩, hL1, kX_le (kX_le hX hleG) hle2, kR_0⟩
  exact kl_loop hE hD hT hK hTw hn 24 0 km_fuel w2 H2 kT0 vX0 0 0 (by omega) (by omega) (by unfold km_fuel; omega) hM (Nat.le_refl _) (Nat.le_refl _) (Nat.zero_le _) (by show 120000 * 24 + 47000 * 0 + 1000 ≤ w2; omega)
end KTZT
