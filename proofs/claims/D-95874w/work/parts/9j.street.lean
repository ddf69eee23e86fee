/-! the street's clocks are read: the loop -/
set_option maxRecDepth 100000
section O9j
variable {t : MS} {W : Wv} {σ : Sg} {T : Nat → Nat} {ex : Nat → Option Nat} {z o : Nat} {a : Nat → Nat}
theorem gbT_a {α β : Type} {σ' : Sg} {r : α} {dc ds c1 c2 : Nat} {k : α → St → Option (β × St)} {kx : Nat → St → Option (β × St)} : gbT (some (.inl r, (σ', dc, ds))) (σ, c1, c2) k kx = k r (σ', c1 + dc, c2 + ds) := rfl
theorem kcs {κ : Nat} (h : κ ≤ 5) : 4 + κ ∈ csL := by
  rcases (show κ = 0 ∨ κ = 1 ∨ κ = 2 ∨ κ = 3 ∨ κ = 4 ∨ κ = 5 by omega) with h | h | h | h | h | h <;> subst h <;> decide
/-- one more is put to the list -/
theorem rl_add {k p z : Nat} {D : Nat → Nat × Nat × Int × Nat} {d : Nat × Nat × Int × Nat} (H : CA σ T ex z o a W p) (L : RL σ T ex (a 10) k D) (hk : k < 9) (hd : DOK d) : ∃ σ' T' dc ds, (∃ mc e, (g_u σ z (ckD d)) (a 10) = some (liC mc e k)) ∧ fJ2_add ex (z + 1) (a 10) z (g_u σ z (ckD d), 0, 0) = some (1, (σ', dc, ds)) ∧ CA σ' T' ex (z + 1 + dc) o a W p ∧ RL σ' T' ex (a 10) (k + 1) (up D k d) ∧ Kp T σ T' σ' (fun i => i = 50) ∧ dc ≤ 1 ∧ ds ≤ 300 := by
  have hF := H.1.fr
  have K1 := Kp.make (T := T) (σ := σ) hF 2 (ckD d)
  have F1 : Fre (ext T z (z + 1) 2) (z + 1) := hF.ext (by omega)
  have H1 : CW (g_u σ z (ckD d)) (ext T z (z + 1) 2) ex (z + 1) o a W := H.1.all F1 K1
  obtain ⟨e, g, A0, A1⟩ := L
  have L1 := A0.kp K1 (by decide) trivial trivial
  have hgz : ∀ i, i < k → g i < z := fun i hi => hF.lt (A1 i hi).1 (by decide)
  have hTz : ext T z (z + 1) 2 z = 2 := ext_in (Nat.le_refl _) (by omega)
  have L2 : ∀ i, i < k → ext T z (z + 1) 2 (g i) = 2 ∧ (g_u σ z (ckD d)) (g i) = some (ckD (D i)) := fun i hi => by
    obtain ⟨y1, y2⟩ := K1.at (A1 i hi).1 (by decide) trivial
    exact ⟨y1, y2.trans (A1 i hi).2.1⟩
  have hcell : (g_u σ z (ckD d)) z = some (ckD d) := g_u_self _ _ _
  have hvl : z ≠ a 10 := fun q => by
    have := hF.lt A0.1 (by decide)
    omega
  have hli := L1.2.1
  obtain ⟨mc, hl⟩ := hli
  obtain ⟨σ', e', dc, ds, q1, q2, q3, q4, q5, -, -, -, -⟩ := al_add L1 F1 (by decide) (by decide) (by omega) (fun i hi => ⟨_, _, _, (L2 i hi).2, kcs (A1 i hi).2.2.1.1⟩) (fun i hi => by have := hgz i hi; omega) hcell (kcs hd.1) (by omega) hvl
  have K2 := q3.kp F1
  have F2 : Fre (ext (ext T z (z + 1) 2) (z + 1) (z + 1 + dc) 9) (z + 1 + dc) := F1.ext (by omega)
  refine ⟨σ', ext (ext T z (z + 1) 2) (z + 1) (z + 1 + dc) 9, dc, ds, ⟨mc, e, hl⟩, q1, ⟨?_, ?_⟩, ?_, ?_, q4, q5⟩
  · exact H1.u_rd (W' := W) F2 K2 ⟨by decide, e', k + 1, _, by omega, q2⟩ rfl rfl rfl rfl rfl rfl rfl rfl rfl rfl rfl rfl rfl rfl rfl rfl rfl rfl rfl rfl rfl rfl rfl rfl
  · exact (K2.at H1.ob.1 (by decide) (by decide)).2.trans ((K1.at H.1.ob.1 (by decide) trivial).2.trans H.2)
  · refine ⟨e', up g k z, q2, fun i hi => ?_⟩
    have key : ∀ i, i < k + 1 → ext (ext T z (z + 1) 2) (z + 1) (z + 1 + dc) 9 (up g k z i) = 2 ∧ σ' (up g k z i) = some (ckD (up D k d i)) ∧ DOK (up D k d i) := by
      intro i hi
      by_cases h : i = k
      · subst h
        rw [up_self, up_self]
        obtain ⟨y1, y2⟩ := K2.at hTz (by decide) (by decide)
        exact ⟨y1, y2.trans hcell, hd⟩
      · rw [up_ne _ _ h, up_ne _ _ h]
        obtain ⟨y1, y2⟩ := K2.at (L2 i (by omega)).1 (by decide) (by decide)
        exact ⟨y1, y2.trans (L2 i (by omega)).2, (A1 i (by omega)).2.2.1⟩
    obtain ⟨k1, k2, k3⟩ := key i hi
    refine ⟨k1, k2, k3, fun j hj hq => ?_⟩
    by_cases h : i = k
    · by_cases h2 : j = k
      · omega
      · rw [h, up_self, up_ne _ _ h2] at hq
        have := hgz j (by omega)
        omega
    · by_cases h2 : j = k
      · rw [h2, up_self, up_ne _ _ h] at hq
        have := hgz i (by omega)
        omega
      · rw [up_ne _ _ h, up_ne _ _ h2] at hq
        exact (A1 i (by omega)).2.2.2 j (by omega) hq
  · exact (K1.sub (fun _ _ => trivial)).tr (K2.sub (fun i h => by rw [h]; decide))
end O9j
