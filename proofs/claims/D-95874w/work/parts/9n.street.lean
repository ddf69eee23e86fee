/-! street -/
set_option maxRecDepth 100000
section O9n
variable {t : MS} {W : Wv} {σ : Sg} {T : Nat → Nat} {ex : Nat → Option Nat} {z o : Nat} {a : Nat → Nat}
/-- a race without its clocks -/
theorem rt_clear {R : Rc} {A : Ad} {D : Nat → Nat × Nat × Int × Nat} (H : RT σ T 2 ex A R (-4)) (hn : R.n ≤ 9) (zz : Nat) : ∃ σ', fJ2_clear ex zz A.l (σ, 0, 0) = some ((), (σ', 0, 0)) ∧ RT σ' T 2 ex A (R.sq D 0) (-4) ∧ (∀ z, Ow T 2 σ z σ' z) ∧ ∀ q ci fs fl, ci ≠ 15 → σ q = some (fl, .inr (ci, fs)) → σ' q = σ q := by
  obtain ⟨h1, h2, h3, h4, h5, h6⟩ := H
  obtain ⟨σ', q1, q2, q3, q4⟩ := al_clear (z := zz) (c := (0, 0)) h5 (by omega)
  have A0 := q2 A.ca
  obtain ⟨mc, hl⟩ := h1.li
  obtain ⟨b, cap, f, he, -⟩ := h1.el
  refine ⟨σ', q1, ⟨⟨?_, ?_, ?_, ?_, ?_, fun c hc => absurd hc (Nat.not_lt_zero c)⟩, h2, h3, h4, A0, fun c hc => absurd hc (Nat.not_lt_zero c)⟩, fun z => q3.any, fun q ci fs fl hc hq => ?_⟩
  · rw [q4 _ h1.r_l (Or.inl h1.r_e)]; exact h1.ra
  · rw [q4 _ h1.d_l (Or.inl h1.d_e)]; exact h1.dl
  · rw [q4 _ h1.s_l (Or.inl h1.s_e)]; exact h1.sk
  · exact A0.2.1
  · rcases A0.2.2 with ⟨-, -, -, b, f, x⟩ | ⟨-, cap, f, x1, x2, x3, -⟩
    · exact ⟨b, 0, f, x, Nat.le_refl _, by omega, Or.inr rfl, fun c hc => absurd hc (Nat.not_lt_zero c)⟩
    · exact ⟨true, cap, f, x1, Nat.zero_le _, x3, Or.inl rfl, fun c hc => absurd hc (Nat.not_lt_zero c)⟩
  · refine q4 q (fun g => ?_) (Or.inl (fun g => ?_))
    · rw [g, hl] at hq
      exact hc (by cases hq; rfl)
    · rw [g, he] at hq
      cases hq
end O9n
