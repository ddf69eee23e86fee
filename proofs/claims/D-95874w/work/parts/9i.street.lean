/-! the street's clocks are read -/
set_option maxRecDepth 100000
/-- kind, hands, rate, spring -/
def ckD (x : Nat × Nat × Int × Nat) : Bool × va_E := kC x.1 0 (nI x.2.1) (Int32.ofInt x.2.2.1) (nI x.2.2.2) 0 (-4)
def DOK (x : Nat × Nat × Int × Nat) : Prop := x.1 ≤ 5 ∧ x.2.1 ≤ 719 ∧ -30 ≤ x.2.2.1 ∧ x.2.2.1 ≤ 30 ∧ x.2.2.2 ≤ 99
def DMs (f : Nat → Int32) (k : Nat) (D : Nat → Nat × Nat × Int × Nat) : Prop := ∀ i, i < k → f (4 * i) = nI (D i).1 ∧ f (4 * i + 1) = nI (D i).2.1 ∧ f (4 * i + 2) = Int32.ofInt (D i).2.2.1 ∧ f (4 * i + 3) = nI (D i).2.2.2
/-- the list of clocks read -/
def RL (σ : Sg) (T : Nat → Nat) (ex : Nat → Option Nat) (l k : Nat) (D : Nat → Nat × Nat × Int × Nat) : Prop := ∃ e g, AL σ T 9 ex l e k g ∧ ∀ i, i < k → T (g i) = 2 ∧ σ (g i) = some (ckD (D i)) ∧ DOK (D i) ∧ ∀ j, j < k → g i = g j → i = j
section O9i
variable {t : MS} {W : Wv} {σ : Sg} {T : Nat → Nat} {ex : Nat → Option Nat} {z o : Nat} {a : Nat → Nat}
theorem RL.kp {σ' : Sg} {T' : Nat → Nat} {l k : Nat} {D : Nat → Nat × Nat × Int × Nat} {S : Nat → Prop} (H : RL σ T ex l k D) (K : Kp T σ T' σ' S) (h9 : S 9) (h2 : S 2) (h99 : S 99) : RL σ' T' ex l k D := by
  obtain ⟨e, g, h, hg⟩ := H
  refine ⟨e, g, h.kp K (by decide) h9 h99, fun i hi => ?_⟩
  obtain ⟨x1, x2, x3, x4⟩ := hg i hi
  obtain ⟨y1, y2⟩ := K.at x1 (by decide) h2
  exact ⟨y1, y2.trans x2, x3, x4⟩
/-- what follows when all is read -/
noncomputable def stGo (ex : Nat → Option Nat) (z h0 : Nat) (t2 : St) : Option (Int32 × St) := cgA [0] 0 t2 h0 fun v5 => cgA [1] 2 t2 v5 fun v6 => ccast [15] t2 v6 (gb (fJ2_clear ex (z + t2.2.1) v6 (t2.1, 0, 0)) t2 fun _ t8 => fX0_street_61 ex z 1000 h0 0 t8)
/-- both refuse at one place -/
def Bad (t : MS) (W : Wv) (σ : Sg) (T : Nat → Nat) (ex : Nat → Option Nat) (z o : Nat) (a : Nat → Nat) (b1 b2 : Nat) (fm : Option (Int32 × MS)) (fc : Option (Int32 × St)) : Prop := ∃ q p' n' f' σ' T' dc ds, p' ≤ W.tn ∧ W.sk p' = q ∧ q ≤ W.tn ∧ fm = some (0, tx t p' n' f') ∧ fc = some (-20 - nI q, (σ', dc, ds)) ∧ CW σ' T' ex (z + dc) o a (W.s_tn 0) ∧ Kp T σ T' σ' (fun i => i = 50) ∧ dc ≤ b1 ∧ ds ≤ b2
theorem st_catch {b q c1 c2 : Nat} (H : CW σ T ex (z + c1) o a W) (hb : σ b = some (fltC (nI q))) : ∃ σ', (cif (σ, c1, c2) b 10 (fX0_street_141 ex z o b (σ, c1, c2)) none) = some (-20 - nI q, (σ', c1, c2)) ∧ CW σ' T ex (z + c1) o a (W.s_tn 0) ∧ Kp T σ T σ' (fun i => i = 50) := by
  obtain ⟨x, y1, y2, y3⟩ := cw_tn0 H
  refine ⟨_, ?_, y2, y3.sub (fun i h => by rw [h]; decide)⟩
  rw [cif_t hb, if_pos rfl]
  unfold fX0_street_141
  rw [I_t hb (by decide) rfl]
  simp only [lt]
  rw [y1]
theorem st_45 (O : W.OK) {p c1 c2 : Nat} (hp : p ≤ W.tn) (H : CA σ T ex (z + c1) o a W p) : (W.nx p = 0 ∧ ∃ σ', fX0_street_45 ex z o (σ, c1, c2) = stGo ex z o (σ', c1, c2) ∧ CA σ' T ex (z + c1) o a W (W.sk p) ∧ Kp T σ T σ' (fun i => i ≠ 1)) ∨ (W.nx p ≠ 0 ∧ ∃ σ' T', fX0_street_45 ex z o (σ, c1, c2) = some (-20 - nI (W.sk p), (σ', c1 + 1, c2 + 7)) ∧ CW σ' T' ex (z + (c1 + 1)) o a (W.s_tn 0) ∧ Kp T σ T' σ' (fun i => i = 50)) := by
  unfold fX0_street_45
  rw [X_t H.2 (by decide)]
  have ce := c_ends H O hp
  by_cases h0 : W.nx p = 0
  · rw [if_pos h0] at ce
    rcases ce with ⟨v, p', σ', y1, y2, y3, y4, y5⟩ | ⟨q, b, σ', T', y1, -⟩
    · cases y1
      refine Or.inl ⟨h0, σ', ?_, y3, y4⟩
      show gbT (fX0_ends ex (z + c1) o (σ, 0, 0)) (σ, c1, c2) _ _ = _
      rw [y2, gbT_l]
      rfl
    · cases y1
  · rw [if_neg h0] at ce
    rcases ce with ⟨v, p', σ', y1, -⟩ | ⟨q, b, σ', T', y1, y2, y3, y4, y5, y6⟩
    · cases y1
    · cases y1
      rw [Nat.add_assoc] at y3
      obtain ⟨σ2, s1, s2, s3⟩ := st_catch (c2 := c2 + 7) y3 y4
      refine Or.inr ⟨h0, σ2, T', ?_, s2, (y5.sub (fun i h => by rw [h]; decide)).tr s3⟩
      show gbT (fX0_ends ex (z + c1) o (σ, 0, 0)) (σ, c1, c2) _ _ = _
      rw [y2, gbT_r]
      exact s1
end O9i
