/-! a race with its owner; clocks are made, copied -/
set_option maxRecDepth 100000
def RT (σ : Sg) (T : Nat → Nat) (k : Nat) (ex : Nat → Option Nat) (A : Ad) (R : Rc) (al : Int32) : Prop := RR σ A R al ∧ T A.r = k ∧ T A.d = k ∧ T A.s = k ∧ AL σ T k ex A.l A.e R.n A.ca ∧ ∀ c, c < R.n → T (A.ca c) = k
section R0
variable {σ σ' : Sg} {T : Nat → Nat} {k j : Nat} {ex : Nat → Option Nat} {A : Ad} {R : Rc} {al : Int32} {z z' : Nat}
theorem RT.rr (H : RT σ T k ex A R al) : RR σ A R al := H.1
theorem RT.list (H : RT σ T k ex A R al) : AL σ T k ex A.l A.e R.n A.ca := H.2.2.2.2.1
theorem AL.keep {l e n : Nat} {g : Nat → Nat} (H : AL σ T k ex l e n g) (h1 : σ' l = σ l) (h2 : σ' e = σ e) : AL σ' T k ex l e n g := by
  unfold AL at H ⊢; rw [h1, h2]; exact H
theorem AL.ow {l e n : Nat} {g : Nat → Nat} (H : AL σ T k ex l e n g) (F : Fre T z) (h : Ow T j σ z σ' z') (hk : k ≠ 0) (hj9 : j ≠ 99) (hkj : k ≠ j) : AL σ' (ext T z z' j) k ex l e n g := by
  obtain ⟨h1, h2, h3⟩ := H
  refine ⟨Ow.own F h1 hk, by rw [h.at F h1 hk hkj]; exact h2, ?_⟩
  rcases h3 with ⟨a, b, c, d⟩ | ⟨a, b⟩
  · exact Or.inl ⟨a, b, Ow.own F c (by decide), by rw [h.at F c (by decide) (fun x => hj9 x.symm)]; exact d⟩
  · exact Or.inr ⟨Ow.own F a hk, by rw [h.at F a hk hkj]; exact b⟩
/-- another's doings leave a race as it is -/
theorem RT.ow (H : RT σ T k ex A R al) (F : Fre T z) (h : Ow T j σ z σ' z') (hk : k ≠ 0) (hj9 : j ≠ 99) (hkj : k ≠ j) : RT σ' (ext T z z' j) k ex A R al := by
  obtain ⟨h1, h2, h3, h4, h5, h6⟩ := H
  have e : ∀ q, T q = k → σ' q = σ q := fun q hq => h.at F hq hk hkj
  refine ⟨h1.keep (fun q hq => ?_), Ow.own F h2 hk, Ow.own F h3 hk, Ow.own F h4 hk, h5.ow F h hk hj9 hkj, fun c hc => Ow.own F (h6 c hc) hk⟩
  rcases hq with rfl | rfl | rfl | rfl | rfl | ⟨c, hc, rfl⟩
  · exact e _ h2
  · exact e _ h3
  · exact e _ h4
  · exact e _ h5.1
  · rcases h5.2.2 with ⟨-, -, a, -⟩ | ⟨a, -⟩
    · exact h.at F a (by decide) (fun x => hj9 x.symm)
    · exact e _ a
  · exact e _ (h6 c hc)
/-- a store that differs at what an hour writes -/
theorem RT.hour {R' : Rc} (H : RT σ T k ex A R al) (B : R.Ba) (H' : RR σ' A R' al) (hn : R'.n = R.n) (hq : ∀ q, ¬ FW A R.n q → σ' q = σ q) : RT σ' T k ex A R' al ∧ Ow T k σ z σ' z := by
  obtain ⟨h1, h2, h3, h4, h5, h6⟩ := H
  refine ⟨⟨H', h2, h3, h4, ?_, by rw [hn]; exact h6⟩, Nat.le_refl z, fun q x _ => hq q ?_⟩
  · rw [hn]
    refine h5.keep (hq _ ?_) (hq _ ?_)
    · rintro (g | g | ⟨c, hc, g⟩)
      · exact h1.r_l g.symm
      · exact h1.d_l g.symm
      · exact h1.ca_l B hc g.symm
    · rintro (g | g | ⟨c, hc, g⟩)
      · exact h1.r_e g.symm
      · exact h1.d_e g.symm
      · exact h1.ca_e hc g.symm
  · rintro (g | g | ⟨c, hc, g⟩)
    · exact x (g ▸ h2)
    · exact x (g ▸ h3)
    · exact x (g ▸ h6 c hc)
theorem rt_go (H : RT σ T k ex A R al) (O : R.OK) {w : Nat} (hw : w < 4) (hs : skyOf R al w) {c : Nat × Nat} : ∃ σ', fX1_goes ex z A.r (σ, c) = some (nI (R.goN w), (σ', c)) ∧ RT σ' T k ex A (R.go w) al ∧ Ow T k σ z σ' z := by
  obtain ⟨σ', q1, q2, q3⟩ := c_go (ex := ex) (z := z) (t := (σ, c)) H.rr O hw hs
  obtain ⟨r1, r2⟩ := H.hour (z := z) O.b q2 (Rc.go_keep R w).1 q3
  exact ⟨σ', q1, r1, r2⟩
end R0
/-- a clock's cell -/
def kC (κ : Nat) (v0 v1 v2 v3 v4 v5 : Int32) : Bool × va_E := (true, .inr (4 + κ, [.int v0, .int v1, .int v2, .int v3, .int v4, .int v5]))
theorem ckC_eq (R : Rc) (c : Nat) : ckC R c = kC (R.k c) (nI c) (nI (R.h c)) (Int32.ofInt (R.r c)) (nI (R.s c)) (nI (R.p c)) (fin (R.f c)) := rfl
theorem kC_csL {κ : Nat} (h : κ ≤ 5) : 4 + κ ∈ csL := by
  match κ, h with
  | 0, _ => decide
  | 1, _ => decide
  | 2, _ => decide
  | 3, _ => decide
  | 4, _ => decide
  | 5, _ => decide
section R1
variable {ex : Nat → Option Nat} {z : Nat} {σ : Sg}
theorem c_made2 {κ : Nat} (h : κ ≤ 5) : fX0_made_2 ex z (nI κ) (σ, 0, 0) = some (z, (g_u σ z (kC κ 0 0 0 0 0 (-4)), 1, 6)) := by
  match κ, h with
  | 0, _ =>
    unfold fX0_made_2 fX4_init
    rw [if_pos (by decide), new_t, P_t (g_u_self _ _ _) (by decide) (by show 5 < 6; decide), g_u_twice]; rfl
  | 1, _ =>
    unfold fX0_made_2 fX5_init fX4_init
    rw [if_neg (by decide), if_pos (by decide), new_t, P_t (g_u_self _ _ _) (by decide) (by show 5 < 6; decide), g_u_twice]; rfl
  | 2, _ =>
    unfold fX0_made_2 fX6_init fX4_init
    rw [if_neg (by decide), if_neg (by decide), if_pos (by decide), new_t, P_t (g_u_self _ _ _) (by decide) (by show 5 < 6; decide), g_u_twice]; rfl
  | 3, _ =>
    unfold fX0_made_2 fX7_init fX6_init fX4_init
    rw [if_neg (by decide), if_neg (by decide), if_neg (by decide), if_pos (by decide), new_t, P_t (g_u_self _ _ _) (by decide) (by show 5 < 6; decide), g_u_twice]; rfl
  | 4, _ =>
    unfold fX0_made_2 fX8_init fX4_init
    rw [if_neg (by decide), if_neg (by decide), if_neg (by decide), if_neg (by decide), if_pos (by decide), new_t, P_t (g_u_self _ _ _) (by decide) (by show 5 < 6; decide), g_u_twice]; rfl
  | 5, _ =>
    unfold fX0_made_2 fX9_init fX4_init
    rw [if_neg (by decide), if_neg (by decide), if_neg (by decide), if_neg (by decide), if_neg (by decide), new_t, P_t (g_u_self _ _ _) (by decide) (by show 5 < 6; decide), g_u_twice]; rfl
theorem c_made {κ : Nat} (h : κ ≤ 5) (v1 v2 v3 : Int32) : fX0_made ex z (nI κ) v1 v2 v3 (σ, 0, 0) = some (z, (g_u σ z (kC κ 0 v1 v2 v3 0 (-4)), 1, 6)) := by
  unfold fX0_made
  simp only [Nat.add_zero]
  rw [c_made2 h]
  simp only [gb_app, Nat.zero_add]
  have h1 : (g_u σ z (kC κ 0 0 0 0 0 (-4))) z = some (kC κ 0 0 0 0 0 (-4)) := g_u_self _ _ _
  rw [P_t h1 (kin h) (by show 1 < 6; decide), P_t (g_u_self _ _ _) (kin h) (by show 2 < 6; decide), P_t (g_u_self _ _ _) (kin h) (by show 3 < 6; decide), g_u_twice, g_u_twice, g_u_twice]
  rfl
theorem c_kind {κ a : Nat} {v0 v1 v2 v3 v4 v5 : Int32} (h : κ ≤ 5) (ha : σ a = some (kC κ v0 v1 v2 v3 v4 v5)) {c : Nat × Nat} : fv_X4_kind ex z a (σ, c) = some (nI κ, (σ, c)) := by
  unfold fv_X4_kind
  rw [C_t ha]
  match κ, h with
  | 0, _ => rw [if_pos rfl]; rfl
  | 1, _ => rw [if_neg (by decide), if_pos rfl]; unfold fX5_kind fX4_kind; simp only [gb_two]; rw [X_t ha (by decide)]; rfl
  | 2, _ => rw [if_neg (by decide), if_neg (by decide), if_pos rfl]; unfold fX6_kind fX4_kind; simp only [gb_two]; rw [X_t ha (by decide)]; rfl
  | 3, _ => rw [if_neg (by decide), if_neg (by decide), if_neg (by decide), if_pos rfl]; unfold fX7_kind fX6_kind fX4_kind; simp only [gb_two]; rw [X_t ha (by decide), X_t ha (by decide)]; rfl
  | 4, _ => rw [if_neg (by decide), if_neg (by decide), if_neg (by decide), if_neg (by decide), if_pos rfl]; unfold fX8_kind fX4_kind; simp only [gb_two]; rw [X_t ha (by decide)]; rfl
  | 5, _ => rw [if_neg (by decide), if_neg (by decide), if_neg (by decide), if_neg (by decide), if_neg (by decide), if_pos rfl]; unfold fX9_kind fX4_kind; simp only [gb_two]; rw [X_t ha (by decide)]; rfl
theorem c_takes4 {κ κ' a b : Nat} {v0 v1 v2 v3 v4 v5 u0 u1 u2 u3 u4 u5 : Int32} (h : κ ≤ 5) (h' : κ' ≤ 5) (ha : σ a = some (kC κ v0 v1 v2 v3 v4 v5)) (hb : σ b = some (kC κ' u0 u1 u2 u3 u4 u5)) (hab : b ≠ a) {c : Nat × Nat} : fX4_takes ex z a b (σ, c) = some ((), (g_u σ a (kC κ u0 u1 u2 u3 u4 u5), c)) := by
  have hb' : ∀ x, (g_u σ a x) b = some (kC κ' u0 u1 u2 u3 u4 u5) := fun x => (g_u_ne _ _ hab).trans hb
  unfold fX4_takes
  rw [I_t hb (kin h') rfl, P_t ha (kin h) (by show 0 < 6; decide),
    I_t (hb' _) (kin h') rfl, P_t (g_u_self _ _ _) (kin h) (by show 1 < 6; decide), g_u_twice,
    I_t (hb' _) (kin h') rfl, P_t (g_u_self _ _ _) (kin h) (by show 2 < 6; decide), g_u_twice,
    I_t (hb' _) (kin h') rfl, P_t (g_u_self _ _ _) (kin h) (by show 3 < 6; decide), g_u_twice,
    I_t (hb' _) (kin h') rfl, P_t (g_u_self _ _ _) (kin h) (by show 4 < 6; decide), g_u_twice,
    I_t (hb' _) (kin h') rfl, P_t (g_u_self _ _ _) (kin h) (by show 5 < 6; decide), g_u_twice]
  rfl
theorem c_copy {κ b : Nat} {u0 u1 u2 u3 u4 u5 : Int32} (h : κ ≤ 5) (hb : σ b = some (kC κ u0 u1 u2 u3 u4 u5)) (hz : b < z) : fX4_copy ex z b (σ, 0, 0) = some (z, (g_u σ z (kC κ u0 u1 u2 u3 u4 u5), 1, 6)) := by
  unfold fX4_copy
  simp only [Nat.add_zero]
  rw [X_t hb (kin h), c_kind h hb]
  simp only [gb_app, Nat.add_zero]
  rw [c_made2 h]
  simp only [gb_app, Nat.zero_add]
  have h1 : (g_u σ z (kC κ 0 0 0 0 0 (-4))) z = some (kC κ 0 0 0 0 0 (-4)) := g_u_self _ _ _
  have h2 : (g_u σ z (kC κ 0 0 0 0 0 (-4))) b = some (kC κ u0 u1 u2 u3 u4 u5) := (g_u_ne _ _ (by omega)).trans hb
  rw [X_t h1 (kin h), c_takes4 h h h1 h2 (by omega), g_u_twice]
  rfl
end R1
