/-! the street's clocks come: the component -/
set_option maxRecDepth 100000
def Rc.sq (R : Rc) (D : Nat → Nat × Nat × Int × Nat) : Nat → Rc
  | 0 => (Rc.mk (0) (R.W) (R.d) (R.k) (R.h) (R.r) (R.s) (R.p) (R.f) (R.now) (R.sk) (R.mn) (R.he) (R.so))
  | k + 1 => (R.sq D k).add (D k).1 (D k).2.1 (D k).2.2.1 (D k).2.2.2
theorem Rc.sq_n (R : Rc) (D : Nat → Nat × Nat × Int × Nat) : ∀ k, (R.sq D k).n = k
  | 0 => rfl
  | k + 1 => by
    show (R.sq D k).n + 1 = k + 1
    rw [Rc.sq_n R D k]
theorem Rc.st_sq (R : Rc) (D : Nat → Nat × Nat × Int × Nat) : ∀ k, R.st D k = (Rc.mk ((R.sq D k).n) ((R.sq D k).W) ((R.sq D k).d) ((R.sq D k).k) ((R.sq D k).h) ((R.sq D k).r) ((R.sq D k).s) ((R.sq D k).p) ((R.sq D k).f) ((R.sq D k).now) ((R.sq D k).sk) ((R.sq D k).mn) 0 0)
  | 0 => rfl
  | k + 1 => by
    show (R.st D k).add _ _ _ _ = _
    rw [Rc.st_sq R D k]
    rfl
theorem Rc.sq_Ba {R : Rc} {D : Nat → Nat × Nat × Int × Nat} (O : R.OK) (k : Nat) (hk : k ≤ 9) (hD : ∀ i, i < k → DOK (D i)) : (R.sq D k).Ba := by
  have h := (Rc.st_OK O k hk hD).b
  rw [Rc.st_sq] at h
  exact ⟨h.n, h.W0, h.W1, h.d, h.k, h.h, h.r0, h.r1, h.s, h.p, h.now, h.sk, h.mn0, h.mn1⟩
/-- what follows when all have come -/
noncomputable def stEnd (ex : Nat → Option Nat) (z h0 : Nat) (t3 : St) : Option (Int32 × St) := cgA [0] 0 t3 h0 fun v9 => cput [1] 7 t3 v9 (.int 0) fun t10 => cgA [0] 0 t10 h0 fun v11 => cput [1] 8 t10 v11 (.int 0) fun t12 => cgA [0] 4 t12 h0 fun v13 => ccast [15] t12 v13 (gb (fJ2_clear ex (z + t12.2.1) v13 (t12.1, 0, 0)) t12 fun _ t15 => cgA [0] 2 t15 h0 fun v21 => ccast [15] t15 v21 (gb (fJ2_clear ex (z + t15.2.1) v21 (t15.1, 0, 0)) t15 fun _ t23 => cgA [0] 0 t23 h0 fun v29 => ccast [1] t23 v29 (gb (fX1_size ex (z + t23.2.1) v29 (t23.1, 0, 0)) t23 fun r30 t31 => cput [0] 7 t31 h0 (.int 0) fun t37 => some (r30, t37))))
section O9m
variable {t : MS} {W : Wv} {ex : Nat → Option Nat} {z o : Nat} {a : Nat → Nat}
theorem c_st61 {R : Rc} (O : R.OK) {k : Nat} {D : Nat → Nat × Nat × Int × Nat} (hk : k ≤ 9) (hD : ∀ i, i < k → DOK (D i)) {g : Nat → Nat} (hinj : ∀ i, i < k → ∀ j, j < k → g i = g j → i = j) : ∀ (j i : Nat) (σ : Sg) (T : Nat → Nat) (c1 c2 fuel : Nat) (A : Ad) (e : Nat), i + j = k → j < fuel → Fre T (z + c1) → RT σ T 2 ex A (R.sq D i) (-4) → A.r = a 0 → T o = 1 → (∃ dr ty at_ im idr, σ o = some (obC a dr ty at_ im idr)) → AL σ T 9 ex (a 10) e k g → (∀ x, x < k → T (g x) = 2 ∧ (i ≤ x → σ (g x) = some (ckD (D x)))) → (∀ x, x < i → A.ca x = g x) → ∃ σ' T' A' d1 d2, fX0_street_61 ex z fuel o (nI i) (σ, c1, c2) = stEnd ex z o (σ', c1 + d1, c2 + d2) ∧ RT σ' T' 2 ex A' (R.sq D k) (-4) ∧ A'.r = a 0 ∧ Kp T σ T' σ' (fun i => i ≠ 2) ∧ Fre T' (z + (c1 + d1)) ∧ d1 ≤ j ∧ d2 ≤ 300 * j := by
  intro j
  induction j with
  | zero =>
    intro i σ T c1 c2 fuel A e hj hf F H hA hTo ho L hg hca
    obtain ⟨m, rfl⟩ : ∃ m, fuel = m + 1 := ⟨fuel - 1, by omega⟩
    obtain rfl : i = k := by omega
    obtain ⟨dr, ty, at_, im, idr, hob⟩ := ho
    obtain ⟨mc, hl⟩ := L.2.1
    refine ⟨σ, T, A, 0, 0, ?_, H, hA, Kp.rf _ _ _, F, by omega, by omega⟩
    rw [fX0_street_61, A_t hob (by decide) rfl, X_t hl (by decide), al_size L, gb_two, if_pos (nI_le (Nat.le_refl _) (by omega))]
    rfl
  | succ j ih =>
    intro i σ T c1 c2 fuel A e hj hf F H hA hTo ho L hg hca
    obtain ⟨m, rfl⟩ : ∃ m, fuel = m + 1 := ⟨fuel - 1, by omega⟩
    obtain ⟨dr, ty, at_, im, idr, hob⟩ := ho
    obtain ⟨mc, hl⟩ := L.2.1
    obtain ⟨gT, gc⟩ := hg i (by omega)
    have hcell := gc (Nat.le_refl _)
    obtain ⟨d1, d2, d3, d4, d5⟩ := hD i (by omega)
    have hRn := Rc.sq_n R D i
    obtain ⟨σ1, A1, dc, ds, q1, q2, q3, q4, q5, q6, q7, q8⟩ := rt_comes (z := z + c1) H (Rc.sq_Ba O i (by omega) (fun x hx => hD x (by omega))) (by rw [hRn]; omega) F (by decide) (by decide) d1 hcell gT (fun c hc => by
      rw [hRn] at hc
      rw [hca c hc]
      exact fun q => absurd (hinj c (by omega) i (by omega) q) (by omega))
    have K1 := q5.kp F
    have hob1 := (K1.at hTo (by decide) (by decide)).2.trans hob
    have L1 := L.kp K1 (by decide) (by decide) (by decide)
    have F1 : Fre (ext T (z + c1) (z + c1 + dc) 2) (z + (c1 + dc)) := by rw [← Nat.add_assoc]; exact F.ext (by omega)
    have hg1 : ∀ x, x < k → ext T (z + c1) (z + c1 + dc) 2 (g x) = 2 ∧ (i + 1 ≤ x → σ1 (g x) = some (ckD (D x))) := fun x hx => by
      obtain ⟨y1, y2⟩ := hg x hx
      refine ⟨Ow.own F y1 (by decide), fun hix => ?_⟩
      have h1 := y2 (by omega)
      rw [q8 (g x) _ _ _ _ _ _ _ (hD x hx).1 (fun q => absurd (hinj x hx i (by omega) q) (by omega)) h1 (by rw [y1]; decide)]
      exact h1
    have hca1 : ∀ x, x < i + 1 → A1.ca x = g x := fun x hx => by
      rw [q4, hRn]
      by_cases h : x = i
      · subst h; rw [up_self]
      · rw [up_ne _ _ h]; exact hca x (by omega)
    obtain ⟨σ2, T2, A2, e1, e2, w1, w2, w3, w4, w5, w6, w7⟩ := ih (i + 1) σ1 _ (c1 + dc) (c2 + ds) m A1 e (by omega) (by omega) F1 q2 (q3.trans hA) (Ow.own F hTo (by decide)) ⟨_, _, _, _, _, hob1⟩ L1 hg1 hca1
    refine ⟨σ2, T2, A2, dc + e1, ds + e2, ?_, w2, w3, K1.tr w4, by rw [← Nat.add_assoc c1]; exact w5, by omega, by omega⟩
    rw [fX0_street_61, A_t hob (by decide) rfl, X_t hl (by decide), al_size L, gb_two, if_neg (nI_ge (by omega) (by omega)), A_t hob (by decide) rfl, A_t hob (by decide) rfl, X_t hl (by decide), al_get L (by omega), gb_two, X_t hcell (kin d1), ← hA, X_t H.1.ra (by decide)]
    show gb (fX1_comes ex (z + c1) A.r (g i) (σ, 0, 0)) (σ, c1, c2) _ = _
    rw [q1, gb_app, nI_1, w1, Nat.add_assoc, Nat.add_assoc]
end O9m
