/-! street: both sides -/
set_option maxRecDepth 100000
section O9o
variable {t : MS} {W : Wv} {σ : Sg} {T : Nat → Nat} {ex : Nat → Option Nat} {z o : Nat} {a : Nat → Nat}
def Wv.strt (W : Wv) (D : Nat → Nat × Nat × Int × Nat) (k : Nat) : Wv := (W.s_C (Co.mk (W.C.R.st D k) (0) (W.C.bc) (W.C.bs) (0) (W.C.uk) (W.C.uw) (W.C.ua) (W.C.dr))).s_tn 0
theorem c_strt {k d1 d2 p2 : Nat} {D : Nat → Nat × Nat × Int × Nat} (O : W.OK) (hk : k ≤ 9) (H : CA σ T ex (z + d1) o a W p2) (L : RL σ T ex (a 10) k D) : ∃ σ' T' e1 e2, stGo ex z o (σ, d1, d2) = some (nI k, (σ', d1 + e1, d2 + e2)) ∧ CW σ' T' ex (z + (d1 + e1)) o a (W.strt D k) ∧ Kp T σ T' σ' (fun i => i = 50) ∧ e1 ≤ 9 ∧ e2 ≤ 2700 := by
  obtain ⟨A, hA, R⟩ := H.1.race
  obtain ⟨e, g, L1, Lg⟩ := L
  have hF := H.1.fr
  have h9 := O.n
  obtain ⟨mc, hl⟩ := R.1.li
  obtain ⟨σ1, q1, q2, q3, q4⟩ := rt_clear (D := D) R h9 (z + d1)
  have K1 := (q3 (z + d1)).kp0 hF
  have hob1 := (K1.at H.1.ob.1 (by decide) (by decide)).2.trans H.2
  have hDk : ∀ i, i < k → DOK (D i) := fun i hi => (Lg i hi).2.2.1
  obtain ⟨σ2, T2, A2, e1, e2, w1, w2, w3, w4, w5, w6, w7⟩ := c_st61 (R := W.C.R) (z := z) O.c.r hk hDk (g := g) (fun i hi j hj => (Lg i hi).2.2.2 j hj) k 0 σ1 T d1 d2 1000 A e (by omega) (by omega) hF q2 hA H.1.ob.1 ⟨_, _, _, _, _, hob1⟩ (L1.kp K1 (by decide) (by decide) (by decide)) (fun x hx => ⟨(Lg x hx).1, fun _ => by
    have h2 := (Lg x hx).2.1
    have hk5 := (hDk x hx).1
    rw [q4 (g x) (4 + (D x).1) _ _ (by omega) h2]
    exact h2⟩) (fun x hx => absurd hx (Nat.not_lt_zero x))
  have K2 : Kp T σ T2 σ2 (fun i => i ≠ 2) := K1.tr w4
  obtain ⟨s1, s2⟩ := w2.putR (z := z + (d1 + e1)) (R' := (Rc.mk ((W.C.R.sq D k).n) ((W.C.R.sq D k).W) ((W.C.R.sq D k).d) ((W.C.R.sq D k).k) ((W.C.R.sq D k).h) ((W.C.R.sq D k).r) ((W.C.R.sq D k).s) ((W.C.R.sq D k).p) ((W.C.R.sq D k).f) ((W.C.R.sq D k).now) ((W.C.R.sq D k).sk) ((W.C.R.sq D k).mn) 0 0)) (al' := -4) (x := raC (Rc.mk ((W.C.R.sq D k).n) ((W.C.R.sq D k).W) ((W.C.R.sq D k).d) ((W.C.R.sq D k).k) ((W.C.R.sq D k).h) ((W.C.R.sq D k).r) ((W.C.R.sq D k).s) ((W.C.R.sq D k).p) ((W.C.R.sq D k).f) ((W.C.R.sq D k).now) ((W.C.R.sq D k).sk) ((W.C.R.sq D k).mn) 0 0) A2 (-4)) rfl rfl rfl (fun _ _ => rfl) rfl
  have hra := w2.1.ra
  have hob2 := (K2.at H.1.ob.1 (by decide) (by decide)).2.trans H.2
  have hTo2 := (K2.at H.1.ob.1 (by decide) (by decide)).1
  have hor : o ≠ A2.r := fun g => by
    have := w2.2.1
    rw [← g, hTo2] at this
    exact absurd this (by decide)
  have ec : (true, Sum.inr (1, (([Value.int (nI (W.C.R.sq D k).W), Value.ref A2.d, Value.ref A2.l, Value.int (nI (W.C.R.sq D k).now), Value.ref A2.s, Value.int (nI (W.C.R.sq D k).mn), Value.int (-4), Value.int (nI (W.C.R.sq D k).he), Value.int (nI (W.C.R.sq D k).so)].set 7 (.int 0)).set 8 (.int 0)))) = raC (Rc.mk ((W.C.R.sq D k).n) ((W.C.R.sq D k).W) ((W.C.R.sq D k).d) ((W.C.R.sq D k).k) ((W.C.R.sq D k).h) ((W.C.R.sq D k).r) ((W.C.R.sq D k).s) ((W.C.R.sq D k).p) ((W.C.R.sq D k).f) ((W.C.R.sq D k).now) ((W.C.R.sq D k).sk) ((W.C.R.sq D k).mn) 0 0) A2 (-4) := rfl
  rw [← Rc.st_sq] at s1 s2 ec
  have hob3 : ∀ x, (g_u σ2 A2.r x) o = some (obC a (nI W.C.dr) (nI W.tn) (nI p2) (nI W.im) (nI W.I.dr)) := fun x => (g_u_ne _ _ hor).trans hob2
  have K3 := K2.tr (s2.kp0 w5)
  have H3 : CW (g_u σ2 A2.r (raC (W.C.R.st D k) A2 (-4))) T2 ex (z + (d1 + e1)) o a (W.s_C (Co.mk (W.C.R.st D k) (W.C.bn) (W.C.bc) (W.C.bs) (W.C.un) (W.C.uk) (W.C.uw) (W.C.ua) (W.C.dr))) := H.1.u_rc (W' := W.s_C (Co.mk (W.C.R.st D k) (W.C.bn) (W.C.bc) (W.C.bs) (W.C.un) (W.C.uk) (W.C.uw) (W.C.ua) (W.C.dr))) w5 K3 ⟨by decide, A2, w3, s1⟩ rfl rfl rfl rfl rfl rfl rfl rfl rfl rfl rfl rfl rfl rfl rfl rfl rfl rfl rfl rfl rfl rfl rfl
  have Hb := PBts.il.mp H3.bt
  obtain ⟨mb, eb, hlb⟩ := Hb.li
  have hbn := O.c.bn
  have hun := O.c.un
  obtain ⟨σ4, b1, b2, b3⟩ := Hb.clear (z := z + (d1 + e1)) (by show W.C.bn ≤ 160; omega) (z + (d1 + e1))
  have H4 : CW σ4 T2 ex (z + (d1 + e1)) o a (W.s_C (Co.mk (W.C.R.st D k) (0) (W.C.bc) (W.C.bs) (W.C.un) (W.C.uk) (W.C.uw) (W.C.ua) (W.C.dr))) := H3.u_bt (W' := W.s_C (Co.mk (W.C.R.st D k) (0) (W.C.bc) (W.C.bs) (W.C.un) (W.C.uk) (W.C.uw) (W.C.ua) (W.C.dr))) H3.fr (b3.kp0 H3.fr) (b2 _) rfl rfl rfl rfl rfl rfl rfl rfl rfl rfl rfl rfl rfl rfl rfl rfl rfl rfl rfl rfl rfl
  have Hu := PUns.il.mp H4.un
  obtain ⟨mu, eu, hlu⟩ := Hu.li
  obtain ⟨σ5, u1, u2, u3⟩ := Hu.clear (z := z + (d1 + e1)) (by show W.C.un ≤ 160; omega) (z + (d1 + e1))
  have H5 : CW σ5 T2 ex (z + (d1 + e1)) o a (W.s_C (Co.mk (W.C.R.st D k) (0) (W.C.bc) (W.C.bs) (0) (W.C.uk) (W.C.uw) (W.C.ua) (W.C.dr))) := H4.u_un (W' := W.s_C (Co.mk (W.C.R.st D k) (0) (W.C.bc) (W.C.bs) (0) (W.C.uk) (W.C.uw) (W.C.ua) (W.C.dr))) H4.fr (u3.kp0 H4.fr) (u2 _) rfl rfl rfl rfl rfl rfl rfl rfl rfl rfl rfl rfl rfl rfl rfl rfl rfl rfl rfl rfl
  obtain ⟨x, y1, y2, y3⟩ := cw_tn0 H5
  obtain ⟨at4, hob4⟩ := H4.obj
  obtain ⟨at5, hob5⟩ := H5.obj
  obtain ⟨A5, hA5, R5⟩ := H5.race
  refine ⟨_, T2, e1, e2, ?_, y2, ((K3.sub (fun i h => by rw [h]; decide)).tr ((b3.kp0 H3.fr).sub (fun i h => by rw [h]; decide))).tr (((u3.kp0 H4.fr).sub (fun i h => by rw [h]; decide)).tr (y3.sub (fun i h => by rw [h]; decide))), by omega, by omega⟩
  unfold stGo
  rw [A_t H.2 (by decide) rfl, ← hA, A_t R.1.ra (by decide) rfl, X_t hl (by decide)]
  show gb (fJ2_clear ex (z + d1) A.l (σ, 0, 0)) (σ, d1, d2) _ = _
  rw [q1, gb_z, show (0 : Int32) = nI 0 from rfl, w1]
  unfold stEnd
  rw [A_t hob2 (by decide) rfl, ← w3, P_t hra (by decide) (by show 7 < 9; decide), A_t (hob3 _) (by decide) rfl, ← w3, P_t (g_u_self _ _ _) (by decide) (by show 8 < 9; decide), g_u_twice, ec, A_t (hob3 _) (by decide) rfl, X_t hlb (by decide)]
  show gb (fJ2_clear ex (z + (d1 + e1)) (a 4) (g_u σ2 A2.r (raC (W.C.R.st D k) A2 (-4)), 0, 0)) (g_u σ2 A2.r (raC (W.C.R.st D k) A2 (-4)), d1 + e1, d2 + e2) _ = _
  rw [b1, gb_z, A_t hob4 (by decide) rfl, X_t hlu (by decide)]
  show gb (fJ2_clear ex (z + (d1 + e1)) (a 2) (σ4, 0, 0)) (σ4, d1 + e1, d2 + e2) _ = _
  rw [u1, gb_z, A_t hob5 (by decide) rfl, ← hA5, X_t R5.1.ra (by decide), c_size (t := (σ5, 0, 0)) R5.1, gb_two, y1]
  show some (nI (W.C.R.st D k).n, _) = _
  rw [Rc.st_n]
end O9o
