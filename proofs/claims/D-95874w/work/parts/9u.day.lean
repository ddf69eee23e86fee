/-! a day is done -/
set_option maxRecDepth 100000
section O9u
variable {ex : Nat → Option Nat} {z o : Nat} {a : Nat → Nat}
theorem dy_78 (v : Int32) (t : MS) : fX3_does_78 v t = some (if v < 0 then 0 else 1, t) := by
  unfold fX3_does_78
  by_cases h : v < 0
  · rw [if_pos h, if_pos h]
  · rw [if_neg h, if_neg h]
theorem b_does {t : MS} {W : Wv} {σ : Sg} {T : Nat → Nat} {z : Nat} (M : MW t (W.s_tn 0)) (H : CW σ T ex z o a W) (O : W.OK) {b j : Nat} {x : Nat × Nat × Nat} (hx : AOK x) (hb : σ b = some (aC o x)) (hj : j + 2 < 480) (hf : AM (t.2.1 8) j x) : ∃ v t' W' σ' T' dc ds, fX3_does (nI j) t = some (if v < 0 then 0 else 1, t') ∧ fv_Act_does ex z b (σ, 0, 0) = some (v, (σ', dc, ds)) ∧ MW t' (W'.s_tn 0) ∧ CW σ' T' ex (z + dc) o a W' ∧ W'.OK ∧ Kp T σ T' σ' kS ∧ dc ≤ 10 ∧ ds ≤ 400 ∧ t'.2.1 8 = t.2.1 8 := by
  obtain ⟨f0, f1, f2⟩ := hf
  obtain ⟨at_, hob⟩ := H.obj
  unfold fX3_does fv_Act_does
  rw [show (2 : Int32) = nI 2 from rfl, nI_add, nI_1, mald_nI (by omega) (by decide), mald_nI (by omega) (by decide), f0]
  rcases x with ⟨c, x1, x2⟩
  rcases hx with hx | hx | hx | hx
  · have hx' : c = 104 := hx
    subst hx'
    have hb' : σ b = some (true, .inr (11, [.ref o])) := hb
    rw [if_neg (show ¬ nI 104 = 119 by decide), if_neg (show ¬ nI 104 = 116 by decide), if_neg (show ¬ nI 104 = 98 by decide), ccls_at (t := (σ, 0, 0)) hb', if_pos (show (11 : Nat) = 11 from rfl)]
    unfold fX11_does
    rw [A_t hb' (by decide) rfl, X_t hob (by decide)]
    obtain ⟨v, t', W', σ', T', dc, ds, e1, e2, e3, e4, e5, e6, e7, e8, e9⟩ := bs_hour M H O
    refine ⟨v, t', W', σ', T', dc, ds, ?_, ?_, e3, e4, e5, e6, e7, e8, e9⟩
    · rw [e1, gm_some, dy_78]
    · show gb (fX0_hour ex z o (σ, 0, 0)) (σ, 0, 0) _ = _
      rw [e2, gb_app]
      simp only [Nat.zero_add]
  · have hx' : c = 98 := hx
    subst hx'
    have hb' : σ b = some (true, .inr (12, [.int (nI x1), .ref o])) := hb
    have f1' : t.2.1 8 (j + 1) = nI x1 := f1 (show (98 : Nat) ≠ 104 by decide)
    rw [if_neg (show ¬ nI 98 = 119 by decide), if_neg (show ¬ nI 98 = 116 by decide), if_pos (show nI 98 = 98 from rfl), ccls_at (t := (σ, 0, 0)) hb', if_neg (show ¬ (12 : Nat) = 11 by decide), if_pos (show (12 : Nat) = 12 from rfl), f1']
    unfold fX12_does
    rw [A_t hb' (by decide) rfl, I_t hb' (by decide) rfl, X_t hob (by decide)]
    obtain ⟨v, t', W', σ', T', dc, ds, e1, e2, e3, e4, e5, e6, e7, e8, e9⟩ := bs_breathe M H O (nI x1)
    refine ⟨v, t', W', σ', T', dc, ds, ?_, ?_, e3, e4, e5, e6, e7, e8, e9⟩
    · rw [e1, gm_some, dy_78]
    · show gb (fX0_breathe ex z o (nI x1) (σ, 0, 0)) (σ, 0, 0) _ = _
      rw [e2, gb_app]
      simp only [Nat.zero_add]
  · have hx' : c = 119 := hx
    subst hx'
    have hb' : σ b = some (true, .inr (13, [.int (nI x1), .int (nI x2), .ref o])) := hb
    have f1' : t.2.1 8 (j + 1) = nI x1 := f1 (show (119 : Nat) ≠ 104 by decide)
    have f2' : t.2.1 8 (j + 2) = nI x2 := f2 (show (119 : Nat) ≠ 104 by decide) (show (119 : Nat) ≠ 98 by decide)
    rw [if_pos (show nI 119 = 119 from rfl), mald_nI (by omega) (by decide), ccls_at (t := (σ, 0, 0)) hb', if_neg (show ¬ (13 : Nat) = 11 by decide), if_neg (show ¬ (13 : Nat) = 12 by decide), if_pos (show (13 : Nat) = 13 from rfl), f1', f2']
    unfold fX13_does
    rw [A_t hb' (by decide) rfl, I_t hb' (by decide) rfl, I_t hb' (by decide) rfl, X_t hob (by decide)]
    obtain ⟨v, t', W', σ', T', dc, ds, e1, e2, e3, e4, e5, e6, e7, e8, e9⟩ := bs_wind M H O (nI x1) (nI x2)
    refine ⟨v, t', W', σ', T', dc, ds, ?_, ?_, e3, e4, e5, e6, e7, e8, e9⟩
    · rw [e1, gm_some, dy_78]
    · show gb (fX0_wind ex z o (nI x1) (nI x2) (σ, 0, 0)) (σ, 0, 0) _ = _
      rw [e2, gb_app]
      simp only [Nat.zero_add]
  · have hx' : c = 116 := hx
    subst hx'
    have hb' : σ b = some (true, .inr (14, [.int (nI x1), .int (nI x2), .ref o])) := hb
    have f1' : t.2.1 8 (j + 1) = nI x1 := f1 (show (116 : Nat) ≠ 104 by decide)
    have f2' : t.2.1 8 (j + 2) = nI x2 := f2 (show (116 : Nat) ≠ 104 by decide) (show (116 : Nat) ≠ 98 by decide)
    rw [if_neg (show ¬ nI 116 = 119 by decide), if_pos (show nI 116 = 116 from rfl), mald_nI (by omega) (by decide), ccls_at (t := (σ, 0, 0)) hb', if_neg (show ¬ (14 : Nat) = 11 by decide), if_neg (show ¬ (14 : Nat) = 12 by decide), if_neg (show ¬ (14 : Nat) = 13 by decide), if_pos (show (14 : Nat) = 14 from rfl), f1', f2']
    unfold fX14_does
    rw [A_t hb' (by decide) rfl, I_t hb' (by decide) rfl, I_t hb' (by decide) rfl, X_t hob (by decide)]
    obtain ⟨v, t', W', σ', T', dc, ds, e1, e2, e3, e4, e5, e6, e7, e8, e9⟩ := bs_turn M H O (nI x1) (nI x2)
    refine ⟨v, t', W', σ', T', dc, ds, ?_, ?_, e3, e4, e5, e6, e7, e8, e9⟩
    · rw [e1, gm_some, dy_78]
    · show gb (fX0_turn ex z o (nI x1) (nI x2) (σ, 0, 0)) (σ, 0, 0) _ = _
      rw [e2, gb_app]
      simp only [Nat.zero_add]
theorem ra_99S {σ σ' : Sg} {T T' : Nat → Nat} {z z' : Nat} {W W' : Wv} (H : CW σ T ex z o a W) (H' : CW σ' T' ex z' o a W') {k l e : Nat} {g : Nat → Nat} (L : AL σ T 10 ex l e k g) (hk : 0 < k) : T e = 10 := by
  rcases L.2.2 with ⟨-, x2, -⟩ | ⟨x1, -⟩
  · omega
  · exact x1
theorem RA.kS {σ σ' : Sg} {T T' : Nat → Nat} {l k : Nat} {D : Nat → Nat × Nat × Nat} (H : RA σ T ex o l k D) (hk : 0 < k) (K : Kp T σ T' σ' kS) : RA σ' T' ex o l k D := by
  obtain ⟨e, g, ⟨h1, ⟨mc, h2⟩, h3⟩, hg⟩ := H
  obtain ⟨a1, a2⟩ := K.at h1 (by decide) (Or.inr (Or.inl rfl))
  refine ⟨e, g, ⟨a1, ⟨mc, a2.trans h2⟩, ?_⟩, fun i hi => ?_⟩
  · rcases h3 with ⟨x1, x2, x3, x4⟩ | ⟨x1, x2⟩
    · omega
    · obtain ⟨b1, b2⟩ := K.at x1 (by decide) (Or.inr (Or.inl rfl))
      exact Or.inr ⟨b1, by rw [b2]; exact x2⟩
  · obtain ⟨x1, x2, x3⟩ := hg i hi
    obtain ⟨y1, y2⟩ := K.at x1 (by decide) (Or.inr (Or.inr rfl))
    exact ⟨y1, y2.trans x2, x3⟩
theorem dy_75 {t : MS} {W : Wv} {σ : Sg} {T : Nat → Nat} {c1 c2 : Nat} (H : CW σ T ex (z + c1) o a W) (v : Int32) : ∃ σ', fX0_day_75 ex z o v (σ, c1, c2) = some (v, (σ', c1, c2)) ∧ CW σ' T ex (z + c1) o a (W.s_tn 0) ∧ Kp T σ T σ' (fun i => i = 50) := by
  obtain ⟨x, y1, y2, y3⟩ := cw_tn0 H
  refine ⟨_, ?_, y2, y3.sub (fun i h => by rw [h]; decide)⟩
  unfold fX0_day_75
  rw [y1]
theorem dy_do {k : Nat} {D : Nat → Nat × Nat × Nat} (hk : 0 < k) (hk8 : k ≤ 80) : ∀ (j i : Nat) (t : MS) (W : Wv) (σ : Sg) (T : Nat → Nat) (c1 c2 fuel fuel' : Nat), i + j = k → j < fuel → j < fuel' → MW t (W.s_tn 0) → CW σ T ex (z + c1) o a W → W.OK → RA σ T ex o (a 11) k D → AMs (t.2.1 8) k D → ∃ v t' W' σ' T' dc ds, fX3_day_22 fuel' (nI k) (nI i) t = some (v, t') ∧ fX0_day_39 ex z fuel o (nI i) (σ, c1, c2) = some (v, (σ', dc, ds)) ∧ MW t' W' ∧ CW σ' T' ex (z + dc) o a W' ∧ W'.OK ∧ Kp T σ T' σ' (fun i => i = 50) ∧ dc ≤ c1 + 10 * j ∧ ds ≤ c2 + 400 * j := by
  intro j
  induction j with
  | zero =>
    intro i t W σ T c1 c2 fuel fuel' hj hf hf' M H O L hD
    obtain ⟨m, rfl⟩ : ∃ m, fuel = m + 1 := ⟨fuel - 1, by omega⟩
    obtain ⟨m', rfl⟩ : ∃ m, fuel' = m + 1 := ⟨fuel' - 1, by omega⟩
    obtain ⟨at_, hob⟩ := H.obj
    obtain ⟨e, g, L0, Lg⟩ := L
    obtain ⟨mc, hl⟩ := L0.2.1
    obtain ⟨σ', s1, s2, s3⟩ := dy_75 (t := t) (c2 := c2) H (nI i)
    have hik : i = k := by omega
    refine ⟨nI k, t, W.s_tn 0, σ', T, c1, c2, ?_, ?_, M, s2, O.tn0, s3, by omega, by omega⟩
    · rw [fX3_day_22, ifle i rfl rfl (by omega) (by omega), if_pos (by omega)]
    · rw [fX0_day_39, A_t hob (by decide) rfl, X_t hl (by decide), al_size L0, gb_two, ifle i rfl rfl (by omega) (by omega), if_pos (by omega), s1, hik]
  | succ j ih =>
    intro i t W σ T c1 c2 fuel fuel' hj hf hf' M H O L hD
    obtain ⟨m, rfl⟩ : ∃ m, fuel = m + 1 := ⟨fuel - 1, by omega⟩
    obtain ⟨m', rfl⟩ : ∃ m, fuel' = m + 1 := ⟨fuel' - 1, by omega⟩
    obtain ⟨at_, hob⟩ := H.obj
    obtain ⟨e, g, L0, Lg⟩ := id L
    obtain ⟨mc, hl⟩ := L0.2.1
    obtain ⟨x1, x2, x3⟩ := Lg i (by omega)
    obtain ⟨ci, fs, d1, -, d3⟩ := aC_cs o (D i)
    have hb : σ (g i) = some (true, .inr (ci, fs)) := by rw [x2, d1]
    obtain ⟨v, t', W', σ', T', dc, ds, e1, e2, e3, e4, e5, e6, e7, e8, e9⟩ := b_does (j := 3 * i) M H O x3 x2 (by omega) (hD i (by omega))
    have L' := L.kS hk e6
    rw [Nat.add_assoc] at e4
    have K' : Kp T σ T' σ' (fun i => i = 50) := e6.sub (fun i h => Or.inl h)
    rw [fX3_day_22, ifle i rfl rfl (by omega) (by omega), if_neg (by omega), show (3 : Int32) = nI 3 from rfl, nI_mul, e1, gm_some, fX0_day_39, A_t hob (by decide) rfl, X_t hl (by decide), al_size L0, gb_two, ifle i rfl rfl (by omega) (by omega), if_neg (by omega), A_t hob (by decide) rfl, X_t hl (by decide), al_get L0 (by omega), gb_two, X_t hb d3, X_t hb d3]
    show ∃ v' t'' W'' σ'' T'' dc' ds', _ ∧ gb (fv_Act_does ex (z + c1) (g i) (σ, 0, 0)) (σ, c1, c2) _ = _ ∧ _
    rw [e2, gb_app]
    by_cases hv : v < 0
    · obtain ⟨σ2, s1, s2, s3⟩ := dy_75 (t := t) (c2 := c2 + ds) e4 (nI i)
      refine ⟨nI i, t', W'.s_tn 0, σ2, T', c1 + dc, c2 + ds, ?_, ?_, e3, s2, e5.tn0, K'.tr s3, by omega, by omega⟩
      · rw [if_pos hv, if_pos rfl]
      · rw [if_pos hv, s1]
    · rw [if_neg hv, if_neg hv, if_neg (show ¬ (1 : Int32) = 0 by decide), nI_1]
      obtain ⟨v2, t2, W2, σ2, T2, dc2, ds2, g1, g2, g3, g4, g5, g6, g7, g8⟩ := ih (i + 1) t' W' σ' T' (c1 + dc) (c2 + ds) m m' (by omega) (by omega) (by omega) e3 e4 e5 L' (by rw [e9]; exact hD)
      exact ⟨v2, t2, W2, σ2, T2, dc2, ds2, g1, g2, g3, g4, g5, K'.tr g6, by omega, by omega⟩
theorem b_day {t : MS} {W : Wv} {σ : Sg} {T : Nat → Nat} (M : MW t W) (H : CW σ T ex z o a W) (O : W.OK) : Both σ T ex z o a (fX3_day t) (fX0_day ex z o (σ, 0, 0)) := by
  obtain ⟨at_, hob⟩ := H.obj
  have ht := O.tn
  obtain ⟨H1, K1⟩ := H.ca 0
  obtain ⟨-, e, n, g, hn, L⟩ := H1.1.ac
  obtain ⟨mc, hl⟩ := L.2.1
  obtain ⟨σ2, q1, q2, q3, -⟩ := al_clear (z := z) (c := (0, 0)) L (by omega)
  have q3' : Ow T 10 _ z σ2 z := q3.any
  have K2 := q3'.kp0 H1.1.fr
  have H2 : CA σ2 T ex z o a W 0 := ⟨H1.1.u_ac (W' := W) H1.1.fr K2 ⟨by decide, e, 0, g, by omega, q2 g⟩ rfl rfl rfl rfl rfl rfl rfl rfl rfl rfl rfl rfl rfl rfl rfl rfl rfl rfl rfl rfl rfl rfl rfl rfl, (K2.at H1.1.ob.1 (by decide) (by decide)).2.trans H1.2⟩
  have K3 : Kp T σ T σ2 (fun i => i = 50) := (K1.sub (fun i h => by rw [h]; decide)).tr (K2.sub (fun i h => by rw [h]; decide))
  have S := dy_read (z := z) M O 80 0 0 (t.2.1 8) (fun _ => (0, 0, 0)) σ2 T 0 0 1000 1000 (by omega) (by omega) (by omega) (by omega) (by omega) H2 ⟨e, g, q2 g, fun i hi => absurd hi (Nat.not_lt_zero i)⟩ (fun i hi => absurd hi (Nat.not_lt_zero i))
  have ec : fX0_day ex z o (σ, 0, 0) = fX0_day_12 ex z 1000 o (σ2, 0, 0) := by
    unfold fX0_day
    rw [P_t hob (by decide) (by show 8 < 19; decide)]
    show (cgA [0] 11 (g_u σ o (obC a (nI W.C.dr) (nI W.tn) (nI 0) (nI W.im) (nI W.I.dr)), 0, 0) o fun v2 => ccast [15] (g_u σ o (obC a (nI W.C.dr) (nI W.tn) (nI 0) (nI W.im) (nI W.I.dr)), 0, 0) v2 (gb (fJ2_clear ex z v2 (g_u σ o (obC a (nI W.C.dr) (nI W.tn) (nI 0) (nI W.im) (nI W.I.dr)), 0, 0)) (g_u σ o (obC a (nI W.C.dr) (nI W.tn) (nI 0) (nI W.im) (nI W.I.dr)), 0, 0) fun _ t4 => fX0_day_12 ex z 1000 o t4)) = _
    rw [A_t H1.2 (by decide) rfl, X_t hl (by decide)]
    rw [q1, gb_z]
  have em : fX3_day t = gm (fX3_readDay_12 1000 1 (tx t 0 (nI 0) (t.2.1 8))) (fun r1 t2 => gm (fX3_end r1 t2) fun r3 t4 => if 0 ≤ r3 then fX3_day_22 1000 (t4.1 17) 0 t4 else some (r3, t4)) := by
    unfold fX3_day fX3_readDay
    simp only [lt]
    rw [tx_0, show (0 : Int32) = nI 0 from rfl, tx_n]
  rw [ec, em]
  rcases S with ⟨k, D, p', p2, f', σ3, T3, d1, d2, s1, s2, s3, s4, s5, s6, s7, s8, s9, s10⟩ | ⟨q, p', n', f', σ3, T3, d1, d2, s1, s2, s3, s4, s5, s6, s7, s8, s9⟩
  · have M1 : MW (setI (tx t p' (nI k) f') 15 0) (W.s_tn 0) := (M.tx _ _ _).tn0
    obtain ⟨v, t', W', σ', T', dc, ds, g1, g2, g3, g4, g5, g6, g7, g8⟩ := dy_do (z := z) (o := o) (a := a) (ex := ex) (k := k) (D := D) (by omega) s2 k 0 (setI (tx t p' (nI k) f') 15 0) W σ3 T3 d1 d2 1000 1000 (by omega) (by omega) (by omega) M1 s6.1 O s7 s4
    rw [s3, gm_some, r_end1, gm_some, if_pos (by decide), s5]
    exact ⟨v, t', W', σ', T', dc, ds, g1, g2, g3, g4, g5, (K3.tr s8).tr g6, by omega, by omega⟩
  · rw [s4, gm_some, r_end0 M O s1 s2, gm_some, if_neg (neg20 (by omega)), s5]
    exact ⟨_, _, W.s_tn 0, σ3, T3, _, _, rfl, rfl, (M.tx _ _ _).tn0, s6, O.tn0, K3.tr s7, by omega, by omega⟩
end O9u
