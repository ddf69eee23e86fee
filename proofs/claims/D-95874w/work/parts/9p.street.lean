/-! street: the call -/
set_option maxRecDepth 100000
section O9p
variable {t : MS} {W : Wv} {σ : Sg} {T : Nat → Nat} {ex : Nat → Option Nat} {z o : Nat} {a : Nat → Nat}
theorem strt_OK (O : W.OK) {D : Nat → Nat × Nat × Int × Nat} {k : Nat} (hk : k ≤ 9) (hD : ∀ i, i < k → DOK (D i)) : (W.strt D k).OK := by
  have C := O.c
  exact ⟨⟨Rc.st_OK C.r k hk hD, by show (W.C.R.st D k).now ≤ 9999; rw [Rc.st_now]; exact C.now, Nat.zero_le _, fun b hb => absurd hb (Nat.not_lt_zero b), Nat.zero_le _, fun u hu => absurd hu (Nat.not_lt_zero u), C.dr⟩, O.i, O.im, Nat.zero_le _, fun i hi => absurd hi (Nat.not_lt_zero i), O.s⟩
theorem m_strt (M : MW t W) {D : Nat → Nat × Nat × Int × Nat} {k p : Nat} {f : Nat → Int32} (hk : k ≤ 9) (hD : DMs f k D) : ∃ t', (lt (setI (setI (tx t p (nI k) f) 15 0) 3 0) fun t5 => lt (setI t5 10 0) fun t6 => lt (setI t6 12 0) fun t7 => mast t7 0 63 61 0 fun t8 => mast t8 0 63 62 0 fun t9 => fX3_street_48 1000 0 t9) = some (nI k, t') ∧ MW t' (W.strt D k) := by
  have M4 : MW (setI (tx t p (nI k) f) 15 0) (W.s_tn 0) := (M.tx p (nI k) f).tn0
  simp only [lt]
  rw [show (61 : Int32) = nI 61 from rfl, mast_nI (by decide) (by decide), show (62 : Int32) = nI 62 from rfl, mast_nI (by decide) (by decide)]
  generalize hu : setI (setI (setI (setI (tx t p (nI k) f) 15 0) 3 0) 10 0) 12 0 = u
  have u1 : ∀ i, i ≠ 3 → i ≠ 10 → i ≠ 12 → u.1 i = (setI (tx t p (nI k) f) 15 0).1 i := fun i h1 h2 h3 => by
    rw [← hu]
    show upd (upd (upd _ 3 0) 10 0) 12 0 i = _
    rw [upd_no _ _ h3, upd_no _ _ h2, upd_no _ _ h1]
  have u2 : u.2 = (setI (tx t p (nI k) f) 15 0).2 := by rw [← hu]; rfl
  have u3 : u.1 3 = 0 := by rw [← hu]; rfl
  have u10 : u.1 10 = 0 := by rw [← hu]; rfl
  have u12 : u.1 12 = 0 := by rw [← hu]; rfl
  have v0 : (setA (setA u 0 61 0) 0 62 0).2.1 0 = upd (upd (u.2.1 0) 61 0) 62 0 := by rw [setA_same, setA_same]
  have vj : ∀ j, j ≠ 0 → (setA (setA u 0 61 0) 0 62 0).2.1 j = u.2.1 j := fun j hj => by rw [setA_other _ _ _ hj, setA_other _ _ _ hj]
  have b := M4.c.r.1
  have R0 : MR (setA (setA u 0 61 0) 0 62 0) (W.C.R.st D 0) := by
    refine ⟨⟨u3, ?_, ?_, fun w hw => ?_, fun c hc => absurd hc (Nat.not_lt_zero c), fun c hc => absurd hc (Nat.not_lt_zero c), fun c hc => absurd hc (Nat.not_lt_zero c), ?_, ?_, ?_, fun c hc => absurd hc (Nat.not_lt_zero c), fun c hc => absurd hc (Nat.not_lt_zero c), ?_⟩, fun c hc => absurd hc (Nat.not_lt_zero c)⟩
    · exact (u1 4 (by decide) (by decide) (by decide)).trans b.W
    · exact (u1 6 (by decide) (by decide) (by decide)).trans b.mn
    · rw [v0, upd_no _ _ (by omega), upd_no _ _ (by omega), u2]; exact b.d w hw
    · rw [v0, upd_no _ _ (by omega), upd_no _ _ (by omega), u2]; exact b.now
    · rw [v0, upd_no _ _ (by omega), upd_at]; rfl
    · rw [v0, upd_at]; rfl
    · rw [vj 3 (by decide), u2]; exact b.sk
  obtain ⟨t', q1, q2, q3⟩ := m_st48 (R := W.C.R) (D := D) hk k 0 1000 _ (by omega) (by omega) R0 ((u1 17 (by decide) (by decide) (by decide)).trans rfl) (by rw [vj 8 (by decide), u2]; exact hD)
  refine ⟨t', q1, ?_⟩
  obtain ⟨r1, r2, r3⟩ := q3
  have a4 : ∀ j, 4 ≤ j → t'.2.1 j = (setI (tx t p (nI k) f) 15 0).2.1 j := fun j hj => by rw [r2 j hj, vj j (by omega), u2]
  have i4 : ∀ i, i ≠ 3 → i ≠ 4 → i ≠ 6 → i ≠ 10 → i ≠ 12 → t'.1 i = (setI (tx t p (nI k) f) 15 0).1 i := fun i h1 h2 h3 h4 h5 => (r1 i h1 h2 h3).trans (u1 i h1 h4 h5)
  refine ⟨⟨q2, ?_, (fun b hb => absurd hb (Nat.not_lt_zero b)), ?_, (fun u hu => absurd hu (Nat.not_lt_zero u)), ?_⟩, ?_, ?_, ?_, ?_, (fun i hi => absurd hi (Nat.not_lt_zero i)), ?_⟩
  · exact (r1 10 (by decide) (by decide) (by decide)).trans u10
  · exact (r1 12 (by decide) (by decide) (by decide)).trans u12
  · exact (i4 13 (by decide) (by decide) (by decide) (by decide) (by decide)).trans M4.c.dr
  · exact (i4 7 (by decide) (by decide) (by decide) (by decide) (by decide)).trans M4.sky
  · exact (i4 21 (by decide) (by decide) (by decide) (by decide) (by decide)).trans M4.im
  · rw [a4 11 (by decide)]; exact M4.kp
  · exact (i4 15 (by decide) (by decide) (by decide) (by decide) (by decide)).trans M4.tn
  · rw [a4 12 (by decide), a4 13 (by decide), r3, show (setA (setA u 0 61 0) 0 62 0).2.2 = (setI (tx t p (nI k) f) 15 0).2.2 from by show u.2.2 = _; rw [u2]]; exact M4.s
theorem b_street (M : MW t W) (H : CW σ T ex z o a W) (O : W.OK) : Both σ T ex z o a (fX3_street t) (fX0_street ex z o (σ, 0, 0)) := by
  obtain ⟨at_, hob⟩ := H.obj
  have ht := O.tn
  obtain ⟨H1, K1⟩ := H.ca 0
  obtain ⟨-, e, n, g, hn, L⟩ := H1.1.rd
  obtain ⟨mc, hl⟩ := L.2.1
  obtain ⟨σ2, q1, q2, q3, -⟩ := al_clear (z := z) (c := (0, 0)) L (by omega)
  have q3' : Ow T 9 _ z σ2 z := q3.any
  have K2 := q3'.kp0 H1.1.fr
  have H2 : CA σ2 T ex z o a W 0 := ⟨H1.1.u_rd (W' := W) H1.1.fr K2 ⟨by decide, e, 0, g, by omega, q2 g⟩ rfl rfl rfl rfl rfl rfl rfl rfl rfl rfl rfl rfl rfl rfl rfl rfl rfl rfl rfl rfl rfl rfl rfl rfl, (K2.at H1.1.ob.1 (by decide) (by decide)).2.trans H1.2⟩
  have K3 : Kp T σ T σ2 (fun i => i = 50) := (K1.sub (fun i h => by rw [h]; decide)).tr (K2.sub (fun i h => by rw [h]; decide))
  have S := st_read (z := z) M O 8 0 0 (t.1 17) (t.2.1 8) (fun _ => (0, 0, 0, 0)) σ2 T 0 0 1000 1000 (by omega) (by omega) (by omega) (by omega) H2 ⟨e, g, q2 g, fun i hi => absurd hi (Nat.not_lt_zero i)⟩ (fun i hi => absurd hi (Nat.not_lt_zero i))
  have ec : fX0_street ex z o (σ, 0, 0) = fX0_street_12 ex z 1000 o (σ2, 0, 0) := by
    unfold fX0_street
    rw [P_t hob (by decide) (by show 8 < 19; decide)]
    show (cgA [0] 10 (g_u σ o (obC a (nI W.C.dr) (nI W.tn) (nI 0) (nI W.im) (nI W.I.dr)), 0, 0) o fun v2 => ccast [15] (g_u σ o (obC a (nI W.C.dr) (nI W.tn) (nI 0) (nI W.im) (nI W.I.dr)), 0, 0) v2 (gb (fJ2_clear ex z v2 (g_u σ o (obC a (nI W.C.dr) (nI W.tn) (nI 0) (nI W.im) (nI W.I.dr)), 0, 0)) (g_u σ o (obC a (nI W.C.dr) (nI W.tn) (nI 0) (nI W.im) (nI W.I.dr)), 0, 0) fun _ t4 => fX0_street_12 ex z 1000 o t4)) = _
    rw [A_t H1.2 (by decide) rfl, X_t hl (by decide)]
    rw [q1, gb_z]
  have em : fX3_street t = gm (fX3_readStreet_7 1000 (nI 0) (tx t 0 (t.1 17) (t.2.1 8))) (fun r1 t2 => gm (fX3_end r1 t2) fun r3 t4 => if 0 ≤ r3 then lt (setI t4 3 0) fun t5 => lt (setI t5 10 0) fun t6 => lt (setI t6 12 0) fun t7 => mast t7 0 63 61 0 fun t8 => mast t8 0 63 62 0 fun t9 => fX3_street_48 1000 0 t9 else some (r3, t4)) := by
    unfold fX3_street fX3_readStreet
    rw [tx_0]
    rfl
  rw [ec, em]
  rcases S with ⟨k, D, p', p2, f', σ3, T3, d1, d2, s1, s2, s3, s4, s5, s6, s7, s8, s9, s10⟩ | ⟨q, p', n', f', σ3, T3, d1, d2, s1, s2, s3, s4, s5, s6, s7, s8, s9⟩
  · obtain ⟨t', m1, m2⟩ := m_strt (D := D) (p := p') M s2 s4
    obtain ⟨σ4, T4, e1, e2, c1, c2, c3, c4, c5⟩ := c_strt (d2 := d2) O s2 s6 s7
    obtain ⟨e7, g7, L7, Lg⟩ := id s7
    rw [s3, gm_some, r_end1, gm_some, if_pos (by decide), m1, s5, c1]
    exact ⟨nI k, t', W.strt D k, σ4, T4, _, _, rfl, rfl, m2, c2, strt_OK O s2 (fun i hi => (Lg i hi).2.2.1), (K3.tr s8).tr c3, by omega, by omega⟩
  · rw [s4, gm_some, r_end0 M O s1 s2, gm_some, if_neg (neg20 (by omega)), s5]
    exact ⟨_, _, W.s_tn 0, σ3, T3, _, _, rfl, rfl, (M.tx _ _ _).tn0, s6, O.tn0, K3.tr s7, by omega, by omega⟩
end O9p
