/-! skies -/
set_option maxRecDepth 100000
section O9g
variable {t : MS} {W : Wv} {σ : Sg} {T : Nat → Nat} {ex : Nat → Option Nat} {z o : Nat} {a : Nat → Nat}
theorem RT.putS {A : Ad} {R R' : Rc} {al : Int32} {k : Nat} (H : RT σ T k ex A R al) (e1 : R'.n = R.n) (er : raC R' A al = raC R A al) (ed : R'.d = R.d) (hk : ∀ i, i < R.n → ckC R' i = ckC R i) {f : Nat → Int32} (hf : ∀ j, j < 12 → f j = nI (R'.sk j)) : RT (g_u σ A.s (true, .inl (0, 12, .inl f))) T k ex A R' al ∧ Ow T k σ z (g_u σ A.s (true, .inl (0, 12, .inl f))) z := by
  obtain ⟨h1, h2, h3, h4, h5, h6⟩ := H
  refine ⟨⟨⟨?_, ?_, ?_, ?_, ?_, ?_⟩, h2, h3, h4, ?_, by rw [e1]; exact h6⟩, Ow.put h4 _⟩
  · rw [g_u_ne _ _ h1.r_s, er]; exact h1.ra
  · rw [g_u_ne _ _ h1.d_s, ed]; exact h1.dl
  · rw [g_u_self]; exact ⟨f, rfl, hf⟩
  · rw [g_u_ne _ _ h1.s_l.symm, e1]; exact h1.li
  · rw [g_u_ne _ _ h1.s_e.symm, e1]; exact h1.el
  · intro i hi
    rw [e1] at hi
    rw [g_u_ne _ _ (h1.ca_s hi), hk i hi]; exact h1.ck i hi
  · rw [e1]
    exact h5.keep (g_u_ne _ _ h1.s_l.symm) (g_u_ne _ _ h1.s_e.symm)
def MRo (t : MS) (R : Rc) : Prop := (t.1 3 = nI R.n) ∧ (t.1 4 = nI R.W) ∧ (∀ w, w < 24 → t.2.1 0 w = nI (R.d w)) ∧ (∀ c, c < R.n → t.2.1 0 (24 + c) = nI (R.h c)) ∧ (∀ c, c < R.n → t.2.1 0 (33 + c) = nI (R.s c)) ∧ (∀ c, c < R.n → t.2.1 0 (42 + c) = nI (R.p c)) ∧ (t.2.1 0 60 = nI R.now) ∧ (t.2.1 0 61 = nI R.he) ∧ (t.2.1 0 62 = nI R.so) ∧ (∀ c, c < R.n → t.2.1 1 c = nI (R.k c)) ∧ (∀ c, c < R.n → t.2.1 2 c = Int32.ofInt (R.r c)) ∧ MRf t R
theorem MRo.sk {R : Rc} {k : Nat} {g : Nat → Nat} {w : Nat} (H : MRo t R) (h6 : t.1 6 = nI k) (hs : ∀ x, x < 12 → t.2.1 3 x = nI (if x < w then g x else R.sk x)) : MR t (R.sks k g w k) := by
  obtain ⟨h1, h2, h3, h4, h5, h7, h8, h9, h10, h11, h12, h13⟩ := H
  exact ⟨⟨h1, h2, h6, h3, h4, h5, h7, h8, h9, h10, h11, h12, hs⟩, h13⟩
theorem MRo.of {R : Rc} (H : MR t R) : MRo t R := ⟨H.1.n, H.1.W, H.1.d, H.1.h, H.1.s, H.1.p, H.1.now, H.1.he, H.1.so, H.1.k, H.1.r, H.2⟩
theorem MRo.put {R : Rc} {w : Nat} {v : Int32} (H : MRo t R) : MRo (setA t 3 w v) R := by
  have a0 : (setA t 3 w v).2.1 0 = t.2.1 0 := setA_other t _ _ (by decide)
  have a1 : (setA t 3 w v).2.1 1 = t.2.1 1 := setA_other t _ _ (by decide)
  have a2 : (setA t 3 w v).2.1 2 = t.2.1 2 := setA_other t _ _ (by decide)
  have ei : (setA t 3 w v).1 = t.1 := rfl
  unfold MRo MRf at *
  rw [a0, a1, a2, ei]
  exact H
theorem m_sks {R : Rc} {k : Nat} {g : Nat → Nat} (hk : k ≤ 12) : ∀ (j w fuel : Nat) (t : MS), w + j = k → j < fuel → MRo t R → t.1 6 = nI k → (∀ x, x < 12 → t.2.1 3 x = nI (if x < w then g x else R.sk x)) → (∀ q, q < k → t.2.1 8 q = nI (g q)) → ∃ t', fX3_skies_29 fuel (nI w) t = some (nI k, t') ∧ MRo t' R ∧ (∀ x, x < 12 → t'.2.1 3 x = nI (if x < k then g x else R.sk x)) ∧ t'.1 = t.1 ∧ (∀ j, j ≠ 3 → t'.2.1 j = t.2.1 j) ∧ t'.2.2 = t.2.2 := by
  intro j
  induction j with
  | zero =>
    intro w fuel t hj hf H e6 hs h8
    obtain ⟨m, rfl⟩ : ∃ m, fuel = m + 1 := ⟨fuel - 1, by omega⟩
    obtain rfl : w = k := by omega
    rw [fX3_skies_29, e6, ifle w rfl rfl (by omega) (by omega), if_pos (Nat.le_refl _)]
    exact ⟨t, rfl, H, hs, rfl, fun _ _ => rfl, rfl⟩
  | succ j ih =>
    intro w fuel t hj hf H e6 hs h8
    obtain ⟨m, rfl⟩ : ∃ m, fuel = m + 1 := ⟨fuel - 1, by omega⟩
    rw [fX3_skies_29, e6, ifle w rfl rfl (by omega) (by omega), if_neg (by omega), mald_nI (by omega) (by decide), h8 w (by omega), mast_nI (by omega) (by decide), nI_1]
    have hs1 : ∀ x, x < 12 → (setA t 3 w (nI (g w))).2.1 3 x = nI (if x < w + 1 then g x else R.sk x) := fun x hx => by
      rw [setA_same]
      by_cases h : x = w
      · subst h; rw [upd_at, if_pos (by omega)]
      · rw [upd_no _ _ h, hs x hx]
        by_cases h2 : x < w
        · rw [if_pos h2, if_pos (by omega)]
        · rw [if_neg h2, if_neg (by omega)]
    have h8' : ∀ q, q < k → (setA t 3 w (nI (g w))).2.1 8 q = nI (g q) := fun q hq => by rw [setA_other t _ _ (show 8 ≠ 3 by decide)]; exact h8 q hq
    obtain ⟨t', q1, q2, q3, q4, q5, q6⟩ := ih (w + 1) m (setA t 3 w (nI (g w))) (by omega) (by omega) H.put e6 hs1 h8'
    exact ⟨t', q1, q2, q3, q4, fun j hj => (q5 j hj).trans (setA_other t _ _ hj), q6⟩
theorem b_skies (M : MW t W) (H : CW σ T ex z o a W) (O : W.OK) : Both σ T ex z o a (fX3_skies t) (fX0_skies ex z o (σ, 0, 0)) := by
  obtain ⟨at_, hob⟩ := H.obj
  obtain ⟨s, r, -, -, -, -, hs, -⟩ := H.cn.2 2 (by decide) (by decide)
  have ht := O.tn
  have h9 := O.n
  obtain ⟨H1, K1⟩ := H.ca 0
  have e0 : setI (setI t 16 0) 17 0 = tx t 0 (nI 0) (t.2.1 8) := by rw [tx_0, tx_n]; rfl
  have S1 : SG (g_u σ o (obC a (nI W.C.dr) (nI W.tn) (nI 0) (nI W.im) (nI W.I.dr))) a 0 (fun _ => 0) := by
    obtain ⟨-, f, hf⟩ := H1.1.sg
    exact ⟨f, hf, fun q hq => absurd hq (Nat.not_lt_zero q)⟩
  have m := r_sg M O (i := 2) (lo := 1) (hi := 12) (x3 := 0) (Or.inl ⟨rfl, rfl⟩) (by decide) (by decide) W.tn 0 0 (fun _ => 0) (t.2.1 8) 1000 (by omega) (by omega) (by omega) (by omega) (fun q hq => absurd hq (Nat.not_lt_zero q))
  have c := c_sg (z := z) O (i := 2) (lo := 1) (hi := 12) (by decide) (by decide) hs (by decide) (by decide) W.tn 0 0 (fun _ => 0) _ 1000 (by omega) (by omega) (by omega) (by omega) H1 S1
  unfold fX3_skies fX3_readSigns fX0_skies fX0_readSigns
  simp only [lt]
  rw [e0, P_t hob (by decide) (by show 8 < 19; decide), hs]
  show Both _ _ _ _ _ _ (gm (fX3_readSigns_10 1000 (nI 1) (nI 12) 0 (tx t 0 (nI 0) (t.2.1 8))) _) (ccast [0] (g_u σ o (obC a (nI W.C.dr) (nI W.tn) (nI 0) (nI W.im) (nI W.I.dr)), 0, 0) o (gbT (fX0_readSigns_3 ex z 1000 o s (nI 1) (nI 12) (nI 0) (g_u σ o (obC a (nI W.C.dr) (nI W.tn) (nI 0) (nI W.im) (nI W.I.dr)), 0, 0)) (g_u σ o (obC a (nI W.C.dr) (nI W.tn) (nI 0) (nI W.im) (nI W.I.dr)), 0, 0) _ _))
  rw [X_t H1.2 (by decide)]
  rcases m with ⟨k, g, q, f', m1, m2, m3, m4⟩ | ⟨q, n', f', m1, m2, m3, m4⟩
  · rw [m1] at c
    rcases c with ⟨k2, g2, q2, σ2, c1, c2, c3, c4, c5⟩ | ⟨q2, b, σ2, T2, c1, -⟩
    · cases c1
      obtain ⟨hk2, hk12, hgl⟩ := sgF_ok (by decide) _ _ _ _ _ _ (by omega) (fun q hq => absurd hq (Nat.not_lt_zero q)) m1
      have hg3 : ∀ q, q < k → g q ≤ 3 := fun q hq => Nat.le_of_lt_succ (hgl q hq)
      obtain ⟨A, hA, R⟩ := c3.1.race
      obtain ⟨fs, f1, f2⟩ := c4
      obtain ⟨fk, d1, d2⟩ := R.1.sk
      obtain ⟨s1, s2⟩ := R.putS (z := z) (R' := W.C.R.sks k g k W.C.R.mn) (f := va_cpy fs fk 0 0 k) rfl rfl rfl (fun _ _ => rfl) (fun j hj => by
        show va_cpy fs fk 0 0 k j = nI (if j < k then g j else W.C.R.sk j)
        by_cases h : j < k
        · rw [va_cpy_in _ _ h, if_pos h, f2 j h]
        · unfold va_cpy; rw [if_neg (by omega), if_neg h, d2 j hj])
      obtain ⟨s3, s4⟩ := s1.putR (z := z) (R' := W.C.R.sks k g k k) (al' := -4) (x := raC (W.C.R.sks k g k k) A (-4)) rfl rfl rfl (fun _ _ => rfl) rfl
      have hF := c3.1.fr
      have K3 := s2.kp0 hF
      have K4 := K3.tr (s4.kp0 hF)
      have hob3 := (K3.at c3.1.ob.1 (by decide) (by decide)).2.trans c3.2
      have H5 : CW (g_u (g_u σ2 A.s (true, .inl (0, 12, .inl (va_cpy fs fk 0 0 k)))) A.r (raC (W.C.R.sks k g k k) A (-4))) T ex z o a (W.s_C (W.C.s_R (W.C.R.sks k g k k))) := c3.1.u_rc (W' := W.s_C (W.C.s_R (W.C.R.sks k g k k))) hF K4 ⟨by decide, A, hA, s3⟩ rfl rfl rfl rfl rfl rfl rfl rfl rfl rfl rfl rfl rfl rfl rfl rfl rfl rfl rfl rfl rfl rfl rfl
      obtain ⟨x, y1, y2, y3⟩ := cw_tn0 H5
      have ec : (true, Sum.inr (1, [Value.int (nI W.C.R.W), Value.ref A.d, Value.ref A.l, Value.int (nI W.C.R.now), Value.ref A.s, Value.int (nI W.C.R.mn), Value.int (-4), Value.int (nI W.C.R.he), Value.int (nI W.C.R.so)].set 5 (.int (nI k)))) = raC (W.C.R.sks k g k k) A (-4) := rfl
      rw [c2, gbT_l, A_t c3.2 (by decide) rfl, A_t c3.2 (by decide) rfl, ← hA, A_t R.1.ra (by decide) rfl, show (0 : Int32) = nI 0 from rfl, cpI_t f1 d1 (by omega) (by omega) (by decide) (by decide) (fun i hi => by rw [Nat.zero_add, f2 i hi]; exact fits_b (by have := hg3 i hi; omega)), A_t hob3 (by decide) rfl, ← hA, P_t s1.1.ra (by decide) (by show 5 < 9; decide)]
      show Both _ _ _ _ _ _ _ (cput [0] 7 (g_u (g_u σ2 A.s (true, .inl (0, 12, .inl (va_cpy fs fk 0 0 k)))) A.r (raC (W.C.R.sks k g k k) A (-4)), 0, 0) o (.int 0) fun t13 => some (nI k, t13))
      rw [y1]
      have m2' : fX3_readSigns_10 1000 (nI 1) (nI 12) (nI 0) (tx t 0 (nI 0) (t.2.1 8)) = some (1, tx t q (nI k) f') := m2
      rw [m2', gm_some, r_end1, gm_some]
      have M4 : MW (setI (tx t q (nI k) f') 15 0) (W.s_tn 0) := (M.tx q (nI k) f').tn0
      have q0 : MRo (setI (tx t q (nI k) f') 15 0) W.C.R := MRo.of M4.c.r
      have q1 : MRo (setI (setI (tx t q (nI k) f') 15 0) 6 (nI k)) W.C.R := q0
      obtain ⟨t7, z1, z20, z2s, z3, z4, z5⟩ := m_sks (R := W.C.R) (g := g) hk12 k 0 1000 (setI (setI (tx t q (nI k) f') 15 0) 6 (nI k)) (by omega) (by omega) q1 (setI_at _ _ _) (fun x hx => by rw [if_neg (Nat.not_lt_zero x)]; exact M4.c.r.1.sk x hx) (fun q hq => m3 q hq)
      have z2 : MR t7 (W.C.R.sks k g k k) := z20.sk (by rw [z3]; exact setI_at _ _ _) z2s
      have hr8 : ∀ i, i ≠ 6 → t7.1 i = (setI (tx t q (nI k) f') 15 0).1 i := fun i hi => by rw [z3]; exact upd_no _ _ hi
      have ha8 : ∀ j, j ≠ 3 → t7.2.1 j = (setI (tx t q (nI k) f') 15 0).2.1 j := fun j hj => z4 j hj
      have M8 : MW t7 ((W.s_C (W.C.s_R (W.C.R.sks k g k k))).s_tn 0) := by
        refine ⟨⟨z2, ?_, ?_, ?_, ?_, ?_⟩, ?_, ?_, ?_, ?_, (fun i hi => absurd hi (Nat.not_lt_zero i)), ?_⟩
        · exact (hr8 10 (by decide)).trans M4.c.bn
        · rw [ha8 4 (by decide), ha8 5 (by decide)]; exact M4.c.b
        · exact (hr8 12 (by decide)).trans M4.c.un
        · rw [ha8 6 (by decide)]; exact M4.c.u
        · exact (hr8 13 (by decide)).trans M4.c.dr
        · exact (hr8 7 (by decide)).trans M4.sky
        · exact (hr8 21 (by decide)).trans M4.im
        · rw [ha8 11 (by decide)]; exact M4.kp
        · exact (hr8 15 (by decide)).trans M4.tn
        · rw [ha8 12 (by decide), ha8 13 (by decide), z5]; exact M4.s
      refine Both.put (W' := (W.s_C (W.C.s_R (W.C.R.sks k g k k))).s_tn 0) (nI k) ?_ rfl M8 y2 ?_ ((((K1.sub (fun i h => by rw [h]; decide)).tr (c5.sub (fun i h => by rw [h]; decide))).tr (K4.sub (fun i h => by rw [h]; decide))).tr (y3.sub (fun i h => by rw [h]; decide)))
      · show (if (0 : Int32) ≤ 0 then fX3_skies_29 1000 (nI 0) (setI (setI (tx t q (nI k) f') 15 0) 6 (nI k)) else _) = _
        rw [if_pos (by decide), z1]
      · have C := O.c
        have B := C.r.b
        have O2 : (W.s_C (W.C.s_R (W.C.R.sks k g k k))).OK := O.race (R' := W.C.R.sks k g k k) ⟨⟨B.n, B.W0, B.W1, B.d, B.k, B.h, B.r0, B.r1, B.s, B.p, B.now, fun j hj => by
          show (if j < k then g j else W.C.R.sk j) ≤ 3
          by_cases h : j < k
          · rw [if_pos h]; exact hg3 j h
          · rw [if_neg h]; exact B.sk j hj, hk2, hk12⟩, C.r.2.1, C.r.2.2.1, C.r.2.2.2.1, C.r.2.2.2.2⟩ C.now rfl rfl
        exact O2.tn0
    · cases c1
  · rw [m1] at c
    rcases c with ⟨k2, g2, q2, σ2, c1, -⟩ | ⟨q2, b, σ2, T2, c1, c2, c3, c4, c5⟩
    · cases c1
    · cases c1
      obtain ⟨x, y1, y2, y3⟩ := cw_tn0 c3
      rw [show (nI 0 : Int32) = 0 from rfl] at m2
      rw [c2, gbT_r, cif_t c4, if_pos rfl]
      unfold fX0_skies_50
      rw [I_t c4 (by decide) rfl]
      simp only [lt]
      rw [y1, show (nI 0 : Int32) = 0 from rfl, m2, gm_some, r_end0 M O m3 m4, gm_some, if_neg (neg20 (by omega))]
      exact ⟨_, _, W.s_tn 0, _, _, 0 + 1, 0 + 7, rfl, rfl, (M.tx _ _ _).tn0, by rw [Nat.zero_add]; exact y2, O.tn0, ((K1.sub (fun i h => by rw [h]; decide)).tr (c5.sub (fun i h => by rw [h]; decide))).tr (y3.sub (fun i h => by rw [h]; decide)), by omega, by omega⟩
end O9g
