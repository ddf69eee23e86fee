/-! course and skies -/
set_option maxRecDepth 100000
def Rc.crs (R : Rc) (k : Nat) (g : Nat → Nat) (w : Nat) : Rc := (Rc.mk (R.n) (k) ((fun x => if x < w then g x else R.d x)) (R.k) (R.h) (R.r) (R.s) (R.p) (R.f) (R.now) (R.sk) (R.mn) (R.he) (R.so))
def Rc.sks (R : Rc) (k : Nat) (g : Nat → Nat) (w m : Nat) : Rc := (Rc.mk (R.n) (R.W) (R.d) (R.k) (R.h) (R.r) (R.s) (R.p) (R.f) (R.now) ((fun x => if x < w then g x else R.sk x)) (m) (R.he) (R.so))
section O9f
variable {t : MS} {W : Wv} {σ : Sg} {T : Nat → Nat} {ex : Nat → Option Nat} {z o : Nat} {a : Nat → Nat}
theorem crs_d (R : Rc) (k : Nat) (g : Nat → Nat) (w x : Nat) : (R.crs k g (w + 1)).d x = up (R.crs k g w).d w (g w) x := by
  show (if x < w + 1 then g x else R.d x) = up (fun x => if x < w then g x else R.d x) w (g w) x
  by_cases h : x = w
  · subst h; rw [up_self, if_pos (by omega)]
  · rw [up_ne _ _ h]
    by_cases h2 : x < w
    · rw [if_pos h2, if_pos (by omega)]
    · rw [if_neg h2, if_neg (by omega)]
theorem m_crs {R : Rc} {k : Nat} {g : Nat → Nat} (hn : R.n ≤ 9) (hk : k ≤ 24) : ∀ (j w fuel : Nat) (t : MS), w + j = k → j < fuel → MR t (R.crs k g w) → (∀ q, q < k → t.2.1 8 q = nI (g q)) → ∃ t', fX3_course_29 fuel (nI w) t = (gm (fX3_allBack t') fun _ t2 => some (t2.1 4, t2)) ∧ MR t' (R.crs k g k) ∧ Sm t t'
  | 0, w, fuel, t, hj, hf, H, h8 => by
    obtain ⟨m, rfl⟩ : ∃ m, fuel = m + 1 := ⟨fuel - 1, by omega⟩
    obtain rfl : w = k := by omega
    rw [fX3_course_29, H.1.W, show (R.crs w g w).W = w from rfl, ifle w rfl rfl (by omega) (by omega), if_pos (Nat.le_refl _)]
    exact ⟨t, rfl, H, Sm.rf t⟩
  | j + 1, w, fuel, t, hj, hf, H, h8 => by
    obtain ⟨m, rfl⟩ : ∃ m, fuel = m + 1 := ⟨fuel - 1, by omega⟩
    rw [fX3_course_29, H.1.W, show (R.crs k g w).W = k from rfl, ifle w rfl rfl (by omega) (by omega), if_neg (by omega), mald_nI (by omega) (by decide), h8 w (by omega), mast_nI (by omega) (by decide), nI_1]
    have H1 : MR (setA t 0 w (nI (g w))) (R.crs k g (w + 1)) := (H.d1 (w := w) (v := g w) hn (by omega)).cong rfl rfl rfl (fun x _ => by rw [crs_d, Rc.s_d_d]) (fun _ _ => rfl) (fun _ _ => rfl) (fun _ _ => rfl) (fun _ _ => rfl) (fun _ _ => rfl) (fun _ _ => rfl) (fun _ _ => rfl) rfl rfl rfl
    obtain ⟨t', q1, q2, q3⟩ := m_crs hn hk j (w + 1) m _ (by omega) (by omega) H1 (fun q hq => by rw [setA_other t _ _ (show 8 ≠ 0 by decide)]; exact h8 q hq)
    exact ⟨t', q1, q2, (Sm.set t _ _).tr q3⟩
theorem c_crs {R : Rc} {k zz : Nat} {A : Ad} {g : Nat → Nat} (hk : k ≤ 24) (hg : ∀ q, q < k → g q < 128) (hA : A.r = a 0) (F : Fre T z) (hTo : T o = 1) (hTs : T (a 9) = 13) : ∀ (j w fuel : Nat) (σ : Sg), w + j = k → j < fuel → RT σ T 2 ex A (R.crs k g w) (-4) → SG σ a k g → (∃ dr ty at_ im idr, σ o = some (obC a dr ty at_ im idr)) → ∃ σ', fX0_course_26 ex zz fuel o (nI k) (nI w) (σ, 0, 0) = fX0_course_26 ex zz 1 o (nI k) (nI k) (σ', 0, 0) ∧ RT σ' T 2 ex A (R.crs k g k) (-4) ∧ Kp T σ T σ' (fun i => i ≠ 2)
  | 0, w, fuel, σ, hj, hf, H, S, ho => by
    obtain ⟨m, rfl⟩ : ∃ m, fuel = m + 1 := ⟨fuel - 1, by omega⟩
    obtain rfl : w = k := by omega
    refine ⟨σ, ?_, H, Kp.rf _ _ _⟩
    rw [fX0_course_26, fX0_course_26, ifle w rfl rfl (by omega) (by omega), if_pos (Nat.le_refl _), if_pos (nI_le (Nat.le_refl _) (by omega))]
  | j + 1, w, fuel, σ, hj, hf, H, S, ho => by
    obtain ⟨m, rfl⟩ : ∃ m, fuel = m + 1 := ⟨fuel - 1, by omega⟩
    obtain ⟨dr, ty, at_, im, idr, hob⟩ := ho
    obtain ⟨f, f1, f2⟩ := S
    obtain ⟨fd, hd, hfd⟩ := H.1.dl
    have h1 := hg w (by omega)
    obtain ⟨r1, r2⟩ := H.putD (z := z) (R' := R.crs k g (w + 1)) (f := upd fd w (nI (g w))) rfl rfl rfl (fun _ _ => rfl) (fun x hx => by
      rw [crs_d]
      by_cases hq : x = w
      · subst hq; rw [upd_at, up_self]
      · rw [upd_no _ _ hq, up_ne _ _ hq]; exact hfd x hx)
    have K1 := r2.kp0 F
    have hob' := (K1.at hTo (by decide) (by decide)).2.trans hob
    have f1' := (K1.at hTs (by decide) (by decide)).2.trans f1
    obtain ⟨σ', q1, q2, q3⟩ := c_crs (zz := zz) hk hg hA F hTo hTs j (w + 1) m _ (by omega) (by omega) r1 ⟨f, f1', f2⟩ ⟨dr, ty, at_, im, idr, hob'⟩
    refine ⟨σ', ?_, q2, K1.tr q3⟩
    rw [fX0_course_26, ifle w rfl rfl (by omega) (by omega), if_neg (show ¬ k ≤ w by omega), A_t hob (by decide) rfl, ← hA, A_t H.1.ra (by decide) rfl, A_t hob (by decide) rfl, ald_t f1 (by omega) (by decide), f2 w (by omega), ast_t hd (by omega) (by decide), nI_1, show vp_nar .byte (nI (g w)) = nI (g w) from byte_small h1]
    exact q1
theorem crs_OK {R : Rc} {k : Nat} {g : Nat → Nat} (O : R.OK) (h2 : 2 ≤ k) (hk : k ≤ 24) (hg : ∀ q, q < k → g q ≤ 12) : (R.crs k g k).back.OK := by
  have B := O.b
  refine ⟨⟨B.n, h2, hk, fun w hw => ?_, B.k, B.h, B.r0, B.r1, B.s, fun c _ => by show 0 < k; omega, B.now, B.sk, B.mn0, B.mn1⟩, fun c hc => ?_, fun c hc => Nat.zero_le _, O.he, O.so⟩
  · show (if w < k then g w else R.d w) ≤ 12
    by_cases h : w < k
    · rw [if_pos h]; exact hg w h
    · rw [if_neg h]; exact B.d w hw
  · show (0 : Nat) = 0 ↔ 0 ≠ k - 1
    omega
theorem b_course (M : MW t W) (H : CW σ T ex z o a W) (O : W.OK) : Both σ T ex z o a (fX3_course t) (fX0_course ex z o (σ, 0, 0)) := by
  obtain ⟨at_, hob⟩ := H.obj
  obtain ⟨s, r, -, -, -, -, hs, -⟩ := H.cn.2 1 (by decide) (by decide)
  have ht := O.tn
  have h9 := O.n
  obtain ⟨H1, K1⟩ := H.ca 0
  have e0 : setI (setI t 16 0) 17 0 = tx t 0 (nI 0) (t.2.1 8) := by rw [tx_0, tx_n]; rfl
  have S1 : SG (g_u σ o (obC a (nI W.C.dr) (nI W.tn) (nI 0) (nI W.im) (nI W.I.dr))) a 0 (fun _ => 0) := by
    obtain ⟨-, f, hf⟩ := H1.1.sg
    exact ⟨f, hf, fun q hq => absurd hq (Nat.not_lt_zero q)⟩
  have m := r_sg M O (i := 1) (lo := 2) (hi := 24) (x3 := 1) (Or.inr ⟨rfl, rfl⟩) (by decide) (by decide) W.tn 0 0 (fun _ => 0) (t.2.1 8) 1000 (by omega) (by omega) (by omega) (by omega) (fun q hq => absurd hq (Nat.not_lt_zero q))
  have c := c_sg (z := z) O (i := 1) (lo := 2) (hi := 24) (by decide) (by decide) hs (by decide) (by decide) W.tn 0 0 (fun _ => 0) _ 1000 (by omega) (by omega) (by omega) (by omega) H1 S1
  unfold fX3_course fX3_readSigns fX0_course fX0_readSigns
  simp only [lt]
  rw [e0, P_t hob (by decide) (by show 8 < 19; decide), hs]
  show Both _ _ _ _ _ _ (gm (fX3_readSigns_10 1000 (nI 2) (nI 24) 1 (tx t 0 (nI 0) (t.2.1 8))) _) (ccast [0] (g_u σ o (obC a (nI W.C.dr) (nI W.tn) (nI 0) (nI W.im) (nI W.I.dr)), 0, 0) o (gbT (fX0_readSigns_3 ex z 1000 o s (nI 2) (nI 24) (nI 0) (g_u σ o (obC a (nI W.C.dr) (nI W.tn) (nI 0) (nI W.im) (nI W.I.dr)), 0, 0)) (g_u σ o (obC a (nI W.C.dr) (nI W.tn) (nI 0) (nI W.im) (nI W.I.dr)), 0, 0) _ _))
  rw [X_t H1.2 (by decide)]
  rcases m with ⟨k, g, q, f', m1, m2, m3, m4⟩ | ⟨q, n', f', m1, m2, m3, m4⟩
  · rw [m1] at c
    rcases c with ⟨k2, g2, q2, σ2, c1, c2, c3, c4, c5⟩ | ⟨q2, b, σ2, T2, c1, -⟩
    · cases c1
      obtain ⟨hk2, hk24, hgl⟩ := sgF_ok (by decide) _ _ _ _ _ _ (by omega) (fun q hq => absurd hq (Nat.not_lt_zero q)) m1
      have hg12 : ∀ q, q < k → g q ≤ 12 := fun q hq => Nat.le_of_lt_succ (hgl q hq)
      obtain ⟨A, hA, R⟩ := c3.1.race
      -- the component
      obtain ⟨s1, s2⟩ := R.putR (z := z) (R' := W.C.R.crs k g 0) (al' := -4) (x := raC (W.C.R.crs k g 0) A (-4)) rfl (funext fun x => show (if x < 0 then g x else W.C.R.d x) = W.C.R.d x from if_neg (Nat.not_lt_zero x)) rfl (fun _ _ => rfl) rfl
      have hF := c3.1.fr
      have K3 := s2.kp0 hF
      have hob3 := (K3.at c3.1.ob.1 (by decide) (by decide)).2.trans c3.2
      have S3 : SG (g_u σ2 A.r (raC (W.C.R.crs k g 0) A (-4))) a k g := by
        obtain ⟨f, f1, f2⟩ := c4
        exact ⟨f, (K3.at c3.1.sg.1 (by decide) (by decide)).2.trans f1, f2⟩
      obtain ⟨σ4, x1, x2, x3⟩ := c_crs (zz := z) hk24 (fun q hq => by have := hg12 q hq; omega) hA hF c3.1.ob.1 c3.1.sg.1 k 0 1000 _ (by omega) (by omega) s1 S3 ⟨_, _, _, _, _, hob3⟩
      obtain ⟨σ5, b1, b2, b3⟩ := rt_beginsw (z := z) (cc := (0, 0)) x2 h9 O.ba.k (fun c hc => by
        have h1 := O.c.r.f1 c hc
        have h2 := O.ba.now
        show W.C.R.f c < _
        omega)
      have K4 := K3.tr x3
      have K5 := K4.tr (b3.kp0 hF)
      have H5 : CW σ5 T ex z o a (W.s_C (Co.mk ((W.C.R.crs k g k).back) (W.C.bn) (W.C.bc) (W.C.bs) (W.C.un) (W.C.uk) (W.C.uw) (W.C.ua) (W.C.dr))) := c3.1.u_rc (W' := W.s_C (Co.mk ((W.C.R.crs k g k).back) (W.C.bn) (W.C.bc) (W.C.bs) (W.C.un) (W.C.uk) (W.C.uw) (W.C.ua) (W.C.dr))) hF K5 ⟨by decide, A, hA, b2⟩ rfl rfl rfl rfl rfl rfl rfl rfl rfl rfl rfl rfl rfl rfl rfl rfl rfl rfl rfl rfl rfl rfl rfl
      have Hu := PUns.il.mp H5.un
      obtain ⟨mc, e, hl⟩ := Hu.li
      have hun := O.c.un
      obtain ⟨σ6, u1, u2, u3⟩ := Hu.clear (z := z) (by show W.C.un ≤ 160; omega) z
      have H6 : CW σ6 T ex z o a (W.s_C (Co.mk ((W.C.R.crs k g k).back) (W.C.bn) (W.C.bc) (W.C.bs) (0) (W.C.uk) (W.C.uw) (W.C.ua) (W.C.dr))) := H5.u_un (W' := W.s_C (Co.mk ((W.C.R.crs k g k).back) (W.C.bn) (W.C.bc) (W.C.bs) (0) (W.C.uk) (W.C.uw) (W.C.ua) (W.C.dr))) H5.fr (u3.kp0 H5.fr) (u2 _) rfl rfl rfl rfl rfl rfl rfl rfl rfl rfl rfl rfl rfl rfl rfl rfl rfl rfl rfl rfl
      obtain ⟨x, y1, y2, y3⟩ := cw_tn0 H6
      obtain ⟨at4, hob4⟩ : ∃ at4, σ4 o = some (obC a (nI W.C.dr) (nI W.tn) at4 (nI W.im) (nI W.I.dr)) := ⟨_, (K4.at c3.1.ob.1 (by decide) (by decide)).2.trans c3.2⟩
      obtain ⟨at5, hob5⟩ := H5.obj
      have ec : (true, Sum.inr (1, [Value.int (nI W.C.R.W), Value.ref A.d, Value.ref A.l, Value.int (nI W.C.R.now), Value.ref A.s, Value.int (nI W.C.R.mn), Value.int (-4), Value.int (nI W.C.R.he), Value.int (nI W.C.R.so)].set 0 (.int (nI k)))) = raC (W.C.R.crs k g 0) A (-4) := rfl
      rw [c2, gbT_l, A_t c3.2 (by decide) rfl, ← hA, P_t R.1.ra (by decide) (by show 0 < 9; decide), ec, show (0 : Int32) = nI 0 from rfl, x1, fX0_course_26, if_pos (nI_le (Nat.le_refl _) (by omega)), A_t hob4 (by decide) rfl, ← hA, X_t x2.1.ra (by decide)]
      simp only [Nat.add_zero]
      rw [b1, gb_z, A_t hob5 (by decide) rfl, X_t hl (by decide)]
      simp only [Nat.add_zero]
      rw [u1, gb_z, show (nI 0 : Int32) = 0 from rfl, y1]
      -- the reference
      rw [show (nI 0 : Int32) = 0 from rfl] at m2
      rw [m2, gm_some, r_end1, gm_some, if_pos (by decide)]
      have M4 : MW (setI (tx t q (nI k) f') 15 0) (W.s_tn 0) := (M.tx q (nI k) f').tn0
      have R0 : MR (setI (setI (tx t q (nI k) f') 15 0) 4 (nI k)) (W.C.R.crs k g 0) := by
        have b := M4.c.r
        refine ⟨⟨b.1.n, setI_at _ _ _, b.1.mn, fun w hw => ?_, b.1.h, b.1.s, b.1.p, b.1.now, b.1.he, b.1.so, b.1.k, b.1.r, b.1.sk⟩, b.2⟩
        show _ = nI (if w < 0 then g w else W.C.R.d w)
        rw [if_neg (Nat.not_lt_zero w)]
        exact b.1.d w hw
      obtain ⟨t7, z1, z2, z3⟩ := m_crs h9 hk24 k 0 1000 _ (by omega) (by omega) R0 (fun q hq => m3 q hq)
      obtain ⟨t8, v1, v2, v3⟩ := m_allBackw z2 h9
      have z1' : fX3_course_29 1000 0 (setI (setI (tx t q (nI k) f') 15 0) 4 (nI k)) = (gm (fX3_allBack t7) fun _ t2 => some (t2.1 4, t2)) := z1
      rw [show (setI (tx t q (nI k) f') 15 0).1 17 = nI k from rfl, z1', v1, gm_some]
      have S8 := z3.tr v3
      have hr8 : ∀ i, i ≠ 4 → t8.1 i = (setI (tx t q (nI k) f') 15 0).1 i := fun i hi => by rw [S8.1]; exact upd_no _ _ hi
      have ha8 : ∀ j, j ≠ 0 → t8.2.1 j = (setI (tx t q (nI k) f') 15 0).2.1 j := fun j hj => S8.2.1 j hj
      have M8 : MW (setI t8 12 0) ((W.s_C (Co.mk ((W.C.R.crs k g k).back) (W.C.bn) (W.C.bc) (W.C.bs) (0) (W.C.uk) (W.C.uw) (W.C.ua) (W.C.dr))).s_tn 0) := by
        refine ⟨⟨v2.i1 (by decide) (by decide) (by decide), ?_, ?_, setI_at _ _ _, (fun u hu => absurd hu (Nat.not_lt_zero u)), ?_⟩, ?_, ?_, ?_, ?_, (fun i hi => absurd hi (Nat.not_lt_zero i)), ?_⟩
        · exact (hr8 10 (by decide)).trans M4.c.bn
        · show ∀ b, b < W.C.bn → t8.2.1 4 b = _ ∧ t8.2.1 5 b = _
          rw [ha8 4 (by decide), ha8 5 (by decide)]; exact M4.c.b
        · exact (hr8 13 (by decide)).trans M4.c.dr
        · exact (hr8 7 (by decide)).trans M4.sky
        · exact (hr8 21 (by decide)).trans M4.im
        · show W.im = 1 → ∃ t0, MCo t0 W.I ∧ ∀ k, k < 141 → t8.2.1 11 k = carr t0 k
          rw [ha8 11 (by decide)]; exact M4.kp
        · exact (hr8 15 (by decide)).trans M4.tn
        · show ∀ i, i < 4 → t8.2.1 12 i = lnI (W.sl i) ∧ (W.sl i ≠ 0 → t8.2.1 13 i = nI (W.sz i) ∧ ∀ j, j < W.sz i → t8.2.2 0 (24 * i + j) = W.it i j)
          rw [ha8 12 (by decide), ha8 13 (by decide), S8.2.2]; exact M4.s
      refine Both.put (W' := (W.s_C (Co.mk ((W.C.R.crs k g k).back) (W.C.bn) (W.C.bc) (W.C.bs) (0) (W.C.uk) (W.C.uw) (W.C.ua) (W.C.dr))).s_tn 0) (nI k) ?_ rfl M8 y2 ?_ ((((K1.sub (fun i h => by rw [h]; decide)).tr (c5.sub (fun i h => by rw [h]; decide))).tr (K5.sub (fun i h => by rw [h]; decide))).tr (((u3.kp0 H5.fr).sub (fun i h => by rw [h]; decide)).tr (y3.sub (fun i h => by rw [h]; decide))))
      · rw [show (setI t8 12 0).1 4 = nI k from v2.1.W]
      · have C := O.c
        exact ⟨⟨crs_OK C.r hk2 hk24 hg12, C.now, C.bn, C.b, Nat.zero_le _, fun u hu => absurd hu (Nat.not_lt_zero u), C.dr⟩, O.i, O.im, Nat.zero_le _, fun i hi => absurd hi (Nat.not_lt_zero i), O.s⟩
    · cases c1
  · rw [m1] at c
    rcases c with ⟨k2, g2, q2, σ2, c1, -⟩ | ⟨q2, b, σ2, T2, c1, c2, c3, c4, c5⟩
    · cases c1
    · cases c1
      obtain ⟨x, y1, y2, y3⟩ := cw_tn0 c3
      rw [show (nI 0 : Int32) = 0 from rfl] at m2
      rw [c2, gbT_r, cif_t c4, if_pos rfl]
      unfold fX0_course_76
      rw [I_t c4 (by decide) rfl]
      simp only [lt]
      rw [y1, show (nI 0 : Int32) = 0 from rfl, m2, gm_some, r_end0 M O m3 m4, gm_some, if_neg (neg20 (by omega))]
      exact ⟨_, _, W.s_tn 0, _, _, 0 + 1, 0 + 7, rfl, rfl, (M.tx _ _ _).tn0, by rw [Nat.zero_add]; exact y2, O.tn0, ((K1.sub (fun i h => by rw [h]; decide)).tr (c5.sub (fun i h => by rw [h]; decide))).tr (y3.sub (fun i h => by rw [h]; decide)), by omega, by omega⟩
end O9f
