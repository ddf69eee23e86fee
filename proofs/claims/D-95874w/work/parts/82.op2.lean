/-! calls that write a little: helpers; paint, seed, settle, hour, type -/
set_option maxRecDepth 100000
theorem setI_at (t : MS) (k : Nat) (v : Int32) : (setI t k v).1 k = v := by simp [setI, upd]
section O2
variable {t t' : MS} {W : Wv} {σ σ' : Sg} {T : Nat → Nat} {ex : Nat → Option Nat} {z o : Nat} {a : Nat → Nat}
theorem MW.race {R' : Rc} (M : MW t W) (h : Sm t t') (hr : MR t' R') : MW t' (W.s_C (W.C.s_R R')) := by
  obtain ⟨h1, h2, h3⟩ := h
  refine ⟨⟨hr, ?_, ?_, ?_, ?_, ?_⟩, ?_, ?_, ?_, ?_, ?_, ?_⟩
  · rw [h1]; exact M.c.bn
  · rw [h2 4 (by decide), h2 5 (by decide)]; exact M.c.b
  · rw [h1]; exact M.c.un
  · rw [h2 6 (by decide)]; exact M.c.u
  · rw [h1]; exact M.c.dr
  · rw [h1]; exact M.sky
  · rw [h1]; exact M.im
  · rw [h2 11 (by decide)]; exact M.kp
  · rw [h1]; exact M.tn
  · rw [h2 7 (by decide)]; exact M.tp
  · rw [h2 12 (by decide), h2 13 (by decide), h3]; exact M.s
theorem UnOK.cong {R R' : Rc} {k w : Nat} {v : Int} (h : UnOK R k w v) (h1 : R'.n = R.n) (h2 : R'.W = R.W) : UnOK R' k w v := by
  unfold UnOK at h ⊢; rw [h1, h2]; exact h
theorem Wv.OK.race {R' : Rc} (O : W.OK) (hr : R'.OK) (hw : R'.now ≤ 9999) (h1 : R'.n = W.C.R.n) (h2 : R'.W = W.C.R.W) : (W.s_C (W.C.s_R R')).OK := by
  have C := O.c
  exact ⟨⟨hr, hw, C.bn, fun b hb => by have := C.b b hb; show _ < R'.n ∧ _; rw [h1]; exact this, C.un, fun u hu => (C.u u hu).cong h1 h2, C.dr⟩, O.i, O.im, O.tn, O.tp, O.s⟩
theorem CW.rc0 {R' : Rc} {A : Ad} (H : CW σ T ex z o a W) (hA : A.r = a 0) (hR : RT σ' T 2 ex A R' (-4)) (h : Ow T 2 σ z σ' z) : CW σ' T ex z o a (W.s_C (W.C.s_R R')) :=
  H.u_rc H.fr (h.kp0 H.fr) ⟨by decide, A, hA, hR⟩ rfl rfl rfl rfl rfl rfl rfl rfl rfl rfl rfl rfl rfl rfl rfl rfl rfl rfl rfl rfl rfl rfl rfl
/-- nothing is made -/
theorem Both.put {fm : Option (Int32 × MS)} {fc : Option (Int32 × St)} {W' : Wv} (v : Int32) (h1 : fm = some (v, t')) (h2 : fc = some (v, (σ', 0, 0))) (M : MW t' W') (H : CW σ' T ex z o a W') (O : W'.OK) (k : Kp T σ T σ' (fun i => i = 50)) : Both σ T ex z o a fm fc := ⟨v, t', W', σ', T, 0, 0, h1, h2, M, H, O, k, by omega, by omega⟩
theorem Ow.k50 {k z' : Nat} (h : Ow T k σ z σ' z') (F : Fre T z) (hk : k ≠ 50) : Kp T σ (ext T z z' k) σ' (fun i => i = 50) := (h.kp F).sub (fun i hi => by rw [hi]; exact fun x => hk x.symm)
theorem Ow.k50' {k : Nat} (h : Ow T k σ z σ' z) (F : Fre T z) (hk : k ≠ 50) : Kp T σ T σ' (fun i => i = 50) := (h.kp0 F).sub (fun i hi => by rw [hi]; exact fun x => hk x.symm)
theorem RT.putD {A : Ad} {R R' : Rc} {al : Int32} {k : Nat} (H : RT σ T k ex A R al) (e1 : R'.n = R.n) (er : raC R' A al = raC R A al) (es : R'.sk = R.sk) (hk : ∀ i, i < R.n → ckC R' i = ckC R i) {f : Nat → Int32} (hf : ∀ w, w < 24 → f w = nI (R'.d w)) : RT (g_u σ A.d (true, .inl (0, 24, .inl f))) T k ex A R' al ∧ Ow T k σ z (g_u σ A.d (true, .inl (0, 24, .inl f))) z := by
  obtain ⟨h1, h2, h3, h4, h5, h6⟩ := H
  refine ⟨⟨h1.putD e1 er es hk hf, h2, h3, h4, ?_, by rw [e1]; exact h6⟩, Ow.put h3 _⟩
  rw [e1]
  exact h5.keep (g_u_ne _ _ h1.d_l.symm) (g_u_ne _ _ h1.d_e.symm)
theorem RT.putR {A : Ad} {R R' : Rc} {al al' : Int32} {k : Nat} (H : RT σ T k ex A R al) (e1 : R'.n = R.n) (ed : R'.d = R.d) (es : R'.sk = R.sk) (hk : ∀ i, i < R.n → ckC R' i = ckC R i) {x : Bool × va_E} (hx : x = raC R' A al') : RT (g_u σ A.r x) T k ex A R' al' ∧ Ow T k σ z (g_u σ A.r x) z := by
  obtain ⟨h1, h2, h3, h4, h5, h6⟩ := H
  refine ⟨⟨h1.putR e1 ed es hk hx, h2, h3, h4, ?_, by rw [e1]; exact h6⟩, Ow.put h2 _⟩
  rw [e1]
  exact h5.keep (g_u_ne _ _ h1.r_l.symm) (g_u_ne _ _ h1.r_e.symm)
theorem RT.putC {A : Ad} {R R' : Rc} {al : Int32} {k c : Nat} (H : RT σ T k ex A R al) (B : R.Ba) (hc : c < R.n) (e1 : R'.n = R.n) (er : raC R' A al = raC R A al) (ed : R'.d = R.d) (es : R'.sk = R.sk) (hk : ∀ i, i < R.n → i ≠ c → ckC R' i = ckC R i) {x : Bool × va_E} (hx : x = ckC R' c) : RT (g_u σ (A.ca c) x) T k ex A R' al ∧ Ow T k σ z (g_u σ (A.ca c) x) z := by
  obtain ⟨h1, h2, h3, h4, h5, h6⟩ := H
  refine ⟨⟨h1.putC B hc e1 er ed es hk hx, h2, h3, h4, ?_, by rw [e1]; exact h6⟩, Ow.put (h6 c hc) _⟩
  rw [e1]
  exact h5.keep (g_u_ne _ _ (h1.ca_l B hc).symm) (g_u_ne _ _ (h1.ca_e hc).symm)
/-- what changes in a race's array 0 -/
theorem MR.d1 {R : Rc} {w v : Nat} (H : MR t R) (hn : R.n ≤ 9) (hw : w < 24) : MR (setA t 0 w (nI v)) (R.s_d (up R.d w v)) := by
  refine ⟨H.1.put rfl rfl rfl rfl rfl rfl ?_ ?_ ?_ ?_ ?_ ?_ ?_, ?_⟩
  · intro x hx
    rw [Rc.s_d_d]
    by_cases hq : x = w
    · subst hq; rw [upd_at, up_self]
    · rw [upd_no _ _ hq, up_ne _ _ hq]; exact H.1.d x hx
  · intro c hc; rw [upd_no _ _ (by omega)]; exact H.1.h c hc
  · intro c hc; rw [upd_no _ _ (by omega)]; exact H.1.s c hc
  · intro c hc; rw [upd_no _ _ (by omega)]; exact H.1.p c hc
  · rw [upd_no _ _ (by omega)]; exact H.1.now
  · rw [upd_no _ _ (by omega)]; exact H.1.he
  · rw [upd_no _ _ (by omega)]; exact H.1.so
  · intro c hc; rw [setA_same, upd_no _ _ (by omega)]; exact H.2 c hc
theorem Rc.OK.d1 {R : Rc} (O : R.OK) {w v : Nat} (hv : v ≤ 12) : (R.s_d (up R.d w v)).OK := by
  refine ⟨O.b.c_d (fun x hx => ?_), O.f, O.f1, O.he, O.so⟩
  unfold up; split
  · exact hv
  · exact O.b.d x hx
theorem b_paint (M : MW t W) (H : CW σ T ex z o a W) (O : W.OK) (x1 x2 : Int32) : Both σ T ex z o a (fX3_paint x1 x2 t) (fX0_paint ex z o x1 x2 (σ, 0, 0)) := by
  obtain ⟨A, hA, R⟩ := H.race
  obtain ⟨at_, hob⟩ := H.obj
  have hW := O.ba.W1
  have hn := O.n
  unfold fX3_paint fX0_paint
  rw [X_t hob (by decide)]
  by_cases h : ∃ i, i < W.C.R.W ∧ x1 = nI i
  · obtain ⟨i, hi, rfl⟩ := h
    rw [m_win1 M O hi, gm_some, if_neg n10, c_win1 H O hi, gb_two, if_neg n10]
    by_cases h : ∃ c, 0 ≤ c ∧ c ≤ 12 ∧ x2 = nI c
    · obtain ⟨v, -, hv, rfl⟩ := h
      obtain ⟨f, hd, hf⟩ := R.1.dl
      rw [m_iL1 0 12 t (by omega) hv (by decide), gm_some, if_neg n10, c_iL1 0 12 _ (by omega) hv (by decide), gb_two, if_neg n10, A_t hob (by decide) rfl, ← hA, A_t R.1.ra (by decide) rfl, ald_t hd (by omega) (by decide), A_t hob (by decide) rfl, ← hA, A_t R.1.ra (by decide) rfl, ast_t hd (by omega) (by decide), nar_byte (by omega), hf i (by omega), mald_nI (by omega) (by decide), M.c.r.1.d i (by omega), mast_nI (by omega) (by decide)]
      obtain ⟨r1, r2⟩ := R.putD (z := z) (R' := W.C.R.s_d (up W.C.R.d i v)) (f := upd f i (nI v)) rfl rfl rfl (fun j hj => rfl) (fun x hx => by
        rw [Rc.s_d_d]
        by_cases hq : x = i
        · subst hq; rw [upd_at, up_self]
        · rw [upd_no _ _ hq, up_ne _ _ hq]; exact hf x hx)
      exact Both.put _ rfl rfl (M.race (Sm.set t _ _) (M.c.r.d1 hn (by omega))) (H.rc0 hA r1 r2) (O.race (O.c.r.d1 hv) O.c.now rfl rfl) (r2.k50' H.fr (by decide))
    · rw [m_iL0 0 12 t (by omega) (by decide) h, gm_some, if_pos rfl, c_iL0 0 12 _ (by omega) (by decide) h, gb_two, if_pos rfl]
      exact Both.same M H O _ rfl rfl
  · rw [m_win0 M O h, gm_some, if_pos rfl, c_win0 H O h, gb_two, if_pos rfl]
    exact Both.same M H O _ rfl rfl
/-- the weather now -/
theorem m_skyNow {R : Rc} (H : MRb t R) (B : R.Ba) (hs : t.1 7 = -1) : fX3_skyNow t = some (nI (R.sk (R.now % R.mn)), t) := by
  have h0 := B.mn0
  have h1 := B.mn1
  have hnow := B.now
  have hlt : R.now % R.mn < 12 := Nat.lt_of_lt_of_le (Nat.mod_lt _ (by omega)) h1
  unfold fX3_skyNow
  rw [hs, if_pos (by decide), ilit 60, mald_nI (by decide) (by decide), H.now, H.mn, if_neg (nI_ne0 (by omega) (by omega)), pk_rem' R.mn (by omega) (by omega) (by omega), mald_nI hlt (by decide), H.sk _ hlt]
def Rc.sky (R : Rc) : Nat := R.sk (R.now % R.mn)
theorem Rc.sky_lt {R : Rc} (B : R.Ba) : R.sky < 4 := by
  have h0 := B.mn0
  have h1 := B.mn1
  have := B.sk (R.now % R.mn) (Nat.lt_of_lt_of_le (Nat.mod_lt _ (by omega)) h1)
  unfold Rc.sky; omega
theorem Rc.sky_of (R : Rc) : skyOf R (-4) R.sky := Or.inl ⟨rfl, rfl⟩
theorem b_hour (M : MW t W) (H : CW σ T ex z o a W) (O : W.OK) : Both σ T ex z o a (fX3_hour t) (fX0_hour ex z o (σ, 0, 0)) := by
  obtain ⟨A, hA, R⟩ := H.race
  obtain ⟨at_, hob⟩ := H.obj
  have B := O.ba
  have hnow := O.c.now
  unfold fX3_hour fX0_hour
  rw [ilit 60, mald_nI (by decide) (by decide), M.c.r.1.now, A_t hob (by decide) rfl, ← hA, I_t R.1.ra (by decide) rfl, ifl 9999 (by omega) (by decide), ifl 9999 (by omega) (by decide)]
  by_cases h : W.C.R.now = 9999
  · rw [if_pos h, if_pos h]
    exact Both.same M H O _ rfl rfl
  · rw [if_neg h, if_neg h, m_skyNow M.c.r.1 B M.sky, gm_some]
    obtain ⟨t1, q1, q2, q3⟩ := m_goOn M.c.r O.c.r (by omega) (Rc.sky_lt B)
    obtain ⟨σ1, p1, p2, p3⟩ := rt_go (z := z) R O.c.r (Rc.sky_lt B) (Rc.sky_of W.C.R) (c := (0, 0))
    have q1' : fX3_goOn (nI (W.C.R.sk (W.C.R.now % W.C.R.mn))) t = some (nI (W.C.R.goN W.C.R.sky), t1) := q1
    simp only [Nat.add_zero]
    rw [q1', gm_some, A_t hob (by decide) rfl, ← hA, X_t R.1.ra (by decide), p1, gb_app]
    have k := Rc.go_keep W.C.R W.C.R.sky
    exact Both.put _ rfl rfl (M.race q3 q2) (H.rc0 hA p2 p3) (O.race (Rc.go_OK O.c.r (by omega) _) (by rw [k.2.2.2.2.1]; omega) k.1 k.2.1) (p3.k50' H.fr (by decide))
/-- what is beside a race's numbers is written -/
theorem MR.i {R : Rc} (H : MR t R) (h3 : t'.1 3 = t.1 3) (h4 : t'.1 4 = t.1 4) (h6 : t'.1 6 = t.1 6) (ha : ∀ j, j < 4 → t'.2.1 j = t.2.1 j) : MR t' R := by
  refine ⟨⟨h3.trans H.1.n, h4.trans H.1.W, h6.trans H.1.mn, ?_, ?_, ?_, ?_, ?_, ?_, ?_, ?_, ?_, ?_⟩, ?_⟩
  · rw [ha 0 (by decide)]; exact H.1.d
  · rw [ha 0 (by decide)]; exact H.1.h
  · rw [ha 0 (by decide)]; exact H.1.s
  · rw [ha 0 (by decide)]; exact H.1.p
  · rw [ha 0 (by decide)]; exact H.1.now
  · rw [ha 0 (by decide)]; exact H.1.he
  · rw [ha 0 (by decide)]; exact H.1.so
  · rw [ha 1 (by decide)]; exact H.1.k
  · rw [ha 2 (by decide)]; exact H.1.r
  · rw [ha 3 (by decide)]; exact H.1.sk
  · unfold MRf; rw [ha 0 (by decide)]; exact H.2
theorem MR.i1 {R : Rc} {k : Nat} {v : Int32} (H : MR t R) (h3 : 3 ≠ k) (h4 : 4 ≠ k) (h6 : 6 ≠ k) : MR (setI t k v) R := H.i (upd_no _ _ h3) (upd_no _ _ h4) (upd_no _ _ h6) (fun _ _ => rfl)
theorem MR.a1 {R : Rc} {j i : Nat} {v : Int32} (H : MR t R) (h : 4 ≤ j) : MR (setA t j i v) R := H.i rfl rfl rfl (fun k hk => setA_other t _ _ (by omega))
theorem nat_of {x : Int32} (h : 0 ≤ x) : ∃ v, v < 2 ^ 31 ∧ x = nI v := by
  have h0 : (0 : Int32).toInt = 0 := by decide
  have h1 := Int32.le_iff_toInt_le.mp h
  rw [h0] at h1
  have h2 := Int32.toInt_lt x
  refine ⟨x.toInt.toNat, by omega, ?_⟩
  refine Int32.toInt_inj.mp ?_
  rw [nI_toInt (by omega)]; omega
theorem b_seed (M : MW t W) (H : CW σ T ex z o a W) (O : W.OK) (x1 : Int32) : Both σ T ex z o a (fX3_seed x1 t) (fX0_seed ex z o x1 (σ, 0, 0)) := by
  obtain ⟨at_, hob⟩ := H.obj
  have ht := H.ob.1
  unfold fX3_seed fX0_seed
  by_cases h : (0 : Int32) ≤ x1
  · rw [if_pos h, if_pos h, I_t hob (by decide) rfl, P_t hob (by decide) (by show 5 < 19; decide)]
    simp only [lt]
    obtain ⟨v, hv, rfl⟩ := nat_of h
    have O1 : Ow T 1 σ z (g_u σ o (obC a (nI v) (nI W.tn) at_ (nI W.im) (nI W.I.dr))) z := Ow.put ht _
    refine Both.put (W' := W.s_C (W.C.s_dr v)) _ (by rw [M.c.dr]) rfl ?_ ?_ ?_ (O1.k50' H.fr (by decide))
    · exact ⟨⟨M.c.r.i1 (by decide) (by decide) (by decide), M.c.bn, M.c.b, M.c.un, M.c.u, (setI_at _ _ _)⟩, M.sky, M.im, M.kp, M.tn, M.tp, M.s⟩
    · exact H.u_ob (W' := W.s_C (W.C.s_dr v)) H.fr (O1.kp0 H.fr) ⟨ht, at_, g_u_self _ _ _⟩ H.tp rfl rfl rfl rfl rfl rfl rfl rfl rfl rfl rfl rfl rfl rfl rfl rfl rfl rfl rfl
    · have C := O.c
      exact ⟨⟨C.r, C.now, C.bn, C.b, C.un, C.u, hv⟩, O.i, O.im, O.tn, O.tp, O.s⟩
  · rw [if_neg h, if_neg h]
    exact Both.same M H O _ rfl rfl
theorem b_type (M : MW t W) (H : CW σ T ex z o a W) (O : W.OK) (x1 : Int32) : Both σ T ex z o a (fX3_type x1 t) (fX0_type ex z o x1 (σ, 0, 0)) := by
  obtain ⟨at_, hob⟩ := H.obj
  have ht := H.ob.1
  have htn := O.tn
  obtain ⟨htp, f, hp, hf⟩ := H.tp
  unfold fX3_type fX0_type
  by_cases h : ∃ c, 32 ≤ c ∧ c ≤ 126 ∧ x1 = nI c
  · obtain ⟨c, hc0, hc1, rfl⟩ := h
    rw [m_iL1 32 126 t hc0 hc1 (by decide), gm_some, if_neg n10, c_iL1 32 126 _ hc0 hc1 (by decide), gb_two, if_neg n10, I_t hob (by decide) rfl, M.tn, ifl 160 (by omega) (by decide), ifl 160 (by omega) (by decide)]
    by_cases hfull : W.tn = 160
    · rw [if_pos hfull, if_pos hfull]
      exact Both.same M H O _ rfl rfl
    · have hop : o ≠ a 6 := by intro x; rw [x, hp] at hob; simp [obC] at hob
      rw [if_neg hfull, if_neg hfull, mast_nI (by omega) (by decide), A_t hob (by decide) rfl, I_t hob (by decide) rfl, ast_t hp (by omega) (by decide), nar_byte (by omega)]
      have hob1 : (g_u σ (a 6) (true, Sum.inl (0, 160, Sum.inl (upd f W.tn (nI c))))) o = some (obC a (nI W.C.dr) (nI W.tn) at_ (nI W.im) (nI W.I.dr)) := (g_u_ne _ _ hop).trans hob
      rw [I_t hob1 (by decide) rfl, P_t hob1 (by decide) (by show 7 < 19; decide), nI_1, I_t (g_u_self _ _ _) (by decide) rfl]
      simp only [lt]
      have O1 : Ow T 12 σ z (g_u σ (a 6) (true, Sum.inl (0, 160, Sum.inl (upd f W.tn (nI c))))) z := Ow.put htp _
      have H1 : CW (g_u σ (a 6) (true, Sum.inl (0, 160, Sum.inl (upd f W.tn (nI c))))) T ex z o a (W.s_tp (up W.tp W.tn c)) := H.u_tp (W' := W.s_tp (up W.tp W.tn c)) H.fr (O1.kp0 H.fr) ⟨htp, _, g_u_self _ _ _, fun i hi => by
        have hi' : i < W.tn := hi
        show upd f W.tn (nI c) i = nI (up W.tp W.tn c i)
        rw [upd_no _ _ (by omega), up_ne _ _ (by omega)]; exact hf i hi⟩ rfl rfl rfl rfl rfl rfl rfl rfl rfl rfl rfl rfl rfl rfl rfl rfl rfl rfl rfl rfl rfl rfl rfl
      have O2 : Ow T 1 (g_u σ (a 6) (true, Sum.inl (0, 160, Sum.inl (upd f W.tn (nI c))))) z (g_u (g_u σ (a 6) (true, Sum.inl (0, 160, Sum.inl (upd f W.tn (nI c))))) o (obC a (nI W.C.dr) (nI (W.tn + 1)) at_ (nI W.im) (nI W.I.dr))) z := Ow.put ht _
      have H2 := H1.u_ob (W' := (W.s_tp (up W.tp W.tn c)).s_tn (W.tn + 1)) H.fr (O2.kp0 H.fr) ⟨ht, at_, g_u_self _ _ _⟩ ⟨htp, _, g_u_self _ _ _, fun i hi => by
        have hi' : i < W.tn + 1 := hi
        show upd f W.tn (nI c) i = nI (up W.tp W.tn c i)
        by_cases hq : i = W.tn
        · subst hq; rw [upd_at, up_self]
        · rw [upd_no _ _ hq, up_ne _ _ hq]; exact hf i (by omega)⟩ rfl rfl rfl rfl rfl rfl rfl rfl rfl rfl rfl rfl rfl rfl rfl rfl rfl rfl rfl
      refine Both.put (W' := (W.s_tp (up W.tp W.tn c)).s_tn (W.tn + 1)) (nI (W.tn + 1)) (t' := setI (setA t 7 W.tn (nI c)) 15 (nI (W.tn + 1))) ?_ rfl ?_ H2 ?_ ((O1.k50' H.fr (by decide)).tr (O2.k50' H.fr (by decide)))
      · have e : (setA t 7 W.tn (nI c)).1 15 = nI W.tn := M.tn
        rw [e, nI_1]
        show some ((setI (setA t 7 W.tn (nI c)) 15 (nI (W.tn + 1))).1 15, _) = _
        rw [show (setI (setA t 7 W.tn (nI c)) 15 (nI (W.tn + 1))).1 15 = nI (W.tn + 1) from setI_at _ _ _]
      · have htp' : ∀ i, i < W.tn + 1 → (setI (setA t 7 W.tn (nI c)) 15 (nI (W.tn + 1))).2.1 7 i = nI (up W.tp W.tn c i) := by
          intro i hi
          show (setA t 7 W.tn (nI c)).2.1 7 i = nI (up W.tp W.tn c i)
          rw [setA_same]
          by_cases hq : i = W.tn
          · subst hq; rw [upd_at, up_self]
          · rw [upd_no _ _ hq, up_ne _ _ hq]; exact M.tp i (by omega)
        exact ⟨⟨(M.c.r.a1 (by decide)).i1 (by decide) (by decide) (by decide), M.c.bn, M.c.b, M.c.un, M.c.u, M.c.dr⟩, M.sky, M.im, M.kp, (setI_at _ _ _), htp', M.s⟩
      · refine ⟨O.c, O.i, O.im, by show W.tn + 1 ≤ 160; omega, fun i hi => ?_, O.s⟩
        have hi' : i < W.tn + 1 := hi
        show 32 ≤ up W.tp W.tn c i ∧ up W.tp W.tn c i ≤ 126
        by_cases hq : i = W.tn
        · subst hq; rw [up_self]; exact ⟨hc0, hc1⟩
        · rw [up_ne _ _ hq]; exact O.tp i (by omega)
  · rw [m_iL0 32 126 t (by omega) (by decide) h, gm_some, if_pos rfl, c_iL0 32 126 _ (by omega) (by decide) h, gb_two, if_pos rfl]
    exact Both.same M H O _ rfl rfl
end O2
