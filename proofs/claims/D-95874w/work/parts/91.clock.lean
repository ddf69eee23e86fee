/-! clock: one comes to the race -/
set_option maxRecDepth 100000
def Rc.add (R : Rc) (κ h : Nat) (r : Int) (s : Nat) : Rc := (Rc.mk (R.n + 1) (R.W) (R.d) (up R.k R.n κ) (up R.h R.n h) (up R.r R.n r) (up R.s R.n s) (up R.p R.n 0) (up R.f R.n 0) (R.now) (R.sk) (R.mn) (R.he) (R.so))
theorem Rc.add_old (R : Rc) (κ h : Nat) (r : Int) (s : Nat) {c : Nat} (hc : c ≠ R.n) : ckC (R.add κ h r s) c = ckC R c := by
  unfold ckC Rc.add
  simp only [Rc.k_mk, Rc.h_mk, Rc.r_mk, Rc.s_mk, Rc.p_mk, Rc.f_mk, up_ne _ _ hc]
theorem Rc.add_new (R : Rc) (κ h : Nat) (r : Int) (s : Nat) : ckC (R.add κ h r s) R.n = kC κ (nI R.n) (nI h) (Int32.ofInt r) (nI s) 0 (-4) := by
  unfold ckC Rc.add
  simp only [Rc.k_mk, Rc.h_mk, Rc.r_mk, Rc.s_mk, Rc.p_mk, Rc.f_mk, up_self]
  rfl
theorem Rc.add_OK {R : Rc} (O : R.OK) (hn : R.n < 9) {κ h : Nat} {r : Int} {s : Nat} (hκ : κ ≤ 5) (hh : h < 720) (hr0 : -30 ≤ r) (hr1 : r ≤ 30) (hs : s ≤ 99) : (R.add κ h r s).OK := by
  have B := O.b
  have hW := B.W0
  have low : ∀ {c : Nat}, c < R.n + 1 → c ≠ R.n → c < R.n := fun h1 h2 => by omega
  refine ⟨⟨?_, B.W0, B.W1, B.d, ?_, ?_, ?_, ?_, ?_, ?_, B.now, B.sk, B.mn0, B.mn1⟩, ?_, ?_, ?_, O.so⟩
  · show R.n + 1 ≤ 9; omega
  · intro c hc
    show up R.k R.n κ c ≤ 5
    by_cases hq : c = R.n
    · rw [hq, up_self]; exact hκ
    · rw [up_ne _ _ hq]; exact B.k c (low hc hq)
  · intro c hc
    show up R.h R.n h c < 720
    by_cases hq : c = R.n
    · rw [hq, up_self]; exact hh
    · rw [up_ne _ _ hq]; exact B.h c (low hc hq)
  · intro c hc
    show -30 ≤ up R.r R.n r c
    by_cases hq : c = R.n
    · rw [hq, up_self]; exact hr0
    · rw [up_ne _ _ hq]; exact B.r0 c (low hc hq)
  · intro c hc
    show up R.r R.n r c ≤ 30
    by_cases hq : c = R.n
    · rw [hq, up_self]; exact hr1
    · rw [up_ne _ _ hq]; exact B.r1 c (low hc hq)
  · intro c hc
    show up R.s R.n s c ≤ 99
    by_cases hq : c = R.n
    · rw [hq, up_self]; exact hs
    · rw [up_ne _ _ hq]; exact B.s c (low hc hq)
  · intro c hc
    show up R.p R.n 0 c < R.W
    by_cases hq : c = R.n
    · rw [hq, up_self]; omega
    · rw [up_ne _ _ hq]; exact B.p c (low hc hq)
  · intro c hc
    show up R.f R.n 0 c = 0 ↔ up R.p R.n 0 c ≠ R.W - 1
    by_cases hq : c = R.n
    · rw [hq, up_self, up_self]
      constructor
      · intro _; omega
      · intro _; rfl
    · rw [up_ne _ _ hq, up_ne _ _ hq]; exact O.f c (low hc hq)
  · intro c hc
    show up R.f R.n 0 c ≤ R.now
    by_cases hq : c = R.n
    · rw [hq, up_self]; exact Nat.zero_le _
    · rw [up_ne _ _ hq]; exact O.f1 c (low hc hq)
  · show R.he < 2 ^ (R.n + 1)
    have := O.he
    rw [Nat.pow_succ]; omega
section K91
variable {t : MS} {R : Rc}
theorem m_add (H : MR t R) (hn : R.n < 9) (κ h : Nat) (r : Int) (s : Nat) : ∃ t', fX3_add (nI κ) (nI h) (Int32.ofInt r) (nI s) t = some ((), t') ∧ MR t' (R.add κ h r s) ∧ Sr t t' ∧ t'.1 3 = nI (R.n + 1) := by
  have b := H.1
  have e3 : t.1 3 = nI R.n := b.n
  unfold fX3_add
  simp only [lt]
  rw [e3, mast_nI (by omega) (by decide), setA_1, e3, mast_nI (by omega) (by decide), setA_1, setA_1, e3, ilit 24, nI_add, mast_nI (by omega) (by decide), setA_1, setA_1, setA_1, e3, ilit 33, nI_add, mast_nI (by omega) (by decide), setA_1, setA_1, setA_1, setA_1, e3, ilit 42, nI_add, mast_nI (by omega) (by decide), setA_1, setA_1, setA_1, setA_1, setA_1, e3, ilit 51, nI_add, mast_nI (by omega) (by decide), setA_1, setA_1, setA_1, setA_1, setA_1, setA_1, e3, nI_1]
  generalize hu : setA (setA (setA (setA (setA (setA t 1 R.n (nI κ)) 2 R.n (Int32.ofInt r)) 0 (24 + R.n) (nI h)) 0 (33 + R.n) (nI s)) 0 (42 + R.n) 0) 0 (51 + R.n) (-4) = u
  have u1 : u.1 = t.1 := by rw [← hu]; rfl
  have u3 : u.2.2 = t.2.2 := by rw [← hu]; rfl
  have uo : ∀ j, 3 ≤ j → u.2.1 j = t.2.1 j := by
    intro j hj
    rw [← hu, setA_other _ _ _ (by omega), setA_other _ _ _ (by omega), setA_other _ _ _ (by omega), setA_other _ _ _ (by omega), setA_other _ _ _ (by omega), setA_other _ _ _ (by omega)]
  have a1 : u.2.1 1 = upd (t.2.1 1) R.n (nI κ) := by
    rw [← hu, setA_other _ _ _ (by decide), setA_other _ _ _ (by decide), setA_other _ _ _ (by decide), setA_other _ _ _ (by decide), setA_other _ _ _ (by decide), setA_same]
  have a2 : u.2.1 2 = upd (t.2.1 2) R.n (Int32.ofInt r) := by
    rw [← hu, setA_other _ _ _ (by decide), setA_other _ _ _ (by decide), setA_other _ _ _ (by decide), setA_other _ _ _ (by decide), setA_same, setA_other _ _ _ (by decide)]
  have a0 : u.2.1 0 = upd (upd (upd (upd (t.2.1 0) (24 + R.n) (nI h)) (33 + R.n) (nI s)) (42 + R.n) 0) (51 + R.n) (-4) := by
    rw [← hu, setA_same, setA_same, setA_same, setA_same, setA_other _ _ _ (by decide), setA_other _ _ _ (by decide)]
  refine ⟨_, rfl, ⟨⟨?_, ?_, ?_, ?_, ?_, ?_, ?_, ?_, ?_, ?_, ?_, ?_, ?_⟩, ?_⟩, ⟨fun i h3 h4 h6 => ?_, fun j hj => uo j (by omega), u3⟩, setI_at _ _ _⟩
  · exact setI_at _ _ _
  · show upd u.1 3 (nI (R.n + 1)) 4 = nI R.W
    rw [upd_no _ _ (by decide), u1]; exact b.W
  · show upd u.1 3 (nI (R.n + 1)) 6 = nI R.mn
    rw [upd_no _ _ (by decide), u1]; exact b.mn
  · intro w hw
    show u.2.1 0 w = nI (R.d w)
    rw [a0, upd_no _ _ (by omega), upd_no _ _ (by omega), upd_no _ _ (by omega), upd_no _ _ (by omega)]; exact b.d w hw
  · intro c hc
    have hc' : c < R.n + 1 := hc
    show u.2.1 0 (24 + c) = nI (up R.h R.n h c)
    rw [a0, upd_no _ _ (by omega), upd_no _ _ (by omega), upd_no _ _ (by omega)]
    by_cases hq : c = R.n
    · rw [hq, up_self, upd_at]
    · rw [up_ne _ _ hq, upd_no _ _ (by omega)]; exact b.h c (by omega)
  · intro c hc
    have hc' : c < R.n + 1 := hc
    show u.2.1 0 (33 + c) = nI (up R.s R.n s c)
    rw [a0, upd_no _ _ (by omega), upd_no _ _ (by omega)]
    by_cases hq : c = R.n
    · rw [hq, up_self, upd_at]
    · rw [up_ne _ _ hq, upd_no _ _ (by omega), upd_no _ _ (by omega)]; exact b.s c (by omega)
  · intro c hc
    have hc' : c < R.n + 1 := hc
    show u.2.1 0 (42 + c) = nI (up R.p R.n 0 c)
    rw [a0, upd_no _ _ (by omega)]
    by_cases hq : c = R.n
    · rw [hq, up_self, upd_at]; rfl
    · rw [up_ne _ _ hq, upd_no _ _ (by omega), upd_no _ _ (by omega), upd_no _ _ (by omega)]; exact b.p c (by omega)
  · show u.2.1 0 60 = nI R.now
    rw [a0, upd_no _ _ (by omega), upd_no _ _ (by omega), upd_no _ _ (by omega), upd_no _ _ (by omega)]; exact b.now
  · show u.2.1 0 61 = nI R.he
    rw [a0, upd_no _ _ (by omega), upd_no _ _ (by omega), upd_no _ _ (by omega), upd_no _ _ (by omega)]; exact b.he
  · show u.2.1 0 62 = nI R.so
    rw [a0, upd_no _ _ (by omega), upd_no _ _ (by omega), upd_no _ _ (by omega), upd_no _ _ (by omega)]; exact b.so
  · intro c hc
    have hc' : c < R.n + 1 := hc
    show u.2.1 1 c = nI (up R.k R.n κ c)
    rw [a1]
    by_cases hq : c = R.n
    · rw [hq, up_self, upd_at]
    · rw [up_ne _ _ hq, upd_no _ _ hq]; exact b.k c (by omega)
  · intro c hc
    have hc' : c < R.n + 1 := hc
    show u.2.1 2 c = Int32.ofInt (up R.r R.n r c)
    rw [a2]
    by_cases hq : c = R.n
    · rw [hq, up_self, upd_at]
    · rw [up_ne _ _ hq, upd_no _ _ hq]; exact b.r c (by omega)
  · intro j hj
    show u.2.1 3 j = nI (R.sk j)
    rw [uo 3 (by omega)]; exact b.sk j hj
  · intro c hc
    have hc' : c < R.n + 1 := hc
    show u.2.1 0 (51 + c) = fin (up R.f R.n 0 c)
    rw [a0]
    by_cases hq : c = R.n
    · rw [hq, up_self, upd_at]; rfl
    · rw [up_ne _ _ hq, upd_no _ _ (by omega), upd_no _ _ (by omega), upd_no _ _ (by omega), upd_no _ _ (by omega)]; exact H.2 c (by omega)
  · show upd u.1 3 (nI (R.n + 1)) i = t.1 i
    rw [upd_no _ _ h3, u1]
end K91
section C91
variable {σ : Sg} {T : Nat → Nat} {k : Nat} {ex : Nat → Option Nat} {A : Ad} {R : Rc} {al : Int32} {z : Nat}
theorem rt_comes (H : RT σ T k ex A R al) (B : R.Ba) (hn : R.n < 9) (F : Fre T z) (hk : k ≠ 0) (hk9 : k ≠ 99) {v κ h : Nat} {r : Int} {s : Nat} {v0 : Int32} (hκ : κ ≤ 5) (hv : σ v = some (kC κ v0 (nI h) (Int32.ofInt r) (nI s) 0 (-4))) (hT : T v = k) (hfr : ∀ c, c < R.n → A.ca c ≠ v) : ∃ σ' A' dc ds, fX1_comes ex z A.r v (σ, 0, 0) = some ((), (σ', dc, ds)) ∧ RT σ' (ext T z (z + dc) k) k ex A' (R.add κ h r s) al ∧ A'.r = A.r ∧ A'.ca = up A.ca R.n v ∧ Ow T k σ z σ' (z + dc) ∧ dc ≤ 1 ∧ ds ≤ 300 ∧ (∀ q κ' u0 u1 u2 u3 u4 u5, κ' ≤ 5 → q ≠ v → σ q = some (kC κ' u0 u1 u2 u3 u4 u5) → T q ≠ 0 → σ' q = σ q) := by
  have h1 := H.1
  obtain ⟨tr, td, ts, tl, tc⟩ := H.2
  obtain ⟨fd, hd, hd'⟩ := h1.dl
  obtain ⟨fs, hs, hs'⟩ := h1.sk
  obtain ⟨mc, hl⟩ := tl.2.1
  obtain ⟨b0, cap0, f0, he, -⟩ := al_arr tl
  have nv : ∀ {q : Nat} {x : Bool × va_E}, σ q = some x → (∀ κ v0 v1 v2 v3 v4 v5, κ ≤ 5 → x ≠ kC κ v0 v1 v2 v3 v4 v5) → q ≠ v := fun hq hx e => hx _ _ _ _ _ _ _ hκ (Option.some.inj (hq.symm.trans (e ▸ hv)))
  have vr := nv h1.ra kC_raC
  have vd := nv hd kC_arr
  have vs := nv hs kC_arr
  have vl := nv hl kC_liC
  have ve := nv he kC_arr
  -- its number
  have o1 : ∀ q, q ≠ v → (g_u σ v (kC κ (nI R.n) (nI h) (Int32.ofInt r) (nI s) 0 (-4))) q = σ q := fun q hq => g_u_ne _ _ hq
  have hv1 : (g_u σ v (kC κ (nI R.n) (nI h) (Int32.ofInt r) (nI s) 0 (-4))) v = some (kC κ (nI R.n) (nI h) (Int32.ofInt r) (nI s) 0 (-4)) := g_u_self _ _ _
  have O1 : Ow T k σ z (g_u σ v (kC κ (nI R.n) (nI h) (Int32.ofInt r) (nI s) 0 (-4))) z := Ow.put hT _
  unfold fX1_comes
  rw [A_t h1.ra (by decide) rfl, X_t hl (by decide), al_size tl, gb_two, P_t hv (kin hκ) (by show 0 < 6; decide)]
  have e1 : (true, Sum.inr (4 + κ, [Value.int v0, Value.int (nI h), Value.int (Int32.ofInt r), Value.int (nI s), Value.int 0, Value.int (-4)].set 0 (.int (nI R.n)))) = kC κ (nI R.n) (nI h) (Int32.ofInt r) (nI s) 0 (-4) := rfl
  rw [e1]
  generalize g_u σ v (kC κ (nI R.n) (nI h) (Int32.ofInt r) (nI s) 0 (-4)) = σ1 at o1 hv1 O1 ⊢
  have L1 : AL σ1 T k ex A.l A.e R.n A.ca := tl.keep (o1 _ vl) (o1 _ ve)
  have hl1 : σ1 A.l = some (liC mc A.e R.n) := (o1 _ vl).trans hl
  have ra1 : σ1 A.r = some (raC R A al) := (o1 _ vr).trans h1.ra
  have ck1 : ∀ c, c < R.n → σ1 (A.ca c) = some (ckC R c) := fun c hc => (o1 _ (hfr c hc)).trans (h1.ck c hc)
  have E1 : El σ1 A.ca R.n := fun c hc => ⟨true, 4 + R.k c, _, ck1 c hc, kC_csL (B.k c hc)⟩
  obtain ⟨σ2, e2, dc, ds, q1, q2, q3, q4, q5, q6, q7, q8, q9⟩ := al_add L1 F hk hk9 (by omega) E1 (fun i hi => F.lt (tc i hi) hk) hv1 (kC_csL hκ) (F.lt hT hk) (fun x => vl x.symm)
  have ez : ∀ {q : Nat}, T q = k → q ≠ A.e → q ≠ e2 := by
    intro q hq hne
    rcases q8 with rfl | rfl
    · exact hne
    · have := F.lt hq hk; omega
  have o2 : ∀ q, T q = k → q ≠ A.l → q ≠ A.e → σ2 q = σ1 q := fun q hq hl he => q9 q hl (ez hq he)
  rw [A_t ra1 (by decide) rfl, X_t hl1 (by decide)]
  simp only [Nat.add_zero]
  rw [q1, gb_app]
  simp only [Nat.zero_add]
  refine ⟨σ2, Ad.mk A.r A.d A.s A.l e2 (up A.ca R.n v), dc, ds, rfl, ⟨⟨?_, ?_, ?_, ?_, ?_, ?_⟩, ?_, ?_, ?_, q2, ?_⟩, rfl, rfl, O1.tr0 q3, q4, q5, ?_⟩
  · show σ2 A.r = some (raC R A al)
    rw [o2 _ tr h1.r_l h1.r_e]; exact ra1
  · show ∃ f, σ2 A.d = some (true, .inl (0, 24, .inl f)) ∧ ∀ w, w < 24 → f w = nI (R.d w)
    rw [o2 _ td h1.d_l h1.d_e, o1 _ vd]; exact h1.dl
  · show ∃ f, σ2 A.s = some (true, .inl (0, 12, .inl f)) ∧ ∀ w, w < 12 → f w = nI (R.sk w)
    rw [o2 _ ts h1.s_l h1.s_e, o1 _ vs]; exact h1.sk
  · obtain ⟨mc', h⟩ := q2.2.1; exact ⟨mc', h⟩
  · rcases q2.2.2 with ⟨-, h2, -, b, f, h3⟩ | ⟨-, cap, f, h3, h4, h5, h6, h7⟩
    · omega
    · exact ⟨true, cap, f, h3, h6, h5, Or.inl rfl, h7⟩
  · intro c hc
    have hc' : c < R.n + 1 := hc
    show σ2 (up A.ca R.n v c) = _
    by_cases hq : c = R.n
    · rw [hq, up_self, Rc.add_new, o2 _ hT (fun x => vl x.symm) (fun x => ve x.symm)]; exact hv1
    · have hc2 : c < R.n := by omega
      rw [up_ne _ _ hq, Rc.add_old _ _ _ _ _ hq, o2 _ (tc c hc2) (h1.ca_l B hc2) (h1.ca_e hc2)]; exact ck1 c hc2
  · show ext T z (z + dc) k A.r = k
    exact Ow.own F tr hk
  · show ext T z (z + dc) k A.d = k
    exact Ow.own F td hk
  · show ext T z (z + dc) k A.s = k
    exact Ow.own F ts hk
  · intro c hc
    have hc' : c < R.n + 1 := hc
    show ext T z (z + dc) k (up A.ca R.n v c) = k
    by_cases hq : c = R.n
    · rw [hq, up_self]; exact Ow.own F hT hk
    · rw [up_ne _ _ hq]; exact Ow.own F (tc c (by omega)) hk
  · intro q κ' u0 u1 u2 u3 u4 u5 hk' hqv hq hTq
    have n1 : q ≠ A.l := fun x => kC_liC _ _ _ _ _ _ _ hk' (Option.some.inj (hl.symm.trans (x ▸ hq)))
    have n2 : q ≠ A.e := fun x => kC_arr _ _ _ _ _ _ _ hk' (Option.some.inj (he.symm.trans (x ▸ hq)))
    have n3 : q ≠ e2 := by
      rcases q8 with rfl | rfl
      · exact n2
      · have := F.lt (q := q) rfl hTq; omega
    rw [q9 q n1 n3, o1 q hqv]
end C91
section O91
variable {t : MS} {W : Wv} {σ : Sg} {T : Nat → Nat} {ex : Nat → Option Nat} {z o : Nat} {a : Nat → Nat}
theorem UnOK.add {R : Rc} {k w κ h s : Nat} {v r : Int} (H : UnOK R k w v) : UnOK (R.add κ h r s) k w v := by
  have e1 : (R.add κ h r s).n = R.n + 1 := rfl
  have e2 : (R.add κ h r s).W = R.W := rfl
  unfold UnOK at H ⊢
  rw [e1, e2]
  omega
theorem Wv.OK.add {κ h s : Nat} {r : Int} (O : W.OK) (hr : (W.C.R.add κ h r s).OK) : (W.s_C (W.C.s_R (W.C.R.add κ h r s))).OK := by
  have C := O.c
  exact ⟨⟨hr, C.now, C.bn, fun b hb => by
    obtain ⟨h1, h2, h3⟩ := C.b b hb
    exact ⟨Nat.lt_succ_of_lt h1, h2, h3⟩, C.un, fun u hu => (C.u u hu).add, C.dr⟩, O.i, O.im, O.tn, O.tp, O.s⟩
theorem b_clock (M : MW t W) (H : CW σ T ex z o a W) (O : W.OK) (x1 x2 x3 x4 : Int32) : Both σ T ex z o a (fX3_clock x1 x2 x3 x4 t) (fX0_clock ex z o x1 x2 x3 x4 (σ, 0, 0)) := by
  obtain ⟨at_, hob⟩ := H.obj
  obtain ⟨A, hA, R⟩ := H.race
  have h9 := O.n
  unfold fX3_clock fX0_clock fX0_isMade
  by_cases h : ∃ c, 0 ≤ c ∧ c ≤ 5 ∧ x1 = nI c
  · obtain ⟨κ, -, hκ, rfl⟩ := h
    rw [m_iL1 0 5 t (by omega) hκ (by decide), gm_some, if_neg n10, c_iL1 0 5 _ (by omega) hκ (by decide), gb_two, if_neg n10]
    by_cases h : ∃ c, 0 ≤ c ∧ c ≤ 719 ∧ x2 = nI c
    · obtain ⟨h, -, hh, rfl⟩ := h
      rw [m_iL1 0 719 t (by omega) hh (by decide), gm_some, if_neg n10, c_iL1 0 719 _ (by omega) hh (by decide), gb_two, if_neg n10]
      by_cases h : ∃ v : Int, -30 ≤ v ∧ v ≤ 30 ∧ x3 = Int32.ofInt v
      · obtain ⟨r, hr0, hr1, rfl⟩ := h
        rw [m_r1 t hr0 hr1, gm_some, if_neg n10, c_r1 _ hr0 hr1, gb_two, if_neg n10]
        by_cases h : ∃ c, 0 ≤ c ∧ c ≤ 99 ∧ x4 = nI c
        · obtain ⟨s, -, hs, rfl⟩ := h
          rw [m_iL1 0 99 t (by omega) hs (by decide), gm_some, if_neg n10, c_iL1 0 99 _ (by omega) hs (by decide), gb_two, if_neg n10, gb_two, if_neg n10, M.c.r.1.n, ifl 9 (by omega) (by decide), A_t hob (by decide) rfl, ← hA, X_t R.1.ra (by decide), c_size (t := (σ, 0, 0)) R.1, gb_two, ifl 9 (by omega) (by decide)]
          by_cases hfull : W.C.R.n = 9
          · rw [if_pos hfull, if_pos hfull]
            exact Both.same M H O _ rfl rfl
          · obtain ⟨t1, m1, m2, m3, m4⟩ := m_add M.c.r (by omega) κ h r s
            rw [if_neg hfull, if_neg hfull, m1, gm_some, m4, nI_sub1 (by omega), A_t hob (by decide) rfl]
            simp only [Nat.add_zero]
            rw [c_made hκ]
            simp only [gb_app, Nat.zero_add]
            have K1 := Kp.make (T := T) (σ := σ) H.fr 2 (kC κ 0 (nI h) (Int32.ofInt r) (nI s) 0 (-4))
            have H1 : CW (g_u σ z (kC κ 0 (nI h) (Int32.ofInt r) (nI s) 0 (-4))) (ext T z (z + 1) 2) ex (z + 1) o a W := H.all (H.fr.ext (by omega)) K1
            have hv1 : (g_u σ z (kC κ 0 (nI h) (Int32.ofInt r) (nI s) 0 (-4))) z = some (kC κ 0 (nI h) (Int32.ofInt r) (nI s) 0 (-4)) := g_u_self _ _ _
            have hTz : ext T z (z + 1) 2 z = 2 := ext_in (Nat.le_refl _) (by omega)
            have R1 : RT (g_u σ z (kC κ 0 (nI h) (Int32.ofInt r) (nI s) 0 (-4))) (ext T z (z + 1) 2) 2 ex A W.C.R (-4) := R.kp K1 (by decide) trivial trivial
            have hfr : ∀ c, c < W.C.R.n → A.ca c ≠ z := fun c hc => by
              have := H.fr.lt (R.2.2.2.2.2 c hc) (by decide)
              omega
            generalize g_u σ z (kC κ 0 (nI h) (Int32.ofInt r) (nI s) 0 (-4)) = σ1 at K1 H1 hv1 R1 ⊢
            generalize ext T z (z + 1) 2 = T1 at K1 H1 hTz R1
            obtain ⟨σ2, A2, dc, ds, q1, q2, q3, q4, q5, q6, q7, -⟩ := rt_comes R1 O.ba (by omega) H1.fr (by decide) (by decide) hκ hv1 hTz hfr
            have K2 := q5.kp H1.fr
            obtain ⟨at1, hob1⟩ := H1.obj
            have hob2 := (K2.at H1.ob.1 (by decide) (by decide)).2.trans hob1
            rw [← hA, X_t R1.1.ra (by decide), q1]
            simp only [gb_app]
            rw [A_t hob2 (by decide) rfl, ← hA, ← q3, X_t q2.1.ra (by decide), c_size (t := (σ2, 0, 0)) q2.1, gb_two]
            refine ⟨nI W.C.R.n, t1, W.s_C (W.C.s_R (W.C.R.add κ h r s)), σ2, ext T1 (z + 1) (z + 1 + dc) 2, 1 + dc, 6 + ds, rfl, ?_, M.raceR m3 m2, ?_, O.add (Rc.add_OK O.c.r (by omega) hκ (by omega) hr0 hr1 hs), ?_, by omega, by omega⟩
            · rw [show (W.C.R.add κ h r s).n = W.C.R.n + 1 from rfl, nI_sub1 (by omega)]; rfl
            · rw [← Nat.add_assoc]
              exact H1.u_rc (W' := W.s_C (W.C.s_R (W.C.R.add κ h r s))) (H1.fr.ext (by omega)) K2 ⟨by decide, A2, q3.trans hA, q2⟩ rfl rfl rfl rfl rfl rfl rfl rfl rfl rfl rfl rfl rfl rfl rfl rfl rfl rfl rfl rfl rfl rfl rfl
            · exact (K1.sub (fun _ _ => trivial)).tr (q5.k50 H1.fr (by decide))
        · rw [m_iL0 0 99 t (by omega) (by decide) h, gm_some, if_pos rfl, c_iL0 0 99 _ (by omega) (by decide) h, gb_two, if_pos rfl, gb_two, if_pos rfl]
          exact Both.same M H O _ rfl rfl
      · rw [m_r0 t h, gm_some, if_pos rfl, c_r0 _ h, gb_two, if_pos rfl, gb_two, if_pos rfl]
        exact Both.same M H O _ rfl rfl
    · rw [m_iL0 0 719 t (by omega) (by decide) h, gm_some, if_pos rfl, c_iL0 0 719 _ (by omega) (by decide) h, gb_two, if_pos rfl, gb_two, if_pos rfl]
      exact Both.same M H O _ rfl rfl
  · rw [m_iL0 0 5 t (by omega) (by decide) h, gm_some, if_pos rfl, c_iL0 0 5 _ (by omega) (by decide) h, gb_two, if_pos rfl, gb_two, if_pos rfl]
    exact Both.same M H O _ rfl rfl
end O91
