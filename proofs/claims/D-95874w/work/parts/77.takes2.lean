/-! a race takes another's state: clock by clock -/
set_option maxRecDepth 100000
section TK2
variable {ex : Nat → Option Nat} {z : Nat} {A B : Ad} {Q : Rc} {be : Int32} {k j : Nat}
/-- what the loop has, when c clocks are taken -/
def TkJ (σ : Sg) (T : Nat → Nat) (k j : Nat) (ex : Nat → Option Nat) (A B : Ad) (Q : Rc) (be : Int32) (z c e m : Nat) (g : Nat → Nat) : Prop :=
  Fre T z ∧ CL σ T k ex A.l e m g ∧ (∀ i, i < c → σ (g i) = some (ckC Q i)) ∧ c ≤ m ∧ m ≤ Q.n ∧ Fr3 σ A Q be ∧ (T A.r = k ∧ T A.d = k ∧ T A.s = k) ∧ RT σ T j ex B Q be
theorem Fr3.keep3 {σ σ' : Sg} (H : Fr3 σ A Q be) (h1 : σ' A.r = σ A.r) (h2 : σ' A.d = σ A.d) (h3 : σ' A.s = σ A.s) : Fr3 σ' A Q be := by
  unfold Fr3 at H ⊢; rw [h1, h2, h3]; exact H
/-- a new clock in the store -/
theorem tk_new {σ : Sg} {T : Nat → Nat} {c e m : Nat} {g : Nat → Nat} (hk : k ≠ 0) (hk9 : k ≠ 99) (hj : j ≠ 0) (hkj : j ≠ k) (J : TkJ σ T k j ex A B Q be z c e m g) (x : Bool × va_E) : TkJ (g_u σ z x) (ext T z (z + 1) k) k j ex A B Q be (z + 1) c e m g := by
  obtain ⟨F, H, hg, hcm, hm, H3, ⟨t1, t2, t3⟩, HS⟩ := J
  have eo : ∀ q, q < z → (g_u σ z x) q = σ q := fun q hq => g_u_ne _ _ (by omega)
  have hgz : ∀ i, i < m → g i < z := fun i hi => F.lt (H.2.1 i hi) hk
  have hlz : A.l < z := F.lt H.1.1 hk
  have hez := al_ez H.1 F hk
  refine ⟨F.ext (by omega), ⟨?_, fun i hi => by rw [ext_old (hgz i hi)]; exact H.2.1 i hi, fun i hi => (H.2.2 i hi).keep (eo _ (hgz i hi))⟩, fun i hi => (eo _ (hgz i (by omega))).trans (hg i hi), hcm, hm, H3.keep3 (eo _ (F.lt t1 hk)) (eo _ (F.lt t2 hk)) (eo _ (F.lt t3 hk)), ⟨Ow.own F t1 hk, Ow.own F t2 hk, Ow.own F t3 hk⟩, HS.ow F (Ow.make x) hj hk9 hkj⟩
  obtain ⟨a1, a2, a3⟩ := H.1
  refine ⟨by rw [ext_old hlz]; exact a1, by rw [eo _ hlz]; exact a2, ?_⟩
  rw [ext_old hez, eo _ hez]
  exact a3
theorem tk_117 (BQ : Q.Ba) (hk : k ≠ 0) (hk9 : k ≠ 99) (hj : j ≠ 0) (hkj : j ≠ k) : ∀ (d c fuel : Nat) (σ : Sg) (T : Nat → Nat) (c1 c2 e m : Nat) (g : Nat → Nat), c + d = Q.n → d < fuel → TkJ σ T k j ex A B Q be (z + c1) c e m g → ∃ σ' e' g' dc ds, fX1_takes_117 ex z fuel A.r B.r (nI c) (σ, c1, c2) = some ((), (σ', c1 + dc, c2 + ds)) ∧ TkJ σ' (ext T (z + c1) (z + c1 + dc) k) k j ex A B Q be (z + c1 + dc) Q.n e' Q.n g' ∧ Ow T k σ (z + c1) σ' (z + c1 + dc) ∧ dc ≤ d + (if m = 0 then 1 else 0) ∧ ds ≤ 6 * d + (if m = 0 then 10 else 0) := by
  intro d
  induction d with
  | zero =>
    intro c fuel σ T c1 c2 e m g hd hf J
    obtain ⟨F, H, hg, hcm, hm, H3, h3T, HS⟩ := id J
    obtain ⟨x, rfl⟩ : ∃ x, fuel = x + 1 := ⟨fuel - 1, by omega⟩
    have hn := BQ.n
    obtain ⟨mc', hl'⟩ := HS.list.2.1
    obtain rfl : m = Q.n := by omega
    obtain rfl : c = Q.n := by omega
    refine ⟨σ, e, g, 0, 0, ?_, by rw [Nat.add_zero, ext_none]; exact J, Ow.rf _ _ _ _, by omega, by omega⟩
    rw [fX1_takes_117, A_t HS.rr.ra (by decide) rfl, X_t hl' (by decide), al_size HS.list, gb_two, if_pos ((nI_leI (by omega) (by omega)).mpr (by omega))]
    rfl
  | succ d ih =>
    intro c fuel σ T c1 c2 e m g hd hf J
    obtain ⟨F, H, hg, hcm, hm, H3, h3T, HS⟩ := id J
    obtain ⟨x, rfl⟩ : ∃ x, fuel = x + 1 := ⟨fuel - 1, by omega⟩
    have hn := BQ.n
    have hcn : c < Q.n := by omega
    have hkc := BQ.k c hcn
    obtain ⟨mc, hl⟩ := H.1.2.1
    obtain ⟨mc', hl'⟩ := HS.list.2.1
    obtain ⟨b0, cap0, f0, he, -⟩ := al_arr H.1
    have hsrc := HS.rr.ck c hcn
    have hTs := HS.2.2.2.2.2 c hcn
    have hsz : B.ca c < z + c1 := F.lt hTs hj
    have hgz : ∀ i, i < m → g i < z + c1 := fun i hi => F.lt (H.2.1 i hi) hk
    rw [fX1_takes_117, A_t HS.rr.ra (by decide) rfl, X_t hl' (by decide), al_size HS.list, gb_two, if_neg (nI_ge (by omega) (by omega)), A_t HS.rr.ra (by decide) rfl, X_t hl' (by decide), al_get HS.list hcn, gb_two, X_t hsrc (kin hkc), A_t H3.1 (by decide) rfl, X_t hl (by decide), al_size H.1, gb_two, ife m rfl (by omega) (by omega)]
    by_cases hcm' : c = m
    · -- one more
      subst hcm'
      rw [if_pos rfl, A_t H3.1 (by decide) rfl, X_t hsrc (kin hkc), c_copy (z := z + c1) hkc hsrc hsz]
      simp only [gb_app]
      rw [← ckC_eq]
      have J1 := tk_new hk hk9 hj hkj J (ckC Q c)
      have O1 : Ow T k σ (z + c1) (g_u σ (z + c1) (ckC Q c)) (z + c1 + 1) := Ow.make _
      have hv1 : (g_u σ (z + c1) (ckC Q c)) (z + c1) = some (ckC Q c) := g_u_self _ _ _
      generalize g_u σ (z + c1) (ckC Q c) = σ1 at J1 O1 hv1 ⊢
      have hT1 : ext T (z + c1) (z + c1 + 1) k (z + c1) = k := ext_in (Nat.le_refl _) (by omega)
      have hee : ∀ (T1 : Nat → Nat), ext T (z + c1) (z + c1 + 1) k = T1 → ∀ dc, ext T1 (z + c1 + 1) (z + c1 + 1 + dc) k = ext T (z + c1) (z + c1 + (1 + dc)) k := by
        intro T1 h dc; rw [← h, ext_ext (by omega) (by omega)]; congr 1; omega
      generalize hT1' : ext T (z + c1) (z + c1 + 1) k = T1 at J1 hT1
      have hee := hee T1 hT1'
      obtain ⟨F1, H1, hg1, -, -, H31, h3T1, HS1⟩ := id J1
      obtain ⟨mc1, hl1⟩ := H1.1.2.1
      have hlz1 : A.l ≠ z + c1 := by
        intro x; rw [x, hv1] at hl1; exact kC_liC _ _ _ _ _ _ _ hkc (Option.some.inj hl1).symm
      obtain ⟨σ2, e2, dc, ds, q1, q2, q3, q4, q5, q6, q7, q8, q9⟩ := al_add (z := z + c1 + 1) H1.1 F1 hk hk9 (by omega) H1.el (fun i hi => F1.lt (H1.2.1 i hi) hk) hv1 (kC_csL hkc) (by omega) (fun x => hlz1 x.symm)
      have q1' : fJ2_add ex (z + (c1 + 1)) A.l (z + c1) (σ1, 0, 0) = some (1, (σ2, dc, ds)) := by rw [← Nat.add_assoc]; exact q1
      rw [X_t hl1 (by decide), q1']
      simp only [gb_app]
      unfold fX1_takes_218
      rw [nI_1]
      -- what is so now
      have hkeep : ∀ q y, σ1 q = some y → T1 q = k → (∀ mc e n, y ≠ liC mc e n) → (∀ b n f, y ≠ oaC b n f) → σ2 q = σ1 q := by
        intro q y hy hT n1 n2
        refine q9 q (fun hq => n1 _ _ _ (Option.some.inj (hy.symm.trans (hq ▸ hl1)))) ?_
        obtain ⟨b, cap, f, hh, -⟩ := al_arr H1.1
        rcases q8 with rfl | rfl
        · exact fun hq => n2 _ _ _ (Option.some.inj (hy.symm.trans (hq ▸ hh)))
        · have := F1.lt hT hk; omega
      have hclk : ∀ a i, Cl σ1 a i → T1 a = k → σ2 a = σ1 a := by
        intro a i ⟨κ, v1, v2, v3, v4, v5, h1, h2⟩ hT
        exact hkeep a _ h2 hT (fun mc e n => fun hq => kC_liC _ _ _ _ _ _ _ h1 hq.symm) (fun b n f => fun hq => kC_arr _ _ _ _ _ _ _ h1 hq.symm)
      have hcl1 : Cl σ1 (z + c1) c := ⟨Q.k c, _, _, _, _, _, hkc, hv1⟩
      have ez : z + (c1 + 1 + dc) = z + c1 + 1 + dc := by omega
      have J2 : TkJ σ2 (ext T1 (z + c1 + 1) (z + c1 + 1 + dc) k) k j ex A B Q be (z + c1 + 1 + dc) (c + 1) e2 (c + 1) (up g c (z + c1)) := by
        refine ⟨F1.ext (by omega), ⟨q2, fun i hi => ?_, fun i hi => ?_⟩, fun i hi => ?_, Nat.le_refl _, by omega, ?_, ⟨Ow.own F1 h3T1.1 hk, Ow.own F1 h3T1.2.1 hk, Ow.own F1 h3T1.2.2 hk⟩, HS1.ow F1 q3 hj hk9 hkj⟩
        · by_cases hic : i = c
          · rw [hic, up_self]; exact Ow.own F1 hT1 hk
          · rw [up_ne _ _ hic]; exact Ow.own F1 (H1.2.1 i (by omega)) hk
        · by_cases hic : i = c
          · rw [hic, up_self]; exact hcl1.keep (hclk _ _ hcl1 hT1)
          · rw [up_ne _ _ hic]; exact (H1.2.2 i (by omega)).keep (hclk _ _ (H1.2.2 i (by omega)) (H1.2.1 i (by omega)))
        · by_cases hic : i = c
          · rw [hic, up_self, hclk _ _ hcl1 hT1]; exact hv1
          · rw [up_ne _ _ hic, hclk _ _ (H1.2.2 i (by omega)) (H1.2.1 i (by omega))]; exact hg1 i (by omega)
        · obtain ⟨y1, ⟨fd, y2, -⟩, ⟨fs, y3, -⟩⟩ := id H31
          refine H31.keep3 (hkeep _ _ y1 h3T1.1 ?_ ?_) (hkeep _ _ y2 h3T1.2.1 ?_ ?_) (hkeep _ _ y3 h3T1.2.2 ?_ ?_)
          · intro a b c g; simp [raC, liC] at g
          · intro a b c g; simp [raC, oaC] at g
          · intro a b c g; simp [liC] at g
          · intro a b c g; simp [oaC] at g
          · intro a b c g; simp [liC] at g
          · intro a b c g; simp [oaC] at g
      obtain ⟨σ3, e3, g3, dc3, ds3, r1, r2, r3, r4, r5⟩ := ih (c + 1) x σ2 (ext T1 (z + c1 + 1) (z + c1 + 1 + dc) k) (c1 + 1 + dc) (c2 + 6 + ds) e2 (c + 1) (up g c (z + c1)) (by omega) (by omega) (by rw [ez]; exact J2)
      rw [if_neg (by omega)] at r4 r5
      have eT : ext (ext T1 (z + c1 + 1) (z + c1 + 1 + dc) k) (z + (c1 + 1 + dc)) (z + (c1 + 1 + dc) + dc3) k = ext T (z + c1) (z + c1 + (1 + dc + dc3)) k := by
        rw [ez, ← hT1', ext_ext (by omega) (by omega), ext_ext (by omega) (by omega)]; congr 1; omega
      have ez3 : z + (c1 + 1 + dc) + dc3 = z + c1 + (1 + dc + dc3) := by omega
      refine ⟨σ3, e3, g3, 1 + dc + dc3, 6 + ds + ds3, ?_, by rw [eT, ez3] at r2; exact r2, ?_, ?_, ?_⟩
      · refine r1.trans ?_; congr 4 <;> omega
      · have o2 : Ow T k σ (z + c1) σ2 (z + c1 + 1 + dc) := O1.tr (by rw [hT1']; exact q3)
        have eT2 : ext T1 (z + c1 + 1) (z + c1 + 1 + dc) k = ext T (z + c1) (z + c1 + 1 + dc) k := by rw [← hT1', ext_ext (by omega) (by omega)]
        have o3 : Ow T k σ (z + c1) σ3 (z + (c1 + 1 + dc) + dc3) := o2.tr (by rw [← eT2]; rw [ez] at r3 ⊢; exact r3)
        rw [ez3] at o3
        exact o3
      · by_cases hm0 : c = 0
        · rw [if_pos hm0]; omega
        · rw [if_neg hm0]; have := (q7 (by omega) (by omega)).1; omega
      · by_cases hm0 : c = 0
        · rw [if_pos hm0]; have := q6 hm0; omega
        · rw [if_neg hm0]; have := (q7 (by omega) (by omega)).2; omega
    · have hcm2 : c < m := by omega
      obtain ⟨κ, v1, v2, v3, v4, v5, hκ, hgc⟩ := H.2.2 c hcm2
      rw [if_neg hcm', A_t H3.1 (by decide) rfl, X_t hl (by decide), al_get H.1 hcm2, gb_two, X_t hgc (kin hκ), X_t hgc (kin hκ), c_kind hκ hgc, gb_two, X_t hsrc (kin hkc), c_kind hkc (by rw [← ckC_eq]; exact hsrc), gb_two, ife (Q.k c) rfl (by omega) (by omega)]
      by_cases hkk : κ = Q.k c
      · -- it takes the other's
        subst hkk
        have hne : B.ca c ≠ g c := by
          intro x; have := H.2.1 c hcm2; rw [← x, hTs] at this; exact hkj this
        rw [if_pos rfl, A_t H3.1 (by decide) rfl, X_t hl (by decide), al_get H.1 hcm2, gb_two, X_t hgc (kin hκ), X_t hgc (kin hκ), c_takes4 hκ hkc hgc (by rw [← ckC_eq]; exact hsrc) hne, gb_app, ← ckC_eq]
        unfold fX1_takes_218
        rw [nI_1]
        have hcl : ∀ i, i < m → i ≠ c → g i ≠ g c := by
          intro i hi hne hx
          exact hne ((H.2.2 i hi).inj (hx ▸ H.2.2 c hcm2) (by omega) (by omega))
        have O1 : Ow T k σ (z + c1) (g_u σ (g c) (ckC Q c)) (z + c1) := Ow.put (H.2.1 c hcm2) _
        have J1 : TkJ (g_u σ (g c) (ckC Q c)) T k j ex A B Q be (z + c1) (c + 1) e m g := by
          have hcc := H.2.2 c hcm2
          obtain ⟨y1, ⟨fd, y2, -⟩, ⟨fs, y3, -⟩⟩ := id H3
          refine ⟨F, ⟨H.1.keep (g_u_ne _ _ (hcc.ne hl kC_liC).symm) (g_u_ne _ _ (hcc.ne he kC_arr).symm), H.2.1, fun i hi => ?_⟩, fun i hi => ?_, by omega, hm, H3.keep3 (g_u_ne _ _ (hcc.ne y1 kC_raC).symm) (g_u_ne _ _ (hcc.ne y2 kC_arr).symm) (g_u_ne _ _ (hcc.ne y3 kC_arr).symm), h3T, ?_⟩
          · by_cases hic : i = c
            · subst hic; exact ⟨Q.k i, _, _, _, _, _, hkc, g_u_self _ _ _⟩
            · exact (H.2.2 i hi).keep (g_u_ne _ _ (hcl i hi hic))
          · by_cases hic : i = c
            · subst hic; exact g_u_self _ _ _
            · rw [g_u_ne _ _ (hcl i (by omega) hic)]; exact hg i (by omega)
          · have := HS.ow F O1 hj hk9 hkj
            rw [ext_none] at this
            exact this
        obtain ⟨σ3, e3, g3, dc3, ds3, r1, r2, r3, r4, r5⟩ := ih (c + 1) x _ T c1 c2 e m g (by omega) (by omega) J1
        refine ⟨σ3, e3, g3, dc3, ds3, r1, r2, O1.tr (by rw [ext_none]; exact r3), by omega, by omega⟩
      · -- another is set
        rw [if_neg hkk, A_t H3.1 (by decide) rfl, X_t hsrc (kin hkc), c_copy (z := z + c1) hkc hsrc hsz]
        simp only [gb_app]
        rw [← ckC_eq]
        have J1 := tk_new hk hk9 hj hkj J (ckC Q c)
        have O1 : Ow T k σ (z + c1) (g_u σ (z + c1) (ckC Q c)) (z + c1 + 1) := Ow.make _
        have hv1 : (g_u σ (z + c1) (ckC Q c)) (z + c1) = some (ckC Q c) := g_u_self _ _ _
        generalize g_u σ (z + c1) (ckC Q c) = σ1 at J1 O1 hv1 ⊢
        have hT1 : ext T (z + c1) (z + c1 + 1) k (z + c1) = k := ext_in (Nat.le_refl _) (by omega)
        generalize hT1' : ext T (z + c1) (z + c1 + 1) k = T1 at J1 hT1
        obtain ⟨F1, H1, hg1, -, -, H31, h3T1, HS1⟩ := id J1
        obtain ⟨mc1, hl1⟩ := H1.1.2.1
        obtain ⟨b1, cap1, f1, he1, -⟩ := al_arr H1.1
        obtain ⟨σ2, q1, q2, q3, q9⟩ := al_set (z := z + c1 + 1) H1.1 hcm2 hv1 (kC_csL hkc) (c := (0, 0))
        have q1' : fJ2_set ex (z + (c1 + 1)) A.l (nI c) (z + c1) (σ1, 0, 0) = some (g c, (σ2, 0, 0)) := by rw [← Nat.add_assoc]; exact q1
        rw [X_t hl1 (by decide), q1']
        simp only [gb_app]
        unfold fX1_takes_218
        rw [nI_1]
        have hkeep : ∀ q y, σ1 q = some y → (∀ b n f, y ≠ oaC b n f) → σ2 q = σ1 q := by
          intro q y hy n2
          exact q9 q (fun hq => n2 _ _ _ (Option.some.inj (hy.symm.trans (hq ▸ he1))))
        have hclk : ∀ a i, Cl σ1 a i → σ2 a = σ1 a := by
          intro a i ⟨κ, v1, v2, v3, v4, v5, h1, h2⟩
          exact hkeep a _ h2 (fun b n f => fun hq => kC_arr _ _ _ _ _ _ _ h1 hq.symm)
        have hcl1 : Cl σ1 (z + c1) c := ⟨Q.k c, _, _, _, _, _, hkc, hv1⟩
        have J2 : TkJ σ2 T1 k j ex A B Q be (z + c1 + 1) (c + 1) e m (up g c (z + c1)) := by
          refine ⟨F1, ⟨q2, fun i hi => ?_, fun i hi => ?_⟩, fun i hi => ?_, by omega, hm, ?_, h3T1, ?_⟩
          · by_cases hic : i = c
            · rw [hic, up_self]; exact hT1
            · rw [up_ne _ _ hic]; exact H1.2.1 i hi
          · by_cases hic : i = c
            · rw [hic, up_self]; exact hcl1.keep (hclk _ _ hcl1)
            · rw [up_ne _ _ hic]; exact (H1.2.2 i hi).keep (hclk _ _ (H1.2.2 i hi))
          · by_cases hic : i = c
            · rw [hic, up_self, hclk _ _ hcl1]; exact hv1
            · rw [up_ne _ _ hic, hclk _ _ (H1.2.2 i (by omega))]; exact hg1 i (by omega)
          · obtain ⟨y1, ⟨fd, y2, -⟩, ⟨fs, y3, -⟩⟩ := id H31
            refine H31.keep3 (hkeep _ _ y1 ?_) (hkeep _ _ y2 ?_) (hkeep _ _ y3 ?_)
            · intro a b c g; simp [raC, oaC] at g
            · intro a b c g; simp [oaC] at g
            · intro a b c g; simp [oaC] at g
          · have := HS1.ow F1 q3 hj hk9 hkj
            rw [ext_none] at this
            exact this
        obtain ⟨σ3, e3, g3, dc3, ds3, r1, r2, r3, r4, r5⟩ := ih (c + 1) x σ2 T1 (c1 + 1) (c2 + 6) e m (up g c (z + c1)) (by omega) (by omega) (by rw [← Nat.add_assoc]; exact J2)
        have ez3 : z + (c1 + 1) + dc3 = z + c1 + (1 + dc3) := by omega
        have eT : ext T1 (z + (c1 + 1)) (z + (c1 + 1) + dc3) k = ext T (z + c1) (z + c1 + (1 + dc3)) k := by
          rw [← hT1', ← Nat.add_assoc, ext_ext (by omega) (by omega)]; congr 1 <;> omega
        refine ⟨σ3, e3, g3, 1 + dc3, 6 + ds3, ?_, by rw [eT, ez3] at r2; exact r2, ?_, by omega, by omega⟩
        · refine r1.trans ?_; congr 4 <;> omega
        · have o2 : Ow T k σ (z + c1) σ2 (z + c1 + 1) := O1.tr (by rw [hT1']; exact q3)
          have o3 : Ow T k σ (z + c1) σ3 (z + (c1 + 1) + dc3) := o2.tr (by rw [hT1']; rw [← Nat.add_assoc] at r3; rw [← Nat.add_assoc]; exact r3)
          rw [ez3] at o3
          exact o3
end TK2
