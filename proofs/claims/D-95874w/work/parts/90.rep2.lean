/-! tune, breathe, undo, restart -/
set_option maxRecDepth 100000
theorem chkR {x : Int32} : (-30 ≤ x ∧ x ≤ 30) ↔ ∃ v : Int, -30 ≤ v ∧ v ≤ 30 ∧ x = Int32.ofInt v := by
  have h1 : (-30 : Int32).toInt = -30 := by decide
  have h2 : (30 : Int32).toInt = 30 := by decide
  rw [Int32.le_iff_toInt_le, Int32.le_iff_toInt_le, h1, h2]
  constructor
  · rintro ⟨a, b⟩
    exact ⟨x.toInt, a, b, (Int32.ofInt_toInt x).symm⟩
  · rintro ⟨v, a, b, rfl⟩
    have e : (Int32.ofInt v).toInt = v := by
      rw [Int32.toInt_ofInt]
      show Int.bmod _ 4294967296 = _
      exact Int.bmod_eq_of_le (by omega) (by omega)
    rw [e]; exact ⟨a, b⟩
theorem m_r1 (t : MS) {v : Int} (h1 : -30 ≤ v) (h2 : v ≤ 30) : fX3_in (Int32.ofInt v).toInt64 (-30) 30 t = some (1, t) := by
  have := m_inI (Int32.ofInt v) (-30) 30 t
  rw [if_pos (chkR.mpr ⟨v, h1, h2, rfl⟩)] at this
  exact this
theorem m_r0 (t : MS) {x : Int32} (h : ¬ ∃ v : Int, -30 ≤ v ∧ v ≤ 30 ∧ x = Int32.ofInt v) : fX3_in x.toInt64 (-30) 30 t = some (0, t) := by
  have := m_inI x (-30) 30 t
  rw [if_neg (fun g => h (chkR.mp g))] at this
  exact this
theorem c_r1 {ex : Nat → Option Nat} {z : Nat} (t : St) {v : Int} (h1 : -30 ≤ v) (h2 : v ≤ 30) : fX0_in ex z (Int32.ofInt v).toInt64 (-30) 30 t = some (1, t) := by
  have := c_inI (ex := ex) (z := z) (Int32.ofInt v) (-30) 30 t
  rw [if_pos (chkR.mpr ⟨v, h1, h2, rfl⟩)] at this
  exact this
theorem c_r0 {ex : Nat → Option Nat} {z : Nat} (t : St) {x : Int32} (h : ¬ ∃ v : Int, -30 ≤ v ∧ v ≤ 30 ∧ x = Int32.ofInt v) : fX0_in ex z x.toInt64 (-30) 30 t = some (0, t) := by
  have := c_inI (ex := ex) (z := z) x (-30) 30 t
  rw [if_neg (fun g => h (chkR.mp g))] at this
  exact this
/-- in the reference: what is no race's is as it was -/
def Sr (t t' : MS) : Prop := (∀ i, i ≠ 3 → i ≠ 4 → i ≠ 6 → t'.1 i = t.1 i) ∧ (∀ j, 4 ≤ j → t'.2.1 j = t.2.1 j) ∧ t'.2.2 = t.2.2
theorem Sr.rf (t : MS) : Sr t t := ⟨fun _ _ _ _ => rfl, fun _ _ => rfl, rfl⟩
theorem Sr.tr {t u v : MS} (h : Sr t u) (g : Sr u v) : Sr t v := ⟨fun i a b c => (g.1 i a b c).trans (h.1 i a b c), fun j hj => (g.2.1 j hj).trans (h.2.1 j hj), g.2.2.trans h.2.2⟩
theorem Sr.set (t : MS) {j : Nat} (i : Nat) (v : Int32) (h : j < 4) : Sr t (setA t j i v) := ⟨fun _ _ _ _ => rfl, fun k hk => setA_other t _ _ (by omega), rfl⟩
theorem Sm.sr {t t' : MS} (h : Sm t t') : Sr t t' := ⟨fun i _ _ _ => by rw [h.1], fun j hj => h.2.1 j (by omega), h.2.2⟩
section R10
variable {t t' : MS} {W : Wv} {σ σ' : Sg} {T : Nat → Nat} {ex : Nat → Option Nat} {z o : Nat} {a : Nat → Nat}
theorem MW.raceR {R' : Rc} (M : MW t W) (h : Sr t t') (hr : MR t' R') : MW t' (W.s_C (W.C.s_R R')) := by
  obtain ⟨h1, h2, h3⟩ := h
  refine ⟨⟨hr, ?_, ?_, ?_, ?_, ?_⟩, ?_, ?_, ?_, ?_, ?_, ?_⟩
  · rw [h1 10 (by decide) (by decide) (by decide)]; exact M.c.bn
  · rw [h2 4 (by decide), h2 5 (by decide)]; exact M.c.b
  · rw [h1 12 (by decide) (by decide) (by decide)]; exact M.c.un
  · rw [h2 6 (by decide)]; exact M.c.u
  · rw [h1 13 (by decide) (by decide) (by decide)]; exact M.c.dr
  · rw [h1 7 (by decide) (by decide) (by decide)]; exact M.sky
  · rw [h1 21 (by decide) (by decide) (by decide)]; exact M.im
  · rw [h2 11 (by decide)]; exact M.kp
  · rw [h1 15 (by decide) (by decide) (by decide)]; exact M.tn
  · rw [h2 7 (by decide)]; exact M.tp
  · rw [h2 12 (by decide), h2 13 (by decide), h3]; exact M.s
theorem MR.r1 {R : Rc} {c : Nat} {v : Int} (H : MR t R) : MR (setA t 2 c (Int32.ofInt v)) (R.s_r (up R.r c v)) := by
  have b := H.1
  have e0 : (setA t 2 c (Int32.ofInt v)).2.1 0 = t.2.1 0 := setA_other _ _ _ (by decide)
  refine ⟨⟨b.n, b.W, b.mn, ?_, ?_, ?_, ?_, ?_, ?_, ?_, ?_, ?_, ?_⟩, ?_⟩
  · rw [e0]; exact b.d
  · rw [e0]; exact b.h
  · rw [e0]; exact b.s
  · rw [e0]; exact b.p
  · rw [e0]; exact b.now
  · rw [e0]; exact b.he
  · rw [e0]; exact b.so
  · rw [setA_other _ _ _ (by decide)]; exact b.k
  · intro i hi
    rw [setA_same, Rc.s_r_r]
    by_cases hq : i = c
    · subst hq; rw [upd_at, up_self]
    · rw [upd_no _ _ hq, up_ne _ _ hq]; exact b.r i hi
  · rw [setA_other _ _ _ (by decide)]; exact b.sk
  · unfold MRf; rw [e0]; exact H.2
theorem RT.r1 {k : Nat} {A : Ad} {R : Rc} {al : Int32} (H : RT σ T k ex A R al) (B : R.Ba) {c : Nat} (hc : c < R.n) (v : Int) : RT (g_u σ (A.ca c) (ckC (R.s_r (up R.r c v)) c)) T k ex A (R.s_r (up R.r c v)) al ∧ Ow T k σ z (g_u σ (A.ca c) (ckC (R.s_r (up R.r c v)) c)) z :=
  H.putC (R' := R.s_r (up R.r c v)) B hc rfl rfl rfl rfl (fun i hi hne => by simp only [ckC, Rc.s_r_k, Rc.s_r_h, Rc.s_r_r, Rc.s_r_s, Rc.s_r_p, Rc.s_r_f, up_ne _ _ hne]) rfl
theorem b_tune (M : MW t W) (H : CW σ T ex z o a W) (O : W.OK) (x1 x2 : Int32) : Both σ T ex z o a (fX3_tune x1 x2 t) (fX0_tune ex z o x1 x2 (σ, 0, 0)) := by
  obtain ⟨at_, hob⟩ := H.obj
  have hn := O.n
  unfold fX3_tune fX0_tune
  rw [X_t hob (by decide)]
  by_cases h : ∃ i, i < W.C.R.n ∧ x1 = nI i
  · obtain ⟨i, hi, rfl⟩ := h
    rw [m_clk1 M O hi, gm_some, if_neg n10, c_clk1 H O hi, gb_two, if_neg n10]
    by_cases h : ∃ v : Int, -30 ≤ v ∧ v ≤ 30 ∧ x2 = Int32.ofInt v
    · obtain ⟨v, hv0, hv, rfl⟩ := h
      obtain ⟨A, hA, R⟩ := H.race
      have O1 : (W.s_C (W.C.note 2 i (W.C.R.r i))).OK := O.note (Or.inr (Or.inr (Or.inl ⟨rfl, hi, O.ba.r0 i hi, O.ba.r1 i hi⟩)))
      have O2 : (W.C.R.s_r (up W.C.R.r i v)).OK := O.c.r.c_r (fun j hj => by
        unfold up; split
        · exact ⟨hv0, hv⟩
        · exact ⟨O.ba.r0 j hj, O.ba.r1 j hj⟩)
      obtain ⟨t1, q1, q2, q3, q4⟩ := m_note M.c O.c.un 2 i (W.C.R.r i)
      have M1 := M.note q2 q3 q4
      have q1' : fX3_note 2 (nI i) (Int32.ofInt (W.C.R.r i)) t = some ((), t1) := q1
      have M2 := M1.raceR (Sr.set t1 i (Int32.ofInt v) (by decide)) (M1.c.r.r1 (c := i) (v := v))
      rw [m_r1 t hv0 hv, gm_some, if_neg n10, c_r1 _ hv0 hv, gb_two, if_neg n10, mald_nI (by omega) (by decide), M.c.r.1.r i hi, q1', gm_some, mast_nI (by omega) (by decide), A_t hob (by decide) rfl, ← hA, X_t R.1.ra (by decide), c_clock (t := (σ, 0, 0)) R.1 O.ba hi, gb_two, I_t (R.1.ck i hi) (kin (O.ba.k i hi)) rfl, new_t]
      simp only [Nat.add_zero, Nat.zero_add]
      have H1 := H.made (unC o 2 i (W.C.R.r i))
      have K1 := Kp.make (T := T) (σ := σ) H.fr 20 (unC o 2 i (W.C.R.r i))
      have hv1 : (g_u σ z (unC o 2 i (W.C.R.r i))) z = some (unC o 2 i (W.C.R.r i)) := g_u_self _ _ _
      have hTz : ext T z (z + 1) 20 z = 20 := ext_in (Nat.le_refl _) (by omega)
      rw [c_i19 H O hi, gb_z, X_t hv1 (by decide)]
      generalize g_u σ z (unC o 2 i (W.C.R.r i)) = σ1 at H1 K1 hv1 ⊢
      generalize ext T z (z + 1) 20 = T1 at H1 K1 hTz
      obtain ⟨σ2, T2, dc, ds, p1, p2, p3, p4, p5⟩ := c_kept H1 O hv1 hTz
      obtain ⟨at2, hob2⟩ := p2.obj
      obtain ⟨A2, hA2, R2⟩ := p2.race
      obtain ⟨w2, w3⟩ := RT.r1 (z := z + 1 + dc) R2 O.ba (c := i) hi v
      have p3' := p2.rc0 hA2 w2 w3
      rw [p1, gb_app, A_t hob2 (by decide) rfl, ← hA2, X_t R2.1.ra (by decide), c_clock (t := (σ2, 0, 0)) R2.1 O.ba hi, gb_two, P_t (R2.1.ck i hi) (kin (O.ba.k i hi)) (by show 2 < 6; decide)]
      have ec : (true, Sum.inr (4 + W.C.R.k i, [Value.int (nI i), Value.int (nI (W.C.R.h i)), Value.int (Int32.ofInt (W.C.R.r i)), Value.int (nI (W.C.R.s i)), Value.int (nI (W.C.R.p i)), Value.int (fin (W.C.R.f i))].set 2 (.int (Int32.ofInt v)))) = ckC (W.C.R.s_r (up W.C.R.r i v)) i := by
        simp only [ckC, Rc.s_r_k, Rc.s_r_h, Rc.s_r_r, Rc.s_r_s, Rc.s_r_p, Rc.s_r_f, up_self]
        rfl
      refine ⟨_, _, _, _, T2, 1 + dc, 4 + ds, rfl, rfl, M2, ?_, O1.race O2 O.c.now rfl rfl, ?_, by omega, by omega⟩
      · rw [← Nat.add_assoc]
        show CW (g_u σ2 (A2.ca i) (true, Sum.inr (4 + W.C.R.k i, [Value.int (nI i), Value.int (nI (W.C.R.h i)), Value.int (Int32.ofInt (W.C.R.r i)), Value.int (nI (W.C.R.s i)), Value.int (nI (W.C.R.p i)), Value.int (fin (W.C.R.f i))].set 2 (.int (Int32.ofInt v))))) T2 ex (z + 1 + dc) o a _
        rw [ec]; exact p3'
      · show Kp T σ T2 (g_u σ2 (A2.ca i) (true, Sum.inr (4 + W.C.R.k i, [Value.int (nI i), Value.int (nI (W.C.R.h i)), Value.int (Int32.ofInt (W.C.R.r i)), Value.int (nI (W.C.R.s i)), Value.int (nI (W.C.R.p i)), Value.int (fin (W.C.R.f i))].set 2 (.int (Int32.ofInt v))))) _
        rw [ec]
        exact ((K1.sub (fun _ _ => trivial)).tr (p3.sub (fun i hi => by rw [hi]; decide))).tr (w3.k50' p2.fr (by decide))
    · rw [m_r0 t h, gm_some, if_pos rfl, c_r0 _ h, gb_two, if_pos rfl]
      exact Both.same M H O _ rfl rfl
  · rw [m_clk0 M O h, gm_some, if_pos rfl, c_clk0 H O h, gb_two, if_pos rfl]
    exact Both.same M H O _ rfl rfl
theorem RT.d1 {k w v : Nat} {A : Ad} {R : Rc} {al : Int32} (H : RT σ T k ex A R al) {f : Nat → Int32} (hf : ∀ w, w < 24 → f w = nI (R.d w)) : RT (g_u σ A.d (true, .inl (0, 24, .inl (upd f w (nI v))))) T k ex A (R.s_d (up R.d w v)) al ∧ Ow T k σ z (g_u σ A.d (true, .inl (0, 24, .inl (upd f w (nI v))))) z :=
  H.putD (R' := R.s_d (up R.d w v)) rfl rfl rfl (fun j hj => rfl) (fun x hx => by
    rw [Rc.s_d_d]
    by_cases hq : x = w
    · subst hq; rw [upd_at, up_self]
    · rw [upd_no _ _ hq, up_ne _ _ hq]; exact hf x hx)
theorem b_breathe (M : MW t W) (H : CW σ T ex z o a W) (O : W.OK) (x1 : Int32) : Both σ T ex z o a (fX3_breathe x1 t) (fX0_breathe ex z o x1 (σ, 0, 0)) := by
  obtain ⟨at_, hob⟩ := H.obj
  obtain ⟨A, hA, R⟩ := H.race
  have hW := O.ba.W1
  have hn := O.n
  unfold fX3_breathe fX0_breathe
  rw [X_t hob (by decide)]
  by_cases h : ∃ i, i < W.C.R.W ∧ x1 = nI i
  · obtain ⟨i, hi, rfl⟩ := h
    obtain ⟨f, hd, hf⟩ := R.1.dl
    have hd12 := O.ba.d i (by omega)
    rw [m_win1 M O hi, gm_some, if_neg n10, c_win1 H O hi, gb_two, if_neg n10, A_t hob (by decide) rfl, ← hA, A_t R.1.ra (by decide) rfl, ald_t hd (by omega) (by decide), hf i (by omega), mald_nI (by omega) (by decide), M.c.r.1.d i (by omega), ifl 12 (by omega) (by decide), ifl 12 (by omega) (by decide)]
    by_cases hdk : W.C.R.d i = 12
    · rw [if_pos hdk, if_pos hdk]
      exact Both.same M H O _ rfl rfl
    · have O1 : (W.s_C (W.C.note 3 i (W.C.R.d i))).OK := O.note (Or.inr (Or.inr (Or.inr ⟨rfl, hi, by omega, by omega⟩)))
      have O2 : (W.C.R.s_d (up W.C.R.d i 12)).OK := O.c.r.d1 (Nat.le_refl _)
      obtain ⟨t1, q1, q2, q3, q4⟩ := m_note M.c O.c.un 3 i (W.C.R.d i)
      have M1 := M.note q2 q3 q4
      have q1' : fX3_note 3 (nI i) (nI (W.C.R.d i)) t = some ((), t1) := by rw [nI_ofInt (W.C.R.d i)]; exact q1
      have M2 := M1.race (Sm.set t1 i (nI 12)) (M1.c.r.d1 hn (by omega))
      rw [if_neg hdk, if_neg hdk, q1', gm_some, mast_nI (by omega) (by decide), ilit 12, new_t]
      simp only [Nat.add_zero, Nat.zero_add]
      have H1 := H.made (unC o 3 i (W.C.R.d i))
      have K1 := Kp.make (T := T) (σ := σ) H.fr 20 (unC o 3 i (W.C.R.d i))
      have hv1 : (g_u σ z (unC o 3 i (W.C.R.d i))) z = some (unC o 3 i (W.C.R.d i)) := g_u_self _ _ _
      have hTz : ext T z (z + 1) 20 z = 20 := ext_in (Nat.le_refl _) (by omega)
      rw [c_i16 H O (by omega), gb_z, X_t hv1 (by decide)]
      generalize g_u σ z (unC o 3 i (W.C.R.d i)) = σ1 at H1 K1 hv1 ⊢
      generalize ext T z (z + 1) 20 = T1 at H1 K1 hTz
      obtain ⟨σ2, T2, dc, ds, p1, p2, p3, p4, p5⟩ := c_kept H1 O hv1 hTz
      obtain ⟨at2, hob2⟩ := p2.obj
      obtain ⟨A2, hA2, R2⟩ := p2.race
      obtain ⟨f2, hd2, hf2⟩ := R2.1.dl
      obtain ⟨w2, w3⟩ := RT.d1 (z := z + 1 + dc) (w := i) (v := 12) R2 hf2
      have p3' := p2.rc0 hA2 w2 w3
      rw [p1, gb_app, A_t hob2 (by decide) rfl, ← hA2, A_t R2.1.ra (by decide) rfl, ast_t hd2 (by omega) (by decide), show vp_nar .byte (nI 12) = nI 12 from by decide]
      refine ⟨_, _, _, _, T2, 1 + dc, 4 + ds, rfl, rfl, M2, ?_, O1.race O2 O.c.now rfl rfl, ?_, by omega, by omega⟩
      · rw [← Nat.add_assoc]; exact p3'
      · exact ((K1.sub (fun _ _ => trivial)).tr (p3.sub (fun i hi => by rw [hi]; decide))).tr (w3.k50' p2.fr (by decide))
  · rw [m_win0 M O h, gm_some, if_pos rfl, c_win0 H O h, gb_two, if_pos rfl]
    exact Both.same M H O _ rfl rfl
/-- a repair is undone in the race -/
def Rc.undo (R : Rc) (k w : Nat) (x : Int) : Rc := if k = 0 then R.s_s (up R.s w x.toNat) else if k = 1 then R.s_h (up R.h w x.toNat) else if k = 2 then R.s_r (up R.r w x) else R.s_d (up R.d w x.toNat)
theorem Rc.undo_OK {R : Rc} (O : R.OK) {k w : Nat} {x : Int} (h : UnOK R k w x) : (R.undo k w x).OK := by
  unfold Rc.undo
  rcases h with ⟨rfl, h1, h2, h3⟩ | ⟨rfl, h1, h2, h3⟩ | ⟨rfl, h1, h2, h3⟩ | ⟨rfl, h1, h2, h3⟩
  · rw [if_pos rfl]
    exact O.c_s (fun i hi => by
      unfold up; split
      · omega
      · exact O.b.s i hi)
  · rw [if_neg (by decide), if_pos rfl]
    exact O.c_h (fun i hi => by
      unfold up; split
      · omega
      · exact O.b.h i hi)
  · rw [if_neg (by decide), if_neg (by decide), if_pos rfl]
    exact O.c_r (fun i hi => by
      unfold up; split
      · exact ⟨h2, h3⟩
      · exact ⟨O.b.r0 i hi, O.b.r1 i hi⟩)
  · rw [if_neg (by decide), if_neg (by decide), if_neg (by decide)]
    exact O.c_d (fun i hi => by
      unfold up; split
      · omega
      · exact O.b.d i hi)
theorem Rc.undo_keep (R : Rc) (k w : Nat) (x : Int) : (R.undo k w x).n = R.n ∧ (R.undo k w x).W = R.W ∧ (R.undo k w x).now = R.now := by
  unfold Rc.undo
  split
  · exact ⟨rfl, rfl, rfl⟩
  · split
    · exact ⟨rfl, rfl, rfl⟩
    · split
      · exact ⟨rfl, rfl, rfl⟩
      · exact ⟨rfl, rfl, rfl⟩
theorem nat_int {x : Int} (h : 0 ≤ x) : Int32.ofInt x = nI x.toNat := by
  rw [nI_ofInt]; congr 1; omega
theorem m_undone {R : Rc} (H : MR t R) (B : R.Ba) {k w : Nat} {x : Int} (h : UnOK R k w x) : ∃ t', (if nI k = 2 then mast t 2 9 (nI w) (Int32.ofInt x) fun t5 => some (t5.1 12, t5) else if nI k = 0 then fX3_undo_99 (nI w) (Int32.ofInt x) 33 t else if nI k = 1 then fX3_undo_99 (nI w) (Int32.ofInt x) 24 t else fX3_undo_99 (nI w) (Int32.ofInt x) 0 t) = some (t.1 12, t') ∧ MR t' (R.undo k w x) ∧ Sr t t' := by
  have h9 := B.n
  have hW := B.W1
  unfold fX3_undo_99
  rcases h with ⟨rfl, h1, h2, h3⟩ | ⟨rfl, h1, h2, h3⟩ | ⟨rfl, h1, h2, h3⟩ | ⟨rfl, h1, h2, h3⟩
  · rw [if_neg (show ¬ nI 0 = 2 by decide), if_pos (show nI 0 = 0 by decide), ilit 33, nI_add, mast_nI (by omega) (by decide), nat_int h2]
    exact ⟨_, rfl, H.s1 h9 h1, Sr.set _ _ _ (by decide)⟩
  · rw [if_neg (show ¬ nI 1 = 2 by decide), if_neg (show ¬ nI 1 = 0 by decide), if_pos (show nI 1 = 1 by decide), ilit 24, nI_add, mast_nI (by omega) (by decide), nat_int h2]
    exact ⟨_, rfl, H.h1 h9 h1, Sr.set _ _ _ (by decide)⟩
  · rw [if_pos (show nI 2 = 2 by decide), mast_nI (by omega) (by decide)]
    exact ⟨_, rfl, H.r1, Sr.set _ _ _ (by decide)⟩
  · rw [if_neg (show ¬ nI 3 = 2 by decide), if_neg (show ¬ nI 3 = 0 by decide), if_neg (show ¬ nI 3 = 1 by decide), ilit 0, nI_add, Nat.zero_add, mast_nI (by omega) (by decide), nat_int h2]
    exact ⟨_, rfl, H.d1 h9 (by omega), Sr.set _ _ _ (by decide)⟩
theorem c_undone (H : CW σ T ex z o a W) (O : W.OK) {v k w : Nat} {x : Int} (hv : σ v = some (unC o k w x)) (h : UnOK W.C.R k w x) : ∃ σ', (∀ (zz : Nat) (c : Nat × Nat), fv_X15_undoes ex zz v (σ, c) = some ((), (σ', c))) ∧ CW σ' T ex z o a (W.s_C (W.C.s_R (W.C.R.undo k w x))) ∧ Kp T σ T σ' (fun i => i ≠ 2) := by
  obtain ⟨at_, hob⟩ := H.obj
  obtain ⟨A, hA, R⟩ := H.race
  have hW := O.ba.W1
  unfold Rc.undo
  rcases h with ⟨rfl, h1, h2, h3⟩ | ⟨rfl, h1, h2, h3⟩ | ⟨rfl, h1, h2, h3⟩ | ⟨rfl, h1, h2, h3⟩
  · obtain ⟨r1, r2⟩ := R.s1 (z := z) O.ba h1 x.toNat
    rw [if_pos rfl]
    refine ⟨_, fun zz c => ?_, H.rc0 hA r1 r2, r2.kp0 H.fr⟩
    have hv' : σ v = some (true, .inr (18, [.int (nI w), .int (Int32.ofInt x), .ref o, .ref o])) := hv
    unfold fv_X15_undoes
    rw [C_t hv', if_neg (by decide), if_neg (by decide), if_pos rfl]
    unfold fX18_undoes
    rw [A_t hv' (by decide) rfl, A_t hob (by decide) rfl, I_t hv' (by decide) rfl, ← hA, X_t R.1.ra (by decide), c_clock (t := (σ, 0, 0)) R.1 O.ba h1, gb_two, I_t hv' (by decide) rfl, P_t (R.1.ck w h1) (kin (O.ba.k w h1)) (by show 3 < 6; decide), nat_int h2]
    have ec : (true, Sum.inr (4 + W.C.R.k w, [Value.int (nI w), Value.int (nI (W.C.R.h w)), Value.int (Int32.ofInt (W.C.R.r w)), Value.int (nI (W.C.R.s w)), Value.int (nI (W.C.R.p w)), Value.int (fin (W.C.R.f w))].set 3 (.int (nI x.toNat)))) = ckC (W.C.R.s_s (up W.C.R.s w x.toNat)) w := by
      simp only [ckC, Rc.s_s_k, Rc.s_s_h, Rc.s_s_r, Rc.s_s_s, Rc.s_s_p, Rc.s_s_f, up_self]
      rfl
    rw [ec]
  · obtain ⟨r1, r2⟩ := R.h1 (z := z) O.ba h1 x.toNat
    rw [if_neg (by decide), if_pos rfl]
    refine ⟨_, fun zz c => ?_, H.rc0 hA r1 r2, r2.kp0 H.fr⟩
    have hv' : σ v = some (true, .inr (17, [.int (nI w), .int (Int32.ofInt x), .ref o, .ref o])) := hv
    unfold fv_X15_undoes
    rw [C_t hv', if_neg (by decide), if_pos rfl]
    unfold fX17_undoes
    rw [A_t hv' (by decide) rfl, A_t hob (by decide) rfl, I_t hv' (by decide) rfl, ← hA, X_t R.1.ra (by decide), c_clock (t := (σ, 0, 0)) R.1 O.ba h1, gb_two, I_t hv' (by decide) rfl, P_t (R.1.ck w h1) (kin (O.ba.k w h1)) (by show 1 < 6; decide), nat_int h2]
    have ec : (true, Sum.inr (4 + W.C.R.k w, [Value.int (nI w), Value.int (nI (W.C.R.h w)), Value.int (Int32.ofInt (W.C.R.r w)), Value.int (nI (W.C.R.s w)), Value.int (nI (W.C.R.p w)), Value.int (fin (W.C.R.f w))].set 1 (.int (nI x.toNat)))) = ckC (W.C.R.s_h (up W.C.R.h w x.toNat)) w := by
      simp only [ckC, Rc.s_h_k, Rc.s_h_h, Rc.s_h_r, Rc.s_h_s, Rc.s_h_p, Rc.s_h_f, up_self]
      rfl
    rw [ec]
  · obtain ⟨r1, r2⟩ := RT.r1 (z := z) R O.ba h1 x
    rw [if_neg (by decide), if_neg (by decide), if_pos rfl]
    refine ⟨_, fun zz c => ?_, H.rc0 hA r1 r2, r2.kp0 H.fr⟩
    have hv' : σ v = some (true, .inr (19, [.int (nI w), .int (Int32.ofInt x), .ref o, .ref o])) := hv
    unfold fv_X15_undoes
    rw [C_t hv', if_neg (by decide), if_neg (by decide), if_neg (by decide), if_pos rfl]
    unfold fX19_undoes
    rw [A_t hv' (by decide) rfl, A_t hob (by decide) rfl, I_t hv' (by decide) rfl, ← hA, X_t R.1.ra (by decide), c_clock (t := (σ, 0, 0)) R.1 O.ba h1, gb_two, I_t hv' (by decide) rfl, P_t (R.1.ck w h1) (kin (O.ba.k w h1)) (by show 2 < 6; decide)]
    have ec : (true, Sum.inr (4 + W.C.R.k w, [Value.int (nI w), Value.int (nI (W.C.R.h w)), Value.int (Int32.ofInt (W.C.R.r w)), Value.int (nI (W.C.R.s w)), Value.int (nI (W.C.R.p w)), Value.int (fin (W.C.R.f w))].set 2 (.int (Int32.ofInt x)))) = ckC (W.C.R.s_r (up W.C.R.r w x)) w := by
      simp only [ckC, Rc.s_r_k, Rc.s_r_h, Rc.s_r_r, Rc.s_r_s, Rc.s_r_p, Rc.s_r_f, up_self]
      rfl
    rw [ec]
  · obtain ⟨f, hd, hf⟩ := R.1.dl
    obtain ⟨r1, r2⟩ := RT.d1 (z := z) (w := w) (v := x.toNat) R hf
    rw [if_neg (by decide), if_neg (by decide), if_neg (by decide)]
    refine ⟨_, fun zz c => ?_, H.rc0 hA r1 r2, r2.kp0 H.fr⟩
    have hv' : σ v = some (true, .inr (16, [.int (nI w), .int (Int32.ofInt x), .ref o, .ref o])) := hv
    unfold fv_X15_undoes
    rw [C_t hv', if_pos rfl]
    unfold fX16_undoes
    rw [A_t hv' (by decide) rfl, A_t hob (by decide) rfl, ← hA, A_t R.1.ra (by decide) rfl, I_t hv' (by decide) rfl, I_t hv' (by decide) rfl, ast_t hd (by omega) (by decide), nat_int h2, nar_byte (by omega)]
theorem b_undo (M : MW t W) (H : CW σ T ex z o a W) (O : W.OK) : Both σ T ex z o a (fX3_undo t) (fX0_undo ex z o (σ, 0, 0)) := by
  obtain ⟨at_, hob⟩ := H.obj
  have Hu := PUns.il.mp H.un
  obtain ⟨mc, e, hl⟩ := Hu.li
  have hun := O.c.un
  unfold fX3_undo fX0_undo
  rw [A_t hob (by decide) rfl, X_t hl (by decide), Hu.isEmpty (by omega), gb_two, M.c.un, ifl 0 (by omega) (by decide)]
  by_cases h0 : W.C.un = 0
  · rw [if_pos h0, if_pos h0, if_neg n10]
    exact Both.same M H O _ rfl rfl
  · have hu := O.c.u (W.C.un - 1) (by omega)
    have mu := M.c.u (W.C.un - 1) (by omega)
    obtain ⟨σ1, v1, r1, r2, r3, r4, r5⟩ := Hu.remove (i := W.C.un - 1) H.fr (by decide) (by omega) (fun b _ => obj_un _ _ _ _) (by omega) z
    have H1 : CW σ1 T ex z o a (W.s_C (W.C.s_un (W.C.un - 1))) := by
      refine H.u_un (W' := W.s_C (W.C.s_un (W.C.un - 1))) H.fr (r3.kp0 H.fr) ?_ rfl rfl rfl rfl rfl rfl rfl rfl rfl rfl rfl rfl rfl rfl rfl rfl rfl rfl rfl rfl
      refine PUns.il.mpr (r2.cong (fun b hb => ?_))
      unfold drpA
      rw [if_pos hb]; rfl
    have O1 : (W.s_C (W.C.s_un (W.C.un - 1))).OK := by
      have C := O.c
      exact ⟨⟨C.r, C.now, C.bn, C.b, by show W.C.un - 1 ≤ 10; omega, fun u hu => C.u u (by have hu' : u < W.C.un - 1 := hu; omega), C.dr⟩, O.i, O.im, O.tn, O.tp, O.s⟩
    have M1 : MW (setI t 12 (nI (W.C.un - 1))) (W.s_C (W.C.s_un (W.C.un - 1))) := ⟨⟨M.c.r.i1 (by decide) (by decide) (by decide), M.c.bn, M.c.b, (setI_at _ _ _), (fun u hu => M.c.u u (by have hu' : u < W.C.un - 1 := hu; omega)), M.c.dr⟩, M.sky, M.im, M.kp, M.tn, M.tp, M.s⟩
    obtain ⟨σ2, u1, u2, u3⟩ := c_undone H1 O1 r5 hu
    obtain ⟨t2, m1, m2, m3⟩ := m_undone M1.c.r O.ba hu
    have M2 := M1.raceR m3 m2
    have kk := Rc.undo_keep W.C.R (W.C.uk (W.C.un - 1)) (W.C.uw (W.C.un - 1)) (W.C.ua (W.C.un - 1))
    obtain ⟨at2, hob2⟩ := u2.obj
    have Hu2 := PUns.il.mp u2.un
    obtain ⟨mc2, e2, hl2⟩ := Hu2.li
    have r5' : σ1 v1 = some (true, .inr (ucl (W.C.uk (W.C.un - 1)), [.int (nI (W.C.uw (W.C.un - 1))), .int (Int32.ofInt (W.C.ua (W.C.un - 1))), .ref o, .ref o])) := r5
    rw [if_neg h0, if_neg h0, if_pos rfl, A_t hob (by decide) rfl, A_t hob (by decide) rfl, X_t hl (by decide), Hu.size, gb_two, X_t hl (by decide), nI_sub1 (by omega)]
    simp only [Nat.add_zero, lt]
    have e12 : (setI t 12 (nI (W.C.un - 1))).1 12 = nI (W.C.un - 1) := setI_at _ _ _
    rw [r1, gb_z, X_t r5' (ucl_4 _), X_t r5' (ucl_4 _), u1, gb_z, A_t hob2 (by decide) rfl, X_t hl2 (by decide), Hu2.size, gb_two, e12, ilit 3, nI_mul, mald_nI (by omega) (by decide), nI_1, mald_nI (by omega) (by decide)]
    rw [show nI (3 * (W.C.un - 1)) + 2 = nI (3 * (W.C.un - 1) + 2) from nI_add _ 2, mald_nI (by omega) (by decide)]
    have mu' : (setI t 12 (nI (W.C.un - 1))).2.1 6 (3 * (W.C.un - 1)) = nI (W.C.uk (W.C.un - 1)) ∧ (setI t 12 (nI (W.C.un - 1))).2.1 6 (3 * (W.C.un - 1) + 1) = nI (W.C.uw (W.C.un - 1)) ∧ (setI t 12 (nI (W.C.un - 1))).2.1 6 (3 * (W.C.un - 1) + 2) = Int32.ofInt (W.C.ua (W.C.un - 1)) := mu
    rw [mu'.1, mu'.2.1, mu'.2.2, m1]
    exact Both.put _ (by rw [e12]; rfl) rfl M2 u2 (O1.race (Rc.undo_OK O.c.r hu) (show (W.C.R.undo (W.C.uk (W.C.un - 1)) (W.C.uw (W.C.un - 1)) (W.C.ua (W.C.un - 1))).now ≤ 9999 by rw [kk.2.2]; exact O.c.now) kk.1 kk.2.1) ((r3.k50' H.fr (by decide)).tr (u3.sub (fun i hi => by rw [hi]; decide)))
theorem rt_begins' {k : Nat} {A : Ad} {R : Rc} {al : Int32} (H : RT σ T k ex A R al) (B : R.Ba) (hf : ∀ c, c < R.n → R.f c < 2 ^ 31) {cc : Nat × Nat} : ∃ σ', fX1_begins ex z A.r (σ, cc) = some (nI R.homes, (σ', cc)) ∧ RT σ' T k ex A R.back al ∧ Ow T k σ z σ' z := by
  have hn := B.n
  have h0 : RT σ T k ex A (R.bk 0) al := H.cong rfl rfl (fun w hw => rfl) (fun j hj => rfl) (fun i hi => Rc.bk_ck0 R i)
  obtain ⟨σ', q1, q2, q3⟩ := rt_be4 (z := z) B hf R.n 0 1000 σ cc (by omega) (by omega) h0
  refine ⟨σ', q1, q2.cong rfl rfl (fun w hw => rfl) (fun j hj => rfl) (fun i hi => ?_), q3⟩
  exact Rc.bk_ckn hi
def Rc.anew (R : Rc) : Rc := (Rc.mk (R.n) (R.W) (R.d) (R.k) (R.h) (R.r) (R.s) (fun _ => 0) (fun _ => 0) (0) (R.sk) (R.mn) (0) (0))
def Rc.zro (R : Rc) : Rc := (Rc.mk (R.n) (R.W) (R.d) (R.k) (R.h) (R.r) (R.s) (R.p) (R.f) (0) (R.sk) (R.mn) (0) (0))
theorem Rc.anew_OK {R : Rc} (O : R.OK) : R.anew.OK := by
  have B := O.b
  have h := B.W0
  refine ⟨⟨B.n, B.W0, B.W1, B.d, B.k, B.h, B.r0, B.r1, B.s, fun c _ => by show 0 < R.W; omega, by show 0 < 100000; decide, B.sk, B.mn0, B.mn1⟩, fun c hc => ?_, fun c hc => Nat.le_refl 0, ?_, Nat.zero_le _⟩
  · show (0 : Nat) = 0 ↔ 0 ≠ R.W - 1
    constructor
    · intro _; omega
    · intro _; rfl
  · show 0 < 2 ^ R.n
    exact Nat.two_pow_pos _
theorem b_restart (M : MW t W) (H : CW σ T ex z o a W) (O : W.OK) : Both σ T ex z o a (fX3_restart t) (fX0_restart ex z o (σ, 0, 0)) := by
  obtain ⟨at_, hob⟩ := H.obj
  have Hu := PUns.il.mp H.un
  obtain ⟨mc, e, hl⟩ := Hu.li
  have hun := O.c.un
  have h9 := O.n
  obtain ⟨σ1, r1, r2, r3⟩ := Hu.clear (z := z) (by omega) z
  have H1 : CW σ1 T ex z o a (W.s_C (W.C.s_un 0)) := H.u_un (W' := W.s_C (W.C.s_un 0)) H.fr (r3.kp0 H.fr) (r2 _) rfl rfl rfl rfl rfl rfl rfl rfl rfl rfl rfl rfl rfl rfl rfl rfl rfl rfl rfl rfl
  obtain ⟨at1, hob1⟩ := H1.obj
  obtain ⟨A, hA, R⟩ := H1.race
  have Rr : RT σ1 T 2 ex A W.C.R (-4) := R
  obtain ⟨s1, s2⟩ := Rr.putR (z := z) (R' := W.C.R.zro) (al' := -4) (x := raC W.C.R.zro A (-4)) rfl rfl rfl (fun _ _ => rfl) rfl
  have B2 : W.C.R.zro.Ba := by
    have B := O.ba
    exact ⟨B.n, B.W0, B.W1, B.d, B.k, B.h, B.r0, B.r1, B.s, B.p, by show 0 < 100000; decide, B.sk, B.mn0, B.mn1⟩
  have H2 := H1.rc0 hA s1 s2
  obtain ⟨at2, hob2⟩ := H2.obj
  obtain ⟨σ3, b1, b2, b3⟩ := rt_begins' (z := z) (cc := (0, 0)) s1 B2 (fun c hc => by
    have h1 := O.c.r.f1 c hc
    have h2 := O.ba.now
    show W.C.R.f c < _
    omega)
  have b2' : RT σ3 T 2 ex A W.C.R.anew (-4) := by
    have e : W.C.R.zro.back = W.C.R.anew := rfl
    rw [← e]; exact b2
  have H3 : CW σ3 T ex z o a (W.s_C ((W.C.s_un 0).s_R W.C.R.anew)) := H1.u_rc (W' := W.s_C ((W.C.s_un 0).s_R W.C.R.anew)) H1.fr ((s2.kp0 H1.fr).tr (b3.kp0 H1.fr)) ⟨by decide, A, hA, b2'⟩ rfl rfl rfl rfl rfl rfl rfl rfl rfl rfl rfl rfl rfl rfl rfl rfl rfl rfl rfl rfl rfl rfl rfl
  obtain ⟨t1, m1, m2, m3⟩ := m_allBack M.c.r O.ba
  unfold fX3_restart fX0_restart
  rw [A_t hob (by decide) rfl, X_t hl (by decide)]
  simp only [Nat.add_zero]
  rw [r1, gb_z, A_t hob1 (by decide) rfl, ← hA, P_t Rr.1.ra (by decide) (by show 3 < 9; decide)]
  have ho : ∀ x, (g_u σ1 A.r x) o = some (obC a (nI W.C.dr) (nI W.tn) at1 (nI W.im) (nI W.I.dr)) := by
    intro x
    rw [g_u_ne]
    · exact hob1
    · intro g; have := H1.ob.1; rw [g, Rr.2.1] at this; exact absurd this (by decide)
  rw [A_t (ho _) (by decide) rfl, ← hA, P_t (g_u_self _ _ _) (by decide) (by show 7 < 9; decide), g_u_twice, A_t (ho _) (by decide) rfl, ← hA, P_t (g_u_self _ _ _) (by decide) (by show 8 < 9; decide), g_u_twice]
  have ec : (true, Sum.inr (1, ((([Value.int (nI W.C.R.W), Value.ref A.d, Value.ref A.l, Value.int (nI W.C.R.now), Value.ref A.s, Value.int (nI W.C.R.mn), Value.int (-4), Value.int (nI W.C.R.he), Value.int (nI W.C.R.so)].set 3 (.int 0)).set 7 (.int 0)).set 8 (.int 0)))) = raC W.C.R.zro A (-4) := rfl
  rw [ec, A_t (ho _) (by decide) rfl, ← hA, X_t s1.1.ra (by decide)]
  simp only [Nat.add_zero]
  rw [b1, gb_z, m_homes M.c.r O.c.r, gm_some, m1, gm_some, ilit 60, mast_nI (by decide) (by decide), ilit 61, mast_nI (by decide) (by decide), ilit 62, mast_nI (by decide) (by decide)]
  have hA0 : (setA (setA (setA (setI t1 12 0) 0 60 0) 0 61 0) 0 62 0).2.1 0 = upd (upd (upd (t1.2.1 0) 60 0) 61 0) 62 0 := by
    rw [setA_same, setA_same, setA_same]; rfl
  have hr : MR (setA (setA (setA (setI t1 12 0) 0 60 0) 0 61 0) 0 62 0) W.C.R.anew := by
    have b := m2.1
    have o1 : ∀ j, j ≠ 0 → (setA (setA (setA (setI t1 12 0) 0 60 0) 0 61 0) 0 62 0).2.1 j = t1.2.1 j := fun j hj => by rw [setA_other _ _ _ hj, setA_other _ _ _ hj, setA_other _ _ _ hj]; rfl
    refine ⟨⟨b.n, b.W, b.mn, ?_, ?_, ?_, ?_, ?_, ?_, ?_, ?_, ?_, ?_⟩, ?_⟩
    · intro w hw; rw [hA0, upd_no _ _ (by omega), upd_no _ _ (by omega), upd_no _ _ (by omega)]; exact b.d w hw
    · intro c hc; have hc' : c < W.C.R.n := hc; rw [hA0, upd_no _ _ (by omega), upd_no _ _ (by omega), upd_no _ _ (by omega)]; exact b.h c hc
    · intro c hc; have hc' : c < W.C.R.n := hc; rw [hA0, upd_no _ _ (by omega), upd_no _ _ (by omega), upd_no _ _ (by omega)]; exact b.s c hc
    · intro c hc; have hc' : c < W.C.R.n := hc; rw [hA0, upd_no _ _ (by omega), upd_no _ _ (by omega), upd_no _ _ (by omega)]; exact b.p c hc
    · rw [hA0, upd_no _ _ (by omega), upd_no _ _ (by omega), upd_at]; rfl
    · rw [hA0, upd_no _ _ (by omega), upd_at]; rfl
    · rw [hA0, upd_at]; rfl
    · rw [o1 1 (by decide)]; exact b.k
    · rw [o1 2 (by decide)]; exact b.r
    · rw [o1 3 (by decide)]; exact b.sk
    · intro c hc; have hc' : c < W.C.R.n := hc; rw [hA0, upd_no _ _ (by omega), upd_no _ _ (by omega), upd_no _ _ (by omega)]; exact m2.2 c hc
  have M1 : MW (setI t1 12 0) (W.s_C ((W.C.s_un 0).s_R W.C.R.back)) := by
    have M0 := M.race m3 m2
    exact ⟨⟨m2.i1 (by decide) (by decide) (by decide), M0.c.bn, M0.c.b, (setI_at _ _ _), (fun u hu => absurd hu (Nat.not_lt_zero u)), M0.c.dr⟩, M0.sky, M0.im, M0.kp, M0.tn, M0.tp, M0.s⟩
  have M2 : MW (setA (setA (setA (setI t1 12 0) 0 60 0) 0 61 0) 0 62 0) (W.s_C ((W.C.s_un 0).s_R W.C.R.anew)) := M1.race (((Sm.set _ _ _).sets _ _).sets _ _) hr
  refine Both.put _ rfl rfl M2 H3 ?_ (((r3.k50' H.fr (by decide)).tr (s2.k50' H1.fr (by decide))).tr (b3.k50' H2.fr (by decide)))
  have C := O.c
  exact ⟨⟨Rc.anew_OK C.r, by show 0 ≤ 9999; decide, C.bn, C.b, by show 0 ≤ 10; decide, fun u hu => absurd hu (Nat.not_lt_zero u), C.dr⟩, O.i, O.im, O.tn, O.tp, O.s⟩
end R10
