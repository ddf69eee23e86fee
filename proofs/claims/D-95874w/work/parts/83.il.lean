/-! lists of things that don't change; settle, bet -/
set_option maxRecDepth 100000
/-- a thing's cell that a list may hold -/
def obj (x : Bool × va_E) : Prop := ∃ fl ci fs, x = (fl, .inr (ci, fs)) ∧ ci ∈ csL
theorem obj_bt (c s : Nat) : obj (btC c s) := ⟨true, 20, _, rfl, by decide⟩
theorem ucl_in (k : Nat) : ucl k ∈ csL := by
  unfold ucl
  split
  · decide
  · split
    · decide
    · split <;> decide
theorem obj_un (o k w : Nat) (v : Int) : obj (unC o k w v) := ⟨true, ucl k, _, rfl, ucl_in k⟩
def IL (σ : Sg) (T : Nat → Nat) (ex : Nat → Option Nat) (k l n : Nat) (cell : Nat → Bool × va_E) : Prop := k ≠ 0 ∧ ∃ e g, AL σ T k ex l e n g ∧ ∀ b, b < n → T (g b) = 20 ∧ σ (g b) = some (cell b)
theorem PBts.il {σ : Sg} {T : Nat → Nat} {ex : Nat → Option Nat} {k l n : Nat} {bc bs : Nat → Nat} : PBts σ T ex k l n bc bs ↔ IL σ T ex k l n (fun b => btC (bc b) (bs b)) := Iff.rfl
theorem PUns.il {σ : Sg} {T : Nat → Nat} {ex : Nat → Option Nat} {k o l n : Nat} {uk uw : Nat → Nat} {ua : Nat → Int} : PUns σ T ex k o l n uk uw ua ↔ IL σ T ex k l n (fun u => unC o (uk u) (uw u) (ua u)) := Iff.rfl
section IL1
variable {σ : Sg} {T : Nat → Nat} {ex : Nat → Option Nat} {z k l n : Nat} {cell : Nat → Bool × va_E}
theorem IL.cong {cell' : Nat → Bool × va_E} (H : IL σ T ex k l n cell) (h : ∀ b, b < n → cell' b = cell b) : IL σ T ex k l n cell' := by
  obtain ⟨h0, e, g, h1, h2⟩ := H
  exact ⟨h0, e, g, h1, fun b hb => by rw [h b hb]; exact h2 b hb⟩
theorem IL.li (H : IL σ T ex k l n cell) : ∃ mc e, σ l = some (liC mc e n) := by
  obtain ⟨h0, e, g, h1, h2⟩ := H
  obtain ⟨mc, h⟩ := h1.2.1
  exact ⟨mc, e, h⟩
theorem IL.ltag (H : IL σ T ex k l n cell) : T l = k := by
  obtain ⟨h0, e, g, h1, h2⟩ := H
  exact h1.1
theorem IL.size (H : IL σ T ex k l n cell) {zz : Nat} {c : Nat × Nat} : fJ2_size ex zz l (σ, c) = some (nI n, (σ, c)) := by
  obtain ⟨h0, e, g, h1, h2⟩ := H
  exact al_size h1
theorem IL.isEmpty (H : IL σ T ex k l n cell) (hn : n ≤ 300) {zz : Nat} {c : Nat × Nat} : fJ2_isEmpty ex zz l (σ, c) = some (if n = 0 then 1 else 0, (σ, c)) := by
  obtain ⟨h0, e, g, h1, h2⟩ := H
  exact al_isEmpty h1 hn
theorem IL.get (H : IL σ T ex k l n cell) {i : Nat} (hi : i < n) : ∃ v, (∀ (zz : Nat) (c : Nat × Nat), fJ2_get ex zz l (nI i) (σ, c) = some (v, (σ, c))) ∧ σ v = some (cell i) ∧ T v = 20 := by
  obtain ⟨h0, e, g, h1, h2⟩ := H
  exact ⟨g i, fun zz c => al_get h1 hi, (h2 i hi).2, (h2 i hi).1⟩
theorem IL.add (H : IL σ T ex k l n cell) (F : Fre T z) (hk9 : k ≠ 99) (hk2 : k ≠ 20) (hn : n ≤ 160) (ho : ∀ b, b < n → obj (cell b)) {v : Nat} {x : Bool × va_E} (hv : σ v = some x) (hx : obj x) (hT : T v = 20) : ∃ σ' dc ds, fJ2_add ex z l v (σ, 0, 0) = some (1, (σ', dc, ds)) ∧ IL σ' (ext T z (z + dc) k) ex k l (n + 1) (up cell n x) ∧ Ow T k σ z σ' (z + dc) ∧ dc ≤ 1 ∧ ds ≤ 300 ∧ (n < 10 → ds ≤ 10) := by
  obtain ⟨h0, e, g, h1, h2⟩ := H
  obtain ⟨fl, ci, fs, rfl, hci⟩ := hx
  have hgz : ∀ i, i < n → g i < z := fun i hi => F.lt (h2 i hi).1 (by decide)
  have E : El σ g n := fun j hj => by
    obtain ⟨a, b, c, d, e⟩ := ho j hj
    exact ⟨a, b, c, by rw [← d]; exact (h2 j hj).2, e⟩
  obtain ⟨σ', e', dc, ds, q1, q2, q3, q4, q5, q6, q7, -⟩ := al_add h1 F h0 hk9 hn E hgz hv hci (F.lt hT (by decide)) (fun x => hk2 (h1.1.symm.trans (x ▸ hT)))
  refine ⟨σ', dc, ds, q1, ⟨h0, e', up g n v, q2, fun b hb => ?_⟩, q3, q4, q5, fun h => ?_⟩
  · have keep : ∀ q, T q = 20 → ext T z (z + dc) k q = 20 ∧ σ' q = σ q := fun q hq => ⟨Ow.own F hq (by decide), q3.at F hq (by decide) (fun x => hk2 x.symm)⟩
    by_cases hbn : b = n
    · subst hbn; rw [up_self, up_self]; exact ⟨(keep v hT).1, (keep v hT).2.trans hv⟩
    · rw [up_ne _ _ hbn, up_ne _ _ hbn]
      obtain ⟨a1, a2⟩ := h2 b (by omega)
      exact ⟨(keep _ a1).1, (keep _ a1).2.trans a2⟩
  · by_cases hn0 : n = 0
    · exact q6 hn0
    · have := (q7 (by omega) h).2; omega
theorem Ow.any {σ' : Sg} {z' : Nat} (h : Ow T k σ z σ' z) : Ow T k σ z' σ' z' := ⟨Nat.le_refl _, fun q hq _ => h.2 q hq (by omega)⟩
theorem IL.clear (H : IL σ T ex k l n cell) (hn : n ≤ 160) (zz : Nat) : ∃ σ', fJ2_clear ex zz l (σ, 0, 0) = some ((), (σ', 0, 0)) ∧ (∀ cell', IL σ' T ex k l 0 cell') ∧ Ow T k σ z σ' z := by
  obtain ⟨h0, e, g, h1, h2⟩ := H
  obtain ⟨σ', q1, q2, q3, -⟩ := al_clear (z := zz) (c := (0, 0)) h1 (by omega)
  exact ⟨σ', q1, fun cell' => ⟨h0, e, g, q2 g, fun b hb => by omega⟩, q3.any⟩
/-- what is left when the one at i goes -/
def drpA {α : Type} (g : Nat → α) (i : Nat) : Nat → α := fun j => if j < i then g j else g (j + 1)
theorem IL.remove (H : IL σ T ex k l n cell) (F : Fre T z) (hk2 : k ≠ 20) (hn : n ≤ 160) (ho : ∀ b, b < n → obj (cell b)) {i : Nat} (hi : i < n) (zz : Nat) : ∃ σ' v, fJ2_remove ex zz l (nI i) (σ, 0, 0) = some (v, (σ', 0, 0)) ∧ IL σ' T ex k l (n - 1) (drpA cell i) ∧ Ow T k σ z σ' z ∧ T v = 20 ∧ σ' v = some (cell i) := by
  obtain ⟨h0, e, g, h1, h2⟩ := H
  have E : El σ g n := fun j hj => by
    obtain ⟨a, b, c, d, e⟩ := ho j hj
    exact ⟨a, b, c, by rw [← d]; exact (h2 j hj).2, e⟩
  obtain ⟨σ', q1, q2, q3, -⟩ := al_remove (z := zz) (c := (0, 0)) h1 E hi hn
  have keep : ∀ q, T q = 20 → σ' q = σ q := fun q hq => (q3.any (z' := z)).at F hq (by decide) (fun x => hk2 x.symm)
  refine ⟨σ', g i, q1, ⟨h0, e, drp g i, q2, fun b hb => ?_⟩, q3.any, (h2 i hi).1, (keep _ (h2 i hi).1).trans (h2 i hi).2⟩
  unfold drp drpA
  split
  · obtain ⟨a1, a2⟩ := h2 b (by omega)
    exact ⟨a1, (keep _ a1).trans a2⟩
  · obtain ⟨a1, a2⟩ := h2 (b + 1) (by omega)
    exact ⟨a1, (keep _ a1).trans a2⟩
end IL1
section O3
variable {t t' : MS} {W : Wv} {σ σ' : Sg} {T : Nat → Nat} {ex : Nat → Option Nat} {z o : Nat} {a : Nat → Nat}
theorem b_settle (M : MW t W) (H : CW σ T ex z o a W) (O : W.OK) : Both σ T ex z o a (fX3_settle t) (fX0_settle ex z o (σ, 0, 0)) := by
  obtain ⟨at_, hob⟩ := H.obj
  have Hb := PBts.il.mp H.bt
  obtain ⟨mc, e, hl⟩ := Hb.li
  have hbn := O.c.bn
  obtain ⟨σ1, q1, q2, q3⟩ := Hb.clear (z := z) (by omega) z
  unfold fX3_settle fX0_settle
  simp only [Nat.add_zero, lt]
  rw [A_t hob (by decide) rfl, X_t hl (by decide), Hb.size, gb_two, A_t hob (by decide) rfl, X_t hl (by decide)]
  simp only [Nat.add_zero]
  rw [q1, gb_app]
  refine Both.put (W' := W.s_C (W.C.s_bn 0)) (nI W.C.bn) (t' := setI t 10 0) (by rw [M.c.bn]) rfl ?_ (H.u_bt (W' := W.s_C (W.C.s_bn 0)) H.fr (q3.kp0 H.fr) (q2 _) rfl rfl rfl rfl rfl rfl rfl rfl rfl rfl rfl rfl rfl rfl rfl rfl rfl rfl rfl rfl rfl) ?_ (q3.k50' H.fr (by decide))
  · exact ⟨⟨M.c.r.i1 (by decide) (by decide) (by decide), (setI_at _ _ _), (fun b hb => absurd hb (Nat.not_lt_zero b)), M.c.un, M.c.u, M.c.dr⟩, M.sky, M.im, M.kp, M.tn, M.tp, M.s⟩
  · have C := O.c
    exact ⟨⟨C.r, C.now, by show 0 ≤ 6; omega, fun b hb => absurd hb (Nat.not_lt_zero b), C.un, C.u, C.dr⟩, O.i, O.im, O.tn, O.tp, O.s⟩
theorem b_bet (M : MW t W) (H : CW σ T ex z o a W) (O : W.OK) (x1 x2 : Int32) : Both σ T ex z o a (fX3_bet x1 x2 t) (fX0_bet ex z o x1 x2 (σ, 0, 0)) := by
  obtain ⟨at_, hob⟩ := H.obj
  have Hb := PBts.il.mp H.bt
  obtain ⟨mc, e, hl⟩ := Hb.li
  have hbn := O.c.bn
  have hn := O.n
  unfold fX3_bet fX0_bet
  rw [X_t hob (by decide)]
  by_cases h : ∃ i, i < W.C.R.n ∧ x1 = nI i
  · obtain ⟨i, hi, rfl⟩ := h
    rw [m_clk1 M O hi, gm_some, if_neg n10, c_clk1 H O hi, gb_two, if_neg n10]
    by_cases h : ∃ c, 1 ≤ c ∧ c ≤ 999 ∧ x2 = nI c
    · obtain ⟨v, hv0, hv, rfl⟩ := h
      rw [m_iL1 1 999 t hv0 hv (by decide), gm_some, if_neg n10, c_iL1 1 999 _ hv0 hv (by decide), gb_two, if_neg n10, M.c.bn, ifl 6 (by omega) (by decide), A_t hob (by decide) rfl, X_t hl (by decide), Hb.size, gb_two, ifl 6 (by omega) (by decide)]
      by_cases hfull : W.C.bn = 6
      · rw [if_pos hfull, if_pos hfull]
        exact Both.same M H O _ rfl rfl
      · rw [if_neg hfull, if_neg hfull, A_t hob (by decide) rfl, new_t]
        unfold fX20_init
        rw [P_t (g_u_self _ _ _) (by decide) (by show 0 < 2; decide), P_t (g_u_self _ _ _) (by decide) (by show 1 < 2; decide), g_u_twice, g_u_twice]
        simp only [gb_app, Nat.add_zero, Nat.zero_add]
        have K1 := Kp.make (T := T) (σ := σ) H.fr 20 (btC i v)
        have H1 := H.all (H.fr.ext (by omega)) K1
        have hv1 : (g_u σ z (btC i v)) z = some (btC i v) := g_u_self _ _ _
        have hob1 : (g_u σ z (btC i v)) o = some (obC a (nI W.C.dr) (nI W.tn) at_ (nI W.im) (nI W.I.dr)) := (K1.at H.ob.1 (by decide) trivial).2.trans hob
        have eC : (true, Sum.inr (20, ([Value.int 0, Value.int 0].set 0 (Value.int (nI i))).set 1 (Value.int (nI v)))) = btC i v := rfl
        rw [eC]
        have hTz : ext T z (z + 1) 20 z = 20 := ext_in (Nat.le_refl _) (by omega)
        generalize g_u σ z (btC i v) = σ1 at K1 H1 hv1 hob1 ⊢
        generalize ext T z (z + 1) 20 = T1 at K1 H1 hTz
        have Hb1 := PBts.il.mp H1.bt
        obtain ⟨mc1, e1, hl1⟩ := Hb1.li
        obtain ⟨σ2, dc, ds, q1, q2, q3, q4, q5, q6⟩ := Hb1.add H1.fr (by decide) (by decide) (by omega) (fun b _ => obj_bt _ _) hv1 (obj_bt _ _) hTz
        have K2 := q3.kp H1.fr
        have hob2 : σ2 o = some (obC a (nI W.C.dr) (nI W.tn) at_ (nI W.im) (nI W.I.dr)) := (K2.at H1.ob.1 (by decide) (by decide)).2.trans hob1
        obtain ⟨mc2, e2, hl2⟩ := q2.li
        rw [X_t hl1 (by decide), q1]
        simp only [gb_app, Nat.zero_add]
        rw [A_t hob2 (by decide) rfl, X_t hl2 (by decide), q2.size]
        simp only [gb_app, Nat.add_zero]
        rw [nI_sub1 (by omega), Nat.add_sub_cancel, mast_nI (by omega) (by decide)]
        have e10 : (setA t 4 W.C.bn (nI i)).1 10 = nI W.C.bn := M.c.bn
        rw [e10, mast_nI (by omega) (by decide)]
        have e11 : (setA (setA t 4 W.C.bn (nI i)) 5 W.C.bn (nI v)).1 10 = nI W.C.bn := M.c.bn
        simp only [lt]
        rw [e11, nI_1]
        have e12 : (setI (setA (setA t 4 W.C.bn (nI i)) 5 W.C.bn (nI v)) 10 (nI (W.C.bn + 1))).1 10 - 1 = nI W.C.bn := by
          rw [show (setI (setA (setA t 4 W.C.bn (nI i)) 5 W.C.bn (nI v)) 10 (nI (W.C.bn + 1))).1 10 = nI (W.C.bn + 1) from setI_at _ _ _, nI_sub1 (by omega)]; rfl
        rw [e12]
        refine ⟨_, _, W.s_C (((W.C.s_bn (W.C.bn + 1)).s_bc (up W.C.bc W.C.bn i)).s_bs (up W.C.bs W.C.bn v)), σ2, ext T1 (z + 1) (z + 1 + dc) 5, 1 + dc, 2 + ds, rfl, rfl, ?_, ?_, ?_, ?_, by omega, by omega⟩
        · have hbb : ∀ b, b < W.C.bn + 1 → (setI (setA (setA t 4 W.C.bn (nI i)) 5 W.C.bn (nI v)) 10 (nI (W.C.bn + 1))).2.1 4 b = nI (up W.C.bc W.C.bn i b) ∧ (setI (setA (setA t 4 W.C.bn (nI i)) 5 W.C.bn (nI v)) 10 (nI (W.C.bn + 1))).2.1 5 b = nI (up W.C.bs W.C.bn v b) := by
            intro b hb
            have x4 : (setI (setA (setA t 4 W.C.bn (nI i)) 5 W.C.bn (nI v)) 10 (nI (W.C.bn + 1))).2.1 4 = upd (t.2.1 4) W.C.bn (nI i) := by simp [setI, setA]
            have x5 : (setI (setA (setA t 4 W.C.bn (nI i)) 5 W.C.bn (nI v)) 10 (nI (W.C.bn + 1))).2.1 5 = upd (t.2.1 5) W.C.bn (nI v) := by simp [setI, setA]
            rw [x4, x5]
            by_cases hq : b = W.C.bn
            · subst hq; rw [upd_at, upd_at, up_self, up_self]; exact ⟨rfl, rfl⟩
            · rw [upd_no _ _ hq, upd_no _ _ hq, up_ne _ _ hq, up_ne _ _ hq]; exact M.c.b b (by omega)
          exact ⟨⟨((M.c.r.a1 (by decide)).a1 (by decide)).i1 (by decide) (by decide) (by decide), (setI_at _ _ _), hbb, M.c.un, M.c.u, M.c.dr⟩, M.sky, M.im, M.kp, M.tn, M.tp, M.s⟩
        · have ez : z + (1 + dc) = z + 1 + dc := by omega
          rw [ez]
          exact H1.u_bt (W' := W.s_C (((W.C.s_bn (W.C.bn + 1)).s_bc (up W.C.bc W.C.bn i)).s_bs (up W.C.bs W.C.bn v))) (H1.fr.ext (by omega)) K2 (q2.cong (fun b hb => by
            show btC (up W.C.bc W.C.bn i b) (up W.C.bs W.C.bn v b) = up (fun b => btC (W.C.bc b) (W.C.bs b)) W.C.bn (btC i v) b
            by_cases hq : b = W.C.bn
            · subst hq; rw [up_self, up_self, up_self]
            · rw [up_ne _ _ hq, up_ne _ _ hq, up_ne _ _ hq])) rfl rfl rfl rfl rfl rfl rfl rfl rfl rfl rfl rfl rfl rfl rfl rfl rfl rfl rfl rfl rfl
        · have C := O.c
          refine ⟨⟨C.r, C.now, by show W.C.bn + 1 ≤ 6; omega, fun b hb => ?_, C.un, C.u, C.dr⟩, O.i, O.im, O.tn, O.tp, O.s⟩
          have hb' : b < W.C.bn + 1 := hb
          show up W.C.bc W.C.bn i b < W.C.R.n ∧ 1 ≤ up W.C.bs W.C.bn v b ∧ up W.C.bs W.C.bn v b ≤ 999
          by_cases hq : b = W.C.bn
          · subst hq; rw [up_self, up_self]; exact ⟨hi, hv0, hv⟩
          · rw [up_ne _ _ hq, up_ne _ _ hq]; exact C.b b (by omega)
        · exact (K1.sub (fun _ _ => trivial)).tr (q3.k50 H1.fr (by decide))
    · rw [m_iL0 1 999 t (by omega) (by decide) h, gm_some, if_pos rfl, c_iL0 1 999 _ (by omega) (by decide) h, gb_two, if_pos rfl]
      exact Both.same M H O _ rfl rfl
  · rw [m_clk0 M O h, gm_some, if_pos rfl, c_clk0 H O h, gb_two, if_pos rfl]
    exact Both.same M H O _ rfl rfl
end O3
