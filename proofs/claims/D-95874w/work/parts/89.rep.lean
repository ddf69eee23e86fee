/-! repairs: wind, turn, tune, breathe -/
set_option maxRecDepth 100000
theorem P2_t {β : Type} {σ : Sg} {c : Nat × Nat} {a ci k k2 : Nat} {fs : List Value} {cs : List Nat} {v : Value} {K : St → Option β} {y : Option β} (h : σ a = some (true, .inr (ci, fs))) (hc : ci ∈ cs) (hk : k < fs.length) (hk2 : k2 < fs.length) (hne : k ≠ k2) (e1 : K (g_u σ a (true, .inr (ci, fs.set k v)), c) = y) (e2 : K (g_u σ a (true, .inr (ci, (fs.set k v).set k2 v)), c) = y) : cput2 cs k k2 (σ, c) a v K = y := by
  unfold cput2
  simp only [h]
  rw [if_pos ⟨hc, hk, hk2, hne, e1.trans e2.symm⟩]
  exact e1
theorem c_i15 {ex : Nat → Option Nat} {zz v o ci : Nat} {σ : Sg} {c : Nat × Nat} {v0 v1 v2 : Value} {x2 x3 : Int32} (h : σ v = some (true, .inr (ci, [v0, v1, v2, .ref o]))) (hc : ci ∈ [16, 17, 18, 19]) : fX15_init ex zz v o x2 x3 (σ, c) = some ((), (g_u σ v (true, .inr (ci, [.int x2, .int x3, .ref o, .ref o])), c)) := by
  have key : (cput [16, 17, 18, 19] 0 (g_u σ v (true, .inr (ci, [v0, v1, .ref o, .ref o])), c) v (.int x2) fun t2 => cput [16, 17, 18, 19] 1 t2 v (.int x3) fun t3 => some ((), t3)) = some ((), (g_u σ v (true, .inr (ci, [.int x2, .int x3, .ref o, .ref o])), c)) := by
    rw [P_t (g_u_self _ _ _) hc (by show 0 < 4; decide), P_t (g_u_self _ _ _) hc (by show 1 < 4; decide), g_u_twice, g_u_twice]
    rfl
  unfold fX15_init
  exact P2_t h hc (by show 2 < 4; decide) (by show 3 < 4; decide) (by decide) key key
/-- a repair is known, the oldest one may be lost -/
def Co.note (C : Co) (k w : Nat) (x : Int) : Co := (((C.s_un (if C.un = 10 then 10 else C.un + 1)).s_uk (if C.un = 10 then up (drpA C.uk 0) 9 k else up C.uk C.un k)).s_uw (if C.un = 10 then up (drpA C.uw 0) 9 w else up C.uw C.un w)).s_ua (if C.un = 10 then up (drpA C.ua 0) 9 x else up C.ua C.un x)
theorem ucl_4 (k : Nat) : ucl k ∈ [16, 17, 18, 19] := by
  unfold ucl
  split
  · decide
  · split
    · decide
    · split <;> decide
section R9
variable {t t' : MS} {W : Wv} {σ σ' : Sg} {T : Nat → Nat} {ex : Nat → Option Nat} {z o : Nat} {a : Nat → Nat}
theorem c_k27 {n v k w : Nat} {x : Int} {cell : Nat → Bool × va_E} {dr ty at_ im idr : Int32} (Hu : IL σ T ex 6 (a 2) n cell) (F : Fre T z) (hn : n ≤ 160) (hcell : ∀ b, b < n → obj (cell b)) (hv : σ v = some (unC o k w x)) (hT : T v = 20) (hob : σ o = some (obC a dr ty at_ im idr)) : ∃ σ' dc ds, fX15_kept_27 ex z v (σ, 0, 0) = some ((), (σ', dc, ds)) ∧ IL σ' (ext T z (z + dc) 6) ex 6 (a 2) (n + 1) (up cell n (unC o k w x)) ∧ Ow T 6 σ z σ' (z + dc) ∧ dc ≤ 1 ∧ ds ≤ 300 := by
  obtain ⟨mc, e, hl⟩ := Hu.li
  obtain ⟨σ1, dc, ds, q1, q2, q3, q4, q5, -⟩ := Hu.add F (by decide) (by decide) hn hcell hv (obj_un _ _ _ _) hT
  refine ⟨σ1, dc, ds, ?_, q2, q3, q4, q5⟩
  unfold fX15_kept_27
  rw [A_t hv (ucl_4 k) rfl, A_t hob (by decide) rfl, X_t hl (by decide)]
  simp only [Nat.add_zero]
  rw [q1, gb_app]
  simp only [Nat.zero_add]
theorem c_kept (H : CW σ T ex z o a W) (O : W.OK) {v k w : Nat} {x : Int} (hv : σ v = some (unC o k w x)) (hT : T v = 20) : ∃ σ' T' dc ds, fX15_kept ex z v (σ, 0, 0) = some ((), (σ', dc, ds)) ∧ CW σ' T' ex (z + dc) o a (W.s_C (W.C.note k w x)) ∧ Kp T σ T' σ' (fun i => i ≠ 6) ∧ dc ≤ 1 ∧ ds ≤ 300 := by
  obtain ⟨at_, hob⟩ := H.obj
  have Hu := PUns.il.mp H.un
  obtain ⟨mc, e, hl⟩ := Hu.li
  have hun := O.c.un
  unfold fX15_kept
  rw [A_t hv (ucl_4 k) rfl, A_t hob (by decide) rfl, X_t hl (by decide), Hu.size, gb_two, ifl 10 (by omega) (by decide)]
  by_cases h10 : W.C.un = 10
  · obtain ⟨σ1, v1, r1, r2, r3, r4, r5⟩ := Hu.remove (i := 0) H.fr (by decide) (by omega) (fun b _ => obj_un _ _ _ _) (by omega) z
    have r1' : fJ2_remove ex z (a 2) 0 (σ, 0, 0) = some (v1, (σ1, 0, 0)) := r1
    have hv1 : σ1 v = some (unC o k w x) := (r3.at H.fr hT (by decide) (by decide)).trans hv
    have hob1 := (r3.at H.fr H.ob.1 (by decide) (by decide)).trans hob
    obtain ⟨σ2, dc, ds, q1, q2, q3, q4, q5⟩ := c_k27 (ex := ex) r2 H.fr (by omega) (fun b hb => by
      unfold drpA; split <;> exact obj_un _ _ _ _) hv1 hT hob1
    rw [if_pos h10, A_t hv (ucl_4 k) rfl, A_t hob (by decide) rfl, X_t hl (by decide)]
    simp only [Nat.add_zero]
    rw [r1', gb_z, q1]
    refine ⟨σ2, _, dc, ds, rfl, ?_, (r3.kp0 H.fr).tr (q3.kp H.fr), q4, q5⟩
    have e9 : W.C.un - 1 = 9 := by omega
    rw [e9] at q2
    refine H.u_un (W' := W.s_C (W.C.note k w x)) (H.fr.ext (by omega)) ((r3.kp0 H.fr).tr (q3.kp H.fr)) ?_ rfl rfl rfl rfl rfl rfl rfl rfl rfl rfl rfl rfl rfl rfl rfl rfl rfl rfl rfl rfl
    have en : (W.s_C (W.C.note k w x)).C.un = 10 := by show (if W.C.un = 10 then 10 else W.C.un + 1) = 10; rw [if_pos h10]
    have ek : (W.s_C (W.C.note k w x)).C.uk = up (drpA W.C.uk 0) 9 k := by show (if W.C.un = 10 then _ else _) = _; rw [if_pos h10]
    have ew : (W.s_C (W.C.note k w x)).C.uw = up (drpA W.C.uw 0) 9 w := by show (if W.C.un = 10 then _ else _) = _; rw [if_pos h10]
    have ea : (W.s_C (W.C.note k w x)).C.ua = up (drpA W.C.ua 0) 9 x := by show (if W.C.un = 10 then _ else _) = _; rw [if_pos h10]
    rw [en, ek, ew, ea]
    refine PUns.il.mpr (q2.cong (fun b hb => ?_))
    by_cases hq : b = 9
    · subst hq; rw [up_self, up_self, up_self, up_self]
    · rw [up_ne _ _ hq, up_ne _ _ hq, up_ne _ _ hq, up_ne _ _ hq]
      unfold drpA; split <;> rfl
  · obtain ⟨σ2, dc, ds, q1, q2, q3, q4, q5⟩ := c_k27 (ex := ex) Hu H.fr (by omega) (fun b hb => obj_un _ _ _ _) hv hT hob
    rw [if_neg h10, q1]
    refine ⟨σ2, _, dc, ds, rfl, ?_, q3.kp H.fr, q4, q5⟩
    refine H.u_un (W' := W.s_C (W.C.note k w x)) (H.fr.ext (by omega)) (q3.kp H.fr) ?_ rfl rfl rfl rfl rfl rfl rfl rfl rfl rfl rfl rfl rfl rfl rfl rfl rfl rfl rfl rfl
    have en : (W.s_C (W.C.note k w x)).C.un = W.C.un + 1 := by show (if W.C.un = 10 then 10 else W.C.un + 1) = _; rw [if_neg h10]
    have ek : (W.s_C (W.C.note k w x)).C.uk = up W.C.uk W.C.un k := by show (if W.C.un = 10 then _ else _) = _; rw [if_neg h10]
    have ew : (W.s_C (W.C.note k w x)).C.uw = up W.C.uw W.C.un w := by show (if W.C.un = 10 then _ else _) = _; rw [if_neg h10]
    have ea : (W.s_C (W.C.note k w x)).C.ua = up W.C.ua W.C.un x := by show (if W.C.un = 10 then _ else _) = _; rw [if_neg h10]
    rw [en, ek, ew, ea]
    refine PUns.il.mpr (q2.cong (fun b hb => ?_))
    by_cases hq : b = W.C.un
    · subst hq; rw [up_self, up_self, up_self, up_self]
    · rw [up_ne _ _ hq, up_ne _ _ hq, up_ne _ _ hq, up_ne _ _ hq]
/-- in the reference: only the field 12 and the array 6 differ -/
def Sn (t t' : MS) : Prop := (∀ i, i ≠ 12 → t'.1 i = t.1 i) ∧ (∀ j, j ≠ 6 → t'.2.1 j = t.2.1 j) ∧ t'.2.2 = t.2.2
theorem m_n51 {u : Nat} (x1 x2 x3 : Int32) (h12 : t.1 12 = nI u) (hu : u < 10) : fX3_note_51 x1 x2 x3 t = some ((), setI (setA (setA (setA t 6 (3 * u) x1) 6 (3 * u + 1) x2) 6 (3 * u + 2) x3) 12 (nI (u + 1))) := by
  unfold fX3_note_51
  simp only [lt]
  rw [h12, ilit 3, nI_mul, mast_nI (by omega) (by decide), setA_1, h12, nI_mul, nI_1, mast_nI (by omega) (by decide), setA_1, setA_1, h12, nI_mul, ilit 2, nI_add, mast_nI (by omega) (by decide), setA_1, setA_1, setA_1, h12, nI_1]
theorem m_n12 (x1 x2 x3 : Int32) : ∀ (j i fuel : Nat) (t : MS), i + j = 27 → j < fuel → t.1 12 = nI 10 → ∃ t', fX3_note_12 fuel x1 x2 x3 (nI i) t = fX3_note_51 x1 x2 x3 (setI t' 12 (nI 9)) ∧ t'.1 = t.1 ∧ (∀ q, q ≠ 6 → t'.2.1 q = t.2.1 q) ∧ t'.2.2 = t.2.2 ∧ (∀ p, p < 27 → i ≤ p → t'.2.1 6 p = t.2.1 6 (p + 3)) ∧ ∀ p, p < i → t'.2.1 6 p = t.2.1 6 p
  | 0, i, fuel, t, hj, hf, h12 => by
    obtain ⟨m, rfl⟩ : ∃ m, fuel = m + 1 := ⟨fuel - 1, by omega⟩
    obtain rfl : i = 27 := by omega
    rw [fX3_note_12, ifler 27 (by decide) (by decide), if_pos (by decide), h12, nI_sub1 (by decide)]
    exact ⟨t, rfl, rfl, fun _ _ => rfl, rfl, fun p h1 h2 => by omega, fun _ _ => rfl⟩
  | j + 1, i, fuel, t, hj, hf, h12 => by
    obtain ⟨m, rfl⟩ : ∃ m, fuel = m + 1 := ⟨fuel - 1, by omega⟩
    rw [fX3_note_12, ifler 27 (by decide) (by omega), if_neg (by omega), ilit 3, nI_add, mald_nI (by omega) (by decide), mast_nI (by omega) (by decide), nI_1]
    obtain ⟨t', q1, q2, q3, q4, q5, q6⟩ := m_n12 x1 x2 x3 j (i + 1) m (setA t 6 i (t.2.1 6 (i + 3))) (by omega) (by omega) h12
    refine ⟨t', q1, q2, fun q hq => (q3 q hq).trans (setA_other t _ _ hq), q4, fun p h1 h2 => ?_, fun p hp => ?_⟩
    · by_cases hpi : p = i
      · subst hpi; rw [q6 p (by omega), setA_same, upd_at]
      · rw [q5 p h1 (by omega), setA_same, upd_no _ _ (by omega)]
    · rw [q6 p (by omega), setA_same, upd_no _ _ (by omega)]
theorem m_note {C : Co} (H : MCo t C) (hun : C.un ≤ 10) (k w : Nat) (x : Int) : ∃ t', fX3_note (nI k) (nI w) (Int32.ofInt x) t = some ((), t') ∧ Sn t t' ∧ t'.1 12 = nI (C.note k w x).un ∧ ∀ u, u < (C.note k w x).un → t'.2.1 6 (3 * u) = nI ((C.note k w x).uk u) ∧ t'.2.1 6 (3 * u + 1) = nI ((C.note k w x).uw u) ∧ t'.2.1 6 (3 * u + 2) = Int32.ofInt ((C.note k w x).ua u) := by
  have put : ∀ (t1 : MS) (u : Nat), t1.1 12 = nI u → u < 10 → ∃ t', fX3_note_51 (nI k) (nI w) (Int32.ofInt x) t1 = some ((), t') ∧ Sn t1 t' ∧ t'.1 12 = nI (u + 1) ∧ (t'.2.1 6 (3 * u) = nI k ∧ t'.2.1 6 (3 * u + 1) = nI w ∧ t'.2.1 6 (3 * u + 2) = Int32.ofInt x) ∧ ∀ p, p < 3 * u → t'.2.1 6 p = t1.2.1 6 p := by
    intro t1 u h12 hu
    refine ⟨_, m_n51 _ _ _ h12 hu, ⟨fun i hi => upd_no _ _ hi, fun j hj => ?_, rfl⟩, setI_at _ _ _, ?_, fun p hp => ?_⟩
    · show (setA (setA (setA t1 6 (3 * u) (nI k)) 6 (3 * u + 1) (nI w)) 6 (3 * u + 2) (Int32.ofInt x)).2.1 j = t1.2.1 j
      rw [setA_other _ _ _ hj, setA_other _ _ _ hj, setA_other _ _ _ hj]
    · show (setA (setA (setA t1 6 (3 * u) (nI k)) 6 (3 * u + 1) (nI w)) 6 (3 * u + 2) (Int32.ofInt x)).2.1 6 (3 * u) = nI k ∧ (setA (setA (setA t1 6 (3 * u) (nI k)) 6 (3 * u + 1) (nI w)) 6 (3 * u + 2) (Int32.ofInt x)).2.1 6 (3 * u + 1) = nI w ∧ (setA (setA (setA t1 6 (3 * u) (nI k)) 6 (3 * u + 1) (nI w)) 6 (3 * u + 2) (Int32.ofInt x)).2.1 6 (3 * u + 2) = Int32.ofInt x
      rw [setA_same, setA_same, setA_same]
      refine ⟨?_, ?_, ?_⟩
      · rw [upd_no _ _ (by omega), upd_no _ _ (by omega), upd_at]
      · rw [upd_no _ _ (by omega), upd_at]
      · rw [upd_at]
    · show (setA (setA (setA t1 6 (3 * u) (nI k)) 6 (3 * u + 1) (nI w)) 6 (3 * u + 2) (Int32.ofInt x)).2.1 6 p = _
      rw [setA_same, setA_same, setA_same, upd_no _ _ (by omega), upd_no _ _ (by omega), upd_no _ _ (by omega)]
  have en : (C.note k w x).un = if C.un = 10 then 10 else C.un + 1 := rfl
  have ek : (C.note k w x).uk = if C.un = 10 then up (drpA C.uk 0) 9 k else up C.uk C.un k := rfl
  have ew : (C.note k w x).uw = if C.un = 10 then up (drpA C.uw 0) 9 w else up C.uw C.un w := rfl
  have ea : (C.note k w x).ua = if C.un = 10 then up (drpA C.ua 0) 9 x else up C.ua C.un x := rfl
  rw [en, ek, ew, ea]
  unfold fX3_note
  rw [H.un, ifl 10 (by omega) (by decide)]
  by_cases h10 : C.un = 10
  · simp only [if_pos h10]
    obtain ⟨t1, q1, q2, q3, q4, q5, q6⟩ := m_n12 (nI k) (nI w) (Int32.ofInt x) 27 0 1000 t (by omega) (by omega) (by rw [H.un, h10])
    obtain ⟨t2, r1, r2, r3, r4, r5⟩ := put (setI t1 12 (nI 9)) 9 (setI_at _ _ _) (by omega)
    have q1' : fX3_note_12 1000 (nI k) (nI w) (Int32.ofInt x) 0 t = fX3_note_51 (nI k) (nI w) (Int32.ofInt x) (setI t1 12 (nI 9)) := q1
    refine ⟨t2, q1'.trans r1, ⟨fun i hi => ?_, fun j hj => (r2.2.1 j hj).trans (q3 j hj), r2.2.2.trans q4⟩, r3, fun u hu => ?_⟩
    · rw [r2.1 i hi]
      show upd t1.1 12 (nI 9) i = _
      rw [upd_no _ _ hi, q2]
    · by_cases hq : u = 9
      · subst hq; rw [up_self, up_self, up_self]; exact r4
      · rw [up_ne _ _ hq, up_ne _ _ hq, up_ne _ _ hq, r5 _ (by omega), r5 _ (by omega), r5 _ (by omega)]
        show t1.2.1 6 (3 * u) = _ ∧ t1.2.1 6 (3 * u + 1) = _ ∧ t1.2.1 6 (3 * u + 2) = _
        rw [q5 _ (by omega) (by omega), q5 _ (by omega) (by omega), q5 _ (by omega) (by omega)]
        have := H.u (u + 1) (by omega)
        unfold drpA
        rw [if_neg (by omega), if_neg (by omega), if_neg (by omega)]
        exact this
  · simp only [if_neg h10]
    obtain ⟨t2, r1, r2, r3, r4, r5⟩ := put t C.un H.un (by omega)
    refine ⟨t2, r1, r2, r3, fun u hu => ?_⟩
    by_cases hq : u = C.un
    · subst hq; rw [up_self, up_self, up_self]; exact r4
    · rw [up_ne _ _ hq, up_ne _ _ hq, up_ne _ _ hq, r5 _ (by omega), r5 _ (by omega), r5 _ (by omega)]
      exact H.u u (by omega)
theorem MW.note {k w : Nat} {x : Int} (M : MW t W) (S : Sn t t') (h12 : t'.1 12 = nI (W.C.note k w x).un) (h6 : ∀ u, u < (W.C.note k w x).un → t'.2.1 6 (3 * u) = nI ((W.C.note k w x).uk u) ∧ t'.2.1 6 (3 * u + 1) = nI ((W.C.note k w x).uw u) ∧ t'.2.1 6 (3 * u + 2) = Int32.ofInt ((W.C.note k w x).ua u)) : MW t' (W.s_C (W.C.note k w x)) := by
  obtain ⟨s1, s2, s3⟩ := S
  refine ⟨⟨M.c.r.i (s1 3 (by decide)) (s1 4 (by decide)) (s1 6 (by decide)) (fun j hj => s2 j (by omega)), ?_, ?_, h12, h6, ?_⟩, ?_, ?_, ?_, ?_, ?_, ?_⟩
  · rw [s1 10 (by decide)]; exact M.c.bn
  · rw [s2 4 (by decide), s2 5 (by decide)]; exact M.c.b
  · rw [s1 13 (by decide)]; exact M.c.dr
  · rw [s1 7 (by decide)]; exact M.sky
  · rw [s1 21 (by decide)]; exact M.im
  · rw [s2 11 (by decide)]; exact M.kp
  · rw [s1 15 (by decide)]; exact M.tn
  · rw [s2 7 (by decide)]; exact M.tp
  · rw [s2 12 (by decide), s2 13 (by decide), s3]; exact M.s
theorem Wv.OK.note {k w : Nat} {x : Int} (O : W.OK) (h : UnOK W.C.R k w x) : (W.s_C (W.C.note k w x)).OK := by
  have C := O.c
  have hun := C.un
  refine ⟨⟨C.r, C.now, C.bn, C.b, ?_, fun u hu => ?_, C.dr⟩, O.i, O.im, O.tn, O.tp, O.s⟩
  · show (if W.C.un = 10 then 10 else W.C.un + 1) ≤ 10
    split <;> omega
  · have hu' : u < if W.C.un = 10 then 10 else W.C.un + 1 := hu
    show UnOK W.C.R ((if W.C.un = 10 then up (drpA W.C.uk 0) 9 k else up W.C.uk W.C.un k) u) ((if W.C.un = 10 then up (drpA W.C.uw 0) 9 w else up W.C.uw W.C.un w) u) ((if W.C.un = 10 then up (drpA W.C.ua 0) 9 x else up W.C.ua W.C.un x) u)
    by_cases h10 : W.C.un = 10
    · simp only [if_pos h10] at hu' ⊢
      by_cases hq : u = 9
      · subst hq; rw [up_self, up_self, up_self]; exact h
      · rw [up_ne _ _ hq, up_ne _ _ hq, up_ne _ _ hq]
        unfold drpA
        rw [if_neg (by omega), if_neg (by omega), if_neg (by omega)]
        exact C.u (u + 1) (by omega)
    · simp only [if_neg h10] at hu' ⊢
      by_cases hq : u = W.C.un
      · subst hq; rw [up_self, up_self, up_self]; exact h
      · rw [up_ne _ _ hq, up_ne _ _ hq, up_ne _ _ hq]
        exact C.u u (by omega)
/-- a new repair in the store -/
theorem CW.made (H : CW σ T ex z o a W) (y : Bool × va_E) : CW (g_u σ z y) (ext T z (z + 1) 20) ex (z + 1) o a W := H.all (H.fr.ext (by omega)) (Kp.make H.fr 20 y)
theorem c_i18 (H : CW σ T ex z o a W) (O : W.OK) {i zz : Nat} (hi : i < W.C.R.n) {c : Nat × Nat} : fX18_init ex zz z o (nI i) (g_u σ z (true, .inr (18, [.int 0, .int 0, .null, .null])), c) = some ((), (g_u σ z (unC o 0 i (W.C.R.s i)), c)) := by
  unfold fX18_init
  have key : ∀ (f2 : Value), (cgA [0] 0 (g_u σ z (true, .inr (18, [.int 0, .int 0, f2, .ref o])), c) o fun v2 => ccast [1] (g_u σ z (true, .inr (18, [.int 0, .int 0, f2, .ref o])), c) v2 (gb (fX1_clock ex (zz + c.1) v2 (nI i) (g_u σ z (true, .inr (18, [.int 0, .int 0, f2, .ref o])), 0, 0)) (g_u σ z (true, .inr (18, [.int 0, .int 0, f2, .ref o])), c) fun r3 t4 => cgI [4, 5, 6, 7, 8, 9] 3 t4 r3 fun v10 => gb (fX15_init ex (zz + t4.2.1) z o (nI i) v10 (t4.1, 0, 0)) t4 fun _ t12 => some ((), t12))) = some ((), (g_u σ z (unC o 0 i (W.C.R.s i)), c)) := by
    intro f2
    have H1 := H.made (true, .inr (18, [.int 0, .int 0, f2, .ref o]))
    obtain ⟨A, hA, R⟩ := H1.race
    obtain ⟨at_, hob⟩ := H1.obj
    rw [A_t hob (by decide) rfl, ← hA, X_t R.1.ra (by decide), c_clock (t := ((g_u σ z (true, Sum.inr (18, [Value.int 0, Value.int 0, f2, Value.ref o])) : Sg), 0, 0)) R.1 O.ba hi, gb_two, I_t (R.1.ck i hi) (kin (O.ba.k i hi)) rfl, c_i15 (g_u_self _ _ _) (by decide), gb_z, g_u_twice, nI_ofInt (W.C.R.s i)]
    rfl
  refine P2_t (g_u_self _ _ _) (by decide) (by show 3 < 4; decide) (by show 2 < 4; decide) (by decide) ?_ ?_
  · rw [g_u_twice]; exact key .null
  · rw [g_u_twice]; exact key (.ref o)
theorem c_i17 (H : CW σ T ex z o a W) (O : W.OK) {i zz : Nat} (hi : i < W.C.R.n) {c : Nat × Nat} : fX17_init ex zz z o (nI i) (g_u σ z (true, .inr (17, [.int 0, .int 0, .null, .null])), c) = some ((), (g_u σ z (unC o 1 i (W.C.R.h i)), c)) := by
  unfold fX17_init
  have key : ∀ (f2 : Value), (cgA [0] 0 (g_u σ z (true, .inr (17, [.int 0, .int 0, f2, .ref o])), c) o fun v2 => ccast [1] (g_u σ z (true, .inr (17, [.int 0, .int 0, f2, .ref o])), c) v2 (gb (fX1_clock ex (zz + c.1) v2 (nI i) (g_u σ z (true, .inr (17, [.int 0, .int 0, f2, .ref o])), 0, 0)) (g_u σ z (true, .inr (17, [.int 0, .int 0, f2, .ref o])), c) fun r3 t4 => cgI [4, 5, 6, 7, 8, 9] 1 t4 r3 fun v10 => gb (fX15_init ex (zz + t4.2.1) z o (nI i) v10 (t4.1, 0, 0)) t4 fun _ t12 => some ((), t12))) = some ((), (g_u σ z (unC o 1 i (W.C.R.h i)), c)) := by
    intro f2
    have H1 := H.made (true, .inr (17, [.int 0, .int 0, f2, .ref o]))
    obtain ⟨A, hA, R⟩ := H1.race
    obtain ⟨at_, hob⟩ := H1.obj
    rw [A_t hob (by decide) rfl, ← hA, X_t R.1.ra (by decide), c_clock (t := ((g_u σ z (true, Sum.inr (17, [Value.int 0, Value.int 0, f2, Value.ref o])) : Sg), 0, 0)) R.1 O.ba hi, gb_two, I_t (R.1.ck i hi) (kin (O.ba.k i hi)) rfl, c_i15 (g_u_self _ _ _) (by decide), gb_z, g_u_twice, nI_ofInt (W.C.R.h i)]
    rfl
  refine P2_t (g_u_self _ _ _) (by decide) (by show 3 < 4; decide) (by show 2 < 4; decide) (by decide) ?_ ?_
  · rw [g_u_twice]; exact key .null
  · rw [g_u_twice]; exact key (.ref o)
theorem c_i19 (H : CW σ T ex z o a W) (O : W.OK) {i zz : Nat} (hi : i < W.C.R.n) {c : Nat × Nat} : fX19_init ex zz z o (nI i) (g_u σ z (true, .inr (19, [.int 0, .int 0, .null, .null])), c) = some ((), (g_u σ z (unC o 2 i (W.C.R.r i)), c)) := by
  unfold fX19_init
  have key : ∀ (f2 : Value), (cgA [0] 0 (g_u σ z (true, .inr (19, [.int 0, .int 0, f2, .ref o])), c) o fun v2 => ccast [1] (g_u σ z (true, .inr (19, [.int 0, .int 0, f2, .ref o])), c) v2 (gb (fX1_clock ex (zz + c.1) v2 (nI i) (g_u σ z (true, .inr (19, [.int 0, .int 0, f2, .ref o])), 0, 0)) (g_u σ z (true, .inr (19, [.int 0, .int 0, f2, .ref o])), c) fun r3 t4 => cgI [4, 5, 6, 7, 8, 9] 2 t4 r3 fun v10 => gb (fX15_init ex (zz + t4.2.1) z o (nI i) v10 (t4.1, 0, 0)) t4 fun _ t12 => some ((), t12))) = some ((), (g_u σ z (unC o 2 i (W.C.R.r i)), c)) := by
    intro f2
    have H1 := H.made (true, .inr (19, [.int 0, .int 0, f2, .ref o]))
    obtain ⟨A, hA, R⟩ := H1.race
    obtain ⟨at_, hob⟩ := H1.obj
    rw [A_t hob (by decide) rfl, ← hA, X_t R.1.ra (by decide), c_clock (t := ((g_u σ z (true, Sum.inr (19, [Value.int 0, Value.int 0, f2, Value.ref o])) : Sg), 0, 0)) R.1 O.ba hi, gb_two, I_t (R.1.ck i hi) (kin (O.ba.k i hi)) rfl, c_i15 (g_u_self _ _ _) (by decide), gb_z, g_u_twice]
    rfl
  refine P2_t (g_u_self _ _ _) (by decide) (by show 3 < 4; decide) (by show 2 < 4; decide) (by decide) ?_ ?_
  · rw [g_u_twice]; exact key .null
  · rw [g_u_twice]; exact key (.ref o)
theorem c_i16 (H : CW σ T ex z o a W) (O : W.OK) {i zz : Nat} (hi : i < 24) {c : Nat × Nat} : fX16_init ex zz z o (nI i) (g_u σ z (true, .inr (16, [.int 0, .int 0, .null, .null])), c) = some ((), (g_u σ z (unC o 3 i (W.C.R.d i)), c)) := by
  unfold fX16_init
  have key : ∀ (f2 : Value), (cgA [0] 0 (g_u σ z (true, .inr (16, [.int 0, .int 0, f2, .ref o])), c) o fun v2 => cgA [1] 1 (g_u σ z (true, .inr (16, [.int 0, .int 0, f2, .ref o])), c) v2 fun v3 => cald 0 (g_u σ z (true, .inr (16, [.int 0, .int 0, f2, .ref o])), c) v3 (nI i) fun v4 => gb (fX15_init ex (zz + c.1) z o (nI i) v4 (g_u σ z (true, .inr (16, [.int 0, .int 0, f2, .ref o])), 0, 0)) (g_u σ z (true, .inr (16, [.int 0, .int 0, f2, .ref o])), c) fun _ t6 => some ((), t6)) = some ((), (g_u σ z (unC o 3 i (W.C.R.d i)), c)) := by
    intro f2
    have H1 := H.made (true, .inr (16, [.int 0, .int 0, f2, .ref o]))
    obtain ⟨A, hA, R⟩ := H1.race
    obtain ⟨at_, hob⟩ := H1.obj
    obtain ⟨f, hd, hf⟩ := R.1.dl
    rw [A_t hob (by decide) rfl, ← hA, A_t R.1.ra (by decide) rfl, ald_t hd hi (by decide), hf i hi, c_i15 (g_u_self _ _ _) (by decide), gb_z, g_u_twice, nI_ofInt (W.C.R.d i)]
    rfl
  refine P2_t (g_u_self _ _ _) (by decide) (by show 3 < 4; decide) (by show 2 < 4; decide) (by decide) ?_ ?_
  · rw [g_u_twice]; exact key .null
  · rw [g_u_twice]; exact key (.ref o)
theorem b_wind (M : MW t W) (H : CW σ T ex z o a W) (O : W.OK) (x1 x2 : Int32) : Both σ T ex z o a (fX3_wind x1 x2 t) (fX0_wind ex z o x1 x2 (σ, 0, 0)) := by
  obtain ⟨at_, hob⟩ := H.obj
  have hn := O.n
  unfold fX3_wind fX0_wind
  rw [X_t hob (by decide)]
  by_cases h : ∃ i, i < W.C.R.n ∧ x1 = nI i
  · obtain ⟨i, hi, rfl⟩ := h
    rw [m_clk1 M O hi, gm_some, if_neg n10, c_clk1 H O hi, gb_two, if_neg n10]
    by_cases h : ∃ c, 1 ≤ c ∧ c ≤ 99 ∧ x2 = nI c
    · obtain ⟨v, hv0, hv, rfl⟩ := h
      have hs := O.ba.s i hi
      have O1 : (W.s_C (W.C.note 0 i (W.C.R.s i))).OK := O.note (Or.inl ⟨rfl, hi, by omega, by omega⟩)
      have O2 := Rc.wnd_OK O.c.r i v
      obtain ⟨t1, q1, q2, q3, q4⟩ := m_note M.c O.c.un 0 i (W.C.R.s i)
      have M1 := M.note q2 q3 q4
      obtain ⟨t2, r1, r2, r3⟩ := m_addSpring (n := v) M1.c.r O.ba (c := i) hi (by omega)
      have M2 := M1.race r3 r2
      have q1' : fX3_note 0 (nI i) (nI (W.C.R.s i)) t = some ((), t1) := by rw [nI_ofInt (W.C.R.s i)]; exact q1
      rw [m_iL1 1 99 t hv0 hv (by decide), gm_some, if_neg n10, c_iL1 1 99 _ hv0 hv (by decide), gb_two, if_neg n10, ilit 33, nI_add, mald_nI (by omega) (by decide), M.c.r.1.s i hi, q1', gm_some, r1, gm_some, mald_nI (by omega) (by decide), r2.1.s i hi, new_t]
      simp only [Nat.add_zero, Nat.zero_add]
      have H1 := H.made (unC o 0 i (W.C.R.s i))
      have K1 := Kp.make (T := T) (σ := σ) H.fr 20 (unC o 0 i (W.C.R.s i))
      have hv1 : (g_u σ z (unC o 0 i (W.C.R.s i))) z = some (unC o 0 i (W.C.R.s i)) := g_u_self _ _ _
      have hTz : ext T z (z + 1) 20 z = 20 := ext_in (Nat.le_refl _) (by omega)
      rw [c_i18 H O hi, gb_z, X_t hv1 (by decide)]
      generalize g_u σ z (unC o 0 i (W.C.R.s i)) = σ1 at H1 K1 hv1 ⊢
      generalize ext T z (z + 1) 20 = T1 at H1 K1 hTz
      obtain ⟨σ2, T2, dc, ds, p1, p2, p3, p4, p5⟩ := c_kept H1 O hv1 hTz
      obtain ⟨at2, hob2⟩ := p2.obj
      obtain ⟨A2, hA2, R2⟩ := p2.race
      obtain ⟨σ3, w1, w2, w3⟩ := rt_winds (n := v) (z := z + 1 + dc) R2 O.ba (c := i) hi (by omega)
      have p3' := p2.rc0 hA2 w2 w3
      obtain ⟨at3, hob3⟩ := p3'.obj
      have hck : σ3 (A2.ca i) = some (ckC (W.C.R.wnd i v) i) := w2.1.ck i hi
      rw [p1, gb_app, A_t hob2 (by decide) rfl, ← hA2, X_t R2.1.ra (by decide), c_clock (t := (σ2, 0, 0)) R2.1 O.ba hi, gb_two, X_t (R2.1.ck i hi) (kin (O.ba.k i hi)), w1, gb_z, A_t hob3 (by decide) rfl, ← hA2, X_t w2.1.ra (by decide), c_clock (t := (σ3, 0, 0)) w2.1 O2.b hi, gb_two, I_t hck (kin (O2.b.k i hi)) rfl]
      refine ⟨_, t2, _, σ3, T2, 1 + dc, 4 + ds, rfl, rfl, M2, ?_, O1.race O2 O.c.now rfl rfl, ?_, by omega, by omega⟩
      · rw [← Nat.add_assoc]; exact p3'
      · exact ((K1.sub (fun _ _ => trivial)).tr (p3.sub (fun i hi => by rw [hi]; decide))).tr (w3.k50' p2.fr (by decide))
    · rw [m_iL0 1 99 t (by omega) (by decide) h, gm_some, if_pos rfl, c_iL0 1 99 _ (by omega) (by decide) h, gb_two, if_pos rfl]
      exact Both.same M H O _ rfl rfl
  · rw [m_clk0 M O h, gm_some, if_pos rfl, c_clk0 H O h, gb_two, if_pos rfl]
    exact Both.same M H O _ rfl rfl
theorem b_turn (M : MW t W) (H : CW σ T ex z o a W) (O : W.OK) (x1 x2 : Int32) : Both σ T ex z o a (fX3_turn x1 x2 t) (fX0_turn ex z o x1 x2 (σ, 0, 0)) := by
  obtain ⟨at_, hob⟩ := H.obj
  have hn := O.n
  unfold fX3_turn fX0_turn
  rw [X_t hob (by decide)]
  by_cases h : ∃ i, i < W.C.R.n ∧ x1 = nI i
  · obtain ⟨i, hi, rfl⟩ := h
    rw [m_clk1 M O hi, gm_some, if_neg n10, c_clk1 H O hi, gb_two, if_neg n10]
    by_cases h : ∃ c, 1 ≤ c ∧ c ≤ 719 ∧ x2 = nI c
    · obtain ⟨v, hv0, hv, rfl⟩ := h
      have hs := O.ba.h i hi
      have O1 : (W.s_C (W.C.note 1 i (W.C.R.h i))).OK := O.note (Or.inr (Or.inl ⟨rfl, hi, by omega, by omega⟩))
      have O2 := Rc.trn_OK O.c.r i v
      obtain ⟨t1, q1, q2, q3, q4⟩ := m_note M.c O.c.un 1 i (W.C.R.h i)
      have M1 := M.note q2 q3 q4
      obtain ⟨t2, r1, r2, r3⟩ := m_addHands (n := v) M1.c.r O.ba (c := i) hi (by omega)
      have M2 := M1.race r3 r2
      have q1' : fX3_note 1 (nI i) (nI (W.C.R.h i)) t = some ((), t1) := by rw [nI_ofInt (W.C.R.h i)]; exact q1
      rw [m_iL1 1 719 t hv0 hv (by decide), gm_some, if_neg n10, c_iL1 1 719 _ hv0 hv (by decide), gb_two, if_neg n10, ilit 24, nI_add, mald_nI (by omega) (by decide), M.c.r.1.h i hi, q1', gm_some, r1, gm_some, mald_nI (by omega) (by decide), r2.1.h i hi, new_t]
      simp only [Nat.add_zero, Nat.zero_add]
      have H1 := H.made (unC o 1 i (W.C.R.h i))
      have K1 := Kp.make (T := T) (σ := σ) H.fr 20 (unC o 1 i (W.C.R.h i))
      have hv1 : (g_u σ z (unC o 1 i (W.C.R.h i))) z = some (unC o 1 i (W.C.R.h i)) := g_u_self _ _ _
      have hTz : ext T z (z + 1) 20 z = 20 := ext_in (Nat.le_refl _) (by omega)
      rw [c_i17 H O hi, gb_z, X_t hv1 (by decide)]
      generalize g_u σ z (unC o 1 i (W.C.R.h i)) = σ1 at H1 K1 hv1 ⊢
      generalize ext T z (z + 1) 20 = T1 at H1 K1 hTz
      obtain ⟨σ2, T2, dc, ds, p1, p2, p3, p4, p5⟩ := c_kept H1 O hv1 hTz
      obtain ⟨at2, hob2⟩ := p2.obj
      obtain ⟨A2, hA2, R2⟩ := p2.race
      obtain ⟨σ3, w1, w2, w3⟩ := rt_turns (n := v) (z := z + 1 + dc) R2 O.ba (c := i) hi (by omega)
      have p3' := p2.rc0 hA2 w2 w3
      obtain ⟨at3, hob3⟩ := p3'.obj
      have hck : σ3 (A2.ca i) = some (ckC (W.C.R.trn i v) i) := w2.1.ck i hi
      rw [p1, gb_app, A_t hob2 (by decide) rfl, ← hA2, X_t R2.1.ra (by decide), c_clock (t := (σ2, 0, 0)) R2.1 O.ba hi, gb_two, X_t (R2.1.ck i hi) (kin (O.ba.k i hi)), w1, gb_z, A_t hob3 (by decide) rfl, ← hA2, X_t w2.1.ra (by decide), c_clock (t := (σ3, 0, 0)) w2.1 O2.b hi, gb_two, I_t hck (kin (O2.b.k i hi)) rfl]
      refine ⟨_, t2, _, σ3, T2, 1 + dc, 4 + ds, rfl, rfl, M2, ?_, O1.race O2 O.c.now rfl rfl, ?_, by omega, by omega⟩
      · rw [← Nat.add_assoc]; exact p3'
      · exact ((K1.sub (fun _ _ => trivial)).tr (p3.sub (fun i hi => by rw [hi]; decide))).tr (w3.k50' p2.fr (by decide))
    · rw [m_iL0 1 719 t (by omega) (by decide) h, gm_some, if_pos rfl, c_iL0 1 719 _ (by omega) (by decide) h, gb_two, if_pos rfl]
      exact Both.same M H O _ rfl rfl
  · rw [m_clk0 M O h, gm_some, if_pos rfl, c_clk0 H O h, gb_two, if_pos rfl]
    exact Both.same M H O _ rfl rfl
end R9
