/-! an act read from a text -/
set_option maxRecDepth 100000
/-- an act: its letter, of which, how much -/
def aC (o : Nat) (x : Nat × Nat × Nat) : Bool × va_E := (true, .inr (if x.1 = 104 then (11, [.ref o]) else if x.1 = 98 then (12, [.int (nI x.2.1), .ref o]) else if x.1 = 119 then (13, [.int (nI x.2.1), .int (nI x.2.2), .ref o]) else (14, [.int (nI x.2.1), .int (nI x.2.2), .ref o])))
def AOK (x : Nat × Nat × Nat) : Prop := x.1 = 104 ∨ x.1 = 98 ∨ x.1 = 119 ∨ x.1 = 116
def AM (f : Nat → Int32) (j : Nat) (x : Nat × Nat × Nat) : Prop := f j = nI x.1 ∧ (x.1 ≠ 104 → f (j + 1) = nI x.2.1) ∧ (x.1 ≠ 104 → x.1 ≠ 98 → f (j + 2) = nI x.2.2)
/-- an act is read on both sides, or both refuse at one place -/
def Ac (t : MS) (W : Wv) (σ : Sg) (T : Nat → Nat) (ex : Nat → Option Nat) (z o : Nat) (a : Nat → Nat) (p j : Nat) (n : Int32) (f : Nat → Int32) (fm : Option (Int32 × MS)) (fc : Option ((Nat ⊕ Nat) × St)) : Prop :=
  (∃ (x : Nat × Nat × Nat) (p' : Nat) (σ' : Sg) (T' : Nat → Nat) (f' : Nat → Int32) (ds : Nat), AOK x ∧ p < p' ∧ p' ≤ W.tn ∧ fm = some (1, tx t p' n f') ∧ AM f' j x ∧ (∀ i, i < j → f' i = f i) ∧ fc = some (.inl z, (σ', 1, ds)) ∧ ds ≤ 3 ∧ T' z = 21 ∧ σ' z = some (aC o x) ∧ CA σ' T' ex (z + 1) o a W p' ∧ Kp T σ T' σ' (fun i => i ≠ 1)) ∨
  (∃ (q p' : Nat) (f' : Nat → Int32) (b : Nat) (σ' : Sg) (T' : Nat → Nat) (dc ds : Nat), p' ≤ W.tn ∧ W.sk p' = q ∧ fm = some (0, tx t p' n f') ∧ fc = some (.inr b, (σ', dc, ds)) ∧ dc ≤ 2 ∧ ds ≤ 10 ∧ CW σ' T' ex (z + dc) o a W ∧ σ' b = some (fltC (nI q)) ∧ Kp T σ T' σ' (fun i => i ≠ 1))
section O9s
variable {t : MS} {W : Wv} {σ : Sg} {T : Nat → Nat} {ex : Nat → Option Nat} {z o : Nat} {a : Nat → Nat}
theorem CW.k21 {σ' : Sg} {T' : Nat → Nat} {z' : Nat} (H : CW σ T ex z o a W) (F : Fre T' z') (h : Kp T σ T' σ' (fun i => i ≠ 21)) : CW σ' T' ex z' o a W := ⟨F, H.ob.kp h (by decide), H.rc.kp h (by decide) (by decide), H.tr.kp h (by decide) (by decide), H.im.kp h (by decide) (by decide), H.bt.kp h (by decide) (by decide) (by decide), H.un.kp h (by decide) (by decide) (by decide), H.ib.kp h (by decide) (by decide) (by decide), H.iu.kp h (by decide) (by decide) (by decide), H.rd.kp h (by decide) (by decide), H.ac.kp h (by decide) (by decide), H.du.kp h (by decide) (by decide), H.tp.kp h (by decide), H.sg.kp h (by decide), H.tk.kp h (by decide), H.sh.kp h (by decide) (by decide) (by decide) (by decide) (by decide) (by decide) (by decide) (by decide) (by decide), H.cn.kp h (by decide)⟩
theorem Kp.gz {T1 : Nat → Nat} {σ2 : Sg} {S : Nat → Prop} (K : Kp T σ T1 σ2 S) (F : Fre T z) (y : Bool × va_E) : Kp T σ T1 (g_u σ2 z y) S := fun q h0 hS => ⟨(K q h0 hS).1, (g_u_ne _ _ (fun e => h0 (by rw [e]; exact F z (Nat.le_refl _)))).trans (K q h0 hS).2⟩
theorem ac_new {p : Nat} (H : CA σ T ex z o a W p) (y : Bool × va_E) : CA (g_u σ z y) (ext T z (z + 1) 21) ex (z + 1) o a W p ∧ Kp T σ (ext T z (z + 1) 21) (g_u σ z y) (fun _ => True) ∧ ext T z (z + 1) 21 z = 21 := by
  have hF := H.1.fr
  have K1 := Kp.make (T := T) (σ := σ) hF 21 y
  exact ⟨⟨H.1.all (hF.ext (by omega)) K1, (K1.at H.1.ob.1 (by decide) trivial).2.trans H.2⟩, K1, ext_in (Nat.le_refl _) (by omega)⟩
theorem ac_put {p b : Nat} (H : CA σ T ex z o a W p) (hb : T b = 21) (y : Bool × va_E) : CA (g_u σ b y) T ex z o a W p ∧ Kp T σ T (g_u σ b y) (fun i => i ≠ 21) := by
  have O1 : Ow T 21 σ z (g_u σ b y) z := Ow.put hb _
  have K1 := O1.kp0 H.1.fr
  exact ⟨⟨H.1.k21 H.1.fr K1, (K1.at H.1.ob.1 (by decide) (by decide)).2.trans H.2⟩, K1⟩
theorem nu_ge {p lo hi e : Nat} {v : Int32} (hp : p ≤ W.tn) (h : W.nu p lo hi = .inl (v, e)) : p ≤ e := by
  have h1 := sk_le hp
  have h2 := dgF_le W.tp (W.tn - W.sk p) (W.sk p) 0
  unfold Wv.nu at h
  split at h
  · have h3 := congrArg Prod.snd (Sum.inl.inj h)
    have h4 : (W.dg (W.sk p)).2 = e := h3
    unfold Wv.dg at h4
    omega
  · cases h
theorem pa_y {p x : Nat} (h : W.nx p = x) : W.pa p x = W.sk p + 1 := if_pos h
theorem pa_n {p x : Nat} (h : ¬ W.nx p = x) : W.pa p x = W.sk p := if_neg h
theorem pa_sk (p x : Nat) : W.pa (W.sk p) x = W.pa p x := by unfold Wv.pa; rw [nx_sk, sk_sk]
theorem Ac.pre {σ0 : Sg} {p p0 j : Nat} {n : Int32} {f f0 : Nat → Int32} {fm : Option (Int32 × MS)} {fc : Option ((Nat ⊕ Nat) × St)} (C : Ac t W σ T ex z o a p j n f fm fc) (K : Kp T σ0 T σ (fun i => i ≠ 1)) (hp : p0 ≤ p) (hf : ∀ i, i < j → f i = f0 i) : Ac t W σ0 T ex z o a p0 j n f0 fm fc := by
  rcases C with ⟨x, p', σ', T', f', ds, c1, c2, c3, c4, c5, c6, c7, c8, c9, c10, c11, c12⟩ | ⟨q, p', f', b, σ', T', dc, ds, c1, c2, c3, c4, c5, c6, c7, c8, c9⟩
  · exact Or.inl ⟨x, p', σ', T', f', ds, c1, by omega, c3, c4, c5, fun i hi => (c6 i hi).trans (hf i hi), c7, c8, c9, c10, c11, K.tr c12⟩
  · exact Or.inr ⟨q, p', f', b, σ', T', dc, ds, c1, c2, c3, c4, c5, c6, c7, c8, K.tr c9⟩
theorem ac_tail (M : MW t W) (O : W.OK) {p p0 j i lo hi d : Nat} {n : Int32} {f f0 : Nat → Int32} {σ1 : Sg} {T1 : Nat → Nat} {y0 : Bool × va_E} (x : Nat → Nat × Nat × Nat) (ini : Nat → Int32 → St → Option (Unit × St)) (hl : lo ≤ hi) (hi9 : hi < 9999) (hij : j ≤ i) (hi480 : i < 480) (hp : p ≤ W.tn) (hp0 : p0 < p) (F : Fre T z) (H : CA σ1 T1 ex (z + 1) o a W p) (hT : T1 z = 21) (hy : σ1 z = some y0) (K : Kp T σ T1 σ1 (fun i => i ≠ 1)) (hd : d ≤ 3) (hini : ∀ (σ : Sg) (zz v : Nat), σ z = some y0 → ini zz (nI v) (σ, 0, 0) = some ((), (g_u σ z (aC o (x v)), 0, 0))) (hx : ∀ v, AOK (x v) ∧ AM (upd f i (nI v)) j (x v)) (hf : ∀ i, i < j → f i = f0 i) : Ac t W σ T ex z o a p0 j n f0 (gm (fX3_readNumber (nI lo) (nI hi) (tx t p n f)) fun r t2 => mast t2 8 480 (nI i) r fun t3 => mald t3 8 480 (nI i) fun v => if v < 0 then some (0, t3) else some (1, t3)) (gbT (fX0_number ex (z + 1) o (nI lo) (nI hi) (σ1, 0, 0)) (σ1, 1, d) (fun r t => gb (ini (z + t.2.1) r (t.1, 0, 0)) t fun _ t24 => some (.inl z, t24)) (fun a t => some (.inr a, t))) := by
  have rn := r_num M O hp hl hi9 n f
  have cn := c_number H O hp hl hi9
  have ht := O.tn
  rw [rn, gm_some, mast_nI hi480 (by decide), tx_a, mald_nI hi480 (by decide)]
  show Ac _ _ _ _ _ _ _ _ _ _ _ _ (if (upd f i (sv (W.nu p lo hi))) i < 0 then _ else _) _
  rw [upd_at]
  rcases nu_ok (lo := lo) (hi := hi) O hp with ⟨v, e, n1, -, n3, n4⟩ | n1
  · have hge := nu_ge hp n1
    rw [n1] at cn ⊢
    rcases cn with ⟨v', p', σ', y1, y2, y3, y4, y5⟩ | ⟨q, b, σ', T', y1, -⟩
    · cases y1
      have hz : σ' z = some y0 := (y4.at hT (by decide) (by decide)).2.trans hy
      rw [y2, gbT_l]
      show Ac _ _ _ _ _ _ _ _ _ _ _ _ _ (gb (ini (z + 1) (nI v) (σ', 0, 0)) (σ', 1, d) _)
      rw [hini _ _ _ hz, gb_z, if_neg (show ¬ sv (.inl (nI v, e)) < 0 from nI_pos (by omega))]
      obtain ⟨P1, P2⟩ := ac_put y3 hT (aC o (x v))
      exact Or.inl ⟨x v, e, _, T1, _, d, (hx v).1, by omega, n4, rfl, (hx v).2, fun k hk => (upd_no _ _ (by omega)).trans (hf k hk), rfl, hd, hT, g_u_self _ _ _, P1, (K.tr y4).gz F _⟩
    · cases y1
  · rw [n1] at cn ⊢
    rcases cn with ⟨v, p', σ', y1, -⟩ | ⟨q, b, σ', T', y1, y2, y3, y4, y5, y6⟩
    · cases y1
    · cases y1
      rw [y2, gbT_r, if_pos (show sv (.inr (W.sk p)) < 0 from (by decide : (-1 : Int32) < 0))]
      exact Or.inr ⟨_, _, _, b, σ', T', 1 + 1, d + 7, y6, sk_sk _, rfl, rfl, by omega, by omega, by rw [← Nat.add_assoc]; exact y3, y4, K.tr y5⟩
theorem i14 {y0 : Bool × va_E} (hy : y0 = (true, .inr (14, [.int 0, .int 0, .null]))) (w : Nat) : ∀ (σ : Sg) (zz v : Nat), σ z = some y0 → fX14_init ex zz z o (nI w) (nI v) (σ, 0, 0) = some ((), (g_u σ z (aC o (116, w, v)), 0, 0)) := by
  intro σ zz v h
  subst hy
  unfold fX14_init
  rw [P_t h (by decide) (by decide), P_t (g_u_self _ _ _) (by decide) (by simp), P_t (g_u_self _ _ _) (by decide) (by simp)]
  simp only [g_u_twice]
  rfl
theorem i13 {y0 : Bool × va_E} (hy : y0 = (true, .inr (13, [.int 0, .int 0, .null]))) (w : Nat) : ∀ (σ : Sg) (zz v : Nat), σ z = some y0 → fX13_init ex zz z o (nI w) (nI v) (σ, 0, 0) = some ((), (g_u σ z (aC o (119, w, v)), 0, 0)) := by
  intro σ zz v h
  subst hy
  unfold fX13_init
  rw [P_t h (by decide) (by decide), P_t (g_u_self _ _ _) (by decide) (by simp), P_t (g_u_self _ _ _) (by decide) (by simp)]
  simp only [g_u_twice]
  rfl
theorem i12 {y0 : Bool × va_E} (hy : y0 = (true, .inr (12, [.int 0, .null]))) : ∀ (σ : Sg) (zz v : Nat), σ z = some y0 → fX12_init ex zz z o (nI v) (σ, 0, 0) = some ((), (g_u σ z (aC o (98, v, 0)), 0, 0)) := by
  intro σ zz v h
  subst hy
  unfold fX12_init
  rw [P_t h (by decide) (by decide), P_t (g_u_self _ _ _) (by decide) (by simp)]
  simp only [g_u_twice]
  rfl
theorem ac_65 (M : MW t W) (O : W.OK) {p p0 j c : Nat} {x1 n : Int32} {f f0 : Nat → Int32} (hc : (x1 = 0 ∧ c = 116) ∨ (x1 ≠ 0 ∧ c = 119)) (hj : j + 2 < 480) (hp : p ≤ W.tn) (hp0 : p0 < p) (H : CA σ T ex z o a W p) (hfj : f j = nI c) (hf : ∀ i, i < j → f i = f0 i) : Ac t W σ T ex z o a p0 j n f0 (gm (fX3_nextLetter (tx t p n f)) fun r3 t4 => mast t4 8 480 (nI j + 1) (r3 - 48) fun t5 => mald t5 8 480 (nI j + 1) fun v6 => gm (fX3_isClock v6 t5) fun r7 t8 => if r7 = 0 then some (0, t8) else lt (setI t8 16 ((t8.1 16) + 1)) fun t9 => gm (fX3_takes 43 t9) fun r10 t11 => if r10 = 0 then some (0, t11) else if nI c = 119 then fX3_readAct_174 (nI j) 99 1 (nI j + 2) t11 else fX3_readAct_174 (nI j) 719 1 (nI j + 2) t11) (fX0_readAct_65 ex z o x1 (σ, 0, 0)) := by
  obtain ⟨A, hA, R⟩ := H.1.race
  have hn9 := O.n
  have hs := sk_le hp
  have cd := c_digit H O hp hn9
  unfold fX0_readAct_65
  rw [A_t H.2 (by decide) rfl, ← hA, X_t R.1.ra (by decide), c_size (t := (σ, 0, 0)) R.1, gb_two, X_t H.2 (by decide)]
  show Ac _ _ _ _ _ _ _ _ _ _ _ _ _ (gbT (fX0_digit ex z o (nI W.C.R.n - 1) (σ, 0, 0)) (σ, 0, 0) _ _)
  rw [r_next M O hp, gm_some, nI_1, mast_nI (by omega) (by decide), tx_a, mald_nI (by omega) (by decide)]
  show Ac _ _ _ _ _ _ _ _ _ _ _ _ (gm (fX3_isClock ((upd f (j + 1) (W.lx p - 48)) (j + 1)) _) _) _
  rw [upd_at]
  by_cases h : 48 ≤ W.nx p ∧ W.nx p < 48 + W.C.R.n
  · rw [if_pos h] at cd
    rcases cd with ⟨v, p1, σ1, y1, y2, H1, K1, y5⟩ | ⟨q, b, σ', T', y1, -⟩
    · cases y1
      rw [lx_pos O (by omega), show (48 : Int32) = nI 48 from rfl, nI_sub h.1, m_clk1 (M.tx _ _ _) O (by omega), gm_some, if_neg (show ¬ (1 : Int32) = 0 by decide), y2, gbT_l, X_t H1.2 (by decide)]
      simp only [lt]
      rw [show (tx t (W.sk p) n (upd f (j + 1) (nI (W.nx p - 48)))).1 16 = nI (W.sk p) from rfl, nI_1, tx_p]
      have cm := c_must H1 O y5 (x := 43) (by decide) (by decide)
      show Ac _ _ _ _ _ _ _ _ _ _ _ _ (gm (fX3_takes (nI 43) (tx t (W.sk p + 1) n _)) _) (gbT (fX0_must ex z o (nI 43) (σ1, 0, 0)) (σ1, 0, 0) _ _)
      rw [r_takes M O y5 (by decide) (by decide), gm_some]
      have hf1 : ∀ i, i < j → (upd f (j + 1) (nI (W.nx p - 48))) i = f0 i := fun i hi => by rw [upd_no _ _ (by omega)]; exact hf i hi
      by_cases h43 : W.nx (W.sk p + 1) = 43
      · rw [if_pos h43] at cm
        rcases cm with ⟨v, p2, σ2, w1, w2, H2, K2, w5⟩ | ⟨q, b, σ', T', w1, -⟩
        · cases w1
          have hs2 := sk_le y5
          rw [w2, gbT_l, decide_eq_true h43, if_neg (show ¬ b2 true = 0 by decide), pa_y h43]
          unfold fX3_readAct_174
          rw [show (2 : Int32) = nI 2 from rfl, nI_add]
          rcases hc with ⟨rfl, rfl⟩ | ⟨hx, rfl⟩
          · rw [if_pos (show (0 : Int32) = 0 from rfl), if_neg (show ¬ nI 116 = 119 by decide), new_t]
            obtain ⟨H3, K3, T3⟩ := ac_new H2 (true, .inr (14, [.int 0, .int 0, .null]))
            simp only [Nat.add_zero, Nat.zero_add]
            rw [X_t H3.2 (by decide)]
            exact ac_tail (lo := 1) (hi := 719) M O (fun v => (116, W.nx p - 48, v)) (fun zz r => fX14_init ex zz z o (nI (W.nx p - 48)) r) (by decide) (by decide) (by omega) (by omega) w5 (by omega) H.1.fr H3 T3 (g_u_self _ _ _) ((K1.tr K2).tr (K3.sub (fun _ _ => trivial))) (by decide) (i14 rfl _) (fun v => ⟨Or.inr (Or.inr (Or.inr rfl)), by rw [upd_no _ _ (by omega), upd_no _ _ (by omega)]; exact hfj, fun _ => by rw [upd_no _ _ (by omega), upd_at], fun _ _ => upd_at _ _ _⟩) hf1
          · rw [if_neg hx, if_pos (show nI 119 = 119 from rfl), new_t]
            obtain ⟨H3, K3, T3⟩ := ac_new H2 (true, .inr (13, [.int 0, .int 0, .null]))
            simp only [Nat.add_zero, Nat.zero_add]
            rw [X_t H3.2 (by decide)]
            exact ac_tail (lo := 1) (hi := 99) M O (fun v => (119, W.nx p - 48, v)) (fun zz r => fX13_init ex zz z o (nI (W.nx p - 48)) r) (by decide) (by decide) (by omega) (by omega) w5 (by omega) H.1.fr H3 T3 (g_u_self _ _ _) ((K1.tr K2).tr (K3.sub (fun _ _ => trivial))) (by decide) (i13 rfl _) (fun v => ⟨Or.inr (Or.inr (Or.inl rfl)), by rw [upd_no _ _ (by omega), upd_no _ _ (by omega)]; exact hfj, fun _ => by rw [upd_no _ _ (by omega), upd_at], fun _ _ => upd_at _ _ _⟩) hf1
        · cases w1
      · rw [if_neg h43] at cm
        rcases cm with ⟨v, p2, σ2, w1, -⟩ | ⟨q, b, σ2, T2, w1, w2, w3, w4, w5, w6⟩
        · cases w1
        · cases w1
          rw [w2, gbT_r, decide_eq_false h43, if_pos (show b2 false = 0 from rfl), pa_n h43]
          exact Or.inr ⟨_, _, _, b, σ2, T2, 0 + 1, 0 + 7, w6, sk_sk _, rfl, rfl, by omega, by omega, by rw [Nat.zero_add]; exact w3, w4, K1.tr w5⟩
    · cases y1
  · rw [if_neg h] at cd
    rcases cd with ⟨v, p1, σ1, y1, -⟩ | ⟨q, b, σ2, T2, w1, w2, w3, w4, w5, w6⟩
    · cases y1
    · cases w1
      rw [w2, gbT_r, m_clk0 (M.tx _ _ _) O (fun ⟨i, hi, e⟩ => by
        have e2 : W.lx p = nI (i + 48) := by rw [← nI_add, ← e]; exact (Int32.sub_add_cancel _ _).symm
        have := (lx_eq O (by omega) (by omega)).mp e2
        omega), gm_some, if_pos rfl]
      exact Or.inr ⟨_, _, _, b, σ2, T2, 0 + 1, 0 + 7, w6, sk_sk _, rfl, rfl, by omega, by omega, by rw [Nat.zero_add]; exact w3, w4, w5⟩
theorem r_acY (M : MW t W) (O : W.OK) {p : Nat} (hp : p ≤ W.tn) (x1 n : Int32) (f : Nat → Int32) (h : W.nx p = 119 ∨ W.nx p = 116 ∨ W.nx p = 98 ∨ W.nx p = 104) : fX3_readAct x1 (tx t p n f) = fX3_readAct_31 x1 (nI (W.nx p)) (tx t (W.sk p) n f) := by
  have hn := nx_le O p
  unfold fX3_readAct
  rw [r_next M O hp, gm_some, lx_pos O (by omega), ifl 119 (by omega) (by decide), ifl 116 (by omega) (by decide), ifl 98 (by omega) (by decide), ifl 104 (by omega) (by decide)]
  rcases h with h | h | h | h <;> rw [h] <;> rfl
theorem r_acN (M : MW t W) (O : W.OK) {p : Nat} (hp : p ≤ W.tn) (x1 n : Int32) (f : Nat → Int32) (h1 : ¬ W.nx p = 119) (h2 : ¬ W.nx p = 116) (h3 : ¬ W.nx p = 98) (h4 : ¬ W.nx p = 104) : fX3_readAct x1 (tx t p n f) = some (0, tx t (W.sk p) n f) := by
  unfold fX3_readAct
  rw [r_next M O hp, gm_some, if_neg (show ¬ W.lx p = 119 from fun g => h1 ((lx_eq O (x := 119) (by decide) (by decide)).mp g)), if_neg (show ¬ W.lx p = 116 from fun g => h2 ((lx_eq O (x := 116) (by decide) (by decide)).mp g)), if_neg (show ¬ W.lx p = 98 from fun g => h3 ((lx_eq O (x := 98) (by decide) (by decide)).mp g)), if_neg (show ¬ W.lx p = 104 from fun g => h4 ((lx_eq O (x := 104) (by decide) (by decide)).mp g))]
theorem b_ac (M : MW t W) (O : W.OK) {p j : Nat} {n : Int32} {f : Nat → Int32} (hj : j + 2 < 480) (hp : p ≤ W.tn) (H : CA σ T ex z o a W p) : Ac t W σ T ex z o a p j n f (fX3_readAct (nI j) (tx t p n f)) (fX0_readAct ex z o (σ, 0, 0)) := by
  have hs := sk_le hp
  have hn := nx_le O p
  have hW := O.ba.W1
  have hW0 : 2 ≤ W.C.R.W := O.ba.2.1
  obtain ⟨σ1, r1, H1, K1⟩ := c_pass (zz := z) H O hp (x := 104) (by decide) (by decide) (0, 0)
  unfold fX0_readAct
  rw [X_t H.2 (by decide)]
  show Ac _ _ _ _ _ _ _ _ _ _ _ _ _ (gb (fX0_passes ex z o (nI 104) (σ, 0, 0)) (σ, 0, 0) _)
  rw [r1, gb_z]
  by_cases h104 : W.nx p = 104
  · have hq := nx_in O (by decide) h104
    rw [pa_y h104] at H1
    rw [decide_eq_true h104, if_neg (show ¬ b2 true = 0 by decide), r_acY M O hp _ _ _ (Or.inr (Or.inr (Or.inr h104))), h104, new_t]
    simp only [Nat.add_zero, Nat.zero_add]
    unfold fX3_readAct_31 fX11_init
    simp only [lt]
    rw [show (tx t (W.sk p) n f).1 16 = nI (W.sk p) from rfl, nI_1, tx_p, mast_nI (by omega) (by decide), tx_a, if_pos (show nI 104 = 104 from rfl), P_t (g_u_self _ _ _) (by decide) (by decide), gb_z, g_u_twice]
    obtain ⟨H3, K3, T3⟩ := ac_new H1 (aC o (104, 0, 0))
    exact Or.inl ⟨(104, 0, 0), W.sk p + 1, _, _, _, 1, Or.inl rfl, by omega, by omega, rfl, ⟨upd_at _ _ _, fun g => absurd rfl g, fun g => absurd rfl g⟩, fun i hi => upd_no _ _ (by omega), rfl, by omega, T3, g_u_self _ _ _, H3, K1.tr (K3.sub (fun _ _ => trivial))⟩
  · rw [pa_n h104] at H1
    obtain ⟨σ2, r2, H2, K2⟩ := c_pass (zz := z) H1 O hs.2 (x := 98) (by decide) (by decide) (0, 0)
    rw [nx_sk] at r2
    rw [pa_sk] at H2
    rw [decide_eq_false h104, if_pos (show b2 false = 0 from rfl), X_t H1.2 (by decide)]
    show Ac _ _ _ _ _ _ _ _ _ _ _ _ _ (gb (fX0_passes ex z o (nI 98) (σ1, 0, 0)) (σ1, 0, 0) _)
    rw [r2, gb_z]
    by_cases h98 : W.nx p = 98
    · have hq := nx_in O (by decide) h98
      rw [pa_y h98] at H2
      rw [decide_eq_true h98, if_neg (show ¬ b2 true = 0 by decide), r_acY M O hp _ _ _ (Or.inr (Or.inr (Or.inl h98))), h98, new_t]
      simp only [Nat.add_zero, Nat.zero_add]
      obtain ⟨H3, K3, T3⟩ := ac_new H2 (true, .inr (12, [.int 0, .null]))
      obtain ⟨A, hA, R⟩ := H3.1.race
      unfold fX3_readAct_31
      simp only [lt]
      rw [show (tx t (W.sk p) n f).1 16 = nI (W.sk p) from rfl, nI_1, tx_p, mast_nI (by omega) (by decide), tx_a, if_neg (show ¬ nI 98 = 104 by decide), if_pos (show nI 98 = 98 from rfl), nI_1, show (tx t (W.sk p + 1) n (upd f j (nI 98))).1 4 = nI W.C.R.W from M.c.r.1.W, nI_sub1 (by omega), A_t H3.2 (by decide) rfl, ← hA, X_t R.1.ra (by decide), c_home (t := (g_u σ2 z (true, .inr (12, [.int 0, .null])), 0, 0)) R.1 O.ba, gb_two, X_t H3.2 (by decide)]
      exact ac_tail (lo := 0) (hi := W.C.R.W - 1) M O (fun v => (98, v, 0)) (fun zz r => fX12_init ex zz z o r) (by omega) (by omega) (by omega) (by omega) (by omega) (by omega) H.1.fr H3 T3 (g_u_self _ _ _) ((K1.tr K2).tr (K3.sub (fun _ _ => trivial))) (by decide) (i12 rfl) (fun v => ⟨Or.inr (Or.inl rfl), by rw [upd_no _ _ (by omega), upd_at], fun _ => upd_at _ _ _, fun _ g => absurd rfl g⟩) (fun i hi => upd_no _ _ (by omega))
    · rw [pa_n h98] at H2
      obtain ⟨σ3, r3, H3, K3⟩ := c_pass (zz := z) H2 O hs.2 (x := 119) (by decide) (by decide) (0, 0)
      rw [nx_sk] at r3
      rw [pa_sk] at H3
      rw [decide_eq_false h98, if_pos (show b2 false = 0 from rfl), X_t H2.2 (by decide)]
      show Ac _ _ _ _ _ _ _ _ _ _ _ _ _ (gb (fX0_passes ex z o (nI 119) (σ2, 0, 0)) (σ2, 0, 0) _)
      rw [r3, gb_z]
      by_cases h119 : W.nx p = 119
      · have hq := nx_in O (by decide) h119
        rw [pa_y h119] at H3
        rw [decide_eq_true h119, if_neg (show ¬ b2 true = 0 by decide), r_acY M O hp _ _ _ (Or.inl h119), h119]
        unfold fX3_readAct_31
        simp only [lt]
        rw [show (tx t (W.sk p) n f).1 16 = nI (W.sk p) from rfl, nI_1, tx_p, mast_nI (by omega) (by decide), tx_a, if_neg (show ¬ nI 119 = 104 by decide), if_neg (show ¬ nI 119 = 98 by decide)]
        exact (ac_65 (c := 119) M O (Or.inr ⟨by decide, rfl⟩) hj (by omega) (by omega) H3 (upd_at _ _ _) (fun i hi => upd_no _ _ (by omega))).pre ((K1.tr K2).tr K3) (Nat.le_refl p) (fun _ _ => rfl)
      · rw [pa_n h119] at H3
        rw [decide_eq_false h119, if_pos (show b2 false = 0 from rfl), X_t H3.2 (by decide)]
        have cm := c_must H3 O hs.2 (x := 116) (by decide) (by decide)
        rw [nx_sk, sk_sk] at cm
        show Ac _ _ _ _ _ _ _ _ _ _ _ _ _ (gbT (fX0_must ex z o (nI 116) (σ3, 0, 0)) (σ3, 0, 0) _ _)
        by_cases h116 : W.nx p = 116
        · have hq := nx_in O (by decide) h116
          rw [if_pos h116] at cm
          rcases cm with ⟨v, p2, σ4, w1, w2, H4, K4, w5⟩ | ⟨q, b, σ', T', w1, -⟩
          · cases w1
            rw [w2, gbT_l, r_acY M O hp _ _ _ (Or.inr (Or.inl h116)), h116]
            unfold fX3_readAct_31
            simp only [lt]
            rw [show (tx t (W.sk p) n f).1 16 = nI (W.sk p) from rfl, nI_1, tx_p, mast_nI (by omega) (by decide), tx_a, if_neg (show ¬ nI 116 = 104 by decide), if_neg (show ¬ nI 116 = 98 by decide)]
            exact (ac_65 (c := 116) M O (Or.inl ⟨rfl, rfl⟩) hj (by omega) (by omega) H4 (upd_at _ _ _) (fun i hi => upd_no _ _ (by omega))).pre (((K1.tr K2).tr K3).tr K4) (Nat.le_refl p) (fun _ _ => rfl)
          · cases w1
        · rw [if_neg h116] at cm
          rcases cm with ⟨v, p2, σ4, w1, -⟩ | ⟨q, b, σ4, T4, w1, w2, w3, w4, w5, w6⟩
          · cases w1
          · cases w1
            rw [w2, gbT_r, r_acN M O hp _ _ _ h119 h116 h98 h104]
            exact Or.inr ⟨_, _, _, b, σ4, T4, 0 + 1, 0 + 7, w6, sk_sk _, rfl, rfl, by omega, by omega, by rw [Nat.zero_add]; exact w3, w4, ((K1.tr K2).tr K3).tr w5⟩
end O9s
