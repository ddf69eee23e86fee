/-! back to the start: what is asked of a race is less than before; the readers go on -/
set_option maxRecDepth 100000
section BW
variable {σ : Sg} {T : Nat → Nat} {ex : Nat → Option Nat} {z : Nat} {t : MS} {R : Rc}
section
variable {k : Nat} {A : Ad} {al : Int32}
theorem rt_be4w (hn : R.n ≤ 9) (hkk : ∀ c, c < R.n → R.k c ≤ 5) (hf : ∀ c, c < R.n → R.f c < 2 ^ 31) : ∀ (j c fuel : Nat) (σ : Sg) (cc : Nat × Nat), c + j = R.n → j < fuel → RT σ T k ex A (R.bk c) al → ∃ σ', fX1_begins_4 ex z fuel A.r (nI (cnt (fun c => decide (R.f c ≠ 0)) c)) (nI c) (σ, cc) = some (nI R.homes, (σ', cc)) ∧ RT σ' T k ex A (R.bk R.n) al ∧ Ow T k σ z σ' z
  | 0, c, fuel, σ, cc, hj, hfu, H => by
    obtain ⟨m, rfl⟩ : ∃ m, fuel = m + 1 := ⟨fuel - 1, by omega⟩
    obtain rfl : c = R.n := by omega
    obtain ⟨mc, hl⟩ := H.1.li
    have en : (R.bk R.n).n = R.n := rfl
    rw [fX1_begins_4, A_t H.1.ra (by decide) rfl, X_t hl (by decide), c_listsize (t := (σ, 0, 0)) H.1, gb_two, en, if_pos (nI_le (Nat.le_refl _) (by omega))]
    exact ⟨σ, rfl, H, Ow.rf _ _ _ _⟩
  | j + 1, c, fuel, σ, cc, hj, hfu, H => by
    obtain ⟨m, rfl⟩ : ∃ m, fuel = m + 1 := ⟨fuel - 1, by omega⟩
    have hc : c < R.n := by omega
    have en : (R.bk c).n = R.n := rfl
    have ek : (R.bk c).k = R.k := rfl
    have hk : 4 + (R.bk c).k c ∈ [4, 5, 6, 7, 8, 9] := kin (hkk c hc)
    have hcell := H.1.ck c hc
    obtain ⟨mc, hl⟩ := H.1.li
    have hhome : ∀ zz, fX4_isHome ex zz (A.ca c) (σ, 0, 0) = some (if R.f c = 0 then 0 else 1, (σ, 0, 0)) := by
      intro zz
      have hfc := hf c hc
      unfold fX4_isHome
      rw [I_t hcell hk rfl]
      show (if fin ((R.bk c).f c) = -4 then _ else _) = _
      rw [Rc.bk_f (Nat.le_refl c)]
      by_cases h : R.f c = 0
      · rw [if_pos h, h]; rfl
      · rw [if_neg h, if_neg (fin_ne h hfc)]
    have tail : ∀ s0 : Nat, cnt (fun c => decide (R.f c ≠ 0)) (c + 1) = cnt (fun c => decide (R.f c ≠ 0)) c + s0 → ∃ σ', fX1_begins_40 ex z (fun a0 a1 a2 a3 => fX1_begins_4 ex z m a0 a1 a2 a3) A.r (nI c) (A.ca c) (nI s0) (nI (cnt (fun c => decide (R.f c ≠ 0)) c)) (σ, cc) = some (nI R.homes, (σ', cc)) ∧ RT σ' T k ex A (R.bk R.n) al ∧ Ow T k σ z σ' z := by
      intro s0 hs0
      unfold fX1_begins_40
      simp only [lt]
      rw [P_t hcell hk (by show 4 < 6; decide), P_t (g_u_self _ _ _) hk (by show 5 < 6; decide), g_u_twice, nI_add, nI_1, ← hs0]
      have BB : (R.bk c).n ≤ 9 := hn
      have H1 := H.1
      have hr : RT (g_u σ (A.ca c) (ckC (R.bk (c + 1)) c)) T k ex A (R.bk (c + 1)) al ∧ Ow T k σ z (g_u σ (A.ca c) (ckC (R.bk (c + 1)) c)) z := by
        have hcl : ∀ i, i < R.n → A.ca i ≠ A.l := by
          intro i hi x
          have h1 := H1.ck i hi
          obtain ⟨mc, h2⟩ := H1.li
          rw [x, h2] at h1
          have := hkk i hi
          simp [ckC] at h1
        have hcc : ∀ i, i < R.n → i ≠ c → A.ca i ≠ A.ca c := fun i hi hne => H1.ca_ca hn hc hi hne
        have hck : ∀ i, i < R.n → i ≠ c → ckC (R.bk (c + 1)) i = ckC (R.bk c) i := by
          intro i hi hne
          unfold ckC Rc.bk
          simp only [Rc.k_mk, Rc.h_mk, Rc.r_mk, Rc.s_mk, Rc.p_mk, Rc.f_mk, cut0]
          have : (i < c + 1) ↔ (i < c) := by omega
          simp only [this]
        obtain ⟨h1, h2, h3, h4, h5, h6⟩ := H
        refine ⟨⟨⟨?_, ?_, ?_, ?_, ?_, ?_⟩, h2, h3, h4, h5.keep (g_u_ne _ _ (hcl c hc).symm) (g_u_ne _ _ (h1.ca_e hc).symm), h6⟩, Ow.put (h6 c hc) _⟩
        · rw [g_u_ne _ _ (h1.ca_r hc).symm]; exact h1.ra
        · rw [g_u_ne _ _ (h1.ca_d hc).symm]; exact h1.dl
        · rw [g_u_ne _ _ (h1.ca_s hc).symm]; exact h1.sk
        · rw [g_u_ne _ _ (hcl c hc).symm]; exact h1.li
        · rw [g_u_ne _ _ (h1.ca_e hc).symm]; exact h1.el
        · intro i hi
          by_cases hq : i = c
          · subst hq; rw [g_u_self]
          · rw [g_u_ne _ _ (hcc i hi hq), hck i hi hq]; exact h1.ck i hi
      have ec : (true, Sum.inr (4 + (R.bk c).k c, ([Value.int (nI c), Value.int (nI ((R.bk c).h c)), Value.int (Int32.ofInt ((R.bk c).r c)), Value.int (nI ((R.bk c).s c)), Value.int (nI ((R.bk c).p c)), Value.int (fin ((R.bk c).f c))].set 4 (Value.int 0)).set 5 (Value.int (-4)))) = ckC (R.bk (c + 1)) c := by
        have ep : (R.bk (c + 1)).p c = 0 := if_pos (Nat.lt_succ_self c)
        have ef : (R.bk (c + 1)).f c = 0 := if_pos (Nat.lt_succ_self c)
        unfold ckC
        rw [ep, ef]
        rfl
      rw [ec]
      obtain ⟨σ2, q1, q2, q3⟩ := rt_be4w hn hkk hf j (c + 1) m _ cc (by omega) (by omega) hr.1
      exact ⟨σ2, q1, q2, hr.2.tr0 q3⟩
    rw [fX1_begins_4, A_t H.1.ra (by decide) rfl, X_t hl (by decide), c_listsize (t := (σ, 0, 0)) H.1, gb_two, en, if_neg (nI_ge (by omega) (by omega)), A_t H.1.ra (by decide) rfl, X_t hl (by decide), c_get (t := (σ, 0, 0)) H.1 hn hc, gb_two, X_t hcell hk, X_t hcell hk, hhome, gb_two]
    by_cases h : R.f c = 0
    · rw [if_pos h, if_pos rfl]
      exact tail 0 (by simp [cnt, h])
    · rw [if_neg h, if_neg n10]
      exact tail 1 (by simp [cnt, h])
theorem rt_beginsw (H : RT σ T k ex A R al) (hn : R.n ≤ 9) (hkk : ∀ c, c < R.n → R.k c ≤ 5) (hf : ∀ c, c < R.n → R.f c < 2 ^ 31) {cc : Nat × Nat} : ∃ σ', fX1_begins ex z A.r (σ, cc) = some (nI R.homes, (σ', cc)) ∧ RT σ' T k ex A R.back al ∧ Ow T k σ z σ' z := by
  have h0 : RT σ T k ex A (R.bk 0) al := H.cong rfl rfl (fun w hw => rfl) (fun j hj => rfl) (fun i hi => Rc.bk_ck0 R i)
  obtain ⟨σ', q1, q2, q3⟩ := rt_be4w (z := z) hn hkk hf R.n 0 1000 σ cc (by omega) (by omega) h0
  refine ⟨σ', q1, q2.cong rfl rfl (fun w hw => rfl) (fun j hj => rfl) (fun i hi => ?_), q3⟩
  exact Rc.bk_ckn hi
end
theorem m_ab2w (hn : R.n ≤ 9) : ∀ (j c fuel : Nat) (t : MS), c + j = R.n → j < fuel → MR t (R.bk c) → ∃ t', fX3_allBack_2 fuel (nI c) t = some ((), setI t' 12 0) ∧ MR t' (R.bk R.n) ∧ Sm t t'
  | 0, c, fuel, t, hj, hf, H => by
    obtain ⟨m, rfl⟩ : ∃ m, fuel = m + 1 := ⟨fuel - 1, by omega⟩
    obtain rfl : c = R.n := by omega
    have en : (R.bk R.n).n = R.n := rfl
    rw [fX3_allBack_2, H.1.n, en, if_pos (nI_le (Nat.le_refl _) (by omega))]
    exact ⟨t, rfl, H, Sm.rf t⟩
  | j + 1, c, fuel, t, hj, hf, H => by
    obtain ⟨m, rfl⟩ : ∃ m, fuel = m + 1 := ⟨fuel - 1, by omega⟩
    have en : (R.bk c).n = R.n := rfl
    rw [fX3_allBack_2, H.1.n, en, if_neg (nI_ge (by omega) (by omega)), ilit 42, nI_add, mast_nI (by omega) (by decide), ilit 51, nI_add, mast_nI (by omega) (by decide), nI_1]
    have S1 : Sm t (setA (setA t 0 (42 + c) 0) 0 (51 + c) (-4)) := (Sm.set t _ _).sets _ _
    have e0 : (setA (setA t 0 (42 + c) 0) 0 (51 + c) (-4)).2.1 0 = upd (upd (t.2.1 0) (42 + c) 0) (51 + c) (-4) := by rw [setA_same, setA_same]
    have H1 : MR (setA (setA t 0 (42 + c) 0) 0 (51 + c) (-4)) (R.bk (c + 1)) := by
      refine ⟨H.1.to S1 rfl rfl rfl rfl rfl rfl ?_ ?_ ?_ ?_ ?_ ?_ ?_, ?_⟩
      · intro w hw; rw [e0, upd_no _ _ (by omega), upd_no _ _ (by omega)]; exact H.1.d w hw
      · intro i hi; have hi' : i < R.n := hi; rw [e0, upd_no _ _ (by omega), upd_no _ _ (by omega)]; exact H.1.h i hi
      · intro i hi; have hi' : i < R.n := hi; rw [e0, upd_no _ _ (by omega), upd_no _ _ (by omega)]; exact H.1.s i hi
      · intro i hi
        have hi' : i < R.n := hi
        rw [e0, upd_no _ _ (by omega)]
        by_cases hq : i = c
        · subst hq; rw [upd_at, show (R.bk (i + 1)).p i = 0 from if_pos (Nat.lt_succ_self i)]; rfl
        · rw [upd_no _ _ (by omega), H.1.p i hi]
          show nI (if i < c then 0 else R.p i) = nI (if i < c + 1 then 0 else R.p i)
          have : (i < c + 1) ↔ (i < c) := by omega
          simp only [this]
      · rw [e0, upd_no _ _ (by omega), upd_no _ _ (by omega)]; exact H.1.now
      · rw [e0, upd_no _ _ (by omega), upd_no _ _ (by omega)]; exact H.1.he
      · rw [e0, upd_no _ _ (by omega), upd_no _ _ (by omega)]; exact H.1.so
      · intro i hi
        have hi' : i < R.n := hi
        rw [e0]
        by_cases hq : i = c
        · subst hq; rw [upd_at, show (R.bk (i + 1)).f i = 0 from if_pos (Nat.lt_succ_self i)]; rfl
        · rw [upd_no _ _ (by omega), upd_no _ _ (by omega), H.2 i hi]
          show fin (if i < c then 0 else R.f i) = fin (if i < c + 1 then 0 else R.f i)
          have : (i < c + 1) ↔ (i < c) := by omega
          simp only [this]
    obtain ⟨t2, q1, q2, q3⟩ := m_ab2w hn j (c + 1) m _ (by omega) (by omega) H1
    exact ⟨t2, q1, q2, S1.tr q3⟩
theorem m_allBackw (H : MR t R) (hn : R.n ≤ 9) : ∃ t', fX3_allBack t = some ((), setI t' 12 0) ∧ MR t' R.back ∧ Sm t t' := by
  have h0 : MR t (R.bk 0) := H.cong rfl rfl rfl (fun _ _ => rfl) (fun _ _ => rfl) (fun _ _ => rfl) (fun c _ => by show (if c < 0 then 0 else R.p c) = _; rw [if_neg (Nat.not_lt_zero c)]) (fun c _ => by show (if c < 0 then 0 else R.f c) = _; rw [if_neg (Nat.not_lt_zero c)]) (fun _ _ => rfl) (fun _ _ => rfl) (fun _ _ => rfl) rfl rfl rfl
  obtain ⟨t', q1, q2, q3⟩ := m_ab2w hn R.n 0 1000 t (by omega) (by omega) h0
  exact ⟨t', q1, q2.cong rfl rfl rfl (fun _ _ => rfl) (fun _ _ => rfl) (fun _ _ => rfl) (fun c hc => by have hc' : c < R.n := hc; show 0 = (if c < R.n then 0 else R.p c); rw [if_pos hc']) (fun c hc => by have hc' : c < R.n := hc; show 0 = (if c < R.n then 0 else R.f c); rw [if_pos hc']) (fun _ _ => rfl) (fun _ _ => rfl) (fun _ _ => rfl) rfl rfl rfl, q3⟩
end BW
section O9d
variable {t : MS} {W : Wv} {σ : Sg} {T : Nat → Nat} {ex : Nat → Option Nat} {z o : Nat} {a : Nat → Nat}
theorem c_ix7 {r n c zz : Nat} {fl : Bool} {f : Nat → Int32} {l : List Nat} {cc : Nat × Nat} (hr : σ r = some (fl, .inl (0, n, .inl f))) (hn : n ≤ 200) (hl : ∀ k, k < n → f k = nI (l.getD k 0)) (hb : ∀ k, k < n → l.getD k 0 < 128) (hc : c < 128) : ∀ (j k fuel : Nat), k + j = n → j < fuel → fJ9_indexOfChar_7 ex zz fuel r (nI n) (nI c) (nI k) (σ, cc) = some (oI (ixL l c j k), (σ, cc))
  | 0, k, fuel, hj, hf => by
    obtain ⟨m, rfl⟩ : ∃ m, fuel = m + 1 := ⟨fuel - 1, by omega⟩
    rw [fJ9_indexOfChar_7, ifle k rfl rfl (by omega) (by omega), if_pos (by omega)]
    rfl
  | j + 1, k, fuel, hj, hf => by
    obtain ⟨m, rfl⟩ : ∃ m, fuel = m + 1 := ⟨fuel - 1, by omega⟩
    have h1 := hb k (by omega)
    rw [fJ9_indexOfChar_7, ifle k rfl rfl (by omega) (by omega), if_neg (by omega), ald_t hr (by omega) (by omega), hl k (by omega), ife c rfl (by omega) (by omega), nI_1]
    show _ = some (oI (if l.getD k 0 = c then some k else ixL l c j (k + 1)), (σ, cc))
    by_cases h : l.getD k 0 = c
    · rw [if_pos h, if_pos h]; rfl
    · rw [if_neg h, if_neg h]
      exact c_ix7 hr hn hl hb hc j (k + 1) m (by omega) (by omega)
theorem txt_b : ∀ i, 1 ≤ i → i ≤ 3 → (0 < (txt i).length ∧ (txt i).length ≤ 13) ∧ ∀ k, k < (txt i).length → (txt i).getD k 0 < 128 := by
  intro i h1 h2
  rcases (show i = 1 ∨ i = 2 ∨ i = 3 by omega) with h | h | h <;> subst h <;> decide +kernel
theorem c_ix {i c s zz : Nat} (H : CW σ T ex z o a W) (h1 : 1 ≤ i) (h3 : i ≤ 3) (hs : ex i = some s) (hc : c < 128) (cc : Nat × Nat) : fJ8_indexOf ex zz s (nI c) (σ, cc) = some (oI (txI i c), (σ, cc)) ∧ ∃ fl fs, σ s = some (fl, .inr (21, fs)) := by
  obtain ⟨s', r, b, b2, n, f, e1, -, e3, -, e5, rfl, e7⟩ := H.cn.2 i h1 h3
  obtain ⟨⟨l0, l1⟩, hb⟩ := txt_b i h1 h3
  obtain rfl : s' = s := Option.some.inj (e1.symm.trans hs)
  refine ⟨?_, b, _, e3⟩
  have hlen : ∀ zz, fJ8_length ex zz s' (σ, 0, 0) = some (nI (txt i).length, (σ, 0, 0)) := by
    intro zz
    unfold fJ8_length fJ8_coder
    rw [A_t e3 (by decide) rfl, len_t e5 (by decide), X_t e3 (by decide), if_neg (show ¬ (1 : Int32) = 0 by decide), I_t e3 (by decide) rfl, if_pos (by decide), gb_two]
    have := nI_shr (x := (txt i).length) (c := 0) (by omega) (by decide)
    rw [show (nI 0 : Int32) = 0 from rfl, Nat.pow_zero, Nat.div_one] at this
    rw [this]
  have hloop := fun zz => c_ix7 (ex := ex) (zz := zz) (cc := (0, 0)) e5 (by omega) e7 hb hc (txt i).length 0 1000 (by omega) (by omega)
  unfold fJ8_indexOf fJ8_indexOf_2 fJ8_isLatin1
  rw [X_t e3 (by decide), X_t e3 (by decide), if_neg (show ¬ (1 : Int32) = 0 by decide), I_t e3 (by decide) rfl, if_pos rfl, gb_two, if_neg (show ¬ (1 : Int32) = 0 by decide), A_t e3 (by decide) rfl, X_t e3 (by decide), hlen, gb_two]
  unfold fJ9_indexOf fJ9_canEncode fJ9_indexOfChar
  rw [if_neg (nI_pos (by omega)), show (255 : Int32) = nI 255 from rfl, iflt c rfl rfl (by decide) (by omega), if_neg (by omega), gb_two, if_neg (show ¬ (1 : Int32) = 0 by decide), show (0 : Int32) = nI 0 from rfl, c_max (by decide) (by decide), gb_two, len_t e5 (by decide), c_min (by omega) (by omega), gb_two, if_neg (Nat.lt_irrefl _), if_neg (Nat.lt_irrefl _), iflt _ rfl rfl (by decide) (by omega), if_pos l0]
  simp only [lt]
  rw [byte_small hc, hloop, gb_two, gb_two, gb_two]
  rfl
theorem c_letter {p i s : Nat} (H : CA σ T ex z o a W p) (O : W.OK) (hp : p ≤ W.tn) (h1 : 1 ≤ i) (h3 : i ≤ 3) (hs : ex i = some s) : PT σ T ex z o a W (W.le p i) (fX0_letter ex z o s (σ, 0, 0)) := by
  obtain ⟨σ1, r1, H1, K1⟩ := c_here (zz := z) H O hp (0, 0)
  have hn := nx_le O p
  have hk := sk_le hp
  unfold fX0_letter Wv.le
  rw [X_t H.2 (by decide)]
  show PT _ _ _ _ _ _ _ _ (gb (fX0_here ex z o (σ, 0, 0)) (σ, 0, 0) _)
  rw [r1, gb_z]
  have neg : txI i (W.nx p) = none → ∀ x : Int32, ¬ 0 ≤ x → ∀ σ1 : Sg, CA σ1 T ex z o a W (W.sk p) → PT σ1 T ex z o a W (match txI i (W.nx p) with | none => .inr (W.sk p) | some k => .inl (nI k, W.sk p + 1)) (fX0_letter_20 ex z o x (σ1, 0, 0)) := by
    intro e x hx σ1 H1
    rw [e]
    unfold fX0_letter_20
    rw [if_neg hx]
    exact c_flt H1 hk.2
  by_cases h : W.nx p = 0
  · rw [ifl 0 (by omega) (by decide), if_pos h]
    exact (neg (by rw [h]; exact txI_0 i h1 h3) _ (by decide) σ1 H1).pre K1
  · rw [ifl 0 (by omega) (by decide), if_neg h, X_t H1.2 (by decide)]
    obtain ⟨σ2, r2, H2, K2⟩ := c_here (zz := z) H1 O hk.2 (0, 0)
    have en : W.nx (W.sk p) = W.nx p := by unfold Wv.nx; rw [sk_sk]
    rw [sk_sk] at H2
    rw [en] at r2
    show PT _ _ _ _ _ _ _ _ (gb (fX0_here ex z o (σ1, 0, 0)) (σ1, 0, 0) _)
    rw [r2, gb_z]
    obtain ⟨q1, fl, fs, q2⟩ := c_ix (zz := z) H2.1 h1 h3 hs (show W.nx p < 128 by omega) (0, 0)
    rw [X_t q2 (by decide)]
    show PT _ _ _ _ _ _ _ _ (gb (fJ8_indexOf ex z s (nI (W.nx p)) (σ2, 0, 0)) (σ2, 0, 0) _)
    rw [q1, gb_z]
    cases e : txI i (W.nx p) with
    | none =>
      have r := neg e (oI none) (by decide) σ2 H2
      rw [e] at r
      exact r.pre (K1.tr K2)
    | some k =>
      have hkl := ixL_lt _ _ _ _ _ e
      obtain ⟨⟨l0, l1⟩, hb⟩ := txt_b i h1 h3
      unfold fX0_letter_20
      show PT _ _ _ _ _ _ _ (Sum.inl (nI k, W.sk p + 1)) (if 0 ≤ nI k then _ else _)
      rw [if_pos (show (0 : Int32) ≤ nI k from by rw [Int32.le_iff_toInt_le, nI_toInt (by omega), show (0 : Int32).toInt = 0 from rfl]; omega), I_t H2.2 (by decide) rfl, nI_1, P_t H2.2 (by decide) (by show 8 < 19; decide)]
      obtain ⟨H3, K3⟩ := H2.go (W.sk p + 1)
      exact Or.inl ⟨_, _, _, rfl, rfl, H3, (K1.tr K2).tr K3, nx_in O h rfl⟩
theorem r_n13 (M : MW t W) (O : W.OK) (lo hi s : Nat) (n : Int32) (f : Nat → Int32) : ∀ (j p v w fuel : Nat), p + j = W.tn → j < fuel → (w = v ∨ 99999 < w ∧ 99999 < v) → w ≤ 999999 → ∃ w', (w' = (dgF W.tp j p v).1 ∨ 99999 < w' ∧ 99999 < (dgF W.tp j p v).1) ∧ w' ≤ 999999 ∧ fX3_readNumber_13 fuel (nI lo) (nI hi) (nI s) (nI w) (tx t p n f) = fX3_readNumber_91 (nI lo) (nI hi) (nI s) (nI w') (tx t (dgF W.tp j p v).2 n f)
  | 0, p, v, w, fuel, hj, hf, hw, hw2 => by
    obtain ⟨m, rfl⟩ : ∃ m, fuel = m + 1 := ⟨fuel - 1, by omega⟩
    have ht := O.tn
    have e15 : (tx t p n f).1 15 = nI W.tn := M.tn
    have e16 : (tx t p n f).1 16 = nI p := rfl
    refine ⟨w, hw, hw2, ?_⟩
    rw [fX3_readNumber_13, ifle p e15 e16 (by omega) (by omega), if_pos (by omega)]
    rfl
  | j + 1, p, v, w, fuel, hj, hf, hw, hw2 => by
    obtain ⟨m, rfl⟩ : ∃ m, fuel = m + 1 := ⟨fuel - 1, by omega⟩
    have ht := O.tn
    have hc := O.tp p (by omega)
    have e15 : (tx t p n f).1 15 = nI W.tn := M.tn
    have e16 : (tx t p n f).1 16 = nI p := rfl
    have e7 : (tx t p n f).2.1 7 p = nI (W.tp p) := M.tp p (by omega)
    have ed : dgF W.tp (j + 1) p v = if 48 ≤ W.tp p ∧ W.tp p ≤ 57 then dgF W.tp j (p + 1) (10 * v + (W.tp p - 48)) else (v, p) := rfl
    rw [fX3_readNumber_13, ifle p e15 e16 (by omega) (by omega), if_neg (by omega), e16, mald_nI (by omega) (by decide), e7, l64 (n := 48) (by decide), l64 (n := 57) (by decide), m_inI, gm_some, in_dec (by decide) (by decide) (by omega), ed]
    by_cases h : 48 ≤ W.tp p ∧ W.tp p ≤ 57
    · rw [if_pos h, if_pos h, if_neg (show ¬ (1 : Int32) = 0 by decide), show (99999 : Int32) = nI 99999 from rfl, ifle 99999 rfl rfl (by omega) (by decide)]
      unfold fX3_readNumber_76
      simp only [lt]
      rw [e16, nI_1, tx_p]
      by_cases g : w ≤ 99999
      · rw [if_pos g, mald_nI (by omega) (by decide), e7, show (10 : Int32) = nI 10 from rfl, nI_mul, nI_add, show (48 : Int32) = nI 48 from rfl, nI_sub (by omega)]
        have hwv : w = v := by omega
        subst hwv
        rw [show 10 * w + W.tp p - 48 = 10 * w + (W.tp p - 48) by omega]
        exact r_n13 M O lo hi s n f j (p + 1) _ _ m (by omega) (by omega) (Or.inl rfl) (by omega)
      · rw [if_neg g]
        exact r_n13 M O lo hi s n f j (p + 1) _ _ m (by omega) (by omega) (Or.inr ⟨by omega, by omega⟩) hw2
    · rw [if_neg h, if_neg h, if_pos rfl]
      exact ⟨w, hw, hw2, rfl⟩
theorem dg_e (O : W.OK) {p : Nat} (hp : p ≤ W.tn) : (W.dg (W.sk p)).2 = W.sk p ↔ ¬ (48 ≤ W.nx p ∧ W.nx p ≤ 57) := by
  have hk := sk_le hp
  unfold Wv.dg Wv.nx
  by_cases g : W.sk p < W.tn
  · rw [if_pos g]
    obtain ⟨j, hj⟩ : ∃ j, W.tn - W.sk p = j + 1 := ⟨W.tn - W.sk p - 1, by omega⟩
    rw [hj]
    have ed : dgF W.tp (j + 1) (W.sk p) 0 = if 48 ≤ W.tp (W.sk p) ∧ W.tp (W.sk p) ≤ 57 then dgF W.tp j (W.sk p + 1) (10 * 0 + (W.tp (W.sk p) - 48)) else (0, W.sk p) := rfl
    rw [ed]
    by_cases h : 48 ≤ W.tp (W.sk p) ∧ W.tp (W.sk p) ≤ 57
    · rw [if_pos h]
      have := dgF_le W.tp j (W.sk p + 1) (10 * 0 + (W.tp (W.sk p) - 48))
      exact ⟨fun k => by omega, fun k => absurd h k⟩
    · rw [if_neg h]; exact ⟨fun _ => h, fun _ => rfl⟩
  · rw [if_neg g, show W.tn - W.sk p = 0 by omega]
    exact ⟨fun _ => by omega, fun _ => rfl⟩
theorem r_num (M : MW t W) (O : W.OK) {p lo hi : Nat} (hp : p ≤ W.tn) (hl : lo ≤ hi) (hh : hi < 9999) (n : Int32) (f : Nat → Int32) : fX3_readNumber (nI lo) (nI hi) (tx t p n f) = some (sv (W.nu p lo hi), tx t (sp (W.nu p lo hi)) n f) := by
  have hk := sk_le hp
  have ht := O.tn
  have hd := dgF_le W.tp (W.tn - W.sk p) (W.sk p) 0
  have he := dg_e O hp
  unfold fX3_readNumber
  rw [r_next M O hp, gm_some]
  show fX3_readNumber_13 1000 (nI lo) (nI hi) (nI (W.sk p)) (nI 0) (tx t (W.sk p) n f) = _
  obtain ⟨w, h1, h2, h3⟩ := r_n13 M O lo hi (W.sk p) n f (W.tn - W.sk p) (W.sk p) 0 0 1000 (by omega) (by omega) (Or.inl rfl) (by omega)
  rw [h3]
  unfold fX3_readNumber_91 Wv.nu
  have e16 : (tx t (dgF W.tp (W.tn - W.sk p) (W.sk p) 0).2 n f).1 16 = nI (dgF W.tp (W.tn - W.sk p) (W.sk p) 0).2 := rfl
  rw [e16, ife (W.sk p) rfl (by omega) (by omega)]
  have ed : dgF W.tp (W.tn - W.sk p) (W.sk p) 0 = W.dg (W.sk p) := rfl
  rw [ed] at h1 ⊢
  by_cases h : 48 ≤ W.nx p ∧ W.nx p ≤ 57
  · rw [if_neg (fun g => he.mp g h), m_inI, gm_some, in_dec hl (by omega) (by omega)]
    by_cases g : lo ≤ (W.dg (W.sk p)).1 ∧ (W.dg (W.sk p)).1 ≤ hi
    · have e : w = (W.dg (W.sk p)).1 := by omega
      rw [e, if_pos g, if_neg (show ¬ (1 : Int32) = 0 by decide), if_pos ⟨h, g⟩]
      rfl
    · rw [if_neg (show ¬ (lo ≤ w ∧ w ≤ hi) by omega), if_pos rfl, if_neg (fun k => g k.2)]
      simp only [lt]
      rw [tx_p]
      rfl
  · rw [if_pos (he.mpr h), if_neg (fun k => h k.1), he.mpr h]
    rfl
theorem nu_ok (O : W.OK) {p lo hi : Nat} (hp : p ≤ W.tn) : (∃ k e, W.nu p lo hi = .inl (nI k, e) ∧ lo ≤ k ∧ k ≤ hi ∧ e ≤ W.tn) ∨ W.nu p lo hi = .inr (W.sk p) := by
  have hk := sk_le hp
  have hd := dgF_le W.tp (W.tn - W.sk p) (W.sk p) 0
  have ed : dgF W.tp (W.tn - W.sk p) (W.sk p) 0 = W.dg (W.sk p) := rfl
  rw [ed] at hd
  unfold Wv.nu
  by_cases h : (48 ≤ W.nx p ∧ W.nx p ≤ 57) ∧ lo ≤ (W.dg (W.sk p)).1 ∧ (W.dg (W.sk p)).1 ≤ hi
  · rw [if_pos h]; exact Or.inl ⟨_, _, rfl, h.2.1, h.2.2, by omega⟩
  · rw [if_neg h]; exact Or.inr rfl
theorem m_dial {c : Nat} (hc : c < 127) (t : MS) : fX3_dialOf (nI c) t = some (oI (txI 1 c), t) := by
  rw [← dial_all c hc]
  unfold fX3_dialOf
  rw [l64 (n := 48) (by decide), l64 (n := 57) (by decide), m_inI, gm_some, in_dec (by decide) (by decide) (by omega)]
  by_cases h : 48 ≤ c ∧ c ≤ 57
  · rw [if_pos h, if_pos h, if_neg (show ¬ (1 : Int32) = 0 by decide)]
  · rw [if_neg h, if_neg h, if_pos rfl]
    repeat (first | rfl | split)
theorem m_sky {c : Nat} (hc : c < 127) (t : MS) : fX3_skyOf (nI c) t = some (oI (txI 2 c), t) := by
  rw [← sky_all c hc]
  unfold fX3_skyOf
  repeat (first | rfl | split)
theorem m_kind {c : Nat} (hc : c < 127) (t : MS) : fX3_kindOf (nI c) t = some (oI (txI 3 c), t) := by
  rw [← kind_all c hc]
  unfold fX3_kindOf
  repeat (first | rfl | split)
end O9d
