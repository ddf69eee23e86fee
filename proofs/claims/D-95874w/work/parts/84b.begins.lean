set_option maxRecDepth 100000
section BG
variable {σ : Sg} {T : Nat → Nat} {k : Nat} {ex : Nat → Option Nat} {A : Ad} {R : Rc} {al : Int32} {z : Nat}
theorem Rc.bk_f {R : Rc} {c i : Nat} (h : c ≤ i) : (R.bk c).f i = R.f i := by
  show (if i < c then 0 else R.f i) = _
  rw [if_neg (by omega)]
theorem rt_be4 (B : R.Ba) (hf : ∀ c, c < R.n → R.f c < 2 ^ 31) : ∀ (j c fuel : Nat) (σ : Sg) (cc : Nat × Nat), c + j = R.n → j < fuel → RT σ T k ex A (R.bk c) al → ∃ σ', fX1_begins_4 ex z fuel A.r (nI (cnt (fun c => decide (R.f c ≠ 0)) c)) (nI c) (σ, cc) = some (nI R.homes, (σ', cc)) ∧ RT σ' T k ex A (R.bk R.n) al ∧ Ow T k σ z σ' z
  | 0, c, fuel, σ, cc, hj, hfu, H => by
    obtain ⟨m, rfl⟩ : ∃ m, fuel = m + 1 := ⟨fuel - 1, by omega⟩
    obtain rfl : c = R.n := by omega
    have hn := B.n
    obtain ⟨mc, hl⟩ := H.1.li
    have en : (R.bk R.n).n = R.n := rfl
    rw [fX1_begins_4, A_t H.1.ra (by decide) rfl, X_t hl (by decide), c_listsize (t := (σ, 0, 0)) H.1, gb_two, en, if_pos (nI_le (Nat.le_refl _) (by omega))]
    exact ⟨σ, rfl, H, Ow.rf _ _ _ _⟩
  | j + 1, c, fuel, σ, cc, hj, hfu, H => by
    obtain ⟨m, rfl⟩ : ∃ m, fuel = m + 1 := ⟨fuel - 1, by omega⟩
    have hn := B.n
    have hc : c < R.n := by omega
    have en : (R.bk c).n = R.n := rfl
    have ek : (R.bk c).k = R.k := rfl
    have hk : 4 + (R.bk c).k c ∈ [4, 5, 6, 7, 8, 9] := kin (B.k c hc)
    have hcell := H.1.ck c hc
    obtain ⟨mc, hl⟩ := H.1.li
    have hhome : ∀ zz, fX4_isHome ex zz (A.ca c) (σ, 0, 0) = some (if R.f c = 0 then 0 else 1, (σ, 0, 0)) := by
      intro zz
      have hfc := hf c hc
      unfold fX4_isHome
      rw [I_t hcell hk rfl]
      show (if fin ((R.bk c).f c) = -4 then _ else _) = _
      rw [Rc.bk_f (Nat.le_refl c)]
      by_cases h : R.f c = 0
      · rw [if_pos h, h]; rfl
      · rw [if_neg h, if_neg (fin_ne h hfc)]
    have tail : ∀ s0 : Nat, cnt (fun c => decide (R.f c ≠ 0)) (c + 1) = cnt (fun c => decide (R.f c ≠ 0)) c + s0 → ∃ σ', fX1_begins_40 ex z (fun a0 a1 a2 a3 => fX1_begins_4 ex z m a0 a1 a2 a3) A.r (nI c) (A.ca c) (nI s0) (nI (cnt (fun c => decide (R.f c ≠ 0)) c)) (σ, cc) = some (nI R.homes, (σ', cc)) ∧ RT σ' T k ex A (R.bk R.n) al ∧ Ow T k σ z σ' z := by
      intro s0 hs0
      unfold fX1_begins_40
      simp only [lt]
      rw [P_t hcell hk (by show 4 < 6; decide), P_t (g_u_self _ _ _) hk (by show 5 < 6; decide), g_u_twice, nI_add, nI_1, ← hs0]
      have BB : (R.bk c).n ≤ 9 := hn
      have H1 := H.1
      have hr : RT (g_u σ (A.ca c) (ckC (R.bk (c + 1)) c)) T k ex A (R.bk (c + 1)) al ∧ Ow T k σ z (g_u σ (A.ca c) (ckC (R.bk (c + 1)) c)) z := by
        have hcl : ∀ i, i < R.n → A.ca i ≠ A.l := by
          intro i hi x
          have h1 := H1.ck i hi
          obtain ⟨mc, h2⟩ := H1.li
          rw [x, h2] at h1
          have := B.k i hi
          simp [ckC] at h1
        have hcc : ∀ i, i < R.n → i ≠ c → A.ca i ≠ A.ca c := fun i hi hne => H1.ca_ca hn hc hi hne
        have hck : ∀ i, i < R.n → i ≠ c → ckC (R.bk (c + 1)) i = ckC (R.bk c) i := by
          intro i hi hne
          unfold ckC Rc.bk
          simp only [Rc.k_mk, Rc.h_mk, Rc.r_mk, Rc.s_mk, Rc.p_mk, Rc.f_mk, cut0]
          have : (i < c + 1) ↔ (i < c) := by omega
          simp only [this]
        obtain ⟨h1, h2, h3, h4, h5, h6⟩ := H
        refine ⟨⟨⟨?_, ?_, ?_, ?_, ?_, ?_⟩, h2, h3, h4, h5.keep (g_u_ne _ _ (hcl c hc).symm) (g_u_ne _ _ (h1.ca_e hc).symm), h6⟩, Ow.put (h6 c hc) _⟩
        · rw [g_u_ne _ _ (h1.ca_r hc).symm]; exact h1.ra
        · rw [g_u_ne _ _ (h1.ca_d hc).symm]; exact h1.dl
        · rw [g_u_ne _ _ (h1.ca_s hc).symm]; exact h1.sk
        · rw [g_u_ne _ _ (hcl c hc).symm]; exact h1.li
        · rw [g_u_ne _ _ (h1.ca_e hc).symm]; exact h1.el
        · intro i hi
          by_cases hq : i = c
          · subst hq; rw [g_u_self]
          · rw [g_u_ne _ _ (hcc i hi hq), hck i hi hq]; exact h1.ck i hi
      have ec : (true, Sum.inr (4 + (R.bk c).k c, ([Value.int (nI c), Value.int (nI ((R.bk c).h c)), Value.int (Int32.ofInt ((R.bk c).r c)), Value.int (nI ((R.bk c).s c)), Value.int (nI ((R.bk c).p c)), Value.int (fin ((R.bk c).f c))].set 4 (Value.int 0)).set 5 (Value.int (-4)))) = ckC (R.bk (c + 1)) c := by
        have ep : (R.bk (c + 1)).p c = 0 := if_pos (Nat.lt_succ_self c)
        have ef : (R.bk (c + 1)).f c = 0 := if_pos (Nat.lt_succ_self c)
        unfold ckC
        rw [ep, ef]
        rfl
      rw [ec]
      obtain ⟨σ2, q1, q2, q3⟩ := rt_be4 B hf j (c + 1) m _ cc (by omega) (by omega) hr.1
      exact ⟨σ2, q1, q2, hr.2.tr0 q3⟩
    rw [fX1_begins_4, A_t H.1.ra (by decide) rfl, X_t hl (by decide), c_listsize (t := (σ, 0, 0)) H.1, gb_two, en, if_neg (nI_ge (by omega) (by omega)), A_t H.1.ra (by decide) rfl, X_t hl (by decide), c_get (t := (σ, 0, 0)) H.1 hn hc, gb_two, X_t hcell hk, X_t hcell hk, hhome, gb_two]
    by_cases h : R.f c = 0
    · rw [if_pos h, if_pos rfl]
      exact tail 0 (by simp [cnt, h])
    · rw [if_neg h, if_neg n10]
      exact tail 1 (by simp [cnt, h])
theorem rt_begins (H : RT σ T k ex A R al) (O : R.OK) {cc : Nat × Nat} : ∃ σ', fX1_begins ex z A.r (σ, cc) = some (nI R.homes, (σ', cc)) ∧ RT σ' T k ex A R.back al ∧ Ow T k σ z σ' z := by
  have hn := O.b.n
  have h0 : RT σ T k ex A (R.bk 0) al := H.cong rfl rfl (fun w hw => rfl) (fun j hj => rfl) (fun i hi => Rc.bk_ck0 R i)
  obtain ⟨σ', q1, q2, q3⟩ := rt_be4 (z := z) O.b (fun c hc => by have := O.f1 c hc; have := O.b.now; omega) R.n 0 1000 σ cc (by omega) (by omega) h0
  refine ⟨σ', q1, q2.cong rfl rfl (fun w hw => rfl) (fun j hj => rfl) (fun i hi => ?_), q3⟩
  exact Rc.bk_ckn hi
end BG
theorem Rc.back_OK {R : Rc} (O : R.OK) : R.back.OK := by
  have := O.b.W0
  refine ⟨(O.b.c_p (x := fun _ => 0) (fun c _ => by omega)).c_f _, fun c hc => ?_, fun c hc => ?_, O.he, O.so⟩
  · show (0 : Nat) = 0 ↔ 0 ≠ R.W - 1
    constructor
    · intro _; omega
    · intro _; rfl
  · show 0 ≤ R.now; omega
