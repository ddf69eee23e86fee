/-! texts: letters and numbers -/
set_option maxRecDepth 100000
def skF (tp : Nat → Nat) : Nat → Nat → Nat
  | 0, p => p
  | j + 1, p => if tp p = 32 then skF tp j (p + 1) else p
theorem skF_le (tp : Nat → Nat) : ∀ j p, p ≤ skF tp j p ∧ skF tp j p ≤ p + j
  | 0, p => ⟨Nat.le_refl _, Nat.le_refl _⟩
  | j + 1, p => by
    have ih := skF_le tp j (p + 1)
    show p ≤ (if tp p = 32 then skF tp j (p + 1) else p) ∧ (if tp p = 32 then skF tp j (p + 1) else p) ≤ p + (j + 1)
    split <;> omega
theorem skF_ne (tp : Nat → Nat) : ∀ j p, skF tp j p < p + j → tp (skF tp j p) ≠ 32
  | 0, p, h => absurd h (Nat.lt_irrefl _)
  | j + 1, p, h => by
    have e : skF tp (j + 1) p = if tp p = 32 then skF tp j (p + 1) else p := rfl
    rw [e] at h ⊢
    by_cases g : tp p = 32
    · rw [if_pos g] at h ⊢; exact skF_ne tp j (p + 1) (by omega)
    · rw [if_neg g]; exact g
def Wv.sk (W : Wv) (p : Nat) : Nat := skF W.tp (W.tn - p) p
theorem sk_le {W : Wv} {p : Nat} (h : p ≤ W.tn) : p ≤ W.sk p ∧ W.sk p ≤ W.tn := by
  have := skF_le W.tp (W.tn - p) p
  unfold Wv.sk; omega
theorem sk_ne {W : Wv} {p : Nat} (h : W.sk p < W.tn) : W.tp (W.sk p) ≠ 32 := by
  refine skF_ne W.tp (W.tn - p) p ?_
  have := skF_le W.tp (W.tn - p) p
  unfold Wv.sk at h; omega
theorem sk_at {W : Wv} {p : Nat} (h : p < W.tn → W.tp p ≠ 32) : W.sk p = p := by
  unfold Wv.sk
  by_cases g : p < W.tn
  · obtain ⟨j, hj⟩ : ∃ j, W.tn - p = j + 1 := ⟨W.tn - p - 1, by omega⟩
    rw [hj]
    show (if W.tp p = 32 then _ else p) = p
    rw [if_neg (h g)]
  · rw [show W.tn - p = 0 by omega]; rfl
theorem sk_sk {W : Wv} (p : Nat) : W.sk (W.sk p) = W.sk p := sk_at sk_ne
/-- the letter that stands next, as the reference has it, and as the component -/
def Wv.lx (W : Wv) (p : Nat) : Int32 := if W.sk p < W.tn then nI (W.tp (W.sk p)) else -1
def Wv.nx (W : Wv) (p : Nat) : Nat := if W.sk p < W.tn then W.tp (W.sk p) else 0
def tx (t : MS) (p : Nat) (n : Int32) (f : Nat → Int32) : MS := (upd (upd t.1 16 (nI p)) 17 n, fun j => if j = 8 then f else t.2.1 j, t.2.2)
theorem tx_p (t : MS) (p q : Nat) (n : Int32) (f : Nat → Int32) : setI (tx t p n f) 16 (nI q) = tx t q n f := by
  refine Prod.ext (funext fun i => ?_) rfl
  show upd (upd (upd t.1 16 (nI p)) 17 n) 16 (nI q) i = upd (upd t.1 16 (nI q)) 17 n i
  by_cases h : i = 16 <;> by_cases g : i = 17 <;> simp [upd, h, g]
theorem tx_n (t : MS) (p : Nat) (n m : Int32) (f : Nat → Int32) : setI (tx t p n f) 17 m = tx t p m f := by
  refine Prod.ext (funext fun i => ?_) rfl
  show upd (upd (upd t.1 16 (nI p)) 17 n) 17 m i = upd (upd t.1 16 (nI p)) 17 m i
  by_cases g : i = 17 <;> simp [upd, g]
theorem tx_a (t : MS) (p i : Nat) (n v : Int32) (f : Nat → Int32) : setA (tx t p n f) 8 i v = tx t p n (upd f i v) := by
  refine Prod.ext rfl (Prod.ext (funext fun j => ?_) rfl)
  show (if j = 8 then upd f i v else (if j = 8 then f else t.2.1 j)) = if j = 8 then upd f i v else t.2.1 j
  by_cases g : j = 8 <;> simp [g]
theorem tx_0 (t : MS) : setI t 16 0 = tx t 0 (t.1 17) (t.2.1 8) := by
  refine Prod.ext (funext fun i => ?_) (Prod.ext (funext fun j => ?_) rfl)
  · show upd t.1 16 0 i = upd (upd t.1 16 0) 17 (t.1 17) i
    by_cases g : i = 17 <;> simp [upd, g]
  · show t.2.1 j = if j = 8 then t.2.1 8 else t.2.1 j
    by_cases g : j = 8 <;> simp [g]
section O9b
variable {t : MS} {W : Wv} {σ : Sg} {T : Nat → Nat} {ex : Nat → Option Nat} {z o : Nat} {a : Nat → Nat}
theorem MR.tx {R : Rc} {p : Nat} {n : Int32} {f : Nat → Int32} (H : MR t R) : MR (tx t p n f) R := H.i rfl rfl rfl (fun j hj => by show (if j = 8 then f else t.2.1 j) = t.2.1 j; rw [if_neg (by omega)])
theorem MW.tx (M : MW t W) (p : Nat) (n : Int32) (f : Nat → Int32) : MW (tx t p n f) W := ⟨⟨M.c.r.tx, M.c.bn, M.c.b, M.c.un, M.c.u, M.c.dr⟩, M.sky, M.im, M.kp, M.tn, M.tp, M.s⟩
theorem r_next0 (M : MW t W) (O : W.OK) (n : Int32) (f : Nat → Int32) : ∀ (j p fuel : Nat), p + j = W.tn → j < fuel → fX3_nextLetter_0 fuel (tx t p n f) = some (if skF W.tp j p < W.tn then nI (W.tp (skF W.tp j p)) else -1, tx t (skF W.tp j p) n f)
  | 0, p, fuel, hj, hf => by
    obtain ⟨m, rfl⟩ : ∃ m, fuel = m + 1 := ⟨fuel - 1, by omega⟩
    have ht := O.tn
    have e15 : (tx t p n f).1 15 = nI W.tn := M.tn
    have e16 : (tx t p n f).1 16 = nI p := rfl
    rw [fX3_nextLetter_0, ifle p e15 e16 (by omega) (by omega), if_pos (by omega)]
    unfold fX3_nextLetter_38
    rw [ifle p e15 e16 (by omega) (by omega), if_pos (by omega)]
    show _ = some (if p < W.tn then nI (W.tp p) else -1, tx t p n f)
    rw [if_neg (by omega)]
  | j + 1, p, fuel, hj, hf => by
    obtain ⟨m, rfl⟩ : ∃ m, fuel = m + 1 := ⟨fuel - 1, by omega⟩
    have ht := O.tn
    have hc := O.tp p (by omega)
    have e15 : (tx t p n f).1 15 = nI W.tn := M.tn
    have e16 : (tx t p n f).1 16 = nI p := rfl
    have e7 : (tx t p n f).2.1 7 p = nI (W.tp p) := M.tp p (by omega)
    rw [fX3_nextLetter_0, ifle p e15 e16 (by omega) (by omega), if_neg (by omega), e16, mald_nI (by omega) (by decide), e7, ifl 32 (by omega) (by decide)]
    show _ = some (if (if W.tp p = 32 then skF W.tp j (p + 1) else p) < W.tn then nI (W.tp (if W.tp p = 32 then skF W.tp j (p + 1) else p)) else -1, tx t (if W.tp p = 32 then skF W.tp j (p + 1) else p) n f)
    by_cases g : W.tp p = 32
    · simp only [if_pos g]
      simp only [lt]
      rw [nI_1, tx_p]
      exact r_next0 M O n f j (p + 1) m (by omega) (by omega)
    · simp only [if_neg g]
      unfold fX3_nextLetter_38
      rw [ifle p e15 e16 (by omega) (by omega), if_neg (by omega), e16, mald_nI (by omega) (by decide), e7, if_pos (by omega)]
theorem r_next (M : MW t W) (O : W.OK) {p : Nat} (hp : p ≤ W.tn) (n : Int32) (f : Nat → Int32) : fX3_nextLetter (tx t p n f) = some (W.lx p, tx t (W.sk p) n f) := by
  have ht := O.tn
  exact r_next0 M O n f (W.tn - p) p 1000 (by omega) (by omega)
/-- the component with its place in the text -/
def CA (σ : Sg) (T : Nat → Nat) (ex : Nat → Option Nat) (z o : Nat) (a : Nat → Nat) (W : Wv) (p : Nat) : Prop := CW σ T ex z o a W ∧ σ o = some (obC a (nI W.C.dr) (nI W.tn) (nI p) (nI W.im) (nI W.I.dr))
theorem CA.go {p : Nat} (H : CA σ T ex z o a W p) (q : Nat) : CA (g_u σ o (obC a (nI W.C.dr) (nI W.tn) (nI q) (nI W.im) (nI W.I.dr))) T ex z o a W q ∧ Kp T σ T (g_u σ o (obC a (nI W.C.dr) (nI W.tn) (nI q) (nI W.im) (nI W.I.dr))) (fun i => i ≠ 1) := by
  have O1 : Ow T 1 σ z (g_u σ o (obC a (nI W.C.dr) (nI W.tn) (nI q) (nI W.im) (nI W.I.dr))) z := Ow.put H.1.ob.1 _
  exact ⟨⟨H.1.u_ob (W' := W) H.1.fr (O1.kp0 H.1.fr) ⟨H.1.ob.1, _, g_u_self _ _ _⟩ H.1.tp rfl rfl rfl rfl rfl rfl rfl rfl rfl rfl rfl rfl rfl rfl rfl rfl rfl rfl rfl, g_u_self _ _ _⟩, O1.kp0 H.1.fr⟩
theorem CW.ca (H : CW σ T ex z o a W) (q : Nat) : CA (g_u σ o (obC a (nI W.C.dr) (nI W.tn) (nI q) (nI W.im) (nI W.I.dr))) T ex z o a W q ∧ Kp T σ T (g_u σ o (obC a (nI W.C.dr) (nI W.tn) (nI q) (nI W.im) (nI W.I.dr))) (fun i => i ≠ 1) := by
  have O1 : Ow T 1 σ z (g_u σ o (obC a (nI W.C.dr) (nI W.tn) (nI q) (nI W.im) (nI W.I.dr))) z := Ow.put H.ob.1 _
  exact ⟨⟨H.u_ob (W' := W) H.fr (O1.kp0 H.fr) ⟨H.ob.1, _, g_u_self _ _ _⟩ H.tp rfl rfl rfl rfl rfl rfl rfl rfl rfl rfl rfl rfl rfl rfl rfl rfl rfl rfl rfl, g_u_self _ _ _⟩, O1.kp0 H.fr⟩
theorem c_here0 (O : W.OK) {zz : Nat} (c : Nat × Nat) : ∀ (j p fuel : Nat) (σ : Sg), p + j = W.tn → j < fuel → CA σ T ex z o a W p → ∃ σ', fX0_here_0 ex zz fuel o (σ, c) = some (nI (if skF W.tp j p < W.tn then W.tp (skF W.tp j p) else 0), (σ', c)) ∧ CA σ' T ex z o a W (skF W.tp j p) ∧ Kp T σ T σ' (fun i => i ≠ 1)
  | 0, p, fuel, σ, hj, hf, H => by
    obtain ⟨m, rfl⟩ : ∃ m, fuel = m + 1 := ⟨fuel - 1, by omega⟩
    have ht := O.tn
    have hob := H.2
    refine ⟨σ, ?_, H, Kp.rf _ _ _⟩
    rw [fX0_here_0, I_t hob (by decide) rfl, I_t hob (by decide) rfl, ifle p rfl rfl (by omega) (by omega), if_pos (by omega)]
    unfold fX0_here_38
    rw [I_t hob (by decide) rfl, I_t hob (by decide) rfl, ifle p rfl rfl (by omega) (by omega), if_pos (by omega)]
    show _ = some (nI (if p < W.tn then W.tp p else 0), (σ, c))
    rw [if_neg (by omega)]; rfl
  | j + 1, p, fuel, σ, hj, hf, H => by
    obtain ⟨m, rfl⟩ : ∃ m, fuel = m + 1 := ⟨fuel - 1, by omega⟩
    have ht := O.tn
    have hc := O.tp p (by omega)
    have hob := H.2
    obtain ⟨-, f, hp, hf2⟩ := H.1.tp
    have e7 := hf2 p (by omega)
    show ∃ σ', _ = some (nI (if (if W.tp p = 32 then skF W.tp j (p + 1) else p) < W.tn then W.tp (if W.tp p = 32 then skF W.tp j (p + 1) else p) else 0), (σ', c)) ∧ CA σ' T ex z o a W (if W.tp p = 32 then skF W.tp j (p + 1) else p) ∧ _
    rw [fX0_here_0, I_t hob (by decide) rfl, I_t hob (by decide) rfl, ifle p rfl rfl (by omega) (by omega), if_neg (by omega), A_t hob (by decide) rfl, I_t hob (by decide) rfl, ald_t hp (by omega) (by decide), e7, ifl 32 (by omega) (by decide)]
    by_cases g : W.tp p = 32
    · simp only [if_pos g]
      rw [I_t hob (by decide) rfl, nI_1, P_t hob (by decide) (by show 8 < 19; decide)]
      obtain ⟨H1, K1⟩ := H.go (p + 1)
      obtain ⟨σ', r1, r2, r3⟩ := c_here0 O (zz := zz) c j (p + 1) m _ (by omega) (by omega) H1
      exact ⟨σ', r1, r2, K1.tr r3⟩
    · simp only [if_neg g]
      refine ⟨σ, ?_, H, Kp.rf _ _ _⟩
      unfold fX0_here_38
      rw [I_t hob (by decide) rfl, I_t hob (by decide) rfl, ifle p rfl rfl (by omega) (by omega), if_neg (by omega), A_t hob (by decide) rfl, I_t hob (by decide) rfl, ald_t hp (by omega) (by decide), e7, if_pos (by omega)]
theorem c_here {p : Nat} (H : CA σ T ex z o a W p) (O : W.OK) (hp : p ≤ W.tn) {zz : Nat} (c : Nat × Nat) : ∃ σ', fX0_here ex zz o (σ, c) = some (nI (W.nx p), (σ', c)) ∧ CA σ' T ex z o a W (W.sk p) ∧ Kp T σ T σ' (fun i => i ≠ 1) := by
  have ht := O.tn
  exact c_here0 O c (W.tn - p) p 1000 σ (by omega) (by omega) H
/-- a fault made -/
def fltC (x : Int32) : Bool × va_E := (true, .inr (10, [.null, .null, .null, .null, .null, .int 0, .int x]))
theorem c_fltI {b zz : Nat} (h : σ b = some (true, .inr (10, [.null, .null, .null, .null, .null, .int 0, .int 0]))) (x : Int32) : fX10_init ex zz b x (σ, 0, 0) = some ((), (g_u σ b (fltC x), 0, 0)) := by
  unfold fX10_init fJ13_init_2 fJ12_init_3 fJ12_init_3_41
  rw [P_t h (by decide) (by decide), P_t (g_u_self _ _ _) (by decide) (by simp), P_t (g_u_self _ _ _) (by decide) (by simp), if_pos rfl, P_t (g_u_self _ _ _) (by decide) (by simp), P_t (g_u_self _ _ _) (by decide) (by simp), P_t (g_u_self _ _ _) (by decide) (by simp), if_pos rfl, P_t (g_u_self _ _ _) (by decide) (by simp), gb_z, gb_z, P_t (g_u_self _ _ _) (by decide) (by simp)]
  simp only [g_u_twice]
  rfl
/-- what a reader answers: a value and the place behind it, or a fault and its place -/
def PT {β : Type} (σ : Sg) (T : Nat → Nat) (ex : Nat → Option Nat) (z o : Nat) (a : Nat → Nat) (W : Wv) (r : (β × Nat) ⊕ Nat) (f : Option ((β ⊕ Nat) × St)) : Prop :=
  (∃ v p σ', r = .inl (v, p) ∧ f = some (.inl v, (σ', 0, 0)) ∧ CA σ' T ex z o a W p ∧ Kp T σ T σ' (fun i => i ≠ 1) ∧ p ≤ W.tn) ∨ (∃ q b σ' T', r = .inr q ∧ f = some (.inr b, (σ', 1, 7)) ∧ CW σ' T' ex (z + 1) o a W ∧ σ' b = some (fltC (nI q)) ∧ Kp T σ T' σ' (fun i => i ≠ 1) ∧ q ≤ W.tn)
theorem c_flt {β : Type} {p : Nat} (H : CA σ T ex z o a W p) (hp : p ≤ W.tn) : PT (β := β) σ T ex z o a W (.inr p) (cnew z 10 [.null, .null, .null, .null, .null, .int 0, .int 0] 7 (σ, 0, 0) fun a3 t4 => cgI [0] 8 t4 o fun v5 => gb (fX10_init ex (z + t4.2.1) a3 v5 (t4.1, 0, 0)) t4 fun _ t7 => some (.inr a3, t7)) := by
  obtain ⟨H1, K1⟩ := H.1.xnew 0 (fltC (nI p))
  have hoz : o ≠ z := by
    intro g
    have := H.1.fr z (Nat.le_refl _)
    rw [← g, H.1.ob.1] at this
    exact absurd this (by decide)
  refine Or.inr ⟨p, z, _, _, rfl, ?_, H1, g_u_self _ _ _, K1.sub (fun _ _ => trivial), hp⟩
  unfold cnew
  show (cgI [0] 8 (g_u σ (z + 0) _, 1, 7) o fun v5 => _) = _
  rw [Nat.add_zero, I_t ((g_u_ne _ _ hoz).trans H.2) (by decide) rfl]
  show gb (fX10_init ex _ z (nI p) (g_u σ z _, 0, 0)) _ _ = _
  rw [c_fltI (g_u_self _ _ _), g_u_twice]
  rfl
theorem c_fltN {β : Type} {p q : Nat} (H : CA σ T ex z o a W q) (hp : p ≤ W.tn) : PT (β := β) σ T ex z o a W (.inr p) (cnew z 10 [.null, .null, .null, .null, .null, .int 0, .int 0] 7 (σ, 0, 0) fun a3 t4 => gb (fX10_init ex (z + t4.2.1) a3 (nI p) (t4.1, 0, 0)) t4 fun _ t6 => some (.inr a3, t6)) := by
  obtain ⟨H1, K1⟩ := H.1.xnew 0 (fltC (nI p))
  refine Or.inr ⟨p, z, _, _, rfl, ?_, H1, g_u_self _ _ _, K1.sub (fun _ _ => trivial), hp⟩
  unfold cnew
  show gb (fX10_init ex _ (z + 0) (nI p) (g_u σ (z + 0) _, 0, 0)) _ _ = _
  rw [c_fltI (g_u_self _ _ _), g_u_twice]
  rfl
theorem PT.pre {β : Type} {σ1 : Sg} {r : (β × Nat) ⊕ Nat} {f : Option ((β ⊕ Nat) × St)} (K : Kp T σ T σ1 (fun i => i ≠ 1)) (P : PT σ1 T ex z o a W r f) : PT σ T ex z o a W r f := by
  rcases P with ⟨v, p, σ', h1, h2, h3, h4, h5⟩ | ⟨q, b, σ', T', h1, h2, h3, h4, h5, h6⟩
  · exact Or.inl ⟨v, p, σ', h1, h2, h3, K.tr h4, h5⟩
  · exact Or.inr ⟨q, b, σ', T', h1, h2, h3, h4, K.tr h5, h6⟩
end O9b
