/-! the component's race: what is written -/
set_option maxRecDepth 100000
theorem g_u_twice (σ : Sg) (a : Nat) (x y : Bool × va_E) : g_u (g_u σ a x) a y = g_u σ a y := by
  funext q; unfold g_u; split <;> rfl
theorem nI_inj {a b : Nat} (ha : a < 2 ^ 31) (hb : b < 2 ^ 31) (h : nI a = nI b) : a = b := (nI_eq ha hb).mp h
/-- the addresses of a race -/
def FP (A : Ad) (n q : Nat) : Prop := q = A.r ∨ q = A.d ∨ q = A.s ∨ q = A.l ∨ q = A.e ∨ ∃ c, c < n ∧ q = A.ca c
section CR3
variable {σ σ' : Sg} {A : Ad} {R R' : Rc} {al al' : Int32}
theorem RR.ca_r (H : RR σ A R al) {c : Nat} (hc : c < R.n) : A.ca c ≠ A.r := by
  intro h; have h1 := H.ck c hc; rw [h, H.ra] at h1; simp [raC, ckC] at h1 <;> omega
theorem RR.ca_d (H : RR σ A R al) {c : Nat} (hc : c < R.n) : A.ca c ≠ A.d := by
  intro h; obtain ⟨f, g, -⟩ := H.dl; have h1 := H.ck c hc; rw [h, g] at h1; simp [ckC] at h1
theorem RR.ca_s (H : RR σ A R al) {c : Nat} (hc : c < R.n) : A.ca c ≠ A.s := by
  intro h; obtain ⟨f, g, -⟩ := H.sk; have h1 := H.ck c hc; rw [h, g] at h1; simp [ckC] at h1
theorem RR.ca_l (H : RR σ A R al) (B : R.Ba) {c : Nat} (hc : c < R.n) : A.ca c ≠ A.l := by
  have hk := B.k c hc
  intro h; obtain ⟨mc, g⟩ := H.li; have h1 := H.ck c hc; rw [h, g] at h1; simp [ckC] at h1 <;> omega
theorem RR.ca_e (H : RR σ A R al) {c : Nat} (hc : c < R.n) : A.ca c ≠ A.e := by
  intro h; obtain ⟨b, cap, f, g, -⟩ := H.el; have h1 := H.ck c hc; rw [h, g] at h1; simp [ckC] at h1
theorem RR.ca_ca (H : RR σ A R al) (hn : R.n ≤ 9) {c i : Nat} (hc : c < R.n) (hi : i < R.n) (hne : i ≠ c) : A.ca i ≠ A.ca c := by
  intro h; have h1 := H.ck c hc; rw [← h, H.ck i hi] at h1
  simp only [ckC, Option.some.injEq, Prod.mk.injEq, Sum.inr.injEq, List.cons.injEq, Value.int.injEq, true_and] at h1
  exact hne (nI_inj (by omega) (by omega) h1.2.1)
theorem RR.r_d (H : RR σ A R al) : A.r ≠ A.d := by
  intro h; obtain ⟨f, g, -⟩ := H.dl; have h1 := H.ra; rw [h, g] at h1; simp [raC] at h1
theorem RR.r_s (H : RR σ A R al) : A.r ≠ A.s := by
  intro h; obtain ⟨f, g, -⟩ := H.sk; have h1 := H.ra; rw [h, g] at h1; simp [raC] at h1
theorem RR.r_l (H : RR σ A R al) : A.r ≠ A.l := by
  intro h; obtain ⟨mc, g⟩ := H.li; have h1 := H.ra; rw [h, g] at h1; simp [raC] at h1
theorem RR.r_e (H : RR σ A R al) : A.r ≠ A.e := by
  intro h; obtain ⟨b, cap, f, g, -⟩ := H.el; have h1 := H.ra; rw [h, g] at h1; simp [raC] at h1
theorem RR.d_s (H : RR σ A R al) : A.d ≠ A.s := by
  intro h; obtain ⟨f, g, -⟩ := H.dl; obtain ⟨f2, g2, -⟩ := H.sk; rw [h, g2] at g; simp at g
theorem RR.d_l (H : RR σ A R al) : A.d ≠ A.l := by
  intro h; obtain ⟨f, g, -⟩ := H.dl; obtain ⟨mc, g2⟩ := H.li; rw [h, g2] at g; simp at g
theorem RR.d_e (H : RR σ A R al) : A.d ≠ A.e := by
  intro h; obtain ⟨f, g, -⟩ := H.dl; obtain ⟨b, cap, f2, g2, -⟩ := H.el; rw [h, g2] at g; simp at g
theorem RR.s_l (H : RR σ A R al) : A.s ≠ A.l := by
  intro h; obtain ⟨f, g, -⟩ := H.sk; obtain ⟨mc, g2⟩ := H.li; rw [h, g2] at g; simp at g
theorem RR.s_e (H : RR σ A R al) : A.s ≠ A.e := by
  intro h; obtain ⟨f, g, -⟩ := H.sk; obtain ⟨b, cap, f2, g2, -⟩ := H.el; rw [h, g2] at g; simp at g
theorem RR.l_e (H : RR σ A R al) : A.l ≠ A.e := by
  intro h; obtain ⟨b, cap, f, g, -⟩ := H.el; obtain ⟨mc, g2⟩ := H.li; rw [h, g] at g2; simp at g2
/-- the store is the same at a race's addresses -/
theorem RR.keep (H : RR σ A R al) (h : ∀ q, FP A R.n q → σ' q = σ q) : RR σ' A R al := by
  refine ⟨?_, ?_, ?_, ?_, ?_, ?_⟩
  · rw [h _ (Or.inl rfl)]; exact H.ra
  · rw [h _ (Or.inr (Or.inl rfl))]; exact H.dl
  · rw [h _ (Or.inr (Or.inr (Or.inl rfl)))]; exact H.sk
  · rw [h _ (Or.inr (Or.inr (Or.inr (Or.inl rfl))))]; exact H.li
  · rw [h _ (Or.inr (Or.inr (Or.inr (Or.inr (Or.inl rfl)))))]; exact H.el
  · intro c hc
    rw [h _ (Or.inr (Or.inr (Or.inr (Or.inr (Or.inr ⟨c, hc, rfl⟩)))))]; exact H.ck c hc
/-- a clock is written -/
theorem RR.putC (H : RR σ A R al) (B : R.Ba) {c : Nat} (hc : c < R.n) (e1 : R'.n = R.n) (er : raC R' A al = raC R A al) (ed : R'.d = R.d) (es : R'.sk = R.sk) (hk : ∀ i, i < R.n → i ≠ c → ckC R' i = ckC R i) {x : Bool × va_E} (hx : x = ckC R' c) : RR (g_u σ (A.ca c) x) A R' al := by
  subst hx
  refine ⟨?_, ?_, ?_, ?_, ?_, ?_⟩
  · rw [g_u_ne _ _ (H.ca_r hc).symm, er]; exact H.ra
  · rw [g_u_ne _ _ (H.ca_d hc).symm, ed]; exact H.dl
  · rw [g_u_ne _ _ (H.ca_s hc).symm, es]; exact H.sk
  · rw [g_u_ne _ _ (H.ca_l B hc).symm, e1]; exact H.li
  · rw [g_u_ne _ _ (H.ca_e hc).symm, e1]; exact H.el
  · intro i hi
    rw [e1] at hi
    by_cases hq : i = c
    · subst hq; rw [g_u_self]
    · rw [g_u_ne _ _ (H.ca_ca B.n hc hi hq), hk i hi hq]; exact H.ck i hi
/-- the race's own numbers are written -/
theorem RR.putR (H : RR σ A R al) (e1 : R'.n = R.n) (ed : R'.d = R.d) (es : R'.sk = R.sk) (hk : ∀ i, i < R.n → ckC R' i = ckC R i) {x : Bool × va_E} (hx : x = raC R' A al') : RR (g_u σ A.r x) A R' al' := by
  subst hx
  refine ⟨?_, ?_, ?_, ?_, ?_, ?_⟩
  · rw [g_u_self]
  · rw [g_u_ne _ _ H.r_d.symm, ed]; exact H.dl
  · rw [g_u_ne _ _ H.r_s.symm, es]; exact H.sk
  · rw [g_u_ne _ _ H.r_l.symm, e1]; exact H.li
  · rw [g_u_ne _ _ H.r_e.symm, e1]; exact H.el
  · intro i hi
    rw [e1] at hi
    rw [g_u_ne _ _ (H.ca_r hi), hk i hi]; exact H.ck i hi
/-- the dials are written -/
theorem RR.putD (H : RR σ A R al) (e1 : R'.n = R.n) (er : raC R' A al = raC R A al) (es : R'.sk = R.sk) (hk : ∀ i, i < R.n → ckC R' i = ckC R i) {f : Nat → Int32} (hf : ∀ w, w < 24 → f w = nI (R'.d w)) : RR (g_u σ A.d (true, .inl (0, 24, .inl f))) A R' al := by
  refine ⟨?_, ?_, ?_, ?_, ?_, ?_⟩
  · rw [g_u_ne _ _ H.r_d, er]; exact H.ra
  · rw [g_u_self]; exact ⟨f, rfl, hf⟩
  · rw [g_u_ne _ _ H.d_s.symm, es]; exact H.sk
  · rw [g_u_ne _ _ H.d_l.symm, e1]; exact H.li
  · rw [g_u_ne _ _ H.d_e.symm, e1]; exact H.el
  · intro i hi
    rw [e1] at hi
    rw [g_u_ne _ _ (H.ca_d hi), hk i hi]; exact H.ck i hi
end CR3
theorem nI_xor (a b : Nat) : nI a ^^^ nI b = nI (a ^^^ b) := by
  apply Int32.toBitVec_inj.1
  show BitVec.ofNat 32 a ^^^ BitVec.ofNat 32 b = BitVec.ofNat 32 (a ^^^ b)
  apply BitVec.eq_of_getLsbD_eq
  intro i hi
  simp [hi]
section CR4
variable {ex : Nat → Option Nat} {z : Nat} {t : St} {A : Ad} {R : Rc} {al : Int32}
theorem c_floorMod {m : Nat} (hm : m < 100000) : fJ4_floorMod ex z (nI m) 720 t = some (nI (m % 720), t) := by
  unfold fJ4_floorMod lt
  have h1 : m ^^^ 720 < 2 ^ 20 := Nat.xor_lt_two_pow (by omega) (by decide)
  rw [if_neg (by decide), ilit 720, pk_rem' 720 (by omega) (by decide) (by decide), nI_xor]
  show (if (0 : Int32) ≤ nI (m ^^^ 720) then _ else _) = _
  rw [if_pos (nI_pos' (by omega))]
theorem c_runs (H : RR t.1 A R al) (B : R.Ba) {c : Nat} (hc : c < R.n) : ∃ σ', fX4_runs ex z (A.ca c) t = some ((), (σ', t.2)) ∧ RR σ' A (R.run1 c) al ∧ ∀ q, q ≠ A.ca c → σ' q = t.1 q := by
  have hk := B.k c hc
  have hs := B.s c hc
  have hh := B.h c hc
  have hr0 := B.r0 c hc
  have hr1 := B.r1 c hc
  unfold fX4_runs Rc.run1
  rw [ccast_at (H.ck c hc) (kin hk), c_isRunning (t := (t.1, 0, 0)) H B hc, gb_pure]
  by_cases h : R.k c ≠ 2 ∧ R.k c ≠ 3 ∧ 0 < R.s c
  · rw [if_pos h, if_neg (by decide), if_pos h, cgI_at (H.ck c hc) (kin hk) rfl, cgI_at (H.ck c hc) (kin hk) rfl]
    have e1 : (nI (R.h c) + 60) + Int32.ofInt (R.r c) = nI ((R.h c : Int) + 60 + R.r c).toNat := by
      rw [nI_ofInt, nI_ofInt, show (60 : Int32) = Int32.ofInt 60 from rfl, ← Int32.ofInt_add, ← Int32.ofInt_add]
      congr 1
      omega
    have e2 : ((R.h c : Int) + 60 + R.r c).toNat % 720 = (((R.h c : Int) + 60 + R.r c) % 720).toNat := by omega
    rw [e1, c_floorMod (by omega), gb_pure, cput_at (H.ck c hc) (kin hk) (by show 1 < 6; decide), cgI_at (g_u_self _ _ _) (kin hk) rfl, cput_at (g_u_self _ _ _) (kin hk) (by show 3 < 6; decide), g_u_twice, e2, nI_sub1 (by omega)]
    refine ⟨_, rfl, H.putC B hc (by rfl) (by rfl) (by rfl) (by rfl) (fun i hi hne => ?_) ?_, fun q hq => g_u_ne _ _ hq⟩
    · simp only [ckC, Rc.k_mk, Rc.h_mk, Rc.r_mk, Rc.s_mk, Rc.p_mk, Rc.f_mk, up_ne _ _ hne]
    · simp only [ckC, Rc.k_mk, Rc.h_mk, Rc.r_mk, Rc.s_mk, Rc.p_mk, Rc.f_mk, up_self]
      rfl
  · rw [if_neg h, if_pos rfl, if_neg h]
    exact ⟨t.1, rfl, H, fun q _ => rfl⟩
end CR4
