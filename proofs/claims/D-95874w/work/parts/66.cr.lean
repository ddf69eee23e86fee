/-! THE COMPONENT's RACE in the store (printed by gen/cr.py) -/
set_option maxRecDepth 100000
section PR
variable {β : Type} {t : St} {a : Nat} {fl : Bool} {ci : Nat} {fs : List Value} {cs : List Nat} {k : Nat}
theorem cgI_at {K : Int32 → Option β} {v : Int32} (h : t.1 a = some (fl, .inr (ci, fs))) (hc : ci ∈ cs) (hv : fs[k]? = some (.int v)) : cgI cs k t a K = K v := by
  unfold cgI cgV; rw [h]; simp only [hc, if_true, hv]
theorem cgA_at {K : Nat → Option β} {v : Nat} (h : t.1 a = some (fl, .inr (ci, fs))) (hc : ci ∈ cs) (hv : fs[k]? = some (.ref v)) : cgA cs k t a K = K v := by
  unfold cgA cgV; rw [h]; simp only [hc, if_true, hv]
theorem cput_at {K : St → Option β} {v : Value} (h : t.1 a = some (true, .inr (ci, fs))) (hc : ci ∈ cs) (hk : k < fs.length) : cput cs k t a v K = K (g_u t.1 a (true, .inr (ci, fs.set k v)), t.2) := by
  unfold cput; rw [h]; simp only [hc, hk, and_self, if_true]
theorem ccast_at {F : Option β} (h : t.1 a = some (fl, .inr (ci, fs))) (hc : ci ∈ cs) : ccast cs t a F = F := by
  unfold ccast; rw [h]; simp only [hc, if_true]
theorem ccls_at {K : Nat → Option β} (h : t.1 a = some (fl, .inr (ci, fs))) : ccls t a K = K ci := by
  unfold ccls; rw [h]
theorem cald_at {K : Int32 → Option β} {j n i : Nat} {f : Nat → Int32} (h : t.1 a = some (fl, .inl (j, n, .inl f))) (hi : i < n) (hn : n ≤ 1000) : cald j t a (nI i) K = K (f i) := by
  unfold cald; rw [h]; simp only [if_true]
  rw [if_neg (nI_in hi (by omega)), nI_clamp (by omega)]
theorem cast_at {K : St → Option β} {j n i : Nat} {f : Nat → Int32} {nr : Int32 → Int32} {x : Int32} (h : t.1 a = some (true, .inl (j, n, .inl f))) (hi : i < n) (hn : n ≤ 1000) : cast_ j nr t a (nI i) x K = K (g_u t.1 a (true, .inl (j, n, .inl (upd f i (nr x)))), t.2) := by
  unfold cast_; rw [h]; simp only [if_true]
  rw [if_neg (nI_in hi (by omega)), nI_clamp (by omega)]
theorem caldA_at {K : Nat → Option β} {j n i v : Nat} {f : Nat → Option Nat} (h : t.1 a = some (fl, .inl (j, n, .inr (.inr (.inr (.inr f)))))) (hi : i < n) (hn : n ≤ 1000) (hv : f i = some v) : caldA j t a (nI i) K = K v := by
  unfold caldA; rw [h]; simp only [if_true]
  rw [if_neg (nI_in hi (by omega)), nI_clamp (by omega), hv]
theorem gb_pure {α : Type} {r : α} {k : α → St → Option (β × St)} : gb (some (r, (t.1, 0, 0))) t k = k r t := rfl
end PR
def Ad : Type := (Nat) × (Nat) × (Nat) × (Nat) × (Nat) × (Nat → Nat)
def Ad.mk (r : Nat) (d : Nat) (s : Nat) (l : Nat) (e : Nat) (ca : Nat → Nat) : Ad := (r, d, s, l, e, ca)
def Ad.r (R : Ad) : Nat := R.1
def Ad.d (R : Ad) : Nat := R.2.1
def Ad.s (R : Ad) : Nat := R.2.2.1
def Ad.l (R : Ad) : Nat := R.2.2.2.1
def Ad.e (R : Ad) : Nat := R.2.2.2.2.1
def Ad.ca (R : Ad) : Nat → Nat := R.2.2.2.2.2
theorem Ad.r_mk (r : Nat) (d : Nat) (s : Nat) (l : Nat) (e : Nat) (ca : Nat → Nat) : (Ad.mk r d s l e ca).r = r := rfl
theorem Ad.d_mk (r : Nat) (d : Nat) (s : Nat) (l : Nat) (e : Nat) (ca : Nat → Nat) : (Ad.mk r d s l e ca).d = d := rfl
theorem Ad.s_mk (r : Nat) (d : Nat) (s : Nat) (l : Nat) (e : Nat) (ca : Nat → Nat) : (Ad.mk r d s l e ca).s = s := rfl
theorem Ad.l_mk (r : Nat) (d : Nat) (s : Nat) (l : Nat) (e : Nat) (ca : Nat → Nat) : (Ad.mk r d s l e ca).l = l := rfl
theorem Ad.e_mk (r : Nat) (d : Nat) (s : Nat) (l : Nat) (e : Nat) (ca : Nat → Nat) : (Ad.mk r d s l e ca).e = e := rfl
theorem Ad.ca_mk (r : Nat) (d : Nat) (s : Nat) (l : Nat) (e : Nat) (ca : Nat → Nat) : (Ad.mk r d s l e ca).ca = ca := rfl
def ckC (R : Rc) (c : Nat) : Bool × va_E := (true, .inr (4 + R.k c, [.int (nI c), .int (nI (R.h c)), .int (Int32.ofInt (R.r c)), .int (nI (R.s c)), .int (nI (R.p c)), .int (fin (R.f c))]))
def raC (R : Rc) (A : Ad) (al : Int32) : Bool × va_E := (true, .inr (1, [.int (nI R.W), .ref A.d, .ref A.l, .int (nI R.now), .ref A.s, .int (nI R.mn), .int al, .int (nI R.he), .int (nI R.so)]))
def RR (σ : Sg) (A : Ad) (R : Rc) (al : Int32) : Prop := (σ A.r = some (raC R A al)) ∧ (∃ f, σ A.d = some (true, .inl (0, 24, .inl f)) ∧ ∀ w, w < 24 → f w = nI (R.d w)) ∧ (∃ f, σ A.s = some (true, .inl (0, 12, .inl f)) ∧ ∀ j, j < 12 → f j = nI (R.sk j)) ∧ (∃ mc, σ A.l = some (true, .inr (15, [.int mc, .ref A.e, .int (nI R.n)]))) ∧ (∃ (b : Bool) (cap : Nat) (f : Nat → Option Nat), σ A.e = some (b, .inl (4, cap, .inr (.inr (.inr (.inr f))))) ∧ R.n ≤ cap ∧ cap ≤ 300 ∧ (b = true ∨ cap = 0) ∧ ∀ c, c < R.n → f c = some (A.ca c)) ∧ (∀ c, c < R.n → σ (A.ca c) = some (ckC R c))
theorem RR.ra {σ : Sg} {A : Ad} {R : Rc} {al : Int32} (H : RR σ A R al) : σ A.r = some (raC R A al) := H.1
theorem RR.dl {σ : Sg} {A : Ad} {R : Rc} {al : Int32} (H : RR σ A R al) : ∃ f, σ A.d = some (true, .inl (0, 24, .inl f)) ∧ ∀ w, w < 24 → f w = nI (R.d w) := H.2.1
theorem RR.sk {σ : Sg} {A : Ad} {R : Rc} {al : Int32} (H : RR σ A R al) : ∃ f, σ A.s = some (true, .inl (0, 12, .inl f)) ∧ ∀ j, j < 12 → f j = nI (R.sk j) := H.2.2.1
theorem RR.li {σ : Sg} {A : Ad} {R : Rc} {al : Int32} (H : RR σ A R al) : ∃ mc, σ A.l = some (true, .inr (15, [.int mc, .ref A.e, .int (nI R.n)])) := H.2.2.2.1
theorem RR.el {σ : Sg} {A : Ad} {R : Rc} {al : Int32} (H : RR σ A R al) : ∃ (b : Bool) (cap : Nat) (f : Nat → Option Nat), σ A.e = some (b, .inl (4, cap, .inr (.inr (.inr (.inr f))))) ∧ R.n ≤ cap ∧ cap ≤ 300 ∧ (b = true ∨ cap = 0) ∧ ∀ c, c < R.n → f c = some (A.ca c) := H.2.2.2.2.1
theorem RR.ck {σ : Sg} {A : Ad} {R : Rc} {al : Int32} (H : RR σ A R al) : ∀ c, c < R.n → σ (A.ca c) = some (ckC R c) := H.2.2.2.2.2
def skyOf (R : Rc) (al : Int32) (w : Nat) : Prop := (al = -4 ∧ w = R.sk (R.now % R.mn)) ∨ (al = nI w ∧ w < 4)
def pl : List Nat := [4, 5, 6, 7, 8, 9]
theorem kin {k : Nat} (h : k ≤ 5) : 4 + k ∈ [4, 5, 6, 7, 8, 9] := by
  match k, h with
  | 0, _ => decide
  | 1, _ => decide
  | 2, _ => decide
  | 3, _ => decide
  | 4, _ => decide
  | 5, _ => decide
section CRR
variable {ex : Nat → Option Nat} {z : Nat} {t : St} {A : Ad} {R : Rc} {al : Int32}
theorem c_size (H : RR t.1 A R al) : fX1_size ex z A.r t = some (nI R.n, t) := by
  obtain ⟨mc, hl⟩ := H.li
  unfold fX1_size fJ2_size
  rw [cgA_at H.ra (by decide) rfl, ccast_at hl (by decide), cgI_at (t := (t.1, 0, 0)) hl (by decide) rfl, gb_pure]
theorem c_listsize (H : RR t.1 A R al) : fJ2_size ex z A.l t = some (nI R.n, t) := by
  obtain ⟨mc, hl⟩ := H.li
  unfold fJ2_size
  rw [cgI_at hl (by decide) rfl]
theorem c_get (H : RR t.1 A R al) (hn : R.n ≤ 9) {c : Nat} (hc : c < R.n) : fJ2_get ex z A.l (nI c) t = some (A.ca c, t) := by
  obtain ⟨mc, hl⟩ := H.li
  obtain ⟨b, cap, f, he, h1, h2, -, h3⟩ := H.el
  unfold fJ2_get fJ6_checkIndex fJ7_checkIndex fJ2_elementData
  rw [cgI_at hl (by decide) rfl, if_neg (nI_pos (by omega)), if_pos (nI_lt hc (by omega)), gb_pure, gb_pure, ccast_at hl (by decide), cgA_at (t := (t.1, 0, 0)) hl (by decide) rfl, caldA_at (t := (t.1, 0, 0)) he (by omega) (by omega) (h3 c hc), gb_pure]
theorem c_clock (H : RR t.1 A R al) (B : R.Ba) {c : Nat} (hc : c < R.n) : fX1_clock ex z A.r (nI c) t = some (A.ca c, t) := by
  obtain ⟨mc, hl⟩ := H.li
  have hk := B.k c hc
  unfold fX1_clock
  rw [cgA_at H.ra (by decide) rfl, ccast_at hl (by decide), c_get (t := (t.1, 0, 0)) H B.n hc, gb_pure, ccast_at (H.ck c hc) (kin hk)]
theorem c_hour (H : RR t.1 A R al) : fX1_hour ex z A.r t = some (nI R.now, t) := by
  unfold fX1_hour
  rw [cgI_at H.ra (by decide) rfl]
theorem c_home (H : RR t.1 A R al) (B : R.Ba) : fX1_home ex z A.r t = some (nI (R.W - 1), t) := by
  have := B.W0
  unfold fX1_home
  rw [cgI_at H.ra (by decide) rfl, nI_sub1 (by omega)]
theorem c_dial (H : RR t.1 A R al) {w : Nat} (hw : w < 24) : fX1_dial ex z A.r (nI w) t = some (nI (R.d w), t) := by
  obtain ⟨f, h1, h2⟩ := H.dl
  unfold fX1_dial
  rw [cgA_at H.ra (by decide) rfl, cald_at h1 hw (by decide), h2 w hw]
theorem c_sky (H : RR t.1 A R al) (B : R.Ba) {w : Nat} (hs : skyOf R al w) : fX1_sky ex z A.r t = some (nI w, t) := by
  obtain ⟨f, h1, h2⟩ := H.sk
  have hnow := B.now
  have hm0 := B.mn0
  have hm1 := B.mn1
  unfold fX1_sky
  rw [cgI_at H.ra (by decide) rfl]
  rcases hs with ⟨rfl, rfl⟩ | ⟨rfl, hw⟩
  · have hlt : R.now % R.mn < 12 := Nat.lt_of_lt_of_le (Nat.mod_lt _ (by omega)) hm1
    rw [if_pos rfl, cgA_at H.ra (by decide) rfl, cgI_at H.ra (by decide) rfl, cgI_at H.ra (by decide) rfl, if_neg (nI_ne0 (by omega) (by omega)), pk_rem' R.mn (by omega) (by omega) (by omega), cald_at h1 hlt (by decide), h2 _ hlt]
  · rw [if_neg (by
      intro g
      have := congrArg Int32.toInt g
      rw [nI_toInt (by omega)] at this
      have h4 : (-4 : Int32).toInt = -4 := by decide
      rw [h4] at this
      omega), cgI_at H.ra (by decide) rfl]
theorem c_truth (H : RR t.1 A R al) (B : R.Ba) : fX21_truth ex z A.r t = some (nI R.truth, t) := by
  have h1 := B.now
  unfold fX21_truth
  rw [ccast_at H.ra (by decide), c_hour (t := (t.1, 0, 0)) H, gb_pure, ilit 60, ilit 720, nI_mul, pk_rem' 720 (by omega) (by decide) (by decide)]
  rfl
theorem c_isHomeW (H : RR t.1 A R al) (B : R.Ba) {w : Nat} (hw : w < 100) : fX21_isHome ex z A.r (nI w) t = some (if w = R.W - 1 then 1 else 0, t) := by
  have := B.W1
  unfold fX21_isHome
  rw [ccast_at H.ra (by decide), c_home (t := (t.1, 0, 0)) H B, gb_pure, ife (R.W - 1) rfl (by omega) (by omega)]
  split <;> rfl
theorem c_plainShown (H : RR t.1 A R al) (B : R.Ba) {c h1 : Nat} (hc : c < R.n) : fX4_shown ex z (A.ca c) h1 t = some (nI (R.h c), t) := by
  unfold fX4_shown
  rw [cgI_at (H.ck c hc) (kin (B.k c hc)) rfl]
theorem c_sunShown (H : RR t.1 A R al) (B : R.Ba) {h0 : Nat} : fX7_shown ex z h0 A.r t = some (nI R.truth, t) := by
  unfold fX7_shown
  rw [ccast_at H.ra (by decide), c_truth (t := (t.1, 0, 0)) H B, gb_pure]
/-- what a clock shows, by the depth of its twins -/
theorem c_shown_st (H : RR t.1 A R al) (B : R.Ba) {c : Nat} (hc : c < R.n) (f8 : Nat → Nat → Nat → St → Option (Int32 × St)) (h8 : R.k c = 4 → f8 z (A.ca c) A.r t = some (nI (R.sh c), t)) : fv_X4_shown_st f8 ex z (A.ca c) A.r t = some (nI (R.sh c), t) := by
  have hk := B.k c hc
  unfold fv_X4_shown_st
  rw [ccls_at (H.ck c hc)]
  have e0 : R.k c ≠ 4 → R.sh c = if R.k c = 3 then R.truth else R.h c := by
    intro h
    cases c with
    | zero => rfl
    | succ c =>
      show (if R.k (c + 1) = 4 then _ else _) = _
      rw [if_neg h]
  rcases (show R.k c = 0 ∨ R.k c = 1 ∨ R.k c = 2 ∨ R.k c = 3 ∨ R.k c = 4 ∨ R.k c = 5 by omega) with h | h | h | h | h | h
  · rw [e0 (by omega), h, if_pos rfl, c_plainShown H B hc]; rfl
  · rw [e0 (by omega), h, if_neg (by decide), if_pos rfl, c_plainShown H B hc]; rfl
  · rw [e0 (by omega), h, if_neg (by decide), if_neg (by decide), if_pos rfl, c_plainShown H B hc]; rfl
  · rw [e0 (by omega), h, if_neg (by decide), if_neg (by decide), if_neg (by decide), if_pos rfl, c_sunShown H B]; rfl
  · rw [h, if_neg (by decide), if_neg (by decide), if_neg (by decide), if_neg (by decide), if_pos rfl]; exact h8 h
  · rw [e0 (by omega), h, if_neg (by decide), if_neg (by decide), if_neg (by decide), if_neg (by decide), if_neg (by decide), if_pos rfl, c_plainShown H B hc]; rfl
end CRR
