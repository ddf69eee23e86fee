/-! what is tried: the reference keeps aside and brings back, the component has a race of its own -/
set_option maxRecDepth 100000
/-- the weather: by the row, or one in all hours -/
def Rc.wea (R : Rc) (al : Option Nat) : Nat := match al with
  | none => R.sky
  | some w => w
def alI (al : Option Nat) : Int32 := match al with
  | none => -4
  | some w => nI w
def alM (al : Option Nat) : Int32 := match al with
  | none => -1
  | some w => nI w
def alOK (al : Option Nat) : Prop := ∀ w, al = some w → w < 4
theorem alOK.no : alOK none := fun w h => by cases h
theorem alOK.of {w : Nat} (h : w < 4) : alOK (some w) := fun v e => by cases e; exact h
theorem Rc.wea_lt {R : Rc} (B : R.Ba) {al : Option Nat} (h : alOK al) : R.wea al < 4 := by
  cases al with
  | none => exact Rc.sky_lt B
  | some w => exact h w rfl
theorem Rc.wea_of (R : Rc) {al : Option Nat} (h : alOK al) : skyOf R (alI al) (R.wea al) := by
  cases al with
  | none => exact R.sky_of
  | some w => exact Or.inr ⟨rfl, h w rfl⟩
/-- so many hours -/
def Rc.gos (R : Rc) (al : Option Nat) : Nat → Rc
  | 0 => R
  | n + 1 => (Rc.gos R al n).go ((Rc.gos R al n).wea al)
theorem Rc.gos_keep (R : Rc) (al : Option Nat) : ∀ n, (R.gos al n).n = R.n ∧ (R.gos al n).W = R.W ∧ (R.gos al n).k = R.k ∧ (R.gos al n).r = R.r ∧ (R.gos al n).now = R.now + n ∧ (R.gos al n).sk = R.sk ∧ (R.gos al n).mn = R.mn
  | 0 => ⟨rfl, rfl, rfl, rfl, rfl, rfl, rfl⟩
  | n + 1 => by
    obtain ⟨h1, h2, h3, h4, h5, h6, h7⟩ := Rc.gos_keep R al n
    obtain ⟨g1, g2, g3, g4, g5, g6, g7, -⟩ := Rc.go_keep (R.gos al n) ((R.gos al n).wea al)
    exact ⟨g1.trans h1, g2.trans h2, g3.trans h3, g4.trans h4, by rw [show (R.gos al (n + 1)).now = (R.gos al n).now + 1 from g5, h5]; omega, g6.trans h6, g7.trans h7⟩
theorem Rc.gos_OK {R : Rc} (O : R.OK) (al : Option Nat) : ∀ n, R.now + n < 100000 → (R.gos al n).OK
  | 0, _ => O
  | n + 1, h => Rc.go_OK (Rc.gos_OK O al n (by omega)) (by rw [(Rc.gos_keep R al n).2.2.2.2.1]; omega) _
/-- the reference is as it was, but for what is scratch -/
def Sb (t t' : MS) : Prop := t'.1 = t.1 ∧ (∀ j, j ≠ 0 → j ≠ 8 → j ≠ 9 → j ≠ 10 → t'.2.1 j = t.2.1 j) ∧ t'.2.2 0 = t.2.2 0 ∧ ∀ i, i < 63 → t'.2.1 0 i = t.2.1 0 i
theorem Sb.rf (t : MS) : Sb t t := ⟨rfl, fun _ _ _ _ _ => rfl, rfl, fun _ _ => rfl⟩
theorem Sb.tr {t u v : MS} (h : Sb t u) (g : Sb u v) : Sb t v := ⟨g.1.trans h.1, fun j a b c d => (g.2.1 j a b c d).trans (h.2.1 j a b c d), g.2.2.1.trans h.2.2.1, fun i hi => (g.2.2.2 i hi).trans (h.2.2.2 i hi)⟩
theorem MR.sb {t t' : MS} {R : Rc} (M : MR t R) (h : Sb t t') (hn : R.n ≤ 9) : MR t' R := by
  obtain ⟨h1, h2, h3, h4⟩ := h
  refine ⟨⟨?_, ?_, ?_, ?_, ?_, ?_, ?_, ?_, ?_, ?_, ?_, ?_, ?_⟩, ?_⟩
  · rw [h1]; exact M.1.n
  · rw [h1]; exact M.1.W
  · rw [h1]; exact M.1.mn
  · intro w hw; rw [h4 w (by omega)]; exact M.1.d w hw
  · intro c hc; rw [h4 _ (by omega)]; exact M.1.h c hc
  · intro c hc; rw [h4 _ (by omega)]; exact M.1.s c hc
  · intro c hc; rw [h4 _ (by omega)]; exact M.1.p c hc
  · rw [h4 _ (by omega)]; exact M.1.now
  · rw [h4 _ (by omega)]; exact M.1.he
  · rw [h4 _ (by omega)]; exact M.1.so
  · rw [h2 1 (by decide) (by decide) (by decide) (by decide)]; exact M.1.k
  · rw [h2 2 (by decide) (by decide) (by decide) (by decide)]; exact M.1.r
  · rw [h2 3 (by decide) (by decide) (by decide) (by decide)]; exact M.1.sk
  · intro c hc; rw [h4 _ (by omega)]; exact M.2 c hc
theorem MW.sb {t t' : MS} {W : Wv} (M : MW t W) (h : Sb t t') (hn : W.C.R.n ≤ 9) : MW t' W := by
  have hr := M.c.r.sb h hn
  obtain ⟨h1, h2, h3, h4⟩ := h
  refine ⟨⟨hr, ?_, ?_, ?_, ?_, ?_⟩, ?_, ?_, ?_, ?_, ?_, ?_⟩
  · rw [h1]; exact M.c.bn
  · rw [h2 4 (by decide) (by decide) (by decide) (by decide), h2 5 (by decide) (by decide) (by decide) (by decide)]; exact M.c.b
  · rw [h1]; exact M.c.un
  · rw [h2 6 (by decide) (by decide) (by decide) (by decide)]; exact M.c.u
  · rw [h1]; exact M.c.dr
  · rw [h1]; exact M.sky
  · rw [h1]; exact M.im
  · rw [h2 11 (by decide) (by decide) (by decide) (by decide)]; exact M.kp
  · rw [h1]; exact M.tn
  · rw [h2 7 (by decide) (by decide) (by decide) (by decide)]; exact M.tp
  · rw [h2 12 (by decide) (by decide) (by decide) (by decide), h2 13 (by decide) (by decide) (by decide) (by decide), h3]; exact M.s
/-- the reference while it tries: t0 is what is kept aside -/
def MT (t0 t : MS) (Q : Rc) : Prop := MR t Q ∧ t.1 = t0.1 ∧ (∀ j, j ≠ 0 → j ≠ 9 → t.2.1 j = t0.2.1 j) ∧ t.2.2 = t0.2.2 ∧ ∀ i, i < 63 → t.2.1 9 i = t0.2.1 0 i
theorem MT.sm {t0 t t' : MS} {Q Q' : Rc} (H : MT t0 t Q) (S : Sm t t') (hr : MR t' Q') : MT t0 t' Q' := ⟨hr, S.1.trans H.2.1, fun j h0 h9 => (S.2.1 j h0).trans (H.2.2.1 j h0 h9), S.2.2.trans H.2.2.2.1, fun i hi => by rw [S.2.1 9 (by decide)]; exact H.2.2.2.2 i hi⟩
theorem m_ka2 : ∀ (j k fuel : Nat) (t : MS), k + j = 63 → j < fuel → ∃ t', fX3_keepAside_2 fuel (nI k) t = some ((), t') ∧ t'.1 = t.1 ∧ (∀ i, i ≠ 9 → t'.2.1 i = t.2.1 i) ∧ t'.2.2 = t.2.2 ∧ ∀ i, i < 63 → t'.2.1 9 i = if k ≤ i then t.2.1 0 i else t.2.1 9 i
  | 0, k, fuel, t, hj, hf => by
    obtain ⟨m, rfl⟩ : ∃ m, fuel = m + 1 := ⟨fuel - 1, by omega⟩
    obtain rfl : k = 63 := by omega
    rw [fX3_keepAside_2, ifler 63 (by decide) (by decide), if_pos (Nat.le_refl _)]
    exact ⟨t, rfl, rfl, fun _ _ => rfl, rfl, fun i hi => by rw [if_neg (by omega)]⟩
  | j + 1, k, fuel, t, hj, hf => by
    obtain ⟨m, rfl⟩ : ∃ m, fuel = m + 1 := ⟨fuel - 1, by omega⟩
    rw [fX3_keepAside_2, ifler 63 (by decide) (by omega), if_neg (by omega), mald_nI (by omega) (by decide), mast_nI (by omega) (by decide), nI_1]
    obtain ⟨t', q1, q2, q3, q4, q5⟩ := m_ka2 j (k + 1) m (setA t 9 k (t.2.1 0 k)) (by omega) (by omega)
    refine ⟨t', q1, q2, fun i hi => (q3 i hi).trans (setA_other t _ _ hi), q4, fun i hi => ?_⟩
    rw [q5 i hi, setA_other t _ _ (by decide), setA_same]
    by_cases h1 : k + 1 ≤ i
    · rw [if_pos h1, if_pos (by omega)]
    · rw [if_neg h1]
      by_cases h2 : i = k
      · subst h2; rw [if_pos (Nat.le_refl _), upd_at]
      · rw [if_neg (by omega), upd_no _ _ h2]
theorem m_bb2 : ∀ (j k fuel : Nat) (t : MS), k + j = 63 → j < fuel → ∃ t', fX3_bringBack_2 fuel (nI k) t = some ((), t') ∧ t'.1 = t.1 ∧ (∀ i, i ≠ 0 → t'.2.1 i = t.2.1 i) ∧ t'.2.2 = t.2.2 ∧ ∀ i, i < 63 → t'.2.1 0 i = if k ≤ i then t.2.1 9 i else t.2.1 0 i
  | 0, k, fuel, t, hj, hf => by
    obtain ⟨m, rfl⟩ : ∃ m, fuel = m + 1 := ⟨fuel - 1, by omega⟩
    obtain rfl : k = 63 := by omega
    rw [fX3_bringBack_2, ifler 63 (by decide) (by decide), if_pos (Nat.le_refl _)]
    exact ⟨t, rfl, rfl, fun _ _ => rfl, rfl, fun i hi => by rw [if_neg (by omega)]⟩
  | j + 1, k, fuel, t, hj, hf => by
    obtain ⟨m, rfl⟩ : ∃ m, fuel = m + 1 := ⟨fuel - 1, by omega⟩
    rw [fX3_bringBack_2, ifler 63 (by decide) (by omega), if_neg (by omega), mald_nI (by omega) (by decide), mast_nI (by omega) (by decide), nI_1]
    obtain ⟨t', q1, q2, q3, q4, q5⟩ := m_bb2 j (k + 1) m (setA t 0 k (t.2.1 9 k)) (by omega) (by omega)
    refine ⟨t', q1, q2, fun i hi => (q3 i hi).trans (setA_other t _ _ hi), q4, fun i hi => ?_⟩
    rw [q5 i hi, setA_other t _ _ (by decide), setA_same]
    by_cases h1 : k + 1 ≤ i
    · rw [if_pos h1, if_pos (by omega)]
    · rw [if_neg h1]
      by_cases h2 : i = k
      · subst h2; rw [if_pos (Nat.le_refl _), upd_at]
      · rw [if_neg (by omega), upd_no _ _ h2]
theorem m_keepAside {t : MS} {R : Rc} (H : MR t R) : ∃ t', fX3_keepAside t = some ((), t') ∧ MT t t' R := by
  obtain ⟨t', q1, q2, q3, q4, q5⟩ := m_ka2 63 0 1000 t (by omega) (by omega)
  exact ⟨t', q1, H.i (by rw [q2]) (by rw [q2]) (by rw [q2]) (fun j hj => q3 j (by omega)), q2, fun j _ h9 => q3 j h9, q4, fun i hi => by rw [q5 i hi, if_pos (Nat.zero_le _)]⟩
theorem m_bringBack {t0 t : MS} {Q : Rc} (H : MT t0 t Q) : ∃ t', fX3_bringBack t = some ((), t') ∧ Sb t0 t' ∧ t'.2.1 10 = t0.2.1 10 := by
  obtain ⟨t', q1, q2, q3, q4, q5⟩ := m_bb2 63 0 1000 t (by omega) (by omega)
  exact ⟨t', q1, ⟨q2.trans H.2.1, fun j a _ c _ => (q3 j a).trans (H.2.2.1 j a c), by rw [q4, H.2.2.2.1], fun i hi => by rw [q5 i hi, if_pos (Nat.zero_le _)]; exact H.2.2.2.2 i hi⟩, (q3 10 (by decide)).trans (H.2.2.1 10 (by decide) (by decide))⟩
theorem m_wea {t : MS} {R : Rc} {al : Option Nat} (H : MRb t R) (B : R.Ba) (hal : alOK al) (h7 : t.1 7 = alM al) : fX3_skyNow t = some (nI (R.wea al), t) := by
  cases al with
  | none => exact m_skyNow H B h7
  | some w =>
    have hw := hal w rfl
    have e : alM (some w) = nI w := rfl
    unfold fX3_skyNow
    rw [h7, e, if_neg (nI_pos (by omega))]
    rfl
theorem m_gh2 {t0 : MS} {Q : Rc} {al : Option Nat} (hal : alOK al) (h7 : t0.1 7 = alM al) (O : Q.OK) {n : Nat} (hn : n ≤ 900) (hnow : Q.now + n < 100000) : ∀ (j i fuel : Nat) (t : MS), i + j = n → j < fuel → MT t0 t (Q.gos al i) → ∃ t', fX3_goHours_2 fuel (nI n) (nI i) t = some ((), t') ∧ MT t0 t' (Q.gos al n)
  | 0, i, fuel, t, hj, hf, H => by
    obtain ⟨m, rfl⟩ : ∃ m, fuel = m + 1 := ⟨fuel - 1, by omega⟩
    obtain rfl : i = n := by omega
    rw [fX3_goHours_2, if_pos (nI_le (Nat.le_refl _) (by omega))]
    exact ⟨t, rfl, H⟩
  | j + 1, i, fuel, t, hj, hf, H => by
    obtain ⟨m, rfl⟩ : ∃ m, fuel = m + 1 := ⟨fuel - 1, by omega⟩
    have Oi := Rc.gos_OK O al i (by omega)
    have ki := Rc.gos_keep Q al i
    rw [fX3_goHours_2, if_neg (nI_ge (by omega) (by omega)), m_wea H.1.1 Oi.b hal (by rw [H.2.1]; exact h7), gm_some]
    obtain ⟨t1, q1, q2, q3⟩ := m_goOn H.1 Oi (by rw [ki.2.2.2.2.1]; omega) (Rc.wea_lt Oi.b hal)
    rw [q1, gm_some, nI_1]
    exact m_gh2 hal h7 O hn hnow j (i + 1) m t1 (by omega) (by omega) (H.sm q3 q2)
theorem m_goHours {t0 t : MS} {Q : Rc} {al : Option Nat} (H : MT t0 t Q) (hal : alOK al) (h7 : t0.1 7 = alM al) (O : Q.OK) {n : Nat} (hn : n ≤ 900) (hnow : Q.now + n < 100000) : ∃ t', fX3_goHours (nI n) t = some ((), t') ∧ MT t0 t' (Q.gos al n) :=
  m_gh2 hal h7 O hn hnow n 0 1000 t (by omega) (by omega) H
def Rc.wnd (R : Rc) (c n : Nat) : Rc := R.s_s (up R.s c (if R.s c + n ≤ 99 then R.s c + n else 99))
def Rc.trn (R : Rc) (c n : Nat) : Rc := R.s_h (up R.h c ((R.h c + n) % 720))
theorem Rc.OK.c_s {R : Rc} (O : R.OK) {x : Nat → Nat} (h : ∀ c, c < R.n → x c ≤ 99) : (R.s_s x).OK := by
  have B := O.b
  exact ⟨⟨B.n, B.W0, B.W1, B.d, B.k, B.h, B.r0, B.r1, h, B.p, B.now, B.sk, B.mn0, B.mn1⟩, O.f, O.f1, O.he, O.so⟩
theorem Rc.OK.c_h {R : Rc} (O : R.OK) {x : Nat → Nat} (h : ∀ c, c < R.n → x c < 720) : (R.s_h x).OK := by
  have B := O.b
  exact ⟨⟨B.n, B.W0, B.W1, B.d, B.k, h, B.r0, B.r1, B.s, B.p, B.now, B.sk, B.mn0, B.mn1⟩, O.f, O.f1, O.he, O.so⟩
theorem Rc.OK.c_r {R : Rc} (O : R.OK) {x : Nat → Int} (h : ∀ c, c < R.n → -30 ≤ x c ∧ x c ≤ 30) : (R.s_r x).OK := by
  have B := O.b
  exact ⟨⟨B.n, B.W0, B.W1, B.d, B.k, B.h, fun c hc => (h c hc).1, fun c hc => (h c hc).2, B.s, B.p, B.now, B.sk, B.mn0, B.mn1⟩, O.f, O.f1, O.he, O.so⟩
theorem Rc.OK.c_d {R : Rc} (O : R.OK) {x : Nat → Nat} (h : ∀ w, w < 24 → x w ≤ 12) : (R.s_d x).OK := by
  have B := O.b
  exact ⟨⟨B.n, B.W0, B.W1, h, B.k, B.h, B.r0, B.r1, B.s, B.p, B.now, B.sk, B.mn0, B.mn1⟩, O.f, O.f1, O.he, O.so⟩
theorem Rc.wnd_OK {R : Rc} (O : R.OK) (c n : Nat) : (R.wnd c n).OK := O.c_s (fun i hi => by
  unfold up; split
  · split <;> omega
  · exact O.b.s i hi)
theorem Rc.trn_OK {R : Rc} (O : R.OK) (c n : Nat) : (R.trn c n).OK := O.c_h (fun i hi => by
  unfold up; split
  · omega
  · exact O.b.h i hi)
section M85
variable {t : MS} {R : Rc}
theorem MR.s1 {c v : Nat} (H : MR t R) (hn : R.n ≤ 9) (hc : c < R.n) : MR (setA t 0 (33 + c) (nI v)) (R.s_s (up R.s c v)) := by
  refine ⟨H.1.put rfl rfl rfl rfl rfl rfl ?_ ?_ ?_ ?_ ?_ ?_ ?_, ?_⟩
  · intro w hw; rw [upd_no _ _ (by omega)]; exact H.1.d w hw
  · intro i hi; rw [upd_no _ _ (by omega)]; exact H.1.h i hi
  · intro i hi
    rw [Rc.s_s_s]
    by_cases hq : i = c
    · subst hq; rw [upd_at, up_self]
    · rw [upd_no _ _ (by omega), up_ne _ _ hq]; exact H.1.s i hi
  · intro i hi; rw [upd_no _ _ (by omega)]; exact H.1.p i hi
  · rw [upd_no _ _ (by omega)]; exact H.1.now
  · rw [upd_no _ _ (by omega)]; exact H.1.he
  · rw [upd_no _ _ (by omega)]; exact H.1.so
  · intro i hi; have hi' : i < R.n := hi; rw [setA_same, upd_no _ _ (by omega)]; exact H.2 i hi
theorem MR.h1 {c v : Nat} (H : MR t R) (hn : R.n ≤ 9) (hc : c < R.n) : MR (setA t 0 (24 + c) (nI v)) (R.s_h (up R.h c v)) := by
  refine ⟨H.1.put rfl rfl rfl rfl rfl rfl ?_ ?_ ?_ ?_ ?_ ?_ ?_, ?_⟩
  · intro w hw; rw [upd_no _ _ (by omega)]; exact H.1.d w hw
  · intro i hi
    rw [Rc.s_h_h]
    by_cases hq : i = c
    · subst hq; rw [upd_at, up_self]
    · rw [upd_no _ _ (by omega), up_ne _ _ hq]; exact H.1.h i hi
  · intro i hi; rw [upd_no _ _ (by omega)]; exact H.1.s i hi
  · intro i hi; rw [upd_no _ _ (by omega)]; exact H.1.p i hi
  · rw [upd_no _ _ (by omega)]; exact H.1.now
  · rw [upd_no _ _ (by omega)]; exact H.1.he
  · rw [upd_no _ _ (by omega)]; exact H.1.so
  · intro i hi; have hi' : i < R.n := hi; rw [setA_same, upd_no _ _ (by omega)]; exact H.2 i hi
theorem m_addSpring (H : MR t R) (B : R.Ba) {c n : Nat} (hc : c < R.n) (hn : n ≤ 1000) : ∃ t', fX3_addSpring (nI c) (nI n) t = some ((), t') ∧ MR t' (R.wnd c n) ∧ Sm t t' := by
  have h9 := B.n
  have hs := B.s c hc
  unfold fX3_addSpring Rc.wnd
  rw [ilit 33, nI_add, mald_nI (by omega) (by decide), H.1.s c hc, nI_add, iflel 99 (by omega) (by decide)]
  by_cases h : R.s c + n ≤ 99
  · rw [if_pos h, if_pos h, mald_nI (by omega) (by decide), H.1.s c hc, nI_add, mast_nI (by omega) (by decide)]
    exact ⟨_, rfl, H.s1 h9 hc, Sm.set _ _ _⟩
  · rw [if_neg h, if_neg h, mast_nI (by omega) (by decide)]
    exact ⟨_, rfl, H.s1 (v := 99) h9 hc, Sm.set _ _ _⟩
theorem m_addHands (H : MR t R) (B : R.Ba) {c n : Nat} (hc : c < R.n) (hn : n ≤ 100000) : ∃ t', fX3_addHands (nI c) (nI n) t = some ((), t') ∧ MR t' (R.trn c n) ∧ Sm t t' := by
  have h9 := B.n
  have hh := B.h c hc
  unfold fX3_addHands Rc.trn
  rw [ilit 24, nI_add, mald_nI (by omega) (by decide), H.1.h c hc, nI_add, ilit 720, pk_rem' 720 (by omega) (by decide) (by decide), mast_nI (by omega) (by decide)]
  exact ⟨_, rfl, H.h1 h9 hc, Sm.set _ _ _⟩
end M85
section C85
variable {σ : Sg} {T : Nat → Nat} {k : Nat} {ex : Nat → Option Nat} {A : Ad} {R : Rc} {al : Int32} {z : Nat}
theorem RT.s1 (H : RT σ T k ex A R al) (B : R.Ba) {c : Nat} (hc : c < R.n) (v : Nat) : RT (g_u σ (A.ca c) (ckC (R.s_s (up R.s c v)) c)) T k ex A (R.s_s (up R.s c v)) al ∧ Ow T k σ z (g_u σ (A.ca c) (ckC (R.s_s (up R.s c v)) c)) z :=
  H.putC (R' := R.s_s (up R.s c v)) B hc rfl rfl rfl rfl (fun i hi hne => by simp only [ckC, Rc.s_s_k, Rc.s_s_h, Rc.s_s_r, Rc.s_s_s, Rc.s_s_p, Rc.s_s_f, up_ne _ _ hne]) rfl
theorem RT.h1 (H : RT σ T k ex A R al) (B : R.Ba) {c : Nat} (hc : c < R.n) (v : Nat) : RT (g_u σ (A.ca c) (ckC (R.s_h (up R.h c v)) c)) T k ex A (R.s_h (up R.h c v)) al ∧ Ow T k σ z (g_u σ (A.ca c) (ckC (R.s_h (up R.h c v)) c)) z :=
  H.putC (R' := R.s_h (up R.h c v)) B hc rfl rfl rfl rfl (fun i hi hne => by simp only [ckC, Rc.s_h_k, Rc.s_h_h, Rc.s_h_r, Rc.s_h_s, Rc.s_h_p, Rc.s_h_f, up_ne _ _ hne]) rfl
theorem rt_winds (H : RT σ T k ex A R al) (B : R.Ba) {c n : Nat} (hc : c < R.n) (hn : n ≤ 1000) : ∃ σ', (∀ (zz : Nat) (cc : Nat × Nat), fX4_winds ex zz (A.ca c) (nI n) (σ, cc) = some ((), (σ', cc))) ∧ RT σ' T k ex A (R.wnd c n) al ∧ Ow T k σ z σ' z := by
  have hs := B.s c hc
  have hk := kin (B.k c hc)
  have hck := H.1.ck c hc
  obtain ⟨r1, r2⟩ := H.s1 (z := z) B hc (if R.s c + n ≤ 99 then R.s c + n else 99)
  refine ⟨_, fun zz cc => ?_, r1, r2⟩
  unfold fX4_winds
  rw [I_t hck hk rfl, ilit 99, nI_add, c_min (by decide) (by omega), gb_two, P_t hck hk (by show 3 < 6; decide)]
  have e : (if R.s c + n < 99 then R.s c + n else 99) = (if R.s c + n ≤ 99 then R.s c + n else 99) := by split <;> split <;> omega
  have ec : (true, Sum.inr (4 + R.k c, [Value.int (nI c), Value.int (nI (R.h c)), Value.int (Int32.ofInt (R.r c)), Value.int (nI (R.s c)), Value.int (nI (R.p c)), Value.int (fin (R.f c))].set 3 (.int (nI (if R.s c + n < 99 then R.s c + n else 99))))) = ckC (R.s_s (up R.s c (if R.s c + n ≤ 99 then R.s c + n else 99))) c := by
    rw [e]
    simp only [ckC, Rc.s_s_k, Rc.s_s_h, Rc.s_s_r, Rc.s_s_s, Rc.s_s_p, Rc.s_s_f, up_self]
    rfl
  rw [ec]
theorem rt_turns (H : RT σ T k ex A R al) (B : R.Ba) {c n : Nat} (hc : c < R.n) (hn : n ≤ 100000) : ∃ σ', (∀ (zz : Nat) (cc : Nat × Nat), fX4_turns ex zz (A.ca c) (nI n) (σ, cc) = some ((), (σ', cc))) ∧ RT σ' T k ex A (R.trn c n) al ∧ Ow T k σ z σ' z := by
  have hh := B.h c hc
  have hk := kin (B.k c hc)
  have hck := H.1.ck c hc
  obtain ⟨r1, r2⟩ := H.h1 (z := z) B hc ((R.h c + n) % 720)
  refine ⟨_, fun zz cc => ?_, r1, r2⟩
  unfold fX4_turns
  rw [I_t hck hk rfl, nI_add, ilit 720, pk_rem' 720 (by omega) (by decide) (by decide), P_t hck hk (by show 1 < 6; decide)]
  have ec : (true, Sum.inr (4 + R.k c, [Value.int (nI c), Value.int (nI (R.h c)), Value.int (Int32.ofInt (R.r c)), Value.int (nI (R.s c)), Value.int (nI (R.p c)), Value.int (fin (R.f c))].set 1 (.int (nI ((R.h c + n) % 720))))) = ckC (R.s_h (up R.h c ((R.h c + n) % 720))) c := by
    simp only [ckC, Rc.s_h_k, Rc.s_h_h, Rc.s_h_r, Rc.s_h_s, Rc.s_h_p, Rc.s_h_f, up_self]
    rfl
  rw [ec]
end C85
/-- the component while it tries -/
def CT (σ : Sg) (T : Nat → Nat) (ex : Nat → Option Nat) (z o : Nat) (a : Nat → Nat) (W : Wv) (A : Ad) (Q : Rc) (al : Option Nat) : Prop := CW σ T ex z o a W ∧ A.r = a 1 ∧ RT σ T 3 ex A Q (alI al)
section T85
variable {σ σ' : Sg} {T : Nat → Nat} {ex : Nat → Option Nat} {z o : Nat} {a : Nat → Nat} {W : Wv} {A : Ad} {Q Q' : Rc} {al al' : Option Nat}
theorem CT.put (H : CT σ T ex z o a W A Q al) (hr : RT σ' T 3 ex A Q' (alI al')) (B : Q'.Ba) (h : Ow T 3 σ z σ' z) : CT σ' T ex z o a W A Q' al' ∧ Kp T σ T σ' (fun i => i ≠ 3) :=
  ⟨⟨H.1.u_tr (W' := W) H.1.fr (h.kp0 H.1.fr) ⟨A, Q', alI al', H.2.1, hr, B⟩ rfl rfl rfl rfl rfl rfl rfl rfl rfl rfl rfl rfl rfl rfl rfl rfl rfl rfl rfl rfl rfl rfl rfl rfl, H.2.1, hr⟩, h.kp0 H.1.fr⟩
theorem ct_takes (H : CW σ T ex z o a W) (O : W.OK) : ∃ σ' T' A dc ds, fX1_takes ex z (a 1) (a 0) (σ, 0, 0) = some ((), (σ', dc, ds)) ∧ CT σ' T' ex (z + dc) o a W A W.C.R none ∧ Kp T σ T' σ' (fun i => i ≠ 3) ∧ dc ≤ 10 ∧ ds ≤ 64 := by
  obtain ⟨A, hA, R⟩ := H.race
  obtain ⟨A3, Q3, al3, h3, R3, B3⟩ := H.tr
  obtain ⟨σ', A', dc, ds, q1, q2, q3, q4, q5, q6⟩ := rt_takes R3 B3 R O.ba H.fr (by decide) (by decide) (by decide) (by decide)
  rw [h3, hA] at q1
  have hA' : A'.r = a 1 := q3.trans h3
  exact ⟨σ', _, A', dc, ds, q1, ⟨H.u_tr (W' := W) (H.fr.ext (by omega)) (q4.kp H.fr) ⟨A', W.C.R, -4, hA', q2, O.ba⟩ rfl rfl rfl rfl rfl rfl rfl rfl rfl rfl rfl rfl rfl rfl rfl rfl rfl rfl rfl rfl rfl rfl rfl rfl, hA', q2⟩, q4.kp H.fr, q5, q6⟩
theorem gb_z {α β : Type} {σ σ' : Sg} {c : Nat × Nat} {r : α} {k : α → St → Option (β × St)} : gb (some (r, (σ', 0, 0))) (σ, c) k = k r (σ', c) := rfl
theorem ct_go (H : CT σ T ex z o a W A Q al) (O : Q.OK) (hal : alOK al) (hnow : Q.now + 1 < 100000) (zz : Nat) : ∃ σ', fX1_goes ex zz (a 1) (σ, 0, 0) = some (nI (Q.goN (Q.wea al)), (σ', 0, 0)) ∧ CT σ' T ex z o a W A (Q.go (Q.wea al)) al ∧ Kp T σ T σ' (fun i => i ≠ 3) := by
  obtain ⟨σ1, p1, p2, p3⟩ := rt_go (z := zz) H.2.2 O (Rc.wea_lt O.b hal) (Q.wea_of hal) (c := (0, 0))
  obtain ⟨r1, r2⟩ := H.put (al' := al) p2 (Rc.go_Ba O.b hnow _) p3.any
  rw [H.2.1] at p1
  exact ⟨σ1, p1, r1, r2⟩
theorem CT.ra (H : CT σ T ex z o a W A Q al) : σ (a 1) = some (raC Q A (alI al)) := by
  have h := H.2.2.1.ra
  rw [H.2.1] at h; exact h
theorem CT.ck (H : CT σ T ex z o a W A Q al) {c : Nat} (hc : c < Q.n) : σ (A.ca c) = some (ckC Q c) := H.2.2.1.ck c hc
theorem CT.clock (H : CT σ T ex z o a W A Q al) (B : Q.Ba) {c : Nat} (hc : c < Q.n) {zz : Nat} {cc : Nat × Nat} : fX1_clock ex zz (a 1) (nI c) (σ, cc) = some (A.ca c, (σ, cc)) := by
  rw [← H.2.1]; exact c_clock (t := (σ, cc)) H.2.2.1 B hc
theorem CT.place (H : CT σ T ex z o a W A Q al) (O : Q.OK) {c : Nat} (hc : c < Q.n) {zz : Nat} {cc : Nat × Nat} : fX1_place ex zz (a 1) (A.ca c) (σ, cc) = some (nI (Q.place c), (σ, cc)) := by
  rw [← H.2.1]; exact c_place (t := (σ, cc)) H.2.2.1 O hc
theorem CT.size (H : CT σ T ex z o a W A Q al) {zz : Nat} {cc : Nat × Nat} : fX1_size ex zz (a 1) (σ, cc) = some (nI Q.n, (σ, cc)) := by
  rw [← H.2.1]; exact c_size (t := (σ, cc)) H.2.2.1
theorem CT.homes (H : CT σ T ex z o a W A Q al) (O : Q.OK) {zz : Nat} {cc : Nat × Nat} : fX1_homes ex zz (a 1) (σ, cc) = some (nI Q.homes, (σ, cc)) := by
  rw [← H.2.1]; exact c_homes (t := (σ, cc)) H.2.2.1 O
theorem CT.home1 (H : CT σ T ex z o a W A Q al) (O : Q.OK) {c : Nat} (hc : c < Q.n) {zz : Nat} {cc : Nat × Nat} : fX4_isHome ex zz (A.ca c) (σ, cc) = some (if Q.f c = 0 then 0 else 1, (σ, cc)) := c_home1 (t := (σ, cc)) H.2.2.1 O hc
theorem CT.strikes (H : CT σ T ex z o a W A Q al) (B : Q.Ba) {c : Nat} (hc : c < Q.n) {zz : Nat} {cc : Nat × Nat} : fX4_strikes ex zz (A.ca c) (a 1) (σ, cc) = some (nI (Q.stk c), (σ, cc)) := by
  rw [← H.2.1]; exact c_strikes (t := (σ, cc)) H.2.2.1 B hc
theorem CT.truth (H : CT σ T ex z o a W A Q al) (B : Q.Ba) {zz : Nat} {cc : Nat × Nat} : fX21_truth ex zz (a 1) (σ, cc) = some (nI Q.truth, (σ, cc)) := by
  rw [← H.2.1]; exact c_truth (t := (σ, cc)) H.2.2.1 B
theorem ct_gh2 {zf n : Nat} (hal : alOK al) (O : Q.OK) (hn : n ≤ 900) (hnow : Q.now + n < 100000) : ∀ (j i fuel : Nat) (σ : Sg) (c : Nat × Nat), i + j = n → j < fuel → CT σ T ex z o a W A (Q.gos al i) al → ∃ σ', fX0_goOn_2 ex zf fuel o (nI n) (nI i) (σ, c) = some ((), (σ', c)) ∧ CT σ' T ex z o a W A (Q.gos al n) al ∧ Kp T σ T σ' (fun i => i ≠ 3)
  | 0, i, fuel, σ, c, hj, hf, H => by
    obtain ⟨m, rfl⟩ : ∃ m, fuel = m + 1 := ⟨fuel - 1, by omega⟩
    obtain rfl : i = n := by omega
    rw [fX0_goOn_2, if_pos (nI_le (Nat.le_refl _) (by omega))]
    exact ⟨σ, rfl, H, Kp.rf _ _ _⟩
  | j + 1, i, fuel, σ, c, hj, hf, H => by
    obtain ⟨m, rfl⟩ : ∃ m, fuel = m + 1 := ⟨fuel - 1, by omega⟩
    have Oi := Rc.gos_OK O al i (by omega)
    have ki := Rc.gos_keep Q al i
    obtain ⟨at_, hob⟩ := H.1.obj
    obtain ⟨σ1, q1, q2, q3⟩ := ct_go H Oi hal (by rw [ki.2.2.2.2.1]; omega) (zf + c.1)
    rw [fX0_goOn_2, if_neg (nI_ge (by omega) (by omega)), A_t hob (by decide) rfl, X_t H.ra (by decide), q1, gb_z, nI_1]
    obtain ⟨σ2, r1, r2, r3⟩ := ct_gh2 (zf := zf) hal O hn hnow j (i + 1) m σ1 c (by omega) (by omega) q2
    exact ⟨σ2, r1, r2, q3.tr r3⟩
theorem ct_goOn {n : Nat} (H : CT σ T ex z o a W A Q al) (hal : alOK al) (O : Q.OK) (hn : n ≤ 900) (hnow : Q.now + n < 100000) (zf : Nat) : ∃ σ', fX0_goOn ex zf o (nI n) (σ, 0, 0) = some ((), (σ', 0, 0)) ∧ CT σ' T ex z o a W A (Q.gos al n) al ∧ Kp T σ T σ' (fun i => i ≠ 3) :=
  ct_gh2 hal O hn hnow n 0 1000 σ (0, 0) (by omega) (by omega) H
theorem CW.tra (H : CW σ T ex z o a W) : ∃ Q A al, σ (a 1) = some (raC Q A al) := by
  obtain ⟨A3, Q3, al3, h3, R3, B3⟩ := H.tr
  exact ⟨Q3, A3, al3, by rw [← h3]; exact R3.1.ra⟩
theorem ct_runs {n : Nat} (H : CW σ T ex z o a W) (O : W.OK) (hn : n ≤ 200) : ∃ σ' T' A dc ds, fX0_runs ex z o (nI n) (σ, 0, 0) = some ((), (σ', dc, ds)) ∧ CT σ' T' ex (z + dc) o a W A (W.C.R.gos none n) none ∧ Kp T σ T' σ' (fun i => i ≠ 3) ∧ dc ≤ 10 ∧ ds ≤ 64 := by
  have hnow := O.c.now
  obtain ⟨at_, hob⟩ := H.obj
  obtain ⟨Q3, A3, al3, h3⟩ := H.tra
  obtain ⟨σ1, T1, A1, dc, ds, q1, q2, q3, q4, q5⟩ := ct_takes H O
  obtain ⟨σ2, p1, p2, p3⟩ := ct_goOn (n := n) q2 alOK.no O.c.r (by omega) (by omega) (z + dc)
  obtain ⟨at1, hob1⟩ := q2.1.obj
  unfold fX0_runs
  rw [A_t hob (by decide) rfl, A_t hob (by decide) rfl, X_t h3 (by decide)]
  simp only [Nat.add_zero]
  rw [q1, gb_app, X_t hob1 (by decide)]
  simp only [Nat.zero_add]
  rw [p1, gb_app]
  exact ⟨σ2, T1, A1, dc, ds, rfl, p2, q3.tr p3, q4, q5⟩
theorem m_long1 {t : MS} {n : Nat} (h : n ≤ 200) : fX3_isLong (nI n) t = some (1, t) := by
  unfold fX3_isLong
  rw [m_iL1 0 200 t (by omega) h (by decide), gm_some, if_pos (Or.inr rfl)]
theorem m_long0 {t : MS} {x : Int32} (h : ¬ ∃ c, 0 ≤ c ∧ c ≤ 200 ∧ x = nI c) : fX3_isLong x t = some (0, t) := by
  unfold fX3_isLong
  rw [m_iL0 0 200 t (by omega) (by decide) h, gm_some, if_pos (Or.inl rfl)]
theorem c_few1 {n zz : Nat} {c : Nat × Nat} (h : n ≤ 200) : fX0_isFew ex zz (nI n) (σ, c) = some (1, (σ, c)) := by
  unfold fX0_isFew
  rw [c_iL1 0 200 _ (by omega) h (by decide), gb_two, if_pos (Or.inr rfl)]
theorem c_few0 {zz : Nat} {c : Nat × Nat} {x : Int32} (h : ¬ ∃ c, 0 ≤ c ∧ c ≤ 200 ∧ x = nI c) : fX0_isFew ex zz x (σ, c) = some (0, (σ, c)) := by
  unfold fX0_isFew
  rw [c_iL0 0 200 _ (by omega) (by decide) h, gb_two, if_pos (Or.inl rfl)]
/-- only the race that is tried is another -/
theorem Both.tr {t t' : MS} {T' : Nat → Nat} {dc ds : Nat} {fm : Option (Int32 × MS)} {fc : Option (Int32 × St)} (M : MW t W) (O : W.OK) (v : Int32) (h1 : fm = some (v, t')) (h2 : fc = some (v, (σ', dc, ds))) (hs : Sb t t') (H' : CW σ' T' ex (z + dc) o a W) (k : Kp T σ T' σ' (fun i => i ≠ 3)) (hd : dc ≤ 9000) (hds : ds ≤ 60000) : Both σ T ex z o a fm fc := ⟨v, t', W, σ', T', dc, ds, h1, h2, M.sb hs O.n, H', O, k.sub (fun i hi => by rw [hi]; decide), hd, hds⟩
end T85
