/-! all begin anew; restart -/
set_option maxRecDepth 100000
def Rc.back (R : Rc) : Rc := (Rc.mk (R.n) (R.W) (R.d) (R.k) (R.h) (R.r) (R.s) (fun _ => 0) (fun _ => 0) (R.now) (R.sk) (R.mn) (R.he) (R.so))
/-- the first c are 0 -/
def cut0 (c : Nat) (f : Nat → Nat) : Nat → Nat := fun i => if i < c then 0 else f i
def Rc.bk (R : Rc) (c : Nat) : Rc := (Rc.mk (R.n) (R.W) (R.d) (R.k) (R.h) (R.r) (R.s) (cut0 c R.p) (cut0 c R.f) (R.now) (R.sk) (R.mn) (R.he) (R.so))
theorem Rc.bk_ck0 (R : Rc) (i : Nat) : ckC (R.bk 0) i = ckC R i := by
  have ep : (R.bk 0).p i = R.p i := by show (if i < 0 then 0 else R.p i) = _; rw [if_neg (Nat.not_lt_zero i)]
  have ef : (R.bk 0).f i = R.f i := by show (if i < 0 then 0 else R.f i) = _; rw [if_neg (Nat.not_lt_zero i)]
  unfold ckC
  rw [ep, ef]
  rfl
theorem Rc.bk_ckn {R : Rc} {i : Nat} (hi : i < R.n) : ckC R.back i = ckC (R.bk R.n) i := by
  have ep : (R.bk R.n).p i = 0 := if_pos hi
  have ef : (R.bk R.n).f i = 0 := if_pos hi
  unfold ckC
  rw [ep, ef]
  rfl
theorem RR.cong {σ : Sg} {A : Ad} {R R' : Rc} {al : Int32} (H : RR σ A R al) (e1 : R'.n = R.n) (er : raC R' A al = raC R A al) (ed : ∀ w, w < 24 → R'.d w = R.d w) (es : ∀ j, j < 12 → R'.sk j = R.sk j) (hk : ∀ i, i < R.n → ckC R' i = ckC R i) : RR σ A R' al := by
  refine ⟨by rw [er]; exact H.ra, ?_, ?_, by rw [e1]; exact H.li, by rw [e1]; exact H.el, fun c hc => by rw [e1] at hc; rw [hk c hc]; exact H.ck c hc⟩
  · obtain ⟨f, h1, h2⟩ := H.dl
    exact ⟨f, h1, fun w hw => by rw [ed w hw]; exact h2 w hw⟩
  · obtain ⟨f, h1, h2⟩ := H.sk
    exact ⟨f, h1, fun w hw => by rw [es w hw]; exact h2 w hw⟩
theorem RT.cong {σ : Sg} {T : Nat → Nat} {k : Nat} {ex : Nat → Option Nat} {A : Ad} {R R' : Rc} {al : Int32} (H : RT σ T k ex A R al) (e1 : R'.n = R.n) (er : raC R' A al = raC R A al) (ed : ∀ w, w < 24 → R'.d w = R.d w) (es : ∀ j, j < 12 → R'.sk j = R.sk j) (hk : ∀ i, i < R.n → ckC R' i = ckC R i) : RT σ T k ex A R' al := by
  obtain ⟨h1, h2, h3, h4, h5, h6⟩ := H
  exact ⟨h1.cong e1 er ed es hk, h2, h3, h4, by rw [e1]; exact h5, by rw [e1]; exact h6⟩
theorem MR.cong {t : MS} {R R' : Rc} (H : MR t R) (e1 : R'.n = R.n) (e2 : R'.W = R.W) (e3 : R'.mn = R.mn) (ed : ∀ w, w < 24 → R'.d w = R.d w) (eh : ∀ c, c < R.n → R'.h c = R.h c) (es : ∀ c, c < R.n → R'.s c = R.s c) (ep : ∀ c, c < R.n → R'.p c = R.p c) (ef : ∀ c, c < R.n → R'.f c = R.f c) (ek : ∀ c, c < R.n → R'.k c = R.k c) (er : ∀ c, c < R.n → R'.r c = R.r c) (esk : ∀ j, j < 12 → R'.sk j = R.sk j) (en : R'.now = R.now) (ehe : R'.he = R.he) (eso : R'.so = R.so) : MR t R' := by
  have b := H.1
  refine ⟨⟨by rw [e1]; exact b.n, by rw [e2]; exact b.W, by rw [e3]; exact b.mn, fun w hw => by rw [ed w hw]; exact b.d w hw, fun c hc => ?_, fun c hc => ?_, fun c hc => ?_, by rw [en]; exact b.now, by rw [ehe]; exact b.he, by rw [eso]; exact b.so, fun c hc => ?_, fun c hc => ?_, fun w hw => by rw [esk w hw]; exact b.sk w hw⟩, fun c hc => ?_⟩
  · rw [e1] at hc; rw [eh c hc]; exact b.h c hc
  · rw [e1] at hc; rw [es c hc]; exact b.s c hc
  · rw [e1] at hc; rw [ep c hc]; exact b.p c hc
  · rw [e1] at hc; rw [ek c hc]; exact b.k c hc
  · rw [e1] at hc; rw [er c hc]; exact b.r c hc
  · rw [e1] at hc; rw [ef c hc]; exact H.2 c hc
