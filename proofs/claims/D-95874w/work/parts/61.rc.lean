/-! THE RACE, as numbers: what both sides compute (printed by gen/rc.py): clocks n, windows W, dials d, kinds k, hands h, rates r, springs s, windows of clocks p, finishes f (0: none), hours now, skies sk, their number mn, heard he, strokes so -/
set_option maxRecDepth 100000
def Rc : Type := (Nat) × (Nat) × (Nat → Nat) × (Nat → Nat) × (Nat → Nat) × (Nat → Int) × (Nat → Nat) × (Nat → Nat) × (Nat → Nat) × (Nat) × (Nat → Nat) × (Nat) × (Nat) × (Nat)
def Rc.mk (n : Nat) (W : Nat) (d : Nat → Nat) (k : Nat → Nat) (h : Nat → Nat) (r : Nat → Int) (s : Nat → Nat) (p : Nat → Nat) (f : Nat → Nat) (now : Nat) (sk : Nat → Nat) (mn : Nat) (he : Nat) (so : Nat) : Rc := (n, W, d, k, h, r, s, p, f, now, sk, mn, he, so)
def Rc.n (R : Rc) : Nat := R.1
def Rc.W (R : Rc) : Nat := R.2.1
def Rc.d (R : Rc) : Nat → Nat := R.2.2.1
def Rc.k (R : Rc) : Nat → Nat := R.2.2.2.1
def Rc.h (R : Rc) : Nat → Nat := R.2.2.2.2.1
def Rc.r (R : Rc) : Nat → Int := R.2.2.2.2.2.1
def Rc.s (R : Rc) : Nat → Nat := R.2.2.2.2.2.2.1
def Rc.p (R : Rc) : Nat → Nat := R.2.2.2.2.2.2.2.1
def Rc.f (R : Rc) : Nat → Nat := R.2.2.2.2.2.2.2.2.1
def Rc.now (R : Rc) : Nat := R.2.2.2.2.2.2.2.2.2.1
def Rc.sk (R : Rc) : Nat → Nat := R.2.2.2.2.2.2.2.2.2.2.1
def Rc.mn (R : Rc) : Nat := R.2.2.2.2.2.2.2.2.2.2.2.1
def Rc.he (R : Rc) : Nat := R.2.2.2.2.2.2.2.2.2.2.2.2.1
def Rc.so (R : Rc) : Nat := R.2.2.2.2.2.2.2.2.2.2.2.2.2
theorem Rc.n_mk (n : Nat) (W : Nat) (d : Nat → Nat) (k : Nat → Nat) (h : Nat → Nat) (r : Nat → Int) (s : Nat → Nat) (p : Nat → Nat) (f : Nat → Nat) (now : Nat) (sk : Nat → Nat) (mn : Nat) (he : Nat) (so : Nat) : (Rc.mk n W d k h r s p f now sk mn he so).n = n := rfl
theorem Rc.W_mk (n : Nat) (W : Nat) (d : Nat → Nat) (k : Nat → Nat) (h : Nat → Nat) (r : Nat → Int) (s : Nat → Nat) (p : Nat → Nat) (f : Nat → Nat) (now : Nat) (sk : Nat → Nat) (mn : Nat) (he : Nat) (so : Nat) : (Rc.mk n W d k h r s p f now sk mn he so).W = W := rfl
theorem Rc.d_mk (n : Nat) (W : Nat) (d : Nat → Nat) (k : Nat → Nat) (h : Nat → Nat) (r : Nat → Int) (s : Nat → Nat) (p : Nat → Nat) (f : Nat → Nat) (now : Nat) (sk : Nat → Nat) (mn : Nat) (he : Nat) (so : Nat) : (Rc.mk n W d k h r s p f now sk mn he so).d = d := rfl
theorem Rc.k_mk (n : Nat) (W : Nat) (d : Nat → Nat) (k : Nat → Nat) (h : Nat → Nat) (r : Nat → Int) (s : Nat → Nat) (p : Nat → Nat) (f : Nat → Nat) (now : Nat) (sk : Nat → Nat) (mn : Nat) (he : Nat) (so : Nat) : (Rc.mk n W d k h r s p f now sk mn he so).k = k := rfl
theorem Rc.h_mk (n : Nat) (W : Nat) (d : Nat → Nat) (k : Nat → Nat) (h : Nat → Nat) (r : Nat → Int) (s : Nat → Nat) (p : Nat → Nat) (f : Nat → Nat) (now : Nat) (sk : Nat → Nat) (mn : Nat) (he : Nat) (so : Nat) : (Rc.mk n W d k h r s p f now sk mn he so).h = h := rfl
theorem Rc.r_mk (n : Nat) (W : Nat) (d : Nat → Nat) (k : Nat → Nat) (h : Nat → Nat) (r : Nat → Int) (s : Nat → Nat) (p : Nat → Nat) (f : Nat → Nat) (now : Nat) (sk : Nat → Nat) (mn : Nat) (he : Nat) (so : Nat) : (Rc.mk n W d k h r s p f now sk mn he so).r = r := rfl
theorem Rc.s_mk (n : Nat) (W : Nat) (d : Nat → Nat) (k : Nat → Nat) (h : Nat → Nat) (r : Nat → Int) (s : Nat → Nat) (p : Nat → Nat) (f : Nat → Nat) (now : Nat) (sk : Nat → Nat) (mn : Nat) (he : Nat) (so : Nat) : (Rc.mk n W d k h r s p f now sk mn he so).s = s := rfl
theorem Rc.p_mk (n : Nat) (W : Nat) (d : Nat → Nat) (k : Nat → Nat) (h : Nat → Nat) (r : Nat → Int) (s : Nat → Nat) (p : Nat → Nat) (f : Nat → Nat) (now : Nat) (sk : Nat → Nat) (mn : Nat) (he : Nat) (so : Nat) : (Rc.mk n W d k h r s p f now sk mn he so).p = p := rfl
theorem Rc.f_mk (n : Nat) (W : Nat) (d : Nat → Nat) (k : Nat → Nat) (h : Nat → Nat) (r : Nat → Int) (s : Nat → Nat) (p : Nat → Nat) (f : Nat → Nat) (now : Nat) (sk : Nat → Nat) (mn : Nat) (he : Nat) (so : Nat) : (Rc.mk n W d k h r s p f now sk mn he so).f = f := rfl
theorem Rc.now_mk (n : Nat) (W : Nat) (d : Nat → Nat) (k : Nat → Nat) (h : Nat → Nat) (r : Nat → Int) (s : Nat → Nat) (p : Nat → Nat) (f : Nat → Nat) (now : Nat) (sk : Nat → Nat) (mn : Nat) (he : Nat) (so : Nat) : (Rc.mk n W d k h r s p f now sk mn he so).now = now := rfl
theorem Rc.sk_mk (n : Nat) (W : Nat) (d : Nat → Nat) (k : Nat → Nat) (h : Nat → Nat) (r : Nat → Int) (s : Nat → Nat) (p : Nat → Nat) (f : Nat → Nat) (now : Nat) (sk : Nat → Nat) (mn : Nat) (he : Nat) (so : Nat) : (Rc.mk n W d k h r s p f now sk mn he so).sk = sk := rfl
theorem Rc.mn_mk (n : Nat) (W : Nat) (d : Nat → Nat) (k : Nat → Nat) (h : Nat → Nat) (r : Nat → Int) (s : Nat → Nat) (p : Nat → Nat) (f : Nat → Nat) (now : Nat) (sk : Nat → Nat) (mn : Nat) (he : Nat) (so : Nat) : (Rc.mk n W d k h r s p f now sk mn he so).mn = mn := rfl
theorem Rc.he_mk (n : Nat) (W : Nat) (d : Nat → Nat) (k : Nat → Nat) (h : Nat → Nat) (r : Nat → Int) (s : Nat → Nat) (p : Nat → Nat) (f : Nat → Nat) (now : Nat) (sk : Nat → Nat) (mn : Nat) (he : Nat) (so : Nat) : (Rc.mk n W d k h r s p f now sk mn he so).he = he := rfl
theorem Rc.so_mk (n : Nat) (W : Nat) (d : Nat → Nat) (k : Nat → Nat) (h : Nat → Nat) (r : Nat → Int) (s : Nat → Nat) (p : Nat → Nat) (f : Nat → Nat) (now : Nat) (sk : Nat → Nat) (mn : Nat) (he : Nat) (so : Nat) : (Rc.mk n W d k h r s p f now sk mn he so).so = so := rfl
def Rc.s_n (R : Rc) (x : Nat) : Rc := Rc.mk (x) (R.W) (R.d) (R.k) (R.h) (R.r) (R.s) (R.p) (R.f) (R.now) (R.sk) (R.mn) (R.he) (R.so)
def Rc.s_W (R : Rc) (x : Nat) : Rc := Rc.mk (R.n) (x) (R.d) (R.k) (R.h) (R.r) (R.s) (R.p) (R.f) (R.now) (R.sk) (R.mn) (R.he) (R.so)
def Rc.s_d (R : Rc) (x : Nat → Nat) : Rc := Rc.mk (R.n) (R.W) (x) (R.k) (R.h) (R.r) (R.s) (R.p) (R.f) (R.now) (R.sk) (R.mn) (R.he) (R.so)
def Rc.s_k (R : Rc) (x : Nat → Nat) : Rc := Rc.mk (R.n) (R.W) (R.d) (x) (R.h) (R.r) (R.s) (R.p) (R.f) (R.now) (R.sk) (R.mn) (R.he) (R.so)
def Rc.s_h (R : Rc) (x : Nat → Nat) : Rc := Rc.mk (R.n) (R.W) (R.d) (R.k) (x) (R.r) (R.s) (R.p) (R.f) (R.now) (R.sk) (R.mn) (R.he) (R.so)
def Rc.s_r (R : Rc) (x : Nat → Int) : Rc := Rc.mk (R.n) (R.W) (R.d) (R.k) (R.h) (x) (R.s) (R.p) (R.f) (R.now) (R.sk) (R.mn) (R.he) (R.so)
def Rc.s_s (R : Rc) (x : Nat → Nat) : Rc := Rc.mk (R.n) (R.W) (R.d) (R.k) (R.h) (R.r) (x) (R.p) (R.f) (R.now) (R.sk) (R.mn) (R.he) (R.so)
def Rc.s_p (R : Rc) (x : Nat → Nat) : Rc := Rc.mk (R.n) (R.W) (R.d) (R.k) (R.h) (R.r) (R.s) (x) (R.f) (R.now) (R.sk) (R.mn) (R.he) (R.so)
def Rc.s_f (R : Rc) (x : Nat → Nat) : Rc := Rc.mk (R.n) (R.W) (R.d) (R.k) (R.h) (R.r) (R.s) (R.p) (x) (R.now) (R.sk) (R.mn) (R.he) (R.so)
def Rc.s_now (R : Rc) (x : Nat) : Rc := Rc.mk (R.n) (R.W) (R.d) (R.k) (R.h) (R.r) (R.s) (R.p) (R.f) (x) (R.sk) (R.mn) (R.he) (R.so)
def Rc.s_sk (R : Rc) (x : Nat → Nat) : Rc := Rc.mk (R.n) (R.W) (R.d) (R.k) (R.h) (R.r) (R.s) (R.p) (R.f) (R.now) (x) (R.mn) (R.he) (R.so)
def Rc.s_mn (R : Rc) (x : Nat) : Rc := Rc.mk (R.n) (R.W) (R.d) (R.k) (R.h) (R.r) (R.s) (R.p) (R.f) (R.now) (R.sk) (x) (R.he) (R.so)
def Rc.s_he (R : Rc) (x : Nat) : Rc := Rc.mk (R.n) (R.W) (R.d) (R.k) (R.h) (R.r) (R.s) (R.p) (R.f) (R.now) (R.sk) (R.mn) (x) (R.so)
def Rc.s_so (R : Rc) (x : Nat) : Rc := Rc.mk (R.n) (R.W) (R.d) (R.k) (R.h) (R.r) (R.s) (R.p) (R.f) (R.now) (R.sk) (R.mn) (R.he) (x)
theorem Rc.s_n_n (R : Rc) (x : Nat) : (R.s_n x).n = x := rfl
theorem Rc.s_n_W (R : Rc) (x : Nat) : (R.s_n x).W = R.W := rfl
theorem Rc.s_n_d (R : Rc) (x : Nat) : (R.s_n x).d = R.d := rfl
theorem Rc.s_n_k (R : Rc) (x : Nat) : (R.s_n x).k = R.k := rfl
theorem Rc.s_n_h (R : Rc) (x : Nat) : (R.s_n x).h = R.h := rfl
theorem Rc.s_n_r (R : Rc) (x : Nat) : (R.s_n x).r = R.r := rfl
theorem Rc.s_n_s (R : Rc) (x : Nat) : (R.s_n x).s = R.s := rfl
theorem Rc.s_n_p (R : Rc) (x : Nat) : (R.s_n x).p = R.p := rfl
theorem Rc.s_n_f (R : Rc) (x : Nat) : (R.s_n x).f = R.f := rfl
theorem Rc.s_n_now (R : Rc) (x : Nat) : (R.s_n x).now = R.now := rfl
theorem Rc.s_n_sk (R : Rc) (x : Nat) : (R.s_n x).sk = R.sk := rfl
theorem Rc.s_n_mn (R : Rc) (x : Nat) : (R.s_n x).mn = R.mn := rfl
theorem Rc.s_n_he (R : Rc) (x : Nat) : (R.s_n x).he = R.he := rfl
theorem Rc.s_n_so (R : Rc) (x : Nat) : (R.s_n x).so = R.so := rfl
theorem Rc.s_W_n (R : Rc) (x : Nat) : (R.s_W x).n = R.n := rfl
theorem Rc.s_W_W (R : Rc) (x : Nat) : (R.s_W x).W = x := rfl
theorem Rc.s_W_d (R : Rc) (x : Nat) : (R.s_W x).d = R.d := rfl
theorem Rc.s_W_k (R : Rc) (x : Nat) : (R.s_W x).k = R.k := rfl
theorem Rc.s_W_h (R : Rc) (x : Nat) : (R.s_W x).h = R.h := rfl
theorem Rc.s_W_r (R : Rc) (x : Nat) : (R.s_W x).r = R.r := rfl
theorem Rc.s_W_s (R : Rc) (x : Nat) : (R.s_W x).s = R.s := rfl
theorem Rc.s_W_p (R : Rc) (x : Nat) : (R.s_W x).p = R.p := rfl
theorem Rc.s_W_f (R : Rc) (x : Nat) : (R.s_W x).f = R.f := rfl
theorem Rc.s_W_now (R : Rc) (x : Nat) : (R.s_W x).now = R.now := rfl
theorem Rc.s_W_sk (R : Rc) (x : Nat) : (R.s_W x).sk = R.sk := rfl
theorem Rc.s_W_mn (R : Rc) (x : Nat) : (R.s_W x).mn = R.mn := rfl
theorem Rc.s_W_he (R : Rc) (x : Nat) : (R.s_W x).he = R.he := rfl
theorem Rc.s_W_so (R : Rc) (x : Nat) : (R.s_W x).so = R.so := rfl
theorem Rc.s_d_n (R : Rc) (x : Nat → Nat) : (R.s_d x).n = R.n := rfl
theorem Rc.s_d_W (R : Rc) (x : Nat → Nat) : (R.s_d x).W = R.W := rfl
theorem Rc.s_d_d (R : Rc) (x : Nat → Nat) : (R.s_d x).d = x := rfl
theorem Rc.s_d_k (R : Rc) (x : Nat → Nat) : (R.s_d x).k = R.k := rfl
theorem Rc.s_d_h (R : Rc) (x : Nat → Nat) : (R.s_d x).h = R.h := rfl
theorem Rc.s_d_r (R : Rc) (x : Nat → Nat) : (R.s_d x).r = R.r := rfl
theorem Rc.s_d_s (R : Rc) (x : Nat → Nat) : (R.s_d x).s = R.s := rfl
theorem Rc.s_d_p (R : Rc) (x : Nat → Nat) : (R.s_d x).p = R.p := rfl
theorem Rc.s_d_f (R : Rc) (x : Nat → Nat) : (R.s_d x).f = R.f := rfl
theorem Rc.s_d_now (R : Rc) (x : Nat → Nat) : (R.s_d x).now = R.now := rfl
theorem Rc.s_d_sk (R : Rc) (x : Nat → Nat) : (R.s_d x).sk = R.sk := rfl
theorem Rc.s_d_mn (R : Rc) (x : Nat → Nat) : (R.s_d x).mn = R.mn := rfl
theorem Rc.s_d_he (R : Rc) (x : Nat → Nat) : (R.s_d x).he = R.he := rfl
theorem Rc.s_d_so (R : Rc) (x : Nat → Nat) : (R.s_d x).so = R.so := rfl
theorem Rc.s_k_n (R : Rc) (x : Nat → Nat) : (R.s_k x).n = R.n := rfl
theorem Rc.s_k_W (R : Rc) (x : Nat → Nat) : (R.s_k x).W = R.W := rfl
theorem Rc.s_k_d (R : Rc) (x : Nat → Nat) : (R.s_k x).d = R.d := rfl
theorem Rc.s_k_k (R : Rc) (x : Nat → Nat) : (R.s_k x).k = x := rfl
theorem Rc.s_k_h (R : Rc) (x : Nat → Nat) : (R.s_k x).h = R.h := rfl
theorem Rc.s_k_r (R : Rc) (x : Nat → Nat) : (R.s_k x).r = R.r := rfl
theorem Rc.s_k_s (R : Rc) (x : Nat → Nat) : (R.s_k x).s = R.s := rfl
theorem Rc.s_k_p (R : Rc) (x : Nat → Nat) : (R.s_k x).p = R.p := rfl
theorem Rc.s_k_f (R : Rc) (x : Nat → Nat) : (R.s_k x).f = R.f := rfl
theorem Rc.s_k_now (R : Rc) (x : Nat → Nat) : (R.s_k x).now = R.now := rfl
theorem Rc.s_k_sk (R : Rc) (x : Nat → Nat) : (R.s_k x).sk = R.sk := rfl
theorem Rc.s_k_mn (R : Rc) (x : Nat → Nat) : (R.s_k x).mn = R.mn := rfl
theorem Rc.s_k_he (R : Rc) (x : Nat → Nat) : (R.s_k x).he = R.he := rfl
theorem Rc.s_k_so (R : Rc) (x : Nat → Nat) : (R.s_k x).so = R.so := rfl
theorem Rc.s_h_n (R : Rc) (x : Nat → Nat) : (R.s_h x).n = R.n := rfl
theorem Rc.s_h_W (R : Rc) (x : Nat → Nat) : (R.s_h x).W = R.W := rfl
theorem Rc.s_h_d (R : Rc) (x : Nat → Nat) : (R.s_h x).d = R.d := rfl
theorem Rc.s_h_k (R : Rc) (x : Nat → Nat) : (R.s_h x).k = R.k := rfl
theorem Rc.s_h_h (R : Rc) (x : Nat → Nat) : (R.s_h x).h = x := rfl
theorem Rc.s_h_r (R : Rc) (x : Nat → Nat) : (R.s_h x).r = R.r := rfl
theorem Rc.s_h_s (R : Rc) (x : Nat → Nat) : (R.s_h x).s = R.s := rfl
theorem Rc.s_h_p (R : Rc) (x : Nat → Nat) : (R.s_h x).p = R.p := rfl
theorem Rc.s_h_f (R : Rc) (x : Nat → Nat) : (R.s_h x).f = R.f := rfl
theorem Rc.s_h_now (R : Rc) (x : Nat → Nat) : (R.s_h x).now = R.now := rfl
theorem Rc.s_h_sk (R : Rc) (x : Nat → Nat) : (R.s_h x).sk = R.sk := rfl
theorem Rc.s_h_mn (R : Rc) (x : Nat → Nat) : (R.s_h x).mn = R.mn := rfl
theorem Rc.s_h_he (R : Rc) (x : Nat → Nat) : (R.s_h x).he = R.he := rfl
theorem Rc.s_h_so (R : Rc) (x : Nat → Nat) : (R.s_h x).so = R.so := rfl
theorem Rc.s_r_n (R : Rc) (x : Nat → Int) : (R.s_r x).n = R.n := rfl
theorem Rc.s_r_W (R : Rc) (x : Nat → Int) : (R.s_r x).W = R.W := rfl
theorem Rc.s_r_d (R : Rc) (x : Nat → Int) : (R.s_r x).d = R.d := rfl
theorem Rc.s_r_k (R : Rc) (x : Nat → Int) : (R.s_r x).k = R.k := rfl
theorem Rc.s_r_h (R : Rc) (x : Nat → Int) : (R.s_r x).h = R.h := rfl
theorem Rc.s_r_r (R : Rc) (x : Nat → Int) : (R.s_r x).r = x := rfl
theorem Rc.s_r_s (R : Rc) (x : Nat → Int) : (R.s_r x).s = R.s := rfl
theorem Rc.s_r_p (R : Rc) (x : Nat → Int) : (R.s_r x).p = R.p := rfl
theorem Rc.s_r_f (R : Rc) (x : Nat → Int) : (R.s_r x).f = R.f := rfl
theorem Rc.s_r_now (R : Rc) (x : Nat → Int) : (R.s_r x).now = R.now := rfl
theorem Rc.s_r_sk (R : Rc) (x : Nat → Int) : (R.s_r x).sk = R.sk := rfl
theorem Rc.s_r_mn (R : Rc) (x : Nat → Int) : (R.s_r x).mn = R.mn := rfl
theorem Rc.s_r_he (R : Rc) (x : Nat → Int) : (R.s_r x).he = R.he := rfl
theorem Rc.s_r_so (R : Rc) (x : Nat → Int) : (R.s_r x).so = R.so := rfl
theorem Rc.s_s_n (R : Rc) (x : Nat → Nat) : (R.s_s x).n = R.n := rfl
theorem Rc.s_s_W (R : Rc) (x : Nat → Nat) : (R.s_s x).W = R.W := rfl
theorem Rc.s_s_d (R : Rc) (x : Nat → Nat) : (R.s_s x).d = R.d := rfl
theorem Rc.s_s_k (R : Rc) (x : Nat → Nat) : (R.s_s x).k = R.k := rfl
theorem Rc.s_s_h (R : Rc) (x : Nat → Nat) : (R.s_s x).h = R.h := rfl
theorem Rc.s_s_r (R : Rc) (x : Nat → Nat) : (R.s_s x).r = R.r := rfl
theorem Rc.s_s_s (R : Rc) (x : Nat → Nat) : (R.s_s x).s = x := rfl
theorem Rc.s_s_p (R : Rc) (x : Nat → Nat) : (R.s_s x).p = R.p := rfl
theorem Rc.s_s_f (R : Rc) (x : Nat → Nat) : (R.s_s x).f = R.f := rfl
theorem Rc.s_s_now (R : Rc) (x : Nat → Nat) : (R.s_s x).now = R.now := rfl
theorem Rc.s_s_sk (R : Rc) (x : Nat → Nat) : (R.s_s x).sk = R.sk := rfl
theorem Rc.s_s_mn (R : Rc) (x : Nat → Nat) : (R.s_s x).mn = R.mn := rfl
theorem Rc.s_s_he (R : Rc) (x : Nat → Nat) : (R.s_s x).he = R.he := rfl
theorem Rc.s_s_so (R : Rc) (x : Nat → Nat) : (R.s_s x).so = R.so := rfl
theorem Rc.s_p_n (R : Rc) (x : Nat → Nat) : (R.s_p x).n = R.n := rfl
theorem Rc.s_p_W (R : Rc) (x : Nat → Nat) : (R.s_p x).W = R.W := rfl
theorem Rc.s_p_d (R : Rc) (x : Nat → Nat) : (R.s_p x).d = R.d := rfl
theorem Rc.s_p_k (R : Rc) (x : Nat → Nat) : (R.s_p x).k = R.k := rfl
theorem Rc.s_p_h (R : Rc) (x : Nat → Nat) : (R.s_p x).h = R.h := rfl
theorem Rc.s_p_r (R : Rc) (x : Nat → Nat) : (R.s_p x).r = R.r := rfl
theorem Rc.s_p_s (R : Rc) (x : Nat → Nat) : (R.s_p x).s = R.s := rfl
theorem Rc.s_p_p (R : Rc) (x : Nat → Nat) : (R.s_p x).p = x := rfl
theorem Rc.s_p_f (R : Rc) (x : Nat → Nat) : (R.s_p x).f = R.f := rfl
theorem Rc.s_p_now (R : Rc) (x : Nat → Nat) : (R.s_p x).now = R.now := rfl
theorem Rc.s_p_sk (R : Rc) (x : Nat → Nat) : (R.s_p x).sk = R.sk := rfl
theorem Rc.s_p_mn (R : Rc) (x : Nat → Nat) : (R.s_p x).mn = R.mn := rfl
theorem Rc.s_p_he (R : Rc) (x : Nat → Nat) : (R.s_p x).he = R.he := rfl
theorem Rc.s_p_so (R : Rc) (x : Nat → Nat) : (R.s_p x).so = R.so := rfl
theorem Rc.s_f_n (R : Rc) (x : Nat → Nat) : (R.s_f x).n = R.n := rfl
theorem Rc.s_f_W (R : Rc) (x : Nat → Nat) : (R.s_f x).W = R.W := rfl
theorem Rc.s_f_d (R : Rc) (x : Nat → Nat) : (R.s_f x).d = R.d := rfl
theorem Rc.s_f_k (R : Rc) (x : Nat → Nat) : (R.s_f x).k = R.k := rfl
theorem Rc.s_f_h (R : Rc) (x : Nat → Nat) : (R.s_f x).h = R.h := rfl
theorem Rc.s_f_r (R : Rc) (x : Nat → Nat) : (R.s_f x).r = R.r := rfl
theorem Rc.s_f_s (R : Rc) (x : Nat → Nat) : (R.s_f x).s = R.s := rfl
theorem Rc.s_f_p (R : Rc) (x : Nat → Nat) : (R.s_f x).p = R.p := rfl
theorem Rc.s_f_f (R : Rc) (x : Nat → Nat) : (R.s_f x).f = x := rfl
theorem Rc.s_f_now (R : Rc) (x : Nat → Nat) : (R.s_f x).now = R.now := rfl
theorem Rc.s_f_sk (R : Rc) (x : Nat → Nat) : (R.s_f x).sk = R.sk := rfl
theorem Rc.s_f_mn (R : Rc) (x : Nat → Nat) : (R.s_f x).mn = R.mn := rfl
theorem Rc.s_f_he (R : Rc) (x : Nat → Nat) : (R.s_f x).he = R.he := rfl
theorem Rc.s_f_so (R : Rc) (x : Nat → Nat) : (R.s_f x).so = R.so := rfl
theorem Rc.s_now_n (R : Rc) (x : Nat) : (R.s_now x).n = R.n := rfl
theorem Rc.s_now_W (R : Rc) (x : Nat) : (R.s_now x).W = R.W := rfl
theorem Rc.s_now_d (R : Rc) (x : Nat) : (R.s_now x).d = R.d := rfl
theorem Rc.s_now_k (R : Rc) (x : Nat) : (R.s_now x).k = R.k := rfl
theorem Rc.s_now_h (R : Rc) (x : Nat) : (R.s_now x).h = R.h := rfl
theorem Rc.s_now_r (R : Rc) (x : Nat) : (R.s_now x).r = R.r := rfl
theorem Rc.s_now_s (R : Rc) (x : Nat) : (R.s_now x).s = R.s := rfl
theorem Rc.s_now_p (R : Rc) (x : Nat) : (R.s_now x).p = R.p := rfl
theorem Rc.s_now_f (R : Rc) (x : Nat) : (R.s_now x).f = R.f := rfl
theorem Rc.s_now_now (R : Rc) (x : Nat) : (R.s_now x).now = x := rfl
theorem Rc.s_now_sk (R : Rc) (x : Nat) : (R.s_now x).sk = R.sk := rfl
theorem Rc.s_now_mn (R : Rc) (x : Nat) : (R.s_now x).mn = R.mn := rfl
theorem Rc.s_now_he (R : Rc) (x : Nat) : (R.s_now x).he = R.he := rfl
theorem Rc.s_now_so (R : Rc) (x : Nat) : (R.s_now x).so = R.so := rfl
theorem Rc.s_sk_n (R : Rc) (x : Nat → Nat) : (R.s_sk x).n = R.n := rfl
theorem Rc.s_sk_W (R : Rc) (x : Nat → Nat) : (R.s_sk x).W = R.W := rfl
theorem Rc.s_sk_d (R : Rc) (x : Nat → Nat) : (R.s_sk x).d = R.d := rfl
theorem Rc.s_sk_k (R : Rc) (x : Nat → Nat) : (R.s_sk x).k = R.k := rfl
theorem Rc.s_sk_h (R : Rc) (x : Nat → Nat) : (R.s_sk x).h = R.h := rfl
theorem Rc.s_sk_r (R : Rc) (x : Nat → Nat) : (R.s_sk x).r = R.r := rfl
theorem Rc.s_sk_s (R : Rc) (x : Nat → Nat) : (R.s_sk x).s = R.s := rfl
theorem Rc.s_sk_p (R : Rc) (x : Nat → Nat) : (R.s_sk x).p = R.p := rfl
theorem Rc.s_sk_f (R : Rc) (x : Nat → Nat) : (R.s_sk x).f = R.f := rfl
theorem Rc.s_sk_now (R : Rc) (x : Nat → Nat) : (R.s_sk x).now = R.now := rfl
theorem Rc.s_sk_sk (R : Rc) (x : Nat → Nat) : (R.s_sk x).sk = x := rfl
theorem Rc.s_sk_mn (R : Rc) (x : Nat → Nat) : (R.s_sk x).mn = R.mn := rfl
theorem Rc.s_sk_he (R : Rc) (x : Nat → Nat) : (R.s_sk x).he = R.he := rfl
theorem Rc.s_sk_so (R : Rc) (x : Nat → Nat) : (R.s_sk x).so = R.so := rfl
theorem Rc.s_mn_n (R : Rc) (x : Nat) : (R.s_mn x).n = R.n := rfl
theorem Rc.s_mn_W (R : Rc) (x : Nat) : (R.s_mn x).W = R.W := rfl
theorem Rc.s_mn_d (R : Rc) (x : Nat) : (R.s_mn x).d = R.d := rfl
theorem Rc.s_mn_k (R : Rc) (x : Nat) : (R.s_mn x).k = R.k := rfl
theorem Rc.s_mn_h (R : Rc) (x : Nat) : (R.s_mn x).h = R.h := rfl
theorem Rc.s_mn_r (R : Rc) (x : Nat) : (R.s_mn x).r = R.r := rfl
theorem Rc.s_mn_s (R : Rc) (x : Nat) : (R.s_mn x).s = R.s := rfl
theorem Rc.s_mn_p (R : Rc) (x : Nat) : (R.s_mn x).p = R.p := rfl
theorem Rc.s_mn_f (R : Rc) (x : Nat) : (R.s_mn x).f = R.f := rfl
theorem Rc.s_mn_now (R : Rc) (x : Nat) : (R.s_mn x).now = R.now := rfl
theorem Rc.s_mn_sk (R : Rc) (x : Nat) : (R.s_mn x).sk = R.sk := rfl
theorem Rc.s_mn_mn (R : Rc) (x : Nat) : (R.s_mn x).mn = x := rfl
theorem Rc.s_mn_he (R : Rc) (x : Nat) : (R.s_mn x).he = R.he := rfl
theorem Rc.s_mn_so (R : Rc) (x : Nat) : (R.s_mn x).so = R.so := rfl
theorem Rc.s_he_n (R : Rc) (x : Nat) : (R.s_he x).n = R.n := rfl
theorem Rc.s_he_W (R : Rc) (x : Nat) : (R.s_he x).W = R.W := rfl
theorem Rc.s_he_d (R : Rc) (x : Nat) : (R.s_he x).d = R.d := rfl
theorem Rc.s_he_k (R : Rc) (x : Nat) : (R.s_he x).k = R.k := rfl
theorem Rc.s_he_h (R : Rc) (x : Nat) : (R.s_he x).h = R.h := rfl
theorem Rc.s_he_r (R : Rc) (x : Nat) : (R.s_he x).r = R.r := rfl
theorem Rc.s_he_s (R : Rc) (x : Nat) : (R.s_he x).s = R.s := rfl
theorem Rc.s_he_p (R : Rc) (x : Nat) : (R.s_he x).p = R.p := rfl
theorem Rc.s_he_f (R : Rc) (x : Nat) : (R.s_he x).f = R.f := rfl
theorem Rc.s_he_now (R : Rc) (x : Nat) : (R.s_he x).now = R.now := rfl
theorem Rc.s_he_sk (R : Rc) (x : Nat) : (R.s_he x).sk = R.sk := rfl
theorem Rc.s_he_mn (R : Rc) (x : Nat) : (R.s_he x).mn = R.mn := rfl
theorem Rc.s_he_he (R : Rc) (x : Nat) : (R.s_he x).he = x := rfl
theorem Rc.s_he_so (R : Rc) (x : Nat) : (R.s_he x).so = R.so := rfl
theorem Rc.s_so_n (R : Rc) (x : Nat) : (R.s_so x).n = R.n := rfl
theorem Rc.s_so_W (R : Rc) (x : Nat) : (R.s_so x).W = R.W := rfl
theorem Rc.s_so_d (R : Rc) (x : Nat) : (R.s_so x).d = R.d := rfl
theorem Rc.s_so_k (R : Rc) (x : Nat) : (R.s_so x).k = R.k := rfl
theorem Rc.s_so_h (R : Rc) (x : Nat) : (R.s_so x).h = R.h := rfl
theorem Rc.s_so_r (R : Rc) (x : Nat) : (R.s_so x).r = R.r := rfl
theorem Rc.s_so_s (R : Rc) (x : Nat) : (R.s_so x).s = R.s := rfl
theorem Rc.s_so_p (R : Rc) (x : Nat) : (R.s_so x).p = R.p := rfl
theorem Rc.s_so_f (R : Rc) (x : Nat) : (R.s_so x).f = R.f := rfl
theorem Rc.s_so_now (R : Rc) (x : Nat) : (R.s_so x).now = R.now := rfl
theorem Rc.s_so_sk (R : Rc) (x : Nat) : (R.s_so x).sk = R.sk := rfl
theorem Rc.s_so_mn (R : Rc) (x : Nat) : (R.s_so x).mn = R.mn := rfl
theorem Rc.s_so_he (R : Rc) (x : Nat) : (R.s_so x).he = R.he := rfl
theorem Rc.s_so_so (R : Rc) (x : Nat) : (R.s_so x).so = x := rfl
theorem rcS : ((∀ (n : Nat) (W : Nat) (d : Nat → Nat) (k : Nat → Nat) (h : Nat → Nat) (r : Nat → Int) (s : Nat → Nat) (p : Nat → Nat) (f : Nat → Nat) (now : Nat) (sk : Nat → Nat) (mn : Nat) (he : Nat) (so : Nat), (Rc.mk n W d k h r s p f now sk mn he so).n = n) ∧ (∀ (n : Nat) (W : Nat) (d : Nat → Nat) (k : Nat → Nat) (h : Nat → Nat) (r : Nat → Int) (s : Nat → Nat) (p : Nat → Nat) (f : Nat → Nat) (now : Nat) (sk : Nat → Nat) (mn : Nat) (he : Nat) (so : Nat), (Rc.mk n W d k h r s p f now sk mn he so).W = W) ∧ (∀ (n : Nat) (W : Nat) (d : Nat → Nat) (k : Nat → Nat) (h : Nat → Nat) (r : Nat → Int) (s : Nat → Nat) (p : Nat → Nat) (f : Nat → Nat) (now : Nat) (sk : Nat → Nat) (mn : Nat) (he : Nat) (so : Nat), (Rc.mk n W d k h r s p f now sk mn he so).d = d) ∧ (∀ (n : Nat) (W : Nat) (d : Nat → Nat) (k : Nat → Nat) (h : Nat → Nat) (r : Nat → Int) (s : Nat → Nat) (p : Nat → Nat) (f : Nat → Nat) (now : Nat) (sk : Nat → Nat) (mn : Nat) (he : Nat) (so : Nat), (Rc.mk n W d k h r s p f now sk mn he so).k = k) ∧ (∀ (n : Nat) (W : Nat) (d : Nat → Nat) (k : Nat → Nat) (h : Nat → Nat) (r : Nat → Int) (s : Nat → Nat) (p : Nat → Nat) (f : Nat → Nat) (now : Nat) (sk : Nat → Nat) (mn : Nat) (he : Nat) (so : Nat), (Rc.mk n W d k h r s p f now sk mn he so).h = h) ∧ (∀ (n : Nat) (W : Nat) (d : Nat → Nat) (k : Nat → Nat) (h : Nat → Nat) (r : Nat → Int) (s : Nat → Nat) (p : Nat → Nat) (f : Nat → Nat) (now : Nat) (sk : Nat → Nat) (mn : Nat) (he : Nat) (so : Nat), (Rc.mk n W d k h r s p f now sk mn he so).r = r) ∧ (∀ (n : Nat) (W : Nat) (d : Nat → Nat) (k : Nat → Nat) (h : Nat → Nat) (r : Nat → Int) (s : Nat → Nat) (p : Nat → Nat) (f : Nat → Nat) (now : Nat) (sk : Nat → Nat) (mn : Nat) (he : Nat) (so : Nat), (Rc.mk n W d k h r s p f now sk mn he so).s = s) ∧ (∀ (n : Nat) (W : Nat) (d : Nat → Nat) (k : Nat → Nat) (h : Nat → Nat) (r : Nat → Int) (s : Nat → Nat) (p : Nat → Nat) (f : Nat → Nat) (now : Nat) (sk : Nat → Nat) (mn : Nat) (he : Nat) (so : Nat), (Rc.mk n W d k h r s p f now sk mn he so).p = p) ∧ (∀ (n : Nat) (W : Nat) (d : Nat → Nat) (k : Nat → Nat) (h : Nat → Nat) (r : Nat → Int) (s : Nat → Nat) (p : Nat → Nat) (f : Nat → Nat) (now : Nat) (sk : Nat → Nat) (mn : Nat) (he : Nat) (so : Nat), (Rc.mk n W d k h r s p f now sk mn he so).f = f) ∧ (∀ (n : Nat) (W : Nat) (d : Nat → Nat) (k : Nat → Nat) (h : Nat → Nat) (r : Nat → Int) (s : Nat → Nat) (p : Nat → Nat) (f : Nat → Nat) (now : Nat) (sk : Nat → Nat) (mn : Nat) (he : Nat) (so : Nat), (Rc.mk n W d k h r s p f now sk mn he so).now = now) ∧ (∀ (n : Nat) (W : Nat) (d : Nat → Nat) (k : Nat → Nat) (h : Nat → Nat) (r : Nat → Int) (s : Nat → Nat) (p : Nat → Nat) (f : Nat → Nat) (now : Nat) (sk : Nat → Nat) (mn : Nat) (he : Nat) (so : Nat), (Rc.mk n W d k h r s p f now sk mn he so).sk = sk) ∧ (∀ (n : Nat) (W : Nat) (d : Nat → Nat) (k : Nat → Nat) (h : Nat → Nat) (r : Nat → Int) (s : Nat → Nat) (p : Nat → Nat) (f : Nat → Nat) (now : Nat) (sk : Nat → Nat) (mn : Nat) (he : Nat) (so : Nat), (Rc.mk n W d k h r s p f now sk mn he so).mn = mn) ∧ (∀ (n : Nat) (W : Nat) (d : Nat → Nat) (k : Nat → Nat) (h : Nat → Nat) (r : Nat → Int) (s : Nat → Nat) (p : Nat → Nat) (f : Nat → Nat) (now : Nat) (sk : Nat → Nat) (mn : Nat) (he : Nat) (so : Nat), (Rc.mk n W d k h r s p f now sk mn he so).he = he) ∧ (∀ (n : Nat) (W : Nat) (d : Nat → Nat) (k : Nat → Nat) (h : Nat → Nat) (r : Nat → Int) (s : Nat → Nat) (p : Nat → Nat) (f : Nat → Nat) (now : Nat) (sk : Nat → Nat) (mn : Nat) (he : Nat) (so : Nat), (Rc.mk n W d k h r s p f now sk mn he so).so = so)) ∧ ((∀ (R : Rc) (x : Nat), (R.s_n x).n = x) ∧ (∀ (R : Rc) (x : Nat), (R.s_n x).W = R.W) ∧ (∀ (R : Rc) (x : Nat), (R.s_n x).d = R.d) ∧ (∀ (R : Rc) (x : Nat), (R.s_n x).k = R.k) ∧ (∀ (R : Rc) (x : Nat), (R.s_n x).h = R.h) ∧ (∀ (R : Rc) (x : Nat), (R.s_n x).r = R.r) ∧ (∀ (R : Rc) (x : Nat), (R.s_n x).s = R.s) ∧ (∀ (R : Rc) (x : Nat), (R.s_n x).p = R.p) ∧ (∀ (R : Rc) (x : Nat), (R.s_n x).f = R.f) ∧ (∀ (R : Rc) (x : Nat), (R.s_n x).now = R.now) ∧ (∀ (R : Rc) (x : Nat), (R.s_n x).sk = R.sk) ∧ (∀ (R : Rc) (x : Nat), (R.s_n x).mn = R.mn) ∧ (∀ (R : Rc) (x : Nat), (R.s_n x).he = R.he) ∧ (∀ (R : Rc) (x : Nat), (R.s_n x).so = R.so)) ∧ ((∀ (R : Rc) (x : Nat), (R.s_W x).n = R.n) ∧ (∀ (R : Rc) (x : Nat), (R.s_W x).W = x) ∧ (∀ (R : Rc) (x : Nat), (R.s_W x).d = R.d) ∧ (∀ (R : Rc) (x : Nat), (R.s_W x).k = R.k) ∧ (∀ (R : Rc) (x : Nat), (R.s_W x).h = R.h) ∧ (∀ (R : Rc) (x : Nat), (R.s_W x).r = R.r) ∧ (∀ (R : Rc) (x : Nat), (R.s_W x).s = R.s) ∧ (∀ (R : Rc) (x : Nat), (R.s_W x).p = R.p) ∧ (∀ (R : Rc) (x : Nat), (R.s_W x).f = R.f) ∧ (∀ (R : Rc) (x : Nat), (R.s_W x).now = R.now) ∧ (∀ (R : Rc) (x : Nat), (R.s_W x).sk = R.sk) ∧ (∀ (R : Rc) (x : Nat), (R.s_W x).mn = R.mn) ∧ (∀ (R : Rc) (x : Nat), (R.s_W x).he = R.he) ∧ (∀ (R : Rc) (x : Nat), (R.s_W x).so = R.so)) ∧ ((∀ (R : Rc) (x : Nat → Nat), (R.s_d x).n = R.n) ∧ (∀ (R : Rc) (x : Nat → Nat), (R.s_d x).W = R.W) ∧ (∀ (R : Rc) (x : Nat → Nat), (R.s_d x).d = x) ∧ (∀ (R : Rc) (x : Nat → Nat), (R.s_d x).k = R.k) ∧ (∀ (R : Rc) (x : Nat → Nat), (R.s_d x).h = R.h) ∧ (∀ (R : Rc) (x : Nat → Nat), (R.s_d x).r = R.r) ∧ (∀ (R : Rc) (x : Nat → Nat), (R.s_d x).s = R.s) ∧ (∀ (R : Rc) (x : Nat → Nat), (R.s_d x).p = R.p) ∧ (∀ (R : Rc) (x : Nat → Nat), (R.s_d x).f = R.f) ∧ (∀ (R : Rc) (x : Nat → Nat), (R.s_d x).now = R.now) ∧ (∀ (R : Rc) (x : Nat → Nat), (R.s_d x).sk = R.sk) ∧ (∀ (R : Rc) (x : Nat → Nat), (R.s_d x).mn = R.mn) ∧ (∀ (R : Rc) (x : Nat → Nat), (R.s_d x).he = R.he) ∧ (∀ (R : Rc) (x : Nat → Nat), (R.s_d x).so = R.so)) ∧ ((∀ (R : Rc) (x : Nat → Nat), (R.s_k x).n = R.n) ∧ (∀ (R : Rc) (x : Nat → Nat), (R.s_k x).W = R.W) ∧ (∀ (R : Rc) (x : Nat → Nat), (R.s_k x).d = R.d) ∧ (∀ (R : Rc) (x : Nat → Nat), (R.s_k x).k = x) ∧ (∀ (R : Rc) (x : Nat → Nat), (R.s_k x).h = R.h) ∧ (∀ (R : Rc) (x : Nat → Nat), (R.s_k x).r = R.r) ∧ (∀ (R : Rc) (x : Nat → Nat), (R.s_k x).s = R.s) ∧ (∀ (R : Rc) (x : Nat → Nat), (R.s_k x).p = R.p) ∧ (∀ (R : Rc) (x : Nat → Nat), (R.s_k x).f = R.f) ∧ (∀ (R : Rc) (x : Nat → Nat), (R.s_k x).now = R.now) ∧ (∀ (R : Rc) (x : Nat → Nat), (R.s_k x).sk = R.sk) ∧ (∀ (R : Rc) (x : Nat → Nat), (R.s_k x).mn = R.mn) ∧ (∀ (R : Rc) (x : Nat → Nat), (R.s_k x).he = R.he) ∧ (∀ (R : Rc) (x : Nat → Nat), (R.s_k x).so = R.so)) ∧ ((∀ (R : Rc) (x : Nat → Nat), (R.s_h x).n = R.n) ∧ (∀ (R : Rc) (x : Nat → Nat), (R.s_h x).W = R.W) ∧ (∀ (R : Rc) (x : Nat → Nat), (R.s_h x).d = R.d) ∧ (∀ (R : Rc) (x : Nat → Nat), (R.s_h x).k = R.k) ∧ (∀ (R : Rc) (x : Nat → Nat), (R.s_h x).h = x) ∧ (∀ (R : Rc) (x : Nat → Nat), (R.s_h x).r = R.r) ∧ (∀ (R : Rc) (x : Nat → Nat), (R.s_h x).s = R.s) ∧ (∀ (R : Rc) (x : Nat → Nat), (R.s_h x).p = R.p) ∧ (∀ (R : Rc) (x : Nat → Nat), (R.s_h x).f = R.f) ∧ (∀ (R : Rc) (x : Nat → Nat), (R.s_h x).now = R.now) ∧ (∀ (R : Rc) (x : Nat → Nat), (R.s_h x).sk = R.sk) ∧ (∀ (R : Rc) (x : Nat → Nat), (R.s_h x).mn = R.mn) ∧ (∀ (R : Rc) (x : Nat → Nat), (R.s_h x).he = R.he) ∧ (∀ (R : Rc) (x : Nat → Nat), (R.s_h x).so = R.so)) ∧ ((∀ (R : Rc) (x : Nat → Int), (R.s_r x).n = R.n) ∧ (∀ (R : Rc) (x : Nat → Int), (R.s_r x).W = R.W) ∧ (∀ (R : Rc) (x : Nat → Int), (R.s_r x).d = R.d) ∧ (∀ (R : Rc) (x : Nat → Int), (R.s_r x).k = R.k) ∧ (∀ (R : Rc) (x : Nat → Int), (R.s_r x).h = R.h) ∧ (∀ (R : Rc) (x : Nat → Int), (R.s_r x).r = x) ∧ (∀ (R : Rc) (x : Nat → Int), (R.s_r x).s = R.s) ∧ (∀ (R : Rc) (x : Nat → Int), (R.s_r x).p = R.p) ∧ (∀ (R : Rc) (x : Nat → Int), (R.s_r x).f = R.f) ∧ (∀ (R : Rc) (x : Nat → Int), (R.s_r x).now = R.now) ∧ (∀ (R : Rc) (x : Nat → Int), (R.s_r x).sk = R.sk) ∧ (∀ (R : Rc) (x : Nat → Int), (R.s_r x).mn = R.mn) ∧ (∀ (R : Rc) (x : Nat → Int), (R.s_r x).he = R.he) ∧ (∀ (R : Rc) (x : Nat → Int), (R.s_r x).so = R.so)) ∧ ((∀ (R : Rc) (x : Nat → Nat), (R.s_s x).n = R.n) ∧ (∀ (R : Rc) (x : Nat → Nat), (R.s_s x).W = R.W) ∧ (∀ (R : Rc) (x : Nat → Nat), (R.s_s x).d = R.d) ∧ (∀ (R : Rc) (x : Nat → Nat), (R.s_s x).k = R.k) ∧ (∀ (R : Rc) (x : Nat → Nat), (R.s_s x).h = R.h) ∧ (∀ (R : Rc) (x : Nat → Nat), (R.s_s x).r = R.r) ∧ (∀ (R : Rc) (x : Nat → Nat), (R.s_s x).s = x) ∧ (∀ (R : Rc) (x : Nat → Nat), (R.s_s x).p = R.p) ∧ (∀ (R : Rc) (x : Nat → Nat), (R.s_s x).f = R.f) ∧ (∀ (R : Rc) (x : Nat → Nat), (R.s_s x).now = R.now) ∧ (∀ (R : Rc) (x : Nat → Nat), (R.s_s x).sk = R.sk) ∧ (∀ (R : Rc) (x : Nat → Nat), (R.s_s x).mn = R.mn) ∧ (∀ (R : Rc) (x : Nat → Nat), (R.s_s x).he = R.he) ∧ (∀ (R : Rc) (x : Nat → Nat), (R.s_s x).so = R.so)) ∧ ((∀ (R : Rc) (x : Nat → Nat), (R.s_p x).n = R.n) ∧ (∀ (R : Rc) (x : Nat → Nat), (R.s_p x).W = R.W) ∧ (∀ (R : Rc) (x : Nat → Nat), (R.s_p x).d = R.d) ∧ (∀ (R : Rc) (x : Nat → Nat), (R.s_p x).k = R.k) ∧ (∀ (R : Rc) (x : Nat → Nat), (R.s_p x).h = R.h) ∧ (∀ (R : Rc) (x : Nat → Nat), (R.s_p x).r = R.r) ∧ (∀ (R : Rc) (x : Nat → Nat), (R.s_p x).s = R.s) ∧ (∀ (R : Rc) (x : Nat → Nat), (R.s_p x).p = x) ∧ (∀ (R : Rc) (x : Nat → Nat), (R.s_p x).f = R.f) ∧ (∀ (R : Rc) (x : Nat → Nat), (R.s_p x).now = R.now) ∧ (∀ (R : Rc) (x : Nat → Nat), (R.s_p x).sk = R.sk) ∧ (∀ (R : Rc) (x : Nat → Nat), (R.s_p x).mn = R.mn) ∧ (∀ (R : Rc) (x : Nat → Nat), (R.s_p x).he = R.he) ∧ (∀ (R : Rc) (x : Nat → Nat), (R.s_p x).so = R.so)) ∧ ((∀ (R : Rc) (x : Nat → Nat), (R.s_f x).n = R.n) ∧ (∀ (R : Rc) (x : Nat → Nat), (R.s_f x).W = R.W) ∧ (∀ (R : Rc) (x : Nat → Nat), (R.s_f x).d = R.d) ∧ (∀ (R : Rc) (x : Nat → Nat), (R.s_f x).k = R.k) ∧ (∀ (R : Rc) (x : Nat → Nat), (R.s_f x).h = R.h) ∧ (∀ (R : Rc) (x : Nat → Nat), (R.s_f x).r = R.r) ∧ (∀ (R : Rc) (x : Nat → Nat), (R.s_f x).s = R.s) ∧ (∀ (R : Rc) (x : Nat → Nat), (R.s_f x).p = R.p) ∧ (∀ (R : Rc) (x : Nat → Nat), (R.s_f x).f = x) ∧ (∀ (R : Rc) (x : Nat → Nat), (R.s_f x).now = R.now) ∧ (∀ (R : Rc) (x : Nat → Nat), (R.s_f x).sk = R.sk) ∧ (∀ (R : Rc) (x : Nat → Nat), (R.s_f x).mn = R.mn) ∧ (∀ (R : Rc) (x : Nat → Nat), (R.s_f x).he = R.he) ∧ (∀ (R : Rc) (x : Nat → Nat), (R.s_f x).so = R.so)) ∧ ((∀ (R : Rc) (x : Nat), (R.s_now x).n = R.n) ∧ (∀ (R : Rc) (x : Nat), (R.s_now x).W = R.W) ∧ (∀ (R : Rc) (x : Nat), (R.s_now x).d = R.d) ∧ (∀ (R : Rc) (x : Nat), (R.s_now x).k = R.k) ∧ (∀ (R : Rc) (x : Nat), (R.s_now x).h = R.h) ∧ (∀ (R : Rc) (x : Nat), (R.s_now x).r = R.r) ∧ (∀ (R : Rc) (x : Nat), (R.s_now x).s = R.s) ∧ (∀ (R : Rc) (x : Nat), (R.s_now x).p = R.p) ∧ (∀ (R : Rc) (x : Nat), (R.s_now x).f = R.f) ∧ (∀ (R : Rc) (x : Nat), (R.s_now x).now = x) ∧ (∀ (R : Rc) (x : Nat), (R.s_now x).sk = R.sk) ∧ (∀ (R : Rc) (x : Nat), (R.s_now x).mn = R.mn) ∧ (∀ (R : Rc) (x : Nat), (R.s_now x).he = R.he) ∧ (∀ (R : Rc) (x : Nat), (R.s_now x).so = R.so)) ∧ ((∀ (R : Rc) (x : Nat → Nat), (R.s_sk x).n = R.n) ∧ (∀ (R : Rc) (x : Nat → Nat), (R.s_sk x).W = R.W) ∧ (∀ (R : Rc) (x : Nat → Nat), (R.s_sk x).d = R.d) ∧ (∀ (R : Rc) (x : Nat → Nat), (R.s_sk x).k = R.k) ∧ (∀ (R : Rc) (x : Nat → Nat), (R.s_sk x).h = R.h) ∧ (∀ (R : Rc) (x : Nat → Nat), (R.s_sk x).r = R.r) ∧ (∀ (R : Rc) (x : Nat → Nat), (R.s_sk x).s = R.s) ∧ (∀ (R : Rc) (x : Nat → Nat), (R.s_sk x).p = R.p) ∧ (∀ (R : Rc) (x : Nat → Nat), (R.s_sk x).f = R.f) ∧ (∀ (R : Rc) (x : Nat → Nat), (R.s_sk x).now = R.now) ∧ (∀ (R : Rc) (x : Nat → Nat), (R.s_sk x).sk = x) ∧ (∀ (R : Rc) (x : Nat → Nat), (R.s_sk x).mn = R.mn) ∧ (∀ (R : Rc) (x : Nat → Nat), (R.s_sk x).he = R.he) ∧ (∀ (R : Rc) (x : Nat → Nat), (R.s_sk x).so = R.so)) ∧ ((∀ (R : Rc) (x : Nat), (R.s_mn x).n = R.n) ∧ (∀ (R : Rc) (x : Nat), (R.s_mn x).W = R.W) ∧ (∀ (R : Rc) (x : Nat), (R.s_mn x).d = R.d) ∧ (∀ (R : Rc) (x : Nat), (R.s_mn x).k = R.k) ∧ (∀ (R : Rc) (x : Nat), (R.s_mn x).h = R.h) ∧ (∀ (R : Rc) (x : Nat), (R.s_mn x).r = R.r) ∧ (∀ (R : Rc) (x : Nat), (R.s_mn x).s = R.s) ∧ (∀ (R : Rc) (x : Nat), (R.s_mn x).p = R.p) ∧ (∀ (R : Rc) (x : Nat), (R.s_mn x).f = R.f) ∧ (∀ (R : Rc) (x : Nat), (R.s_mn x).now = R.now) ∧ (∀ (R : Rc) (x : Nat), (R.s_mn x).sk = R.sk) ∧ (∀ (R : Rc) (x : Nat), (R.s_mn x).mn = x) ∧ (∀ (R : Rc) (x : Nat), (R.s_mn x).he = R.he) ∧ (∀ (R : Rc) (x : Nat), (R.s_mn x).so = R.so)) ∧ ((∀ (R : Rc) (x : Nat), (R.s_he x).n = R.n) ∧ (∀ (R : Rc) (x : Nat), (R.s_he x).W = R.W) ∧ (∀ (R : Rc) (x : Nat), (R.s_he x).d = R.d) ∧ (∀ (R : Rc) (x : Nat), (R.s_he x).k = R.k) ∧ (∀ (R : Rc) (x : Nat), (R.s_he x).h = R.h) ∧ (∀ (R : Rc) (x : Nat), (R.s_he x).r = R.r) ∧ (∀ (R : Rc) (x : Nat), (R.s_he x).s = R.s) ∧ (∀ (R : Rc) (x : Nat), (R.s_he x).p = R.p) ∧ (∀ (R : Rc) (x : Nat), (R.s_he x).f = R.f) ∧ (∀ (R : Rc) (x : Nat), (R.s_he x).now = R.now) ∧ (∀ (R : Rc) (x : Nat), (R.s_he x).sk = R.sk) ∧ (∀ (R : Rc) (x : Nat), (R.s_he x).mn = R.mn) ∧ (∀ (R : Rc) (x : Nat), (R.s_he x).he = x) ∧ (∀ (R : Rc) (x : Nat), (R.s_he x).so = R.so)) ∧ ((∀ (R : Rc) (x : Nat), (R.s_so x).n = R.n) ∧ (∀ (R : Rc) (x : Nat), (R.s_so x).W = R.W) ∧ (∀ (R : Rc) (x : Nat), (R.s_so x).d = R.d) ∧ (∀ (R : Rc) (x : Nat), (R.s_so x).k = R.k) ∧ (∀ (R : Rc) (x : Nat), (R.s_so x).h = R.h) ∧ (∀ (R : Rc) (x : Nat), (R.s_so x).r = R.r) ∧ (∀ (R : Rc) (x : Nat), (R.s_so x).s = R.s) ∧ (∀ (R : Rc) (x : Nat), (R.s_so x).p = R.p) ∧ (∀ (R : Rc) (x : Nat), (R.s_so x).f = R.f) ∧ (∀ (R : Rc) (x : Nat), (R.s_so x).now = R.now) ∧ (∀ (R : Rc) (x : Nat), (R.s_so x).sk = R.sk) ∧ (∀ (R : Rc) (x : Nat), (R.s_so x).mn = R.mn) ∧ (∀ (R : Rc) (x : Nat), (R.s_so x).he = R.he) ∧ (∀ (R : Rc) (x : Nat), (R.s_so x).so = x)) := ⟨⟨fun _ _ _ _ _ _ _ _ _ _ _ _ _ _ => rfl, fun _ _ _ _ _ _ _ _ _ _ _ _ _ _ => rfl, fun _ _ _ _ _ _ _ _ _ _ _ _ _ _ => rfl, fun _ _ _ _ _ _ _ _ _ _ _ _ _ _ => rfl, fun _ _ _ _ _ _ _ _ _ _ _ _ _ _ => rfl, fun _ _ _ _ _ _ _ _ _ _ _ _ _ _ => rfl, fun _ _ _ _ _ _ _ _ _ _ _ _ _ _ => rfl, fun _ _ _ _ _ _ _ _ _ _ _ _ _ _ => rfl, fun _ _ _ _ _ _ _ _ _ _ _ _ _ _ => rfl, fun _ _ _ _ _ _ _ _ _ _ _ _ _ _ => rfl, fun _ _ _ _ _ _ _ _ _ _ _ _ _ _ => rfl, fun _ _ _ _ _ _ _ _ _ _ _ _ _ _ => rfl, fun _ _ _ _ _ _ _ _ _ _ _ _ _ _ => rfl, fun _ _ _ _ _ _ _ _ _ _ _ _ _ _ => rfl⟩, ⟨fun _ _ => rfl, fun _ _ => rfl, fun _ _ => rfl, fun _ _ => rfl, fun _ _ => rfl, fun _ _ => rfl, fun _ _ => rfl, fun _ _ => rfl, fun _ _ => rfl, fun _ _ => rfl, fun _ _ => rfl, fun _ _ => rfl, fun _ _ => rfl, fun _ _ => rfl⟩, ⟨fun _ _ => rfl, fun _ _ => rfl, fun _ _ => rfl, fun _ _ => rfl, fun _ _ => rfl, fun _ _ => rfl, fun _ _ => rfl, fun _ _ => rfl, fun _ _ => rfl, fun _ _ => rfl, fun _ _ => rfl, fun _ _ => rfl, fun _ _ => rfl, fun _ _ => rfl⟩, ⟨fun _ _ => rfl, fun _ _ => rfl, fun _ _ => rfl, fun _ _ => rfl, fun _ _ => rfl, fun _ _ => rfl, fun _ _ => rfl, fun _ _ => rfl, fun _ _ => rfl, fun _ _ => rfl, fun _ _ => rfl, fun _ _ => rfl, fun _ _ => rfl, fun _ _ => rfl⟩, ⟨fun _ _ => rfl, fun _ _ => rfl, fun _ _ => rfl, fun _ _ => rfl, fun _ _ => rfl, fun _ _ => rfl, fun _ _ => rfl, fun _ _ => rfl, fun _ _ => rfl, fun _ _ => rfl, fun _ _ => rfl, fun _ _ => rfl, fun _ _ => rfl, fun _ _ => rfl⟩, ⟨fun _ _ => rfl, fun _ _ => rfl, fun _ _ => rfl, fun _ _ => rfl, fun _ _ => rfl, fun _ _ => rfl, fun _ _ => rfl, fun _ _ => rfl, fun _ _ => rfl, fun _ _ => rfl, fun _ _ => rfl, fun _ _ => rfl, fun _ _ => rfl, fun _ _ => rfl⟩, ⟨fun _ _ => rfl, fun _ _ => rfl, fun _ _ => rfl, fun _ _ => rfl, fun _ _ => rfl, fun _ _ => rfl, fun _ _ => rfl, fun _ _ => rfl, fun _ _ => rfl, fun _ _ => rfl, fun _ _ => rfl, fun _ _ => rfl, fun _ _ => rfl, fun _ _ => rfl⟩, ⟨fun _ _ => rfl, fun _ _ => rfl, fun _ _ => rfl, fun _ _ => rfl, fun _ _ => rfl, fun _ _ => rfl, fun _ _ => rfl, fun _ _ => rfl, fun _ _ => rfl, fun _ _ => rfl, fun _ _ => rfl, fun _ _ => rfl, fun _ _ => rfl, fun _ _ => rfl⟩, ⟨fun _ _ => rfl, fun _ _ => rfl, fun _ _ => rfl, fun _ _ => rfl, fun _ _ => rfl, fun _ _ => rfl, fun _ _ => rfl, fun _ _ => rfl, fun _ _ => rfl, fun _ _ => rfl, fun _ _ => rfl, fun _ _ => rfl, fun _ _ => rfl, fun _ _ => rfl⟩, ⟨fun _ _ => rfl, fun _ _ => rfl, fun _ _ => rfl, fun _ _ => rfl, fun _ _ => rfl, fun _ _ => rfl, fun _ _ => rfl, fun _ _ => rfl, fun _ _ => rfl, fun _ _ => rfl, fun _ _ => rfl, fun _ _ => rfl, fun _ _ => rfl, fun _ _ => rfl⟩, ⟨fun _ _ => rfl, fun _ _ => rfl, fun _ _ => rfl, fun _ _ => rfl, fun _ _ => rfl, fun _ _ => rfl, fun _ _ => rfl, fun _ _ => rfl, fun _ _ => rfl, fun _ _ => rfl, fun _ _ => rfl, fun _ _ => rfl, fun _ _ => rfl, fun _ _ => rfl⟩, ⟨fun _ _ => rfl, fun _ _ => rfl, fun _ _ => rfl, fun _ _ => rfl, fun _ _ => rfl, fun _ _ => rfl, fun _ _ => rfl, fun _ _ => rfl, fun _ _ => rfl, fun _ _ => rfl, fun _ _ => rfl, fun _ _ => rfl, fun _ _ => rfl, fun _ _ => rfl⟩, ⟨fun _ _ => rfl, fun _ _ => rfl, fun _ _ => rfl, fun _ _ => rfl, fun _ _ => rfl, fun _ _ => rfl, fun _ _ => rfl, fun _ _ => rfl, fun _ _ => rfl, fun _ _ => rfl, fun _ _ => rfl, fun _ _ => rfl, fun _ _ => rfl, fun _ _ => rfl⟩, ⟨fun _ _ => rfl, fun _ _ => rfl, fun _ _ => rfl, fun _ _ => rfl, fun _ _ => rfl, fun _ _ => rfl, fun _ _ => rfl, fun _ _ => rfl, fun _ _ => rfl, fun _ _ => rfl, fun _ _ => rfl, fun _ _ => rfl, fun _ _ => rfl, fun _ _ => rfl⟩, ⟨fun _ _ => rfl, fun _ _ => rfl, fun _ _ => rfl, fun _ _ => rfl, fun _ _ => rfl, fun _ _ => rfl, fun _ _ => rfl, fun _ _ => rfl, fun _ _ => rfl, fun _ _ => rfl, fun _ _ => rfl, fun _ _ => rfl, fun _ _ => rfl, fun _ _ => rfl⟩⟩
def up {α : Type} (f : Nat → α) (i : Nat) (v : α) : Nat → α := fun j => if j = i then v else f j
theorem up_self {α : Type} (f : Nat → α) (i : Nat) (v : α) : up f i v i = v := by simp [up]
theorem up_ne {α : Type} (f : Nat → α) {i j : Nat} (v : α) (h : j ≠ i) : up f i v j = f j := by simp [up, h]
def Rc.truth (R : Rc) : Nat := 60 * R.now % 720
/-- what the clock c shows -/
def Rc.sh (R : Rc) : Nat → Nat
  | 0 => if R.k 0 = 3 then R.truth else R.h 0
  | c + 1 => if R.k (c + 1) = 4 then Rc.sh R c else if R.k (c + 1) = 3 then R.truth else R.h (c + 1)
def Rc.stk (R : Rc) (c : Nat) : Nat := R.sh c / 60
def stro (v : Nat) : Nat := if v = 0 then 12 else v
/-- whether the clock c goes on, by the weather w -/
abbrev Rc.goC (R : Rc) (w c : Nat) : Prop := ¬ (R.k c = 3 ∧ w ≠ 0) ∧ (R.d (R.p c + 1) = 12 ∨ R.d (R.p c + 1) = R.stk c ∨ (R.k c = 5 ∧ R.now % 6 = 0))
def Rc.far (R : Rc) (w c : Nat) : Nat := if R.k c = 1 ∧ w = 1 then 2 else 1
def Rc.next (R : Rc) (w c : Nat) : Nat := if R.p c + R.far w c ≤ R.W - 1 then R.p c + R.far w c else R.W - 1
/-- one goes on; its finish is told at once -/
def Rc.mv (R : Rc) (w c : Nat) : Rc := Rc.mk (R.n) (R.W) (up R.d (R.p c) (R.stk c)) (R.k) (R.h) (R.r) (R.s) (up R.p c (R.next w c)) (if R.next w c = R.W - 1 then up R.f c (R.now + 1) else R.f) (R.now) (R.sk) (R.mn) (if w = 2 then R.he else R.he ||| 2 ^ c) (if w = 2 then R.so else R.so + stro (R.stk c))
def Rc.quiet (R : Rc) : Rc := Rc.mk (R.n) (R.W) (R.d) (R.k) (R.h) (R.r) (R.s) (R.p) (R.f) (R.now) (R.sk) (R.mn) (0) (0)
/-- the clock c's turn -/
def Rc.t1 (w c : Nat) (q : Rc × Nat) : Rc × Nat := if q.1.p c ≠ q.1.W - 1 ∧ q.1.goC w c then (q.1.mv w c, q.2 + 1) else q
def Rc.lp (R : Rc) (w : Nat) : Nat → Rc × Nat
  | 0 => (R.quiet, 0)
  | c + 1 => Rc.t1 w c (Rc.lp R w c)
def Rc.run1 (R : Rc) (c : Nat) : Rc := if R.k c ≠ 2 ∧ R.k c ≠ 3 ∧ 0 < R.s c then Rc.mk (R.n) (R.W) (R.d) (R.k) (up R.h c ((((R.h c : Int) + 60 + R.r c) % 720).toNat)) (R.r) (up R.s c (R.s c - 1)) (R.p) (R.f) (R.now) (R.sk) (R.mn) (R.he) (R.so) else R
def Rc.lr (R : Rc) : Nat → Rc
  | 0 => R
  | c + 1 => (Rc.lr R c).run1 c
def Rc.later (R : Rc) : Rc := Rc.mk (R.n) (R.W) (R.d) (R.k) (R.h) (R.r) (R.s) (R.p) (R.f) (R.now + 1) (R.sk) (R.mn) (R.he) (R.so)
/-- an hour by the weather w -/
def Rc.go (R : Rc) (w : Nat) : Rc := (Rc.lr (Rc.lp R w R.n).1 R.n).later
def Rc.goN (R : Rc) (w : Nat) : Nat := (Rc.lp R w R.n).2
/-- what holds of every race -/
def Rc.Ba (R : Rc) : Prop := (R.n ≤ 9) ∧ (2 ≤ R.W) ∧ (R.W ≤ 24) ∧ (∀ w, w < 24 → R.d w ≤ 12) ∧ (∀ c, c < R.n → R.k c ≤ 5) ∧ (∀ c, c < R.n → R.h c < 720) ∧ (∀ c, c < R.n → -30 ≤ R.r c) ∧ (∀ c, c < R.n → R.r c ≤ 30) ∧ (∀ c, c < R.n → R.s c ≤ 99) ∧ (∀ c, c < R.n → R.p c < R.W) ∧ (R.now < 100000) ∧ (∀ j, j < 12 → R.sk j ≤ 3) ∧ (1 ≤ R.mn) ∧ (R.mn ≤ 12)
theorem Rc.Ba.n {R : Rc} (H : Rc.Ba R) : R.n ≤ 9 := H.1
theorem Rc.Ba.W0 {R : Rc} (H : Rc.Ba R) : 2 ≤ R.W := H.2.1
theorem Rc.Ba.W1 {R : Rc} (H : Rc.Ba R) : R.W ≤ 24 := H.2.2.1
theorem Rc.Ba.d {R : Rc} (H : Rc.Ba R) : ∀ w, w < 24 → R.d w ≤ 12 := H.2.2.2.1
theorem Rc.Ba.k {R : Rc} (H : Rc.Ba R) : ∀ c, c < R.n → R.k c ≤ 5 := H.2.2.2.2.1
theorem Rc.Ba.h {R : Rc} (H : Rc.Ba R) : ∀ c, c < R.n → R.h c < 720 := H.2.2.2.2.2.1
theorem Rc.Ba.r0 {R : Rc} (H : Rc.Ba R) : ∀ c, c < R.n → -30 ≤ R.r c := H.2.2.2.2.2.2.1
theorem Rc.Ba.r1 {R : Rc} (H : Rc.Ba R) : ∀ c, c < R.n → R.r c ≤ 30 := H.2.2.2.2.2.2.2.1
theorem Rc.Ba.s {R : Rc} (H : Rc.Ba R) : ∀ c, c < R.n → R.s c ≤ 99 := H.2.2.2.2.2.2.2.2.1
theorem Rc.Ba.p {R : Rc} (H : Rc.Ba R) : ∀ c, c < R.n → R.p c < R.W := H.2.2.2.2.2.2.2.2.2.1
theorem Rc.Ba.now {R : Rc} (H : Rc.Ba R) : R.now < 100000 := H.2.2.2.2.2.2.2.2.2.2.1
theorem Rc.Ba.sk {R : Rc} (H : Rc.Ba R) : ∀ j, j < 12 → R.sk j ≤ 3 := H.2.2.2.2.2.2.2.2.2.2.2.1
theorem Rc.Ba.mn0 {R : Rc} (H : Rc.Ba R) : 1 ≤ R.mn := H.2.2.2.2.2.2.2.2.2.2.2.2.1
theorem Rc.Ba.mn1 {R : Rc} (H : Rc.Ba R) : R.mn ≤ 12 := H.2.2.2.2.2.2.2.2.2.2.2.2.2
def Rc.OK (R : Rc) : Prop := (R.Ba) ∧ (∀ c, c < R.n → (R.f c = 0 ↔ R.p c ≠ R.W - 1)) ∧ (∀ c, c < R.n → R.f c ≤ R.now) ∧ (R.he < 2 ^ R.n) ∧ (R.so ≤ 108)
theorem Rc.OK.b {R : Rc} (H : Rc.OK R) : R.Ba := H.1
theorem Rc.OK.f {R : Rc} (H : Rc.OK R) : ∀ c, c < R.n → (R.f c = 0 ↔ R.p c ≠ R.W - 1) := H.2.1
theorem Rc.OK.f1 {R : Rc} (H : Rc.OK R) : ∀ c, c < R.n → R.f c ≤ R.now := H.2.2.1
theorem Rc.OK.he {R : Rc} (H : Rc.OK R) : R.he < 2 ^ R.n := H.2.2.2.1
theorem Rc.OK.so {R : Rc} (H : Rc.OK R) : R.so ≤ 108 := H.2.2.2.2
theorem Rc.sh_lt {R : Rc} (H : R.Ba) : ∀ c, c < R.n → R.sh c < 720
  | 0, hc => by
    unfold Rc.sh
    split
    · exact Nat.mod_lt _ (by decide)
    · exact H.h 0 hc
  | c + 1, hc => by
    unfold Rc.sh
    split
    · exact Rc.sh_lt H c (by omega)
    · split
      · exact Nat.mod_lt _ (by decide)
      · exact H.h _ hc
theorem Rc.stk_lt {R : Rc} (H : R.Ba) {c : Nat} (hc : c < R.n) : R.stk c < 12 := by
  have := Rc.sh_lt H c hc
  unfold Rc.stk; omega
theorem Rc.next_lt (R : Rc) (w c : Nat) (h : 2 ≤ R.W) : R.next w c < R.W := by
  unfold Rc.next; split <;> omega
