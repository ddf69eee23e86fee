/-! THE WORLD (printed by gen/cw.py): Co: a race, bets (number, clocks, stakes), repairs that can be undone (number; kind 0 spring 1 hands 2 rate 3 dial; of which; what it was), the draw. Wv: the core, the image's core, whether there is an image, letters typed, sheets (lane + 1 or 0 for none, size, items) -/
set_option maxRecDepth 100000
def Co : Type := (Rc) × (Nat) × (Nat → Nat) × (Nat → Nat) × (Nat) × (Nat → Nat) × (Nat → Nat) × (Nat → Int) × (Nat)
def Co.mk (R : Rc) (bn : Nat) (bc : Nat → Nat) (bs : Nat → Nat) (un : Nat) (uk : Nat → Nat) (uw : Nat → Nat) (ua : Nat → Int) (dr : Nat) : Co := (R, bn, bc, bs, un, uk, uw, ua, dr)
def Co.R (R : Co) : Rc := R.1
def Co.bn (R : Co) : Nat := R.2.1
def Co.bc (R : Co) : Nat → Nat := R.2.2.1
def Co.bs (R : Co) : Nat → Nat := R.2.2.2.1
def Co.un (R : Co) : Nat := R.2.2.2.2.1
def Co.uk (R : Co) : Nat → Nat := R.2.2.2.2.2.1
def Co.uw (R : Co) : Nat → Nat := R.2.2.2.2.2.2.1
def Co.ua (R : Co) : Nat → Int := R.2.2.2.2.2.2.2.1
def Co.dr (R : Co) : Nat := R.2.2.2.2.2.2.2.2
theorem Co.R_mk (R : Rc) (bn : Nat) (bc : Nat → Nat) (bs : Nat → Nat) (un : Nat) (uk : Nat → Nat) (uw : Nat → Nat) (ua : Nat → Int) (dr : Nat) : (Co.mk R bn bc bs un uk uw ua dr).R = R := rfl
theorem Co.bn_mk (R : Rc) (bn : Nat) (bc : Nat → Nat) (bs : Nat → Nat) (un : Nat) (uk : Nat → Nat) (uw : Nat → Nat) (ua : Nat → Int) (dr : Nat) : (Co.mk R bn bc bs un uk uw ua dr).bn = bn := rfl
theorem Co.bc_mk (R : Rc) (bn : Nat) (bc : Nat → Nat) (bs : Nat → Nat) (un : Nat) (uk : Nat → Nat) (uw : Nat → Nat) (ua : Nat → Int) (dr : Nat) : (Co.mk R bn bc bs un uk uw ua dr).bc = bc := rfl
theorem Co.bs_mk (R : Rc) (bn : Nat) (bc : Nat → Nat) (bs : Nat → Nat) (un : Nat) (uk : Nat → Nat) (uw : Nat → Nat) (ua : Nat → Int) (dr : Nat) : (Co.mk R bn bc bs un uk uw ua dr).bs = bs := rfl
theorem Co.un_mk (R : Rc) (bn : Nat) (bc : Nat → Nat) (bs : Nat → Nat) (un : Nat) (uk : Nat → Nat) (uw : Nat → Nat) (ua : Nat → Int) (dr : Nat) : (Co.mk R bn bc bs un uk uw ua dr).un = un := rfl
theorem Co.uk_mk (R : Rc) (bn : Nat) (bc : Nat → Nat) (bs : Nat → Nat) (un : Nat) (uk : Nat → Nat) (uw : Nat → Nat) (ua : Nat → Int) (dr : Nat) : (Co.mk R bn bc bs un uk uw ua dr).uk = uk := rfl
theorem Co.uw_mk (R : Rc) (bn : Nat) (bc : Nat → Nat) (bs : Nat → Nat) (un : Nat) (uk : Nat → Nat) (uw : Nat → Nat) (ua : Nat → Int) (dr : Nat) : (Co.mk R bn bc bs un uk uw ua dr).uw = uw := rfl
theorem Co.ua_mk (R : Rc) (bn : Nat) (bc : Nat → Nat) (bs : Nat → Nat) (un : Nat) (uk : Nat → Nat) (uw : Nat → Nat) (ua : Nat → Int) (dr : Nat) : (Co.mk R bn bc bs un uk uw ua dr).ua = ua := rfl
theorem Co.dr_mk (R : Rc) (bn : Nat) (bc : Nat → Nat) (bs : Nat → Nat) (un : Nat) (uk : Nat → Nat) (uw : Nat → Nat) (ua : Nat → Int) (dr : Nat) : (Co.mk R bn bc bs un uk uw ua dr).dr = dr := rfl
def Co.s_R (C : Co) (x : Rc) : Co := Co.mk (x) (C.bn) (C.bc) (C.bs) (C.un) (C.uk) (C.uw) (C.ua) (C.dr)
def Co.s_bn (C : Co) (x : Nat) : Co := Co.mk (C.R) (x) (C.bc) (C.bs) (C.un) (C.uk) (C.uw) (C.ua) (C.dr)
def Co.s_bc (C : Co) (x : Nat → Nat) : Co := Co.mk (C.R) (C.bn) (x) (C.bs) (C.un) (C.uk) (C.uw) (C.ua) (C.dr)
def Co.s_bs (C : Co) (x : Nat → Nat) : Co := Co.mk (C.R) (C.bn) (C.bc) (x) (C.un) (C.uk) (C.uw) (C.ua) (C.dr)
def Co.s_un (C : Co) (x : Nat) : Co := Co.mk (C.R) (C.bn) (C.bc) (C.bs) (x) (C.uk) (C.uw) (C.ua) (C.dr)
def Co.s_uk (C : Co) (x : Nat → Nat) : Co := Co.mk (C.R) (C.bn) (C.bc) (C.bs) (C.un) (x) (C.uw) (C.ua) (C.dr)
def Co.s_uw (C : Co) (x : Nat → Nat) : Co := Co.mk (C.R) (C.bn) (C.bc) (C.bs) (C.un) (C.uk) (x) (C.ua) (C.dr)
def Co.s_ua (C : Co) (x : Nat → Int) : Co := Co.mk (C.R) (C.bn) (C.bc) (C.bs) (C.un) (C.uk) (C.uw) (x) (C.dr)
def Co.s_dr (C : Co) (x : Nat) : Co := Co.mk (C.R) (C.bn) (C.bc) (C.bs) (C.un) (C.uk) (C.uw) (C.ua) (x)
theorem Co.s_R_R (C : Co) (x : Rc) : (C.s_R x).R = x := rfl
theorem Co.s_R_bn (C : Co) (x : Rc) : (C.s_R x).bn = C.bn := rfl
theorem Co.s_R_bc (C : Co) (x : Rc) : (C.s_R x).bc = C.bc := rfl
theorem Co.s_R_bs (C : Co) (x : Rc) : (C.s_R x).bs = C.bs := rfl
theorem Co.s_R_un (C : Co) (x : Rc) : (C.s_R x).un = C.un := rfl
theorem Co.s_R_uk (C : Co) (x : Rc) : (C.s_R x).uk = C.uk := rfl
theorem Co.s_R_uw (C : Co) (x : Rc) : (C.s_R x).uw = C.uw := rfl
theorem Co.s_R_ua (C : Co) (x : Rc) : (C.s_R x).ua = C.ua := rfl
theorem Co.s_R_dr (C : Co) (x : Rc) : (C.s_R x).dr = C.dr := rfl
theorem Co.s_bn_R (C : Co) (x : Nat) : (C.s_bn x).R = C.R := rfl
theorem Co.s_bn_bn (C : Co) (x : Nat) : (C.s_bn x).bn = x := rfl
theorem Co.s_bn_bc (C : Co) (x : Nat) : (C.s_bn x).bc = C.bc := rfl
theorem Co.s_bn_bs (C : Co) (x : Nat) : (C.s_bn x).bs = C.bs := rfl
theorem Co.s_bn_un (C : Co) (x : Nat) : (C.s_bn x).un = C.un := rfl
theorem Co.s_bn_uk (C : Co) (x : Nat) : (C.s_bn x).uk = C.uk := rfl
theorem Co.s_bn_uw (C : Co) (x : Nat) : (C.s_bn x).uw = C.uw := rfl
theorem Co.s_bn_ua (C : Co) (x : Nat) : (C.s_bn x).ua = C.ua := rfl
theorem Co.s_bn_dr (C : Co) (x : Nat) : (C.s_bn x).dr = C.dr := rfl
theorem Co.s_bc_R (C : Co) (x : Nat → Nat) : (C.s_bc x).R = C.R := rfl
theorem Co.s_bc_bn (C : Co) (x : Nat → Nat) : (C.s_bc x).bn = C.bn := rfl
theorem Co.s_bc_bc (C : Co) (x : Nat → Nat) : (C.s_bc x).bc = x := rfl
theorem Co.s_bc_bs (C : Co) (x : Nat → Nat) : (C.s_bc x).bs = C.bs := rfl
theorem Co.s_bc_un (C : Co) (x : Nat → Nat) : (C.s_bc x).un = C.un := rfl
theorem Co.s_bc_uk (C : Co) (x : Nat → Nat) : (C.s_bc x).uk = C.uk := rfl
theorem Co.s_bc_uw (C : Co) (x : Nat → Nat) : (C.s_bc x).uw = C.uw := rfl
theorem Co.s_bc_ua (C : Co) (x : Nat → Nat) : (C.s_bc x).ua = C.ua := rfl
theorem Co.s_bc_dr (C : Co) (x : Nat → Nat) : (C.s_bc x).dr = C.dr := rfl
theorem Co.s_bs_R (C : Co) (x : Nat → Nat) : (C.s_bs x).R = C.R := rfl
theorem Co.s_bs_bn (C : Co) (x : Nat → Nat) : (C.s_bs x).bn = C.bn := rfl
theorem Co.s_bs_bc (C : Co) (x : Nat → Nat) : (C.s_bs x).bc = C.bc := rfl
theorem Co.s_bs_bs (C : Co) (x : Nat → Nat) : (C.s_bs x).bs = x := rfl
theorem Co.s_bs_un (C : Co) (x : Nat → Nat) : (C.s_bs x).un = C.un := rfl
theorem Co.s_bs_uk (C : Co) (x : Nat → Nat) : (C.s_bs x).uk = C.uk := rfl
theorem Co.s_bs_uw (C : Co) (x : Nat → Nat) : (C.s_bs x).uw = C.uw := rfl
theorem Co.s_bs_ua (C : Co) (x : Nat → Nat) : (C.s_bs x).ua = C.ua := rfl
theorem Co.s_bs_dr (C : Co) (x : Nat → Nat) : (C.s_bs x).dr = C.dr := rfl
theorem Co.s_un_R (C : Co) (x : Nat) : (C.s_un x).R = C.R := rfl
theorem Co.s_un_bn (C : Co) (x : Nat) : (C.s_un x).bn = C.bn := rfl
theorem Co.s_un_bc (C : Co) (x : Nat) : (C.s_un x).bc = C.bc := rfl
theorem Co.s_un_bs (C : Co) (x : Nat) : (C.s_un x).bs = C.bs := rfl
theorem Co.s_un_un (C : Co) (x : Nat) : (C.s_un x).un = x := rfl
theorem Co.s_un_uk (C : Co) (x : Nat) : (C.s_un x).uk = C.uk := rfl
theorem Co.s_un_uw (C : Co) (x : Nat) : (C.s_un x).uw = C.uw := rfl
theorem Co.s_un_ua (C : Co) (x : Nat) : (C.s_un x).ua = C.ua := rfl
theorem Co.s_un_dr (C : Co) (x : Nat) : (C.s_un x).dr = C.dr := rfl
theorem Co.s_uk_R (C : Co) (x : Nat → Nat) : (C.s_uk x).R = C.R := rfl
theorem Co.s_uk_bn (C : Co) (x : Nat → Nat) : (C.s_uk x).bn = C.bn := rfl
theorem Co.s_uk_bc (C : Co) (x : Nat → Nat) : (C.s_uk x).bc = C.bc := rfl
theorem Co.s_uk_bs (C : Co) (x : Nat → Nat) : (C.s_uk x).bs = C.bs := rfl
theorem Co.s_uk_un (C : Co) (x : Nat → Nat) : (C.s_uk x).un = C.un := rfl
theorem Co.s_uk_uk (C : Co) (x : Nat → Nat) : (C.s_uk x).uk = x := rfl
theorem Co.s_uk_uw (C : Co) (x : Nat → Nat) : (C.s_uk x).uw = C.uw := rfl
theorem Co.s_uk_ua (C : Co) (x : Nat → Nat) : (C.s_uk x).ua = C.ua := rfl
theorem Co.s_uk_dr (C : Co) (x : Nat → Nat) : (C.s_uk x).dr = C.dr := rfl
theorem Co.s_uw_R (C : Co) (x : Nat → Nat) : (C.s_uw x).R = C.R := rfl
theorem Co.s_uw_bn (C : Co) (x : Nat → Nat) : (C.s_uw x).bn = C.bn := rfl
theorem Co.s_uw_bc (C : Co) (x : Nat → Nat) : (C.s_uw x).bc = C.bc := rfl
theorem Co.s_uw_bs (C : Co) (x : Nat → Nat) : (C.s_uw x).bs = C.bs := rfl
theorem Co.s_uw_un (C : Co) (x : Nat → Nat) : (C.s_uw x).un = C.un := rfl
theorem Co.s_uw_uk (C : Co) (x : Nat → Nat) : (C.s_uw x).uk = C.uk := rfl
theorem Co.s_uw_uw (C : Co) (x : Nat → Nat) : (C.s_uw x).uw = x := rfl
theorem Co.s_uw_ua (C : Co) (x : Nat → Nat) : (C.s_uw x).ua = C.ua := rfl
theorem Co.s_uw_dr (C : Co) (x : Nat → Nat) : (C.s_uw x).dr = C.dr := rfl
theorem Co.s_ua_R (C : Co) (x : Nat → Int) : (C.s_ua x).R = C.R := rfl
theorem Co.s_ua_bn (C : Co) (x : Nat → Int) : (C.s_ua x).bn = C.bn := rfl
theorem Co.s_ua_bc (C : Co) (x : Nat → Int) : (C.s_ua x).bc = C.bc := rfl
theorem Co.s_ua_bs (C : Co) (x : Nat → Int) : (C.s_ua x).bs = C.bs := rfl
theorem Co.s_ua_un (C : Co) (x : Nat → Int) : (C.s_ua x).un = C.un := rfl
theorem Co.s_ua_uk (C : Co) (x : Nat → Int) : (C.s_ua x).uk = C.uk := rfl
theorem Co.s_ua_uw (C : Co) (x : Nat → Int) : (C.s_ua x).uw = C.uw := rfl
theorem Co.s_ua_ua (C : Co) (x : Nat → Int) : (C.s_ua x).ua = x := rfl
theorem Co.s_ua_dr (C : Co) (x : Nat → Int) : (C.s_ua x).dr = C.dr := rfl
theorem Co.s_dr_R (C : Co) (x : Nat) : (C.s_dr x).R = C.R := rfl
theorem Co.s_dr_bn (C : Co) (x : Nat) : (C.s_dr x).bn = C.bn := rfl
theorem Co.s_dr_bc (C : Co) (x : Nat) : (C.s_dr x).bc = C.bc := rfl
theorem Co.s_dr_bs (C : Co) (x : Nat) : (C.s_dr x).bs = C.bs := rfl
theorem Co.s_dr_un (C : Co) (x : Nat) : (C.s_dr x).un = C.un := rfl
theorem Co.s_dr_uk (C : Co) (x : Nat) : (C.s_dr x).uk = C.uk := rfl
theorem Co.s_dr_uw (C : Co) (x : Nat) : (C.s_dr x).uw = C.uw := rfl
theorem Co.s_dr_ua (C : Co) (x : Nat) : (C.s_dr x).ua = C.ua := rfl
theorem Co.s_dr_dr (C : Co) (x : Nat) : (C.s_dr x).dr = x := rfl
def Wv : Type := (Co) × (Co) × (Nat) × (Nat) × (Nat → Nat) × (Nat → Nat) × (Nat → Nat) × (Nat → Nat → Int64)
def Wv.mk (C : Co) (I : Co) (im : Nat) (tn : Nat) (tp : Nat → Nat) (sl : Nat → Nat) (sz : Nat → Nat) (it : Nat → Nat → Int64) : Wv := (C, I, im, tn, tp, sl, sz, it)
def Wv.C (R : Wv) : Co := R.1
def Wv.I (R : Wv) : Co := R.2.1
def Wv.im (R : Wv) : Nat := R.2.2.1
def Wv.tn (R : Wv) : Nat := R.2.2.2.1
def Wv.tp (R : Wv) : Nat → Nat := R.2.2.2.2.1
def Wv.sl (R : Wv) : Nat → Nat := R.2.2.2.2.2.1
def Wv.sz (R : Wv) : Nat → Nat := R.2.2.2.2.2.2.1
def Wv.it (R : Wv) : Nat → Nat → Int64 := R.2.2.2.2.2.2.2
theorem Wv.C_mk (C : Co) (I : Co) (im : Nat) (tn : Nat) (tp : Nat → Nat) (sl : Nat → Nat) (sz : Nat → Nat) (it : Nat → Nat → Int64) : (Wv.mk C I im tn tp sl sz it).C = C := rfl
theorem Wv.I_mk (C : Co) (I : Co) (im : Nat) (tn : Nat) (tp : Nat → Nat) (sl : Nat → Nat) (sz : Nat → Nat) (it : Nat → Nat → Int64) : (Wv.mk C I im tn tp sl sz it).I = I := rfl
theorem Wv.im_mk (C : Co) (I : Co) (im : Nat) (tn : Nat) (tp : Nat → Nat) (sl : Nat → Nat) (sz : Nat → Nat) (it : Nat → Nat → Int64) : (Wv.mk C I im tn tp sl sz it).im = im := rfl
theorem Wv.tn_mk (C : Co) (I : Co) (im : Nat) (tn : Nat) (tp : Nat → Nat) (sl : Nat → Nat) (sz : Nat → Nat) (it : Nat → Nat → Int64) : (Wv.mk C I im tn tp sl sz it).tn = tn := rfl
theorem Wv.tp_mk (C : Co) (I : Co) (im : Nat) (tn : Nat) (tp : Nat → Nat) (sl : Nat → Nat) (sz : Nat → Nat) (it : Nat → Nat → Int64) : (Wv.mk C I im tn tp sl sz it).tp = tp := rfl
theorem Wv.sl_mk (C : Co) (I : Co) (im : Nat) (tn : Nat) (tp : Nat → Nat) (sl : Nat → Nat) (sz : Nat → Nat) (it : Nat → Nat → Int64) : (Wv.mk C I im tn tp sl sz it).sl = sl := rfl
theorem Wv.sz_mk (C : Co) (I : Co) (im : Nat) (tn : Nat) (tp : Nat → Nat) (sl : Nat → Nat) (sz : Nat → Nat) (it : Nat → Nat → Int64) : (Wv.mk C I im tn tp sl sz it).sz = sz := rfl
theorem Wv.it_mk (C : Co) (I : Co) (im : Nat) (tn : Nat) (tp : Nat → Nat) (sl : Nat → Nat) (sz : Nat → Nat) (it : Nat → Nat → Int64) : (Wv.mk C I im tn tp sl sz it).it = it := rfl
def Wv.s_C (W : Wv) (x : Co) : Wv := Wv.mk (x) (W.I) (W.im) (W.tn) (W.tp) (W.sl) (W.sz) (W.it)
def Wv.s_I (W : Wv) (x : Co) : Wv := Wv.mk (W.C) (x) (W.im) (W.tn) (W.tp) (W.sl) (W.sz) (W.it)
def Wv.s_im (W : Wv) (x : Nat) : Wv := Wv.mk (W.C) (W.I) (x) (W.tn) (W.tp) (W.sl) (W.sz) (W.it)
def Wv.s_tn (W : Wv) (x : Nat) : Wv := Wv.mk (W.C) (W.I) (W.im) (x) (W.tp) (W.sl) (W.sz) (W.it)
def Wv.s_tp (W : Wv) (x : Nat → Nat) : Wv := Wv.mk (W.C) (W.I) (W.im) (W.tn) (x) (W.sl) (W.sz) (W.it)
def Wv.s_sl (W : Wv) (x : Nat → Nat) : Wv := Wv.mk (W.C) (W.I) (W.im) (W.tn) (W.tp) (x) (W.sz) (W.it)
def Wv.s_sz (W : Wv) (x : Nat → Nat) : Wv := Wv.mk (W.C) (W.I) (W.im) (W.tn) (W.tp) (W.sl) (x) (W.it)
def Wv.s_it (W : Wv) (x : Nat → Nat → Int64) : Wv := Wv.mk (W.C) (W.I) (W.im) (W.tn) (W.tp) (W.sl) (W.sz) (x)
theorem Wv.s_C_C (W : Wv) (x : Co) : (W.s_C x).C = x := rfl
theorem Wv.s_C_I (W : Wv) (x : Co) : (W.s_C x).I = W.I := rfl
theorem Wv.s_C_im (W : Wv) (x : Co) : (W.s_C x).im = W.im := rfl
theorem Wv.s_C_tn (W : Wv) (x : Co) : (W.s_C x).tn = W.tn := rfl
theorem Wv.s_C_tp (W : Wv) (x : Co) : (W.s_C x).tp = W.tp := rfl
theorem Wv.s_C_sl (W : Wv) (x : Co) : (W.s_C x).sl = W.sl := rfl
theorem Wv.s_C_sz (W : Wv) (x : Co) : (W.s_C x).sz = W.sz := rfl
theorem Wv.s_C_it (W : Wv) (x : Co) : (W.s_C x).it = W.it := rfl
theorem Wv.s_I_C (W : Wv) (x : Co) : (W.s_I x).C = W.C := rfl
theorem Wv.s_I_I (W : Wv) (x : Co) : (W.s_I x).I = x := rfl
theorem Wv.s_I_im (W : Wv) (x : Co) : (W.s_I x).im = W.im := rfl
theorem Wv.s_I_tn (W : Wv) (x : Co) : (W.s_I x).tn = W.tn := rfl
theorem Wv.s_I_tp (W : Wv) (x : Co) : (W.s_I x).tp = W.tp := rfl
theorem Wv.s_I_sl (W : Wv) (x : Co) : (W.s_I x).sl = W.sl := rfl
theorem Wv.s_I_sz (W : Wv) (x : Co) : (W.s_I x).sz = W.sz := rfl
theorem Wv.s_I_it (W : Wv) (x : Co) : (W.s_I x).it = W.it := rfl
theorem Wv.s_im_C (W : Wv) (x : Nat) : (W.s_im x).C = W.C := rfl
theorem Wv.s_im_I (W : Wv) (x : Nat) : (W.s_im x).I = W.I := rfl
theorem Wv.s_im_im (W : Wv) (x : Nat) : (W.s_im x).im = x := rfl
theorem Wv.s_im_tn (W : Wv) (x : Nat) : (W.s_im x).tn = W.tn := rfl
theorem Wv.s_im_tp (W : Wv) (x : Nat) : (W.s_im x).tp = W.tp := rfl
theorem Wv.s_im_sl (W : Wv) (x : Nat) : (W.s_im x).sl = W.sl := rfl
theorem Wv.s_im_sz (W : Wv) (x : Nat) : (W.s_im x).sz = W.sz := rfl
theorem Wv.s_im_it (W : Wv) (x : Nat) : (W.s_im x).it = W.it := rfl
theorem Wv.s_tn_C (W : Wv) (x : Nat) : (W.s_tn x).C = W.C := rfl
theorem Wv.s_tn_I (W : Wv) (x : Nat) : (W.s_tn x).I = W.I := rfl
theorem Wv.s_tn_im (W : Wv) (x : Nat) : (W.s_tn x).im = W.im := rfl
theorem Wv.s_tn_tn (W : Wv) (x : Nat) : (W.s_tn x).tn = x := rfl
theorem Wv.s_tn_tp (W : Wv) (x : Nat) : (W.s_tn x).tp = W.tp := rfl
theorem Wv.s_tn_sl (W : Wv) (x : Nat) : (W.s_tn x).sl = W.sl := rfl
theorem Wv.s_tn_sz (W : Wv) (x : Nat) : (W.s_tn x).sz = W.sz := rfl
theorem Wv.s_tn_it (W : Wv) (x : Nat) : (W.s_tn x).it = W.it := rfl
theorem Wv.s_tp_C (W : Wv) (x : Nat → Nat) : (W.s_tp x).C = W.C := rfl
theorem Wv.s_tp_I (W : Wv) (x : Nat → Nat) : (W.s_tp x).I = W.I := rfl
theorem Wv.s_tp_im (W : Wv) (x : Nat → Nat) : (W.s_tp x).im = W.im := rfl
theorem Wv.s_tp_tn (W : Wv) (x : Nat → Nat) : (W.s_tp x).tn = W.tn := rfl
theorem Wv.s_tp_tp (W : Wv) (x : Nat → Nat) : (W.s_tp x).tp = x := rfl
theorem Wv.s_tp_sl (W : Wv) (x : Nat → Nat) : (W.s_tp x).sl = W.sl := rfl
theorem Wv.s_tp_sz (W : Wv) (x : Nat → Nat) : (W.s_tp x).sz = W.sz := rfl
theorem Wv.s_tp_it (W : Wv) (x : Nat → Nat) : (W.s_tp x).it = W.it := rfl
theorem Wv.s_sl_C (W : Wv) (x : Nat → Nat) : (W.s_sl x).C = W.C := rfl
theorem Wv.s_sl_I (W : Wv) (x : Nat → Nat) : (W.s_sl x).I = W.I := rfl
theorem Wv.s_sl_im (W : Wv) (x : Nat → Nat) : (W.s_sl x).im = W.im := rfl
theorem Wv.s_sl_tn (W : Wv) (x : Nat → Nat) : (W.s_sl x).tn = W.tn := rfl
theorem Wv.s_sl_tp (W : Wv) (x : Nat → Nat) : (W.s_sl x).tp = W.tp := rfl
theorem Wv.s_sl_sl (W : Wv) (x : Nat → Nat) : (W.s_sl x).sl = x := rfl
theorem Wv.s_sl_sz (W : Wv) (x : Nat → Nat) : (W.s_sl x).sz = W.sz := rfl
theorem Wv.s_sl_it (W : Wv) (x : Nat → Nat) : (W.s_sl x).it = W.it := rfl
theorem Wv.s_sz_C (W : Wv) (x : Nat → Nat) : (W.s_sz x).C = W.C := rfl
theorem Wv.s_sz_I (W : Wv) (x : Nat → Nat) : (W.s_sz x).I = W.I := rfl
theorem Wv.s_sz_im (W : Wv) (x : Nat → Nat) : (W.s_sz x).im = W.im := rfl
theorem Wv.s_sz_tn (W : Wv) (x : Nat → Nat) : (W.s_sz x).tn = W.tn := rfl
theorem Wv.s_sz_tp (W : Wv) (x : Nat → Nat) : (W.s_sz x).tp = W.tp := rfl
theorem Wv.s_sz_sl (W : Wv) (x : Nat → Nat) : (W.s_sz x).sl = W.sl := rfl
theorem Wv.s_sz_sz (W : Wv) (x : Nat → Nat) : (W.s_sz x).sz = x := rfl
theorem Wv.s_sz_it (W : Wv) (x : Nat → Nat) : (W.s_sz x).it = W.it := rfl
theorem Wv.s_it_C (W : Wv) (x : Nat → Nat → Int64) : (W.s_it x).C = W.C := rfl
theorem Wv.s_it_I (W : Wv) (x : Nat → Nat → Int64) : (W.s_it x).I = W.I := rfl
theorem Wv.s_it_im (W : Wv) (x : Nat → Nat → Int64) : (W.s_it x).im = W.im := rfl
theorem Wv.s_it_tn (W : Wv) (x : Nat → Nat → Int64) : (W.s_it x).tn = W.tn := rfl
theorem Wv.s_it_tp (W : Wv) (x : Nat → Nat → Int64) : (W.s_it x).tp = W.tp := rfl
theorem Wv.s_it_sl (W : Wv) (x : Nat → Nat → Int64) : (W.s_it x).sl = W.sl := rfl
theorem Wv.s_it_sz (W : Wv) (x : Nat → Nat → Int64) : (W.s_it x).sz = W.sz := rfl
theorem Wv.s_it_it (W : Wv) (x : Nat → Nat → Int64) : (W.s_it x).it = x := rfl
theorem coS : ((∀ (R : Rc) (bn : Nat) (bc : Nat → Nat) (bs : Nat → Nat) (un : Nat) (uk : Nat → Nat) (uw : Nat → Nat) (ua : Nat → Int) (dr : Nat), (Co.mk R bn bc bs un uk uw ua dr).R = R) ∧ (∀ (R : Rc) (bn : Nat) (bc : Nat → Nat) (bs : Nat → Nat) (un : Nat) (uk : Nat → Nat) (uw : Nat → Nat) (ua : Nat → Int) (dr : Nat), (Co.mk R bn bc bs un uk uw ua dr).bn = bn) ∧ (∀ (R : Rc) (bn : Nat) (bc : Nat → Nat) (bs : Nat → Nat) (un : Nat) (uk : Nat → Nat) (uw : Nat → Nat) (ua : Nat → Int) (dr : Nat), (Co.mk R bn bc bs un uk uw ua dr).bc = bc) ∧ (∀ (R : Rc) (bn : Nat) (bc : Nat → Nat) (bs : Nat → Nat) (un : Nat) (uk : Nat → Nat) (uw : Nat → Nat) (ua : Nat → Int) (dr : Nat), (Co.mk R bn bc bs un uk uw ua dr).bs = bs) ∧ (∀ (R : Rc) (bn : Nat) (bc : Nat → Nat) (bs : Nat → Nat) (un : Nat) (uk : Nat → Nat) (uw : Nat → Nat) (ua : Nat → Int) (dr : Nat), (Co.mk R bn bc bs un uk uw ua dr).un = un) ∧ (∀ (R : Rc) (bn : Nat) (bc : Nat → Nat) (bs : Nat → Nat) (un : Nat) (uk : Nat → Nat) (uw : Nat → Nat) (ua : Nat → Int) (dr : Nat), (Co.mk R bn bc bs un uk uw ua dr).uk = uk) ∧ (∀ (R : Rc) (bn : Nat) (bc : Nat → Nat) (bs : Nat → Nat) (un : Nat) (uk : Nat → Nat) (uw : Nat → Nat) (ua : Nat → Int) (dr : Nat), (Co.mk R bn bc bs un uk uw ua dr).uw = uw) ∧ (∀ (R : Rc) (bn : Nat) (bc : Nat → Nat) (bs : Nat → Nat) (un : Nat) (uk : Nat → Nat) (uw : Nat → Nat) (ua : Nat → Int) (dr : Nat), (Co.mk R bn bc bs un uk uw ua dr).ua = ua) ∧ (∀ (R : Rc) (bn : Nat) (bc : Nat → Nat) (bs : Nat → Nat) (un : Nat) (uk : Nat → Nat) (uw : Nat → Nat) (ua : Nat → Int) (dr : Nat), (Co.mk R bn bc bs un uk uw ua dr).dr = dr)) ∧ ((∀ (C : Co) (x : Rc), (C.s_R x).R = x) ∧ (∀ (C : Co) (x : Rc), (C.s_R x).bn = C.bn) ∧ (∀ (C : Co) (x : Rc), (C.s_R x).bc = C.bc) ∧ (∀ (C : Co) (x : Rc), (C.s_R x).bs = C.bs) ∧ (∀ (C : Co) (x : Rc), (C.s_R x).un = C.un) ∧ (∀ (C : Co) (x : Rc), (C.s_R x).uk = C.uk) ∧ (∀ (C : Co) (x : Rc), (C.s_R x).uw = C.uw) ∧ (∀ (C : Co) (x : Rc), (C.s_R x).ua = C.ua) ∧ (∀ (C : Co) (x : Rc), (C.s_R x).dr = C.dr)) ∧ ((∀ (C : Co) (x : Nat), (C.s_bn x).R = C.R) ∧ (∀ (C : Co) (x : Nat), (C.s_bn x).bn = x) ∧ (∀ (C : Co) (x : Nat), (C.s_bn x).bc = C.bc) ∧ (∀ (C : Co) (x : Nat), (C.s_bn x).bs = C.bs) ∧ (∀ (C : Co) (x : Nat), (C.s_bn x).un = C.un) ∧ (∀ (C : Co) (x : Nat), (C.s_bn x).uk = C.uk) ∧ (∀ (C : Co) (x : Nat), (C.s_bn x).uw = C.uw) ∧ (∀ (C : Co) (x : Nat), (C.s_bn x).ua = C.ua) ∧ (∀ (C : Co) (x : Nat), (C.s_bn x).dr = C.dr)) ∧ ((∀ (C : Co) (x : Nat → Nat), (C.s_bc x).R = C.R) ∧ (∀ (C : Co) (x : Nat → Nat), (C.s_bc x).bn = C.bn) ∧ (∀ (C : Co) (x : Nat → Nat), (C.s_bc x).bc = x) ∧ (∀ (C : Co) (x : Nat → Nat), (C.s_bc x).bs = C.bs) ∧ (∀ (C : Co) (x : Nat → Nat), (C.s_bc x).un = C.un) ∧ (∀ (C : Co) (x : Nat → Nat), (C.s_bc x).uk = C.uk) ∧ (∀ (C : Co) (x : Nat → Nat), (C.s_bc x).uw = C.uw) ∧ (∀ (C : Co) (x : Nat → Nat), (C.s_bc x).ua = C.ua) ∧ (∀ (C : Co) (x : Nat → Nat), (C.s_bc x).dr = C.dr)) ∧ ((∀ (C : Co) (x : Nat → Nat), (C.s_bs x).R = C.R) ∧ (∀ (C : Co) (x : Nat → Nat), (C.s_bs x).bn = C.bn) ∧ (∀ (C : Co) (x : Nat → Nat), (C.s_bs x).bc = C.bc) ∧ (∀ (C : Co) (x : Nat → Nat), (C.s_bs x).bs = x) ∧ (∀ (C : Co) (x : Nat → Nat), (C.s_bs x).un = C.un) ∧ (∀ (C : Co) (x : Nat → Nat), (C.s_bs x).uk = C.uk) ∧ (∀ (C : Co) (x : Nat → Nat), (C.s_bs x).uw = C.uw) ∧ (∀ (C : Co) (x : Nat → Nat), (C.s_bs x).ua = C.ua) ∧ (∀ (C : Co) (x : Nat → Nat), (C.s_bs x).dr = C.dr)) ∧ ((∀ (C : Co) (x : Nat), (C.s_un x).R = C.R) ∧ (∀ (C : Co) (x : Nat), (C.s_un x).bn = C.bn) ∧ (∀ (C : Co) (x : Nat), (C.s_un x).bc = C.bc) ∧ (∀ (C : Co) (x : Nat), (C.s_un x).bs = C.bs) ∧ (∀ (C : Co) (x : Nat), (C.s_un x).un = x) ∧ (∀ (C : Co) (x : Nat), (C.s_un x).uk = C.uk) ∧ (∀ (C : Co) (x : Nat), (C.s_un x).uw = C.uw) ∧ (∀ (C : Co) (x : Nat), (C.s_un x).ua = C.ua) ∧ (∀ (C : Co) (x : Nat), (C.s_un x).dr = C.dr)) ∧ ((∀ (C : Co) (x : Nat → Nat), (C.s_uk x).R = C.R) ∧ (∀ (C : Co) (x : Nat → Nat), (C.s_uk x).bn = C.bn) ∧ (∀ (C : Co) (x : Nat → Nat), (C.s_uk x).bc = C.bc) ∧ (∀ (C : Co) (x : Nat → Nat), (C.s_uk x).bs = C.bs) ∧ (∀ (C : Co) (x : Nat → Nat), (C.s_uk x).un = C.un) ∧ (∀ (C : Co) (x : Nat → Nat), (C.s_uk x).uk = x) ∧ (∀ (C : Co) (x : Nat → Nat), (C.s_uk x).uw = C.uw) ∧ (∀ (C : Co) (x : Nat → Nat), (C.s_uk x).ua = C.ua) ∧ (∀ (C : Co) (x : Nat → Nat), (C.s_uk x).dr = C.dr)) ∧ ((∀ (C : Co) (x : Nat → Nat), (C.s_uw x).R = C.R) ∧ (∀ (C : Co) (x : Nat → Nat), (C.s_uw x).bn = C.bn) ∧ (∀ (C : Co) (x : Nat → Nat), (C.s_uw x).bc = C.bc) ∧ (∀ (C : Co) (x : Nat → Nat), (C.s_uw x).bs = C.bs) ∧ (∀ (C : Co) (x : Nat → Nat), (C.s_uw x).un = C.un) ∧ (∀ (C : Co) (x : Nat → Nat), (C.s_uw x).uk = C.uk) ∧ (∀ (C : Co) (x : Nat → Nat), (C.s_uw x).uw = x) ∧ (∀ (C : Co) (x : Nat → Nat), (C.s_uw x).ua = C.ua) ∧ (∀ (C : Co) (x : Nat → Nat), (C.s_uw x).dr = C.dr)) ∧ ((∀ (C : Co) (x : Nat → Int), (C.s_ua x).R = C.R) ∧ (∀ (C : Co) (x : Nat → Int), (C.s_ua x).bn = C.bn) ∧ (∀ (C : Co) (x : Nat → Int), (C.s_ua x).bc = C.bc) ∧ (∀ (C : Co) (x : Nat → Int), (C.s_ua x).bs = C.bs) ∧ (∀ (C : Co) (x : Nat → Int), (C.s_ua x).un = C.un) ∧ (∀ (C : Co) (x : Nat → Int), (C.s_ua x).uk = C.uk) ∧ (∀ (C : Co) (x : Nat → Int), (C.s_ua x).uw = C.uw) ∧ (∀ (C : Co) (x : Nat → Int), (C.s_ua x).ua = x) ∧ (∀ (C : Co) (x : Nat → Int), (C.s_ua x).dr = C.dr)) ∧ ((∀ (C : Co) (x : Nat), (C.s_dr x).R = C.R) ∧ (∀ (C : Co) (x : Nat), (C.s_dr x).bn = C.bn) ∧ (∀ (C : Co) (x : Nat), (C.s_dr x).bc = C.bc) ∧ (∀ (C : Co) (x : Nat), (C.s_dr x).bs = C.bs) ∧ (∀ (C : Co) (x : Nat), (C.s_dr x).un = C.un) ∧ (∀ (C : Co) (x : Nat), (C.s_dr x).uk = C.uk) ∧ (∀ (C : Co) (x : Nat), (C.s_dr x).uw = C.uw) ∧ (∀ (C : Co) (x : Nat), (C.s_dr x).ua = C.ua) ∧ (∀ (C : Co) (x : Nat), (C.s_dr x).dr = x)) := ⟨⟨fun _ _ _ _ _ _ _ _ _ => rfl, fun _ _ _ _ _ _ _ _ _ => rfl, fun _ _ _ _ _ _ _ _ _ => rfl, fun _ _ _ _ _ _ _ _ _ => rfl, fun _ _ _ _ _ _ _ _ _ => rfl, fun _ _ _ _ _ _ _ _ _ => rfl, fun _ _ _ _ _ _ _ _ _ => rfl, fun _ _ _ _ _ _ _ _ _ => rfl, fun _ _ _ _ _ _ _ _ _ => rfl⟩, ⟨fun _ _ => rfl, fun _ _ => rfl, fun _ _ => rfl, fun _ _ => rfl, fun _ _ => rfl, fun _ _ => rfl, fun _ _ => rfl, fun _ _ => rfl, fun _ _ => rfl⟩, ⟨fun _ _ => rfl, fun _ _ => rfl, fun _ _ => rfl, fun _ _ => rfl, fun _ _ => rfl, fun _ _ => rfl, fun _ _ => rfl, fun _ _ => rfl, fun _ _ => rfl⟩, ⟨fun _ _ => rfl, fun _ _ => rfl, fun _ _ => rfl, fun _ _ => rfl, fun _ _ => rfl, fun _ _ => rfl, fun _ _ => rfl, fun _ _ => rfl, fun _ _ => rfl⟩, ⟨fun _ _ => rfl, fun _ _ => rfl, fun _ _ => rfl, fun _ _ => rfl, fun _ _ => rfl, fun _ _ => rfl, fun _ _ => rfl, fun _ _ => rfl, fun _ _ => rfl⟩, ⟨fun _ _ => rfl, fun _ _ => rfl, fun _ _ => rfl, fun _ _ => rfl, fun _ _ => rfl, fun _ _ => rfl, fun _ _ => rfl, fun _ _ => rfl, fun _ _ => rfl⟩, ⟨fun _ _ => rfl, fun _ _ => rfl, fun _ _ => rfl, fun _ _ => rfl, fun _ _ => rfl, fun _ _ => rfl, fun _ _ => rfl, fun _ _ => rfl, fun _ _ => rfl⟩, ⟨fun _ _ => rfl, fun _ _ => rfl, fun _ _ => rfl, fun _ _ => rfl, fun _ _ => rfl, fun _ _ => rfl, fun _ _ => rfl, fun _ _ => rfl, fun _ _ => rfl⟩, ⟨fun _ _ => rfl, fun _ _ => rfl, fun _ _ => rfl, fun _ _ => rfl, fun _ _ => rfl, fun _ _ => rfl, fun _ _ => rfl, fun _ _ => rfl, fun _ _ => rfl⟩, ⟨fun _ _ => rfl, fun _ _ => rfl, fun _ _ => rfl, fun _ _ => rfl, fun _ _ => rfl, fun _ _ => rfl, fun _ _ => rfl, fun _ _ => rfl, fun _ _ => rfl⟩⟩
theorem wvS : ((∀ (C : Co) (I : Co) (im : Nat) (tn : Nat) (tp : Nat → Nat) (sl : Nat → Nat) (sz : Nat → Nat) (it : Nat → Nat → Int64), (Wv.mk C I im tn tp sl sz it).C = C) ∧ (∀ (C : Co) (I : Co) (im : Nat) (tn : Nat) (tp : Nat → Nat) (sl : Nat → Nat) (sz : Nat → Nat) (it : Nat → Nat → Int64), (Wv.mk C I im tn tp sl sz it).I = I) ∧ (∀ (C : Co) (I : Co) (im : Nat) (tn : Nat) (tp : Nat → Nat) (sl : Nat → Nat) (sz : Nat → Nat) (it : Nat → Nat → Int64), (Wv.mk C I im tn tp sl sz it).im = im) ∧ (∀ (C : Co) (I : Co) (im : Nat) (tn : Nat) (tp : Nat → Nat) (sl : Nat → Nat) (sz : Nat → Nat) (it : Nat → Nat → Int64), (Wv.mk C I im tn tp sl sz it).tn = tn) ∧ (∀ (C : Co) (I : Co) (im : Nat) (tn : Nat) (tp : Nat → Nat) (sl : Nat → Nat) (sz : Nat → Nat) (it : Nat → Nat → Int64), (Wv.mk C I im tn tp sl sz it).tp = tp) ∧ (∀ (C : Co) (I : Co) (im : Nat) (tn : Nat) (tp : Nat → Nat) (sl : Nat → Nat) (sz : Nat → Nat) (it : Nat → Nat → Int64), (Wv.mk C I im tn tp sl sz it).sl = sl) ∧ (∀ (C : Co) (I : Co) (im : Nat) (tn : Nat) (tp : Nat → Nat) (sl : Nat → Nat) (sz : Nat → Nat) (it : Nat → Nat → Int64), (Wv.mk C I im tn tp sl sz it).sz = sz) ∧ (∀ (C : Co) (I : Co) (im : Nat) (tn : Nat) (tp : Nat → Nat) (sl : Nat → Nat) (sz : Nat → Nat) (it : Nat → Nat → Int64), (Wv.mk C I im tn tp sl sz it).it = it)) ∧ ((∀ (W : Wv) (x : Co), (W.s_C x).C = x) ∧ (∀ (W : Wv) (x : Co), (W.s_C x).I = W.I) ∧ (∀ (W : Wv) (x : Co), (W.s_C x).im = W.im) ∧ (∀ (W : Wv) (x : Co), (W.s_C x).tn = W.tn) ∧ (∀ (W : Wv) (x : Co), (W.s_C x).tp = W.tp) ∧ (∀ (W : Wv) (x : Co), (W.s_C x).sl = W.sl) ∧ (∀ (W : Wv) (x : Co), (W.s_C x).sz = W.sz) ∧ (∀ (W : Wv) (x : Co), (W.s_C x).it = W.it)) ∧ ((∀ (W : Wv) (x : Co), (W.s_I x).C = W.C) ∧ (∀ (W : Wv) (x : Co), (W.s_I x).I = x) ∧ (∀ (W : Wv) (x : Co), (W.s_I x).im = W.im) ∧ (∀ (W : Wv) (x : Co), (W.s_I x).tn = W.tn) ∧ (∀ (W : Wv) (x : Co), (W.s_I x).tp = W.tp) ∧ (∀ (W : Wv) (x : Co), (W.s_I x).sl = W.sl) ∧ (∀ (W : Wv) (x : Co), (W.s_I x).sz = W.sz) ∧ (∀ (W : Wv) (x : Co), (W.s_I x).it = W.it)) ∧ ((∀ (W : Wv) (x : Nat), (W.s_im x).C = W.C) ∧ (∀ (W : Wv) (x : Nat), (W.s_im x).I = W.I) ∧ (∀ (W : Wv) (x : Nat), (W.s_im x).im = x) ∧ (∀ (W : Wv) (x : Nat), (W.s_im x).tn = W.tn) ∧ (∀ (W : Wv) (x : Nat), (W.s_im x).tp = W.tp) ∧ (∀ (W : Wv) (x : Nat), (W.s_im x).sl = W.sl) ∧ (∀ (W : Wv) (x : Nat), (W.s_im x).sz = W.sz) ∧ (∀ (W : Wv) (x : Nat), (W.s_im x).it = W.it)) ∧ ((∀ (W : Wv) (x : Nat), (W.s_tn x).C = W.C) ∧ (∀ (W : Wv) (x : Nat), (W.s_tn x).I = W.I) ∧ (∀ (W : Wv) (x : Nat), (W.s_tn x).im = W.im) ∧ (∀ (W : Wv) (x : Nat), (W.s_tn x).tn = x) ∧ (∀ (W : Wv) (x : Nat), (W.s_tn x).tp = W.tp) ∧ (∀ (W : Wv) (x : Nat), (W.s_tn x).sl = W.sl) ∧ (∀ (W : Wv) (x : Nat), (W.s_tn x).sz = W.sz) ∧ (∀ (W : Wv) (x : Nat), (W.s_tn x).it = W.it)) ∧ ((∀ (W : Wv) (x : Nat → Nat), (W.s_tp x).C = W.C) ∧ (∀ (W : Wv) (x : Nat → Nat), (W.s_tp x).I = W.I) ∧ (∀ (W : Wv) (x : Nat → Nat), (W.s_tp x).im = W.im) ∧ (∀ (W : Wv) (x : Nat → Nat), (W.s_tp x).tn = W.tn) ∧ (∀ (W : Wv) (x : Nat → Nat), (W.s_tp x).tp = x) ∧ (∀ (W : Wv) (x : Nat → Nat), (W.s_tp x).sl = W.sl) ∧ (∀ (W : Wv) (x : Nat → Nat), (W.s_tp x).sz = W.sz) ∧ (∀ (W : Wv) (x : Nat → Nat), (W.s_tp x).it = W.it)) ∧ ((∀ (W : Wv) (x : Nat → Nat), (W.s_sl x).C = W.C) ∧ (∀ (W : Wv) (x : Nat → Nat), (W.s_sl x).I = W.I) ∧ (∀ (W : Wv) (x : Nat → Nat), (W.s_sl x).im = W.im) ∧ (∀ (W : Wv) (x : Nat → Nat), (W.s_sl x).tn = W.tn) ∧ (∀ (W : Wv) (x : Nat → Nat), (W.s_sl x).tp = W.tp) ∧ (∀ (W : Wv) (x : Nat → Nat), (W.s_sl x).sl = x) ∧ (∀ (W : Wv) (x : Nat → Nat), (W.s_sl x).sz = W.sz) ∧ (∀ (W : Wv) (x : Nat → Nat), (W.s_sl x).it = W.it)) ∧ ((∀ (W : Wv) (x : Nat → Nat), (W.s_sz x).C = W.C) ∧ (∀ (W : Wv) (x : Nat → Nat), (W.s_sz x).I = W.I) ∧ (∀ (W : Wv) (x : Nat → Nat), (W.s_sz x).im = W.im) ∧ (∀ (W : Wv) (x : Nat → Nat), (W.s_sz x).tn = W.tn) ∧ (∀ (W : Wv) (x : Nat → Nat), (W.s_sz x).tp = W.tp) ∧ (∀ (W : Wv) (x : Nat → Nat), (W.s_sz x).sl = W.sl) ∧ (∀ (W : Wv) (x : Nat → Nat), (W.s_sz x).sz = x) ∧ (∀ (W : Wv) (x : Nat → Nat), (W.s_sz x).it = W.it)) ∧ ((∀ (W : Wv) (x : Nat → Nat → Int64), (W.s_it x).C = W.C) ∧ (∀ (W : Wv) (x : Nat → Nat → Int64), (W.s_it x).I = W.I) ∧ (∀ (W : Wv) (x : Nat → Nat → Int64), (W.s_it x).im = W.im) ∧ (∀ (W : Wv) (x : Nat → Nat → Int64), (W.s_it x).tn = W.tn) ∧ (∀ (W : Wv) (x : Nat → Nat → Int64), (W.s_it x).tp = W.tp) ∧ (∀ (W : Wv) (x : Nat → Nat → Int64), (W.s_it x).sl = W.sl) ∧ (∀ (W : Wv) (x : Nat → Nat → Int64), (W.s_it x).sz = W.sz) ∧ (∀ (W : Wv) (x : Nat → Nat → Int64), (W.s_it x).it = x)) := ⟨⟨fun _ _ _ _ _ _ _ _ => rfl, fun _ _ _ _ _ _ _ _ => rfl, fun _ _ _ _ _ _ _ _ => rfl, fun _ _ _ _ _ _ _ _ => rfl, fun _ _ _ _ _ _ _ _ => rfl, fun _ _ _ _ _ _ _ _ => rfl, fun _ _ _ _ _ _ _ _ => rfl, fun _ _ _ _ _ _ _ _ => rfl⟩, ⟨fun _ _ => rfl, fun _ _ => rfl, fun _ _ => rfl, fun _ _ => rfl, fun _ _ => rfl, fun _ _ => rfl, fun _ _ => rfl, fun _ _ => rfl⟩, ⟨fun _ _ => rfl, fun _ _ => rfl, fun _ _ => rfl, fun _ _ => rfl, fun _ _ => rfl, fun _ _ => rfl, fun _ _ => rfl, fun _ _ => rfl⟩, ⟨fun _ _ => rfl, fun _ _ => rfl, fun _ _ => rfl, fun _ _ => rfl, fun _ _ => rfl, fun _ _ => rfl, fun _ _ => rfl, fun _ _ => rfl⟩, ⟨fun _ _ => rfl, fun _ _ => rfl, fun _ _ => rfl, fun _ _ => rfl, fun _ _ => rfl, fun _ _ => rfl, fun _ _ => rfl, fun _ _ => rfl⟩, ⟨fun _ _ => rfl, fun _ _ => rfl, fun _ _ => rfl, fun _ _ => rfl, fun _ _ => rfl, fun _ _ => rfl, fun _ _ => rfl, fun _ _ => rfl⟩, ⟨fun _ _ => rfl, fun _ _ => rfl, fun _ _ => rfl, fun _ _ => rfl, fun _ _ => rfl, fun _ _ => rfl, fun _ _ => rfl, fun _ _ => rfl⟩, ⟨fun _ _ => rfl, fun _ _ => rfl, fun _ _ => rfl, fun _ _ => rfl, fun _ _ => rfl, fun _ _ => rfl, fun _ _ => rfl, fun _ _ => rfl⟩, ⟨fun _ _ => rfl, fun _ _ => rfl, fun _ _ => rfl, fun _ _ => rfl, fun _ _ => rfl, fun _ _ => rfl, fun _ _ => rfl, fun _ _ => rfl⟩⟩
def ucl (k : Nat) : Nat := if k = 0 then 18 else if k = 1 then 17 else if k = 2 then 19 else 16
def btC (c s : Nat) : Bool × va_E := (true, .inr (20, [.int (nI c), .int (nI s)]))
def unC (o k w : Nat) (v : Int) : Bool × va_E := (true, .inr (ucl k, [.int (nI w), .int (Int32.ofInt v), .ref o, .ref o]))
def obC (a : Nat → Nat) (dr ty at_ im idr : Int32) : Bool × va_E := (true, .inr (0, [.ref (a 0), .ref (a 1), .ref (a 2), .ref (a 3), .ref (a 4), .int dr, .ref (a 6), .int ty, .int at_, .ref (a 9), .ref (a 10), .ref (a 11), .int im, .ref (a 13), .ref (a 14), .ref (a 15), .int idr, .ref (a 17), .ref (a 18)]))
/-- for the owners in S: what is theirs stays theirs, and as it is -/
def Kp (T : Nat → Nat) (σ : Sg) (T' : Nat → Nat) (σ' : Sg) (S : Nat → Prop) : Prop := ∀ q, T q ≠ 0 → S (T q) → T' q = T q ∧ σ' q = σ q
theorem Kp.rf (T : Nat → Nat) (σ : Sg) (S : Nat → Prop) : Kp T σ T σ S := fun _ _ _ => ⟨rfl, rfl⟩
theorem Kp.tr {T T1 T2 : Nat → Nat} {σ σ1 σ2 : Sg} {S : Nat → Prop} (h : Kp T σ T1 σ1 S) (g : Kp T1 σ1 T2 σ2 S) : Kp T σ T2 σ2 S := by
  intro q h0 h1
  obtain ⟨a, b⟩ := h q h0 h1
  obtain ⟨c, d⟩ := g q (by rw [a]; exact h0) (by rw [a]; exact h1)
  exact ⟨c.trans a, d.trans b⟩
theorem Kp.sub {T T' : Nat → Nat} {σ σ' : Sg} {S S' : Nat → Prop} (h : Kp T σ T' σ' S) (hs : ∀ i, S' i → S i) : Kp T σ T' σ' S' := fun q h0 h1 => h q h0 (hs _ h1)
theorem Kp.at {T T' : Nat → Nat} {σ σ' : Sg} {S : Nat → Prop} (h : Kp T σ T' σ' S) {q k : Nat} (hq : T q = k) (hk : k ≠ 0) (hS : S k) : T' q = k ∧ σ' q = σ q := by
  subst hq; exact h q hk hS
theorem Ow.kp {T : Nat → Nat} {k : Nat} {σ σ' : Sg} {z z' : Nat} (h : Ow T k σ z σ' z') (F : Fre T z) : Kp T σ (ext T z z' k) σ' (fun i => i ≠ k) := fun q h0 h1 => ⟨Ow.own F rfl h0, h.at F rfl h0 h1⟩
theorem Ow.kp0 {T : Nat → Nat} {k : Nat} {σ σ' : Sg} {z : Nat} (h : Ow T k σ z σ' z) (F : Fre T z) : Kp T σ T σ' (fun i => i ≠ k) := by
  have := h.kp F
  rw [ext_none] at this
  exact this
theorem Kp.make {T : Nat → Nat} {σ : Sg} {z : Nat} (F : Fre T z) (k : Nat) (x : Bool × va_E) : Kp T σ (ext T z (z + 1) k) (g_u σ z x) (fun _ => True) := fun q h0 _ => by
  have := F.lt (q := q) rfl h0
  exact ⟨ext_old this, g_u_ne _ _ (by omega)⟩
section KP
variable {T T' : Nat → Nat} {σ σ' : Sg} {S : Nat → Prop} {k : Nat} {ex : Nat → Option Nat}
theorem AL.kp {l e n : Nat} {g : Nat → Nat} (H : AL σ T k ex l e n g) (h : Kp T σ T' σ' S) (hk : k ≠ 0) (hS : S k) (h9 : S 99) : AL σ' T' k ex l e n g := by
  obtain ⟨h1, h2, h3⟩ := H
  obtain ⟨a1, a2⟩ := h.at h1 hk hS
  refine ⟨a1, by rw [a2]; exact h2, ?_⟩
  rcases h3 with ⟨a, b, c, d⟩ | ⟨a, b⟩
  · obtain ⟨b1, b2⟩ := h.at c (by decide) h9
    exact Or.inl ⟨a, b, b1, by rw [b2]; exact d⟩
  · obtain ⟨b1, b2⟩ := h.at a hk hS
    exact Or.inr ⟨b1, by rw [b2]; exact b⟩
theorem RT.kp {A : Ad} {R : Rc} {al : Int32} (H : RT σ T k ex A R al) (h : Kp T σ T' σ' S) (hk : k ≠ 0) (hS : S k) (h9 : S 99) : RT σ' T' k ex A R al := by
  obtain ⟨h1, h2, h3, h4, h5, h6⟩ := H
  have e : ∀ q, T q = k → T' q = k ∧ σ' q = σ q := fun q hq => h.at hq hk hS
  refine ⟨h1.keep (fun q hq => ?_), (e _ h2).1, (e _ h3).1, (e _ h4).1, h5.kp h hk hS h9, fun c hc => (e _ (h6 c hc)).1⟩
  rcases hq with rfl | rfl | rfl | rfl | rfl | ⟨c, hc, rfl⟩
  · exact (e _ h2).2
  · exact (e _ h3).2
  · exact (e _ h4).2
  · exact (e _ h5.1).2
  · rcases h5.2.2 with ⟨-, -, a, -⟩ | ⟨a, -⟩
    · exact (h.at a (by decide) h9).2
    · exact (e _ a).2
  · exact (e _ (h6 c hc)).2
end KP
/-- the three texts: kinds, dials, skies -/
def txt (i : Nat) : List Nat := if i = 1 then [48, 49, 50, 51, 52, 53, 54, 55, 56, 57, 97, 98, 45] else if i = 2 then [115, 114, 119, 110] else [112, 99, 111, 100, 116, 109]
def PObj (σ : Sg) (T : Nat → Nat) (ex : Nat → Option Nat) (o : Nat) (a : Nat → Nat) (dr ty im idr : Int32) : Prop := T o = 1 ∧ ∃ at_, σ o = some (obC a dr ty at_ im idr)
theorem PObj.kp {σ σ' : Sg} {T T' : Nat → Nat} {ex : Nat → Option Nat} {S : Nat → Prop} {o : Nat} {a : Nat → Nat} {dr ty im idr : Int32} (H : PObj σ T ex o a dr ty im idr) (h : Kp T σ T' σ' S) (s1 : S 1) : PObj σ' T' ex o a dr ty im idr := by
  obtain ⟨h1, h2⟩ := H
  obtain ⟨a1, a2⟩ := h.at h1 (by decide) s1
  exact ⟨a1, by rw [a2]; exact h2⟩
def PTri (σ : Sg) (T : Nat → Nat) (ex : Nat → Option Nat) (r : Nat) : Prop := ∃ A Q al, Ad.r A = r ∧ RT σ T 3 ex A Q al ∧ Q.Ba
theorem PTri.kp {σ σ' : Sg} {T T' : Nat → Nat} {ex : Nat → Option Nat} {S : Nat → Prop} {r : Nat} (H : PTri σ T ex r) (h : Kp T σ T' σ' S) (s3 : S 3) (s99 : S 99) : PTri σ' T' ex r := by
  obtain ⟨A, Q, al, h1, h2, h3⟩ := H
  exact ⟨A, Q, al, h1, h2.kp h (by decide) s3 s99, h3⟩
def PRac (σ : Sg) (T : Nat → Nat) (ex : Nat → Option Nat) (k r : Nat) (R : Rc) : Prop := k ≠ 0 ∧ ∃ A, Ad.r A = r ∧ RT σ T k ex A R (-4)
theorem PRac.kp {σ σ' : Sg} {T T' : Nat → Nat} {ex : Nat → Option Nat} {S : Nat → Prop} {k r : Nat} {R : Rc} (H : PRac σ T ex k r R) (h : Kp T σ T' σ' S) (sk : S k) (s99 : S 99) : PRac σ' T' ex k r R := by
  obtain ⟨h0, A, h1, h2⟩ := H
  exact ⟨h0, A, h1, h2.kp h h0 sk s99⟩
def PBts (σ : Sg) (T : Nat → Nat) (ex : Nat → Option Nat) (k l : Nat) (n : Nat) (bc bs : Nat → Nat) : Prop := k ≠ 0 ∧ ∃ e g, AL σ T k ex l e n g ∧ ∀ b, b < n → T (g b) = 20 ∧ σ (g b) = some (btC (bc b) (bs b))
theorem PBts.kp {σ σ' : Sg} {T T' : Nat → Nat} {ex : Nat → Option Nat} {S : Nat → Prop} {k l : Nat} {n : Nat} {bc bs : Nat → Nat} (H : PBts σ T ex k l n bc bs) (h : Kp T σ T' σ' S) (sk : S k) (s20 : S 20) (s99 : S 99) : PBts σ' T' ex k l n bc bs := by
  obtain ⟨h0, e, g, h1, h2⟩ := H
  refine ⟨h0, e, g, h1.kp h h0 sk s99, fun b hb => ?_⟩
  obtain ⟨x1, x2⟩ := h2 b hb
  obtain ⟨a1, a2⟩ := h.at x1 (by decide) s20
  exact ⟨a1, a2.trans x2⟩
def PUns (σ : Sg) (T : Nat → Nat) (ex : Nat → Option Nat) (k o l : Nat) (n : Nat) (uk uw : Nat → Nat) (ua : Nat → Int) : Prop := k ≠ 0 ∧ ∃ e g, AL σ T k ex l e n g ∧ ∀ u, u < n → T (g u) = 20 ∧ σ (g u) = some (unC o (uk u) (uw u) (ua u))
theorem PUns.kp {σ σ' : Sg} {T T' : Nat → Nat} {ex : Nat → Option Nat} {S : Nat → Prop} {k o l : Nat} {n : Nat} {uk uw : Nat → Nat} {ua : Nat → Int} (H : PUns σ T ex k o l n uk uw ua) (h : Kp T σ T' σ' S) (sk : S k) (s20 : S 20) (s99 : S 99) : PUns σ' T' ex k o l n uk uw ua := by
  obtain ⟨h0, e, g, h1, h2⟩ := H
  refine ⟨h0, e, g, h1.kp h h0 sk s99, fun b hb => ?_⟩
  obtain ⟨x1, x2⟩ := h2 b hb
  obtain ⟨a1, a2⟩ := h.at x1 (by decide) s20
  exact ⟨a1, a2.trans x2⟩
def PLst (σ : Sg) (T : Nat → Nat) (ex : Nat → Option Nat) (k l m : Nat) : Prop := k ≠ 0 ∧ ∃ e n g, n ≤ m ∧ AL σ T k ex l e n g
theorem PLst.kp {σ σ' : Sg} {T T' : Nat → Nat} {ex : Nat → Option Nat} {S : Nat → Prop} {k l m : Nat} (H : PLst σ T ex k l m) (h : Kp T σ T' σ' S) (sk : S k) (s99 : S 99) : PLst σ' T' ex k l m := by
  obtain ⟨h0, e, n, g, h1, h2⟩ := H
  exact ⟨h0, e, n, g, h1, h2.kp h h0 sk s99⟩
def PDue (σ : Sg) (T : Nat → Nat) (ex : Nat → Option Nat) (d : Nat) : Prop := T d = 11 ∧ ∃ (f : Nat → Option Nat) (r : Nat → Nat), σ d = some (true, .inl (6, 12, .inr (.inr (.inr (.inr f))))) ∧ ∀ i, i < 12 → f i = some (r i) ∧ T (r i) = 16 ∧ (∃ v, σ (r i) = some (true, .inl (2, 12, .inl v))) ∧ ∀ j, j < 12 → r i = r j → i = j
theorem PDue.kp {σ σ' : Sg} {T T' : Nat → Nat} {ex : Nat → Option Nat} {S : Nat → Prop} {d : Nat} (H : PDue σ T ex d) (h : Kp T σ T' σ' S) (s11 : S 11) (s16 : S 16) : PDue σ' T' ex d := by
  obtain ⟨h1, f, r, h2, h3⟩ := H
  obtain ⟨a1, a2⟩ := h.at h1 (by decide) s11
  refine ⟨a1, f, r, a2.trans h2, fun i hi => ?_⟩
  obtain ⟨x1, x2, x3, x4⟩ := h3 i hi
  obtain ⟨b1, b2⟩ := h.at x2 (by decide) s16
  exact ⟨x1, b1, by rw [b2]; exact x3, x4⟩
def PTap (σ : Sg) (T : Nat → Nat) (ex : Nat → Option Nat) (p n : Nat) (tp : Nat → Nat) : Prop := T p = 12 ∧ ∃ f, σ p = some (true, .inl (0, 160, .inl f)) ∧ ∀ i, i < n → f i = nI (tp i)
theorem PTap.kp {σ σ' : Sg} {T T' : Nat → Nat} {ex : Nat → Option Nat} {S : Nat → Prop} {p n : Nat} {tp : Nat → Nat} (H : PTap σ T ex p n tp) (h : Kp T σ T' σ' S) (s12 : S 12) : PTap σ' T' ex p n tp := by
  obtain ⟨h1, h2⟩ := H
  obtain ⟨a1, a2⟩ := h.at h1 (by decide) s12
  exact ⟨a1, by rw [a2]; exact h2⟩
def PSgn (σ : Sg) (T : Nat → Nat) (ex : Nat → Option Nat) (p : Nat) : Prop := T p = 13 ∧ ∃ f, σ p = some (true, .inl (0, 24, .inl f))
theorem PSgn.kp {σ σ' : Sg} {T T' : Nat → Nat} {ex : Nat → Option Nat} {S : Nat → Prop} {p : Nat} (H : PSgn σ T ex p) (h : Kp T σ T' σ' S) (s13 : S 13) : PSgn σ' T' ex p := by
  obtain ⟨h1, h2⟩ := H
  obtain ⟨a1, a2⟩ := h.at h1 (by decide) s13
  exact ⟨a1, by rw [a2]; exact h2⟩
def PTkn (σ : Sg) (T : Nat → Nat) (ex : Nat → Option Nat) (p : Nat) : Prop := T p = 14 ∧ ∃ f, σ p = some (true, .inl (3, 24, .inr (.inl f)))
theorem PTkn.kp {σ σ' : Sg} {T T' : Nat → Nat} {ex : Nat → Option Nat} {S : Nat → Prop} {p : Nat} (H : PTkn σ T ex p) (h : Kp T σ T' σ' S) (s14 : S 14) : PTkn σ' T' ex p := by
  obtain ⟨h1, h2⟩ := H
  obtain ⟨a1, a2⟩ := h.at h1 (by decide) s14
  exact ⟨a1, by rw [a2]; exact h2⟩
def PShe (σ : Sg) (T : Nat → Nat) (ex : Nat → Option Nat) (p : Nat) (sl sz : Nat → Nat) (it : Nat → Nat → Int64) : Prop := T p = 15 ∧ ∃ (f : Nat → Option Nat) (hd : Nat → Nat), σ p = some (true, .inl (5, 4, .inr (.inr (.inr (.inr f))))) ∧ ∀ i, i < 4 → f i = some (hd i) ∧ T (hd i) = 30 + i ∧ ((sl i = 0 ∧ σ (hd i) = some (true, .inr (2, [.null]))) ∨ (∃ r, 0 < sl i ∧ sl i ≤ 4 ∧ sz i ≤ 24 ∧ σ (hd i) = some (true, .inr (2, [.ref r])) ∧ T r = 40 + i ∧ ((sl i ≤ 3 ∧ ∃ v, σ r = some (true, .inl (sl i - 1, sz i, .inl v)) ∧ ∀ j, j < sz i → (v j).toInt64 = it i j) ∨ (sl i = 4 ∧ ∃ v, σ r = some (true, .inl (3, sz i, .inr (.inl v))) ∧ ∀ j, j < sz i → v j = it i j))))
theorem PShe.kp {σ σ' : Sg} {T T' : Nat → Nat} {ex : Nat → Option Nat} {S : Nat → Prop} {p : Nat} {sl sz : Nat → Nat} {it : Nat → Nat → Int64} (H : PShe σ T ex p sl sz it) (h : Kp T σ T' σ' S) (s15 : S 15) (s30 : S 30) (s31 : S 31) (s32 : S 32) (s33 : S 33) (s40 : S 40) (s41 : S 41) (s42 : S 42) (s43 : S 43) : PShe σ' T' ex p sl sz it := by
  obtain ⟨h1, f, hd, h2, h3⟩ := H
  obtain ⟨a1, a2⟩ := h.at h1 (by decide) s15
  have sh : ∀ i, i < 4 → S (30 + i) ∧ S (40 + i) := by
    intro i hi
    match i, hi with
    | 0, _ => exact ⟨s30, s40⟩
    | 1, _ => exact ⟨s31, s41⟩
    | 2, _ => exact ⟨s32, s42⟩
    | 3, _ => exact ⟨s33, s43⟩
  refine ⟨a1, f, hd, a2.trans h2, fun i hi => ?_⟩
  obtain ⟨x1, x2, x3⟩ := h3 i hi
  obtain ⟨b1, b2⟩ := h.at x2 (by omega) (sh i hi).1
  refine ⟨x1, b1, ?_⟩
  rw [b2]
  rcases x3 with x3 | ⟨r, y1, y2, y3, y4, y5, y6⟩
  · exact Or.inl x3
  · obtain ⟨c1, c2⟩ := h.at y5 (by omega) (sh i hi).2
    exact Or.inr ⟨r, y1, y2, y3, y4, c1, by rw [c2]; exact y6⟩
def PCns (σ : Sg) (T : Nat → Nat) (ex : Nat → Option Nat)  : Prop := (∃ e, ex 0 = some e ∧ T e = 99 ∧ ∃ b f, σ e = some (oaC b 0 f)) ∧ ∀ i, 1 ≤ i → i ≤ 3 → ∃ s r b b2 n f, ex i = some s ∧ T s = 99 ∧ σ s = some (b, .inr (21, [.ref r, .int 0])) ∧ T r = 99 ∧ σ r = some (b2, .inl (0, n, .inl f)) ∧ n = (txt i).length ∧ ∀ j, j < n → f j = nI ((txt i).getD j 0)
theorem PCns.kp {σ σ' : Sg} {T T' : Nat → Nat} {ex : Nat → Option Nat} {S : Nat → Prop}  (H : PCns σ T ex ) (h : Kp T σ T' σ' S) (s99 : S 99) : PCns σ' T' ex  := by
  obtain ⟨⟨e, h1, h2, h3⟩, h4⟩ := H
  refine ⟨⟨e, h1, (h.at h2 (by decide) s99).1, by rw [(h.at h2 (by decide) s99).2]; exact h3⟩, fun i i0 i1 => ?_⟩
  obtain ⟨s, r, b, b2, n, f, x1, x2, x3, x4, x5, x6⟩ := h4 i i0 i1
  exact ⟨s, r, b, b2, n, f, x1, (h.at x2 (by decide) s99).1, (h.at x2 (by decide) s99).2.trans x3, (h.at x4 (by decide) s99).1, (h.at x4 (by decide) s99).2.trans x5, x6⟩
def CW (σ : Sg) (T : Nat → Nat) (ex : Nat → Option Nat) (z o : Nat) (a : Nat → Nat) (W : Wv) : Prop := (Fre T z) ∧ (PObj σ T ex o a (nI W.C.dr) (nI W.tn) (nI W.im) (nI W.I.dr)) ∧ (PRac σ T ex 2 (a 0) W.C.R) ∧ (PTri σ T ex (a 1)) ∧ (PRac σ T ex 4 (a 13) W.I.R) ∧ (PBts σ T ex 5 (a 4) W.C.bn W.C.bc W.C.bs) ∧ (PUns σ T ex 6 o (a 2) W.C.un W.C.uk W.C.uw W.C.ua) ∧ (PBts σ T ex 7 (a 14) W.I.bn W.I.bc W.I.bs) ∧ (PUns σ T ex 8 o (a 15) W.I.un W.I.uk W.I.uw W.I.ua) ∧ (PLst σ T ex 9 (a 10) 9) ∧ (PLst σ T ex 10 (a 11) 160) ∧ (PDue σ T ex (a 3)) ∧ (PTap σ T ex (a 6) W.tn W.tp) ∧ (PSgn σ T ex (a 9)) ∧ (PTkn σ T ex (a 18)) ∧ (PShe σ T ex (a 17) W.sl W.sz W.it) ∧ (PCns σ T ex)
theorem CW.fr {σ : Sg} {T : Nat → Nat} {ex : Nat → Option Nat} {z o : Nat} {a : Nat → Nat} {W : Wv} (H : CW σ T ex z o a W) : Fre T z := H.1
theorem CW.ob {σ : Sg} {T : Nat → Nat} {ex : Nat → Option Nat} {z o : Nat} {a : Nat → Nat} {W : Wv} (H : CW σ T ex z o a W) : PObj σ T ex o a (nI W.C.dr) (nI W.tn) (nI W.im) (nI W.I.dr) := H.2.1
theorem CW.rc {σ : Sg} {T : Nat → Nat} {ex : Nat → Option Nat} {z o : Nat} {a : Nat → Nat} {W : Wv} (H : CW σ T ex z o a W) : PRac σ T ex 2 (a 0) W.C.R := H.2.2.1
theorem CW.tr {σ : Sg} {T : Nat → Nat} {ex : Nat → Option Nat} {z o : Nat} {a : Nat → Nat} {W : Wv} (H : CW σ T ex z o a W) : PTri σ T ex (a 1) := H.2.2.2.1
theorem CW.im {σ : Sg} {T : Nat → Nat} {ex : Nat → Option Nat} {z o : Nat} {a : Nat → Nat} {W : Wv} (H : CW σ T ex z o a W) : PRac σ T ex 4 (a 13) W.I.R := H.2.2.2.2.1
theorem CW.bt {σ : Sg} {T : Nat → Nat} {ex : Nat → Option Nat} {z o : Nat} {a : Nat → Nat} {W : Wv} (H : CW σ T ex z o a W) : PBts σ T ex 5 (a 4) W.C.bn W.C.bc W.C.bs := H.2.2.2.2.2.1
theorem CW.un {σ : Sg} {T : Nat → Nat} {ex : Nat → Option Nat} {z o : Nat} {a : Nat → Nat} {W : Wv} (H : CW σ T ex z o a W) : PUns σ T ex 6 o (a 2) W.C.un W.C.uk W.C.uw W.C.ua := H.2.2.2.2.2.2.1
theorem CW.ib {σ : Sg} {T : Nat → Nat} {ex : Nat → Option Nat} {z o : Nat} {a : Nat → Nat} {W : Wv} (H : CW σ T ex z o a W) : PBts σ T ex 7 (a 14) W.I.bn W.I.bc W.I.bs := H.2.2.2.2.2.2.2.1
theorem CW.iu {σ : Sg} {T : Nat → Nat} {ex : Nat → Option Nat} {z o : Nat} {a : Nat → Nat} {W : Wv} (H : CW σ T ex z o a W) : PUns σ T ex 8 o (a 15) W.I.un W.I.uk W.I.uw W.I.ua := H.2.2.2.2.2.2.2.2.1
theorem CW.rd {σ : Sg} {T : Nat → Nat} {ex : Nat → Option Nat} {z o : Nat} {a : Nat → Nat} {W : Wv} (H : CW σ T ex z o a W) : PLst σ T ex 9 (a 10) 9 := H.2.2.2.2.2.2.2.2.2.1
theorem CW.ac {σ : Sg} {T : Nat → Nat} {ex : Nat → Option Nat} {z o : Nat} {a : Nat → Nat} {W : Wv} (H : CW σ T ex z o a W) : PLst σ T ex 10 (a 11) 160 := H.2.2.2.2.2.2.2.2.2.2.1
theorem CW.du {σ : Sg} {T : Nat → Nat} {ex : Nat → Option Nat} {z o : Nat} {a : Nat → Nat} {W : Wv} (H : CW σ T ex z o a W) : PDue σ T ex (a 3) := H.2.2.2.2.2.2.2.2.2.2.2.1
theorem CW.tp {σ : Sg} {T : Nat → Nat} {ex : Nat → Option Nat} {z o : Nat} {a : Nat → Nat} {W : Wv} (H : CW σ T ex z o a W) : PTap σ T ex (a 6) W.tn W.tp := H.2.2.2.2.2.2.2.2.2.2.2.2.1
theorem CW.sg {σ : Sg} {T : Nat → Nat} {ex : Nat → Option Nat} {z o : Nat} {a : Nat → Nat} {W : Wv} (H : CW σ T ex z o a W) : PSgn σ T ex (a 9) := H.2.2.2.2.2.2.2.2.2.2.2.2.2.1
theorem CW.tk {σ : Sg} {T : Nat → Nat} {ex : Nat → Option Nat} {z o : Nat} {a : Nat → Nat} {W : Wv} (H : CW σ T ex z o a W) : PTkn σ T ex (a 18) := H.2.2.2.2.2.2.2.2.2.2.2.2.2.2.1
theorem CW.sh {σ : Sg} {T : Nat → Nat} {ex : Nat → Option Nat} {z o : Nat} {a : Nat → Nat} {W : Wv} (H : CW σ T ex z o a W) : PShe σ T ex (a 17) W.sl W.sz W.it := H.2.2.2.2.2.2.2.2.2.2.2.2.2.2.2.1
theorem CW.cn {σ : Sg} {T : Nat → Nat} {ex : Nat → Option Nat} {z o : Nat} {a : Nat → Nat} {W : Wv} (H : CW σ T ex z o a W) : PCns σ T ex := H.2.2.2.2.2.2.2.2.2.2.2.2.2.2.2.2
theorem CW.u_ob {σ σ' : Sg} {T T' : Nat → Nat} {ex : Nat → Option Nat} {z z' o : Nat} {a : Nat → Nat} {W W' : Wv} (H : CW σ T ex z o a W) (F : Fre T' z') (h : Kp T σ T' σ' (fun i => i ≠ 1)) (hn : PObj σ' T' ex o a (nI W'.C.dr) (nI W'.tn) (nI W'.im) (nI W'.I.dr)) (htp : PTap σ T ex (a 6) W'.tn W'.tp) (eCR : W'.C.R = W.C.R) (eCbn : W'.C.bn = W.C.bn) (eCbc : W'.C.bc = W.C.bc) (eCbs : W'.C.bs = W.C.bs) (eCun : W'.C.un = W.C.un) (eCuk : W'.C.uk = W.C.uk) (eCuw : W'.C.uw = W.C.uw) (eCua : W'.C.ua = W.C.ua) (eIR : W'.I.R = W.I.R) (eIbn : W'.I.bn = W.I.bn) (eIbc : W'.I.bc = W.I.bc) (eIbs : W'.I.bs = W.I.bs) (eIun : W'.I.un = W.I.un) (eIuk : W'.I.uk = W.I.uk) (eIuw : W'.I.uw = W.I.uw) (eIua : W'.I.ua = W.I.ua) (esl : W'.sl = W.sl) (esz : W'.sz = W.sz) (eit : W'.it = W.it) : CW σ' T' ex z' o a W' := ⟨F, hn, by rw [eCR]; exact H.rc.kp h (by simp) (by simp), H.tr.kp h (by simp) (by simp), by rw [eIR]; exact H.im.kp h (by simp) (by simp), by rw [eCbn, eCbc, eCbs]; exact H.bt.kp h (by simp) (by simp) (by simp), by rw [eCun, eCuk, eCuw, eCua]; exact H.un.kp h (by simp) (by simp) (by simp), by rw [eIbn, eIbc, eIbs]; exact H.ib.kp h (by simp) (by simp) (by simp), by rw [eIun, eIuk, eIuw, eIua]; exact H.iu.kp h (by simp) (by simp) (by simp), H.rd.kp h (by simp) (by simp), H.ac.kp h (by simp) (by simp), H.du.kp h (by simp) (by simp), htp.kp h (by simp), H.sg.kp h (by simp), H.tk.kp h (by simp), by rw [esl, esz, eit]; exact H.sh.kp h (by simp) (by simp) (by simp) (by simp) (by simp) (by simp) (by simp) (by simp) (by simp), H.cn.kp h (by simp)⟩
theorem CW.u_rc {σ σ' : Sg} {T T' : Nat → Nat} {ex : Nat → Option Nat} {z z' o : Nat} {a : Nat → Nat} {W W' : Wv} (H : CW σ T ex z o a W) (F : Fre T' z') (h : Kp T σ T' σ' (fun i => i ≠ 2)) (hn : PRac σ' T' ex 2 (a 0) W'.C.R) (eCbn : W'.C.bn = W.C.bn) (eCbc : W'.C.bc = W.C.bc) (eCbs : W'.C.bs = W.C.bs) (eCun : W'.C.un = W.C.un) (eCuk : W'.C.uk = W.C.uk) (eCuw : W'.C.uw = W.C.uw) (eCua : W'.C.ua = W.C.ua) (eCdr : W'.C.dr = W.C.dr) (eIR : W'.I.R = W.I.R) (eIbn : W'.I.bn = W.I.bn) (eIbc : W'.I.bc = W.I.bc) (eIbs : W'.I.bs = W.I.bs) (eIun : W'.I.un = W.I.un) (eIuk : W'.I.uk = W.I.uk) (eIuw : W'.I.uw = W.I.uw) (eIua : W'.I.ua = W.I.ua) (eIdr : W'.I.dr = W.I.dr) (eim : W'.im = W.im) (etn : W'.tn = W.tn) (etp : W'.tp = W.tp) (esl : W'.sl = W.sl) (esz : W'.sz = W.sz) (eit : W'.it = W.it) : CW σ' T' ex z' o a W' := ⟨F, by rw [eCdr, etn, eim, eIdr]; exact H.ob.kp h (by simp), hn, H.tr.kp h (by simp) (by simp), by rw [eIR]; exact H.im.kp h (by simp) (by simp), by rw [eCbn, eCbc, eCbs]; exact H.bt.kp h (by simp) (by simp) (by simp), by rw [eCun, eCuk, eCuw, eCua]; exact H.un.kp h (by simp) (by simp) (by simp), by rw [eIbn, eIbc, eIbs]; exact H.ib.kp h (by simp) (by simp) (by simp), by rw [eIun, eIuk, eIuw, eIua]; exact H.iu.kp h (by simp) (by simp) (by simp), H.rd.kp h (by simp) (by simp), H.ac.kp h (by simp) (by simp), H.du.kp h (by simp) (by simp), by rw [etn, etp]; exact H.tp.kp h (by simp), H.sg.kp h (by simp), H.tk.kp h (by simp), by rw [esl, esz, eit]; exact H.sh.kp h (by simp) (by simp) (by simp) (by simp) (by simp) (by simp) (by simp) (by simp) (by simp), H.cn.kp h (by simp)⟩
theorem CW.u_tr {σ σ' : Sg} {T T' : Nat → Nat} {ex : Nat → Option Nat} {z z' o : Nat} {a : Nat → Nat} {W W' : Wv} (H : CW σ T ex z o a W) (F : Fre T' z') (h : Kp T σ T' σ' (fun i => i ≠ 3)) (hn : PTri σ' T' ex (a 1)) (eCR : W'.C.R = W.C.R) (eCbn : W'.C.bn = W.C.bn) (eCbc : W'.C.bc = W.C.bc) (eCbs : W'.C.bs = W.C.bs) (eCun : W'.C.un = W.C.un) (eCuk : W'.C.uk = W.C.uk) (eCuw : W'.C.uw = W.C.uw) (eCua : W'.C.ua = W.C.ua) (eCdr : W'.C.dr = W.C.dr) (eIR : W'.I.R = W.I.R) (eIbn : W'.I.bn = W.I.bn) (eIbc : W'.I.bc = W.I.bc) (eIbs : W'.I.bs = W.I.bs) (eIun : W'.I.un = W.I.un) (eIuk : W'.I.uk = W.I.uk) (eIuw : W'.I.uw = W.I.uw) (eIua : W'.I.ua = W.I.ua) (eIdr : W'.I.dr = W.I.dr) (eim : W'.im = W.im) (etn : W'.tn = W.tn) (etp : W'.tp = W.tp) (esl : W'.sl = W.sl) (esz : W'.sz = W.sz) (eit : W'.it = W.it) : CW σ' T' ex z' o a W' := ⟨F, by rw [eCdr, etn, eim, eIdr]; exact H.ob.kp h (by simp), by rw [eCR]; exact H.rc.kp h (by simp) (by simp), hn, by rw [eIR]; exact H.im.kp h (by simp) (by simp), by rw [eCbn, eCbc, eCbs]; exact H.bt.kp h (by simp) (by simp) (by simp), by rw [eCun, eCuk, eCuw, eCua]; exact H.un.kp h (by simp) (by simp) (by simp), by rw [eIbn, eIbc, eIbs]; exact H.ib.kp h (by simp) (by simp) (by simp), by rw [eIun, eIuk, eIuw, eIua]; exact H.iu.kp h (by simp) (by simp) (by simp), H.rd.kp h (by simp) (by simp), H.ac.kp h (by simp) (by simp), H.du.kp h (by simp) (by simp), by rw [etn, etp]; exact H.tp.kp h (by simp), H.sg.kp h (by simp), H.tk.kp h (by simp), by rw [esl, esz, eit]; exact H.sh.kp h (by simp) (by simp) (by simp) (by simp) (by simp) (by simp) (by simp) (by simp) (by simp), H.cn.kp h (by simp)⟩
theorem CW.u_im {σ σ' : Sg} {T T' : Nat → Nat} {ex : Nat → Option Nat} {z z' o : Nat} {a : Nat → Nat} {W W' : Wv} (H : CW σ T ex z o a W) (F : Fre T' z') (h : Kp T σ T' σ' (fun i => i ≠ 4)) (hn : PRac σ' T' ex 4 (a 13) W'.I.R) (eCR : W'.C.R = W.C.R) (eCbn : W'.C.bn = W.C.bn) (eCbc : W'.C.bc = W.C.bc) (eCbs : W'.C.bs = W.C.bs) (eCun : W'.C.un = W.C.un) (eCuk : W'.C.uk = W.C.uk) (eCuw : W'.C.uw = W.C.uw) (eCua : W'.C.ua = W.C.ua) (eCdr : W'.C.dr = W.C.dr) (eIbn : W'.I.bn = W.I.bn) (eIbc : W'.I.bc = W.I.bc) (eIbs : W'.I.bs = W.I.bs) (eIun : W'.I.un = W.I.un) (eIuk : W'.I.uk = W.I.uk) (eIuw : W'.I.uw = W.I.uw) (eIua : W'.I.ua = W.I.ua) (eIdr : W'.I.dr = W.I.dr) (eim : W'.im = W.im) (etn : W'.tn = W.tn) (etp : W'.tp = W.tp) (esl : W'.sl = W.sl) (esz : W'.sz = W.sz) (eit : W'.it = W.it) : CW σ' T' ex z' o a W' := ⟨F, by rw [eCdr, etn, eim, eIdr]; exact H.ob.kp h (by simp), by rw [eCR]; exact H.rc.kp h (by simp) (by simp), H.tr.kp h (by simp) (by simp), hn, by rw [eCbn, eCbc, eCbs]; exact H.bt.kp h (by simp) (by simp) (by simp), by rw [eCun, eCuk, eCuw, eCua]; exact H.un.kp h (by simp) (by simp) (by simp), by rw [eIbn, eIbc, eIbs]; exact H.ib.kp h (by simp) (by simp) (by simp), by rw [eIun, eIuk, eIuw, eIua]; exact H.iu.kp h (by simp) (by simp) (by simp), H.rd.kp h (by simp) (by simp), H.ac.kp h (by simp) (by simp), H.du.kp h (by simp) (by simp), by rw [etn, etp]; exact H.tp.kp h (by simp), H.sg.kp h (by simp), H.tk.kp h (by simp), by rw [esl, esz, eit]; exact H.sh.kp h (by simp) (by simp) (by simp) (by simp) (by simp) (by simp) (by simp) (by simp) (by simp), H.cn.kp h (by simp)⟩
theorem CW.u_bt {σ σ' : Sg} {T T' : Nat → Nat} {ex : Nat → Option Nat} {z z' o : Nat} {a : Nat → Nat} {W W' : Wv} (H : CW σ T ex z o a W) (F : Fre T' z') (h : Kp T σ T' σ' (fun i => i ≠ 5)) (hn : PBts σ' T' ex 5 (a 4) W'.C.bn W'.C.bc W'.C.bs) (eCR : W'.C.R = W.C.R) (eCun : W'.C.un = W.C.un) (eCuk : W'.C.uk = W.C.uk) (eCuw : W'.C.uw = W.C.uw) (eCua : W'.C.ua = W.C.ua) (eCdr : W'.C.dr = W.C.dr) (eIR : W'.I.R = W.I.R) (eIbn : W'.I.bn = W.I.bn) (eIbc : W'.I.bc = W.I.bc) (eIbs : W'.I.bs = W.I.bs) (eIun : W'.I.un = W.I.un) (eIuk : W'.I.uk = W.I.uk) (eIuw : W'.I.uw = W.I.uw) (eIua : W'.I.ua = W.I.ua) (eIdr : W'.I.dr = W.I.dr) (eim : W'.im = W.im) (etn : W'.tn = W.tn) (etp : W'.tp = W.tp) (esl : W'.sl = W.sl) (esz : W'.sz = W.sz) (eit : W'.it = W.it) : CW σ' T' ex z' o a W' := ⟨F, by rw [eCdr, etn, eim, eIdr]; exact H.ob.kp h (by simp), by rw [eCR]; exact H.rc.kp h (by simp) (by simp), H.tr.kp h (by simp) (by simp), by rw [eIR]; exact H.im.kp h (by simp) (by simp), hn, by rw [eCun, eCuk, eCuw, eCua]; exact H.un.kp h (by simp) (by simp) (by simp), by rw [eIbn, eIbc, eIbs]; exact H.ib.kp h (by simp) (by simp) (by simp), by rw [eIun, eIuk, eIuw, eIua]; exact H.iu.kp h (by simp) (by simp) (by simp), H.rd.kp h (by simp) (by simp), H.ac.kp h (by simp) (by simp), H.du.kp h (by simp) (by simp), by rw [etn, etp]; exact H.tp.kp h (by simp), H.sg.kp h (by simp), H.tk.kp h (by simp), by rw [esl, esz, eit]; exact H.sh.kp h (by simp) (by simp) (by simp) (by simp) (by simp) (by simp) (by simp) (by simp) (by simp), H.cn.kp h (by simp)⟩
theorem CW.u_un {σ σ' : Sg} {T T' : Nat → Nat} {ex : Nat → Option Nat} {z z' o : Nat} {a : Nat → Nat} {W W' : Wv} (H : CW σ T ex z o a W) (F : Fre T' z') (h : Kp T σ T' σ' (fun i => i ≠ 6)) (hn : PUns σ' T' ex 6 o (a 2) W'.C.un W'.C.uk W'.C.uw W'.C.ua) (eCR : W'.C.R = W.C.R) (eCbn : W'.C.bn = W.C.bn) (eCbc : W'.C.bc = W.C.bc) (eCbs : W'.C.bs = W.C.bs) (eCdr : W'.C.dr = W.C.dr) (eIR : W'.I.R = W.I.R) (eIbn : W'.I.bn = W.I.bn) (eIbc : W'.I.bc = W.I.bc) (eIbs : W'.I.bs = W.I.bs) (eIun : W'.I.un = W.I.un) (eIuk : W'.I.uk = W.I.uk) (eIuw : W'.I.uw = W.I.uw) (eIua : W'.I.ua = W.I.ua) (eIdr : W'.I.dr = W.I.dr) (eim : W'.im = W.im) (etn : W'.tn = W.tn) (etp : W'.tp = W.tp) (esl : W'.sl = W.sl) (esz : W'.sz = W.sz) (eit : W'.it = W.it) : CW σ' T' ex z' o a W' := ⟨F, by rw [eCdr, etn, eim, eIdr]; exact H.ob.kp h (by simp), by rw [eCR]; exact H.rc.kp h (by simp) (by simp), H.tr.kp h (by simp) (by simp), by rw [eIR]; exact H.im.kp h (by simp) (by simp), by rw [eCbn, eCbc, eCbs]; exact H.bt.kp h (by simp) (by simp) (by simp), hn, by rw [eIbn, eIbc, eIbs]; exact H.ib.kp h (by simp) (by simp) (by simp), by rw [eIun, eIuk, eIuw, eIua]; exact H.iu.kp h (by simp) (by simp) (by simp), H.rd.kp h (by simp) (by simp), H.ac.kp h (by simp) (by simp), H.du.kp h (by simp) (by simp), by rw [etn, etp]; exact H.tp.kp h (by simp), H.sg.kp h (by simp), H.tk.kp h (by simp), by rw [esl, esz, eit]; exact H.sh.kp h (by simp) (by simp) (by simp) (by simp) (by simp) (by simp) (by simp) (by simp) (by simp), H.cn.kp h (by simp)⟩
theorem CW.u_ib {σ σ' : Sg} {T T' : Nat → Nat} {ex : Nat → Option Nat} {z z' o : Nat} {a : Nat → Nat} {W W' : Wv} (H : CW σ T ex z o a W) (F : Fre T' z') (h : Kp T σ T' σ' (fun i => i ≠ 7)) (hn : PBts σ' T' ex 7 (a 14) W'.I.bn W'.I.bc W'.I.bs) (eCR : W'.C.R = W.C.R) (eCbn : W'.C.bn = W.C.bn) (eCbc : W'.C.bc = W.C.bc) (eCbs : W'.C.bs = W.C.bs) (eCun : W'.C.un = W.C.un) (eCuk : W'.C.uk = W.C.uk) (eCuw : W'.C.uw = W.C.uw) (eCua : W'.C.ua = W.C.ua) (eCdr : W'.C.dr = W.C.dr) (eIR : W'.I.R = W.I.R) (eIun : W'.I.un = W.I.un) (eIuk : W'.I.uk = W.I.uk) (eIuw : W'.I.uw = W.I.uw) (eIua : W'.I.ua = W.I.ua) (eIdr : W'.I.dr = W.I.dr) (eim : W'.im = W.im) (etn : W'.tn = W.tn) (etp : W'.tp = W.tp) (esl : W'.sl = W.sl) (esz : W'.sz = W.sz) (eit : W'.it = W.it) : CW σ' T' ex z' o a W' := ⟨F, by rw [eCdr, etn, eim, eIdr]; exact H.ob.kp h (by simp), by rw [eCR]; exact H.rc.kp h (by simp) (by simp), H.tr.kp h (by simp) (by simp), by rw [eIR]; exact H.im.kp h (by simp) (by simp), by rw [eCbn, eCbc, eCbs]; exact H.bt.kp h (by simp) (by simp) (by simp), by rw [eCun, eCuk, eCuw, eCua]; exact H.un.kp h (by simp) (by simp) (by simp), hn, by rw [eIun, eIuk, eIuw, eIua]; exact H.iu.kp h (by simp) (by simp) (by simp), H.rd.kp h (by simp) (by simp), H.ac.kp h (by simp) (by simp), H.du.kp h (by simp) (by simp), by rw [etn, etp]; exact H.tp.kp h (by simp), H.sg.kp h (by simp), H.tk.kp h (by simp), by rw [esl, esz, eit]; exact H.sh.kp h (by simp) (by simp) (by simp) (by simp) (by simp) (by simp) (by simp) (by simp) (by simp), H.cn.kp h (by simp)⟩
theorem CW.u_iu {σ σ' : Sg} {T T' : Nat → Nat} {ex : Nat → Option Nat} {z z' o : Nat} {a : Nat → Nat} {W W' : Wv} (H : CW σ T ex z o a W) (F : Fre T' z') (h : Kp T σ T' σ' (fun i => i ≠ 8)) (hn : PUns σ' T' ex 8 o (a 15) W'.I.un W'.I.uk W'.I.uw W'.I.ua) (eCR : W'.C.R = W.C.R) (eCbn : W'.C.bn = W.C.bn) (eCbc : W'.C.bc = W.C.bc) (eCbs : W'.C.bs = W.C.bs) (eCun : W'.C.un = W.C.un) (eCuk : W'.C.uk = W.C.uk) (eCuw : W'.C.uw = W.C.uw) (eCua : W'.C.ua = W.C.ua) (eCdr : W'.C.dr = W.C.dr) (eIR : W'.I.R = W.I.R) (eIbn : W'.I.bn = W.I.bn) (eIbc : W'.I.bc = W.I.bc) (eIbs : W'.I.bs = W.I.bs) (eIdr : W'.I.dr = W.I.dr) (eim : W'.im = W.im) (etn : W'.tn = W.tn) (etp : W'.tp = W.tp) (esl : W'.sl = W.sl) (esz : W'.sz = W.sz) (eit : W'.it = W.it) : CW σ' T' ex z' o a W' := ⟨F, by rw [eCdr, etn, eim, eIdr]; exact H.ob.kp h (by simp), by rw [eCR]; exact H.rc.kp h (by simp) (by simp), H.tr.kp h (by simp) (by simp), by rw [eIR]; exact H.im.kp h (by simp) (by simp), by rw [eCbn, eCbc, eCbs]; exact H.bt.kp h (by simp) (by simp) (by simp), by rw [eCun, eCuk, eCuw, eCua]; exact H.un.kp h (by simp) (by simp) (by simp), by rw [eIbn, eIbc, eIbs]; exact H.ib.kp h (by simp) (by simp) (by simp), hn, H.rd.kp h (by simp) (by simp), H.ac.kp h (by simp) (by simp), H.du.kp h (by simp) (by simp), by rw [etn, etp]; exact H.tp.kp h (by simp), H.sg.kp h (by simp), H.tk.kp h (by simp), by rw [esl, esz, eit]; exact H.sh.kp h (by simp) (by simp) (by simp) (by simp) (by simp) (by simp) (by simp) (by simp) (by simp), H.cn.kp h (by simp)⟩
theorem CW.u_rd {σ σ' : Sg} {T T' : Nat → Nat} {ex : Nat → Option Nat} {z z' o : Nat} {a : Nat → Nat} {W W' : Wv} (H : CW σ T ex z o a W) (F : Fre T' z') (h : Kp T σ T' σ' (fun i => i ≠ 9)) (hn : PLst σ' T' ex 9 (a 10) 9) (eCR : W'.C.R = W.C.R) (eCbn : W'.C.bn = W.C.bn) (eCbc : W'.C.bc = W.C.bc) (eCbs : W'.C.bs = W.C.bs) (eCun : W'.C.un = W.C.un) (eCuk : W'.C.uk = W.C.uk) (eCuw : W'.C.uw = W.C.uw) (eCua : W'.C.ua = W.C.ua) (eCdr : W'.C.dr = W.C.dr) (eIR : W'.I.R = W.I.R) (eIbn : W'.I.bn = W.I.bn) (eIbc : W'.I.bc = W.I.bc) (eIbs : W'.I.bs = W.I.bs) (eIun : W'.I.un = W.I.un) (eIuk : W'.I.uk = W.I.uk) (eIuw : W'.I.uw = W.I.uw) (eIua : W'.I.ua = W.I.ua) (eIdr : W'.I.dr = W.I.dr) (eim : W'.im = W.im) (etn : W'.tn = W.tn) (etp : W'.tp = W.tp) (esl : W'.sl = W.sl) (esz : W'.sz = W.sz) (eit : W'.it = W.it) : CW σ' T' ex z' o a W' := ⟨F, by rw [eCdr, etn, eim, eIdr]; exact H.ob.kp h (by simp), by rw [eCR]; exact H.rc.kp h (by simp) (by simp), H.tr.kp h (by simp) (by simp), by rw [eIR]; exact H.im.kp h (by simp) (by simp), by rw [eCbn, eCbc, eCbs]; exact H.bt.kp h (by simp) (by simp) (by simp), by rw [eCun, eCuk, eCuw, eCua]; exact H.un.kp h (by simp) (by simp) (by simp), by rw [eIbn, eIbc, eIbs]; exact H.ib.kp h (by simp) (by simp) (by simp), by rw [eIun, eIuk, eIuw, eIua]; exact H.iu.kp h (by simp) (by simp) (by simp), hn, H.ac.kp h (by simp) (by simp), H.du.kp h (by simp) (by simp), by rw [etn, etp]; exact H.tp.kp h (by simp), H.sg.kp h (by simp), H.tk.kp h (by simp), by rw [esl, esz, eit]; exact H.sh.kp h (by simp) (by simp) (by simp) (by simp) (by simp) (by simp) (by simp) (by simp) (by simp), H.cn.kp h (by simp)⟩
theorem CW.u_ac {σ σ' : Sg} {T T' : Nat → Nat} {ex : Nat → Option Nat} {z z' o : Nat} {a : Nat → Nat} {W W' : Wv} (H : CW σ T ex z o a W) (F : Fre T' z') (h : Kp T σ T' σ' (fun i => i ≠ 10)) (hn : PLst σ' T' ex 10 (a 11) 160) (eCR : W'.C.R = W.C.R) (eCbn : W'.C.bn = W.C.bn) (eCbc : W'.C.bc = W.C.bc) (eCbs : W'.C.bs = W.C.bs) (eCun : W'.C.un = W.C.un) (eCuk : W'.C.uk = W.C.uk) (eCuw : W'.C.uw = W.C.uw) (eCua : W'.C.ua = W.C.ua) (eCdr : W'.C.dr = W.C.dr) (eIR : W'.I.R = W.I.R) (eIbn : W'.I.bn = W.I.bn) (eIbc : W'.I.bc = W.I.bc) (eIbs : W'.I.bs = W.I.bs) (eIun : W'.I.un = W.I.un) (eIuk : W'.I.uk = W.I.uk) (eIuw : W'.I.uw = W.I.uw) (eIua : W'.I.ua = W.I.ua) (eIdr : W'.I.dr = W.I.dr) (eim : W'.im = W.im) (etn : W'.tn = W.tn) (etp : W'.tp = W.tp) (esl : W'.sl = W.sl) (esz : W'.sz = W.sz) (eit : W'.it = W.it) : CW σ' T' ex z' o a W' := ⟨F, by rw [eCdr, etn, eim, eIdr]; exact H.ob.kp h (by simp), by rw [eCR]; exact H.rc.kp h (by simp) (by simp), H.tr.kp h (by simp) (by simp), by rw [eIR]; exact H.im.kp h (by simp) (by simp), by rw [eCbn, eCbc, eCbs]; exact H.bt.kp h (by simp) (by simp) (by simp), by rw [eCun, eCuk, eCuw, eCua]; exact H.un.kp h (by simp) (by simp) (by simp), by rw [eIbn, eIbc, eIbs]; exact H.ib.kp h (by simp) (by simp) (by simp), by rw [eIun, eIuk, eIuw, eIua]; exact H.iu.kp h (by simp) (by simp) (by simp), H.rd.kp h (by simp) (by simp), hn, H.du.kp h (by simp) (by simp), by rw [etn, etp]; exact H.tp.kp h (by simp), H.sg.kp h (by simp), H.tk.kp h (by simp), by rw [esl, esz, eit]; exact H.sh.kp h (by simp) (by simp) (by simp) (by simp) (by simp) (by simp) (by simp) (by simp) (by simp), H.cn.kp h (by simp)⟩
theorem CW.u_du {σ σ' : Sg} {T T' : Nat → Nat} {ex : Nat → Option Nat} {z z' o : Nat} {a : Nat → Nat} {W W' : Wv} (H : CW σ T ex z o a W) (F : Fre T' z') (h : Kp T σ T' σ' (fun i => ¬ (i = 11 ∨ i = 16))) (hn : PDue σ' T' ex (a 3)) (eCR : W'.C.R = W.C.R) (eCbn : W'.C.bn = W.C.bn) (eCbc : W'.C.bc = W.C.bc) (eCbs : W'.C.bs = W.C.bs) (eCun : W'.C.un = W.C.un) (eCuk : W'.C.uk = W.C.uk) (eCuw : W'.C.uw = W.C.uw) (eCua : W'.C.ua = W.C.ua) (eCdr : W'.C.dr = W.C.dr) (eIR : W'.I.R = W.I.R) (eIbn : W'.I.bn = W.I.bn) (eIbc : W'.I.bc = W.I.bc) (eIbs : W'.I.bs = W.I.bs) (eIun : W'.I.un = W.I.un) (eIuk : W'.I.uk = W.I.uk) (eIuw : W'.I.uw = W.I.uw) (eIua : W'.I.ua = W.I.ua) (eIdr : W'.I.dr = W.I.dr) (eim : W'.im = W.im) (etn : W'.tn = W.tn) (etp : W'.tp = W.tp) (esl : W'.sl = W.sl) (esz : W'.sz = W.sz) (eit : W'.it = W.it) : CW σ' T' ex z' o a W' := ⟨F, by rw [eCdr, etn, eim, eIdr]; exact H.ob.kp h (by simp), by rw [eCR]; exact H.rc.kp h (by simp) (by simp), H.tr.kp h (by simp) (by simp), by rw [eIR]; exact H.im.kp h (by simp) (by simp), by rw [eCbn, eCbc, eCbs]; exact H.bt.kp h (by simp) (by simp) (by simp), by rw [eCun, eCuk, eCuw, eCua]; exact H.un.kp h (by simp) (by simp) (by simp), by rw [eIbn, eIbc, eIbs]; exact H.ib.kp h (by simp) (by simp) (by simp), by rw [eIun, eIuk, eIuw, eIua]; exact H.iu.kp h (by simp) (by simp) (by simp), H.rd.kp h (by simp) (by simp), H.ac.kp h (by simp) (by simp), hn, by rw [etn, etp]; exact H.tp.kp h (by simp), H.sg.kp h (by simp), H.tk.kp h (by simp), by rw [esl, esz, eit]; exact H.sh.kp h (by simp) (by simp) (by simp) (by simp) (by simp) (by simp) (by simp) (by simp) (by simp), H.cn.kp h (by simp)⟩
theorem CW.u_tp {σ σ' : Sg} {T T' : Nat → Nat} {ex : Nat → Option Nat} {z z' o : Nat} {a : Nat → Nat} {W W' : Wv} (H : CW σ T ex z o a W) (F : Fre T' z') (h : Kp T σ T' σ' (fun i => i ≠ 12)) (hn : PTap σ' T' ex (a 6) W'.tn W'.tp) (eCR : W'.C.R = W.C.R) (eCbn : W'.C.bn = W.C.bn) (eCbc : W'.C.bc = W.C.bc) (eCbs : W'.C.bs = W.C.bs) (eCun : W'.C.un = W.C.un) (eCuk : W'.C.uk = W.C.uk) (eCuw : W'.C.uw = W.C.uw) (eCua : W'.C.ua = W.C.ua) (eCdr : W'.C.dr = W.C.dr) (eIR : W'.I.R = W.I.R) (eIbn : W'.I.bn = W.I.bn) (eIbc : W'.I.bc = W.I.bc) (eIbs : W'.I.bs = W.I.bs) (eIun : W'.I.un = W.I.un) (eIuk : W'.I.uk = W.I.uk) (eIuw : W'.I.uw = W.I.uw) (eIua : W'.I.ua = W.I.ua) (eIdr : W'.I.dr = W.I.dr) (eim : W'.im = W.im) (etn : W'.tn = W.tn) (esl : W'.sl = W.sl) (esz : W'.sz = W.sz) (eit : W'.it = W.it) : CW σ' T' ex z' o a W' := ⟨F, by rw [eCdr, etn, eim, eIdr]; exact H.ob.kp h (by simp), by rw [eCR]; exact H.rc.kp h (by simp) (by simp), H.tr.kp h (by simp) (by simp), by rw [eIR]; exact H.im.kp h (by simp) (by simp), by rw [eCbn, eCbc, eCbs]; exact H.bt.kp h (by simp) (by simp) (by simp), by rw [eCun, eCuk, eCuw, eCua]; exact H.un.kp h (by simp) (by simp) (by simp), by rw [eIbn, eIbc, eIbs]; exact H.ib.kp h (by simp) (by simp) (by simp), by rw [eIun, eIuk, eIuw, eIua]; exact H.iu.kp h (by simp) (by simp) (by simp), H.rd.kp h (by simp) (by simp), H.ac.kp h (by simp) (by simp), H.du.kp h (by simp) (by simp), hn, H.sg.kp h (by simp), H.tk.kp h (by simp), by rw [esl, esz, eit]; exact H.sh.kp h (by simp) (by simp) (by simp) (by simp) (by simp) (by simp) (by simp) (by simp) (by simp), H.cn.kp h (by simp)⟩
theorem CW.u_sg {σ σ' : Sg} {T T' : Nat → Nat} {ex : Nat → Option Nat} {z z' o : Nat} {a : Nat → Nat} {W W' : Wv} (H : CW σ T ex z o a W) (F : Fre T' z') (h : Kp T σ T' σ' (fun i => i ≠ 13)) (hn : PSgn σ' T' ex (a 9)) (eCR : W'.C.R = W.C.R) (eCbn : W'.C.bn = W.C.bn) (eCbc : W'.C.bc = W.C.bc) (eCbs : W'.C.bs = W.C.bs) (eCun : W'.C.un = W.C.un) (eCuk : W'.C.uk = W.C.uk) (eCuw : W'.C.uw = W.C.uw) (eCua : W'.C.ua = W.C.ua) (eCdr : W'.C.dr = W.C.dr) (eIR : W'.I.R = W.I.R) (eIbn : W'.I.bn = W.I.bn) (eIbc : W'.I.bc = W.I.bc) (eIbs : W'.I.bs = W.I.bs) (eIun : W'.I.un = W.I.un) (eIuk : W'.I.uk = W.I.uk) (eIuw : W'.I.uw = W.I.uw) (eIua : W'.I.ua = W.I.ua) (eIdr : W'.I.dr = W.I.dr) (eim : W'.im = W.im) (etn : W'.tn = W.tn) (etp : W'.tp = W.tp) (esl : W'.sl = W.sl) (esz : W'.sz = W.sz) (eit : W'.it = W.it) : CW σ' T' ex z' o a W' := ⟨F, by rw [eCdr, etn, eim, eIdr]; exact H.ob.kp h (by simp), by rw [eCR]; exact H.rc.kp h (by simp) (by simp), H.tr.kp h (by simp) (by simp), by rw [eIR]; exact H.im.kp h (by simp) (by simp), by rw [eCbn, eCbc, eCbs]; exact H.bt.kp h (by simp) (by simp) (by simp), by rw [eCun, eCuk, eCuw, eCua]; exact H.un.kp h (by simp) (by simp) (by simp), by rw [eIbn, eIbc, eIbs]; exact H.ib.kp h (by simp) (by simp) (by simp), by rw [eIun, eIuk, eIuw, eIua]; exact H.iu.kp h (by simp) (by simp) (by simp), H.rd.kp h (by simp) (by simp), H.ac.kp h (by simp) (by simp), H.du.kp h (by simp) (by simp), by rw [etn, etp]; exact H.tp.kp h (by simp), hn, H.tk.kp h (by simp), by rw [esl, esz, eit]; exact H.sh.kp h (by simp) (by simp) (by simp) (by simp) (by simp) (by simp) (by simp) (by simp) (by simp), H.cn.kp h (by simp)⟩
theorem CW.u_tk {σ σ' : Sg} {T T' : Nat → Nat} {ex : Nat → Option Nat} {z z' o : Nat} {a : Nat → Nat} {W W' : Wv} (H : CW σ T ex z o a W) (F : Fre T' z') (h : Kp T σ T' σ' (fun i => i ≠ 14)) (hn : PTkn σ' T' ex (a 18)) (eCR : W'.C.R = W.C.R) (eCbn : W'.C.bn = W.C.bn) (eCbc : W'.C.bc = W.C.bc) (eCbs : W'.C.bs = W.C.bs) (eCun : W'.C.un = W.C.un) (eCuk : W'.C.uk = W.C.uk) (eCuw : W'.C.uw = W.C.uw) (eCua : W'.C.ua = W.C.ua) (eCdr : W'.C.dr = W.C.dr) (eIR : W'.I.R = W.I.R) (eIbn : W'.I.bn = W.I.bn) (eIbc : W'.I.bc = W.I.bc) (eIbs : W'.I.bs = W.I.bs) (eIun : W'.I.un = W.I.un) (eIuk : W'.I.uk = W.I.uk) (eIuw : W'.I.uw = W.I.uw) (eIua : W'.I.ua = W.I.ua) (eIdr : W'.I.dr = W.I.dr) (eim : W'.im = W.im) (etn : W'.tn = W.tn) (etp : W'.tp = W.tp) (esl : W'.sl = W.sl) (esz : W'.sz = W.sz) (eit : W'.it = W.it) : CW σ' T' ex z' o a W' := ⟨F, by rw [eCdr, etn, eim, eIdr]; exact H.ob.kp h (by simp), by rw [eCR]; exact H.rc.kp h (by simp) (by simp), H.tr.kp h (by simp) (by simp), by rw [eIR]; exact H.im.kp h (by simp) (by simp), by rw [eCbn, eCbc, eCbs]; exact H.bt.kp h (by simp) (by simp) (by simp), by rw [eCun, eCuk, eCuw, eCua]; exact H.un.kp h (by simp) (by simp) (by simp), by rw [eIbn, eIbc, eIbs]; exact H.ib.kp h (by simp) (by simp) (by simp), by rw [eIun, eIuk, eIuw, eIua]; exact H.iu.kp h (by simp) (by simp) (by simp), H.rd.kp h (by simp) (by simp), H.ac.kp h (by simp) (by simp), H.du.kp h (by simp) (by simp), by rw [etn, etp]; exact H.tp.kp h (by simp), H.sg.kp h (by simp), hn, by rw [esl, esz, eit]; exact H.sh.kp h (by simp) (by simp) (by simp) (by simp) (by simp) (by simp) (by simp) (by simp) (by simp), H.cn.kp h (by simp)⟩
theorem CW.u_sh {σ σ' : Sg} {T T' : Nat → Nat} {ex : Nat → Option Nat} {z z' o : Nat} {a : Nat → Nat} {W W' : Wv} (H : CW σ T ex z o a W) (F : Fre T' z') (h : Kp T σ T' σ' (fun i => ¬ (i = 15 ∨ (30 ≤ i ∧ i ≤ 43)))) (hn : PShe σ' T' ex (a 17) W'.sl W'.sz W'.it) (eCR : W'.C.R = W.C.R) (eCbn : W'.C.bn = W.C.bn) (eCbc : W'.C.bc = W.C.bc) (eCbs : W'.C.bs = W.C.bs) (eCun : W'.C.un = W.C.un) (eCuk : W'.C.uk = W.C.uk) (eCuw : W'.C.uw = W.C.uw) (eCua : W'.C.ua = W.C.ua) (eCdr : W'.C.dr = W.C.dr) (eIR : W'.I.R = W.I.R) (eIbn : W'.I.bn = W.I.bn) (eIbc : W'.I.bc = W.I.bc) (eIbs : W'.I.bs = W.I.bs) (eIun : W'.I.un = W.I.un) (eIuk : W'.I.uk = W.I.uk) (eIuw : W'.I.uw = W.I.uw) (eIua : W'.I.ua = W.I.ua) (eIdr : W'.I.dr = W.I.dr) (eim : W'.im = W.im) (etn : W'.tn = W.tn) (etp : W'.tp = W.tp) : CW σ' T' ex z' o a W' := ⟨F, by rw [eCdr, etn, eim, eIdr]; exact H.ob.kp h (by simp), by rw [eCR]; exact H.rc.kp h (by simp) (by simp), H.tr.kp h (by simp) (by simp), by rw [eIR]; exact H.im.kp h (by simp) (by simp), by rw [eCbn, eCbc, eCbs]; exact H.bt.kp h (by simp) (by simp) (by simp), by rw [eCun, eCuk, eCuw, eCua]; exact H.un.kp h (by simp) (by simp) (by simp), by rw [eIbn, eIbc, eIbs]; exact H.ib.kp h (by simp) (by simp) (by simp), by rw [eIun, eIuk, eIuw, eIua]; exact H.iu.kp h (by simp) (by simp) (by simp), H.rd.kp h (by simp) (by simp), H.ac.kp h (by simp) (by simp), H.du.kp h (by simp) (by simp), by rw [etn, etp]; exact H.tp.kp h (by simp), H.sg.kp h (by simp), H.tk.kp h (by simp), hn, H.cn.kp h (by simp)⟩
theorem CW.all {σ σ' : Sg} {T T' : Nat → Nat} {ex : Nat → Option Nat} {z z' o : Nat} {a : Nat → Nat} {W : Wv} (H : CW σ T ex z o a W) (F : Fre T' z') (h : Kp T σ T' σ' (fun _ => True)) : CW σ' T' ex z' o a W := ⟨F, H.ob.kp h trivial, H.rc.kp h trivial trivial, H.tr.kp h trivial trivial, H.im.kp h trivial trivial, H.bt.kp h trivial trivial trivial, H.un.kp h trivial trivial trivial, H.ib.kp h trivial trivial trivial, H.iu.kp h trivial trivial trivial, H.rd.kp h trivial trivial, H.ac.kp h trivial trivial, H.du.kp h trivial trivial, H.tp.kp h trivial, H.sg.kp h trivial, H.tk.kp h trivial, H.sh.kp h trivial trivial trivial trivial trivial trivial trivial trivial trivial, H.cn.kp h trivial⟩
