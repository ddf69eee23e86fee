/-! the component, its methods: X0_finish, X0_over, X0_comesTo, X0_hands, X0_both (printed by gen/cmain.py) -/
set_option maxRecDepth 100000
theorem q861 : (Jvm.Cond.methodLink "LameClocks" (220 : Nat) ({ cls := "LameClocks", name := "goOn", desc := "(I)V" } : Jvm.MethodName)) ∈ lw_all := lw_g (lw_at lw_m4 72 rfl) rfl
theorem q863 : (Jvm.Cond.instanceMethod ({ cls := "LameClocks", name := "goOn", desc := "(I)V" } : Jvm.MethodName)) ∈ lw_all := lw_g (lw_at lw_m4 74 rfl) rfl
theorem q872 : (Jvm.Cond.code ({ cls := "LameClocks", name := "finish", desc := "(I)I" } : Jvm.MethodName) prog_1_method_29_code (4 : Nat) (Option.some Jvm.ClassFile.FieldType.int)) ∈ lw_all := lw_g (lw_at lw_m4 83 rfl) rfl
theorem q873 : (Jvm.Cond.methodLink "LameClocks" (229 : Nat) ({ cls := "LameClocks$Plain", name := "isHome", desc := "()Z" } : Jvm.MethodName)) ∈ lw_all := lw_g (lw_at lw_m4 84 rfl) rfl
theorem q877 : (Jvm.Cond.code ({ cls := "LameClocks", name := "over", desc := "()I" } : Jvm.MethodName) prog_1_method_30_code (2 : Nat) (Option.some Jvm.ClassFile.FieldType.int)) ∈ lw_all := lw_g (lw_at lw_m4 88 rfl) rfl
theorem q882 : (Jvm.Cond.methodLink "LameClocks" (234 : Nat) ({ cls := "LameClocks", name := "isAsked", desc := "(III)Z" } : Jvm.MethodName)) ∈ lw_all := lw_g (lw_at lw_m4 93 rfl) rfl
theorem q884 : (Jvm.Cond.instanceMethod ({ cls := "LameClocks", name := "isAsked", desc := "(III)Z" } : Jvm.MethodName)) ∈ lw_all := lw_g (lw_at lw_m4 95 rfl) rfl
theorem q887 : (Jvm.Cond.methodLink "LameClocks" (238 : Nat) ({ cls := "LameClocks", name := "comesTo", desc := "(IIIII)Z" } : Jvm.MethodName)) ∈ lw_all := lw_g (lw_at lw_m4 98 rfl) rfl
theorem q889 : (Jvm.Cond.instanceMethod ({ cls := "LameClocks", name := "comesTo", desc := "(IIIII)Z" } : Jvm.MethodName)) ∈ lw_all := lw_g (lw_at lw_m4 100 rfl) rfl
theorem q890 : (Jvm.Cond.code ({ cls := "LameClocks", name := "comesTo", desc := "(IIIII)Z" } : Jvm.MethodName) prog_1_method_31_code (6 : Nat) (Option.some Jvm.ClassFile.FieldType.boolean)) ∈ lw_all := lw_g (lw_at lw_m4 101 rfl) rfl
theorem q894 : (Jvm.Cond.code ({ cls := "LameClocks", name := "hands", desc := "(III)I" } : Jvm.MethodName) prog_1_method_34_code (5 : Nat) (Option.some Jvm.ClassFile.FieldType.int)) ∈ lw_all := lw_g (lw_at lw_m4 105 rfl) rfl
theorem q898 : (Jvm.Cond.code ({ cls := "LameClocks", name := "both", desc := "(IIII)I" } : Jvm.MethodName) prog_1_method_35_code (7 : Nat) (Option.some Jvm.ClassFile.FieldType.int)) ∈ lw_all := lw_g (lw_at lw_m4 109 rfl) rfl
abbrev cX0_finish : ByteArray := prog_1_method_29_code
def yX0_finish : MethodName := ⟨RX0, "finish", "(I)I"⟩
def dkwX0_finish_2 : List UInt8 := [42, 180, 0, 213, 182, 0, 169, 87, 132, 3, 1, 167, 255, 231, 44, 180, 0, 119, 172]
abbrev dktX0_finish_2 : List UInt8 := dkwX0_finish_2 ++ []
def dkwX0_finish_1 : List UInt8 := [180, 0, 213, 27, 182, 0, 111, 77, 3, 62, 29, 17, 0, 200, 162, 0, 24, 44, 182, 0, 229, 154, 0, 17]
abbrev dktX0_finish_1 : List UInt8 := dkwX0_finish_1 ++ dktX0_finish_2
def dkwX0_finish_0 : List UInt8 := [42, 27, 182, 0, 107, 154, 0, 5, 2, 172, 42, 180, 0, 213, 42, 180, 0, 38, 182, 0, 216, 42]
abbrev dktX0_finish_0 : List UInt8 := dkwX0_finish_0 ++ dktX0_finish_1
theorem dksX0_finish_0 : cX0_finish.data.toList.drop 0 = dktX0_finish_0 := by decide +kernel
theorem dksX0_finish_1 : cX0_finish.data.toList.drop 22 = dktX0_finish_1 := dk_seg dksX0_finish_0 22 rfl rfl
theorem dksX0_finish_2 : cX0_finish.data.toList.drop 46 = dktX0_finish_2 := dk_seg dksX0_finish_1 24 rfl rfl
theorem dX0_finish_0 : decode cX0_finish 0 = .ok (.aload_n 0, 1) := dk_42 (dk_at dksX0_finish_0 0 rfl rfl)
theorem dX0_finish_1 : decode cX0_finish 1 = .ok (.iload_n 1, 1) := dk_27 (dk_at dksX0_finish_0 1 rfl rfl)
theorem dX0_finish_2 : decode cX0_finish 2 = .ok (.invokevirtual 107, 3) := dk_182 0 107 (dk_at dksX0_finish_0 2 rfl rfl)
theorem dX0_finish_5 : decode cX0_finish 5 = .ok (.ifCond .ne 5, 3) := dk_154 0 5 (dk_at dksX0_finish_0 5 rfl rfl)
theorem dX0_finish_8 : decode cX0_finish 8 = .ok (.iconst (-1), 1) := dk_2 (dk_at dksX0_finish_0 8 rfl rfl)
theorem dX0_finish_9 : decode cX0_finish 9 = .ok (.ireturn, 1) := dk_172 (dk_at dksX0_finish_0 9 rfl rfl)
theorem dX0_finish_10 : decode cX0_finish 10 = .ok (.aload_n 0, 1) := dk_42 (dk_at dksX0_finish_0 10 rfl rfl)
theorem dX0_finish_11 : decode cX0_finish 11 = .ok (.getfield 213, 3) := dk_180 0 213 (dk_at dksX0_finish_0 11 rfl rfl)
theorem dX0_finish_14 : decode cX0_finish 14 = .ok (.aload_n 0, 1) := dk_42 (dk_at dksX0_finish_0 14 rfl rfl)
theorem dX0_finish_15 : decode cX0_finish 15 = .ok (.getfield 38, 3) := dk_180 0 38 (dk_at dksX0_finish_0 15 rfl rfl)
theorem dX0_finish_18 : decode cX0_finish 18 = .ok (.invokevirtual 216, 3) := dk_182 0 216 (dk_at dksX0_finish_0 18 rfl rfl)
theorem dX0_finish_21 : decode cX0_finish 21 = .ok (.aload_n 0, 1) := dk_42 (dk_at dksX0_finish_0 21 rfl rfl)
theorem dX0_finish_22 : decode cX0_finish 22 = .ok (.getfield 213, 3) := dk_180 0 213 (dk_at dksX0_finish_1 0 rfl rfl)
theorem dX0_finish_25 : decode cX0_finish 25 = .ok (.iload_n 1, 1) := dk_27 (dk_at dksX0_finish_1 3 rfl rfl)
theorem dX0_finish_26 : decode cX0_finish 26 = .ok (.invokevirtual 111, 3) := dk_182 0 111 (dk_at dksX0_finish_1 4 rfl rfl)
theorem dX0_finish_29 : decode cX0_finish 29 = .ok (.astore_n 2, 1) := dk_77 (dk_at dksX0_finish_1 7 rfl rfl)
theorem dX0_finish_30 : decode cX0_finish 30 = .ok (.iconst 0, 1) := dk_3 (dk_at dksX0_finish_1 8 rfl rfl)
theorem dX0_finish_31 : decode cX0_finish 31 = .ok (.istore_n 3, 1) := dk_62 (dk_at dksX0_finish_1 9 rfl rfl)
theorem dX0_finish_32 : decode cX0_finish 32 = .ok (.iload_n 3, 1) := dk_29 (dk_at dksX0_finish_1 10 rfl rfl)
theorem dX0_finish_33 : decode cX0_finish 33 = .ok (.sipush 200, 3) := dk_17 0 200 (dk_at dksX0_finish_1 11 rfl rfl)
theorem dX0_finish_36 : decode cX0_finish 36 = .ok (.if_icmp .ge 24, 3) := dk_162 0 24 (dk_at dksX0_finish_1 14 rfl rfl)
theorem dX0_finish_39 : decode cX0_finish 39 = .ok (.aload_n 2, 1) := dk_44 (dk_at dksX0_finish_1 17 rfl rfl)
theorem dX0_finish_40 : decode cX0_finish 40 = .ok (.invokevirtual 229, 3) := dk_182 0 229 (dk_at dksX0_finish_1 18 rfl rfl)
theorem dX0_finish_43 : decode cX0_finish 43 = .ok (.ifCond .ne 17, 3) := dk_154 0 17 (dk_at dksX0_finish_1 21 rfl rfl)
theorem dX0_finish_46 : decode cX0_finish 46 = .ok (.aload_n 0, 1) := dk_42 (dk_at dksX0_finish_2 0 rfl rfl)
theorem dX0_finish_47 : decode cX0_finish 47 = .ok (.getfield 213, 3) := dk_180 0 213 (dk_at dksX0_finish_2 1 rfl rfl)
theorem dX0_finish_50 : decode cX0_finish 50 = .ok (.invokevirtual 169, 3) := dk_182 0 169 (dk_at dksX0_finish_2 4 rfl rfl)
theorem dX0_finish_53 : decode cX0_finish 53 = .ok (.pop, 1) := dk_87 (dk_at dksX0_finish_2 7 rfl rfl)
theorem dX0_finish_54 : decode cX0_finish 54 = .ok (.iinc 3 1, 3) := dk_132 3 1 (dk_at dksX0_finish_2 8 rfl rfl)
theorem dX0_finish_57 : decode cX0_finish 57 = .ok (.goto (-25), 3) := dk_167 255 231 (dk_at dksX0_finish_2 11 rfl rfl)
theorem dX0_finish_60 : decode cX0_finish 60 = .ok (.aload_n 2, 1) := dk_44 (dk_at dksX0_finish_2 14 rfl rfl)
theorem dX0_finish_61 : decode cX0_finish 61 = .ok (.getfield 119, 3) := dk_180 0 119 (dk_at dksX0_finish_2 15 rfl rfl)
theorem dX0_finish_64 : decode cX0_finish 64 = .ok (.ireturn, 1) := dk_172 (dk_at dksX0_finish_2 18 rfl rfl)
section CP
variable {Γ : Gc} {p : Program} {l : Launch} {e : Env} {s : State} {m : MethodId} {args : Array Value} {below : List Frame} {meth : Method} {c : Code} {ex : Nat → Option Nat} {z : Nat} {tF : St}
noncomputable def fX0_finish_32 (ex : Nat → Option Nat) (z : Nat) : Nat → Nat → Nat → Int32 → St → Option (Int32 × St)
  | 0, _, _, _, _ => none
  | n + 1, h0, h2, x3, t => if 200 ≤ x3 then cgI [4, 5, 6, 7, 8, 9] 5 t h2 fun v1 => some (v1, t) else ccast [4, 5, 6, 7, 8, 9] t h2 (gb (fX4_isHome ex (z + t.2.1) h2 (t.1, 0, 0)) t fun r2 t3 => if r2 = 0 then cgA [0] 1 t3 h0 fun v10 => ccast [1] t3 v10 (gb (fX1_goes ex (z + t3.2.1) v10 (t3.1, 0, 0)) t3 fun r11 t12 => fX0_finish_32 ex z n h0 h2 (x3 + 1) t12) else cgI [4, 5, 6, 7, 8, 9] 5 t3 h2 fun v9 => some (v9, t3))
set_option maxHeartbeats 4000000 in
theorem wX0_finish_32 {rF : Int32} (hex : ex = Γ.2.2.2.2) (X : g_X Γ p s m args meth c cX0_finish 4 RX0) (hr : meth.sig.returnType = (some .int)) (n : Nat) : ∀ (h0 : Nat) (h2 : Nat) (x3 : Int32) (t : St), Wf Γ p l e 19 403 s m args below meth c 4 (g_ι z) v_i rF tF 32 [(0, .ref h0), (2, .ref h2), (3, .int x3)] [] t (fX0_finish_32 ex z n h0 h2 x3 t) := by
  induction n with
  | zero => intro h0 h2 x3 t; exact g_none
  | succ n ih =>
    intro h0 h2 x3 t
    rw [fX0_finish_32]
    refine g_iload_n (pc := 32) X 2 dX0_finish_32 rfl rfl ?_
    refine g_sipush (pc := 33) X 200 dX0_finish_33 rfl ?_
    refine g_icmp_ge (pc := 36) X 60 dX0_finish_36 (by decide) ?_ ?_
    · refine g_aload_n (pc := 60) X 1 dX0_finish_60 rfl rfl ?_
      refine cg_getI (pc := 61) X fo_X0_119 dX0_finish_61 (fun v1 => ?_)
      exact g_iret (pc := 64) X hr dX0_finish_64
    · refine g_aload_n (pc := 39) X 1 dX0_finish_39 rfl rfl ?_
      refine g_bD_i (pc := 40) X (cs := [4, 5, 6, 7, 8, 9]) (As := []) (rest := []) (b := h2) (n := 0) dX0_finish_40 rfl rfl (Nat.le_of_ble_eq_true rfl) (fun fl4 ci5 fs6 hs7 hci8 r u h => ?_) (fun r2 t3 => ?_)
      · simp only [List.mem_cons, List.not_mem_nil, or_false] at hci8
        rcases hci8 with rfl | rfl | rfl | rfl | rfl | rfl
        · exact ⟨_, _, _, yX4_isHome, _, _, _, 0, 0, rfl, kX4_isHome hex h, Or.inl (cwV 0 X.2.2.2.2.1 (lw_V q873 q494 q495 q77 q502) rfl rfl rfl dmV_X4_isHome ⟨Nat.le_of_ble_eq_true rfl, Nat.le_of_ble_eq_true rfl⟩)⟩
        · exact ⟨_, _, _, yX4_isHome, _, _, _, 0, 0, rfl, kX4_isHome hex h, Or.inr (Or.inl ⟨_, _, va_cwU 0 X.2.2.2.2.1 (lw_U q873 q496 q497 q494 q77 q502) rfl rfl rfl rfl dmU_X4_isHome0 ⟨Nat.le_of_ble_eq_true rfl, Nat.le_of_ble_eq_true rfl⟩⟩)⟩
        · exact ⟨_, _, _, yX4_isHome, _, _, _, 0, 0, rfl, kX4_isHome hex h, Or.inr (Or.inl ⟨_, _, va_cwU 0 X.2.2.2.2.1 (lw_U q873 q496 q499 q494 q77 q502) rfl rfl rfl rfl dmU_X4_isHome0 ⟨Nat.le_of_ble_eq_true rfl, Nat.le_of_ble_eq_true rfl⟩⟩)⟩
        · exact ⟨_, _, _, yX4_isHome, _, _, _, 0, 0, rfl, kX4_isHome hex h, Or.inr (Or.inl ⟨_, _, va_cwU 0 X.2.2.2.2.1 (lw_U q873 q496 q500 q494 q77 q502) rfl rfl rfl rfl dmU_X4_isHome0 ⟨Nat.le_of_ble_eq_true rfl, Nat.le_of_ble_eq_true rfl⟩⟩)⟩
        · exact ⟨_, _, _, yX4_isHome, _, _, _, 0, 0, rfl, kX4_isHome hex h, Or.inr (Or.inl ⟨_, _, va_cwU 0 X.2.2.2.2.1 (lw_U q873 q496 q501 q494 q77 q502) rfl rfl rfl rfl dmU_X4_isHome0 ⟨Nat.le_of_ble_eq_true rfl, Nat.le_of_ble_eq_true rfl⟩⟩)⟩
        · exact ⟨_, _, _, yX4_isHome, _, _, _, 0, 0, rfl, kX4_isHome hex h, Or.inr (Or.inl ⟨_, _, va_cwU 0 X.2.2.2.2.1 (lw_U q873 q496 q498 q494 q77 q502) rfl rfl rfl rfl dmU_X4_isHome0 ⟨Nat.le_of_ble_eq_true rfl, Nat.le_of_ble_eq_true rfl⟩⟩)⟩
      refine g_if_ne (pc := 43) X 60 dX0_finish_43 (by decide) ?_ ?_
      · refine g_aload_n (pc := 60) X 1 dX0_finish_60 rfl rfl ?_
        refine cg_getI (pc := 61) X fo_X0_119 dX0_finish_61 (fun v9 => ?_)
        exact g_iret (pc := 64) X hr dX0_finish_64
      · refine g_aload_n (pc := 46) X 0 dX0_finish_46 rfl rfl ?_
        refine cg_getA (pc := 47) X fo_X0_213 dX0_finish_47 (fun v10 => ?_)
        refine g_bD_i (pc := 50) X (cs := [1]) (As := []) (rest := []) (b := v10) (n := 0) dX0_finish_50 rfl rfl (Nat.le_of_ble_eq_true rfl) (fun fl13 ci14 fs15 hs16 hci17 r u h => ?_) (fun r11 t12 => ?_)
        · obtain rfl := List.mem_singleton.mp hci17
          exact ⟨_, _, _, yX1_goes, _, _, _, 18, 380, rfl, kX1_goes hex h, Or.inl (cwV 0 X.2.2.2.2.1 (lw_V q534 q535 q536 q71 q537) rfl rfl rfl dmV_X1_goes ⟨Nat.le_of_ble_eq_true rfl, Nat.le_of_ble_eq_true rfl⟩)⟩
        refine g_pop (pc := 53) X dX0_finish_53 rfl ?_
        refine g_iinc (pc := 54) X 1 2 (lv' := [(3, .int (x3 + 1)), (0, .ref h0), (2, .ref h2)]) dX0_finish_54 rfl rfl (by decide) rfl ?_
        refine g_goto (pc := 57) X 32 dX0_finish_57 (by decide) ?_
        exact g_lv (pc := 32) (lv' := [(0, .ref h0), (2, .ref h2), (3, .int (x3 + 1))]) [1, 2, 0] rfl (ih h0 h2 (x3 + 1) t12)
noncomputable def fX0_finish (ex : Nat → Option Nat) (z : Nat) (h0 : Nat) (x1 : Int32) (t : St) : Option (Int32 × St) := ccast [0] t h0 (gb (fX0_isClock ex (z + t.2.1) h0 x1 (t.1, 0, 0)) t fun r1 t2 => if r1 = 0 then some ((-1), t2) else cgA [0] 1 t2 h0 fun v8 => cgA [0] 0 t2 h0 fun v9 => ccast [1] t2 v8 (gb (fX1_takes ex (z + t2.2.1) v8 v9 (t2.1, 0, 0)) t2 fun _ t11 => cgA [0] 1 t11 h0 fun v17 => ccast [1] t11 v17 (gb (fX1_clock ex (z + t11.2.1) v17 x1 (t11.1, 0, 0)) t11 fun r18 t19 => fX0_finish_32 ex z 1000 h0 r18 0 t19)))
set_option maxHeartbeats 4000000 in
theorem wX0_finish {rF : Int32} (hex : ex = Γ.2.2.2.2) (X : g_X Γ p s m args meth c cX0_finish 4 RX0) (hr : meth.sig.returnType = (some .int)) (h0 : Nat) (x1 : Int32) (t : St) : Wf Γ p l e 19 403 s m args below meth c 4 (g_ι z) v_i rF tF 0 [(0, .ref h0), (1, .int x1)] [] t (fX0_finish ex z h0 x1 t) := by
  unfold fX0_finish
  refine g_aload_n (pc := 0) X 0 dX0_finish_0 rfl rfl ?_
  refine g_iload_n (pc := 1) X 1 dX0_finish_1 rfl rfl ?_
  refine g_bD_i (pc := 2) X (cs := [0]) (As := [.int x1]) (rest := []) (b := h0) (n := 1) dX0_finish_2 rfl rfl (Nat.le_of_ble_eq_true rfl) (fun fl3 ci4 fs5 hs6 hci7 r u h => ?_) (fun r1 t2 => ?_)
  · obtain rfl := List.mem_singleton.mp hci7
    exact ⟨_, _, _, yX0_isClock, _, _, _, 2, 40, rfl, kX0_isClock hex h, Or.inl (cwV 1 X.2.2.2.2.1 (lw_V q368 q370 qs4 q70 q372) rfl rfl rfl dmV_X0_isClock ⟨Nat.le_of_ble_eq_true rfl, Nat.le_of_ble_eq_true rfl⟩)⟩
  refine g_if_ne (pc := 5) X 10 dX0_finish_5 (by decide) ?_ ?_
  · refine g_aload_n (pc := 10) X 0 dX0_finish_10 rfl rfl ?_
    refine cg_getA (pc := 11) X fo_X0_213 dX0_finish_11 (fun v8 => ?_)
    refine g_aload_n (pc := 14) X 0 dX0_finish_14 rfl rfl ?_
    refine cg_getA (pc := 15) X fo_X0_38 dX0_finish_15 (fun v9 => ?_)
    refine g_bD_v (pc := 18) X (cs := [1]) (As := [.ref v9]) (rest := []) (b := v8) (n := 1) dX0_finish_18 rfl rfl (Nat.le_of_ble_eq_true rfl) (fun fl12 ci13 fs14 hs15 hci16 r u h => ?_) (fun r10 t11 => ?_)
    · obtain rfl := List.mem_singleton.mp hci16
      exact ⟨_, _, _, yX1_takes, _, _, _, 7, 152, rfl, kX1_takes hex h, Or.inl (cwV 1 X.2.2.2.2.1 (lw_V q827 q828 q829 q71 q830) rfl rfl rfl dmV_X1_takes ⟨Nat.le_of_ble_eq_true rfl, Nat.le_of_ble_eq_true rfl⟩)⟩
    refine g_aload_n (pc := 21) X 0 dX0_finish_21 rfl rfl ?_
    refine cg_getA (pc := 22) X fo_X0_213 dX0_finish_22 (fun v17 => ?_)
    refine g_iload_n (pc := 25) X 1 dX0_finish_25 rfl rfl ?_
    refine g_bD_a (pc := 26) X (cs := [1]) (As := [.int x1]) (rest := []) (b := v17) (n := 1) dX0_finish_26 rfl rfl (Nat.le_of_ble_eq_true rfl) (fun fl20 ci21 fs22 hs23 hci24 r u h => ?_) (fun r18 t19 => ?_)
    · obtain rfl := List.mem_singleton.mp hci24
      exact ⟨_, _, _, yX1_clock, _, _, _, 3, 64, rfl, kX1_clock hex h, Or.inl (cwV 1 X.2.2.2.2.1 (lw_V q373 q374 q375 q71 q376) rfl rfl rfl dmV_X1_clock ⟨Nat.le_of_ble_eq_true rfl, Nat.le_of_ble_eq_true rfl⟩)⟩
    refine g_astore_n (pc := 29) X (lv' := [(2, .ref r18), (0, .ref h0), (1, .int x1)]) dX0_finish_29 rfl (by decide) rfl ?_
    refine g_iconst (pc := 30) X 0 dX0_finish_30 rfl ?_
    refine g_istore_n (pc := 31) X (lv' := [(3, .int 0), (2, .ref r18), (0, .ref h0), (1, .int x1)]) dX0_finish_31 rfl (by decide) rfl ?_
    exact g_lv (pc := 32) (lv' := [(0, .ref h0), (2, .ref r18), (3, .int 0)]) [2, 1, 0] rfl (wX0_finish_32 hex X hr 1000 h0 r18 0 t19)
  · refine g_iconst (pc := 8) X (-1) dX0_finish_8 rfl ?_
    exact g_iret (pc := 9) X hr dX0_finish_9
theorem kX0_finish {ex : Nat → Option Nat} {z : Nat} {h0 : Nat} {x1 : Int32} {σ : Sg} {r : Int32} {u : St} (hex : ex = Γ.2.2.2.2) (h : fX0_finish ex z h0 x1 (σ, 0, 0) = some (r, u)) : g_C Γ l yX0_finish cX0_finish 4 (some .int) 19 403 [.ref h0, .int x1] σ z v_i r (g_ι z u) :=
  g_met (ι := g_ι z) (t := (σ, 0, 0)) [.ref h0, .int x1] (by decide) (Nat.le_of_ble_eq_true rfl) h rfl (fun p e s m args below meth c X hr hn => wX0_finish hex X hr h0 x1 (σ, 0, 0))
end CP
abbrev cX0_over : ByteArray := prog_1_method_30_code
def yX0_over : MethodName := ⟨RX0, "over", "()I"⟩
def dkwX0_over_2 : List UInt8 := [132, 1, 1, 167, 255, 219, 16, 252, 172]
abbrev dktX0_over_2 : List UInt8 := dkwX0_over_2 ++ []
def dkwX0_over_1 : List UInt8 := [182, 0, 156, 42, 180, 0, 213, 182, 0, 42, 160, 0, 5, 27, 172, 42, 180, 0, 213, 182, 0, 169, 87]
abbrev dktX0_over_1 : List UInt8 := dkwX0_over_1 ++ dktX0_over_2
def dkwX0_over_0 : List UInt8 := [42, 180, 0, 213, 42, 180, 0, 38, 182, 0, 216, 3, 60, 27, 17, 0, 200, 163, 0, 36, 42, 180, 0, 213]
abbrev dktX0_over_0 : List UInt8 := dkwX0_over_0 ++ dktX0_over_1
theorem dksX0_over_0 : cX0_over.data.toList.drop 0 = dktX0_over_0 := by decide +kernel
theorem dksX0_over_1 : cX0_over.data.toList.drop 24 = dktX0_over_1 := dk_seg dksX0_over_0 24 rfl rfl
theorem dksX0_over_2 : cX0_over.data.toList.drop 47 = dktX0_over_2 := dk_seg dksX0_over_1 23 rfl rfl
theorem dX0_over_0 : decode cX0_over 0 = .ok (.aload_n 0, 1) := dk_42 (dk_at dksX0_over_0 0 rfl rfl)
theorem dX0_over_1 : decode cX0_over 1 = .ok (.getfield 213, 3) := dk_180 0 213 (dk_at dksX0_over_0 1 rfl rfl)
theorem dX0_over_4 : decode cX0_over 4 = .ok (.aload_n 0, 1) := dk_42 (dk_at dksX0_over_0 4 rfl rfl)
theorem dX0_over_5 : decode cX0_over 5 = .ok (.getfield 38, 3) := dk_180 0 38 (dk_at dksX0_over_0 5 rfl rfl)
theorem dX0_over_8 : decode cX0_over 8 = .ok (.invokevirtual 216, 3) := dk_182 0 216 (dk_at dksX0_over_0 8 rfl rfl)
theorem dX0_over_11 : decode cX0_over 11 = .ok (.iconst 0, 1) := dk_3 (dk_at dksX0_over_0 11 rfl rfl)
theorem dX0_over_12 : decode cX0_over 12 = .ok (.istore_n 1, 1) := dk_60 (dk_at dksX0_over_0 12 rfl rfl)
theorem dX0_over_13 : decode cX0_over 13 = .ok (.iload_n 1, 1) := dk_27 (dk_at dksX0_over_0 13 rfl rfl)
theorem dX0_over_14 : decode cX0_over 14 = .ok (.sipush 200, 3) := dk_17 0 200 (dk_at dksX0_over_0 14 rfl rfl)
theorem dX0_over_17 : decode cX0_over 17 = .ok (.if_icmp .gt 36, 3) := dk_163 0 36 (dk_at dksX0_over_0 17 rfl rfl)
theorem dX0_over_20 : decode cX0_over 20 = .ok (.aload_n 0, 1) := dk_42 (dk_at dksX0_over_0 20 rfl rfl)
theorem dX0_over_21 : decode cX0_over 21 = .ok (.getfield 213, 3) := dk_180 0 213 (dk_at dksX0_over_0 21 rfl rfl)
theorem dX0_over_24 : decode cX0_over 24 = .ok (.invokevirtual 156, 3) := dk_182 0 156 (dk_at dksX0_over_1 0 rfl rfl)
theorem dX0_over_27 : decode cX0_over 27 = .ok (.aload_n 0, 1) := dk_42 (dk_at dksX0_over_1 3 rfl rfl)
theorem dX0_over_28 : decode cX0_over 28 = .ok (.getfield 213, 3) := dk_180 0 213 (dk_at dksX0_over_1 4 rfl rfl)
theorem dX0_over_31 : decode cX0_over 31 = .ok (.invokevirtual 42, 3) := dk_182 0 42 (dk_at dksX0_over_1 7 rfl rfl)
theorem dX0_over_34 : decode cX0_over 34 = .ok (.if_icmp .ne 5, 3) := dk_160 0 5 (dk_at dksX0_over_1 10 rfl rfl)
theorem dX0_over_37 : decode cX0_over 37 = .ok (.iload_n 1, 1) := dk_27 (dk_at dksX0_over_1 13 rfl rfl)
theorem dX0_over_38 : decode cX0_over 38 = .ok (.ireturn, 1) := dk_172 (dk_at dksX0_over_1 14 rfl rfl)
theorem dX0_over_39 : decode cX0_over 39 = .ok (.aload_n 0, 1) := dk_42 (dk_at dksX0_over_1 15 rfl rfl)
theorem dX0_over_40 : decode cX0_over 40 = .ok (.getfield 213, 3) := dk_180 0 213 (dk_at dksX0_over_1 16 rfl rfl)
theorem dX0_over_43 : decode cX0_over 43 = .ok (.invokevirtual 169, 3) := dk_182 0 169 (dk_at dksX0_over_1 19 rfl rfl)
theorem dX0_over_46 : decode cX0_over 46 = .ok (.pop, 1) := dk_87 (dk_at dksX0_over_1 22 rfl rfl)
theorem dX0_over_47 : decode cX0_over 47 = .ok (.iinc 1 1, 3) := dk_132 1 1 (dk_at dksX0_over_2 0 rfl rfl)
theorem dX0_over_50 : decode cX0_over 50 = .ok (.goto (-37), 3) := dk_167 255 219 (dk_at dksX0_over_2 3 rfl rfl)
theorem dX0_over_53 : decode cX0_over 53 = .ok (.bipush (-4), 2) := dk_16 252 (dk_at dksX0_over_2 6 rfl rfl)
theorem dX0_over_55 : decode cX0_over 55 = .ok (.ireturn, 1) := dk_172 (dk_at dksX0_over_2 8 rfl rfl)
section CP
variable {Γ : Gc} {p : Program} {l : Launch} {e : Env} {s : State} {m : MethodId} {args : Array Value} {below : List Frame} {meth : Method} {c : Code} {ex : Nat → Option Nat} {z : Nat} {tF : St}
noncomputable def fX0_over_13 (ex : Nat → Option Nat) (z : Nat) : Nat → Nat → Int32 → St → Option (Int32 × St)
  | 0, _, _, _ => none
  | n + 1, h0, x1, t => if 200 < x1 then some ((-4), t) else cgA [0] 1 t h0 fun v1 => ccast [1] t v1 (gb (fX1_homes ex (z + t.2.1) v1 (t.1, 0, 0)) t fun r2 t3 => cgA [0] 1 t3 h0 fun v9 => ccast [1] t3 v9 (gb (fX1_size ex (z + t3.2.1) v9 (t3.1, 0, 0)) t3 fun r10 t11 => if r2 = r10 then some (x1, t11) else cgA [0] 1 t11 h0 fun v17 => ccast [1] t11 v17 (gb (fX1_goes ex (z + t11.2.1) v17 (t11.1, 0, 0)) t11 fun r18 t19 => fX0_over_13 ex z n h0 (x1 + 1) t19)))
set_option maxHeartbeats 4000000 in
theorem wX0_over_13 {rF : Int32} (hex : ex = Γ.2.2.2.2) (X : g_X Γ p s m args meth c cX0_over 2 RX0) (hr : meth.sig.returnType = (some .int)) (n : Nat) : ∀ (h0 : Nat) (x1 : Int32) (t : St), Wf Γ p l e 19 403 s m args below meth c 2 (g_ι z) v_i rF tF 13 [(0, .ref h0), (1, .int x1)] [] t (fX0_over_13 ex z n h0 x1 t) := by
  induction n with
  | zero => intro h0 x1 t; exact g_none
  | succ n ih =>
    intro h0 x1 t
    rw [fX0_over_13]
    refine g_iload_n (pc := 13) X 1 dX0_over_13 rfl rfl ?_
    refine g_sipush (pc := 14) X 200 dX0_over_14 rfl ?_
    refine g_icmp_gt (pc := 17) X 53 dX0_over_17 (by decide) ?_ ?_
    · refine g_bipush (pc := 53) X (-4) dX0_over_53 rfl ?_
      exact g_iret (pc := 55) X hr dX0_over_55
    · refine g_aload_n (pc := 20) X 0 dX0_over_20 rfl rfl ?_
      refine cg_getA (pc := 21) X fo_X0_213 dX0_over_21 (fun v1 => ?_)
      refine g_bD_i (pc := 24) X (cs := [1]) (As := []) (rest := []) (b := v1) (n := 0) dX0_over_24 rfl rfl (Nat.le_of_ble_eq_true rfl) (fun fl4 ci5 fs6 hs7 hci8 r u h => ?_) (fun r2 t3 => ?_)
      · obtain rfl := List.mem_singleton.mp hci8
        exact ⟨_, _, _, yX1_homes, _, _, _, 3, 64, rfl, kX1_homes hex h, Or.inl (cwV 0 X.2.2.2.2.1 (lw_V q489 q490 q491 q71 q492) rfl rfl rfl dmV_X1_homes ⟨Nat.le_of_ble_eq_true rfl, Nat.le_of_ble_eq_true rfl⟩)⟩
      refine g_aload_n (pc := 27) X 0 dX0_over_27 rfl rfl ?_
      refine cg_getA (pc := 28) X fo_X0_213 dX0_over_28 (fun v9 => ?_)
      refine g_bD_i (pc := 31) X (cs := [1]) (As := []) (rest := [.int r2]) (b := v9) (n := 0) dX0_over_31 rfl rfl (Nat.le_of_ble_eq_true rfl) (fun fl12 ci13 fs14 hs15 hci16 r u h => ?_) (fun r10 t11 => ?_)
      · obtain rfl := List.mem_singleton.mp hci16
        exact ⟨_, _, _, yX1_size, _, _, _, 1, 20, rfl, kX1_size hex h, Or.inl (cwV 0 X.2.2.2.2.1 (lw_V q129 q130 q131 q71 q132) rfl rfl rfl dmV_X1_size ⟨Nat.le_of_ble_eq_true rfl, Nat.le_of_ble_eq_true rfl⟩)⟩
      refine g_icmp_ne (pc := 34) X 39 dX0_over_34 (by decide) ?_ ?_
      · refine g_aload_n (pc := 39) X 0 dX0_over_39 rfl rfl ?_
        refine cg_getA (pc := 40) X fo_X0_213 dX0_over_40 (fun v17 => ?_)
        refine g_bD_i (pc := 43) X (cs := [1]) (As := []) (rest := []) (b := v17) (n := 0) dX0_over_43 rfl rfl (Nat.le_of_ble_eq_true rfl) (fun fl20 ci21 fs22 hs23 hci24 r u h => ?_) (fun r18 t19 => ?_)
        · obtain rfl := List.mem_singleton.mp hci24
          exact ⟨_, _, _, yX1_goes, _, _, _, 18, 380, rfl, kX1_goes hex h, Or.inl (cwV 0 X.2.2.2.2.1 (lw_V q534 q535 q536 q71 q537) rfl rfl rfl dmV_X1_goes ⟨Nat.le_of_ble_eq_true rfl, Nat.le_of_ble_eq_true rfl⟩)⟩
        refine g_pop (pc := 46) X dX0_over_46 rfl ?_
        refine g_iinc (pc := 47) X 1 1 (lv' := [(1, .int (x1 + 1)), (0, .ref h0)]) dX0_over_47 rfl rfl (by decide) rfl ?_
        refine g_goto (pc := 50) X 13 dX0_over_50 (by decide) ?_
        exact g_lv (pc := 13) (lv' := [(0, .ref h0), (1, .int (x1 + 1))]) [1, 0] rfl (ih h0 (x1 + 1) t19)
      · refine g_iload_n (pc := 37) X 1 dX0_over_37 rfl rfl ?_
        exact g_iret (pc := 38) X hr dX0_over_38
noncomputable def fX0_over (ex : Nat → Option Nat) (z : Nat) (h0 : Nat) (t : St) : Option (Int32 × St) := cgA [0] 1 t h0 fun v1 => cgA [0] 0 t h0 fun v2 => ccast [1] t v1 (gb (fX1_takes ex (z + t.2.1) v1 v2 (t.1, 0, 0)) t fun _ t4 => fX0_over_13 ex z 1000 h0 0 t4)
set_option maxHeartbeats 4000000 in
theorem wX0_over {rF : Int32} (hex : ex = Γ.2.2.2.2) (X : g_X Γ p s m args meth c cX0_over 2 RX0) (hr : meth.sig.returnType = (some .int)) (h0 : Nat) (t : St) : Wf Γ p l e 19 403 s m args below meth c 2 (g_ι z) v_i rF tF 0 [(0, .ref h0)] [] t (fX0_over ex z h0 t) := by
  unfold fX0_over
  refine g_aload_n (pc := 0) X 0 dX0_over_0 rfl rfl ?_
  refine cg_getA (pc := 1) X fo_X0_213 dX0_over_1 (fun v1 => ?_)
  refine g_aload_n (pc := 4) X 0 dX0_over_4 rfl rfl ?_
  refine cg_getA (pc := 5) X fo_X0_38 dX0_over_5 (fun v2 => ?_)
  refine g_bD_v (pc := 8) X (cs := [1]) (As := [.ref v2]) (rest := []) (b := v1) (n := 1) dX0_over_8 rfl rfl (Nat.le_of_ble_eq_true rfl) (fun fl5 ci6 fs7 hs8 hci9 r u h => ?_) (fun r3 t4 => ?_)
  · obtain rfl := List.mem_singleton.mp hci9
    exact ⟨_, _, _, yX1_takes, _, _, _, 7, 152, rfl, kX1_takes hex h, Or.inl (cwV 1 X.2.2.2.2.1 (lw_V q827 q828 q829 q71 q830) rfl rfl rfl dmV_X1_takes ⟨Nat.le_of_ble_eq_true rfl, Nat.le_of_ble_eq_true rfl⟩)⟩
  refine g_iconst (pc := 11) X 0 dX0_over_11 rfl ?_
  refine g_istore_n (pc := 12) X (lv' := [(1, .int 0), (0, .ref h0)]) dX0_over_12 rfl (by decide) rfl ?_
  exact g_lv (pc := 13) (lv' := [(0, .ref h0), (1, .int 0)]) [1, 0] rfl (wX0_over_13 hex X hr 1000 h0 0 t4)
theorem kX0_over {ex : Nat → Option Nat} {z : Nat} {h0 : Nat} {σ : Sg} {r : Int32} {u : St} (hex : ex = Γ.2.2.2.2) (h : fX0_over ex z h0 (σ, 0, 0) = some (r, u)) : g_C Γ l yX0_over cX0_over 2 (some .int) 19 403 [.ref h0] σ z v_i r (g_ι z u) :=
  g_met (ι := g_ι z) (t := (σ, 0, 0)) [.ref h0] (by decide) (Nat.le_of_ble_eq_true rfl) h rfl (fun p e s m args below meth c X hr hn => wX0_over hex X hr h0 (σ, 0, 0))
end CP
abbrev cX0_comesTo : ByteArray := prog_1_method_31_code
def yX0_comesTo : MethodName := ⟨RX0, "comesTo", "(IIIII)Z"⟩
def dkwX0_comesTo_2 : List UInt8 := [180, 0, 213, 42, 180, 0, 213, 27, 182, 0, 111, 182, 0, 165, 28, 163, 0, 7, 4, 167, 0, 4, 3, 172]
abbrev dktX0_comesTo_2 : List UInt8 := dkwX0_comesTo_2 ++ []
def dkwX0_comesTo_1 : List UInt8 := [42, 180, 0, 213, 27, 182, 0, 111, 16, 60, 21, 5, 104, 182, 0, 188, 42, 29, 182, 0, 220, 42]
abbrev dktX0_comesTo_1 : List UInt8 := dkwX0_comesTo_1 ++ dktX0_comesTo_2
def dkwX0_comesTo_0 : List UInt8 := [42, 180, 0, 213, 42, 180, 0, 38, 182, 0, 216, 42, 180, 0, 213, 27, 182, 0, 111, 21, 4, 182, 0, 180]
abbrev dktX0_comesTo_0 : List UInt8 := dkwX0_comesTo_0 ++ dktX0_comesTo_1
theorem dksX0_comesTo_0 : cX0_comesTo.data.toList.drop 0 = dktX0_comesTo_0 := by decide +kernel
theorem dksX0_comesTo_1 : cX0_comesTo.data.toList.drop 24 = dktX0_comesTo_1 := dk_seg dksX0_comesTo_0 24 rfl rfl
theorem dksX0_comesTo_2 : cX0_comesTo.data.toList.drop 46 = dktX0_comesTo_2 := dk_seg dksX0_comesTo_1 22 rfl rfl
theorem dX0_comesTo_0 : decode cX0_comesTo 0 = .ok (.aload_n 0, 1) := dk_42 (dk_at dksX0_comesTo_0 0 rfl rfl)
theorem dX0_comesTo_1 : decode cX0_comesTo 1 = .ok (.getfield 213, 3) := dk_180 0 213 (dk_at dksX0_comesTo_0 1 rfl rfl)
theorem dX0_comesTo_4 : decode cX0_comesTo 4 = .ok (.aload_n 0, 1) := dk_42 (dk_at dksX0_comesTo_0 4 rfl rfl)
theorem dX0_comesTo_5 : decode cX0_comesTo 5 = .ok (.getfield 38, 3) := dk_180 0 38 (dk_at dksX0_comesTo_0 5 rfl rfl)
theorem dX0_comesTo_8 : decode cX0_comesTo 8 = .ok (.invokevirtual 216, 3) := dk_182 0 216 (dk_at dksX0_comesTo_0 8 rfl rfl)
theorem dX0_comesTo_11 : decode cX0_comesTo 11 = .ok (.aload_n 0, 1) := dk_42 (dk_at dksX0_comesTo_0 11 rfl rfl)
theorem dX0_comesTo_12 : decode cX0_comesTo 12 = .ok (.getfield 213, 3) := dk_180 0 213 (dk_at dksX0_comesTo_0 12 rfl rfl)
theorem dX0_comesTo_15 : decode cX0_comesTo 15 = .ok (.iload_n 1, 1) := dk_27 (dk_at dksX0_comesTo_0 15 rfl rfl)
theorem dX0_comesTo_16 : decode cX0_comesTo 16 = .ok (.invokevirtual 111, 3) := dk_182 0 111 (dk_at dksX0_comesTo_0 16 rfl rfl)
theorem dX0_comesTo_19 : decode cX0_comesTo 19 = .ok (.iload 4, 2) := dk_21 4 (dk_at dksX0_comesTo_0 19 rfl rfl)
theorem dX0_comesTo_21 : decode cX0_comesTo 21 = .ok (.invokevirtual 180, 3) := dk_182 0 180 (dk_at dksX0_comesTo_0 21 rfl rfl)
theorem dX0_comesTo_24 : decode cX0_comesTo 24 = .ok (.aload_n 0, 1) := dk_42 (dk_at dksX0_comesTo_1 0 rfl rfl)
theorem dX0_comesTo_25 : decode cX0_comesTo 25 = .ok (.getfield 213, 3) := dk_180 0 213 (dk_at dksX0_comesTo_1 1 rfl rfl)
theorem dX0_comesTo_28 : decode cX0_comesTo 28 = .ok (.iload_n 1, 1) := dk_27 (dk_at dksX0_comesTo_1 4 rfl rfl)
theorem dX0_comesTo_29 : decode cX0_comesTo 29 = .ok (.invokevirtual 111, 3) := dk_182 0 111 (dk_at dksX0_comesTo_1 5 rfl rfl)
theorem dX0_comesTo_32 : decode cX0_comesTo 32 = .ok (.bipush 60, 2) := dk_16 60 (dk_at dksX0_comesTo_1 8 rfl rfl)
theorem dX0_comesTo_34 : decode cX0_comesTo 34 = .ok (.iload 5, 2) := dk_21 5 (dk_at dksX0_comesTo_1 10 rfl rfl)
theorem dX0_comesTo_36 : decode cX0_comesTo 36 = .ok (.imul, 1) := dk_104 (dk_at dksX0_comesTo_1 12 rfl rfl)
theorem dX0_comesTo_37 : decode cX0_comesTo 37 = .ok (.invokevirtual 188, 3) := dk_182 0 188 (dk_at dksX0_comesTo_1 13 rfl rfl)
theorem dX0_comesTo_40 : decode cX0_comesTo 40 = .ok (.aload_n 0, 1) := dk_42 (dk_at dksX0_comesTo_1 16 rfl rfl)
theorem dX0_comesTo_41 : decode cX0_comesTo 41 = .ok (.iload_n 3, 1) := dk_29 (dk_at dksX0_comesTo_1 17 rfl rfl)
theorem dX0_comesTo_42 : decode cX0_comesTo 42 = .ok (.invokevirtual 220, 3) := dk_182 0 220 (dk_at dksX0_comesTo_1 18 rfl rfl)
theorem dX0_comesTo_45 : decode cX0_comesTo 45 = .ok (.aload_n 0, 1) := dk_42 (dk_at dksX0_comesTo_1 21 rfl rfl)
theorem dX0_comesTo_46 : decode cX0_comesTo 46 = .ok (.getfield 213, 3) := dk_180 0 213 (dk_at dksX0_comesTo_2 0 rfl rfl)
theorem dX0_comesTo_49 : decode cX0_comesTo 49 = .ok (.aload_n 0, 1) := dk_42 (dk_at dksX0_comesTo_2 3 rfl rfl)
theorem dX0_comesTo_50 : decode cX0_comesTo 50 = .ok (.getfield 213, 3) := dk_180 0 213 (dk_at dksX0_comesTo_2 4 rfl rfl)
theorem dX0_comesTo_53 : decode cX0_comesTo 53 = .ok (.iload_n 1, 1) := dk_27 (dk_at dksX0_comesTo_2 7 rfl rfl)
theorem dX0_comesTo_54 : decode cX0_comesTo 54 = .ok (.invokevirtual 111, 3) := dk_182 0 111 (dk_at dksX0_comesTo_2 8 rfl rfl)
theorem dX0_comesTo_57 : decode cX0_comesTo 57 = .ok (.invokevirtual 165, 3) := dk_182 0 165 (dk_at dksX0_comesTo_2 11 rfl rfl)
theorem dX0_comesTo_60 : decode cX0_comesTo 60 = .ok (.iload_n 2, 1) := dk_28 (dk_at dksX0_comesTo_2 14 rfl rfl)
theorem dX0_comesTo_61 : decode cX0_comesTo 61 = .ok (.if_icmp .gt 7, 3) := dk_163 0 7 (dk_at dksX0_comesTo_2 15 rfl rfl)
theorem dX0_comesTo_64 : decode cX0_comesTo 64 = .ok (.iconst 1, 1) := dk_4 (dk_at dksX0_comesTo_2 18 rfl rfl)
theorem dX0_comesTo_65 : decode cX0_comesTo 65 = .ok (.goto 4, 3) := dk_167 0 4 (dk_at dksX0_comesTo_2 19 rfl rfl)
theorem dX0_comesTo_68 : decode cX0_comesTo 68 = .ok (.iconst 0, 1) := dk_3 (dk_at dksX0_comesTo_2 22 rfl rfl)
theorem dX0_comesTo_69 : decode cX0_comesTo 69 = .ok (.ireturn, 1) := dk_172 (dk_at dksX0_comesTo_2 23 rfl rfl)
theorem dmV_X0_goOn : yX0_goOn.cls = RX0 ∧ yX0_goOn.cls ≠ "java/lang/invoke/MethodHandle" ∧ yX0_goOn.cls ≠ "java/lang/invoke/VarHandle" ∧ (parseMethodDescriptor yX0_goOn.desc).map (fun d => d.parameters.length) = some 1 := by decide +kernel
section CP
variable {Γ : Gc} {p : Program} {l : Launch} {e : Env} {s : State} {m : MethodId} {args : Array Value} {below : List Frame} {meth : Method} {c : Code} {ex : Nat → Option Nat} {z : Nat} {tF : St}
noncomputable def fX0_comesTo (ex : Nat → Option Nat) (z : Nat) (h0 : Nat) (x1 : Int32) (x2 : Int32) (x3 : Int32) (x4 : Int32) (x5 : Int32) (t : St) : Option (Int32 × St) := cgA [0] 1 t h0 fun v1 => cgA [0] 0 t h0 fun v2 => ccast [1] t v1 (gb (fX1_takes ex (z + t.2.1) v1 v2 (t.1, 0, 0)) t fun _ t4 => cgA [0] 1 t4 h0 fun v10 => ccast [1] t4 v10 (gb (fX1_clock ex (z + t4.2.1) v10 x1 (t4.1, 0, 0)) t4 fun r11 t12 => ccast [4, 5, 6, 7, 8, 9] t12 r11 (gb (fX4_winds ex (z + t12.2.1) r11 x4 (t12.1, 0, 0)) t12 fun _ t19 => cgA [0] 1 t19 h0 fun v25 => ccast [1] t19 v25 (gb (fX1_clock ex (z + t19.2.1) v25 x1 (t19.1, 0, 0)) t19 fun r26 t27 => ccast [4, 5, 6, 7, 8, 9] t27 r26 (gb (fX4_turns ex (z + t27.2.1) r26 (60 * x5) (t27.1, 0, 0)) t27 fun _ t34 => ccast [0] t34 h0 (gb (fX0_goOn ex (z + t34.2.1) h0 x3 (t34.1, 0, 0)) t34 fun _ t41 => cgA [0] 1 t41 h0 fun v47 => cgA [0] 1 t41 h0 fun v48 => ccast [1] t41 v48 (gb (fX1_clock ex (z + t41.2.1) v48 x1 (t41.1, 0, 0)) t41 fun r49 t50 => ccast [1] t50 v47 (gb (fX1_place ex (z + t50.2.1) v47 r49 (t50.1, 0, 0)) t50 fun r56 t57 => if x2 < r56 then some (0, t57) else some (1, t57)))))))))
set_option maxHeartbeats 4000000 in
theorem wX0_comesTo {rF : Int32} (hex : ex = Γ.2.2.2.2) (X : g_X Γ p s m args meth c cX0_comesTo 6 RX0) (hr : meth.sig.returnType = (some .boolean)) (h0 : Nat) (x1 : Int32) (x2 : Int32) (x3 : Int32) (x4 : Int32) (x5 : Int32) (t : St) : Wf Γ p l e 20 425 s m args below meth c 6 (g_ι z) v_i rF tF 0 [(0, .ref h0), (1, .int x1), (2, .int x2), (3, .int x3), (4, .int x4), (5, .int x5)] [] t (fX0_comesTo ex z h0 x1 x2 x3 x4 x5 t) := by
  unfold fX0_comesTo
  refine g_aload_n (pc := 0) X 0 dX0_comesTo_0 rfl rfl ?_
  refine cg_getA (pc := 1) X fo_X0_213 dX0_comesTo_1 (fun v1 => ?_)
  refine g_aload_n (pc := 4) X 0 dX0_comesTo_4 rfl rfl ?_
  refine cg_getA (pc := 5) X fo_X0_38 dX0_comesTo_5 (fun v2 => ?_)
  refine g_bD_v (pc := 8) X (cs := [1]) (As := [.ref v2]) (rest := []) (b := v1) (n := 1) dX0_comesTo_8 rfl rfl (Nat.le_of_ble_eq_true rfl) (fun fl5 ci6 fs7 hs8 hci9 r u h => ?_) (fun r3 t4 => ?_)
  · obtain rfl := List.mem_singleton.mp hci9
    exact ⟨_, _, _, yX1_takes, _, _, _, 7, 152, rfl, kX1_takes hex h, Or.inl (cwV 1 X.2.2.2.2.1 (lw_V q827 q828 q829 q71 q830) rfl rfl rfl dmV_X1_takes ⟨Nat.le_of_ble_eq_true rfl, Nat.le_of_ble_eq_true rfl⟩)⟩
  refine g_aload_n (pc := 11) X 0 dX0_comesTo_11 rfl rfl ?_
  refine cg_getA (pc := 12) X fo_X0_213 dX0_comesTo_12 (fun v10 => ?_)
  refine g_iload_n (pc := 15) X 1 dX0_comesTo_15 rfl rfl ?_
  refine g_bD_a (pc := 16) X (cs := [1]) (As := [.int x1]) (rest := []) (b := v10) (n := 1) dX0_comesTo_16 rfl rfl (Nat.le_of_ble_eq_true rfl) (fun fl13 ci14 fs15 hs16 hci17 r u h => ?_) (fun r11 t12 => ?_)
  · obtain rfl := List.mem_singleton.mp hci17
    exact ⟨_, _, _, yX1_clock, _, _, _, 3, 64, rfl, kX1_clock hex h, Or.inl (cwV 1 X.2.2.2.2.1 (lw_V q373 q374 q375 q71 q376) rfl rfl rfl dmV_X1_clock ⟨Nat.le_of_ble_eq_true rfl, Nat.le_of_ble_eq_true rfl⟩)⟩
  refine g_iload (pc := 19) X 4 dX0_comesTo_19 rfl ?_
  refine g_bD_v (pc := 21) X (cs := [4, 5, 6, 7, 8, 9]) (As := [.int x4]) (rest := []) (b := r11) (n := 1) dX0_comesTo_21 rfl rfl (Nat.le_of_ble_eq_true rfl) (fun fl20 ci21 fs22 hs23 hci24 r u h => ?_) (fun r18 t19 => ?_)
  · simp only [List.mem_cons, List.not_mem_nil, or_false] at hci24
    rcases hci24 with rfl | rfl | rfl | rfl | rfl | rfl
    · exact ⟨_, _, _, yX4_winds, _, _, _, 1, 21, rfl, kX4_winds hex h, Or.inl (cwV 1 X.2.2.2.2.1 (lw_V q700 q701 q702 q77 q709) rfl rfl rfl dmV_X4_winds ⟨Nat.le_of_ble_eq_true rfl, Nat.le_of_ble_eq_true rfl⟩)⟩
    · exact ⟨_, _, _, yX4_winds, _, _, _, 1, 21, rfl, kX4_winds hex h, Or.inr (Or.inl ⟨_, _, va_cwU 1 X.2.2.2.2.1 (lw_U q700 q703 q704 q701 q77 q709) rfl rfl rfl rfl dmU_X4_winds1 ⟨Nat.le_of_ble_eq_true rfl, Nat.le_of_ble_eq_true rfl⟩⟩)⟩
    · exact ⟨_, _, _, yX4_winds, _, _, _, 1, 21, rfl, kX4_winds hex h, Or.inr (Or.inl ⟨_, _, va_cwU 1 X.2.2.2.2.1 (lw_U q700 q703 q706 q701 q77 q709) rfl rfl rfl rfl dmU_X4_winds1 ⟨Nat.le_of_ble_eq_true rfl, Nat.le_of_ble_eq_true rfl⟩⟩)⟩
    · exact ⟨_, _, _, yX4_winds, _, _, _, 1, 21, rfl, kX4_winds hex h, Or.inr (Or.inl ⟨_, _, va_cwU 1 X.2.2.2.2.1 (lw_U q700 q703 q707 q701 q77 q709) rfl rfl rfl rfl dmU_X4_winds1 ⟨Nat.le_of_ble_eq_true rfl, Nat.le_of_ble_eq_true rfl⟩⟩)⟩
    · exact ⟨_, _, _, yX4_winds, _, _, _, 1, 21, rfl, kX4_winds hex h, Or.inr (Or.inl ⟨_, _, va_cwU 1 X.2.2.2.2.1 (lw_U q700 q703 q708 q701 q77 q709) rfl rfl rfl rfl dmU_X4_winds1 ⟨Nat.le_of_ble_eq_true rfl, Nat.le_of_ble_eq_true rfl⟩⟩)⟩
    · exact ⟨_, _, _, yX4_winds, _, _, _, 1, 21, rfl, kX4_winds hex h, Or.inr (Or.inl ⟨_, _, va_cwU 1 X.2.2.2.2.1 (lw_U q700 q703 q705 q701 q77 q709) rfl rfl rfl rfl dmU_X4_winds1 ⟨Nat.le_of_ble_eq_true rfl, Nat.le_of_ble_eq_true rfl⟩⟩)⟩
  refine g_aload_n (pc := 24) X 0 dX0_comesTo_24 rfl rfl ?_
  refine cg_getA (pc := 25) X fo_X0_213 dX0_comesTo_25 (fun v25 => ?_)
  refine g_iload_n (pc := 28) X 1 dX0_comesTo_28 rfl rfl ?_
  refine g_bD_a (pc := 29) X (cs := [1]) (As := [.int x1]) (rest := []) (b := v25) (n := 1) dX0_comesTo_29 rfl rfl (Nat.le_of_ble_eq_true rfl) (fun fl28 ci29 fs30 hs31 hci32 r u h => ?_) (fun r26 t27 => ?_)
  · obtain rfl := List.mem_singleton.mp hci32
    exact ⟨_, _, _, yX1_clock, _, _, _, 3, 64, rfl, kX1_clock hex h, Or.inl (cwV 1 X.2.2.2.2.1 (lw_V q373 q374 q375 q71 q376) rfl rfl rfl dmV_X1_clock ⟨Nat.le_of_ble_eq_true rfl, Nat.le_of_ble_eq_true rfl⟩)⟩
  refine g_bipush (pc := 32) X 60 dX0_comesTo_32 rfl ?_
  refine g_iload (pc := 34) X 5 dX0_comesTo_34 rfl ?_
  refine g_imul (pc := 36) X dX0_comesTo_36 ?_
  refine g_bD_v (pc := 37) X (cs := [4, 5, 6, 7, 8, 9]) (As := [.int (60 * x5)]) (rest := []) (b := r26) (n := 1) dX0_comesTo_37 rfl rfl (Nat.le_of_ble_eq_true rfl) (fun fl35 ci36 fs37 hs38 hci39 r u h => ?_) (fun r33 t34 => ?_)
  · simp only [List.mem_cons, List.not_mem_nil, or_false] at hci39
    rcases hci39 with rfl | rfl | rfl | rfl | rfl | rfl
    · exact ⟨_, _, _, yX4_turns, _, _, _, 0, 0, rfl, kX4_turns hex h, Or.inl (cwV 1 X.2.2.2.2.1 (lw_V q732 q733 q734 q77 q741) rfl rfl rfl dmV_X4_turns ⟨Nat.le_of_ble_eq_true rfl, Nat.le_of_ble_eq_true rfl⟩)⟩
    · exact ⟨_, _, _, yX4_turns, _, _, _, 0, 0, rfl, kX4_turns hex h, Or.inr (Or.inl ⟨_, _, va_cwU 1 X.2.2.2.2.1 (lw_U q732 q735 q736 q733 q77 q741) rfl rfl rfl rfl dmU_X4_turns1 ⟨Nat.le_of_ble_eq_true rfl, Nat.le_of_ble_eq_true rfl⟩⟩)⟩
    · exact ⟨_, _, _, yX4_turns, _, _, _, 0, 0, rfl, kX4_turns hex h, Or.inr (Or.inl ⟨_, _, va_cwU 1 X.2.2.2.2.1 (lw_U q732 q735 q738 q733 q77 q741) rfl rfl rfl rfl dmU_X4_turns1 ⟨Nat.le_of_ble_eq_true rfl, Nat.le_of_ble_eq_true rfl⟩⟩)⟩
    · exact ⟨_, _, _, yX4_turns, _, _, _, 0, 0, rfl, kX4_turns hex h, Or.inr (Or.inl ⟨_, _, va_cwU 1 X.2.2.2.2.1 (lw_U q732 q735 q739 q733 q77 q741) rfl rfl rfl rfl dmU_X4_turns1 ⟨Nat.le_of_ble_eq_true rfl, Nat.le_of_ble_eq_true rfl⟩⟩)⟩
    · exact ⟨_, _, _, yX4_turns, _, _, _, 0, 0, rfl, kX4_turns hex h, Or.inr (Or.inl ⟨_, _, va_cwU 1 X.2.2.2.2.1 (lw_U q732 q735 q740 q733 q77 q741) rfl rfl rfl rfl dmU_X4_turns1 ⟨Nat.le_of_ble_eq_true rfl, Nat.le_of_ble_eq_true rfl⟩⟩)⟩
    · exact ⟨_, _, _, yX4_turns, _, _, _, 0, 0, rfl, kX4_turns hex h, Or.inr (Or.inl ⟨_, _, va_cwU 1 X.2.2.2.2.1 (lw_U q732 q735 q737 q733 q77 q741) rfl rfl rfl rfl dmU_X4_turns1 ⟨Nat.le_of_ble_eq_true rfl, Nat.le_of_ble_eq_true rfl⟩⟩)⟩
  refine g_aload_n (pc := 40) X 0 dX0_comesTo_40 rfl rfl ?_
  refine g_iload_n (pc := 41) X 3 dX0_comesTo_41 rfl rfl ?_
  refine g_bD_v (pc := 42) X (cs := [0]) (As := [.int x3]) (rest := []) (b := h0) (n := 1) dX0_comesTo_42 rfl rfl (Nat.le_of_ble_eq_true rfl) (fun fl42 ci43 fs44 hs45 hci46 r u h => ?_) (fun r40 t41 => ?_)
  · obtain rfl := List.mem_singleton.mp hci46
    exact ⟨_, _, _, yX0_goOn, _, _, _, 19, 403, rfl, kX0_goOn hex h, Or.inl (cwV 1 X.2.2.2.2.1 (lw_V q861 q863 qs8 q70 q864) rfl rfl rfl dmV_X0_goOn ⟨Nat.le_of_ble_eq_true rfl, Nat.le_of_ble_eq_true rfl⟩)⟩
  refine g_aload_n (pc := 45) X 0 dX0_comesTo_45 rfl rfl ?_
  refine cg_getA (pc := 46) X fo_X0_213 dX0_comesTo_46 (fun v47 => ?_)
  refine g_aload_n (pc := 49) X 0 dX0_comesTo_49 rfl rfl ?_
  refine cg_getA (pc := 50) X fo_X0_213 dX0_comesTo_50 (fun v48 => ?_)
  refine g_iload_n (pc := 53) X 1 dX0_comesTo_53 rfl rfl ?_
  refine g_bD_a (pc := 54) X (cs := [1]) (As := [.int x1]) (rest := [.ref v47]) (b := v48) (n := 1) dX0_comesTo_54 rfl rfl (Nat.le_of_ble_eq_true rfl) (fun fl51 ci52 fs53 hs54 hci55 r u h => ?_) (fun r49 t50 => ?_)
  · obtain rfl := List.mem_singleton.mp hci55
    exact ⟨_, _, _, yX1_clock, _, _, _, 3, 64, rfl, kX1_clock hex h, Or.inl (cwV 1 X.2.2.2.2.1 (lw_V q373 q374 q375 q71 q376) rfl rfl rfl dmV_X1_clock ⟨Nat.le_of_ble_eq_true rfl, Nat.le_of_ble_eq_true rfl⟩)⟩
  refine g_bD_i (pc := 57) X (cs := [1]) (As := [.ref r49]) (rest := []) (b := v47) (n := 1) dX0_comesTo_57 rfl rfl (Nat.le_of_ble_eq_true rfl) (fun fl58 ci59 fs60 hs61 hci62 r u h => ?_) (fun r56 t57 => ?_)
  · obtain rfl := List.mem_singleton.mp hci62
    exact ⟨_, _, _, yX1_place, _, _, _, 3, 64, rfl, kX1_place hex h, Or.inl (cwV 1 X.2.2.2.2.1 (lw_V q526 q527 q528 q71 q529) rfl rfl rfl dmV_X1_place ⟨Nat.le_of_ble_eq_true rfl, Nat.le_of_ble_eq_true rfl⟩)⟩
  refine g_iload_n (pc := 60) X 2 dX0_comesTo_60 rfl rfl ?_
  refine g_icmp_gt (pc := 61) X 68 dX0_comesTo_61 (by decide) ?_ ?_
  · refine g_iconst (pc := 68) X 0 dX0_comesTo_68 rfl ?_
    exact g_zret (pc := 69) X hr rfl dX0_comesTo_69
  · refine g_iconst (pc := 64) X 1 dX0_comesTo_64 rfl ?_
    refine g_goto (pc := 65) X 69 dX0_comesTo_65 (by decide) ?_
    exact g_zret (pc := 69) X hr rfl dX0_comesTo_69
theorem kX0_comesTo {ex : Nat → Option Nat} {z : Nat} {h0 : Nat} {x1 : Int32} {x2 : Int32} {x3 : Int32} {x4 : Int32} {x5 : Int32} {σ : Sg} {r : Int32} {u : St} (hex : ex = Γ.2.2.2.2) (h : fX0_comesTo ex z h0 x1 x2 x3 x4 x5 (σ, 0, 0) = some (r, u)) : g_C Γ l yX0_comesTo cX0_comesTo 6 (some .boolean) 20 425 [.ref h0, .int x1, .int x2, .int x3, .int x4, .int x5] σ z v_i r (g_ι z u) :=
  g_met (ι := g_ι z) (t := (σ, 0, 0)) [.ref h0, .int x1, .int x2, .int x3, .int x4, .int x5] (by decide) (Nat.le_of_ble_eq_true rfl) h rfl (fun p e s m args below meth c X hr hn => wX0_comesTo hex X hr h0 x1 x2 x3 x4 x5 (σ, 0, 0))
end CP
abbrev cX0_hands : ByteArray := prog_1_method_34_code
def yX0_hands : MethodName := ⟨RX0, "hands", "(III)I"⟩
def dkwX0_hands_2 : List UInt8 := [16, 252, 167, 0, 5, 21, 4, 172]
abbrev dktX0_hands_2 : List UInt8 := dkwX0_hands_2 ++ []
def dkwX0_hands_1 : List UInt8 := [28, 29, 3, 21, 4, 182, 0, 238, 154, 0, 9, 132, 4, 1, 167, 255, 233, 21, 4, 16, 12, 160, 0, 8]
abbrev dktX0_hands_1 : List UInt8 := dkwX0_hands_1 ++ dktX0_hands_2
def dkwX0_hands_0 : List UInt8 := [42, 27, 28, 29, 182, 0, 234, 154, 0, 5, 2, 172, 3, 54, 4, 21, 4, 16, 12, 162, 0, 22, 42, 27]
abbrev dktX0_hands_0 : List UInt8 := dkwX0_hands_0 ++ dktX0_hands_1
theorem dksX0_hands_0 : cX0_hands.data.toList.drop 0 = dktX0_hands_0 := by decide +kernel
theorem dksX0_hands_1 : cX0_hands.data.toList.drop 24 = dktX0_hands_1 := dk_seg dksX0_hands_0 24 rfl rfl
theorem dksX0_hands_2 : cX0_hands.data.toList.drop 48 = dktX0_hands_2 := dk_seg dksX0_hands_1 24 rfl rfl
theorem dX0_hands_0 : decode cX0_hands 0 = .ok (.aload_n 0, 1) := dk_42 (dk_at dksX0_hands_0 0 rfl rfl)
theorem dX0_hands_1 : decode cX0_hands 1 = .ok (.iload_n 1, 1) := dk_27 (dk_at dksX0_hands_0 1 rfl rfl)
theorem dX0_hands_2 : decode cX0_hands 2 = .ok (.iload_n 2, 1) := dk_28 (dk_at dksX0_hands_0 2 rfl rfl)
theorem dX0_hands_3 : decode cX0_hands 3 = .ok (.iload_n 3, 1) := dk_29 (dk_at dksX0_hands_0 3 rfl rfl)
theorem dX0_hands_4 : decode cX0_hands 4 = .ok (.invokevirtual 234, 3) := dk_182 0 234 (dk_at dksX0_hands_0 4 rfl rfl)
theorem dX0_hands_7 : decode cX0_hands 7 = .ok (.ifCond .ne 5, 3) := dk_154 0 5 (dk_at dksX0_hands_0 7 rfl rfl)
theorem dX0_hands_10 : decode cX0_hands 10 = .ok (.iconst (-1), 1) := dk_2 (dk_at dksX0_hands_0 10 rfl rfl)
theorem dX0_hands_11 : decode cX0_hands 11 = .ok (.ireturn, 1) := dk_172 (dk_at dksX0_hands_0 11 rfl rfl)
theorem dX0_hands_12 : decode cX0_hands 12 = .ok (.iconst 0, 1) := dk_3 (dk_at dksX0_hands_0 12 rfl rfl)
theorem dX0_hands_13 : decode cX0_hands 13 = .ok (.istore 4, 2) := dk_54 4 (dk_at dksX0_hands_0 13 rfl rfl)
theorem dX0_hands_15 : decode cX0_hands 15 = .ok (.iload 4, 2) := dk_21 4 (dk_at dksX0_hands_0 15 rfl rfl)
theorem dX0_hands_17 : decode cX0_hands 17 = .ok (.bipush 12, 2) := dk_16 12 (dk_at dksX0_hands_0 17 rfl rfl)
theorem dX0_hands_19 : decode cX0_hands 19 = .ok (.if_icmp .ge 22, 3) := dk_162 0 22 (dk_at dksX0_hands_0 19 rfl rfl)
theorem dX0_hands_22 : decode cX0_hands 22 = .ok (.aload_n 0, 1) := dk_42 (dk_at dksX0_hands_0 22 rfl rfl)
theorem dX0_hands_23 : decode cX0_hands 23 = .ok (.iload_n 1, 1) := dk_27 (dk_at dksX0_hands_0 23 rfl rfl)
theorem dX0_hands_24 : decode cX0_hands 24 = .ok (.iload_n 2, 1) := dk_28 (dk_at dksX0_hands_1 0 rfl rfl)
theorem dX0_hands_25 : decode cX0_hands 25 = .ok (.iload_n 3, 1) := dk_29 (dk_at dksX0_hands_1 1 rfl rfl)
theorem dX0_hands_26 : decode cX0_hands 26 = .ok (.iconst 0, 1) := dk_3 (dk_at dksX0_hands_1 2 rfl rfl)
theorem dX0_hands_27 : decode cX0_hands 27 = .ok (.iload 4, 2) := dk_21 4 (dk_at dksX0_hands_1 3 rfl rfl)
theorem dX0_hands_29 : decode cX0_hands 29 = .ok (.invokevirtual 238, 3) := dk_182 0 238 (dk_at dksX0_hands_1 5 rfl rfl)
theorem dX0_hands_32 : decode cX0_hands 32 = .ok (.ifCond .ne 9, 3) := dk_154 0 9 (dk_at dksX0_hands_1 8 rfl rfl)
theorem dX0_hands_35 : decode cX0_hands 35 = .ok (.iinc 4 1, 3) := dk_132 4 1 (dk_at dksX0_hands_1 11 rfl rfl)
theorem dX0_hands_38 : decode cX0_hands 38 = .ok (.goto (-23), 3) := dk_167 255 233 (dk_at dksX0_hands_1 14 rfl rfl)
theorem dX0_hands_41 : decode cX0_hands 41 = .ok (.iload 4, 2) := dk_21 4 (dk_at dksX0_hands_1 17 rfl rfl)
theorem dX0_hands_43 : decode cX0_hands 43 = .ok (.bipush 12, 2) := dk_16 12 (dk_at dksX0_hands_1 19 rfl rfl)
theorem dX0_hands_45 : decode cX0_hands 45 = .ok (.if_icmp .ne 8, 3) := dk_160 0 8 (dk_at dksX0_hands_1 21 rfl rfl)
theorem dX0_hands_48 : decode cX0_hands 48 = .ok (.bipush (-4), 2) := dk_16 252 (dk_at dksX0_hands_2 0 rfl rfl)
theorem dX0_hands_50 : decode cX0_hands 50 = .ok (.goto 5, 3) := dk_167 0 5 (dk_at dksX0_hands_2 2 rfl rfl)
theorem dX0_hands_53 : decode cX0_hands 53 = .ok (.iload 4, 2) := dk_21 4 (dk_at dksX0_hands_2 5 rfl rfl)
theorem dX0_hands_55 : decode cX0_hands 55 = .ok (.ireturn, 1) := dk_172 (dk_at dksX0_hands_2 7 rfl rfl)
theorem dmV_X0_comesTo : yX0_comesTo.cls = RX0 ∧ yX0_comesTo.cls ≠ "java/lang/invoke/MethodHandle" ∧ yX0_comesTo.cls ≠ "java/lang/invoke/VarHandle" ∧ (parseMethodDescriptor yX0_comesTo.desc).map (fun d => d.parameters.length) = some 5 := by decide +kernel
theorem dmV_X0_isAsked : yX0_isAsked.cls = RX0 ∧ yX0_isAsked.cls ≠ "java/lang/invoke/MethodHandle" ∧ yX0_isAsked.cls ≠ "java/lang/invoke/VarHandle" ∧ (parseMethodDescriptor yX0_isAsked.desc).map (fun d => d.parameters.length) = some 3 := by decide +kernel
section CP
variable {Γ : Gc} {p : Program} {l : Launch} {e : Env} {s : State} {m : MethodId} {args : Array Value} {below : List Frame} {meth : Method} {c : Code} {ex : Nat → Option Nat} {z : Nat} {tF : St}
noncomputable def fX0_hands_41 (ex : Nat → Option Nat) (z : Nat) (x4 : Int32) (t : St) : Option (Int32 × St) := if x4 = 12 then some ((-4), t) else some (x4, t)
set_option maxHeartbeats 4000000 in
theorem wX0_hands_41 {rF : Int32} (hex : ex = Γ.2.2.2.2) (X : g_X Γ p s m args meth c cX0_hands 5 RX0) (hr : meth.sig.returnType = (some .int)) (x4 : Int32) (t : St) : Wf Γ p l e 21 450 s m args below meth c 5 (g_ι z) v_i rF tF 41 [(4, .int x4)] [] t (fX0_hands_41 ex z x4 t) := by
  unfold fX0_hands_41
  refine g_iload (pc := 41) X 0 dX0_hands_41 rfl ?_
  refine g_bipush (pc := 43) X 12 dX0_hands_43 rfl ?_
  refine g_icmp_ne (pc := 45) X 53 dX0_hands_45 (by decide) ?_ ?_
  · refine g_iload (pc := 53) X 0 dX0_hands_53 rfl ?_
    exact g_iret (pc := 55) X hr dX0_hands_55
  · refine g_bipush (pc := 48) X (-4) dX0_hands_48 rfl ?_
    refine g_goto (pc := 50) X 55 dX0_hands_50 (by decide) ?_
    exact g_iret (pc := 55) X hr dX0_hands_55
noncomputable def fX0_hands_15 (ex : Nat → Option Nat) (z : Nat) : Nat → Nat → Int32 → Int32 → Int32 → Int32 → St → Option (Int32 × St)
  | 0, _, _, _, _, _, _ => none
  | n + 1, h0, x1, x2, x3, x4, t => if 12 ≤ x4 then fX0_hands_41 ex z x4 t else ccast [0] t h0 (gb (fX0_comesTo ex (z + t.2.1) h0 x1 x2 x3 0 x4 (t.1, 0, 0)) t fun r1 t2 => if r1 = 0 then fX0_hands_15 ex z n h0 x1 x2 x3 (x4 + 1) t2 else fX0_hands_41 ex z x4 t2)
set_option maxHeartbeats 4000000 in
theorem wX0_hands_15 {rF : Int32} (hex : ex = Γ.2.2.2.2) (X : g_X Γ p s m args meth c cX0_hands 5 RX0) (hr : meth.sig.returnType = (some .int)) (n : Nat) : ∀ (h0 : Nat) (x1 : Int32) (x2 : Int32) (x3 : Int32) (x4 : Int32) (t : St), Wf Γ p l e 21 450 s m args below meth c 5 (g_ι z) v_i rF tF 15 [(0, .ref h0), (1, .int x1), (2, .int x2), (3, .int x3), (4, .int x4)] [] t (fX0_hands_15 ex z n h0 x1 x2 x3 x4 t) := by
  induction n with
  | zero => intro h0 x1 x2 x3 x4 t; exact g_none
  | succ n ih =>
    intro h0 x1 x2 x3 x4 t
    rw [fX0_hands_15]
    refine g_iload (pc := 15) X 4 dX0_hands_15 rfl ?_
    refine g_bipush (pc := 17) X 12 dX0_hands_17 rfl ?_
    refine g_icmp_ge (pc := 19) X 41 dX0_hands_19 (by decide) ?_ ?_
    · exact g_lv (pc := 41) (lv' := [(4, .int x4)]) [4] rfl (wX0_hands_41 hex X hr x4 t)
    · refine g_aload_n (pc := 22) X 0 dX0_hands_22 rfl rfl ?_
      refine g_iload_n (pc := 23) X 1 dX0_hands_23 rfl rfl ?_
      refine g_iload_n (pc := 24) X 2 dX0_hands_24 rfl rfl ?_
      refine g_iload_n (pc := 25) X 3 dX0_hands_25 rfl rfl ?_
      refine g_iconst (pc := 26) X 0 dX0_hands_26 rfl ?_
      refine g_iload (pc := 27) X 4 dX0_hands_27 rfl ?_
      refine g_bD_i (pc := 29) X (cs := [0]) (As := [.int x1, .int x2, .int x3, .int 0, .int x4]) (rest := []) (b := h0) (n := 5) dX0_hands_29 rfl rfl (Nat.le_of_ble_eq_true rfl) (fun fl3 ci4 fs5 hs6 hci7 r u h => ?_) (fun r1 t2 => ?_)
      · obtain rfl := List.mem_singleton.mp hci7
        exact ⟨_, _, _, yX0_comesTo, _, _, _, 20, 425, rfl, kX0_comesTo hex h, Or.inl (cwV 5 X.2.2.2.2.1 (lw_V q887 q889 qs10 q70 q890) rfl rfl rfl dmV_X0_comesTo ⟨Nat.le_of_ble_eq_true rfl, Nat.le_of_ble_eq_true rfl⟩)⟩
      refine g_if_ne (pc := 32) X 41 dX0_hands_32 (by decide) ?_ ?_
      · exact g_lv (pc := 41) (lv' := [(4, .int x4)]) [4] rfl (wX0_hands_41 hex X hr x4 t2)
      · refine g_iinc (pc := 35) X 1 4 (lv' := [(4, .int (x4 + 1)), (0, .ref h0), (1, .int x1), (2, .int x2), (3, .int x3)]) dX0_hands_35 rfl rfl (by decide) rfl ?_
        refine g_goto (pc := 38) X 15 dX0_hands_38 (by decide) ?_
        exact g_lv (pc := 15) (lv' := [(0, .ref h0), (1, .int x1), (2, .int x2), (3, .int x3), (4, .int (x4 + 1))]) [1, 2, 3, 4, 0] rfl (ih h0 x1 x2 x3 (x4 + 1) t2)
noncomputable def fX0_hands (ex : Nat → Option Nat) (z : Nat) (h0 : Nat) (x1 : Int32) (x2 : Int32) (x3 : Int32) (t : St) : Option (Int32 × St) := ccast [0] t h0 (gb (fX0_isAsked ex (z + t.2.1) h0 x1 x2 x3 (t.1, 0, 0)) t fun r1 t2 => if r1 = 0 then some ((-1), t2) else fX0_hands_15 ex z 1000 h0 x1 x2 x3 0 t2)
set_option maxHeartbeats 4000000 in
theorem wX0_hands {rF : Int32} (hex : ex = Γ.2.2.2.2) (X : g_X Γ p s m args meth c cX0_hands 5 RX0) (hr : meth.sig.returnType = (some .int)) (h0 : Nat) (x1 : Int32) (x2 : Int32) (x3 : Int32) (t : St) : Wf Γ p l e 21 450 s m args below meth c 5 (g_ι z) v_i rF tF 0 [(0, .ref h0), (1, .int x1), (2, .int x2), (3, .int x3)] [] t (fX0_hands ex z h0 x1 x2 x3 t) := by
  unfold fX0_hands
  refine g_aload_n (pc := 0) X 0 dX0_hands_0 rfl rfl ?_
  refine g_iload_n (pc := 1) X 1 dX0_hands_1 rfl rfl ?_
  refine g_iload_n (pc := 2) X 2 dX0_hands_2 rfl rfl ?_
  refine g_iload_n (pc := 3) X 3 dX0_hands_3 rfl rfl ?_
  refine g_bD_i (pc := 4) X (cs := [0]) (As := [.int x1, .int x2, .int x3]) (rest := []) (b := h0) (n := 3) dX0_hands_4 rfl rfl (Nat.le_of_ble_eq_true rfl) (fun fl3 ci4 fs5 hs6 hci7 r u h => ?_) (fun r1 t2 => ?_)
  · obtain rfl := List.mem_singleton.mp hci7
    exact ⟨_, _, _, yX0_isAsked, _, _, _, 3, 61, rfl, kX0_isAsked hex h, Or.inl (cwV 3 X.2.2.2.2.1 (lw_V q882 q884 qs9 q70 q885) rfl rfl rfl dmV_X0_isAsked ⟨Nat.le_of_ble_eq_true rfl, Nat.le_of_ble_eq_true rfl⟩)⟩
  refine g_if_ne (pc := 7) X 12 dX0_hands_7 (by decide) ?_ ?_
  · refine g_iconst (pc := 12) X 0 dX0_hands_12 rfl ?_
    refine g_istore (pc := 13) X (lv' := [(4, .int 0), (0, .ref h0), (1, .int x1), (2, .int x2), (3, .int x3)]) dX0_hands_13 (by decide) rfl ?_
    exact g_lv (pc := 15) (lv' := [(0, .ref h0), (1, .int x1), (2, .int x2), (3, .int x3), (4, .int 0)]) [1, 2, 3, 4, 0] rfl (wX0_hands_15 hex X hr 1000 h0 x1 x2 x3 0 t2)
  · refine g_iconst (pc := 10) X (-1) dX0_hands_10 rfl ?_
    exact g_iret (pc := 11) X hr dX0_hands_11
theorem kX0_hands {ex : Nat → Option Nat} {z : Nat} {h0 : Nat} {x1 : Int32} {x2 : Int32} {x3 : Int32} {σ : Sg} {r : Int32} {u : St} (hex : ex = Γ.2.2.2.2) (h : fX0_hands ex z h0 x1 x2 x3 (σ, 0, 0) = some (r, u)) : g_C Γ l yX0_hands cX0_hands 5 (some .int) 21 450 [.ref h0, .int x1, .int x2, .int x3] σ z v_i r (g_ι z u) :=
  g_met (ι := g_ι z) (t := (σ, 0, 0)) [.ref h0, .int x1, .int x2, .int x3] (by decide) (Nat.le_of_ble_eq_true rfl) h rfl (fun p e s m args below meth c X hr hn => wX0_hands hex X hr h0 x1 x2 x3 (σ, 0, 0))
end CP
abbrev cX0_both : ByteArray := prog_1_method_35_code
def yX0_both : MethodName := ⟨RX0, "both", "(IIII)I"⟩
def dkwX0_both_4 : List UInt8 := [132, 6, 1, 167, 255, 196, 132, 5, 1, 167, 255, 180, 16, 252, 172]
abbrev dktX0_both_4 : List UInt8 := dkwX0_both_4 ++ []
def dkwX0_both_3 : List UInt8 := [182, 0, 238, 154, 0, 6, 167, 0, 16, 21, 4, 154, 0, 8, 21, 5, 167, 0, 5, 21, 6, 172]
abbrev dktX0_both_3 : List UInt8 := dkwX0_both_3 ++ dktX0_both_4
def dkwX0_both_2 : List UInt8 := [163, 0, 52, 21, 5, 21, 6, 100, 16, 40, 163, 0, 36, 42, 27, 28, 29, 21, 5, 21, 6, 100, 21, 6]
abbrev dktX0_both_2 : List UInt8 := dkwX0_both_2 ++ dktX0_both_3
def dkwX0_both_1 : List UInt8 := [54, 5, 21, 5, 16, 52, 162, 0, 75, 3, 54, 6, 21, 6, 16, 12, 162, 0, 59, 21, 6, 21, 5]
abbrev dktX0_both_1 : List UInt8 := dkwX0_both_1 ++ dktX0_both_2
def dkwX0_both_0 : List UInt8 := [42, 27, 28, 29, 182, 0, 234, 153, 0, 14, 21, 4, 133, 9, 10, 184, 0, 48, 154, 0, 5, 2, 172, 3]
abbrev dktX0_both_0 : List UInt8 := dkwX0_both_0 ++ dktX0_both_1
theorem dksX0_both_0 : cX0_both.data.toList.drop 0 = dktX0_both_0 := by decide +kernel
theorem dksX0_both_1 : cX0_both.data.toList.drop 24 = dktX0_both_1 := dk_seg dksX0_both_0 24 rfl rfl
theorem dksX0_both_2 : cX0_both.data.toList.drop 47 = dktX0_both_2 := dk_seg dksX0_both_1 23 rfl rfl
theorem dksX0_both_3 : cX0_both.data.toList.drop 71 = dktX0_both_3 := dk_seg dksX0_both_2 24 rfl rfl
theorem dksX0_both_4 : cX0_both.data.toList.drop 93 = dktX0_both_4 := dk_seg dksX0_both_3 22 rfl rfl
theorem dX0_both_0 : decode cX0_both 0 = .ok (.aload_n 0, 1) := dk_42 (dk_at dksX0_both_0 0 rfl rfl)
theorem dX0_both_1 : decode cX0_both 1 = .ok (.iload_n 1, 1) := dk_27 (dk_at dksX0_both_0 1 rfl rfl)
theorem dX0_both_2 : decode cX0_both 2 = .ok (.iload_n 2, 1) := dk_28 (dk_at dksX0_both_0 2 rfl rfl)
theorem dX0_both_3 : decode cX0_both 3 = .ok (.iload_n 3, 1) := dk_29 (dk_at dksX0_both_0 3 rfl rfl)
theorem dX0_both_4 : decode cX0_both 4 = .ok (.invokevirtual 234, 3) := dk_182 0 234 (dk_at dksX0_both_0 4 rfl rfl)
theorem dX0_both_7 : decode cX0_both 7 = .ok (.ifCond .eq 14, 3) := dk_153 0 14 (dk_at dksX0_both_0 7 rfl rfl)
theorem dX0_both_10 : decode cX0_both 10 = .ok (.iload 4, 2) := dk_21 4 (dk_at dksX0_both_0 10 rfl rfl)
theorem dX0_both_12 : decode cX0_both 12 = .ok (.i2l, 1) := dk_133 (dk_at dksX0_both_0 12 rfl rfl)
theorem dX0_both_13 : decode cX0_both 13 = .ok (.lconst 0, 1) := dk_9 (dk_at dksX0_both_0 13 rfl rfl)
theorem dX0_both_14 : decode cX0_both 14 = .ok (.lconst 1, 1) := dk_10 (dk_at dksX0_both_0 14 rfl rfl)
theorem dX0_both_15 : decode cX0_both 15 = .ok (.invokestatic 48, 3) := dk_184 0 48 (dk_at dksX0_both_0 15 rfl rfl)
theorem dX0_both_18 : decode cX0_both 18 = .ok (.ifCond .ne 5, 3) := dk_154 0 5 (dk_at dksX0_both_0 18 rfl rfl)
theorem dX0_both_21 : decode cX0_both 21 = .ok (.iconst (-1), 1) := dk_2 (dk_at dksX0_both_0 21 rfl rfl)
theorem dX0_both_22 : decode cX0_both 22 = .ok (.ireturn, 1) := dk_172 (dk_at dksX0_both_0 22 rfl rfl)
theorem dX0_both_23 : decode cX0_both 23 = .ok (.iconst 0, 1) := dk_3 (dk_at dksX0_both_0 23 rfl rfl)
theorem dX0_both_24 : decode cX0_both 24 = .ok (.istore 5, 2) := dk_54 5 (dk_at dksX0_both_1 0 rfl rfl)
theorem dX0_both_26 : decode cX0_both 26 = .ok (.iload 5, 2) := dk_21 5 (dk_at dksX0_both_1 2 rfl rfl)
theorem dX0_both_28 : decode cX0_both 28 = .ok (.bipush 52, 2) := dk_16 52 (dk_at dksX0_both_1 4 rfl rfl)
theorem dX0_both_30 : decode cX0_both 30 = .ok (.if_icmp .ge 75, 3) := dk_162 0 75 (dk_at dksX0_both_1 6 rfl rfl)
theorem dX0_both_33 : decode cX0_both 33 = .ok (.iconst 0, 1) := dk_3 (dk_at dksX0_both_1 9 rfl rfl)
theorem dX0_both_34 : decode cX0_both 34 = .ok (.istore 6, 2) := dk_54 6 (dk_at dksX0_both_1 10 rfl rfl)
theorem dX0_both_36 : decode cX0_both 36 = .ok (.iload 6, 2) := dk_21 6 (dk_at dksX0_both_1 12 rfl rfl)
theorem dX0_both_38 : decode cX0_both 38 = .ok (.bipush 12, 2) := dk_16 12 (dk_at dksX0_both_1 14 rfl rfl)
theorem dX0_both_40 : decode cX0_both 40 = .ok (.if_icmp .ge 59, 3) := dk_162 0 59 (dk_at dksX0_both_1 16 rfl rfl)
theorem dX0_both_43 : decode cX0_both 43 = .ok (.iload 6, 2) := dk_21 6 (dk_at dksX0_both_1 19 rfl rfl)
theorem dX0_both_45 : decode cX0_both 45 = .ok (.iload 5, 2) := dk_21 5 (dk_at dksX0_both_1 21 rfl rfl)
theorem dX0_both_47 : decode cX0_both 47 = .ok (.if_icmp .gt 52, 3) := dk_163 0 52 (dk_at dksX0_both_2 0 rfl rfl)
theorem dX0_both_50 : decode cX0_both 50 = .ok (.iload 5, 2) := dk_21 5 (dk_at dksX0_both_2 3 rfl rfl)
theorem dX0_both_52 : decode cX0_both 52 = .ok (.iload 6, 2) := dk_21 6 (dk_at dksX0_both_2 5 rfl rfl)
theorem dX0_both_54 : decode cX0_both 54 = .ok (.isub, 1) := dk_100 (dk_at dksX0_both_2 7 rfl rfl)
theorem dX0_both_55 : decode cX0_both 55 = .ok (.bipush 40, 2) := dk_16 40 (dk_at dksX0_both_2 8 rfl rfl)
theorem dX0_both_57 : decode cX0_both 57 = .ok (.if_icmp .gt 36, 3) := dk_163 0 36 (dk_at dksX0_both_2 10 rfl rfl)
theorem dX0_both_60 : decode cX0_both 60 = .ok (.aload_n 0, 1) := dk_42 (dk_at dksX0_both_2 13 rfl rfl)
theorem dX0_both_61 : decode cX0_both 61 = .ok (.iload_n 1, 1) := dk_27 (dk_at dksX0_both_2 14 rfl rfl)
theorem dX0_both_62 : decode cX0_both 62 = .ok (.iload_n 2, 1) := dk_28 (dk_at dksX0_both_2 15 rfl rfl)
theorem dX0_both_63 : decode cX0_both 63 = .ok (.iload_n 3, 1) := dk_29 (dk_at dksX0_both_2 16 rfl rfl)
theorem dX0_both_64 : decode cX0_both 64 = .ok (.iload 5, 2) := dk_21 5 (dk_at dksX0_both_2 17 rfl rfl)
theorem dX0_both_66 : decode cX0_both 66 = .ok (.iload 6, 2) := dk_21 6 (dk_at dksX0_both_2 19 rfl rfl)
theorem dX0_both_68 : decode cX0_both 68 = .ok (.isub, 1) := dk_100 (dk_at dksX0_both_2 21 rfl rfl)
theorem dX0_both_69 : decode cX0_both 69 = .ok (.iload 6, 2) := dk_21 6 (dk_at dksX0_both_2 22 rfl rfl)
theorem dX0_both_71 : decode cX0_both 71 = .ok (.invokevirtual 238, 3) := dk_182 0 238 (dk_at dksX0_both_3 0 rfl rfl)
theorem dX0_both_74 : decode cX0_both 74 = .ok (.ifCond .ne 6, 3) := dk_154 0 6 (dk_at dksX0_both_3 3 rfl rfl)
theorem dX0_both_77 : decode cX0_both 77 = .ok (.goto 16, 3) := dk_167 0 16 (dk_at dksX0_both_3 6 rfl rfl)
theorem dX0_both_80 : decode cX0_both 80 = .ok (.iload 4, 2) := dk_21 4 (dk_at dksX0_both_3 9 rfl rfl)
theorem dX0_both_82 : decode cX0_both 82 = .ok (.ifCond .ne 8, 3) := dk_154 0 8 (dk_at dksX0_both_3 11 rfl rfl)
theorem dX0_both_85 : decode cX0_both 85 = .ok (.iload 5, 2) := dk_21 5 (dk_at dksX0_both_3 14 rfl rfl)
theorem dX0_both_87 : decode cX0_both 87 = .ok (.goto 5, 3) := dk_167 0 5 (dk_at dksX0_both_3 16 rfl rfl)
theorem dX0_both_90 : decode cX0_both 90 = .ok (.iload 6, 2) := dk_21 6 (dk_at dksX0_both_3 19 rfl rfl)
theorem dX0_both_92 : decode cX0_both 92 = .ok (.ireturn, 1) := dk_172 (dk_at dksX0_both_3 21 rfl rfl)
theorem dX0_both_93 : decode cX0_both 93 = .ok (.iinc 6 1, 3) := dk_132 6 1 (dk_at dksX0_both_4 0 rfl rfl)
theorem dX0_both_96 : decode cX0_both 96 = .ok (.goto (-60), 3) := dk_167 255 196 (dk_at dksX0_both_4 3 rfl rfl)
theorem dX0_both_99 : decode cX0_both 99 = .ok (.iinc 5 1, 3) := dk_132 5 1 (dk_at dksX0_both_4 6 rfl rfl)
theorem dX0_both_102 : decode cX0_both 102 = .ok (.goto (-76), 3) := dk_167 255 180 (dk_at dksX0_both_4 9 rfl rfl)
theorem dX0_both_105 : decode cX0_both 105 = .ok (.bipush (-4), 2) := dk_16 252 (dk_at dksX0_both_4 12 rfl rfl)
theorem dX0_both_107 : decode cX0_both 107 = .ok (.ireturn, 1) := dk_172 (dk_at dksX0_both_4 14 rfl rfl)
section CP
variable {Γ : Gc} {p : Program} {l : Launch} {e : Env} {s : State} {m : MethodId} {args : Array Value} {below : List Frame} {meth : Method} {c : Code} {ex : Nat → Option Nat} {z : Nat} {tF : St}
noncomputable def fX0_both_93 (ex : Nat → Option Nat) (z : Nat) (kc26 : Nat → Int32 → Int32 → Int32 → Int32 → Int32 → St → Option (Int32 × St)) (kc36 : Nat → Int32 → Int32 → Int32 → Int32 → Int32 → Int32 → St → Option (Int32 × St)) (h0 : Nat) (x1 : Int32) (x2 : Int32) (x3 : Int32) (x4 : Int32) (x5 : Int32) (x6 : Int32) (t : St) : Option (Int32 × St) := kc36 h0 x1 x2 x3 x4 x5 (x6 + 1) t
set_option maxHeartbeats 4000000 in
theorem wX0_both_93 {rF : Int32} (hex : ex = Γ.2.2.2.2) (X : g_X Γ p s m args meth c cX0_both 7 RX0) (hr : meth.sig.returnType = (some .int)) {kc26 : Nat → Int32 → Int32 → Int32 → Int32 → Int32 → St → Option (Int32 × St)} (hk26 : ∀ (h0 : Nat) (x1 : Int32) (x2 : Int32) (x3 : Int32) (x4 : Int32) (x5 : Int32) (t : St), Wf Γ p l e 21 450 s m args below meth c 7 (g_ι z) v_i rF tF 26 [(0, .ref h0), (1, .int x1), (2, .int x2), (3, .int x3), (4, .int x4), (5, .int x5)] [] t (kc26 h0 x1 x2 x3 x4 x5 t)) {kc36 : Nat → Int32 → Int32 → Int32 → Int32 → Int32 → Int32 → St → Option (Int32 × St)} (hk36 : ∀ (h0 : Nat) (x1 : Int32) (x2 : Int32) (x3 : Int32) (x4 : Int32) (x5 : Int32) (x6 : Int32) (t : St), Wf Γ p l e 21 450 s m args below meth c 7 (g_ι z) v_i rF tF 36 [(0, .ref h0), (1, .int x1), (2, .int x2), (3, .int x3), (4, .int x4), (5, .int x5), (6, .int x6)] [] t (kc36 h0 x1 x2 x3 x4 x5 x6 t)) (h0 : Nat) (x1 : Int32) (x2 : Int32) (x3 : Int32) (x4 : Int32) (x5 : Int32) (x6 : Int32) (t : St) : Wf Γ p l e 21 450 s m args below meth c 7 (g_ι z) v_i rF tF 93 [(0, .ref h0), (1, .int x1), (2, .int x2), (3, .int x3), (4, .int x4), (5, .int x5), (6, .int x6)] [] t (fX0_both_93 ex z kc26 kc36 h0 x1 x2 x3 x4 x5 x6 t) := by
  unfold fX0_both_93
  refine g_iinc (pc := 93) X 1 6 (lv' := [(6, .int (x6 + 1)), (0, .ref h0), (1, .int x1), (2, .int x2), (3, .int x3), (4, .int x4), (5, .int x5)]) dX0_both_93 rfl rfl (by decide) rfl ?_
  refine g_goto (pc := 96) X 36 dX0_both_96 (by decide) ?_
  exact g_lv (pc := 36) (lv' := [(0, .ref h0), (1, .int x1), (2, .int x2), (3, .int x3), (4, .int x4), (5, .int x5), (6, .int (x6 + 1))]) [1, 2, 3, 4, 5, 6, 0] rfl (hk36 h0 x1 x2 x3 x4 x5 (x6 + 1) t)
noncomputable def fX0_both_99 (ex : Nat → Option Nat) (z : Nat) (kc26 : Nat → Int32 → Int32 → Int32 → Int32 → Int32 → St → Option (Int32 × St)) (h0 : Nat) (x1 : Int32) (x2 : Int32) (x3 : Int32) (x4 : Int32) (x5 : Int32) (t : St) : Option (Int32 × St) := kc26 h0 x1 x2 x3 x4 (x5 + 1) t
set_option maxHeartbeats 4000000 in
theorem wX0_both_99 {rF : Int32} (hex : ex = Γ.2.2.2.2) (X : g_X Γ p s m args meth c cX0_both 7 RX0) (hr : meth.sig.returnType = (some .int)) {kc26 : Nat → Int32 → Int32 → Int32 → Int32 → Int32 → St → Option (Int32 × St)} (hk26 : ∀ (h0 : Nat) (x1 : Int32) (x2 : Int32) (x3 : Int32) (x4 : Int32) (x5 : Int32) (t : St), Wf Γ p l e 21 450 s m args below meth c 7 (g_ι z) v_i rF tF 26 [(0, .ref h0), (1, .int x1), (2, .int x2), (3, .int x3), (4, .int x4), (5, .int x5)] [] t (kc26 h0 x1 x2 x3 x4 x5 t)) (h0 : Nat) (x1 : Int32) (x2 : Int32) (x3 : Int32) (x4 : Int32) (x5 : Int32) (t : St) : Wf Γ p l e 21 450 s m args below meth c 7 (g_ι z) v_i rF tF 99 [(0, .ref h0), (1, .int x1), (2, .int x2), (3, .int x3), (4, .int x4), (5, .int x5)] [] t (fX0_both_99 ex z kc26 h0 x1 x2 x3 x4 x5 t) := by
  unfold fX0_both_99
  refine g_iinc (pc := 99) X 1 5 (lv' := [(5, .int (x5 + 1)), (0, .ref h0), (1, .int x1), (2, .int x2), (3, .int x3), (4, .int x4)]) dX0_both_99 rfl rfl (by decide) rfl ?_
  refine g_goto (pc := 102) X 26 dX0_both_102 (by decide) ?_
  exact g_lv (pc := 26) (lv' := [(0, .ref h0), (1, .int x1), (2, .int x2), (3, .int x3), (4, .int x4), (5, .int (x5 + 1))]) [1, 2, 3, 4, 5, 0] rfl (hk26 h0 x1 x2 x3 x4 (x5 + 1) t)
noncomputable def fX0_both_36 (ex : Nat → Option Nat) (z : Nat) (kc26 : Nat → Int32 → Int32 → Int32 → Int32 → Int32 → St → Option (Int32 × St)) : Nat → Nat → Int32 → Int32 → Int32 → Int32 → Int32 → Int32 → St → Option (Int32 × St)
  | 0, _, _, _, _, _, _, _, _ => none
  | n + 1, h0, x1, x2, x3, x4, x5, x6, t => if 12 ≤ x6 then fX0_both_99 ex z kc26 h0 x1 x2 x3 x4 x5 t else if x5 < x6 then fX0_both_99 ex z kc26 h0 x1 x2 x3 x4 x5 t else if 40 < x5 - x6 then fX0_both_93 ex z kc26 (fun a0 a1 a2 a3 a4 a5 a6 a7 => fX0_both_36 ex z kc26 n a0 a1 a2 a3 a4 a5 a6 a7) h0 x1 x2 x3 x4 x5 x6 t else ccast [0] t h0 (gb (fX0_comesTo ex (z + t.2.1) h0 x1 x2 x3 (x5 - x6) x6 (t.1, 0, 0)) t fun r1 t2 => if r1 = 0 then fX0_both_93 ex z kc26 (fun a0 a1 a2 a3 a4 a5 a6 a7 => fX0_both_36 ex z kc26 n a0 a1 a2 a3 a4 a5 a6 a7) h0 x1 x2 x3 x4 x5 x6 t2 else if x4 = 0 then some (x5, t2) else some (x6, t2))
set_option maxHeartbeats 4000000 in
theorem wX0_both_36 {rF : Int32} (hex : ex = Γ.2.2.2.2) (X : g_X Γ p s m args meth c cX0_both 7 RX0) (hr : meth.sig.returnType = (some .int)) {kc26 : Nat → Int32 → Int32 → Int32 → Int32 → Int32 → St → Option (Int32 × St)} (hk26 : ∀ (h0 : Nat) (x1 : Int32) (x2 : Int32) (x3 : Int32) (x4 : Int32) (x5 : Int32) (t : St), Wf Γ p l e 21 450 s m args below meth c 7 (g_ι z) v_i rF tF 26 [(0, .ref h0), (1, .int x1), (2, .int x2), (3, .int x3), (4, .int x4), (5, .int x5)] [] t (kc26 h0 x1 x2 x3 x4 x5 t)) (n : Nat) : ∀ (h0 : Nat) (x1 : Int32) (x2 : Int32) (x3 : Int32) (x4 : Int32) (x5 : Int32) (x6 : Int32) (t : St), Wf Γ p l e 21 450 s m args below meth c 7 (g_ι z) v_i rF tF 36 [(0, .ref h0), (1, .int x1), (2, .int x2), (3, .int x3), (4, .int x4), (5, .int x5), (6, .int x6)] [] t (fX0_both_36 ex z kc26 n h0 x1 x2 x3 x4 x5 x6 t) := by
  induction n with
  | zero => intro h0 x1 x2 x3 x4 x5 x6 t; exact g_none
  | succ n ih =>
    intro h0 x1 x2 x3 x4 x5 x6 t
    rw [fX0_both_36]
    refine g_iload (pc := 36) X 6 dX0_both_36 rfl ?_
    refine g_bipush (pc := 38) X 12 dX0_both_38 rfl ?_
    refine g_icmp_ge (pc := 40) X 99 dX0_both_40 (by decide) ?_ ?_
    · exact g_lv (pc := 99) (lv' := [(0, .ref h0), (1, .int x1), (2, .int x2), (3, .int x3), (4, .int x4), (5, .int x5)]) [0, 1, 2, 3, 4, 5] rfl (wX0_both_99 hex X hr hk26 h0 x1 x2 x3 x4 x5 t)
    · refine g_iload (pc := 43) X 6 dX0_both_43 rfl ?_
      refine g_iload (pc := 45) X 5 dX0_both_45 rfl ?_
      refine g_icmp_gt (pc := 47) X 99 dX0_both_47 (by decide) ?_ ?_
      · exact g_lv (pc := 99) (lv' := [(0, .ref h0), (1, .int x1), (2, .int x2), (3, .int x3), (4, .int x4), (5, .int x5)]) [0, 1, 2, 3, 4, 5] rfl (wX0_both_99 hex X hr hk26 h0 x1 x2 x3 x4 x5 t)
      · refine g_iload (pc := 50) X 5 dX0_both_50 rfl ?_
        refine g_iload (pc := 52) X 6 dX0_both_52 rfl ?_
        refine g_isub (pc := 54) X dX0_both_54 ?_
        refine g_bipush (pc := 55) X 40 dX0_both_55 rfl ?_
        refine g_icmp_gt (pc := 57) X 93 dX0_both_57 (by decide) ?_ ?_
        · exact g_lv (pc := 93) (lv' := [(0, .ref h0), (1, .int x1), (2, .int x2), (3, .int x3), (4, .int x4), (5, .int x5), (6, .int x6)]) [0, 1, 2, 3, 4, 5, 6] rfl (wX0_both_93 hex X hr hk26 (fun a0 a1 a2 a3 a4 a5 a6 a7 => ih a0 a1 a2 a3 a4 a5 a6 a7) h0 x1 x2 x3 x4 x5 x6 t)
        · refine g_aload_n (pc := 60) X 0 dX0_both_60 rfl rfl ?_
          refine g_iload_n (pc := 61) X 1 dX0_both_61 rfl rfl ?_
          refine g_iload_n (pc := 62) X 2 dX0_both_62 rfl rfl ?_
          refine g_iload_n (pc := 63) X 3 dX0_both_63 rfl rfl ?_
          refine g_iload (pc := 64) X 5 dX0_both_64 rfl ?_
          refine g_iload (pc := 66) X 6 dX0_both_66 rfl ?_
          refine g_isub (pc := 68) X dX0_both_68 ?_
          refine g_iload (pc := 69) X 6 dX0_both_69 rfl ?_
          refine g_bD_i (pc := 71) X (cs := [0]) (As := [.int x1, .int x2, .int x3, .int (x5 - x6), .int x6]) (rest := []) (b := h0) (n := 5) dX0_both_71 rfl rfl (Nat.le_of_ble_eq_true rfl) (fun fl3 ci4 fs5 hs6 hci7 r u h => ?_) (fun r1 t2 => ?_)
          · obtain rfl := List.mem_singleton.mp hci7
            exact ⟨_, _, _, yX0_comesTo, _, _, _, 20, 425, rfl, kX0_comesTo hex h, Or.inl (cwV 5 X.2.2.2.2.1 (lw_V q887 q889 qs10 q70 q890) rfl rfl rfl dmV_X0_comesTo ⟨Nat.le_of_ble_eq_true rfl, Nat.le_of_ble_eq_true rfl⟩)⟩
          refine g_if_ne (pc := 74) X 80 dX0_both_74 (by decide) ?_ ?_
          · refine g_iload (pc := 80) X 4 dX0_both_80 rfl ?_
            refine g_if_ne (pc := 82) X 90 dX0_both_82 (by decide) ?_ ?_
            · refine g_iload (pc := 90) X 6 dX0_both_90 rfl ?_
              exact g_iret (pc := 92) X hr dX0_both_92
            · refine g_iload (pc := 85) X 5 dX0_both_85 rfl ?_
              refine g_goto (pc := 87) X 92 dX0_both_87 (by decide) ?_
              exact g_iret (pc := 92) X hr dX0_both_92
          · refine g_goto (pc := 77) X 93 dX0_both_77 (by decide) ?_
            exact g_lv (pc := 93) (lv' := [(0, .ref h0), (1, .int x1), (2, .int x2), (3, .int x3), (4, .int x4), (5, .int x5), (6, .int x6)]) [0, 1, 2, 3, 4, 5, 6] rfl (wX0_both_93 hex X hr hk26 (fun a0 a1 a2 a3 a4 a5 a6 a7 => ih a0 a1 a2 a3 a4 a5 a6 a7) h0 x1 x2 x3 x4 x5 x6 t2)
noncomputable def fX0_both_26 (ex : Nat → Option Nat) (z : Nat) : Nat → Nat → Int32 → Int32 → Int32 → Int32 → Int32 → St → Option (Int32 × St)
  | 0, _, _, _, _, _, _, _ => none
  | n + 1, h0, x1, x2, x3, x4, x5, t => if 52 ≤ x5 then some ((-4), t) else fX0_both_36 ex z (fun a0 a1 a2 a3 a4 a5 a6 => fX0_both_26 ex z n a0 a1 a2 a3 a4 a5 a6) 1000 h0 x1 x2 x3 x4 x5 0 t
set_option maxHeartbeats 4000000 in
theorem wX0_both_26 {rF : Int32} (hex : ex = Γ.2.2.2.2) (X : g_X Γ p s m args meth c cX0_both 7 RX0) (hr : meth.sig.returnType = (some .int)) (n : Nat) : ∀ (h0 : Nat) (x1 : Int32) (x2 : Int32) (x3 : Int32) (x4 : Int32) (x5 : Int32) (t : St), Wf Γ p l e 21 450 s m args below meth c 7 (g_ι z) v_i rF tF 26 [(0, .ref h0), (1, .int x1), (2, .int x2), (3, .int x3), (4, .int x4), (5, .int x5)] [] t (fX0_both_26 ex z n h0 x1 x2 x3 x4 x5 t) := by
  induction n with
  | zero => intro h0 x1 x2 x3 x4 x5 t; exact g_none
  | succ n ih =>
    intro h0 x1 x2 x3 x4 x5 t
    rw [fX0_both_26]
    refine g_iload (pc := 26) X 5 dX0_both_26 rfl ?_
    refine g_bipush (pc := 28) X 52 dX0_both_28 rfl ?_
    refine g_icmp_ge (pc := 30) X 105 dX0_both_30 (by decide) ?_ ?_
    · refine g_bipush (pc := 105) X (-4) dX0_both_105 rfl ?_
      exact g_iret (pc := 107) X hr dX0_both_107
    · refine g_iconst (pc := 33) X 0 dX0_both_33 rfl ?_
      refine g_istore (pc := 34) X (lv' := [(6, .int 0), (0, .ref h0), (1, .int x1), (2, .int x2), (3, .int x3), (4, .int x4), (5, .int x5)]) dX0_both_34 (by decide) rfl ?_
      exact g_lv (pc := 36) (lv' := [(0, .ref h0), (1, .int x1), (2, .int x2), (3, .int x3), (4, .int x4), (5, .int x5), (6, .int 0)]) [1, 2, 3, 4, 5, 6, 0] rfl (wX0_both_36 hex X hr (fun a0 a1 a2 a3 a4 a5 a6 => ih a0 a1 a2 a3 a4 a5 a6) 1000 h0 x1 x2 x3 x4 x5 0 t)
noncomputable def fX0_both (ex : Nat → Option Nat) (z : Nat) (h0 : Nat) (x1 : Int32) (x2 : Int32) (x3 : Int32) (x4 : Int32) (t : St) : Option (Int32 × St) := ccast [0] t h0 (gb (fX0_isAsked ex (z + t.2.1) h0 x1 x2 x3 (t.1, 0, 0)) t fun r1 t2 => if r1 = 0 then some ((-1), t2) else gb (fX0_in ex (z + t2.2.1) x4.toInt64 0 1 (t2.1, 0, 0)) t2 fun r8 t9 => if r8 = 0 then some ((-1), t9) else fX0_both_26 ex z 1000 h0 x1 x2 x3 x4 0 t9)
set_option maxHeartbeats 4000000 in
theorem wX0_both {rF : Int32} (hex : ex = Γ.2.2.2.2) (X : g_X Γ p s m args meth c cX0_both 7 RX0) (hr : meth.sig.returnType = (some .int)) (h0 : Nat) (x1 : Int32) (x2 : Int32) (x3 : Int32) (x4 : Int32) (t : St) : Wf Γ p l e 21 450 s m args below meth c 7 (g_ι z) v_i rF tF 0 [(0, .ref h0), (1, .int x1), (2, .int x2), (3, .int x3), (4, .int x4)] [] t (fX0_both ex z h0 x1 x2 x3 x4 t) := by
  unfold fX0_both
  refine g_aload_n (pc := 0) X 0 dX0_both_0 rfl rfl ?_
  refine g_iload_n (pc := 1) X 1 dX0_both_1 rfl rfl ?_
  refine g_iload_n (pc := 2) X 2 dX0_both_2 rfl rfl ?_
  refine g_iload_n (pc := 3) X 3 dX0_both_3 rfl rfl ?_
  refine g_bD_i (pc := 4) X (cs := [0]) (As := [.int x1, .int x2, .int x3]) (rest := []) (b := h0) (n := 3) dX0_both_4 rfl rfl (Nat.le_of_ble_eq_true rfl) (fun fl3 ci4 fs5 hs6 hci7 r u h => ?_) (fun r1 t2 => ?_)
  · obtain rfl := List.mem_singleton.mp hci7
    exact ⟨_, _, _, yX0_isAsked, _, _, _, 3, 61, rfl, kX0_isAsked hex h, Or.inl (cwV 3 X.2.2.2.2.1 (lw_V q882 q884 qs9 q70 q885) rfl rfl rfl dmV_X0_isAsked ⟨Nat.le_of_ble_eq_true rfl, Nat.le_of_ble_eq_true rfl⟩)⟩
  refine g_if_eq (pc := 7) X 21 dX0_both_7 (by decide) ?_ ?_
  · refine g_iconst (pc := 21) X (-1) dX0_both_21 rfl ?_
    exact g_iret (pc := 22) X hr dX0_both_22
  · refine g_iload (pc := 10) X 4 dX0_both_10 rfl ?_
    refine g_i2l (pc := 12) X dX0_both_12 ?_
    refine g_lconst (pc := 13) X 0 dX0_both_13 rfl ?_
    refine g_lconst (pc := 14) X 1 dX0_both_14 rfl ?_
    refine g_bS_i (pc := 15) X (y := yX0_in) (As := [.long x4.toInt64, .long 0, .long 1]) (rest := []) (fr' := 0) (lo' := 0) (fun _ => va_cwS 3 X.2.2.2.2.1 (lw_S q122 q123 q70 q124) rfl rfl rfl dmS_X0_in ⟨Nat.le_of_ble_eq_true rfl, Nat.le_of_ble_eq_true rfl⟩) dX0_both_15 rfl rfl (Nat.le_of_ble_eq_true rfl) (fun r u h => kX0_in hex h) (fun r8 t9 => ?_)
    refine g_if_ne (pc := 18) X 23 dX0_both_18 (by decide) ?_ ?_
    · refine g_iconst (pc := 23) X 0 dX0_both_23 rfl ?_
      refine g_istore (pc := 24) X (lv' := [(5, .int 0), (0, .ref h0), (1, .int x1), (2, .int x2), (3, .int x3), (4, .int x4)]) dX0_both_24 (by decide) rfl ?_
      exact g_lv (pc := 26) (lv' := [(0, .ref h0), (1, .int x1), (2, .int x2), (3, .int x3), (4, .int x4), (5, .int 0)]) [1, 2, 3, 4, 5, 0] rfl (wX0_both_26 hex X hr 1000 h0 x1 x2 x3 x4 0 t9)
    · refine g_iconst (pc := 21) X (-1) dX0_both_21 rfl ?_
      exact g_iret (pc := 22) X hr dX0_both_22
theorem kX0_both {ex : Nat → Option Nat} {z : Nat} {h0 : Nat} {x1 : Int32} {x2 : Int32} {x3 : Int32} {x4 : Int32} {σ : Sg} {r : Int32} {u : St} (hex : ex = Γ.2.2.2.2) (h : fX0_both ex z h0 x1 x2 x3 x4 (σ, 0, 0) = some (r, u)) : g_C Γ l yX0_both cX0_both 7 (some .int) 21 450 [.ref h0, .int x1, .int x2, .int x3, .int x4] σ z v_i r (g_ι z u) :=
  g_met (ι := g_ι z) (t := (σ, 0, 0)) [.ref h0, .int x1, .int x2, .int x3, .int x4] (by decide) (Nat.le_of_ble_eq_true rfl) h rfl (fun p e s m args below meth c X hr hn => wX0_both hex X hr h0 x1 x2 x3 x4 (σ, 0, 0))
end CP
