/-! the component, its methods: X0_copy (printed by gen/cmain.py) -/
set_option maxRecDepth 100000
theorem q1510 : (Jvm.Cond.codeWith ({ cls := "LameClocks", name := "copy", desc := "(IIIII)I" } : Jvm.MethodName) prog_1_method_85_code (7 : Nat) (Option.some Jvm.ClassFile.FieldType.int) [((16 : Nat), (44 : Nat), (45 : Nat), (475 : Nat)), ((16 : Nat), (44 : Nat), (50 : Nat), (500 : Nat)), ((16 : Nat), (44 : Nat), (55 : Nat), (502 : Nat))]) ∈ lw_all := lw_g (lw_at lw_m7 1 rfl) rfl
theorem q1511 : (Jvm.Cond.classLink "LameClocks" (500 : Nat) "java/lang/ArrayStoreException") ∈ lw_all := lw_g (lw_at lw_m7 2 rfl) rfl
theorem q1525 : (Jvm.Cond.classLink "LameClocks" (502 : Nat) "java/lang/IndexOutOfBoundsException") ∈ lw_all := lw_g (lw_at lw_m7 16 rfl) rfl
theorem q2173 : (Jvm.Cond.castable "java/lang/ArrayIndexOutOfBoundsException" "java/lang/IndexOutOfBoundsException") ∈ lw_tbl := lw_at lw_m9 184 rfl
abbrev cX0_copy : ByteArray := prog_1_method_85_code
def yX0_copy : MethodName := ⟨RX0, "copy", "(IIIII)I"⟩
def dkwX0_copy_2 : List UInt8 := [58, 6, 16, 245, 172, 58, 6, 16, 244, 172, 58, 6, 16, 243, 172]
abbrev dktX0_copy_2 : List UInt8 := dkwX0_copy_2 ++ []
def dkwX0_copy_1 : List UInt8 := [180, 1, 199, 28, 42, 180, 1, 191, 29, 50, 180, 1, 199, 21, 4, 21, 5, 184, 1, 104, 21, 5, 172]
abbrev dktX0_copy_1 : List UInt8 := dkwX0_copy_1 ++ dktX0_copy_2
def dkwX0_copy_0 : List UInt8 := [27, 184, 1, 185, 153, 0, 10, 29, 184, 1, 185, 154, 0, 5, 2, 172, 42, 180, 1, 191, 27, 50]
abbrev dktX0_copy_0 : List UInt8 := dkwX0_copy_0 ++ dktX0_copy_1
theorem dksX0_copy_0 : cX0_copy.data.toList.drop 0 = dktX0_copy_0 := by decide +kernel
theorem dksX0_copy_1 : cX0_copy.data.toList.drop 22 = dktX0_copy_1 := dk_seg dksX0_copy_0 22 rfl rfl
theorem dksX0_copy_2 : cX0_copy.data.toList.drop 45 = dktX0_copy_2 := dk_seg dksX0_copy_1 23 rfl rfl
theorem dX0_copy_0 : decode cX0_copy 0 = .ok (.iload_n 1, 1) := dk_27 (dk_at dksX0_copy_0 0 rfl rfl)
theorem dX0_copy_1 : decode cX0_copy 1 = .ok (.invokestatic 441, 3) := dk_184 1 185 (dk_at dksX0_copy_0 1 rfl rfl)
theorem dX0_copy_4 : decode cX0_copy 4 = .ok (.ifCond .eq 10, 3) := dk_153 0 10 (dk_at dksX0_copy_0 4 rfl rfl)
theorem dX0_copy_7 : decode cX0_copy 7 = .ok (.iload_n 3, 1) := dk_29 (dk_at dksX0_copy_0 7 rfl rfl)
theorem dX0_copy_8 : decode cX0_copy 8 = .ok (.invokestatic 441, 3) := dk_184 1 185 (dk_at dksX0_copy_0 8 rfl rfl)
theorem dX0_copy_11 : decode cX0_copy 11 = .ok (.ifCond .ne 5, 3) := dk_154 0 5 (dk_at dksX0_copy_0 11 rfl rfl)
theorem dX0_copy_14 : decode cX0_copy 14 = .ok (.iconst (-1), 1) := dk_2 (dk_at dksX0_copy_0 14 rfl rfl)
theorem dX0_copy_15 : decode cX0_copy 15 = .ok (.ireturn, 1) := dk_172 (dk_at dksX0_copy_0 15 rfl rfl)
theorem dX0_copy_16 : decode cX0_copy 16 = .ok (.aload_n 0, 1) := dk_42 (dk_at dksX0_copy_0 16 rfl rfl)
theorem dX0_copy_17 : decode cX0_copy 17 = .ok (.getfield 447, 3) := dk_180 1 191 (dk_at dksX0_copy_0 17 rfl rfl)
theorem dX0_copy_20 : decode cX0_copy 20 = .ok (.iload_n 1, 1) := dk_27 (dk_at dksX0_copy_0 20 rfl rfl)
theorem dX0_copy_21 : decode cX0_copy 21 = .ok (.aaload, 1) := dk_50 (dk_at dksX0_copy_0 21 rfl rfl)
theorem dX0_copy_22 : decode cX0_copy 22 = .ok (.getfield 455, 3) := dk_180 1 199 (dk_at dksX0_copy_1 0 rfl rfl)
theorem dX0_copy_25 : decode cX0_copy 25 = .ok (.iload_n 2, 1) := dk_28 (dk_at dksX0_copy_1 3 rfl rfl)
theorem dX0_copy_26 : decode cX0_copy 26 = .ok (.aload_n 0, 1) := dk_42 (dk_at dksX0_copy_1 4 rfl rfl)
theorem dX0_copy_27 : decode cX0_copy 27 = .ok (.getfield 447, 3) := dk_180 1 191 (dk_at dksX0_copy_1 5 rfl rfl)
theorem dX0_copy_30 : decode cX0_copy 30 = .ok (.iload_n 3, 1) := dk_29 (dk_at dksX0_copy_1 8 rfl rfl)
theorem dX0_copy_31 : decode cX0_copy 31 = .ok (.aaload, 1) := dk_50 (dk_at dksX0_copy_1 9 rfl rfl)
theorem dX0_copy_32 : decode cX0_copy 32 = .ok (.getfield 455, 3) := dk_180 1 199 (dk_at dksX0_copy_1 10 rfl rfl)
theorem dX0_copy_35 : decode cX0_copy 35 = .ok (.iload 4, 2) := dk_21 4 (dk_at dksX0_copy_1 13 rfl rfl)
theorem dX0_copy_37 : decode cX0_copy 37 = .ok (.iload 5, 2) := dk_21 5 (dk_at dksX0_copy_1 15 rfl rfl)
theorem dX0_copy_39 : decode cX0_copy 39 = .ok (.invokestatic 360, 3) := dk_184 1 104 (dk_at dksX0_copy_1 17 rfl rfl)
theorem dX0_copy_42 : decode cX0_copy 42 = .ok (.iload 5, 2) := dk_21 5 (dk_at dksX0_copy_1 20 rfl rfl)
theorem dX0_copy_44 : decode cX0_copy 44 = .ok (.ireturn, 1) := dk_172 (dk_at dksX0_copy_1 22 rfl rfl)
theorem dX0_copy_45 : decode cX0_copy 45 = .ok (.astore 6, 2) := dk_58 6 (dk_at dksX0_copy_2 0 rfl rfl)
theorem dX0_copy_47 : decode cX0_copy 47 = .ok (.bipush (-11), 2) := dk_16 245 (dk_at dksX0_copy_2 2 rfl rfl)
theorem dX0_copy_49 : decode cX0_copy 49 = .ok (.ireturn, 1) := dk_172 (dk_at dksX0_copy_2 4 rfl rfl)
theorem dX0_copy_50 : decode cX0_copy 50 = .ok (.astore 6, 2) := dk_58 6 (dk_at dksX0_copy_2 5 rfl rfl)
theorem dX0_copy_52 : decode cX0_copy 52 = .ok (.bipush (-12), 2) := dk_16 244 (dk_at dksX0_copy_2 7 rfl rfl)
theorem dX0_copy_54 : decode cX0_copy 54 = .ok (.ireturn, 1) := dk_172 (dk_at dksX0_copy_2 9 rfl rfl)
theorem dX0_copy_55 : decode cX0_copy 55 = .ok (.astore 6, 2) := dk_58 6 (dk_at dksX0_copy_2 10 rfl rfl)
theorem dX0_copy_57 : decode cX0_copy 57 = .ok (.bipush (-13), 2) := dk_16 243 (dk_at dksX0_copy_2 12 rfl rfl)
theorem dX0_copy_59 : decode cX0_copy 59 = .ok (.ireturn, 1) := dk_172 (dk_at dksX0_copy_2 14 rfl rfl)
theorem nc_J21_J16 : Cond.not (.castable "java/lang/ArrayStoreException" "java/lang/NullPointerException") ∈ flatC (Jvm.Cond.and given_1 narrow_1) := by decide +kernel
theorem nc_J19_J21 : Cond.not (.castable "java/lang/ArrayIndexOutOfBoundsException" "java/lang/ArrayStoreException") ∈ flatC (Jvm.Cond.and given_1 narrow_1) := by decide +kernel
section CP
variable {Γ : Gc} {p : Program} {l : Launch} {e : Env} {s : State} {m : MethodId} {args : Array Value} {below : List Frame} {meth : Method} {c : Code} {ex : Nat → Option Nat} {z : Nat} {tF : St}
noncomputable def fX0_copy_45 (ex : Nat → Option Nat) (z : Nat) (s0 : Nat) (t : St) : Option (Int32 × St) := some ((-11), t)
set_option maxHeartbeats 4000000 in
theorem wX0_copy_45 {rF : Int32} (hex : ex = Γ.2.2.2.2) (hl : l.stackTraces = false) (X : g_X Γ p s m args meth c cX0_copy 7 RX0) (hr : meth.sig.returnType = (some .int)) (ht : g_T meth [(16, 44, 45, 475), (16, 44, 50, 500), (16, 44, 55, 502)]) (s0 : Nat) (t : St) : Wf Γ p l e 9 10260 s m args below meth c 7 (g_ι z) v_i rF tF 45 [] [.ref s0] t (fX0_copy_45 ex z s0 t) := by
  unfold fX0_copy_45
  refine g_astore (pc := 45) X (lv' := [(6, .ref s0)]) dX0_copy_45 (by decide) rfl ?_
  refine g_bipush (pc := 47) X (-11) dX0_copy_47 rfl ?_
  exact g_iret (pc := 49) X hr dX0_copy_49
noncomputable def fX0_copy_50 (ex : Nat → Option Nat) (z : Nat) (s0 : Nat) (t : St) : Option (Int32 × St) := some ((-12), t)
set_option maxHeartbeats 4000000 in
theorem wX0_copy_50 {rF : Int32} (hex : ex = Γ.2.2.2.2) (hl : l.stackTraces = false) (X : g_X Γ p s m args meth c cX0_copy 7 RX0) (hr : meth.sig.returnType = (some .int)) (ht : g_T meth [(16, 44, 45, 475), (16, 44, 50, 500), (16, 44, 55, 502)]) (s0 : Nat) (t : St) : Wf Γ p l e 9 10260 s m args below meth c 7 (g_ι z) v_i rF tF 50 [] [.ref s0] t (fX0_copy_50 ex z s0 t) := by
  unfold fX0_copy_50
  refine g_astore (pc := 50) X (lv' := [(6, .ref s0)]) dX0_copy_50 (by decide) rfl ?_
  refine g_bipush (pc := 52) X (-12) dX0_copy_52 rfl ?_
  exact g_iret (pc := 54) X hr dX0_copy_54
noncomputable def fX0_copy_55 (ex : Nat → Option Nat) (z : Nat) (s0 : Nat) (t : St) : Option (Int32 × St) := some ((-13), t)
set_option maxHeartbeats 4000000 in
theorem wX0_copy_55 {rF : Int32} (hex : ex = Γ.2.2.2.2) (hl : l.stackTraces = false) (X : g_X Γ p s m args meth c cX0_copy 7 RX0) (hr : meth.sig.returnType = (some .int)) (ht : g_T meth [(16, 44, 45, 475), (16, 44, 50, 500), (16, 44, 55, 502)]) (s0 : Nat) (t : St) : Wf Γ p l e 9 10260 s m args below meth c 7 (g_ι z) v_i rF tF 55 [] [.ref s0] t (fX0_copy_55 ex z s0 t) := by
  unfold fX0_copy_55
  refine g_astore (pc := 55) X (lv' := [(6, .ref s0)]) dX0_copy_55 (by decide) rfl ?_
  refine g_bipush (pc := 57) X (-13) dX0_copy_57 rfl ?_
  exact g_iret (pc := 59) X hr dX0_copy_59
noncomputable def fX0_copy (ex : Nat → Option Nat) (z : Nat) (h0 : Nat) (x1 : Int32) (x2 : Int32) (x3 : Int32) (x4 : Int32) (x5 : Int32) (t : St) : Option (Int32 × St) := gb (fX0_isSheet ex (z + t.2.1) x1 (t.1, 0, 0)) t fun r1 t2 => if r1 = 0 then some ((-1), t2) else gb (fX0_isSheet ex (z + t2.2.1) x3 (t2.1, 0, 0)) t2 fun r3 t4 => if r3 = 0 then some ((-1), t4) else cgA [0] 17 t4 h0 fun v5 => caldA 5 t4 v5 x1 fun v6 => cgQ [2] 0 t4 v6 fun v7 => cgA [0] 17 t4 h0 fun v8 => caldA 5 t4 v8 x3 fun v9 => cgQ [2] 0 t4 v9 fun v10 => ccopyT t4 v7 x2 v10 x4 x5 (fX0_copy_45 ex z (z + t4.2.1) (xNew z 0 27 t4)) (fX0_copy_50 ex z (z + t4.2.1 + 2) (xNew z 2 31 t4)) (fX0_copy_55 ex z (z + t4.2.1 + 2) (xNew z 2 29 t4)) fun t11 => some (x5, t11)
set_option maxHeartbeats 4000000 in
theorem wX0_copy {rF : Int32} (hex : ex = Γ.2.2.2.2) (hl : l.stackTraces = false) (X : g_X Γ p s m args meth c cX0_copy 7 RX0) (hr : meth.sig.returnType = (some .int)) (ht : g_T meth [(16, 44, 45, 475), (16, 44, 50, 500), (16, 44, 55, 502)]) (h0 : Nat) (x1 : Int32) (x2 : Int32) (x3 : Int32) (x4 : Int32) (x5 : Int32) (t : St) : Wf Γ p l e 9 10260 s m args below meth c 7 (g_ι z) v_i rF tF 0 [(0, .ref h0), (1, .int x1), (2, .int x2), (3, .int x3), (4, .int x4), (5, .int x5)] [] t (fX0_copy ex z h0 x1 x2 x3 x4 x5 t) := by
  unfold fX0_copy
  refine g_iload_n (pc := 0) X 1 dX0_copy_0 rfl rfl ?_
  refine g_bS_i (pc := 1) X (y := yX0_isSheet) (As := [.int x1]) (rest := []) (fr' := 1) (lo' := 25) (fun _ => va_cwS 1 X.2.2.2.2.1 (lw_S q1381 q1382 q70 q1383) rfl rfl rfl dmS_X0_isSheet ⟨Nat.le_of_ble_eq_true rfl, Nat.le_of_ble_eq_true rfl⟩) dX0_copy_1 rfl rfl (Nat.le_of_ble_eq_true rfl) (fun r u h => kX0_isSheet hex h) (fun r1 t2 => ?_)
  refine g_if_eq (pc := 4) X 14 dX0_copy_4 (by decide) ?_ ?_
  · refine g_iconst (pc := 14) X (-1) dX0_copy_14 rfl ?_
    exact g_iret (pc := 15) X hr dX0_copy_15
  · refine g_iload_n (pc := 7) X 3 dX0_copy_7 rfl rfl ?_
    refine g_bS_i (pc := 8) X (y := yX0_isSheet) (As := [.int x3]) (rest := []) (fr' := 1) (lo' := 25) (fun _ => va_cwS 1 X.2.2.2.2.1 (lw_S q1381 q1382 q70 q1383) rfl rfl rfl dmS_X0_isSheet ⟨Nat.le_of_ble_eq_true rfl, Nat.le_of_ble_eq_true rfl⟩) dX0_copy_8 rfl rfl (Nat.le_of_ble_eq_true rfl) (fun r u h => kX0_isSheet hex h) (fun r3 t4 => ?_)
    refine g_if_ne (pc := 11) X 16 dX0_copy_11 (by decide) ?_ ?_
    · refine g_aload_n (pc := 16) X 0 dX0_copy_16 rfl rfl ?_
      refine cg_getA (pc := 17) X fo_X0_447 dX0_copy_17 (fun v5 => ?_)
      refine g_iload_n (pc := 20) X 1 dX0_copy_20 rfl rfl ?_
      refine cg_aald (pc := 21) X (j := 5) rfl rfl dX0_copy_21 (fun v6 => ?_)
      refine cg_getQ (pc := 22) X fo_X0_455 dX0_copy_22 (fun v7 => ?_)
      refine g_iload_n (pc := 25) X 2 dX0_copy_25 rfl rfl ?_
      refine g_aload_n (pc := 26) X 0 dX0_copy_26 rfl rfl ?_
      refine cg_getA (pc := 27) X fo_X0_447 dX0_copy_27 (fun v8 => ?_)
      refine g_iload_n (pc := 30) X 3 dX0_copy_30 rfl rfl ?_
      refine cg_aald (pc := 31) X (j := 5) rfl rfl dX0_copy_31 (fun v9 => ?_)
      refine cg_getQ (pc := 32) X fo_X0_455 dX0_copy_32 (fun v10 => ?_)
      refine g_iload (pc := 35) X 4 dX0_copy_35 rfl ?_
      refine g_iload (pc := 37) X 5 dX0_copy_37 rfl ?_
      refine cx_copy (pc := 39) X hl dX0_copy_39 q1217 q328 q327 q86 (Nat.le_of_ble_eq_true rfl) (Nat.le_of_ble_eq_true rfl) (x_catch X ht (g_u_self _ _ _) rfl 45 (x_ev.take rfl (by decide) q1412 q1434) (g_lv (pc := 45) (lv' := []) [] rfl (wX0_copy_45 hex hl X hr ht (z + t4.2.1) (xNew z 0 27 t4)))) (x_catch X ht (g_u_self _ _ _) rfl 50 (x_ev.pass rfl (by decide) q1412 nc_J21_J16 (x_ev.take rfl (by decide) q1511 q1523)) (g_lv (pc := 50) (lv' := []) [] rfl (wX0_copy_50 hex hl X hr ht (z + t4.2.1 + 2) (xNew z 2 31 t4)))) (x_catch X ht (g_u_self _ _ _) rfl 55 (x_ev.pass rfl (by decide) q1412 nc_J19_J16 (x_ev.pass rfl (by decide) q1511 nc_J19_J21 (x_ev.take rfl (by decide) q1525 q2173))) (g_lv (pc := 55) (lv' := []) [] rfl (wX0_copy_55 hex hl X hr ht (z + t4.2.1 + 2) (xNew z 2 29 t4)))) (fun t11 => ?_)
      refine g_iload (pc := 42) X 5 dX0_copy_42 rfl ?_
      exact g_iret (pc := 44) X hr dX0_copy_44
    · refine g_iconst (pc := 14) X (-1) dX0_copy_14 rfl ?_
      exact g_iret (pc := 15) X hr dX0_copy_15
theorem kX0_copy {ex : Nat → Option Nat} {z : Nat} {h0 : Nat} {x1 : Int32} {x2 : Int32} {x3 : Int32} {x4 : Int32} {x5 : Int32} {σ : Sg} {r : Int32} {u : St} (hex : ex = Γ.2.2.2.2) (hl : l.stackTraces = false) (h : fX0_copy ex z h0 x1 x2 x3 x4 x5 (σ, 0, 0) = some (r, u)) : g_CT Γ l yX0_copy cX0_copy 7 (some .int) [(16, 44, 45, 475), (16, 44, 50, 500), (16, 44, 55, 502)] 9 10260 [.ref h0, .int x1, .int x2, .int x3, .int x4, .int x5] σ z v_i r (g_ι z u) := by
  exact g_metT (ι := g_ι z) (t := (σ, 0, 0)) [.ref h0, .int x1, .int x2, .int x3, .int x4, .int x5] (Nat.le_of_ble_eq_true rfl) h rfl (fun p e s m args below meth c X hr hn ht => wX0_copy hex hl X hr ht h0 x1 x2 x3 x4 x5 (σ, 0, 0))
end CP
