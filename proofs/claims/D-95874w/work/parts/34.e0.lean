/-! the component, its methods: (virtual), X7_shown, X8_shown, X3_init, (virtual), X4_strikes, X4_goes, X4_strokes, X7_goes, X9_goes, (virtual), X0_told (printed by gen/cmain.py) -/
set_option maxRecDepth 100000
theorem q151 : (Jvm.Cond.fieldLink "LameClocks$Twin" (11 : Nat) "LameClocks$Twin" "number" "I") ∈ lw_all := lw_g (lw_at lw_m1 82 rfl) rfl
theorem q152 : (Jvm.Cond.sameField "LameClocks$Twin" "LameClocks$Plain" "number" "I") ∈ lw_all := lw_g (lw_at lw_m1 83 rfl) rfl
theorem q170 : (Jvm.Cond.fieldLink "LameClocks" (119 : Nat) "LameClocks$Plain" "finish" "I") ∈ lw_all := lw_g (lw_at lw_m1 101 rfl) rfl
theorem q367 : (Jvm.Cond.code ({ cls := "LameClocks", name := "told", desc := "(II)I" } : Jvm.MethodName) prog_1_method_9_code (4 : Nat) (Option.some Jvm.ClassFile.FieldType.int)) ∈ lw_all := lw_g (lw_at lw_m2 58 rfl) rfl
theorem q379 : (Jvm.Cond.methodLink "LameClocks" (113 : Nat) ({ cls := "LameClocks$Plain", name := "kind", desc := "()I" } : Jvm.MethodName)) ∈ lw_all := lw_g (lw_at lw_m2 70 rfl) rfl
theorem q404 : (Jvm.Cond.methodLink "LameClocks" (122 : Nat) ({ cls := "LameClocks$Plain", name := "shown", desc := "(LLameClocks$Street;)I" } : Jvm.MethodName)) ∈ lw_all := lw_g (lw_at lw_m2 95 rfl) rfl
theorem q405 : (Jvm.Cond.instanceMethod ({ cls := "LameClocks$Plain", name := "shown", desc := "(LLameClocks$Street;)I" } : Jvm.MethodName)) ∈ lw_all := lw_g (lw_at lw_m2 96 rfl) rfl
theorem q406 : (Jvm.Cond.selects "LameClocks$Plain" ({ cls := "LameClocks$Plain", name := "shown", desc := "(LLameClocks$Street;)I" } : Jvm.MethodName) ({ cls := "LameClocks$Plain", name := "shown", desc := "(LLameClocks$Street;)I" } : Jvm.MethodName)) ∈ lw_all := lw_g (lw_at lw_m2 97 rfl) rfl
theorem q407 : (Jvm.Cond.sameMethod "LameClocks$Plain" "LameClocks$Plain" "shown" "(LLameClocks$Street;)I") ∈ lw_all := lw_g (lw_at lw_m2 98 rfl) rfl
theorem q408 : (Jvm.Cond.selects "LameClocks$Cuckoo" ({ cls := "LameClocks$Plain", name := "shown", desc := "(LLameClocks$Street;)I" } : Jvm.MethodName) ({ cls := "LameClocks$Plain", name := "shown", desc := "(LLameClocks$Street;)I" } : Jvm.MethodName)) ∈ lw_all := lw_g (lw_at lw_m2 99 rfl) rfl
theorem q409 : (Jvm.Cond.selects "LameClocks$Mayor" ({ cls := "LameClocks$Plain", name := "shown", desc := "(LLameClocks$Street;)I" } : Jvm.MethodName) ({ cls := "LameClocks$Plain", name := "shown", desc := "(LLameClocks$Street;)I" } : Jvm.MethodName)) ∈ lw_all := lw_g (lw_at lw_m2 100 rfl) rfl
theorem q410 : (Jvm.Cond.selects "LameClocks$Stopped" ({ cls := "LameClocks$Plain", name := "shown", desc := "(LLameClocks$Street;)I" } : Jvm.MethodName) ({ cls := "LameClocks$Plain", name := "shown", desc := "(LLameClocks$Street;)I" } : Jvm.MethodName)) ∈ lw_all := lw_g (lw_at lw_m2 101 rfl) rfl
theorem q411 : (Jvm.Cond.selects "LameClocks$Sundial" ({ cls := "LameClocks$Plain", name := "shown", desc := "(LLameClocks$Street;)I" } : Jvm.MethodName) ({ cls := "LameClocks$Sundial", name := "shown", desc := "(LLameClocks$Street;)I" } : Jvm.MethodName)) ∈ lw_all := lw_g (lw_at lw_m2 102 rfl) rfl
theorem q412 : (Jvm.Cond.instanceMethod ({ cls := "LameClocks$Sundial", name := "shown", desc := "(LLameClocks$Street;)I" } : Jvm.MethodName)) ∈ lw_all := lw_g (lw_at lw_m2 103 rfl) rfl
theorem q413 : (Jvm.Cond.code ({ cls := "LameClocks$Sundial", name := "shown", desc := "(LLameClocks$Street;)I" } : Jvm.MethodName) prog_16_method_3_code (2 : Nat) (Option.some Jvm.ClassFile.FieldType.int)) ∈ lw_all := lw_g (lw_at lw_m2 104 rfl) rfl
theorem q415 : (Jvm.Cond.methodLink "LameClocks$Sundial" (13 : Nat) ({ cls := "LameClocks$Street", name := "truth", desc := "()I" } : Jvm.MethodName)) ∈ lw_all := lw_g (lw_at lw_m2 106 rfl) rfl
theorem q416 : (Jvm.Cond.interfaceMethod "LameClocks$Street" "LameClocks$Street" "truth" "()I") ∈ lw_tbl := lw_at lw_m2 107 rfl
theorem q417 : (Jvm.Cond.declares ({ cls := "LameClocks$Street", name := "truth", desc := "()I" } : Jvm.MethodName)) ∈ lw_tbl := lw_at lw_m2 108 rfl
theorem q419 : (Jvm.Cond.unhidden "LameClocks$Race" "truth" "()I") ∈ lw_tbl := lw_at lw_m2 110 rfl
theorem q420 : (Jvm.Cond.instanceMethod ({ cls := "LameClocks$Street", name := "truth", desc := "()I" } : Jvm.MethodName)) ∈ lw_all := lw_g (lw_at lw_m2 111 rfl) rfl
theorem q421 : (Jvm.Cond.publicMethod ({ cls := "LameClocks$Street", name := "truth", desc := "()I" } : Jvm.MethodName)) ∈ lw_tbl := lw_at lw_m2 112 rfl
theorem q432 : (Jvm.Cond.selects "LameClocks$Twin" ({ cls := "LameClocks$Plain", name := "shown", desc := "(LLameClocks$Street;)I" } : Jvm.MethodName) ({ cls := "LameClocks$Twin", name := "shown", desc := "(LLameClocks$Street;)I" } : Jvm.MethodName)) ∈ lw_all := lw_g (lw_at lw_m2 123 rfl) rfl
theorem q433 : (Jvm.Cond.instanceMethod ({ cls := "LameClocks$Twin", name := "shown", desc := "(LLameClocks$Street;)I" } : Jvm.MethodName)) ∈ lw_all := lw_g (lw_at lw_m2 124 rfl) rfl
theorem q434 : (Jvm.Cond.code ({ cls := "LameClocks$Twin", name := "shown", desc := "(LLameClocks$Street;)I" } : Jvm.MethodName) prog_20_method_3_code (2 : Nat) (Option.some Jvm.ClassFile.FieldType.int)) ∈ lw_all := lw_g (lw_at lw_m2 125 rfl) rfl
theorem q435 : (Jvm.Cond.methodLink "LameClocks$Twin" (17 : Nat) ({ cls := "LameClocks$Plain", name := "shown", desc := "(LLameClocks$Street;)I" } : Jvm.MethodName)) ∈ lw_all := lw_g (lw_at lw_m2 126 rfl) rfl
theorem q437 : (Jvm.Cond.methodLink "LameClocks$Twin" (21 : Nat) ({ cls := "LameClocks$Street", name := "clock", desc := "(I)LLameClocks$Plain;" } : Jvm.MethodName)) ∈ lw_all := lw_g (lw_at lw_m2 128 rfl) rfl
theorem q438 : (Jvm.Cond.interfaceMethod "LameClocks$Street" "LameClocks$Street" "clock" "(I)LLameClocks$Plain;") ∈ lw_tbl := lw_at lw_m2 129 rfl
theorem q439 : (Jvm.Cond.declares ({ cls := "LameClocks$Street", name := "clock", desc := "(I)LLameClocks$Plain;" } : Jvm.MethodName)) ∈ lw_tbl := lw_at lw_m2 130 rfl
theorem q440 : (Jvm.Cond.selects "LameClocks$Race" ({ cls := "LameClocks$Street", name := "clock", desc := "(I)LLameClocks$Plain;" } : Jvm.MethodName) ({ cls := "LameClocks$Race", name := "clock", desc := "(I)LLameClocks$Plain;" } : Jvm.MethodName)) ∈ lw_all := lw_g (lw_at lw_m2 131 rfl) rfl
theorem q441 : (Jvm.Cond.unhidden "LameClocks$Race" "clock" "(I)LLameClocks$Plain;") ∈ lw_tbl := lw_at lw_m2 132 rfl
theorem q442 : (Jvm.Cond.publicMethod ({ cls := "LameClocks$Race", name := "clock", desc := "(I)LLameClocks$Plain;" } : Jvm.MethodName)) ∈ lw_tbl := lw_at lw_m2 133 rfl
theorem q444 : (Jvm.Cond.methodLink "LameClocks" (126 : Nat) ({ cls := "LameClocks$Plain", name := "strikes", desc := "(LLameClocks$Street;)I" } : Jvm.MethodName)) ∈ lw_all := lw_g (lw_at lw_m2 135 rfl) rfl
theorem q445 : (Jvm.Cond.instanceMethod ({ cls := "LameClocks$Plain", name := "strikes", desc := "(LLameClocks$Street;)I" } : Jvm.MethodName)) ∈ lw_all := lw_g (lw_at lw_m2 136 rfl) rfl
theorem q446 : (Jvm.Cond.selects "LameClocks$Plain" ({ cls := "LameClocks$Plain", name := "strikes", desc := "(LLameClocks$Street;)I" } : Jvm.MethodName) ({ cls := "LameClocks$Plain", name := "strikes", desc := "(LLameClocks$Street;)I" } : Jvm.MethodName)) ∈ lw_all := lw_g (lw_at lw_m2 137 rfl) rfl
theorem q447 : (Jvm.Cond.sameMethod "LameClocks$Plain" "LameClocks$Plain" "strikes" "(LLameClocks$Street;)I") ∈ lw_all := lw_g (lw_at lw_m2 138 rfl) rfl
theorem q448 : (Jvm.Cond.selects "LameClocks$Cuckoo" ({ cls := "LameClocks$Plain", name := "strikes", desc := "(LLameClocks$Street;)I" } : Jvm.MethodName) ({ cls := "LameClocks$Plain", name := "strikes", desc := "(LLameClocks$Street;)I" } : Jvm.MethodName)) ∈ lw_all := lw_g (lw_at lw_m2 139 rfl) rfl
theorem q449 : (Jvm.Cond.selects "LameClocks$Mayor" ({ cls := "LameClocks$Plain", name := "strikes", desc := "(LLameClocks$Street;)I" } : Jvm.MethodName) ({ cls := "LameClocks$Plain", name := "strikes", desc := "(LLameClocks$Street;)I" } : Jvm.MethodName)) ∈ lw_all := lw_g (lw_at lw_m2 140 rfl) rfl
theorem q450 : (Jvm.Cond.selects "LameClocks$Stopped" ({ cls := "LameClocks$Plain", name := "strikes", desc := "(LLameClocks$Street;)I" } : Jvm.MethodName) ({ cls := "LameClocks$Plain", name := "strikes", desc := "(LLameClocks$Street;)I" } : Jvm.MethodName)) ∈ lw_all := lw_g (lw_at lw_m2 141 rfl) rfl
theorem q451 : (Jvm.Cond.selects "LameClocks$Sundial" ({ cls := "LameClocks$Plain", name := "strikes", desc := "(LLameClocks$Street;)I" } : Jvm.MethodName) ({ cls := "LameClocks$Plain", name := "strikes", desc := "(LLameClocks$Street;)I" } : Jvm.MethodName)) ∈ lw_all := lw_g (lw_at lw_m2 142 rfl) rfl
theorem q452 : (Jvm.Cond.selects "LameClocks$Twin" ({ cls := "LameClocks$Plain", name := "strikes", desc := "(LLameClocks$Street;)I" } : Jvm.MethodName) ({ cls := "LameClocks$Plain", name := "strikes", desc := "(LLameClocks$Street;)I" } : Jvm.MethodName)) ∈ lw_all := lw_g (lw_at lw_m2 143 rfl) rfl
theorem q453 : (Jvm.Cond.code ({ cls := "LameClocks$Plain", name := "strikes", desc := "(LLameClocks$Street;)I" } : Jvm.MethodName) prog_11_method_4_code (2 : Nat) (Option.some Jvm.ClassFile.FieldType.int)) ∈ lw_all := lw_g (lw_at lw_m2 144 rfl) rfl
theorem q454 : (Jvm.Cond.methodLink "LameClocks$Plain" (18 : Nat) ({ cls := "LameClocks$Plain", name := "shown", desc := "(LLameClocks$Street;)I" } : Jvm.MethodName)) ∈ lw_all := lw_g (lw_at lw_m2 145 rfl) rfl
theorem q539 : (Jvm.Cond.instanceMethod ({ cls := "LameClocks$Plain", name := "goes", desc := "(LLameClocks$Street;)Z" } : Jvm.MethodName)) ∈ lw_all := lw_g (lw_at lw_m2 230 rfl) rfl
theorem q541 : (Jvm.Cond.sameMethod "LameClocks$Plain" "LameClocks$Plain" "goes" "(LLameClocks$Street;)Z") ∈ lw_all := lw_g (lw_at lw_m2 232 rfl) rfl
theorem q545 : (Jvm.Cond.code ({ cls := "LameClocks$Mayor", name := "goes", desc := "(LLameClocks$Street;)Z" } : Jvm.MethodName) prog_9_method_3_code (2 : Nat) (Option.some Jvm.ClassFile.FieldType.boolean)) ∈ lw_all := lw_g (lw_at lw_m2 236 rfl) rfl
theorem q547 : (Jvm.Cond.methodLink "LameClocks$Mayor" (13 : Nat) ({ cls := "LameClocks$Street", name := "hour", desc := "()I" } : Jvm.MethodName)) ∈ lw_all := lw_g (lw_at lw_m2 238 rfl) rfl
theorem q548 : (Jvm.Cond.methodLink "LameClocks$Mayor" (18 : Nat) ({ cls := "LameClocks$Plain", name := "goes", desc := "(LLameClocks$Street;)Z" } : Jvm.MethodName)) ∈ lw_all := lw_g (lw_at lw_m2 239 rfl) rfl
theorem q552 : (Jvm.Cond.code ({ cls := "LameClocks$Sundial", name := "goes", desc := "(LLameClocks$Street;)Z" } : Jvm.MethodName) prog_16_method_4_code (2 : Nat) (Option.some Jvm.ClassFile.FieldType.boolean)) ∈ lw_all := lw_g (lw_at lw_m3 3 rfl) rfl
theorem q554 : (Jvm.Cond.methodLink "LameClocks$Sundial" (18 : Nat) ({ cls := "LameClocks$Street", name := "sky", desc := "()I" } : Jvm.MethodName)) ∈ lw_all := lw_g (lw_at lw_m3 5 rfl) rfl
theorem q562 : (Jvm.Cond.methodLink "LameClocks$Sundial" (21 : Nat) ({ cls := "LameClocks$Stopped", name := "goes", desc := "(LLameClocks$Street;)Z" } : Jvm.MethodName)) ∈ lw_all := lw_g (lw_at lw_m3 13 rfl) rfl
theorem q563 : (Jvm.Cond.sameMethod "LameClocks$Stopped" "LameClocks$Plain" "goes" "(LLameClocks$Street;)Z") ∈ lw_all := lw_g (lw_at lw_m3 14 rfl) rfl
theorem q566 : (Jvm.Cond.code ({ cls := "LameClocks$Plain", name := "goes", desc := "(LLameClocks$Street;)Z" } : Jvm.MethodName) prog_11_method_6_code (3 : Nat) (Option.some Jvm.ClassFile.FieldType.boolean)) ∈ lw_all := lw_g (lw_at lw_m3 17 rfl) rfl
theorem q568 : (Jvm.Cond.methodLink "LameClocks$Plain" (28 : Nat) ({ cls := "LameClocks$Street", name := "dial", desc := "(I)I" } : Jvm.MethodName)) ∈ lw_all := lw_g (lw_at lw_m3 19 rfl) rfl
theorem q569 : (Jvm.Cond.interfaceMethod "LameClocks$Street" "LameClocks$Street" "dial" "(I)I") ∈ lw_tbl := lw_at lw_m3 20 rfl
theorem q570 : (Jvm.Cond.declares ({ cls := "LameClocks$Street", name := "dial", desc := "(I)I" } : Jvm.MethodName)) ∈ lw_tbl := lw_at lw_m3 21 rfl
theorem q571 : (Jvm.Cond.selects "LameClocks$Race" ({ cls := "LameClocks$Street", name := "dial", desc := "(I)I" } : Jvm.MethodName) ({ cls := "LameClocks$Race", name := "dial", desc := "(I)I" } : Jvm.MethodName)) ∈ lw_all := lw_g (lw_at lw_m3 22 rfl) rfl
theorem q572 : (Jvm.Cond.unhidden "LameClocks$Race" "dial" "(I)I") ∈ lw_tbl := lw_at lw_m3 23 rfl
theorem q573 : (Jvm.Cond.publicMethod ({ cls := "LameClocks$Race", name := "dial", desc := "(I)I" } : Jvm.MethodName)) ∈ lw_tbl := lw_at lw_m3 24 rfl
theorem q574 : (Jvm.Cond.methodLink "LameClocks$Plain" (22 : Nat) ({ cls := "LameClocks$Plain", name := "strikes", desc := "(LLameClocks$Street;)I" } : Jvm.MethodName)) ∈ lw_all := lw_g (lw_at lw_m3 25 rfl) rfl
theorem q621 : (Jvm.Cond.code ({ cls := "LameClocks$Plain", name := "strokes", desc := "(LLameClocks$Street;)I" } : Jvm.MethodName) prog_11_method_5_code (2 : Nat) (Option.some Jvm.ClassFile.FieldType.int)) ∈ lw_all := lw_g (lw_at lw_m3 72 rfl) rfl
theorem q1678 : (Jvm.Cond.code ({ cls := "LameClocksModel", name := "<init>", desc := "()V" } : Jvm.MethodName) prog_24_method_1_code (2 : Nat) (Option.none : Option Jvm.ClassFile.FieldType)) ∈ lw_all := lw_g (lw_at lw_m7 169 rfl) rfl
theorem q1679 : (Jvm.Cond.methodLink "LameClocksModel" (1 : Nat) ({ cls := "java/lang/Object", name := "<init>", desc := "()V" } : Jvm.MethodName)) ∈ lw_all := lw_g (lw_at lw_m7 170 rfl) rfl
section CP
variable {Γ : Gc} {l : Launch} {e : Env} {s : State} {m : MethodId} {args : Array Value} {below : List Frame} {meth : Method} {c : Code} 
theorem kwX21_truth {ex : Nat → Option Nat} {z : Nat} {h0 : Nat} {σ : Sg} {r : Int32} {u : St} (hex : ex = Γ.2.2.2.2) (h : fX21_truth ex z h0 (σ, 0, 0) = some (r, u)) : g_CW Γ l yX21_truth cX21_truth 1 (some .int) 1 20 [.ref h0] σ z v_i r (g_ι z u) :=
  g_metW (ι := g_ι z) (t := (σ, 0, 0)) [.ref h0] (Nat.le_of_ble_eq_true rfl) h rfl (fun p e s m args below meth c X hr hn => wX21_truth hex X hr h0 (σ, 0, 0))
theorem kwX21_isHome {ex : Nat → Option Nat} {z : Nat} {h0 : Nat} {x1 : Int32} {σ : Sg} {r : Int32} {u : St} (hex : ex = Γ.2.2.2.2) (h : fX21_isHome ex z h0 x1 (σ, 0, 0) = some (r, u)) : g_CW Γ l yX21_isHome cX21_isHome 2 (some .boolean) 1 20 [.ref h0, .int x1] σ z v_i r (g_ι z u) :=
  g_metW (ι := g_ι z) (t := (σ, 0, 0)) [.ref h0, .int x1] (Nat.le_of_ble_eq_true rfl) h rfl (fun p e s m args below meth c X hr hn => wX21_isHome hex X hr h0 x1 (σ, 0, 0))
end CP
abbrev cX7_shown : ByteArray := prog_16_method_3_code
def yX7_shown : MethodName := ⟨RX7, "shown", "(LLameClocks$Street;)I"⟩
theorem dX7_shown_0 : decode cX7_shown 0 = .ok (.aload_n 1, 1) := by decide +kernel
theorem dX7_shown_1 : decode cX7_shown 1 = .ok (.invokeinterface 13 1, 5) := by decide +kernel
theorem dX7_shown_6 : decode cX7_shown 6 = .ok (.ireturn, 1) := by decide +kernel
theorem dl_LameClocks_Street_truth : Cond.landsInDefault "LameClocks$Race" (⟨"LameClocks$Street", "truth", "()I"⟩ : MethodName) (⟨"LameClocks$Street", "truth", "()I"⟩ : MethodName) ∈ flatC (Jvm.Cond.and given_1 narrow_1) := by decide +kernel
theorem dn_LameClocks_Street_truth : (parseMethodDescriptor (⟨"LameClocks$Street", "truth", "()I"⟩ : MethodName).desc).map (fun d => d.parameters.length) = some 0 := by decide +kernel
section CP
variable {Γ : Gc} {p : Program} {l : Launch} {e : Env} {s : State} {m : MethodId} {args : Array Value} {below : List Frame} {meth : Method} {c : Code} {ex : Nat → Option Nat} {z : Nat} {tF : St}
noncomputable def fX7_shown (ex : Nat → Option Nat) (z : Nat) (h0 : Nat) (h1 : Nat) (t : St) : Option (Int32 × St) := ccast [1] t h1 (gb (fX21_truth ex (z + t.2.1) h1 (t.1, 0, 0)) t fun r1 t2 => some (r1, t2))
set_option maxHeartbeats 4000000 in
theorem wX7_shown {rF : Int32} (hex : ex = Γ.2.2.2.2) (X : g_X Γ p s m args meth c cX7_shown 2 RX7) (hr : meth.sig.returnType = (some .int)) (h0 : Nat) (h1 : Nat) (t : St) : Wf Γ p l e 2 40 s m args below meth c 2 (g_ι z) v_i rF tF 0 [(0, .ref h0), (1, .ref h1)] [] t (fX7_shown ex z h0 h1 t) := by
  unfold fX7_shown
  refine g_aload_n (pc := 0) X 1 dX7_shown_0 rfl rfl ?_
  refine d_bF_i (pc := 1) X (C := "LameClocks$Race") (x := (⟨"LameClocks$Street", "truth", "()I"⟩ : MethodName)) (y := (⟨"LameClocks$Street", "truth", "()I"⟩ : MethodName)) (As := []) (rest := []) (b := h1) (n := 0) (fr' := 1) (lo' := 20) (ci := 1) ⟨_, _, rfl⟩ dX7_shown_1 rfl rfl (Nat.le_of_ble_eq_true rfl) (plainFor_of_name (by decide)) q422 ⟨Nat.le_of_ble_eq_true rfl, Nat.le_of_ble_eq_true rfl⟩ q420 q415 dl_LameClocks_Street_truth ⟨by decide, by decide⟩ dn_LameClocks_Street_truth q417 q416 q421 q419 q418 (fun r u h => kwX21_truth hex h) (fun r1 t2 => ?_)
  exact g_iret (pc := 6) X hr dX7_shown_6
theorem kX7_shown {ex : Nat → Option Nat} {z : Nat} {h0 : Nat} {h1 : Nat} {σ : Sg} {r : Int32} {u : St} (hex : ex = Γ.2.2.2.2) (h : fX7_shown ex z h0 h1 (σ, 0, 0) = some (r, u)) : g_C Γ l yX7_shown cX7_shown 2 (some .int) 2 40 [.ref h0, .ref h1] σ z v_i r (g_ι z u) :=
  g_met (ι := g_ι z) (t := (σ, 0, 0)) [.ref h0, .ref h1] (by decide) (Nat.le_of_ble_eq_true rfl) h rfl (fun p e s m args below meth c X hr hn => wX7_shown hex X hr h0 h1 (σ, 0, 0))
end CP
abbrev cX8_shown : ByteArray := prog_20_method_3_code
def yX8_shown : MethodName := ⟨RX8, "shown", "(LLameClocks$Street;)I"⟩
def dkwX8_shown_1 : List UInt8 := [185, 0, 21, 2, 0, 43, 182, 0, 17, 172]
abbrev dktX8_shown_1 : List UInt8 := dkwX8_shown_1 ++ []
def dkwX8_shown_0 : List UInt8 := [42, 180, 0, 11, 154, 0, 11, 42, 43, 183, 0, 17, 167, 0, 19, 43, 42, 180, 0, 11, 4, 100]
abbrev dktX8_shown_0 : List UInt8 := dkwX8_shown_0 ++ dktX8_shown_1
theorem dksX8_shown_0 : cX8_shown.data.toList.drop 0 = dktX8_shown_0 := by decide +kernel
theorem dksX8_shown_1 : cX8_shown.data.toList.drop 22 = dktX8_shown_1 := dk_seg dksX8_shown_0 22 rfl rfl
theorem dX8_shown_0 : decode cX8_shown 0 = .ok (.aload_n 0, 1) := dk_42 (dk_at dksX8_shown_0 0 rfl rfl)
theorem dX8_shown_1 : decode cX8_shown 1 = .ok (.getfield 11, 3) := dk_180 0 11 (dk_at dksX8_shown_0 1 rfl rfl)
theorem dX8_shown_4 : decode cX8_shown 4 = .ok (.ifCond .ne 11, 3) := dk_154 0 11 (dk_at dksX8_shown_0 4 rfl rfl)
theorem dX8_shown_7 : decode cX8_shown 7 = .ok (.aload_n 0, 1) := dk_42 (dk_at dksX8_shown_0 7 rfl rfl)
theorem dX8_shown_8 : decode cX8_shown 8 = .ok (.aload_n 1, 1) := dk_43 (dk_at dksX8_shown_0 8 rfl rfl)
theorem dX8_shown_9 : decode cX8_shown 9 = .ok (.invokespecial 17, 3) := dk_183 0 17 (dk_at dksX8_shown_0 9 rfl rfl)
theorem dX8_shown_12 : decode cX8_shown 12 = .ok (.goto 19, 3) := dk_167 0 19 (dk_at dksX8_shown_0 12 rfl rfl)
theorem dX8_shown_15 : decode cX8_shown 15 = .ok (.aload_n 1, 1) := dk_43 (dk_at dksX8_shown_0 15 rfl rfl)
theorem dX8_shown_16 : decode cX8_shown 16 = .ok (.aload_n 0, 1) := dk_42 (dk_at dksX8_shown_0 16 rfl rfl)
theorem dX8_shown_17 : decode cX8_shown 17 = .ok (.getfield 11, 3) := dk_180 0 11 (dk_at dksX8_shown_0 17 rfl rfl)
theorem dX8_shown_20 : decode cX8_shown 20 = .ok (.iconst 1, 1) := dk_4 (dk_at dksX8_shown_0 20 rfl rfl)
theorem dX8_shown_21 : decode cX8_shown 21 = .ok (.isub, 1) := dk_100 (dk_at dksX8_shown_0 21 rfl rfl)
theorem dX8_shown_22 : decode cX8_shown 22 = .ok (.invokeinterface 21 2, 5) := by decide +kernel
theorem dX8_shown_27 : decode cX8_shown 27 = .ok (.aload_n 1, 1) := dk_43 (dk_at dksX8_shown_1 5 rfl rfl)
theorem dX8_shown_28 : decode cX8_shown 28 = .ok (.invokevirtual 17, 3) := dk_182 0 17 (dk_at dksX8_shown_1 6 rfl rfl)
theorem dX8_shown_31 : decode cX8_shown 31 = .ok (.ireturn, 1) := dk_172 (dk_at dksX8_shown_1 9 rfl rfl)
theorem fo_X8_11 : g_fo RX8 11 [4, 5, 6, 7, 8, 9] 0 := ⟨_, _, _, Or.inl q151, fun ci h => by
  simp only [List.mem_cons, List.not_mem_nil, or_false] at h; rcases h with rfl | rfl | rfl | rfl | rfl | rfl
  · exact ⟨_, _, _, rfl, by decide, rfl, rfl, Or.inr q152, in_X4⟩
  · exact ⟨_, _, _, rfl, by decide, rfl, rfl, Or.inr q152, in_X5⟩
  · exact ⟨_, _, _, rfl, by decide, rfl, rfl, Or.inr q152, in_X6⟩
  · exact ⟨_, _, _, rfl, by decide, rfl, rfl, Or.inr q152, in_X7⟩
  · exact ⟨_, _, _, rfl, by decide, rfl, rfl, Or.inr q152, in_X8⟩
  · exact ⟨_, _, _, rfl, by decide, rfl, rfl, Or.inr q152, in_X9⟩⟩
theorem dmF_X21_clock1 : (⟨"LameClocks$Street", "clock", "(I)LLameClocks$Plain;"⟩ : MethodName).cls ≠ "java/lang/invoke/MethodHandle" ∧ (⟨"LameClocks$Street", "clock", "(I)LLameClocks$Plain;"⟩ : MethodName).cls ≠ "java/lang/invoke/VarHandle" ∧ (parseMethodDescriptor (⟨"LameClocks$Street", "clock", "(I)LLameClocks$Plain;"⟩ : MethodName).desc).map (fun d => d.parameters.length) = some 1 := by decide +kernel
theorem dmV_X4_shown : yX4_shown.cls = RX4 ∧ yX4_shown.cls ≠ "java/lang/invoke/MethodHandle" ∧ yX4_shown.cls ≠ "java/lang/invoke/VarHandle" ∧ (parseMethodDescriptor yX4_shown.desc).map (fun d => d.parameters.length) = some 1 := by decide +kernel
theorem dmU_X4_shown1 : "LameClocks$Plain" ≠ "java/lang/invoke/MethodHandle" ∧ "LameClocks$Plain" ≠ "java/lang/invoke/VarHandle" ∧ (parseMethodDescriptor "(LLameClocks$Street;)I").map (fun d => d.parameters.length) = some 1 := by decide +kernel
theorem dmN_X4_shown : yX4_shown.name ≠ "<init>" ∧ (parseMethodDescriptor yX4_shown.desc).map (fun d => d.parameters.length) = some 1 := by decide +kernel
section CP
variable {Γ : Gc} {p : Program} {l : Launch} {e : Env} {s : State} {m : MethodId} {args : Array Value} {below : List Frame} {meth : Method} {c : Code} {ex : Nat → Option Nat} {z : Nat} {tF : St}
noncomputable def fv_X4_shown_st (f8 : Nat → Nat → Nat → St → Option (Int32 × St)) (ex : Nat → Option Nat) (z : Nat) (h0 : Nat) (h1 : Nat) (t : St) : Option (Int32 × St) := ccls t h0 fun ci => if ci = 4 then fX4_shown ex z h0 h1 t else if ci = 5 then fX4_shown ex z h0 h1 t else if ci = 6 then fX4_shown ex z h0 h1 t else if ci = 7 then fX7_shown ex z h0 h1 t else if ci = 8 then f8 z h0 h1 t else if ci = 9 then fX4_shown ex z h0 h1 t else none
theorem fv_X4_shown_st_4 {f8 : Nat → Nat → Nat → St → Option (Int32 × St)} {ex : Nat → Option Nat} {z h0 h1 : Nat} {σ : Sg} {fl : Bool} {fs : List Value} (hs : σ h0 = some (fl, .inr (4, fs))) : fv_X4_shown_st f8 ex z h0 h1 (σ, 0, 0) = fX4_shown ex z h0 h1 (σ, 0, 0) := by simp [fv_X4_shown_st, ccls, hs]
theorem fv_X4_shown_st_5 {f8 : Nat → Nat → Nat → St → Option (Int32 × St)} {ex : Nat → Option Nat} {z h0 h1 : Nat} {σ : Sg} {fl : Bool} {fs : List Value} (hs : σ h0 = some (fl, .inr (5, fs))) : fv_X4_shown_st f8 ex z h0 h1 (σ, 0, 0) = fX4_shown ex z h0 h1 (σ, 0, 0) := by simp [fv_X4_shown_st, ccls, hs]
theorem fv_X4_shown_st_6 {f8 : Nat → Nat → Nat → St → Option (Int32 × St)} {ex : Nat → Option Nat} {z h0 h1 : Nat} {σ : Sg} {fl : Bool} {fs : List Value} (hs : σ h0 = some (fl, .inr (6, fs))) : fv_X4_shown_st f8 ex z h0 h1 (σ, 0, 0) = fX4_shown ex z h0 h1 (σ, 0, 0) := by simp [fv_X4_shown_st, ccls, hs]
theorem fv_X4_shown_st_7 {f8 : Nat → Nat → Nat → St → Option (Int32 × St)} {ex : Nat → Option Nat} {z h0 h1 : Nat} {σ : Sg} {fl : Bool} {fs : List Value} (hs : σ h0 = some (fl, .inr (7, fs))) : fv_X4_shown_st f8 ex z h0 h1 (σ, 0, 0) = fX7_shown ex z h0 h1 (σ, 0, 0) := by simp [fv_X4_shown_st, ccls, hs]
theorem fv_X4_shown_st_8 {f8 : Nat → Nat → Nat → St → Option (Int32 × St)} {ex : Nat → Option Nat} {z h0 h1 : Nat} {σ : Sg} {fl : Bool} {fs : List Value} (hs : σ h0 = some (fl, .inr (8, fs))) : fv_X4_shown_st f8 ex z h0 h1 (σ, 0, 0) = f8 z h0 h1 (σ, 0, 0) := by simp [fv_X4_shown_st, ccls, hs]
theorem fv_X4_shown_st_9 {f8 : Nat → Nat → Nat → St → Option (Int32 × St)} {ex : Nat → Option Nat} {z h0 h1 : Nat} {σ : Sg} {fl : Bool} {fs : List Value} (hs : σ h0 = some (fl, .inr (9, fs))) : fv_X4_shown_st f8 ex z h0 h1 (σ, 0, 0) = fX4_shown ex z h0 h1 (σ, 0, 0) := by simp [fv_X4_shown_st, ccls, hs]
noncomputable def fX8_shown_st (f8 : Nat → Nat → Nat → St → Option (Int32 × St)) (ex : Nat → Option Nat) (z : Nat) (h0 : Nat) (h1 : Nat) (t : St) : Option (Int32 × St) := cgI [4, 5, 6, 7, 8, 9] 0 t h0 fun v1 => if v1 = 0 then ccast [8] t h0 (gb (fX4_shown ex (z + t.2.1) h0 h1 (t.1, 0, 0)) t fun r17 t18 => some (r17, t18)) else cgI [4, 5, 6, 7, 8, 9] 0 t h0 fun v2 => ccast [1] t h1 (gb (fX1_clock ex (z + t.2.1) h1 (v2 - 1) (t.1, 0, 0)) t fun r3 t4 => ccast [4, 5, 6, 7, 8, 9] t4 r3 (gb (fv_X4_shown_st f8 ex (z + t4.2.1) r3 h1 (t4.1, 0, 0)) t4 fun r10 t11 => some (r10, t11)))
set_option maxHeartbeats 4000000 in
theorem wX8_shown {rF : Int32} {d : Nat} {f8 : Nat → Nat → Nat → St → Option (Int32 × St)} (h8 : ∀ {z h0 h1 : Nat} {σ : Sg} {r : Int32} {u : St}, f8 z h0 h1 (σ, 0, 0) = some (r, u) → g_C Γ l yX8_shown cX8_shown 2 (some .int) (4 + d) (85 + 21 * d) [.ref h0, .ref h1] σ z v_i r (g_ι z u)) (hex : ex = Γ.2.2.2.2) (X : g_X Γ p s m args meth c cX8_shown 2 RX8) (hr : meth.sig.returnType = (some .int)) (h0 : Nat) (h1 : Nat) (t : St) : Wf Γ p l e (4 + (d + 1)) (85 + 21 * (d + 1)) s m args below meth c 2 (g_ι z) v_i rF tF 0 [(0, .ref h0), (1, .ref h1)] [] t (fX8_shown_st f8 ex z h0 h1 t) := by
  unfold fX8_shown_st
  refine g_aload_n (pc := 0) X 0 dX8_shown_0 rfl rfl ?_
  refine cg_getI (pc := 1) X fo_X8_11 dX8_shown_1 (fun v1 => ?_)
  refine g_if_ne (pc := 4) X 15 dX8_shown_4 (by decide) ?_ ?_
  · refine g_aload_n (pc := 15) X 1 dX8_shown_15 rfl rfl ?_
    refine g_aload_n (pc := 16) X 0 dX8_shown_16 rfl rfl ?_
    refine cg_getI (pc := 17) X fo_X8_11 dX8_shown_17 (fun v2 => ?_)
    refine g_iconst (pc := 20) X 1 dX8_shown_20 rfl ?_
    refine g_isub (pc := 21) X dX8_shown_21 ?_
    refine g_bDF_a (pc := 22) X (cs := [1]) (As := [.int (v2 - 1)]) (rest := []) (b := h1) (n := 1) dX8_shown_22 rfl rfl (by first | omega | (dsimp only [g_R]; omega) | exact Nat.le_of_ble_eq_true rfl) (fun fl5 ci6 fs7 hs8 hci9 r u h => ?_) (fun r3 t4 => ?_)
    · obtain rfl := List.mem_singleton.mp hci9
      exact ⟨_, _, _, yX1_clock, _, _, _, 3, 64, rfl, kX1_clock hex h, ⟨_, va_cwF 1 X.2.2.2.2.1 (lw_F q437 q440 q374 q71 q376) rfl rfl rfl (X.2.2.2.2.2.2.1.fw ⟨by decide, by decide⟩ q439 q438 q442 q441 q418) dmF_X21_clock1 ⟨by first | omega | (dsimp only [g_R]; omega) | exact Nat.le_of_ble_eq_true rfl, by first | omega | (dsimp only [g_R]; omega) | exact Nat.le_of_ble_eq_true rfl⟩⟩⟩
    refine g_aload_n (pc := 27) X 1 dX8_shown_27 rfl rfl ?_
    refine g_bD_i (pc := 28) X (cs := [4, 5, 6, 7, 8, 9]) (As := [.ref h1]) (rest := []) (b := r3) (n := 1) dX8_shown_28 rfl rfl (by first | omega | (dsimp only [g_R]; omega) | exact Nat.le_of_ble_eq_true rfl) (fun fl12 ci13 fs14 hs15 hci16 r u h => ?_) (fun r10 t11 => ?_)
    · simp only [List.mem_cons, List.not_mem_nil, or_false] at hci16
      rcases hci16 with rfl | rfl | rfl | rfl | rfl | rfl
      · exact ⟨_, _, _, yX4_shown, _, _, _, 0, 0, rfl, kX4_shown hex (by rw [fv_X4_shown_st_4 hs15] at h; exact h), Or.inl (cwV 1 X.2.2.2.2.1 (lw_V q435 q405 q406 q77 q443) rfl rfl rfl dmV_X4_shown ⟨by first | omega | (dsimp only [g_R]; omega) | exact Nat.le_of_ble_eq_true rfl, by first | omega | (dsimp only [g_R]; omega) | exact Nat.le_of_ble_eq_true rfl⟩)⟩
      · exact ⟨_, _, _, yX4_shown, _, _, _, 0, 0, rfl, kX4_shown hex (by rw [fv_X4_shown_st_5 hs15] at h; exact h), Or.inr (Or.inl ⟨_, _, va_cwU 1 X.2.2.2.2.1 (lw_U q435 q407 q408 q405 q77 q443) rfl rfl rfl rfl dmU_X4_shown1 ⟨by first | omega | (dsimp only [g_R]; omega) | exact Nat.le_of_ble_eq_true rfl, by first | omega | (dsimp only [g_R]; omega) | exact Nat.le_of_ble_eq_true rfl⟩⟩)⟩
      · exact ⟨_, _, _, yX4_shown, _, _, _, 0, 0, rfl, kX4_shown hex (by rw [fv_X4_shown_st_6 hs15] at h; exact h), Or.inr (Or.inl ⟨_, _, va_cwU 1 X.2.2.2.2.1 (lw_U q435 q407 q410 q405 q77 q443) rfl rfl rfl rfl dmU_X4_shown1 ⟨by first | omega | (dsimp only [g_R]; omega) | exact Nat.le_of_ble_eq_true rfl, by first | omega | (dsimp only [g_R]; omega) | exact Nat.le_of_ble_eq_true rfl⟩⟩)⟩
      · exact ⟨_, _, _, yX7_shown, _, _, _, 2, 40, rfl, kX7_shown hex (by rw [fv_X4_shown_st_7 hs15] at h; exact h), Or.inr (Or.inl ⟨_, _, va_cwO 1 X.2.2.2.2.1 (lw_O q435 q407 q405 q411 q412 q80 q413) rfl rfl rfl q443 dmU_X4_shown1 ⟨by first | omega | (dsimp only [g_R]; omega) | exact Nat.le_of_ble_eq_true rfl, by first | omega | (dsimp only [g_R]; omega) | exact Nat.le_of_ble_eq_true rfl⟩⟩)⟩
      · exact ⟨_, _, _, yX8_shown, _, _, _, (4 + d), (85 + 21 * d), rfl, h8 (by rw [fv_X4_shown_st_8 hs15] at h; exact h), Or.inr (Or.inl ⟨_, _, va_cwO 1 X.2.2.2.2.1 (lw_O q435 q407 q405 q432 q433 q81 q434) rfl rfl rfl q443 dmU_X4_shown1 ⟨by first | omega | (dsimp only [g_R]; omega) | exact Nat.le_of_ble_eq_true rfl, by first | omega | (dsimp only [g_R]; omega) | exact Nat.le_of_ble_eq_true rfl⟩⟩)⟩
      · exact ⟨_, _, _, yX4_shown, _, _, _, 0, 0, rfl, kX4_shown hex (by rw [fv_X4_shown_st_9 hs15] at h; exact h), Or.inr (Or.inl ⟨_, _, va_cwU 1 X.2.2.2.2.1 (lw_U q435 q407 q409 q405 q77 q443) rfl rfl rfl rfl dmU_X4_shown1 ⟨by first | omega | (dsimp only [g_R]; omega) | exact Nat.le_of_ble_eq_true rfl, by first | omega | (dsimp only [g_R]; omega) | exact Nat.le_of_ble_eq_true rfl⟩⟩)⟩
    exact g_iret (pc := 31) X hr dX8_shown_31
  · refine g_aload_n (pc := 7) X 0 dX8_shown_7 rfl rfl ?_
    refine g_aload_n (pc := 8) X 1 dX8_shown_8 rfl rfl ?_
    refine g_recv (pc := 9) (cs := [8]) (fun fl19 ci20 fs21 hs22 hci23 => ?_)
    obtain ⟨C9, T9, N9, hc9⟩ := g_clsOf (cs := [8]) (by decide) hci23
    refine g_bSU_i (pc := 9) X (C := C9) (y := yX4_shown) (As := [.ref h1]) (rest := []) (b := h0) (fr' := 0) (lo' := 0) (fun _ => va_cwSU 1 X.2.2.2.2.1 (lw_SU q435 q407 q236 q405 q77 q443) rfl rfl rfl dmN_X4_shown ⟨by first | omega | (dsimp only [g_R]; omega) | exact Nat.le_of_ble_eq_true rfl, by first | omega | (dsimp only [g_R]; omega) | exact Nat.le_of_ble_eq_true rfl⟩) dX8_shown_9 hs22 ⟨_, _, hc9⟩ rfl rfl (by first | omega | (dsimp only [g_R]; omega) | exact Nat.le_of_ble_eq_true rfl) (fun r u h => kX4_shown hex h) (fun r17 t18 => ?_)
    refine g_goto (pc := 12) X 31 dX8_shown_12 (by decide) ?_
    exact g_iret (pc := 31) X hr dX8_shown_31
noncomputable def fX8_shown_n (ex : Nat → Option Nat) : Nat → Nat → Nat → Nat → St → Option (Int32 × St)
  | 0, _, _, _, _ => none
  | d + 1, z, h0, h1, t => fX8_shown_st (fX8_shown_n ex d) ex z h0 h1 t
theorem kX8_shown_n {ex : Nat → Option Nat} (hex : ex = Γ.2.2.2.2) (d : Nat) : ∀ {z h0 h1 : Nat} {σ : Sg} {r : Int32} {u : St}, fX8_shown_n ex d z h0 h1 (σ, 0, 0) = some (r, u) → g_C Γ l yX8_shown cX8_shown 2 (some .int) (4 + d) (85 + 21 * d) [.ref h0, .ref h1] σ z v_i r (g_ι z u) := by
  induction d with
  | zero => intro z h0 h1 σ r u h; cases h
  | succ d ih =>
    intro z h0 h1 σ r u h
    exact g_met (ι := g_ι z) (t := (σ, 0, 0)) (F := fX8_shown_st (fX8_shown_n ex d) ex z h0 h1 (σ, 0, 0)) [.ref h0, .ref h1] (by decide) (Nat.le_of_ble_eq_true rfl) h rfl (fun p e s m args below meth c X hr hn => wX8_shown (fun h => ih h) hex X hr h0 h1 (σ, 0, 0))
noncomputable def fX8_shown (ex : Nat → Option Nat) (z h0 h1 : Nat) (t : St) : Option (Int32 × St) := fX8_shown_n ex 10 z h0 h1 t
theorem kX8_shown {ex : Nat → Option Nat} {z h0 h1 : Nat} {σ : Sg} {r : Int32} {u : St} (hex : ex = Γ.2.2.2.2) (h : fX8_shown ex z h0 h1 (σ, 0, 0) = some (r, u)) : g_C Γ l yX8_shown cX8_shown 2 (some .int) 14 295 [.ref h0, .ref h1] σ z v_i r (g_ι z u) := kX8_shown_n hex 10 h
end CP
abbrev cX3_init : ByteArray := prog_24_method_1_code
def yX3_init : MethodName := ⟨RX3, "<init>", "()V"⟩
def dkwX3_init_8 : List UInt8 := [27, 16, 12, 79, 132, 1, 1, 167, 255, 239, 177]
abbrev dktX3_init_8 : List UInt8 := dkwX3_init_8 ++ []
def dkwX3_init_7 : List UInt8 := [180, 0, 59, 27, 2, 79, 132, 1, 1, 167, 255, 241, 3, 60, 27, 16, 24, 162, 0, 17, 42, 180, 0, 7]
abbrev dktX3_init_7 : List UInt8 := dkwX3_init_7 ++ dktX3_init_8
def dkwX3_init_6 : List UInt8 := [16, 96, 188, 11, 181, 0, 65, 42, 16, 24, 188, 11, 181, 0, 69, 3, 60, 27, 7, 162, 0, 16, 42]
abbrev dktX3_init_6 : List UInt8 := dkwX3_init_6 ++ dktX3_init_7
def dkwX3_init_5 : List UInt8 := [17, 0, 155, 188, 10, 181, 0, 56, 42, 7, 188, 10, 181, 0, 59, 42, 7, 188, 10, 181, 0, 62, 42]
abbrev dktX3_init_5 : List UInt8 := dkwX3_init_5 ++ dktX3_init_6
def dkwX3_init_4 : List UInt8 := [188, 10, 181, 0, 47, 42, 16, 63, 188, 10, 181, 0, 50, 42, 17, 0, 144, 188, 10, 181, 0, 53, 42]
abbrev dktX3_init_4 : List UInt8 := dkwX3_init_4 ++ dktX3_init_5
def dkwX3_init_3 : List UInt8 := [188, 10, 181, 0, 38, 42, 4, 181, 0, 41, 42, 17, 0, 160, 188, 10, 181, 0, 44, 42, 17, 1, 224]
abbrev dktX3_init_3 : List UInt8 := dkwX3_init_3 ++ dktX3_init_4
def dkwX3_init_2 : List UInt8 := [42, 2, 181, 0, 29, 42, 16, 6, 188, 10, 181, 0, 32, 42, 16, 6, 188, 10, 181, 0, 35, 42, 16, 30]
abbrev dktX3_init_2 : List UInt8 := dkwX3_init_2 ++ dktX3_init_3
def dkwX3_init_1 : List UInt8 := [188, 10, 181, 0, 16, 42, 16, 8, 181, 0, 19, 42, 16, 12, 188, 10, 181, 0, 23, 42, 4, 181, 0, 26]
abbrev dktX3_init_1 : List UInt8 := dkwX3_init_1 ++ dktX3_init_2
def dkwX3_init_0 : List UInt8 := [42, 183, 0, 1, 42, 16, 63, 188, 10, 181, 0, 7, 42, 16, 9, 188, 10, 181, 0, 13, 42, 16, 9]
abbrev dktX3_init_0 : List UInt8 := dkwX3_init_0 ++ dktX3_init_1
theorem dksX3_init_0 : cX3_init.data.toList.drop 0 = dktX3_init_0 := by decide +kernel
theorem dksX3_init_1 : cX3_init.data.toList.drop 23 = dktX3_init_1 := dk_seg dksX3_init_0 23 rfl rfl
theorem dksX3_init_2 : cX3_init.data.toList.drop 47 = dktX3_init_2 := dk_seg dksX3_init_1 24 rfl rfl
theorem dksX3_init_3 : cX3_init.data.toList.drop 71 = dktX3_init_3 := dk_seg dksX3_init_2 24 rfl rfl
theorem dksX3_init_4 : cX3_init.data.toList.drop 94 = dktX3_init_4 := dk_seg dksX3_init_3 23 rfl rfl
theorem dksX3_init_5 : cX3_init.data.toList.drop 117 = dktX3_init_5 := dk_seg dksX3_init_4 23 rfl rfl
theorem dksX3_init_6 : cX3_init.data.toList.drop 140 = dktX3_init_6 := dk_seg dksX3_init_5 23 rfl rfl
theorem dksX3_init_7 : cX3_init.data.toList.drop 163 = dktX3_init_7 := dk_seg dksX3_init_6 23 rfl rfl
theorem dksX3_init_8 : cX3_init.data.toList.drop 187 = dktX3_init_8 := dk_seg dksX3_init_7 24 rfl rfl
theorem dX3_init_0 : decode cX3_init 0 = .ok (.aload_n 0, 1) := dk_42 (dk_at dksX3_init_0 0 rfl rfl)
theorem dX3_init_1 : decode cX3_init 1 = .ok (.invokespecial 1, 3) := dk_183 0 1 (dk_at dksX3_init_0 1 rfl rfl)
theorem dX3_init_4 : decode cX3_init 4 = .ok (.aload_n 0, 1) := dk_42 (dk_at dksX3_init_0 4 rfl rfl)
theorem dX3_init_5 : decode cX3_init 5 = .ok (.bipush 63, 2) := dk_16 63 (dk_at dksX3_init_0 5 rfl rfl)
theorem dX3_init_7 : decode cX3_init 7 = .ok (.newarray .int, 2) := dk_188_10 (dk_at dksX3_init_0 7 rfl rfl)
theorem dX3_init_9 : decode cX3_init 9 = .ok (.putfield 7, 3) := dk_181 0 7 (dk_at dksX3_init_0 9 rfl rfl)
theorem dX3_init_12 : decode cX3_init 12 = .ok (.aload_n 0, 1) := dk_42 (dk_at dksX3_init_0 12 rfl rfl)
theorem dX3_init_13 : decode cX3_init 13 = .ok (.bipush 9, 2) := dk_16 9 (dk_at dksX3_init_0 13 rfl rfl)
theorem dX3_init_15 : decode cX3_init 15 = .ok (.newarray .int, 2) := dk_188_10 (dk_at dksX3_init_0 15 rfl rfl)
theorem dX3_init_17 : decode cX3_init 17 = .ok (.putfield 13, 3) := dk_181 0 13 (dk_at dksX3_init_0 17 rfl rfl)
theorem dX3_init_20 : decode cX3_init 20 = .ok (.aload_n 0, 1) := dk_42 (dk_at dksX3_init_0 20 rfl rfl)
theorem dX3_init_21 : decode cX3_init 21 = .ok (.bipush 9, 2) := dk_16 9 (dk_at dksX3_init_0 21 rfl rfl)
theorem dX3_init_23 : decode cX3_init 23 = .ok (.newarray .int, 2) := dk_188_10 (dk_at dksX3_init_1 0 rfl rfl)
theorem dX3_init_25 : decode cX3_init 25 = .ok (.putfield 16, 3) := dk_181 0 16 (dk_at dksX3_init_1 2 rfl rfl)
theorem dX3_init_28 : decode cX3_init 28 = .ok (.aload_n 0, 1) := dk_42 (dk_at dksX3_init_1 5 rfl rfl)
theorem dX3_init_29 : decode cX3_init 29 = .ok (.bipush 8, 2) := dk_16 8 (dk_at dksX3_init_1 6 rfl rfl)
theorem dX3_init_31 : decode cX3_init 31 = .ok (.putfield 19, 3) := dk_181 0 19 (dk_at dksX3_init_1 8 rfl rfl)
theorem dX3_init_34 : decode cX3_init 34 = .ok (.aload_n 0, 1) := dk_42 (dk_at dksX3_init_1 11 rfl rfl)
theorem dX3_init_35 : decode cX3_init 35 = .ok (.bipush 12, 2) := dk_16 12 (dk_at dksX3_init_1 12 rfl rfl)
theorem dX3_init_37 : decode cX3_init 37 = .ok (.newarray .int, 2) := dk_188_10 (dk_at dksX3_init_1 14 rfl rfl)
theorem dX3_init_39 : decode cX3_init 39 = .ok (.putfield 23, 3) := dk_181 0 23 (dk_at dksX3_init_1 16 rfl rfl)
theorem dX3_init_42 : decode cX3_init 42 = .ok (.aload_n 0, 1) := dk_42 (dk_at dksX3_init_1 19 rfl rfl)
theorem dX3_init_43 : decode cX3_init 43 = .ok (.iconst 1, 1) := dk_4 (dk_at dksX3_init_1 20 rfl rfl)
theorem dX3_init_44 : decode cX3_init 44 = .ok (.putfield 26, 3) := dk_181 0 26 (dk_at dksX3_init_1 21 rfl rfl)
theorem dX3_init_47 : decode cX3_init 47 = .ok (.aload_n 0, 1) := dk_42 (dk_at dksX3_init_2 0 rfl rfl)
theorem dX3_init_48 : decode cX3_init 48 = .ok (.iconst (-1), 1) := dk_2 (dk_at dksX3_init_2 1 rfl rfl)
theorem dX3_init_49 : decode cX3_init 49 = .ok (.putfield 29, 3) := dk_181 0 29 (dk_at dksX3_init_2 2 rfl rfl)
theorem dX3_init_52 : decode cX3_init 52 = .ok (.aload_n 0, 1) := dk_42 (dk_at dksX3_init_2 5 rfl rfl)
theorem dX3_init_53 : decode cX3_init 53 = .ok (.bipush 6, 2) := dk_16 6 (dk_at dksX3_init_2 6 rfl rfl)
theorem dX3_init_55 : decode cX3_init 55 = .ok (.newarray .int, 2) := dk_188_10 (dk_at dksX3_init_2 8 rfl rfl)
theorem dX3_init_57 : decode cX3_init 57 = .ok (.putfield 32, 3) := dk_181 0 32 (dk_at dksX3_init_2 10 rfl rfl)
theorem dX3_init_60 : decode cX3_init 60 = .ok (.aload_n 0, 1) := dk_42 (dk_at dksX3_init_2 13 rfl rfl)
theorem dX3_init_61 : decode cX3_init 61 = .ok (.bipush 6, 2) := dk_16 6 (dk_at dksX3_init_2 14 rfl rfl)
theorem dX3_init_63 : decode cX3_init 63 = .ok (.newarray .int, 2) := dk_188_10 (dk_at dksX3_init_2 16 rfl rfl)
theorem dX3_init_65 : decode cX3_init 65 = .ok (.putfield 35, 3) := dk_181 0 35 (dk_at dksX3_init_2 18 rfl rfl)
theorem dX3_init_68 : decode cX3_init 68 = .ok (.aload_n 0, 1) := dk_42 (dk_at dksX3_init_2 21 rfl rfl)
theorem dX3_init_69 : decode cX3_init 69 = .ok (.bipush 30, 2) := dk_16 30 (dk_at dksX3_init_2 22 rfl rfl)
theorem dX3_init_71 : decode cX3_init 71 = .ok (.newarray .int, 2) := dk_188_10 (dk_at dksX3_init_3 0 rfl rfl)
theorem dX3_init_73 : decode cX3_init 73 = .ok (.putfield 38, 3) := dk_181 0 38 (dk_at dksX3_init_3 2 rfl rfl)
theorem dX3_init_76 : decode cX3_init 76 = .ok (.aload_n 0, 1) := dk_42 (dk_at dksX3_init_3 5 rfl rfl)
theorem dX3_init_77 : decode cX3_init 77 = .ok (.iconst 1, 1) := dk_4 (dk_at dksX3_init_3 6 rfl rfl)
theorem dX3_init_78 : decode cX3_init 78 = .ok (.putfield 41, 3) := dk_181 0 41 (dk_at dksX3_init_3 7 rfl rfl)
theorem dX3_init_81 : decode cX3_init 81 = .ok (.aload_n 0, 1) := dk_42 (dk_at dksX3_init_3 10 rfl rfl)
theorem dX3_init_82 : decode cX3_init 82 = .ok (.sipush 160, 3) := dk_17 0 160 (dk_at dksX3_init_3 11 rfl rfl)
theorem dX3_init_85 : decode cX3_init 85 = .ok (.newarray .int, 2) := dk_188_10 (dk_at dksX3_init_3 14 rfl rfl)
theorem dX3_init_87 : decode cX3_init 87 = .ok (.putfield 44, 3) := dk_181 0 44 (dk_at dksX3_init_3 16 rfl rfl)
theorem dX3_init_90 : decode cX3_init 90 = .ok (.aload_n 0, 1) := dk_42 (dk_at dksX3_init_3 19 rfl rfl)
theorem dX3_init_91 : decode cX3_init 91 = .ok (.sipush 480, 3) := dk_17 1 224 (dk_at dksX3_init_3 20 rfl rfl)
theorem dX3_init_94 : decode cX3_init 94 = .ok (.newarray .int, 2) := dk_188_10 (dk_at dksX3_init_4 0 rfl rfl)
theorem dX3_init_96 : decode cX3_init 96 = .ok (.putfield 47, 3) := dk_181 0 47 (dk_at dksX3_init_4 2 rfl rfl)
theorem dX3_init_99 : decode cX3_init 99 = .ok (.aload_n 0, 1) := dk_42 (dk_at dksX3_init_4 5 rfl rfl)
theorem dX3_init_100 : decode cX3_init 100 = .ok (.bipush 63, 2) := dk_16 63 (dk_at dksX3_init_4 6 rfl rfl)
theorem dX3_init_102 : decode cX3_init 102 = .ok (.newarray .int, 2) := dk_188_10 (dk_at dksX3_init_4 8 rfl rfl)
theorem dX3_init_104 : decode cX3_init 104 = .ok (.putfield 50, 3) := dk_181 0 50 (dk_at dksX3_init_4 10 rfl rfl)
theorem dX3_init_107 : decode cX3_init 107 = .ok (.aload_n 0, 1) := dk_42 (dk_at dksX3_init_4 13 rfl rfl)
theorem dX3_init_108 : decode cX3_init 108 = .ok (.sipush 144, 3) := dk_17 0 144 (dk_at dksX3_init_4 14 rfl rfl)
theorem dX3_init_111 : decode cX3_init 111 = .ok (.newarray .int, 2) := dk_188_10 (dk_at dksX3_init_4 17 rfl rfl)
theorem dX3_init_113 : decode cX3_init 113 = .ok (.putfield 53, 3) := dk_181 0 53 (dk_at dksX3_init_4 19 rfl rfl)
theorem dX3_init_116 : decode cX3_init 116 = .ok (.aload_n 0, 1) := dk_42 (dk_at dksX3_init_4 22 rfl rfl)
theorem dX3_init_117 : decode cX3_init 117 = .ok (.sipush 155, 3) := dk_17 0 155 (dk_at dksX3_init_5 0 rfl rfl)
theorem dX3_init_120 : decode cX3_init 120 = .ok (.newarray .int, 2) := dk_188_10 (dk_at dksX3_init_5 3 rfl rfl)
theorem dX3_init_122 : decode cX3_init 122 = .ok (.putfield 56, 3) := dk_181 0 56 (dk_at dksX3_init_5 5 rfl rfl)
theorem dX3_init_125 : decode cX3_init 125 = .ok (.aload_n 0, 1) := dk_42 (dk_at dksX3_init_5 8 rfl rfl)
theorem dX3_init_126 : decode cX3_init 126 = .ok (.iconst 4, 1) := dk_7 (dk_at dksX3_init_5 9 rfl rfl)
theorem dX3_init_127 : decode cX3_init 127 = .ok (.newarray .int, 2) := dk_188_10 (dk_at dksX3_init_5 10 rfl rfl)
theorem dX3_init_129 : decode cX3_init 129 = .ok (.putfield 59, 3) := dk_181 0 59 (dk_at dksX3_init_5 12 rfl rfl)
theorem dX3_init_132 : decode cX3_init 132 = .ok (.aload_n 0, 1) := dk_42 (dk_at dksX3_init_5 15 rfl rfl)
theorem dX3_init_133 : decode cX3_init 133 = .ok (.iconst 4, 1) := dk_7 (dk_at dksX3_init_5 16 rfl rfl)
theorem dX3_init_134 : decode cX3_init 134 = .ok (.newarray .int, 2) := dk_188_10 (dk_at dksX3_init_5 17 rfl rfl)
theorem dX3_init_136 : decode cX3_init 136 = .ok (.putfield 62, 3) := dk_181 0 62 (dk_at dksX3_init_5 19 rfl rfl)
theorem dX3_init_139 : decode cX3_init 139 = .ok (.aload_n 0, 1) := dk_42 (dk_at dksX3_init_5 22 rfl rfl)
theorem dX3_init_140 : decode cX3_init 140 = .ok (.bipush 96, 2) := dk_16 96 (dk_at dksX3_init_6 0 rfl rfl)
theorem dX3_init_142 : decode cX3_init 142 = .ok (.newarray .long, 2) := dk_188_11 (dk_at dksX3_init_6 2 rfl rfl)
theorem dX3_init_144 : decode cX3_init 144 = .ok (.putfield 65, 3) := dk_181 0 65 (dk_at dksX3_init_6 4 rfl rfl)
theorem dX3_init_147 : decode cX3_init 147 = .ok (.aload_n 0, 1) := dk_42 (dk_at dksX3_init_6 7 rfl rfl)
theorem dX3_init_148 : decode cX3_init 148 = .ok (.bipush 24, 2) := dk_16 24 (dk_at dksX3_init_6 8 rfl rfl)
theorem dX3_init_150 : decode cX3_init 150 = .ok (.newarray .long, 2) := dk_188_11 (dk_at dksX3_init_6 10 rfl rfl)
theorem dX3_init_152 : decode cX3_init 152 = .ok (.putfield 69, 3) := dk_181 0 69 (dk_at dksX3_init_6 12 rfl rfl)
theorem dX3_init_155 : decode cX3_init 155 = .ok (.iconst 0, 1) := dk_3 (dk_at dksX3_init_6 15 rfl rfl)
theorem dX3_init_156 : decode cX3_init 156 = .ok (.istore_n 1, 1) := dk_60 (dk_at dksX3_init_6 16 rfl rfl)
theorem dX3_init_157 : decode cX3_init 157 = .ok (.iload_n 1, 1) := dk_27 (dk_at dksX3_init_6 17 rfl rfl)
theorem dX3_init_158 : decode cX3_init 158 = .ok (.iconst 4, 1) := dk_7 (dk_at dksX3_init_6 18 rfl rfl)
theorem dX3_init_159 : decode cX3_init 159 = .ok (.if_icmp .ge 16, 3) := dk_162 0 16 (dk_at dksX3_init_6 19 rfl rfl)
theorem dX3_init_162 : decode cX3_init 162 = .ok (.aload_n 0, 1) := dk_42 (dk_at dksX3_init_6 22 rfl rfl)
theorem dX3_init_163 : decode cX3_init 163 = .ok (.getfield 59, 3) := dk_180 0 59 (dk_at dksX3_init_7 0 rfl rfl)
theorem dX3_init_166 : decode cX3_init 166 = .ok (.iload_n 1, 1) := dk_27 (dk_at dksX3_init_7 3 rfl rfl)
theorem dX3_init_167 : decode cX3_init 167 = .ok (.iconst (-1), 1) := dk_2 (dk_at dksX3_init_7 4 rfl rfl)
theorem dX3_init_168 : decode cX3_init 168 = .ok (.iastore, 1) := dk_79 (dk_at dksX3_init_7 5 rfl rfl)
theorem dX3_init_169 : decode cX3_init 169 = .ok (.iinc 1 1, 3) := dk_132 1 1 (dk_at dksX3_init_7 6 rfl rfl)
theorem dX3_init_172 : decode cX3_init 172 = .ok (.goto (-15), 3) := dk_167 255 241 (dk_at dksX3_init_7 9 rfl rfl)
theorem dX3_init_175 : decode cX3_init 175 = .ok (.iconst 0, 1) := dk_3 (dk_at dksX3_init_7 12 rfl rfl)
theorem dX3_init_176 : decode cX3_init 176 = .ok (.istore_n 1, 1) := dk_60 (dk_at dksX3_init_7 13 rfl rfl)
theorem dX3_init_177 : decode cX3_init 177 = .ok (.iload_n 1, 1) := dk_27 (dk_at dksX3_init_7 14 rfl rfl)
theorem dX3_init_178 : decode cX3_init 178 = .ok (.bipush 24, 2) := dk_16 24 (dk_at dksX3_init_7 15 rfl rfl)
theorem dX3_init_180 : decode cX3_init 180 = .ok (.if_icmp .ge 17, 3) := dk_162 0 17 (dk_at dksX3_init_7 17 rfl rfl)
theorem dX3_init_183 : decode cX3_init 183 = .ok (.aload_n 0, 1) := dk_42 (dk_at dksX3_init_7 20 rfl rfl)
theorem dX3_init_184 : decode cX3_init 184 = .ok (.getfield 7, 3) := dk_180 0 7 (dk_at dksX3_init_7 21 rfl rfl)
theorem dX3_init_187 : decode cX3_init 187 = .ok (.iload_n 1, 1) := dk_27 (dk_at dksX3_init_8 0 rfl rfl)
theorem dX3_init_188 : decode cX3_init 188 = .ok (.bipush 12, 2) := dk_16 12 (dk_at dksX3_init_8 1 rfl rfl)
theorem dX3_init_190 : decode cX3_init 190 = .ok (.iastore, 1) := dk_79 (dk_at dksX3_init_8 3 rfl rfl)
theorem dX3_init_191 : decode cX3_init 191 = .ok (.iinc 1 1, 3) := dk_132 1 1 (dk_at dksX3_init_8 4 rfl rfl)
theorem dX3_init_194 : decode cX3_init 194 = .ok (.goto (-17), 3) := dk_167 255 239 (dk_at dksX3_init_8 7 rfl rfl)
theorem dX3_init_197 : decode cX3_init 197 = .ok (.return_, 1) := dk_177 (dk_at dksX3_init_8 10 rfl rfl)
theorem fp_X3_7 : g_fp RX3 7 [3] 0 (.array .int) true := ⟨_, _, _, Or.inl q1680, by decide +kernel, fun ci h => by
  simp only [List.mem_cons, List.not_mem_nil, or_false] at h; rcases h with rfl
  · exact ⟨_, _, _, tyX3, rfl, by decide, rfl, rfl, Or.inl rfl, in_X3, rfl, (fun _ => rfl), tyX3_ok, (by decide +kernel)⟩⟩
theorem fp_X3_13 : g_fp RX3 13 [3] 1 (.array .int) true := ⟨_, _, _, Or.inl q1681, by decide +kernel, fun ci h => by
  simp only [List.mem_cons, List.not_mem_nil, or_false] at h; rcases h with rfl
  · exact ⟨_, _, _, tyX3, rfl, by decide, rfl, rfl, Or.inl rfl, in_X3, rfl, (fun _ => rfl), tyX3_ok, (by decide +kernel)⟩⟩
theorem fp_X3_16 : g_fp RX3 16 [3] 2 (.array .int) true := ⟨_, _, _, Or.inl q1682, by decide +kernel, fun ci h => by
  simp only [List.mem_cons, List.not_mem_nil, or_false] at h; rcases h with rfl
  · exact ⟨_, _, _, tyX3, rfl, by decide, rfl, rfl, Or.inl rfl, in_X3, rfl, (fun _ => rfl), tyX3_ok, (by decide +kernel)⟩⟩
theorem fp_X3_23 : g_fp RX3 23 [3] 5 (.array .int) true := ⟨_, _, _, Or.inl q1685, by decide +kernel, fun ci h => by
  simp only [List.mem_cons, List.not_mem_nil, or_false] at h; rcases h with rfl
  · exact ⟨_, _, _, tyX3, rfl, by decide, rfl, rfl, Or.inl rfl, in_X3, rfl, (fun _ => rfl), tyX3_ok, (by decide +kernel)⟩⟩
theorem fp_X3_32 : g_fp RX3 32 [3] 8 (.array .int) true := ⟨_, _, _, Or.inl q1688, by decide +kernel, fun ci h => by
  simp only [List.mem_cons, List.not_mem_nil, or_false] at h; rcases h with rfl
  · exact ⟨_, _, _, tyX3, rfl, by decide, rfl, rfl, Or.inl rfl, in_X3, rfl, (fun _ => rfl), tyX3_ok, (by decide +kernel)⟩⟩
theorem fp_X3_35 : g_fp RX3 35 [3] 9 (.array .int) true := ⟨_, _, _, Or.inl q1689, by decide +kernel, fun ci h => by
  simp only [List.mem_cons, List.not_mem_nil, or_false] at h; rcases h with rfl
  · exact ⟨_, _, _, tyX3, rfl, by decide, rfl, rfl, Or.inl rfl, in_X3, rfl, (fun _ => rfl), tyX3_ok, (by decide +kernel)⟩⟩
theorem fp_X3_38 : g_fp RX3 38 [3] 11 (.array .int) true := ⟨_, _, _, Or.inl q1691, by decide +kernel, fun ci h => by
  simp only [List.mem_cons, List.not_mem_nil, or_false] at h; rcases h with rfl
  · exact ⟨_, _, _, tyX3, rfl, by decide, rfl, rfl, Or.inl rfl, in_X3, rfl, (fun _ => rfl), tyX3_ok, (by decide +kernel)⟩⟩
theorem fp_X3_44 : g_fp RX3 44 [3] 14 (.array .int) true := ⟨_, _, _, Or.inl q1694, by decide +kernel, fun ci h => by
  simp only [List.mem_cons, List.not_mem_nil, or_false] at h; rcases h with rfl
  · exact ⟨_, _, _, tyX3, rfl, by decide, rfl, rfl, Or.inl rfl, in_X3, rfl, (fun _ => rfl), tyX3_ok, (by decide +kernel)⟩⟩
theorem fp_X3_47 : g_fp RX3 47 [3] 18 (.array .int) true := ⟨_, _, _, Or.inl q1698, by decide +kernel, fun ci h => by
  simp only [List.mem_cons, List.not_mem_nil, or_false] at h; rcases h with rfl
  · exact ⟨_, _, _, tyX3, rfl, by decide, rfl, rfl, Or.inl rfl, in_X3, rfl, (fun _ => rfl), tyX3_ok, (by decide +kernel)⟩⟩
theorem fp_X3_50 : g_fp RX3 50 [3] 19 (.array .int) true := ⟨_, _, _, Or.inl q1699, by decide +kernel, fun ci h => by
  simp only [List.mem_cons, List.not_mem_nil, or_false] at h; rcases h with rfl
  · exact ⟨_, _, _, tyX3, rfl, by decide, rfl, rfl, Or.inl rfl, in_X3, rfl, (fun _ => rfl), tyX3_ok, (by decide +kernel)⟩⟩
theorem fp_X3_53 : g_fp RX3 53 [3] 20 (.array .int) true := ⟨_, _, _, Or.inl q1700, by decide +kernel, fun ci h => by
  simp only [List.mem_cons, List.not_mem_nil, or_false] at h; rcases h with rfl
  · exact ⟨_, _, _, tyX3, rfl, by decide, rfl, rfl, Or.inl rfl, in_X3, rfl, (fun _ => rfl), tyX3_ok, (by decide +kernel)⟩⟩
theorem fp_X3_56 : g_fp RX3 56 [3] 22 (.array .int) true := ⟨_, _, _, Or.inl q1702, by decide +kernel, fun ci h => by
  simp only [List.mem_cons, List.not_mem_nil, or_false] at h; rcases h with rfl
  · exact ⟨_, _, _, tyX3, rfl, by decide, rfl, rfl, Or.inl rfl, in_X3, rfl, (fun _ => rfl), tyX3_ok, (by decide +kernel)⟩⟩
theorem fp_X3_59 : g_fp RX3 59 [3] 23 (.array .int) true := ⟨_, _, _, Or.inl q1703, by decide +kernel, fun ci h => by
  simp only [List.mem_cons, List.not_mem_nil, or_false] at h; rcases h with rfl
  · exact ⟨_, _, _, tyX3, rfl, by decide, rfl, rfl, Or.inl rfl, in_X3, rfl, (fun _ => rfl), tyX3_ok, (by decide +kernel)⟩⟩
theorem fp_X3_62 : g_fp RX3 62 [3] 24 (.array .int) true := ⟨_, _, _, Or.inl q1704, by decide +kernel, fun ci h => by
  simp only [List.mem_cons, List.not_mem_nil, or_false] at h; rcases h with rfl
  · exact ⟨_, _, _, tyX3, rfl, by decide, rfl, rfl, Or.inl rfl, in_X3, rfl, (fun _ => rfl), tyX3_ok, (by decide +kernel)⟩⟩
theorem fp_X3_65 : g_fp RX3 65 [3] 25 (.array .long) true := ⟨_, _, _, Or.inl q1705, by decide +kernel, fun ci h => by
  simp only [List.mem_cons, List.not_mem_nil, or_false] at h; rcases h with rfl
  · exact ⟨_, _, _, tyX3, rfl, by decide, rfl, rfl, Or.inl rfl, in_X3, rfl, (fun _ => rfl), tyX3_ok, (by decide +kernel)⟩⟩
theorem fp_X3_69 : g_fp RX3 69 [3] 26 (.array .long) true := ⟨_, _, _, Or.inl q1706, by decide +kernel, fun ci h => by
  simp only [List.mem_cons, List.not_mem_nil, or_false] at h; rcases h with rfl
  · exact ⟨_, _, _, tyX3, rfl, by decide, rfl, rfl, Or.inl rfl, in_X3, rfl, (fun _ => rfl), tyX3_ok, (by decide +kernel)⟩⟩
section CP
variable {Γ : Gc} {p : Program} {l : Launch} {e : Env} {s : State} {m : MethodId} {args : Array Value} {below : List Frame} {meth : Method} {c : Code} {ex : Nat → Option Nat} {z : Nat} {tF : St}
noncomputable def fX3_init_177 (ex : Nat → Option Nat) (z : Nat) : Nat → Nat → Int32 → St → Option (Unit × St)
  | 0, _, _, _ => none
  | n + 1, h0, x1, t => if 24 ≤ x1 then some ((), t) else cgA [3] 0 t h0 fun v1 => cast_ 2 (fun x => x) t v1 x1 12 fun t2 => fX3_init_177 ex z n h0 (x1 + 1) t2
set_option maxHeartbeats 4000000 in
theorem wX3_init_177 {rF : Unit} (hex : ex = Γ.2.2.2.2) (X : g_X Γ p s m args meth c cX3_init 2 RX3) (hr : meth.sig.returnType = none) (hin : meth.name = "<init>") (n : Nat) : ∀ (h0 : Nat) (x1 : Int32) (t : St), Wf Γ p l e 1 12 s m args below meth c 2 (g_ι z) v_v rF tF 177 [(0, .ref h0), (1, .int x1)] [] t (fX3_init_177 ex z n h0 x1 t) := by
  induction n with
  | zero => intro h0 x1 t; exact g_none
  | succ n ih =>
    intro h0 x1 t
    rw [fX3_init_177]
    refine g_iload_n (pc := 177) X 1 dX3_init_177 rfl rfl ?_
    refine g_bipush (pc := 178) X 24 dX3_init_178 rfl ?_
    refine g_icmp_ge (pc := 180) X 197 dX3_init_180 (by decide) ?_ ?_
    · exact g_vret (pc := 197) X hr dX3_init_197
    · refine g_aload_n (pc := 183) X 0 dX3_init_183 rfl rfl ?_
      refine cg_getA (pc := 184) X fo_X3_7 dX3_init_184 (fun v1 => ?_)
      refine g_iload_n (pc := 187) X 1 dX3_init_187 rfl rfl ?_
      refine g_bipush (pc := 188) X 12 dX3_init_188 rfl ?_
      refine cg_iast (pc := 190) X dX3_init_190 (fun t2 => ?_)
      refine g_iinc (pc := 191) X 1 1 (lv' := [(1, .int (x1 + 1)), (0, .ref h0)]) dX3_init_191 rfl rfl (by decide) rfl ?_
      refine g_goto (pc := 194) X 177 dX3_init_194 (by decide) ?_
      exact g_lv (pc := 177) (lv' := [(0, .ref h0), (1, .int (x1 + 1))]) [1, 0] rfl (ih h0 (x1 + 1) t2)
noncomputable def fX3_init_157 (ex : Nat → Option Nat) (z : Nat) : Nat → Nat → Int32 → St → Option (Unit × St)
  | 0, _, _, _ => none
  | n + 1, h0, x1, t => if 4 ≤ x1 then fX3_init_177 ex z 1000 h0 0 t else cgA [3] 23 t h0 fun v1 => cast_ 2 (fun x => x) t v1 x1 (-1) fun t2 => fX3_init_157 ex z n h0 (x1 + 1) t2
set_option maxHeartbeats 4000000 in
theorem wX3_init_157 {rF : Unit} (hex : ex = Γ.2.2.2.2) (X : g_X Γ p s m args meth c cX3_init 2 RX3) (hr : meth.sig.returnType = none) (hin : meth.name = "<init>") (n : Nat) : ∀ (h0 : Nat) (x1 : Int32) (t : St), Wf Γ p l e 1 12 s m args below meth c 2 (g_ι z) v_v rF tF 157 [(0, .ref h0), (1, .int x1)] [] t (fX3_init_157 ex z n h0 x1 t) := by
  induction n with
  | zero => intro h0 x1 t; exact g_none
  | succ n ih =>
    intro h0 x1 t
    rw [fX3_init_157]
    refine g_iload_n (pc := 157) X 1 dX3_init_157 rfl rfl ?_
    refine g_iconst (pc := 158) X 4 dX3_init_158 rfl ?_
    refine g_icmp_ge (pc := 159) X 175 dX3_init_159 (by decide) ?_ ?_
    · refine g_iconst (pc := 175) X 0 dX3_init_175 rfl ?_
      refine g_istore_n (pc := 176) X (lv' := [(1, .int 0), (0, .ref h0)]) dX3_init_176 rfl (by decide) rfl ?_
      exact g_lv (pc := 177) (lv' := [(0, .ref h0), (1, .int 0)]) [1, 0] rfl (wX3_init_177 hex X hr hin 1000 h0 0 t)
    · refine g_aload_n (pc := 162) X 0 dX3_init_162 rfl rfl ?_
      refine cg_getA (pc := 163) X fo_X3_59 dX3_init_163 (fun v1 => ?_)
      refine g_iload_n (pc := 166) X 1 dX3_init_166 rfl rfl ?_
      refine g_iconst (pc := 167) X (-1) dX3_init_167 rfl ?_
      refine cg_iast (pc := 168) X dX3_init_168 (fun t2 => ?_)
      refine g_iinc (pc := 169) X 1 1 (lv' := [(1, .int (x1 + 1)), (0, .ref h0)]) dX3_init_169 rfl rfl (by decide) rfl ?_
      refine g_goto (pc := 172) X 157 dX3_init_172 (by decide) ?_
      exact g_lv (pc := 157) (lv' := [(0, .ref h0), (1, .int (x1 + 1))]) [1, 0] rfl (ih h0 (x1 + 1) t2)
noncomputable def fX3_init (ex : Nat → Option Nat) (z : Nat) (h0 : Nat) (t : St) : Option (Unit × St) := cnewa z 2 63 t fun a1 t2 => cput [3] 0 t2 h0 (.ref a1) fun t3 => cnewa z 2 9 t3 fun a4 t5 => cput [3] 1 t5 h0 (.ref a4) fun t6 => cnewa z 2 9 t6 fun a7 t8 => cput [3] 2 t8 h0 (.ref a7) fun t9 => cput [3] 4 t9 h0 (.int 8) fun t10 => cnewa z 2 12 t10 fun a11 t12 => cput [3] 5 t12 h0 (.ref a11) fun t13 => cput [3] 6 t13 h0 (.int 1) fun t14 => cput [3] 7 t14 h0 (.int (-1)) fun t15 => cnewa z 2 6 t15 fun a16 t17 => cput [3] 8 t17 h0 (.ref a16) fun t18 => cnewa z 2 6 t18 fun a19 t20 => cput [3] 9 t20 h0 (.ref a19) fun t21 => cnewa z 2 30 t21 fun a22 t23 => cput [3] 11 t23 h0 (.ref a22) fun t24 => cput [3] 13 t24 h0 (.int 1) fun t25 => cnewa z 2 160 t25 fun a26 t27 => cput [3] 14 t27 h0 (.ref a26) fun t28 => cnewa z 2 480 t28 fun a29 t30 => cput [3] 18 t30 h0 (.ref a29) fun t31 => cnewa z 2 63 t31 fun a32 t33 => cput [3] 19 t33 h0 (.ref a32) fun t34 => cnewa z 2 144 t34 fun a35 t36 => cput [3] 20 t36 h0 (.ref a35) fun t37 => cnewa z 2 155 t37 fun a38 t39 => cput [3] 22 t39 h0 (.ref a38) fun t40 => cnewa z 2 4 t40 fun a41 t42 => cput [3] 23 t42 h0 (.ref a41) fun t43 => cnewa z 2 4 t43 fun a44 t45 => cput [3] 24 t45 h0 (.ref a44) fun t46 => cnewa z 3 96 t46 fun a47 t48 => cput [3] 25 t48 h0 (.ref a47) fun t49 => cnewa z 3 24 t49 fun a50 t51 => cput [3] 26 t51 h0 (.ref a50) fun t52 => fX3_init_157 ex z 1000 h0 0 t52
set_option maxHeartbeats 4000000 in
theorem wX3_init {rF : Unit} (hex : ex = Γ.2.2.2.2) (X : g_X Γ p s m args meth c cX3_init 2 RX3) (hr : meth.sig.returnType = none) (hin : meth.name = "<init>") (h0 : Nat) (t : St) : Wf Γ p l e 1 12 s m args below meth c 2 (g_ι z) v_v rF tF 0 [(0, .ref h0)] [] t (fX3_init ex z h0 t) := by
  unfold fX3_init
  refine g_aload_n (pc := 0) X 0 dX3_init_0 rfl rfl ?_
  refine cg_obj (pc := 1) X dX3_init_1 q1679 q149 q150 (Nat.le_of_ble_eq_true rfl) (Nat.le_of_ble_eq_true rfl) ?_
  refine g_aload_n (pc := 4) X 0 dX3_init_4 rfl rfl ?_
  refine g_bipush (pc := 5) X 63 dX3_init_5 rfl ?_
  refine cg_newa (pc := 7) X (j := 2) dX3_init_7 (by decide) rfl rfl (fun _ _ => rfl) (by decide) q1392 (fun a1 t2 => ?_)
  refine cg_put (pc := 9) X fp_X3_7 dX3_init_9 (fun _ => hin) rfl rfl (fun t3 => ?_)
  refine g_aload_n (pc := 12) X 0 dX3_init_12 rfl rfl ?_
  refine g_bipush (pc := 13) X 9 dX3_init_13 rfl ?_
  refine cg_newa (pc := 15) X (j := 2) dX3_init_15 (by decide) rfl rfl (fun _ _ => rfl) (by decide) q1392 (fun a4 t5 => ?_)
  refine cg_put (pc := 17) X fp_X3_13 dX3_init_17 (fun _ => hin) rfl rfl (fun t6 => ?_)
  refine g_aload_n (pc := 20) X 0 dX3_init_20 rfl rfl ?_
  refine g_bipush (pc := 21) X 9 dX3_init_21 rfl ?_
  refine cg_newa (pc := 23) X (j := 2) dX3_init_23 (by decide) rfl rfl (fun _ _ => rfl) (by decide) q1392 (fun a7 t8 => ?_)
  refine cg_put (pc := 25) X fp_X3_16 dX3_init_25 (fun _ => hin) rfl rfl (fun t9 => ?_)
  refine g_aload_n (pc := 28) X 0 dX3_init_28 rfl rfl ?_
  refine g_bipush (pc := 29) X 8 dX3_init_29 rfl ?_
  refine cg_put (pc := 31) X fp_X3_19 dX3_init_31 (fun h => by cases h) rfl rfl (fun t10 => ?_)
  refine g_aload_n (pc := 34) X 0 dX3_init_34 rfl rfl ?_
  refine g_bipush (pc := 35) X 12 dX3_init_35 rfl ?_
  refine cg_newa (pc := 37) X (j := 2) dX3_init_37 (by decide) rfl rfl (fun _ _ => rfl) (by decide) q1392 (fun a11 t12 => ?_)
  refine cg_put (pc := 39) X fp_X3_23 dX3_init_39 (fun _ => hin) rfl rfl (fun t13 => ?_)
  refine g_aload_n (pc := 42) X 0 dX3_init_42 rfl rfl ?_
  refine g_iconst (pc := 43) X 1 dX3_init_43 rfl ?_
  refine cg_put (pc := 44) X fp_X3_26 dX3_init_44 (fun h => by cases h) rfl rfl (fun t14 => ?_)
  refine g_aload_n (pc := 47) X 0 dX3_init_47 rfl rfl ?_
  refine g_iconst (pc := 48) X (-1) dX3_init_48 rfl ?_
  refine cg_put (pc := 49) X fp_X3_29 dX3_init_49 (fun h => by cases h) rfl rfl (fun t15 => ?_)
  refine g_aload_n (pc := 52) X 0 dX3_init_52 rfl rfl ?_
  refine g_bipush (pc := 53) X 6 dX3_init_53 rfl ?_
  refine cg_newa (pc := 55) X (j := 2) dX3_init_55 (by decide) rfl rfl (fun _ _ => rfl) (by decide) q1392 (fun a16 t17 => ?_)
  refine cg_put (pc := 57) X fp_X3_32 dX3_init_57 (fun _ => hin) rfl rfl (fun t18 => ?_)
  refine g_aload_n (pc := 60) X 0 dX3_init_60 rfl rfl ?_
  refine g_bipush (pc := 61) X 6 dX3_init_61 rfl ?_
  refine cg_newa (pc := 63) X (j := 2) dX3_init_63 (by decide) rfl rfl (fun _ _ => rfl) (by decide) q1392 (fun a19 t20 => ?_)
  refine cg_put (pc := 65) X fp_X3_35 dX3_init_65 (fun _ => hin) rfl rfl (fun t21 => ?_)
  refine g_aload_n (pc := 68) X 0 dX3_init_68 rfl rfl ?_
  refine g_bipush (pc := 69) X 30 dX3_init_69 rfl ?_
  refine cg_newa (pc := 71) X (j := 2) dX3_init_71 (by decide) rfl rfl (fun _ _ => rfl) (by decide) q1392 (fun a22 t23 => ?_)
  refine cg_put (pc := 73) X fp_X3_38 dX3_init_73 (fun _ => hin) rfl rfl (fun t24 => ?_)
  refine g_aload_n (pc := 76) X 0 dX3_init_76 rfl rfl ?_
  refine g_iconst (pc := 77) X 1 dX3_init_77 rfl ?_
  refine cg_put (pc := 78) X fp_X3_41 dX3_init_78 (fun h => by cases h) rfl rfl (fun t25 => ?_)
  refine g_aload_n (pc := 81) X 0 dX3_init_81 rfl rfl ?_
  refine g_sipush (pc := 82) X 160 dX3_init_82 rfl ?_
  refine cg_newa (pc := 85) X (j := 2) dX3_init_85 (by decide) rfl rfl (fun _ _ => rfl) (by decide) q1392 (fun a26 t27 => ?_)
  refine cg_put (pc := 87) X fp_X3_44 dX3_init_87 (fun _ => hin) rfl rfl (fun t28 => ?_)
  refine g_aload_n (pc := 90) X 0 dX3_init_90 rfl rfl ?_
  refine g_sipush (pc := 91) X 480 dX3_init_91 rfl ?_
  refine cg_newa (pc := 94) X (j := 2) dX3_init_94 (by decide) rfl rfl (fun _ _ => rfl) (by decide) q1392 (fun a29 t30 => ?_)
  refine cg_put (pc := 96) X fp_X3_47 dX3_init_96 (fun _ => hin) rfl rfl (fun t31 => ?_)
  refine g_aload_n (pc := 99) X 0 dX3_init_99 rfl rfl ?_
  refine g_bipush (pc := 100) X 63 dX3_init_100 rfl ?_
  refine cg_newa (pc := 102) X (j := 2) dX3_init_102 (by decide) rfl rfl (fun _ _ => rfl) (by decide) q1392 (fun a32 t33 => ?_)
  refine cg_put (pc := 104) X fp_X3_50 dX3_init_104 (fun _ => hin) rfl rfl (fun t34 => ?_)
  refine g_aload_n (pc := 107) X 0 dX3_init_107 rfl rfl ?_
  refine g_sipush (pc := 108) X 144 dX3_init_108 rfl ?_
  refine cg_newa (pc := 111) X (j := 2) dX3_init_111 (by decide) rfl rfl (fun _ _ => rfl) (by decide) q1392 (fun a35 t36 => ?_)
  refine cg_put (pc := 113) X fp_X3_53 dX3_init_113 (fun _ => hin) rfl rfl (fun t37 => ?_)
  refine g_aload_n (pc := 116) X 0 dX3_init_116 rfl rfl ?_
  refine g_sipush (pc := 117) X 155 dX3_init_117 rfl ?_
  refine cg_newa (pc := 120) X (j := 2) dX3_init_120 (by decide) rfl rfl (fun _ _ => rfl) (by decide) q1392 (fun a38 t39 => ?_)
  refine cg_put (pc := 122) X fp_X3_56 dX3_init_122 (fun _ => hin) rfl rfl (fun t40 => ?_)
  refine g_aload_n (pc := 125) X 0 dX3_init_125 rfl rfl ?_
  refine g_iconst (pc := 126) X 4 dX3_init_126 rfl ?_
  refine cg_newa (pc := 127) X (j := 2) dX3_init_127 (by decide) rfl rfl (fun _ _ => rfl) (by decide) q1392 (fun a41 t42 => ?_)
  refine cg_put (pc := 129) X fp_X3_59 dX3_init_129 (fun _ => hin) rfl rfl (fun t43 => ?_)
  refine g_aload_n (pc := 132) X 0 dX3_init_132 rfl rfl ?_
  refine g_iconst (pc := 133) X 4 dX3_init_133 rfl ?_
  refine cg_newa (pc := 134) X (j := 2) dX3_init_134 (by decide) rfl rfl (fun _ _ => rfl) (by decide) q1392 (fun a44 t45 => ?_)
  refine cg_put (pc := 136) X fp_X3_62 dX3_init_136 (fun _ => hin) rfl rfl (fun t46 => ?_)
  refine g_aload_n (pc := 139) X 0 dX3_init_139 rfl rfl ?_
  refine g_bipush (pc := 140) X 96 dX3_init_140 rfl ?_
  refine cg_newa (pc := 142) X (j := 3) dX3_init_142 (by decide) rfl rfl (fun _ _ => rfl) (by decide) q1393 (fun a47 t48 => ?_)
  refine cg_put (pc := 144) X fp_X3_65 dX3_init_144 (fun _ => hin) rfl rfl (fun t49 => ?_)
  refine g_aload_n (pc := 147) X 0 dX3_init_147 rfl rfl ?_
  refine g_bipush (pc := 148) X 24 dX3_init_148 rfl ?_
  refine cg_newa (pc := 150) X (j := 3) dX3_init_150 (by decide) rfl rfl (fun _ _ => rfl) (by decide) q1393 (fun a50 t51 => ?_)
  refine cg_put (pc := 152) X fp_X3_69 dX3_init_152 (fun _ => hin) rfl rfl (fun t52 => ?_)
  refine g_iconst (pc := 155) X 0 dX3_init_155 rfl ?_
  refine g_istore_n (pc := 156) X (lv' := [(1, .int 0), (0, .ref h0)]) dX3_init_156 rfl (by decide) rfl ?_
  exact g_lv (pc := 157) (lv' := [(0, .ref h0), (1, .int 0)]) [1, 0] rfl (wX3_init_157 hex X hr hin 1000 h0 0 t52)
theorem kX3_init {ex : Nat → Option Nat} {z : Nat} {h0 : Nat} {σ : Sg} {r : Unit} {u : St} (hex : ex = Γ.2.2.2.2) (h : fX3_init ex z h0 (σ, 0, 0) = some (r, u)) : g_C Γ l yX3_init cX3_init 2 none 1 12 [.ref h0] σ z v_v r (g_ι z u) :=
  g_met (ι := g_ι z) (t := (σ, 0, 0)) [.ref h0] (by decide) (Nat.le_of_ble_eq_true rfl) h rfl (fun p e s m args below meth c X hr hn => wX3_init hex X hr hn h0 (σ, 0, 0))
end CP
noncomputable def fv_X4_shown (ex : Nat → Option Nat) (z : Nat) (h0 : Nat) (h1 : Nat) (t : St) : Option (Int32 × St) := ccls t h0 fun ci => if ci = 4 then fX4_shown ex z h0 h1 t else if ci = 5 then fX4_shown ex z h0 h1 t else if ci = 6 then fX4_shown ex z h0 h1 t else if ci = 7 then fX7_shown ex z h0 h1 t else if ci = 8 then fX8_shown ex z h0 h1 t else if ci = 9 then fX4_shown ex z h0 h1 t else none
theorem fv_X4_shown_4 {ex : Nat → Option Nat} {z : Nat} {h0 : Nat} {h1 : Nat} {σ : Sg} {fl : Bool} {fs : List Value} (hs : σ h0 = some (fl, .inr (4, fs))) : fv_X4_shown ex z h0 h1 (σ, 0, 0) = fX4_shown ex z h0 h1 (σ, 0, 0) := by simp [fv_X4_shown, ccls, hs]
theorem fv_X4_shown_5 {ex : Nat → Option Nat} {z : Nat} {h0 : Nat} {h1 : Nat} {σ : Sg} {fl : Bool} {fs : List Value} (hs : σ h0 = some (fl, .inr (5, fs))) : fv_X4_shown ex z h0 h1 (σ, 0, 0) = fX4_shown ex z h0 h1 (σ, 0, 0) := by simp [fv_X4_shown, ccls, hs]
theorem fv_X4_shown_6 {ex : Nat → Option Nat} {z : Nat} {h0 : Nat} {h1 : Nat} {σ : Sg} {fl : Bool} {fs : List Value} (hs : σ h0 = some (fl, .inr (6, fs))) : fv_X4_shown ex z h0 h1 (σ, 0, 0) = fX4_shown ex z h0 h1 (σ, 0, 0) := by simp [fv_X4_shown, ccls, hs]
theorem fv_X4_shown_7 {ex : Nat → Option Nat} {z : Nat} {h0 : Nat} {h1 : Nat} {σ : Sg} {fl : Bool} {fs : List Value} (hs : σ h0 = some (fl, .inr (7, fs))) : fv_X4_shown ex z h0 h1 (σ, 0, 0) = fX7_shown ex z h0 h1 (σ, 0, 0) := by simp [fv_X4_shown, ccls, hs]
theorem fv_X4_shown_8 {ex : Nat → Option Nat} {z : Nat} {h0 : Nat} {h1 : Nat} {σ : Sg} {fl : Bool} {fs : List Value} (hs : σ h0 = some (fl, .inr (8, fs))) : fv_X4_shown ex z h0 h1 (σ, 0, 0) = fX8_shown ex z h0 h1 (σ, 0, 0) := by simp [fv_X4_shown, ccls, hs]
theorem fv_X4_shown_9 {ex : Nat → Option Nat} {z : Nat} {h0 : Nat} {h1 : Nat} {σ : Sg} {fl : Bool} {fs : List Value} (hs : σ h0 = some (fl, .inr (9, fs))) : fv_X4_shown ex z h0 h1 (σ, 0, 0) = fX4_shown ex z h0 h1 (σ, 0, 0) := by simp [fv_X4_shown, ccls, hs]
abbrev cX4_strikes : ByteArray := prog_11_method_4_code
def yX4_strikes : MethodName := ⟨RX4, "strikes", "(LLameClocks$Street;)I"⟩
def dkwX4_strikes_0 : List UInt8 := [42, 43, 182, 0, 18, 16, 60, 108, 172]
abbrev dktX4_strikes_0 : List UInt8 := dkwX4_strikes_0 ++ []
theorem dksX4_strikes_0 : cX4_strikes.data.toList.drop 0 = dktX4_strikes_0 := by decide +kernel
theorem dX4_strikes_0 : decode cX4_strikes 0 = .ok (.aload_n 0, 1) := dk_42 (dk_at dksX4_strikes_0 0 rfl rfl)
theorem dX4_strikes_1 : decode cX4_strikes 1 = .ok (.aload_n 1, 1) := dk_43 (dk_at dksX4_strikes_0 1 rfl rfl)
theorem dX4_strikes_2 : decode cX4_strikes 2 = .ok (.invokevirtual 18, 3) := dk_182 0 18 (dk_at dksX4_strikes_0 2 rfl rfl)
theorem dX4_strikes_5 : decode cX4_strikes 5 = .ok (.bipush 60, 2) := dk_16 60 (dk_at dksX4_strikes_0 5 rfl rfl)
theorem dX4_strikes_7 : decode cX4_strikes 7 = .ok (.idiv, 1) := dk_108 (dk_at dksX4_strikes_0 7 rfl rfl)
theorem dX4_strikes_8 : decode cX4_strikes 8 = .ok (.ireturn, 1) := dk_172 (dk_at dksX4_strikes_0 8 rfl rfl)
section CP
variable {Γ : Gc} {p : Program} {l : Launch} {e : Env} {s : State} {m : MethodId} {args : Array Value} {below : List Frame} {meth : Method} {c : Code} {ex : Nat → Option Nat} {z : Nat} {tF : St}
noncomputable def fX4_strikes (ex : Nat → Option Nat) (z : Nat) (h0 : Nat) (h1 : Nat) (t : St) : Option (Int32 × St) := ccast [4, 5, 6, 7, 8, 9] t h0 (gb (fv_X4_shown ex (z + t.2.1) h0 h1 (t.1, 0, 0)) t fun r1 t2 => some (r1 / 60, t2))
set_option maxHeartbeats 4000000 in
theorem wX4_strikes {rF : Int32} (hex : ex = Γ.2.2.2.2) (X : g_X Γ p s m args meth c cX4_strikes 2 RX4) (hr : meth.sig.returnType = (some .int)) (h0 : Nat) (h1 : Nat) (t : St) : Wf Γ p l e 15 316 s m args below meth c 2 (g_ι z) v_i rF tF 0 [(0, .ref h0), (1, .ref h1)] [] t (fX4_strikes ex z h0 h1 t) := by
  unfold fX4_strikes
  refine g_aload_n (pc := 0) X 0 dX4_strikes_0 rfl rfl ?_
  refine g_aload_n (pc := 1) X 1 dX4_strikes_1 rfl rfl ?_
  refine g_bD_i (pc := 2) X (cs := [4, 5, 6, 7, 8, 9]) (As := [.ref h1]) (rest := []) (b := h0) (n := 1) dX4_strikes_2 rfl rfl (Nat.le_of_ble_eq_true rfl) (fun fl3 ci4 fs5 hs6 hci7 r u h => ?_) (fun r1 t2 => ?_)
  · simp only [List.mem_cons, List.not_mem_nil, or_false] at hci7
    rcases hci7 with rfl | rfl | rfl | rfl | rfl | rfl
    · exact ⟨_, _, _, yX4_shown, _, _, _, 0, 0, rfl, kX4_shown hex (by rw [fv_X4_shown_4 hs6] at h; exact h), Or.inl (cwV 1 X.2.2.2.2.1 (lw_V q454 q405 q406 q77 q443) rfl rfl rfl dmV_X4_shown ⟨Nat.le_of_ble_eq_true rfl, Nat.le_of_ble_eq_true rfl⟩)⟩
    · exact ⟨_, _, _, yX4_shown, _, _, _, 0, 0, rfl, kX4_shown hex (by rw [fv_X4_shown_5 hs6] at h; exact h), Or.inr (Or.inl ⟨_, _, va_cwU 1 X.2.2.2.2.1 (lw_U q454 q407 q408 q405 q77 q443) rfl rfl rfl rfl dmU_X4_shown1 ⟨Nat.le_of_ble_eq_true rfl, Nat.le_of_ble_eq_true rfl⟩⟩)⟩
    · exact ⟨_, _, _, yX4_shown, _, _, _, 0, 0, rfl, kX4_shown hex (by rw [fv_X4_shown_6 hs6] at h; exact h), Or.inr (Or.inl ⟨_, _, va_cwU 1 X.2.2.2.2.1 (lw_U q454 q407 q410 q405 q77 q443) rfl rfl rfl rfl dmU_X4_shown1 ⟨Nat.le_of_ble_eq_true rfl, Nat.le_of_ble_eq_true rfl⟩⟩)⟩
    · exact ⟨_, _, _, yX7_shown, _, _, _, 2, 40, rfl, kX7_shown hex (by rw [fv_X4_shown_7 hs6] at h; exact h), Or.inr (Or.inl ⟨_, _, va_cwO 1 X.2.2.2.2.1 (lw_O q454 q407 q405 q411 q412 q80 q413) rfl rfl rfl q443 dmU_X4_shown1 ⟨Nat.le_of_ble_eq_true rfl, Nat.le_of_ble_eq_true rfl⟩⟩)⟩
    · exact ⟨_, _, _, yX8_shown, _, _, _, 14, 295, rfl, kX8_shown hex (by rw [fv_X4_shown_8 hs6] at h; exact h), Or.inr (Or.inl ⟨_, _, va_cwO 1 X.2.2.2.2.1 (lw_O q454 q407 q405 q432 q433 q81 q434) rfl rfl rfl q443 dmU_X4_shown1 ⟨Nat.le_of_ble_eq_true rfl, Nat.le_of_ble_eq_true rfl⟩⟩)⟩
    · exact ⟨_, _, _, yX4_shown, _, _, _, 0, 0, rfl, kX4_shown hex (by rw [fv_X4_shown_9 hs6] at h; exact h), Or.inr (Or.inl ⟨_, _, va_cwU 1 X.2.2.2.2.1 (lw_U q454 q407 q409 q405 q77 q443) rfl rfl rfl rfl dmU_X4_shown1 ⟨Nat.le_of_ble_eq_true rfl, Nat.le_of_ble_eq_true rfl⟩⟩)⟩
  refine g_bipush (pc := 5) X 60 dX4_strikes_5 rfl ?_
  refine g_idiv (pc := 7) X dX4_strikes_7 (by decide) ?_
  exact g_iret (pc := 8) X hr dX4_strikes_8
theorem kX4_strikes {ex : Nat → Option Nat} {z : Nat} {h0 : Nat} {h1 : Nat} {σ : Sg} {r : Int32} {u : St} (hex : ex = Γ.2.2.2.2) (h : fX4_strikes ex z h0 h1 (σ, 0, 0) = some (r, u)) : g_C Γ l yX4_strikes cX4_strikes 2 (some .int) 15 316 [.ref h0, .ref h1] σ z v_i r (g_ι z u) :=
  g_met (ι := g_ι z) (t := (σ, 0, 0)) [.ref h0, .ref h1] (by decide) (Nat.le_of_ble_eq_true rfl) h rfl (fun p e s m args below meth c X hr hn => wX4_strikes hex X hr h0 h1 (σ, 0, 0))
end CP
abbrev cX4_goes : ByteArray := prog_11_method_6_code
def yX4_goes : MethodName := ⟨RX4, "goes", "(LLameClocks$Street;)Z"⟩
def dkwX4_goes_1 : List UInt8 := [182, 0, 22, 160, 0, 7, 4, 167, 0, 4, 3, 172]
abbrev dktX4_goes_1 : List UInt8 := dkwX4_goes_1 ++ []
def dkwX4_goes_0 : List UInt8 := [43, 42, 180, 0, 25, 4, 96, 185, 0, 28, 2, 0, 61, 28, 16, 12, 159, 0, 12, 28, 42, 43]
abbrev dktX4_goes_0 : List UInt8 := dkwX4_goes_0 ++ dktX4_goes_1
theorem dksX4_goes_0 : cX4_goes.data.toList.drop 0 = dktX4_goes_0 := by decide +kernel
theorem dksX4_goes_1 : cX4_goes.data.toList.drop 22 = dktX4_goes_1 := dk_seg dksX4_goes_0 22 rfl rfl
theorem dX4_goes_0 : decode cX4_goes 0 = .ok (.aload_n 1, 1) := dk_43 (dk_at dksX4_goes_0 0 rfl rfl)
theorem dX4_goes_1 : decode cX4_goes 1 = .ok (.aload_n 0, 1) := dk_42 (dk_at dksX4_goes_0 1 rfl rfl)
theorem dX4_goes_2 : decode cX4_goes 2 = .ok (.getfield 25, 3) := dk_180 0 25 (dk_at dksX4_goes_0 2 rfl rfl)
theorem dX4_goes_5 : decode cX4_goes 5 = .ok (.iconst 1, 1) := dk_4 (dk_at dksX4_goes_0 5 rfl rfl)
theorem dX4_goes_6 : decode cX4_goes 6 = .ok (.iadd, 1) := dk_96 (dk_at dksX4_goes_0 6 rfl rfl)
theorem dX4_goes_7 : decode cX4_goes 7 = .ok (.invokeinterface 28 2, 5) := by decide +kernel
theorem dX4_goes_12 : decode cX4_goes 12 = .ok (.istore_n 2, 1) := dk_61 (dk_at dksX4_goes_0 12 rfl rfl)
theorem dX4_goes_13 : decode cX4_goes 13 = .ok (.iload_n 2, 1) := dk_28 (dk_at dksX4_goes_0 13 rfl rfl)
theorem dX4_goes_14 : decode cX4_goes 14 = .ok (.bipush 12, 2) := dk_16 12 (dk_at dksX4_goes_0 14 rfl rfl)
theorem dX4_goes_16 : decode cX4_goes 16 = .ok (.if_icmp .eq 12, 3) := dk_159 0 12 (dk_at dksX4_goes_0 16 rfl rfl)
theorem dX4_goes_19 : decode cX4_goes 19 = .ok (.iload_n 2, 1) := dk_28 (dk_at dksX4_goes_0 19 rfl rfl)
theorem dX4_goes_20 : decode cX4_goes 20 = .ok (.aload_n 0, 1) := dk_42 (dk_at dksX4_goes_0 20 rfl rfl)
theorem dX4_goes_21 : decode cX4_goes 21 = .ok (.aload_n 1, 1) := dk_43 (dk_at dksX4_goes_0 21 rfl rfl)
theorem dX4_goes_22 : decode cX4_goes 22 = .ok (.invokevirtual 22, 3) := dk_182 0 22 (dk_at dksX4_goes_1 0 rfl rfl)
theorem dX4_goes_25 : decode cX4_goes 25 = .ok (.if_icmp .ne 7, 3) := dk_160 0 7 (dk_at dksX4_goes_1 3 rfl rfl)
theorem dX4_goes_28 : decode cX4_goes 28 = .ok (.iconst 1, 1) := dk_4 (dk_at dksX4_goes_1 6 rfl rfl)
theorem dX4_goes_29 : decode cX4_goes 29 = .ok (.goto 4, 3) := dk_167 0 4 (dk_at dksX4_goes_1 7 rfl rfl)
theorem dX4_goes_32 : decode cX4_goes 32 = .ok (.iconst 0, 1) := dk_3 (dk_at dksX4_goes_1 10 rfl rfl)
theorem dX4_goes_33 : decode cX4_goes 33 = .ok (.ireturn, 1) := dk_172 (dk_at dksX4_goes_1 11 rfl rfl)
theorem dmF_X21_dial1 : (⟨"LameClocks$Street", "dial", "(I)I"⟩ : MethodName).cls ≠ "java/lang/invoke/MethodHandle" ∧ (⟨"LameClocks$Street", "dial", "(I)I"⟩ : MethodName).cls ≠ "java/lang/invoke/VarHandle" ∧ (parseMethodDescriptor (⟨"LameClocks$Street", "dial", "(I)I"⟩ : MethodName).desc).map (fun d => d.parameters.length) = some 1 := by decide +kernel
theorem dmV_X4_strikes : yX4_strikes.cls = RX4 ∧ yX4_strikes.cls ≠ "java/lang/invoke/MethodHandle" ∧ yX4_strikes.cls ≠ "java/lang/invoke/VarHandle" ∧ (parseMethodDescriptor yX4_strikes.desc).map (fun d => d.parameters.length) = some 1 := by decide +kernel
theorem dmU_X4_strikes1 : "LameClocks$Plain" ≠ "java/lang/invoke/MethodHandle" ∧ "LameClocks$Plain" ≠ "java/lang/invoke/VarHandle" ∧ (parseMethodDescriptor "(LLameClocks$Street;)I").map (fun d => d.parameters.length) = some 1 := by decide +kernel
section CP
variable {Γ : Gc} {p : Program} {l : Launch} {e : Env} {s : State} {m : MethodId} {args : Array Value} {below : List Frame} {meth : Method} {c : Code} {ex : Nat → Option Nat} {z : Nat} {tF : St}
noncomputable def fX4_goes (ex : Nat → Option Nat) (z : Nat) (h0 : Nat) (h1 : Nat) (t : St) : Option (Int32 × St) := cgI [4, 5, 6, 7, 8, 9] 4 t h0 fun v1 => ccast [1] t h1 (gb (fX1_dial ex (z + t.2.1) h1 (v1 + 1) (t.1, 0, 0)) t fun r2 t3 => if r2 = 12 then some (1, t3) else ccast [4, 5, 6, 7, 8, 9] t3 h0 (gb (fX4_strikes ex (z + t3.2.1) h0 h1 (t3.1, 0, 0)) t3 fun r9 t10 => if r2 = r9 then some (1, t10) else some (0, t10)))
set_option maxHeartbeats 4000000 in
theorem wX4_goes {rF : Int32} (hex : ex = Γ.2.2.2.2) (X : g_X Γ p s m args meth c cX4_goes 3 RX4) (hr : meth.sig.returnType = (some .boolean)) (h0 : Nat) (h1 : Nat) (t : St) : Wf Γ p l e 16 337 s m args below meth c 3 (g_ι z) v_i rF tF 0 [(0, .ref h0), (1, .ref h1)] [] t (fX4_goes ex z h0 h1 t) := by
  unfold fX4_goes
  refine g_aload_n (pc := 0) X 1 dX4_goes_0 rfl rfl ?_
  refine g_aload_n (pc := 1) X 0 dX4_goes_1 rfl rfl ?_
  refine cg_getI (pc := 2) X fo_X4_25 dX4_goes_2 (fun v1 => ?_)
  refine g_iconst (pc := 5) X 1 dX4_goes_5 rfl ?_
  refine g_iadd (pc := 6) X dX4_goes_6 ?_
  refine g_bDF_i (pc := 7) X (cs := [1]) (As := [.int (v1 + 1)]) (rest := []) (b := h1) (n := 1) dX4_goes_7 rfl rfl (Nat.le_of_ble_eq_true rfl) (fun fl4 ci5 fs6 hs7 hci8 r u h => ?_) (fun r2 t3 => ?_)
  · obtain rfl := List.mem_singleton.mp hci8
    exact ⟨_, _, _, yX1_dial, _, _, _, 0, 0, rfl, kX1_dial hex h, ⟨_, va_cwF 1 X.2.2.2.2.1 (lw_F q568 q571 q472 q71 q474) rfl rfl rfl (X.2.2.2.2.2.2.1.fw ⟨by decide, by decide⟩ q570 q569 q573 q572 q418) dmF_X21_dial1 ⟨Nat.le_of_ble_eq_true rfl, Nat.le_of_ble_eq_true rfl⟩⟩⟩
  refine g_istore_n (pc := 12) X (lv' := [(2, .int r2), (0, .ref h0), (1, .ref h1)]) dX4_goes_12 rfl (by decide) rfl ?_
  refine g_iload_n (pc := 13) X 0 dX4_goes_13 rfl rfl ?_
  refine g_bipush (pc := 14) X 12 dX4_goes_14 rfl ?_
  refine g_icmp_eq (pc := 16) X 28 dX4_goes_16 (by decide) ?_ ?_
  · refine g_iconst (pc := 28) X 1 dX4_goes_28 rfl ?_
    refine g_goto (pc := 29) X 33 dX4_goes_29 (by decide) ?_
    exact g_zret (pc := 33) X hr rfl dX4_goes_33
  · refine g_iload_n (pc := 19) X 0 dX4_goes_19 rfl rfl ?_
    refine g_aload_n (pc := 20) X 1 dX4_goes_20 rfl rfl ?_
    refine g_aload_n (pc := 21) X 2 dX4_goes_21 rfl rfl ?_
    refine g_bD_i (pc := 22) X (cs := [4, 5, 6, 7, 8, 9]) (As := [.ref h1]) (rest := [.int r2]) (b := h0) (n := 1) dX4_goes_22 rfl rfl (Nat.le_of_ble_eq_true rfl) (fun fl11 ci12 fs13 hs14 hci15 r u h => ?_) (fun r9 t10 => ?_)
    · simp only [List.mem_cons, List.not_mem_nil, or_false] at hci15
      rcases hci15 with rfl | rfl | rfl | rfl | rfl | rfl
      · exact ⟨_, _, _, yX4_strikes, _, _, _, 15, 316, rfl, kX4_strikes hex h, Or.inl (cwV 1 X.2.2.2.2.1 (lw_V q574 q445 q446 q77 q453) rfl rfl rfl dmV_X4_strikes ⟨Nat.le_of_ble_eq_true rfl, Nat.le_of_ble_eq_true rfl⟩)⟩
      · exact ⟨_, _, _, yX4_strikes, _, _, _, 15, 316, rfl, kX4_strikes hex h, Or.inr (Or.inl ⟨_, _, va_cwU 1 X.2.2.2.2.1 (lw_U q574 q447 q448 q445 q77 q453) rfl rfl rfl rfl dmU_X4_strikes1 ⟨Nat.le_of_ble_eq_true rfl, Nat.le_of_ble_eq_true rfl⟩⟩)⟩
      · exact ⟨_, _, _, yX4_strikes, _, _, _, 15, 316, rfl, kX4_strikes hex h, Or.inr (Or.inl ⟨_, _, va_cwU 1 X.2.2.2.2.1 (lw_U q574 q447 q450 q445 q77 q453) rfl rfl rfl rfl dmU_X4_strikes1 ⟨Nat.le_of_ble_eq_true rfl, Nat.le_of_ble_eq_true rfl⟩⟩)⟩
      · exact ⟨_, _, _, yX4_strikes, _, _, _, 15, 316, rfl, kX4_strikes hex h, Or.inr (Or.inl ⟨_, _, va_cwU 1 X.2.2.2.2.1 (lw_U q574 q447 q451 q445 q77 q453) rfl rfl rfl rfl dmU_X4_strikes1 ⟨Nat.le_of_ble_eq_true rfl, Nat.le_of_ble_eq_true rfl⟩⟩)⟩
      · exact ⟨_, _, _, yX4_strikes, _, _, _, 15, 316, rfl, kX4_strikes hex h, Or.inr (Or.inl ⟨_, _, va_cwU 1 X.2.2.2.2.1 (lw_U q574 q447 q452 q445 q77 q453) rfl rfl rfl rfl dmU_X4_strikes1 ⟨Nat.le_of_ble_eq_true rfl, Nat.le_of_ble_eq_true rfl⟩⟩)⟩
      · exact ⟨_, _, _, yX4_strikes, _, _, _, 15, 316, rfl, kX4_strikes hex h, Or.inr (Or.inl ⟨_, _, va_cwU 1 X.2.2.2.2.1 (lw_U q574 q447 q449 q445 q77 q453) rfl rfl rfl rfl dmU_X4_strikes1 ⟨Nat.le_of_ble_eq_true rfl, Nat.le_of_ble_eq_true rfl⟩⟩)⟩
    refine g_icmp_ne (pc := 25) X 32 dX4_goes_25 (by decide) ?_ ?_
    · refine g_iconst (pc := 32) X 0 dX4_goes_32 rfl ?_
      exact g_zret (pc := 33) X hr rfl dX4_goes_33
    · refine g_iconst (pc := 28) X 1 dX4_goes_28 rfl ?_
      refine g_goto (pc := 29) X 33 dX4_goes_29 (by decide) ?_
      exact g_zret (pc := 33) X hr rfl dX4_goes_33
theorem kX4_goes {ex : Nat → Option Nat} {z : Nat} {h0 : Nat} {h1 : Nat} {σ : Sg} {r : Int32} {u : St} (hex : ex = Γ.2.2.2.2) (h : fX4_goes ex z h0 h1 (σ, 0, 0) = some (r, u)) : g_C Γ l yX4_goes cX4_goes 3 (some .boolean) 16 337 [.ref h0, .ref h1] σ z v_i r (g_ι z u) :=
  g_met (ι := g_ι z) (t := (σ, 0, 0)) [.ref h0, .ref h1] (by decide) (Nat.le_of_ble_eq_true rfl) h rfl (fun p e s m args below meth c X hr hn => wX4_goes hex X hr h0 h1 (σ, 0, 0))
end CP
abbrev cX4_strokes : ByteArray := prog_11_method_5_code
def yX4_strokes : MethodName := ⟨RX4, "strokes", "(LLameClocks$Street;)I"⟩
def dkwX4_strokes_0 : List UInt8 := [42, 43, 182, 0, 22, 154, 0, 8, 16, 12, 167, 0, 8, 42, 43, 182, 0, 22, 172]
abbrev dktX4_strokes_0 : List UInt8 := dkwX4_strokes_0 ++ []
theorem dksX4_strokes_0 : cX4_strokes.data.toList.drop 0 = dktX4_strokes_0 := by decide +kernel
theorem dX4_strokes_0 : decode cX4_strokes 0 = .ok (.aload_n 0, 1) := dk_42 (dk_at dksX4_strokes_0 0 rfl rfl)
theorem dX4_strokes_1 : decode cX4_strokes 1 = .ok (.aload_n 1, 1) := dk_43 (dk_at dksX4_strokes_0 1 rfl rfl)
theorem dX4_strokes_2 : decode cX4_strokes 2 = .ok (.invokevirtual 22, 3) := dk_182 0 22 (dk_at dksX4_strokes_0 2 rfl rfl)
theorem dX4_strokes_5 : decode cX4_strokes 5 = .ok (.ifCond .ne 8, 3) := dk_154 0 8 (dk_at dksX4_strokes_0 5 rfl rfl)
theorem dX4_strokes_8 : decode cX4_strokes 8 = .ok (.bipush 12, 2) := dk_16 12 (dk_at dksX4_strokes_0 8 rfl rfl)
theorem dX4_strokes_10 : decode cX4_strokes 10 = .ok (.goto 8, 3) := dk_167 0 8 (dk_at dksX4_strokes_0 10 rfl rfl)
theorem dX4_strokes_13 : decode cX4_strokes 13 = .ok (.aload_n 0, 1) := dk_42 (dk_at dksX4_strokes_0 13 rfl rfl)
theorem dX4_strokes_14 : decode cX4_strokes 14 = .ok (.aload_n 1, 1) := dk_43 (dk_at dksX4_strokes_0 14 rfl rfl)
theorem dX4_strokes_15 : decode cX4_strokes 15 = .ok (.invokevirtual 22, 3) := dk_182 0 22 (dk_at dksX4_strokes_0 15 rfl rfl)
theorem dX4_strokes_18 : decode cX4_strokes 18 = .ok (.ireturn, 1) := dk_172 (dk_at dksX4_strokes_0 18 rfl rfl)
section CP
variable {Γ : Gc} {p : Program} {l : Launch} {e : Env} {s : State} {m : MethodId} {args : Array Value} {below : List Frame} {meth : Method} {c : Code} {ex : Nat → Option Nat} {z : Nat} {tF : St}
noncomputable def fX4_strokes (ex : Nat → Option Nat) (z : Nat) (h0 : Nat) (h1 : Nat) (t : St) : Option (Int32 × St) := ccast [4, 5, 6, 7, 8, 9] t h0 (gb (fX4_strikes ex (z + t.2.1) h0 h1 (t.1, 0, 0)) t fun r1 t2 => if r1 = 0 then some (12, t2) else ccast [4, 5, 6, 7, 8, 9] t2 h0 (gb (fX4_strikes ex (z + t2.2.1) h0 h1 (t2.1, 0, 0)) t2 fun r8 t9 => some (r8, t9)))
set_option maxHeartbeats 4000000 in
theorem wX4_strokes {rF : Int32} (hex : ex = Γ.2.2.2.2) (X : g_X Γ p s m args meth c cX4_strokes 2 RX4) (hr : meth.sig.returnType = (some .int)) (h0 : Nat) (h1 : Nat) (t : St) : Wf Γ p l e 16 337 s m args below meth c 2 (g_ι z) v_i rF tF 0 [(0, .ref h0), (1, .ref h1)] [] t (fX4_strokes ex z h0 h1 t) := by
  unfold fX4_strokes
  refine g_aload_n (pc := 0) X 0 dX4_strokes_0 rfl rfl ?_
  refine g_aload_n (pc := 1) X 1 dX4_strokes_1 rfl rfl ?_
  refine g_bD_i (pc := 2) X (cs := [4, 5, 6, 7, 8, 9]) (As := [.ref h1]) (rest := []) (b := h0) (n := 1) dX4_strokes_2 rfl rfl (Nat.le_of_ble_eq_true rfl) (fun fl3 ci4 fs5 hs6 hci7 r u h => ?_) (fun r1 t2 => ?_)
  · simp only [List.mem_cons, List.not_mem_nil, or_false] at hci7
    rcases hci7 with rfl | rfl | rfl | rfl | rfl | rfl
    · exact ⟨_, _, _, yX4_strikes, _, _, _, 15, 316, rfl, kX4_strikes hex h, Or.inl (cwV 1 X.2.2.2.2.1 (lw_V q574 q445 q446 q77 q453) rfl rfl rfl dmV_X4_strikes ⟨Nat.le_of_ble_eq_true rfl, Nat.le_of_ble_eq_true rfl⟩)⟩
    · exact ⟨_, _, _, yX4_strikes, _, _, _, 15, 316, rfl, kX4_strikes hex h, Or.inr (Or.inl ⟨_, _, va_cwU 1 X.2.2.2.2.1 (lw_U q574 q447 q448 q445 q77 q453) rfl rfl rfl rfl dmU_X4_strikes1 ⟨Nat.le_of_ble_eq_true rfl, Nat.le_of_ble_eq_true rfl⟩⟩)⟩
    · exact ⟨_, _, _, yX4_strikes, _, _, _, 15, 316, rfl, kX4_strikes hex h, Or.inr (Or.inl ⟨_, _, va_cwU 1 X.2.2.2.2.1 (lw_U q574 q447 q450 q445 q77 q453) rfl rfl rfl rfl dmU_X4_strikes1 ⟨Nat.le_of_ble_eq_true rfl, Nat.le_of_ble_eq_true rfl⟩⟩)⟩
    · exact ⟨_, _, _, yX4_strikes, _, _, _, 15, 316, rfl, kX4_strikes hex h, Or.inr (Or.inl ⟨_, _, va_cwU 1 X.2.2.2.2.1 (lw_U q574 q447 q451 q445 q77 q453) rfl rfl rfl rfl dmU_X4_strikes1 ⟨Nat.le_of_ble_eq_true rfl, Nat.le_of_ble_eq_true rfl⟩⟩)⟩
    · exact ⟨_, _, _, yX4_strikes, _, _, _, 15, 316, rfl, kX4_strikes hex h, Or.inr (Or.inl ⟨_, _, va_cwU 1 X.2.2.2.2.1 (lw_U q574 q447 q452 q445 q77 q453) rfl rfl rfl rfl dmU_X4_strikes1 ⟨Nat.le_of_ble_eq_true rfl, Nat.le_of_ble_eq_true rfl⟩⟩)⟩
    · exact ⟨_, _, _, yX4_strikes, _, _, _, 15, 316, rfl, kX4_strikes hex h, Or.inr (Or.inl ⟨_, _, va_cwU 1 X.2.2.2.2.1 (lw_U q574 q447 q449 q445 q77 q453) rfl rfl rfl rfl dmU_X4_strikes1 ⟨Nat.le_of_ble_eq_true rfl, Nat.le_of_ble_eq_true rfl⟩⟩)⟩
  refine g_if_ne (pc := 5) X 13 dX4_strokes_5 (by decide) ?_ ?_
  · refine g_aload_n (pc := 13) X 0 dX4_strokes_13 rfl rfl ?_
    refine g_aload_n (pc := 14) X 1 dX4_strokes_14 rfl rfl ?_
    refine g_bD_i (pc := 15) X (cs := [4, 5, 6, 7, 8, 9]) (As := [.ref h1]) (rest := []) (b := h0) (n := 1) dX4_strokes_15 rfl rfl (Nat.le_of_ble_eq_true rfl) (fun fl10 ci11 fs12 hs13 hci14 r u h => ?_) (fun r8 t9 => ?_)
    · simp only [List.mem_cons, List.not_mem_nil, or_false] at hci14
      rcases hci14 with rfl | rfl | rfl | rfl | rfl | rfl
      · exact ⟨_, _, _, yX4_strikes, _, _, _, 15, 316, rfl, kX4_strikes hex h, Or.inl (cwV 1 X.2.2.2.2.1 (lw_V q574 q445 q446 q77 q453) rfl rfl rfl dmV_X4_strikes ⟨Nat.le_of_ble_eq_true rfl, Nat.le_of_ble_eq_true rfl⟩)⟩
      · exact ⟨_, _, _, yX4_strikes, _, _, _, 15, 316, rfl, kX4_strikes hex h, Or.inr (Or.inl ⟨_, _, va_cwU 1 X.2.2.2.2.1 (lw_U q574 q447 q448 q445 q77 q453) rfl rfl rfl rfl dmU_X4_strikes1 ⟨Nat.le_of_ble_eq_true rfl, Nat.le_of_ble_eq_true rfl⟩⟩)⟩
      · exact ⟨_, _, _, yX4_strikes, _, _, _, 15, 316, rfl, kX4_strikes hex h, Or.inr (Or.inl ⟨_, _, va_cwU 1 X.2.2.2.2.1 (lw_U q574 q447 q450 q445 q77 q453) rfl rfl rfl rfl dmU_X4_strikes1 ⟨Nat.le_of_ble_eq_true rfl, Nat.le_of_ble_eq_true rfl⟩⟩)⟩
      · exact ⟨_, _, _, yX4_strikes, _, _, _, 15, 316, rfl, kX4_strikes hex h, Or.inr (Or.inl ⟨_, _, va_cwU 1 X.2.2.2.2.1 (lw_U q574 q447 q451 q445 q77 q453) rfl rfl rfl rfl dmU_X4_strikes1 ⟨Nat.le_of_ble_eq_true rfl, Nat.le_of_ble_eq_true rfl⟩⟩)⟩
      · exact ⟨_, _, _, yX4_strikes, _, _, _, 15, 316, rfl, kX4_strikes hex h, Or.inr (Or.inl ⟨_, _, va_cwU 1 X.2.2.2.2.1 (lw_U q574 q447 q452 q445 q77 q453) rfl rfl rfl rfl dmU_X4_strikes1 ⟨Nat.le_of_ble_eq_true rfl, Nat.le_of_ble_eq_true rfl⟩⟩)⟩
      · exact ⟨_, _, _, yX4_strikes, _, _, _, 15, 316, rfl, kX4_strikes hex h, Or.inr (Or.inl ⟨_, _, va_cwU 1 X.2.2.2.2.1 (lw_U q574 q447 q449 q445 q77 q453) rfl rfl rfl rfl dmU_X4_strikes1 ⟨Nat.le_of_ble_eq_true rfl, Nat.le_of_ble_eq_true rfl⟩⟩)⟩
    exact g_iret (pc := 18) X hr dX4_strokes_18
  · refine g_bipush (pc := 8) X 12 dX4_strokes_8 rfl ?_
    refine g_goto (pc := 10) X 18 dX4_strokes_10 (by decide) ?_
    exact g_iret (pc := 18) X hr dX4_strokes_18
theorem kX4_strokes {ex : Nat → Option Nat} {z : Nat} {h0 : Nat} {h1 : Nat} {σ : Sg} {r : Int32} {u : St} (hex : ex = Γ.2.2.2.2) (h : fX4_strokes ex z h0 h1 (σ, 0, 0) = some (r, u)) : g_C Γ l yX4_strokes cX4_strokes 2 (some .int) 16 337 [.ref h0, .ref h1] σ z v_i r (g_ι z u) :=
  g_met (ι := g_ι z) (t := (σ, 0, 0)) [.ref h0, .ref h1] (by decide) (Nat.le_of_ble_eq_true rfl) h rfl (fun p e s m args below meth c X hr hn => wX4_strokes hex X hr h0 h1 (σ, 0, 0))
end CP
abbrev cX7_goes : ByteArray := prog_16_method_4_code
def yX7_goes : MethodName := ⟨RX7, "goes", "(LLameClocks$Street;)Z"⟩
def dkwX7_goes_0 : List UInt8 := [43, 185, 0, 18, 1, 0, 154, 0, 15, 42, 43, 183, 0, 21, 153, 0, 7, 4, 167, 0, 4, 3, 172]
abbrev dktX7_goes_0 : List UInt8 := dkwX7_goes_0 ++ []
theorem dksX7_goes_0 : cX7_goes.data.toList.drop 0 = dktX7_goes_0 := by decide +kernel
theorem dX7_goes_0 : decode cX7_goes 0 = .ok (.aload_n 1, 1) := dk_43 (dk_at dksX7_goes_0 0 rfl rfl)
theorem dX7_goes_1 : decode cX7_goes 1 = .ok (.invokeinterface 18 1, 5) := by decide +kernel
theorem dX7_goes_6 : decode cX7_goes 6 = .ok (.ifCond .ne 15, 3) := dk_154 0 15 (dk_at dksX7_goes_0 6 rfl rfl)
theorem dX7_goes_9 : decode cX7_goes 9 = .ok (.aload_n 0, 1) := dk_42 (dk_at dksX7_goes_0 9 rfl rfl)
theorem dX7_goes_10 : decode cX7_goes 10 = .ok (.aload_n 1, 1) := dk_43 (dk_at dksX7_goes_0 10 rfl rfl)
theorem dX7_goes_11 : decode cX7_goes 11 = .ok (.invokespecial 21, 3) := dk_183 0 21 (dk_at dksX7_goes_0 11 rfl rfl)
theorem dX7_goes_14 : decode cX7_goes 14 = .ok (.ifCond .eq 7, 3) := dk_153 0 7 (dk_at dksX7_goes_0 14 rfl rfl)
theorem dX7_goes_17 : decode cX7_goes 17 = .ok (.iconst 1, 1) := dk_4 (dk_at dksX7_goes_0 17 rfl rfl)
theorem dX7_goes_18 : decode cX7_goes 18 = .ok (.goto 4, 3) := dk_167 0 4 (dk_at dksX7_goes_0 18 rfl rfl)
theorem dX7_goes_21 : decode cX7_goes 21 = .ok (.iconst 0, 1) := dk_3 (dk_at dksX7_goes_0 21 rfl rfl)
theorem dX7_goes_22 : decode cX7_goes 22 = .ok (.ireturn, 1) := dk_172 (dk_at dksX7_goes_0 22 rfl rfl)
theorem dz_X4_goes : (parseMethodDescriptor yX4_goes.desc).map (fun d => d.parameters.length) = some 1 := by decide +kernel
section CP
variable {Γ : Gc} {p : Program} {l : Launch} {e : Env} {s : State} {m : MethodId} {args : Array Value} {below : List Frame} {meth : Method} {c : Code} {ex : Nat → Option Nat} {z : Nat} {tF : St}
noncomputable def fX7_goes (ex : Nat → Option Nat) (z : Nat) (h0 : Nat) (h1 : Nat) (t : St) : Option (Int32 × St) := ccast [1] t h1 (gb (fX1_sky ex (z + t.2.1) h1 (t.1, 0, 0)) t fun r1 t2 => if r1 = 0 then ccast [7] t2 h0 (gb (fX4_goes ex (z + t2.2.1) h0 h1 (t2.1, 0, 0)) t2 fun r8 t9 => if r8 = 0 then some (0, t9) else some (1, t9)) else some (0, t2))
set_option maxHeartbeats 4000000 in
theorem wX7_goes {rF : Int32} (hex : ex = Γ.2.2.2.2) (X : g_X Γ p s m args meth c cX7_goes 2 RX7) (hr : meth.sig.returnType = (some .boolean)) (h0 : Nat) (h1 : Nat) (t : St) : Wf Γ p l e 17 359 s m args below meth c 2 (g_ι z) v_i rF tF 0 [(0, .ref h0), (1, .ref h1)] [] t (fX7_goes ex z h0 h1 t) := by
  unfold fX7_goes
  refine g_aload_n (pc := 0) X 1 dX7_goes_0 rfl rfl ?_
  refine g_bDF_i (pc := 1) X (cs := [1]) (As := []) (rest := []) (b := h1) (n := 0) dX7_goes_1 rfl rfl (Nat.le_of_ble_eq_true rfl) (fun fl3 ci4 fs5 hs6 hci7 r u h => ?_) (fun r1 t2 => ?_)
  · obtain rfl := List.mem_singleton.mp hci7
    exact ⟨_, _, _, yX1_sky, _, _, _, 0, 0, rfl, kX1_sky hex h, ⟨_, va_cwF 0 X.2.2.2.2.1 (lw_F q554 q557 q559 q71 q561) rfl rfl rfl (X.2.2.2.2.2.2.1.fw ⟨by decide, by decide⟩ q556 q555 q560 q558 q418) dmF_X21_sky0 ⟨Nat.le_of_ble_eq_true rfl, Nat.le_of_ble_eq_true rfl⟩⟩⟩
  refine g_if_ne (pc := 6) X 21 dX7_goes_6 (by decide) ?_ ?_
  · refine g_iconst (pc := 21) X 0 dX7_goes_21 rfl ?_
    exact g_zret (pc := 22) X hr rfl dX7_goes_22
  · refine g_aload_n (pc := 9) X 0 dX7_goes_9 rfl rfl ?_
    refine g_aload_n (pc := 10) X 1 dX7_goes_10 rfl rfl ?_
    refine d_bSU_i (pc := 11) X (C := "LameClocks$Sundial") (x := (⟨"LameClocks$Stopped", "goes", "(LLameClocks$Street;)Z"⟩ : MethodName)) (y := yX4_goes) (As := [.ref h1]) (rest := []) (b := h0) (n := 1) (fr' := 16) (lo' := 337) (ci := 7) ⟨_, _, rfl⟩ dX7_goes_11 rfl rfl (Nat.le_of_ble_eq_true rfl) (lw_meth q566) ⟨Nat.le_of_ble_eq_true rfl, Nat.le_of_ble_eq_true rfl⟩ q77 q539 q562 q563 ⟨rfl, rfl⟩ q223 q210 (by decide) dz_X4_goes (fun r u h => kX4_goes hex h) (fun r8 t9 => ?_)
    refine g_if_eq (pc := 14) X 21 dX7_goes_14 (by decide) ?_ ?_
    · refine g_iconst (pc := 21) X 0 dX7_goes_21 rfl ?_
      exact g_zret (pc := 22) X hr rfl dX7_goes_22
    · refine g_iconst (pc := 17) X 1 dX7_goes_17 rfl ?_
      refine g_goto (pc := 18) X 22 dX7_goes_18 (by decide) ?_
      exact g_zret (pc := 22) X hr rfl dX7_goes_22
theorem kX7_goes {ex : Nat → Option Nat} {z : Nat} {h0 : Nat} {h1 : Nat} {σ : Sg} {r : Int32} {u : St} (hex : ex = Γ.2.2.2.2) (h : fX7_goes ex z h0 h1 (σ, 0, 0) = some (r, u)) : g_C Γ l yX7_goes cX7_goes 2 (some .boolean) 17 359 [.ref h0, .ref h1] σ z v_i r (g_ι z u) :=
  g_met (ι := g_ι z) (t := (σ, 0, 0)) [.ref h0, .ref h1] (by decide) (Nat.le_of_ble_eq_true rfl) h rfl (fun p e s m args below meth c X hr hn => wX7_goes hex X hr h0 h1 (σ, 0, 0))
end CP
abbrev cX9_goes : ByteArray := prog_9_method_3_code
def yX9_goes : MethodName := ⟨RX9, "goes", "(LLameClocks$Street;)Z"⟩
def dkwX9_goes_1 : List UInt8 := [3, 172]
abbrev dktX9_goes_1 : List UInt8 := dkwX9_goes_1 ++ []
def dkwX9_goes_0 : List UInt8 := [43, 185, 0, 13, 1, 0, 16, 6, 112, 153, 0, 11, 42, 43, 183, 0, 18, 153, 0, 7, 4, 167, 0, 4]
abbrev dktX9_goes_0 : List UInt8 := dkwX9_goes_0 ++ dktX9_goes_1
theorem dksX9_goes_0 : cX9_goes.data.toList.drop 0 = dktX9_goes_0 := by decide +kernel
theorem dksX9_goes_1 : cX9_goes.data.toList.drop 24 = dktX9_goes_1 := dk_seg dksX9_goes_0 24 rfl rfl
theorem dX9_goes_0 : decode cX9_goes 0 = .ok (.aload_n 1, 1) := dk_43 (dk_at dksX9_goes_0 0 rfl rfl)
theorem dX9_goes_1 : decode cX9_goes 1 = .ok (.invokeinterface 13 1, 5) := by decide +kernel
theorem dX9_goes_6 : decode cX9_goes 6 = .ok (.bipush 6, 2) := dk_16 6 (dk_at dksX9_goes_0 6 rfl rfl)
theorem dX9_goes_8 : decode cX9_goes 8 = .ok (.irem, 1) := dk_112 (dk_at dksX9_goes_0 8 rfl rfl)
theorem dX9_goes_9 : decode cX9_goes 9 = .ok (.ifCond .eq 11, 3) := dk_153 0 11 (dk_at dksX9_goes_0 9 rfl rfl)
theorem dX9_goes_12 : decode cX9_goes 12 = .ok (.aload_n 0, 1) := dk_42 (dk_at dksX9_goes_0 12 rfl rfl)
theorem dX9_goes_13 : decode cX9_goes 13 = .ok (.aload_n 1, 1) := dk_43 (dk_at dksX9_goes_0 13 rfl rfl)
theorem dX9_goes_14 : decode cX9_goes 14 = .ok (.invokespecial 18, 3) := dk_183 0 18 (dk_at dksX9_goes_0 14 rfl rfl)
theorem dX9_goes_17 : decode cX9_goes 17 = .ok (.ifCond .eq 7, 3) := dk_153 0 7 (dk_at dksX9_goes_0 17 rfl rfl)
theorem dX9_goes_20 : decode cX9_goes 20 = .ok (.iconst 1, 1) := dk_4 (dk_at dksX9_goes_0 20 rfl rfl)
theorem dX9_goes_21 : decode cX9_goes 21 = .ok (.goto 4, 3) := dk_167 0 4 (dk_at dksX9_goes_0 21 rfl rfl)
theorem dX9_goes_24 : decode cX9_goes 24 = .ok (.iconst 0, 1) := dk_3 (dk_at dksX9_goes_1 0 rfl rfl)
theorem dX9_goes_25 : decode cX9_goes 25 = .ok (.ireturn, 1) := dk_172 (dk_at dksX9_goes_1 1 rfl rfl)
theorem dmN_X4_goes : yX4_goes.name ≠ "<init>" ∧ (parseMethodDescriptor yX4_goes.desc).map (fun d => d.parameters.length) = some 1 := by decide +kernel
section CP
variable {Γ : Gc} {p : Program} {l : Launch} {e : Env} {s : State} {m : MethodId} {args : Array Value} {below : List Frame} {meth : Method} {c : Code} {ex : Nat → Option Nat} {z : Nat} {tF : St}
noncomputable def fX9_goes (ex : Nat → Option Nat) (z : Nat) (h0 : Nat) (h1 : Nat) (t : St) : Option (Int32 × St) := ccast [1] t h1 (gb (fX1_hour ex (z + t.2.1) h1 (t.1, 0, 0)) t fun r1 t2 => if r1 - r1 / 6 * 6 = 0 then some (1, t2) else ccast [9] t2 h0 (gb (fX4_goes ex (z + t2.2.1) h0 h1 (t2.1, 0, 0)) t2 fun r8 t9 => if r8 = 0 then some (0, t9) else some (1, t9)))
set_option maxHeartbeats 4000000 in
theorem wX9_goes {rF : Int32} (hex : ex = Γ.2.2.2.2) (X : g_X Γ p s m args meth c cX9_goes 2 RX9) (hr : meth.sig.returnType = (some .boolean)) (h0 : Nat) (h1 : Nat) (t : St) : Wf Γ p l e 17 359 s m args below meth c 2 (g_ι z) v_i rF tF 0 [(0, .ref h0), (1, .ref h1)] [] t (fX9_goes ex z h0 h1 t) := by
  unfold fX9_goes
  refine g_aload_n (pc := 0) X 1 dX9_goes_0 rfl rfl ?_
  refine g_bDF_i (pc := 1) X (cs := [1]) (As := []) (rest := []) (b := h1) (n := 0) dX9_goes_1 rfl rfl (Nat.le_of_ble_eq_true rfl) (fun fl3 ci4 fs5 hs6 hci7 r u h => ?_) (fun r1 t2 => ?_)
  · obtain rfl := List.mem_singleton.mp hci7
    exact ⟨_, _, _, yX1_hour, _, _, _, 0, 0, rfl, kX1_hour hex h, ⟨_, va_cwF 0 X.2.2.2.2.1 (lw_F q547 q427 q429 q71 q431) rfl rfl rfl (X.2.2.2.2.2.2.1.fw ⟨by decide, by decide⟩ q426 q425 q430 q428 q418) dmF_X21_hour0 ⟨Nat.le_of_ble_eq_true rfl, Nat.le_of_ble_eq_true rfl⟩⟩⟩
  refine g_bipush (pc := 6) X 6 dX9_goes_6 rfl ?_
  refine g_irem (pc := 8) X dX9_goes_8 (by decide) ?_
  refine g_if_eq (pc := 9) X 20 dX9_goes_9 (by decide) ?_ ?_
  · refine g_iconst (pc := 20) X 1 dX9_goes_20 rfl ?_
    refine g_goto (pc := 21) X 25 dX9_goes_21 (by decide) ?_
    exact g_zret (pc := 25) X hr rfl dX9_goes_25
  · refine g_aload_n (pc := 12) X 0 dX9_goes_12 rfl rfl ?_
    refine g_aload_n (pc := 13) X 1 dX9_goes_13 rfl rfl ?_
    refine g_recv (pc := 14) (cs := [9]) (fun fl10 ci11 fs12 hs13 hci14 => ?_)
    obtain ⟨C9, T9, N9, hc9⟩ := g_clsOf (cs := [9]) (by decide) hci14
    refine g_bSU_i (pc := 14) X (C := C9) (y := yX4_goes) (As := [.ref h1]) (rest := []) (b := h0) (fr' := 16) (lo' := 337) (fun _ => va_cwSU 1 X.2.2.2.2.1 (lw_SU q548 q541 q249 q539 q77 q566) rfl rfl rfl dmN_X4_goes ⟨Nat.le_of_ble_eq_true rfl, Nat.le_of_ble_eq_true rfl⟩) dX9_goes_14 hs13 ⟨_, _, hc9⟩ rfl rfl (Nat.le_of_ble_eq_true rfl) (fun r u h => kX4_goes hex h) (fun r8 t9 => ?_)
    refine g_if_eq (pc := 17) X 24 dX9_goes_17 (by decide) ?_ ?_
    · refine g_iconst (pc := 24) X 0 dX9_goes_24 rfl ?_
      exact g_zret (pc := 25) X hr rfl dX9_goes_25
    · refine g_iconst (pc := 20) X 1 dX9_goes_20 rfl ?_
      refine g_goto (pc := 21) X 25 dX9_goes_21 (by decide) ?_
      exact g_zret (pc := 25) X hr rfl dX9_goes_25
theorem kX9_goes {ex : Nat → Option Nat} {z : Nat} {h0 : Nat} {h1 : Nat} {σ : Sg} {r : Int32} {u : St} (hex : ex = Γ.2.2.2.2) (h : fX9_goes ex z h0 h1 (σ, 0, 0) = some (r, u)) : g_C Γ l yX9_goes cX9_goes 2 (some .boolean) 17 359 [.ref h0, .ref h1] σ z v_i r (g_ι z u) :=
  g_met (ι := g_ι z) (t := (σ, 0, 0)) [.ref h0, .ref h1] (by decide) (Nat.le_of_ble_eq_true rfl) h rfl (fun p e s m args below meth c X hr hn => wX9_goes hex X hr h0 h1 (σ, 0, 0))
end CP
noncomputable def fv_X4_goes (ex : Nat → Option Nat) (z : Nat) (h0 : Nat) (h1 : Nat) (t : St) : Option (Int32 × St) := ccls t h0 fun ci => if ci = 4 then fX4_goes ex z h0 h1 t else if ci = 5 then fX4_goes ex z h0 h1 t else if ci = 6 then fX4_goes ex z h0 h1 t else if ci = 7 then fX7_goes ex z h0 h1 t else if ci = 8 then fX4_goes ex z h0 h1 t else if ci = 9 then fX9_goes ex z h0 h1 t else none
theorem fv_X4_goes_4 {ex : Nat → Option Nat} {z : Nat} {h0 : Nat} {h1 : Nat} {σ : Sg} {fl : Bool} {fs : List Value} (hs : σ h0 = some (fl, .inr (4, fs))) : fv_X4_goes ex z h0 h1 (σ, 0, 0) = fX4_goes ex z h0 h1 (σ, 0, 0) := by simp [fv_X4_goes, ccls, hs]
theorem fv_X4_goes_5 {ex : Nat → Option Nat} {z : Nat} {h0 : Nat} {h1 : Nat} {σ : Sg} {fl : Bool} {fs : List Value} (hs : σ h0 = some (fl, .inr (5, fs))) : fv_X4_goes ex z h0 h1 (σ, 0, 0) = fX4_goes ex z h0 h1 (σ, 0, 0) := by simp [fv_X4_goes, ccls, hs]
theorem fv_X4_goes_6 {ex : Nat → Option Nat} {z : Nat} {h0 : Nat} {h1 : Nat} {σ : Sg} {fl : Bool} {fs : List Value} (hs : σ h0 = some (fl, .inr (6, fs))) : fv_X4_goes ex z h0 h1 (σ, 0, 0) = fX4_goes ex z h0 h1 (σ, 0, 0) := by simp [fv_X4_goes, ccls, hs]
theorem fv_X4_goes_7 {ex : Nat → Option Nat} {z : Nat} {h0 : Nat} {h1 : Nat} {σ : Sg} {fl : Bool} {fs : List Value} (hs : σ h0 = some (fl, .inr (7, fs))) : fv_X4_goes ex z h0 h1 (σ, 0, 0) = fX7_goes ex z h0 h1 (σ, 0, 0) := by simp [fv_X4_goes, ccls, hs]
theorem fv_X4_goes_8 {ex : Nat → Option Nat} {z : Nat} {h0 : Nat} {h1 : Nat} {σ : Sg} {fl : Bool} {fs : List Value} (hs : σ h0 = some (fl, .inr (8, fs))) : fv_X4_goes ex z h0 h1 (σ, 0, 0) = fX4_goes ex z h0 h1 (σ, 0, 0) := by simp [fv_X4_goes, ccls, hs]
theorem fv_X4_goes_9 {ex : Nat → Option Nat} {z : Nat} {h0 : Nat} {h1 : Nat} {σ : Sg} {fl : Bool} {fs : List Value} (hs : σ h0 = some (fl, .inr (9, fs))) : fv_X4_goes ex z h0 h1 (σ, 0, 0) = fX9_goes ex z h0 h1 (σ, 0, 0) := by simp [fv_X4_goes, ccls, hs]
abbrev cX0_told : ByteArray := prog_1_method_9_code
def yX0_told : MethodName := ⟨RX0, "told", "(II)I"⟩
def dkwX0_told_3 : List UInt8 := [172, 45, 42, 180, 0, 38, 182, 0, 122, 172, 45, 42, 180, 0, 38, 182, 0, 126, 172, 2, 172]
abbrev dktX0_told_3 : List UInt8 := dkwX0_told_3 ++ []
def dkwX0_told_2 : List UInt8 := [45, 182, 0, 113, 172, 45, 180, 0, 28, 172, 45, 180, 0, 35, 172, 45, 180, 0, 116, 172, 45, 180, 0, 119]
abbrev dktX0_told_2 : List UInt8 := dkwX0_told_2 ++ dktX0_told_3
def dkwX0_told_1 : List UInt8 := [170, 0, 0, 0, 0, 0, 0, 87, 0, 0, 0, 0, 0, 0, 0, 6, 0, 0, 0, 44, 0, 0, 0, 49, 0, 0, 0, 54, 0, 0, 0, 59, 0, 0, 0, 64, 0, 0, 0, 69, 0, 0, 0, 78]
abbrev dktX0_told_1 : List UInt8 := dkwX0_told_1 ++ dktX0_told_2
def dkwX0_told_0 : List UInt8 := [42, 27, 182, 0, 107, 154, 0, 5, 2, 172, 42, 180, 0, 38, 27, 182, 0, 111, 78, 28]
abbrev dktX0_told_0 : List UInt8 := dkwX0_told_0 ++ dktX0_told_1
theorem dksX0_told_0 : cX0_told.data.toList.drop 0 = dktX0_told_0 := by decide +kernel
theorem dksX0_told_1 : cX0_told.data.toList.drop 20 = dktX0_told_1 := dk_seg dksX0_told_0 20 rfl rfl
theorem dksX0_told_2 : cX0_told.data.toList.drop 64 = dktX0_told_2 := dk_seg dksX0_told_1 44 rfl rfl
theorem dksX0_told_3 : cX0_told.data.toList.drop 88 = dktX0_told_3 := dk_seg dksX0_told_2 24 rfl rfl
theorem dX0_told_0 : decode cX0_told 0 = .ok (.aload_n 0, 1) := dk_42 (dk_at dksX0_told_0 0 rfl rfl)
theorem dX0_told_1 : decode cX0_told 1 = .ok (.iload_n 1, 1) := dk_27 (dk_at dksX0_told_0 1 rfl rfl)
theorem dX0_told_2 : decode cX0_told 2 = .ok (.invokevirtual 107, 3) := dk_182 0 107 (dk_at dksX0_told_0 2 rfl rfl)
theorem dX0_told_5 : decode cX0_told 5 = .ok (.ifCond .ne 5, 3) := dk_154 0 5 (dk_at dksX0_told_0 5 rfl rfl)
theorem dX0_told_8 : decode cX0_told 8 = .ok (.iconst (-1), 1) := dk_2 (dk_at dksX0_told_0 8 rfl rfl)
theorem dX0_told_9 : decode cX0_told 9 = .ok (.ireturn, 1) := dk_172 (dk_at dksX0_told_0 9 rfl rfl)
theorem dX0_told_10 : decode cX0_told 10 = .ok (.aload_n 0, 1) := dk_42 (dk_at dksX0_told_0 10 rfl rfl)
theorem dX0_told_11 : decode cX0_told 11 = .ok (.getfield 38, 3) := dk_180 0 38 (dk_at dksX0_told_0 11 rfl rfl)
theorem dX0_told_14 : decode cX0_told 14 = .ok (.iload_n 1, 1) := dk_27 (dk_at dksX0_told_0 14 rfl rfl)
theorem dX0_told_15 : decode cX0_told 15 = .ok (.invokevirtual 111, 3) := dk_182 0 111 (dk_at dksX0_told_0 15 rfl rfl)
theorem dX0_told_18 : decode cX0_told 18 = .ok (.astore_n 3, 1) := dk_78 (dk_at dksX0_told_0 18 rfl rfl)
theorem dX0_told_19 : decode cX0_told 19 = .ok (.iload_n 2, 1) := dk_28 (dk_at dksX0_told_0 19 rfl rfl)
theorem dX0_told_20 : decode cX0_told 20 = .ok (.tableswitch 87 0 6 #[44, 49, 54, 59, 64, 69, 78], 44) := by decide +kernel
theorem dX0_told_64 : decode cX0_told 64 = .ok (.aload_n 3, 1) := dk_45 (dk_at dksX0_told_2 0 rfl rfl)
theorem dX0_told_65 : decode cX0_told 65 = .ok (.invokevirtual 113, 3) := dk_182 0 113 (dk_at dksX0_told_2 1 rfl rfl)
theorem dX0_told_68 : decode cX0_told 68 = .ok (.ireturn, 1) := dk_172 (dk_at dksX0_told_2 4 rfl rfl)
theorem dX0_told_69 : decode cX0_told 69 = .ok (.aload_n 3, 1) := dk_45 (dk_at dksX0_told_2 5 rfl rfl)
theorem dX0_told_70 : decode cX0_told 70 = .ok (.getfield 28, 3) := dk_180 0 28 (dk_at dksX0_told_2 6 rfl rfl)
theorem dX0_told_73 : decode cX0_told 73 = .ok (.ireturn, 1) := dk_172 (dk_at dksX0_told_2 9 rfl rfl)
theorem dX0_told_74 : decode cX0_told 74 = .ok (.aload_n 3, 1) := dk_45 (dk_at dksX0_told_2 10 rfl rfl)
theorem dX0_told_75 : decode cX0_told 75 = .ok (.getfield 35, 3) := dk_180 0 35 (dk_at dksX0_told_2 11 rfl rfl)
theorem dX0_told_78 : decode cX0_told 78 = .ok (.ireturn, 1) := dk_172 (dk_at dksX0_told_2 14 rfl rfl)
theorem dX0_told_79 : decode cX0_told 79 = .ok (.aload_n 3, 1) := dk_45 (dk_at dksX0_told_2 15 rfl rfl)
theorem dX0_told_80 : decode cX0_told 80 = .ok (.getfield 116, 3) := dk_180 0 116 (dk_at dksX0_told_2 16 rfl rfl)
theorem dX0_told_83 : decode cX0_told 83 = .ok (.ireturn, 1) := dk_172 (dk_at dksX0_told_2 19 rfl rfl)
theorem dX0_told_84 : decode cX0_told 84 = .ok (.aload_n 3, 1) := dk_45 (dk_at dksX0_told_2 20 rfl rfl)
theorem dX0_told_85 : decode cX0_told 85 = .ok (.getfield 119, 3) := dk_180 0 119 (dk_at dksX0_told_2 21 rfl rfl)
theorem dX0_told_88 : decode cX0_told 88 = .ok (.ireturn, 1) := dk_172 (dk_at dksX0_told_3 0 rfl rfl)
theorem dX0_told_89 : decode cX0_told 89 = .ok (.aload_n 3, 1) := dk_45 (dk_at dksX0_told_3 1 rfl rfl)
theorem dX0_told_90 : decode cX0_told 90 = .ok (.aload_n 0, 1) := dk_42 (dk_at dksX0_told_3 2 rfl rfl)
theorem dX0_told_91 : decode cX0_told 91 = .ok (.getfield 38, 3) := dk_180 0 38 (dk_at dksX0_told_3 3 rfl rfl)
theorem dX0_told_94 : decode cX0_told 94 = .ok (.invokevirtual 122, 3) := dk_182 0 122 (dk_at dksX0_told_3 6 rfl rfl)
theorem dX0_told_97 : decode cX0_told 97 = .ok (.ireturn, 1) := dk_172 (dk_at dksX0_told_3 9 rfl rfl)
theorem dX0_told_98 : decode cX0_told 98 = .ok (.aload_n 3, 1) := dk_45 (dk_at dksX0_told_3 10 rfl rfl)
theorem dX0_told_99 : decode cX0_told 99 = .ok (.aload_n 0, 1) := dk_42 (dk_at dksX0_told_3 11 rfl rfl)
theorem dX0_told_100 : decode cX0_told 100 = .ok (.getfield 38, 3) := dk_180 0 38 (dk_at dksX0_told_3 12 rfl rfl)
theorem dX0_told_103 : decode cX0_told 103 = .ok (.invokevirtual 126, 3) := dk_182 0 126 (dk_at dksX0_told_3 15 rfl rfl)
theorem dX0_told_106 : decode cX0_told 106 = .ok (.ireturn, 1) := dk_172 (dk_at dksX0_told_3 18 rfl rfl)
theorem dX0_told_107 : decode cX0_told 107 = .ok (.iconst (-1), 1) := dk_2 (dk_at dksX0_told_3 19 rfl rfl)
theorem dX0_told_108 : decode cX0_told 108 = .ok (.ireturn, 1) := dk_172 (dk_at dksX0_told_3 20 rfl rfl)
theorem fo_X0_119 : g_fo RX0 119 [4, 5, 6, 7, 8, 9] 5 := ⟨_, _, _, Or.inl q170, fun ci h => by
  simp only [List.mem_cons, List.not_mem_nil, or_false] at h; rcases h with rfl | rfl | rfl | rfl | rfl | rfl
  · exact ⟨_, _, _, rfl, by decide, rfl, rfl, Or.inl rfl, in_X4⟩
  · exact ⟨_, _, _, rfl, by decide, rfl, rfl, Or.inl rfl, in_X5⟩
  · exact ⟨_, _, _, rfl, by decide, rfl, rfl, Or.inl rfl, in_X6⟩
  · exact ⟨_, _, _, rfl, by decide, rfl, rfl, Or.inl rfl, in_X7⟩
  · exact ⟨_, _, _, rfl, by decide, rfl, rfl, Or.inl rfl, in_X8⟩
  · exact ⟨_, _, _, rfl, by decide, rfl, rfl, Or.inl rfl, in_X9⟩⟩
section CP
variable {Γ : Gc} {p : Program} {l : Launch} {e : Env} {s : State} {m : MethodId} {args : Array Value} {below : List Frame} {meth : Method} {c : Code} {ex : Nat → Option Nat} {z : Nat} {tF : St}
noncomputable def fX0_told (ex : Nat → Option Nat) (z : Nat) (h0 : Nat) (x1 : Int32) (x2 : Int32) (t : St) : Option (Int32 × St) := ccast [0] t h0 (gb (fX0_isClock ex (z + t.2.1) h0 x1 (t.1, 0, 0)) t fun r1 t2 => if r1 = 0 then some ((-1), t2) else cgA [0] 0 t2 h0 fun v8 => ccast [1] t2 v8 (gb (fX1_clock ex (z + t2.2.1) v8 x1 (t2.1, 0, 0)) t2 fun r9 t10 => if x2 = 0 then ccast [4, 5, 6, 7, 8, 9] t10 r9 (gb (fv_X4_kind ex (z + t10.2.1) r9 (t10.1, 0, 0)) t10 fun r17 t18 => some (r17, t18)) else if x2 = 1 then cgI [4, 5, 6, 7, 8, 9] 1 t10 r9 fun v25 => some (v25, t10) else if x2 = 2 then cgI [4, 5, 6, 7, 8, 9] 3 t10 r9 fun v27 => some (v27, t10) else if x2 = 3 then cgI [4, 5, 6, 7, 8, 9] 4 t10 r9 fun v29 => some (v29, t10) else if x2 = 4 then cgI [4, 5, 6, 7, 8, 9] 5 t10 r9 fun v31 => some (v31, t10) else if x2 = 5 then cgA [0] 0 t10 h0 fun v33 => ccast [4, 5, 6, 7, 8, 9] t10 r9 (gb (fv_X4_shown ex (z + t10.2.1) r9 v33 (t10.1, 0, 0)) t10 fun r34 t35 => some (r34, t35)) else if x2 = 6 then cgA [0] 0 t10 h0 fun v42 => ccast [4, 5, 6, 7, 8, 9] t10 r9 (gb (fX4_strikes ex (z + t10.2.1) r9 v42 (t10.1, 0, 0)) t10 fun r43 t44 => some (r43, t44)) else some ((-1), t10)))
set_option maxHeartbeats 4000000 in
theorem wX0_told {rF : Int32} (hex : ex = Γ.2.2.2.2) (X : g_X Γ p s m args meth c cX0_told 4 RX0) (hr : meth.sig.returnType = (some .int)) (h0 : Nat) (x1 : Int32) (x2 : Int32) (t : St) : Wf Γ p l e 16 337 s m args below meth c 4 (g_ι z) v_i rF tF 0 [(0, .ref h0), (1, .int x1), (2, .int x2)] [] t (fX0_told ex z h0 x1 x2 t) := by
  unfold fX0_told
  refine g_aload_n (pc := 0) X 0 dX0_told_0 rfl rfl ?_
  refine g_iload_n (pc := 1) X 1 dX0_told_1 rfl rfl ?_
  refine g_bD_i (pc := 2) X (cs := [0]) (As := [.int x1]) (rest := []) (b := h0) (n := 1) dX0_told_2 rfl rfl (Nat.le_of_ble_eq_true rfl) (fun fl3 ci4 fs5 hs6 hci7 r u h => ?_) (fun r1 t2 => ?_)
  · obtain rfl := List.mem_singleton.mp hci7
    exact ⟨_, _, _, yX0_isClock, _, _, _, 2, 40, rfl, kX0_isClock hex h, Or.inl (cwV 1 X.2.2.2.2.1 (lw_V q368 q370 qs4 q70 q372) rfl rfl rfl dmV_X0_isClock ⟨Nat.le_of_ble_eq_true rfl, Nat.le_of_ble_eq_true rfl⟩)⟩
  refine g_if_ne (pc := 5) X 10 dX0_told_5 (by decide) ?_ ?_
  · refine g_aload_n (pc := 10) X 0 dX0_told_10 rfl rfl ?_
    refine cg_getA (pc := 11) X fo_X0_38 dX0_told_11 (fun v8 => ?_)
    refine g_iload_n (pc := 14) X 1 dX0_told_14 rfl rfl ?_
    refine g_bD_a (pc := 15) X (cs := [1]) (As := [.int x1]) (rest := []) (b := v8) (n := 1) dX0_told_15 rfl rfl (Nat.le_of_ble_eq_true rfl) (fun fl11 ci12 fs13 hs14 hci15 r u h => ?_) (fun r9 t10 => ?_)
    · obtain rfl := List.mem_singleton.mp hci15
      exact ⟨_, _, _, yX1_clock, _, _, _, 3, 64, rfl, kX1_clock hex h, Or.inl (cwV 1 X.2.2.2.2.1 (lw_V q373 q374 q375 q71 q376) rfl rfl rfl dmV_X1_clock ⟨Nat.le_of_ble_eq_true rfl, Nat.le_of_ble_eq_true rfl⟩)⟩
    refine g_astore_n (pc := 18) X (lv' := [(3, .ref r9), (0, .ref h0), (1, .int x1), (2, .int x2)]) dX0_told_18 rfl (by decide) rfl ?_
    refine g_iload_n (pc := 19) X 3 dX0_told_19 rfl rfl ?_
    refine g_by (pc := 20) (fun hc16 => ?_) (fun hc16 => ?_)
    · refine g_tswI (pc := 20) X 0 64 dX0_told_20 hc16 (by decide) (by decide) rfl (by decide) ?_
      refine g_aload_n (pc := 64) X 0 dX0_told_64 rfl rfl ?_
      refine g_bD_i (pc := 65) X (cs := [4, 5, 6, 7, 8, 9]) (As := []) (rest := []) (b := r9) (n := 0) dX0_told_65 rfl rfl (Nat.le_of_ble_eq_true rfl) (fun fl19 ci20 fs21 hs22 hci23 r u h => ?_) (fun r17 t18 => ?_)
      · simp only [List.mem_cons, List.not_mem_nil, or_false] at hci23
        rcases hci23 with rfl | rfl | rfl | rfl | rfl | rfl
        · exact ⟨_, _, _, yX4_kind, _, _, _, 0, 0, rfl, kX4_kind hex (by rw [fv_X4_kind_4 hs22] at h; exact h), Or.inl (cwV 0 X.2.2.2.2.1 (lw_V q379 q380 q381 q77 q403) rfl rfl rfl dmV_X4_kind ⟨Nat.le_of_ble_eq_true rfl, Nat.le_of_ble_eq_true rfl⟩)⟩
        · exact ⟨_, _, _, yX5_kind, _, _, _, 1, 20, rfl, kX5_kind hex (by rw [fv_X4_kind_5 hs22] at h; exact h), Or.inr (Or.inl ⟨_, _, va_cwO 0 X.2.2.2.2.1 (lw_O q379 q382 q380 q383 q384 q78 q385) rfl rfl rfl q403 dmU_X4_kind0 ⟨Nat.le_of_ble_eq_true rfl, Nat.le_of_ble_eq_true rfl⟩⟩)⟩
        · exact ⟨_, _, _, yX6_kind, _, _, _, 1, 20, rfl, kX6_kind hex (by rw [fv_X4_kind_6 hs22] at h; exact h), Or.inr (Or.inl ⟨_, _, va_cwO 0 X.2.2.2.2.1 (lw_O q379 q382 q380 q391 q392 q79 q393) rfl rfl rfl q403 dmU_X4_kind0 ⟨Nat.le_of_ble_eq_true rfl, Nat.le_of_ble_eq_true rfl⟩⟩)⟩
        · exact ⟨_, _, _, yX7_kind, _, _, _, 2, 40, rfl, kX7_kind hex (by rw [fv_X4_kind_7 hs22] at h; exact h), Or.inr (Or.inl ⟨_, _, va_cwO 0 X.2.2.2.2.1 (lw_O q379 q382 q380 q395 q396 q80 q397) rfl rfl rfl q403 dmU_X4_kind0 ⟨Nat.le_of_ble_eq_true rfl, Nat.le_of_ble_eq_true rfl⟩⟩)⟩
        · exact ⟨_, _, _, yX8_kind, _, _, _, 1, 20, rfl, kX8_kind hex (by rw [fv_X4_kind_8 hs22] at h; exact h), Or.inr (Or.inl ⟨_, _, va_cwO 0 X.2.2.2.2.1 (lw_O q379 q382 q380 q399 q400 q81 q401) rfl rfl rfl q403 dmU_X4_kind0 ⟨Nat.le_of_ble_eq_true rfl, Nat.le_of_ble_eq_true rfl⟩⟩)⟩
        · exact ⟨_, _, _, yX9_kind, _, _, _, 1, 20, rfl, kX9_kind hex (by rw [fv_X4_kind_9 hs22] at h; exact h), Or.inr (Or.inl ⟨_, _, va_cwO 0 X.2.2.2.2.1 (lw_O q379 q382 q380 q387 q388 q82 q389) rfl rfl rfl q403 dmU_X4_kind0 ⟨Nat.le_of_ble_eq_true rfl, Nat.le_of_ble_eq_true rfl⟩⟩)⟩
      exact g_iret (pc := 68) X hr dX0_told_68
    refine g_by (pc := 20) (fun hc24 => ?_) (fun hc24 => ?_)
    · refine g_tswI (pc := 20) X 1 69 dX0_told_20 hc24 (by decide) (by decide) rfl (by decide) ?_
      refine g_aload_n (pc := 69) X 0 dX0_told_69 rfl rfl ?_
      refine cg_getI (pc := 70) X fo_X0_28 dX0_told_70 (fun v25 => ?_)
      exact g_iret (pc := 73) X hr dX0_told_73
    refine g_by (pc := 20) (fun hc26 => ?_) (fun hc26 => ?_)
    · refine g_tswI (pc := 20) X 2 74 dX0_told_20 hc26 (by decide) (by decide) rfl (by decide) ?_
      refine g_aload_n (pc := 74) X 0 dX0_told_74 rfl rfl ?_
      refine cg_getI (pc := 75) X fo_X0_35 dX0_told_75 (fun v27 => ?_)
      exact g_iret (pc := 78) X hr dX0_told_78
    refine g_by (pc := 20) (fun hc28 => ?_) (fun hc28 => ?_)
    · refine g_tswI (pc := 20) X 3 79 dX0_told_20 hc28 (by decide) (by decide) rfl (by decide) ?_
      refine g_aload_n (pc := 79) X 0 dX0_told_79 rfl rfl ?_
      refine cg_getI (pc := 80) X fo_X0_116 dX0_told_80 (fun v29 => ?_)
      exact g_iret (pc := 83) X hr dX0_told_83
    refine g_by (pc := 20) (fun hc30 => ?_) (fun hc30 => ?_)
    · refine g_tswI (pc := 20) X 4 84 dX0_told_20 hc30 (by decide) (by decide) rfl (by decide) ?_
      refine g_aload_n (pc := 84) X 0 dX0_told_84 rfl rfl ?_
      refine cg_getI (pc := 85) X fo_X0_119 dX0_told_85 (fun v31 => ?_)
      exact g_iret (pc := 88) X hr dX0_told_88
    refine g_by (pc := 20) (fun hc32 => ?_) (fun hc32 => ?_)
    · refine g_tswI (pc := 20) X 5 89 dX0_told_20 hc32 (by decide) (by decide) rfl (by decide) ?_
      refine g_aload_n (pc := 89) X 0 dX0_told_89 rfl rfl ?_
      refine g_aload_n (pc := 90) X 1 dX0_told_90 rfl rfl ?_
      refine cg_getA (pc := 91) X fo_X0_38 dX0_told_91 (fun v33 => ?_)
      refine g_bD_i (pc := 94) X (cs := [4, 5, 6, 7, 8, 9]) (As := [.ref v33]) (rest := []) (b := r9) (n := 1) dX0_told_94 rfl rfl (Nat.le_of_ble_eq_true rfl) (fun fl36 ci37 fs38 hs39 hci40 r u h => ?_) (fun r34 t35 => ?_)
      · simp only [List.mem_cons, List.not_mem_nil, or_false] at hci40
        rcases hci40 with rfl | rfl | rfl | rfl | rfl | rfl
        · exact ⟨_, _, _, yX4_shown, _, _, _, 0, 0, rfl, kX4_shown hex (by rw [fv_X4_shown_4 hs39] at h; exact h), Or.inl (cwV 1 X.2.2.2.2.1 (lw_V q404 q405 q406 q77 q443) rfl rfl rfl dmV_X4_shown ⟨Nat.le_of_ble_eq_true rfl, Nat.le_of_ble_eq_true rfl⟩)⟩
        · exact ⟨_, _, _, yX4_shown, _, _, _, 0, 0, rfl, kX4_shown hex (by rw [fv_X4_shown_5 hs39] at h; exact h), Or.inr (Or.inl ⟨_, _, va_cwU 1 X.2.2.2.2.1 (lw_U q404 q407 q408 q405 q77 q443) rfl rfl rfl rfl dmU_X4_shown1 ⟨Nat.le_of_ble_eq_true rfl, Nat.le_of_ble_eq_true rfl⟩⟩)⟩
        · exact ⟨_, _, _, yX4_shown, _, _, _, 0, 0, rfl, kX4_shown hex (by rw [fv_X4_shown_6 hs39] at h; exact h), Or.inr (Or.inl ⟨_, _, va_cwU 1 X.2.2.2.2.1 (lw_U q404 q407 q410 q405 q77 q443) rfl rfl rfl rfl dmU_X4_shown1 ⟨Nat.le_of_ble_eq_true rfl, Nat.le_of_ble_eq_true rfl⟩⟩)⟩
        · exact ⟨_, _, _, yX7_shown, _, _, _, 2, 40, rfl, kX7_shown hex (by rw [fv_X4_shown_7 hs39] at h; exact h), Or.inr (Or.inl ⟨_, _, va_cwO 1 X.2.2.2.2.1 (lw_O q404 q407 q405 q411 q412 q80 q413) rfl rfl rfl q443 dmU_X4_shown1 ⟨Nat.le_of_ble_eq_true rfl, Nat.le_of_ble_eq_true rfl⟩⟩)⟩
        · exact ⟨_, _, _, yX8_shown, _, _, _, 14, 295, rfl, kX8_shown hex (by rw [fv_X4_shown_8 hs39] at h; exact h), Or.inr (Or.inl ⟨_, _, va_cwO 1 X.2.2.2.2.1 (lw_O q404 q407 q405 q432 q433 q81 q434) rfl rfl rfl q443 dmU_X4_shown1 ⟨Nat.le_of_ble_eq_true rfl, Nat.le_of_ble_eq_true rfl⟩⟩)⟩
        · exact ⟨_, _, _, yX4_shown, _, _, _, 0, 0, rfl, kX4_shown hex (by rw [fv_X4_shown_9 hs39] at h; exact h), Or.inr (Or.inl ⟨_, _, va_cwU 1 X.2.2.2.2.1 (lw_U q404 q407 q409 q405 q77 q443) rfl rfl rfl rfl dmU_X4_shown1 ⟨Nat.le_of_ble_eq_true rfl, Nat.le_of_ble_eq_true rfl⟩⟩)⟩
      exact g_iret (pc := 97) X hr dX0_told_97
    refine g_by (pc := 20) (fun hc41 => ?_) (fun hc41 => ?_)
    · refine g_tswI (pc := 20) X 6 98 dX0_told_20 hc41 (by decide) (by decide) rfl (by decide) ?_
      refine g_aload_n (pc := 98) X 0 dX0_told_98 rfl rfl ?_
      refine g_aload_n (pc := 99) X 1 dX0_told_99 rfl rfl ?_
      refine cg_getA (pc := 100) X fo_X0_38 dX0_told_100 (fun v42 => ?_)
      refine g_bD_i (pc := 103) X (cs := [4, 5, 6, 7, 8, 9]) (As := [.ref v42]) (rest := []) (b := r9) (n := 1) dX0_told_103 rfl rfl (Nat.le_of_ble_eq_true rfl) (fun fl45 ci46 fs47 hs48 hci49 r u h => ?_) (fun r43 t44 => ?_)
      · simp only [List.mem_cons, List.not_mem_nil, or_false] at hci49
        rcases hci49 with rfl | rfl | rfl | rfl | rfl | rfl
        · exact ⟨_, _, _, yX4_strikes, _, _, _, 15, 316, rfl, kX4_strikes hex h, Or.inl (cwV 1 X.2.2.2.2.1 (lw_V q444 q445 q446 q77 q453) rfl rfl rfl dmV_X4_strikes ⟨Nat.le_of_ble_eq_true rfl, Nat.le_of_ble_eq_true rfl⟩)⟩
        · exact ⟨_, _, _, yX4_strikes, _, _, _, 15, 316, rfl, kX4_strikes hex h, Or.inr (Or.inl ⟨_, _, va_cwU 1 X.2.2.2.2.1 (lw_U q444 q447 q448 q445 q77 q453) rfl rfl rfl rfl dmU_X4_strikes1 ⟨Nat.le_of_ble_eq_true rfl, Nat.le_of_ble_eq_true rfl⟩⟩)⟩
        · exact ⟨_, _, _, yX4_strikes, _, _, _, 15, 316, rfl, kX4_strikes hex h, Or.inr (Or.inl ⟨_, _, va_cwU 1 X.2.2.2.2.1 (lw_U q444 q447 q450 q445 q77 q453) rfl rfl rfl rfl dmU_X4_strikes1 ⟨Nat.le_of_ble_eq_true rfl, Nat.le_of_ble_eq_true rfl⟩⟩)⟩
        · exact ⟨_, _, _, yX4_strikes, _, _, _, 15, 316, rfl, kX4_strikes hex h, Or.inr (Or.inl ⟨_, _, va_cwU 1 X.2.2.2.2.1 (lw_U q444 q447 q451 q445 q77 q453) rfl rfl rfl rfl dmU_X4_strikes1 ⟨Nat.le_of_ble_eq_true rfl, Nat.le_of_ble_eq_true rfl⟩⟩)⟩
        · exact ⟨_, _, _, yX4_strikes, _, _, _, 15, 316, rfl, kX4_strikes hex h, Or.inr (Or.inl ⟨_, _, va_cwU 1 X.2.2.2.2.1 (lw_U q444 q447 q452 q445 q77 q453) rfl rfl rfl rfl dmU_X4_strikes1 ⟨Nat.le_of_ble_eq_true rfl, Nat.le_of_ble_eq_true rfl⟩⟩)⟩
        · exact ⟨_, _, _, yX4_strikes, _, _, _, 15, 316, rfl, kX4_strikes hex h, Or.inr (Or.inl ⟨_, _, va_cwU 1 X.2.2.2.2.1 (lw_U q444 q447 q449 q445 q77 q453) rfl rfl rfl rfl dmU_X4_strikes1 ⟨Nat.le_of_ble_eq_true rfl, Nat.le_of_ble_eq_true rfl⟩⟩)⟩
      exact g_iret (pc := 106) X hr dX0_told_106
    refine g_tswO (pc := 20) X 7 107 dX0_told_20 (fun j hj => by match j, hj with | 0, _ => exact hc16 | 1, _ => exact hc24 | 2, _ => exact hc26 | 3, _ => exact hc28 | 4, _ => exact hc30 | 5, _ => exact hc32 | 6, _ => exact hc41) (by decide) (by decide) (by decide) ?_
    refine g_iconst (pc := 107) X (-1) dX0_told_107 rfl ?_
    exact g_iret (pc := 108) X hr dX0_told_108
  · refine g_iconst (pc := 8) X (-1) dX0_told_8 rfl ?_
    exact g_iret (pc := 9) X hr dX0_told_9
theorem kX0_told {ex : Nat → Option Nat} {z : Nat} {h0 : Nat} {x1 : Int32} {x2 : Int32} {σ : Sg} {r : Int32} {u : St} (hex : ex = Γ.2.2.2.2) (h : fX0_told ex z h0 x1 x2 (σ, 0, 0) = some (r, u)) : g_C Γ l yX0_told cX0_told 4 (some .int) 16 337 [.ref h0, .int x1, .int x2] σ z v_i r (g_ι z u) :=
  g_met (ι := g_ι z) (t := (σ, 0, 0)) [.ref h0, .int x1, .int x2] (by decide) (Nat.le_of_ble_eq_true rfl) h rfl (fun p e s m args below meth c X hr hn => wX0_told hex X hr h0 x1 x2 (σ, 0, 0))
end CP
