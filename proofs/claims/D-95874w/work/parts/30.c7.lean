/-! the component, its methods: J2_add, X0_bet, X1_comes, X1_takes, X15_kept, X0_clock, X0_wind (printed by gen/cmain.py) -/
set_option maxRecDepth 100000
theorem q105 : (Jvm.Cond.initialized "LameClocks$Bet") ∈ lw_all := lw_g (lw_at lw_m1 36 rfl) rfl
theorem q117 : (Jvm.Cond.code ({ cls := "LameClocks", name := "clock", desc := "(IIII)I" } : Jvm.MethodName) prog_1_method_7_code (5 : Nat) (Option.some Jvm.ClassFile.FieldType.int)) ∈ lw_all := lw_g (lw_at lw_m1 48 rfl) rfl
theorem q118 : (Jvm.Cond.methodLink "LameClocks" (65 : Nat) ({ cls := "LameClocks", name := "isMade", desc := "(IIII)Z" } : Jvm.MethodName)) ∈ lw_all := lw_g (lw_at lw_m1 49 rfl) rfl
theorem q119 : (Jvm.Cond.static ({ cls := "LameClocks", name := "isMade", desc := "(IIII)Z" } : Jvm.MethodName)) ∈ lw_all := lw_g (lw_at lw_m1 50 rfl) rfl
theorem q137 : (Jvm.Cond.methodLink "LameClocks" (69 : Nat) ({ cls := "LameClocks", name := "made", desc := "(IIII)LLameClocks$Plain;" } : Jvm.MethodName)) ∈ lw_all := lw_g (lw_at lw_m1 68 rfl) rfl
theorem q138 : (Jvm.Cond.static ({ cls := "LameClocks", name := "made", desc := "(IIII)LLameClocks$Plain;" } : Jvm.MethodName)) ∈ lw_all := lw_g (lw_at lw_m1 69 rfl) rfl
theorem q153 : (Jvm.Cond.fieldLink "LameClocks$Race" (48 : Nat) "LameClocks$Plain" "number" "I") ∈ lw_all := lw_g (lw_at lw_m1 84 rfl) rfl
theorem q250 : (Jvm.Cond.methodLink "LameClocks" (72 : Nat) ({ cls := "LameClocks$Race", name := "comes", desc := "(LLameClocks$Plain;)V" } : Jvm.MethodName)) ∈ lw_all := lw_g (lw_at lw_m1 181 rfl) rfl
theorem q251 : (Jvm.Cond.instanceMethod ({ cls := "LameClocks$Race", name := "comes", desc := "(LLameClocks$Plain;)V" } : Jvm.MethodName)) ∈ lw_all := lw_g (lw_at lw_m1 182 rfl) rfl
theorem q252 : (Jvm.Cond.selects "LameClocks$Race" ({ cls := "LameClocks$Race", name := "comes", desc := "(LLameClocks$Plain;)V" } : Jvm.MethodName) ({ cls := "LameClocks$Race", name := "comes", desc := "(LLameClocks$Plain;)V" } : Jvm.MethodName)) ∈ lw_all := lw_g (lw_at lw_m1 183 rfl) rfl
theorem q253 : (Jvm.Cond.code ({ cls := "LameClocks$Race", name := "comes", desc := "(LLameClocks$Plain;)V" } : Jvm.MethodName) prog_12_method_8_code (2 : Nat) (Option.none : Option Jvm.ClassFile.FieldType)) ∈ lw_all := lw_g (lw_at lw_m1 184 rfl) rfl
theorem q254 : (Jvm.Cond.methodLink "LameClocks$Race" (51 : Nat) ({ cls := "java/util/ArrayList", name := "add", desc := "(Ljava/lang/Object;)Z" } : Jvm.MethodName)) ∈ lw_all := lw_g (lw_at lw_m1 185 rfl) rfl
theorem q255 : (Jvm.Cond.instanceMethod ({ cls := "java/util/ArrayList", name := "add", desc := "(Ljava/lang/Object;)Z" } : Jvm.MethodName)) ∈ lw_all := lw_g (lw_at lw_m1 186 rfl) rfl
theorem q256 : (Jvm.Cond.selects "java/util/ArrayList" ({ cls := "java/util/ArrayList", name := "add", desc := "(Ljava/lang/Object;)Z" } : Jvm.MethodName) ({ cls := "java/util/ArrayList", name := "add", desc := "(Ljava/lang/Object;)Z" } : Jvm.MethodName)) ∈ lw_all := lw_g (lw_at lw_m1 187 rfl) rfl
theorem q257 : (Jvm.Cond.code ({ cls := "java/util/ArrayList", name := "add", desc := "(Ljava/lang/Object;)Z" } : Jvm.MethodName) prog_50_method_25_code (2 : Nat) (Option.some Jvm.ClassFile.FieldType.boolean)) ∈ lw_all := lw_g (lw_at lw_m1 188 rfl) rfl
theorem q258 : (Jvm.Cond.methodLink "java/util/ArrayList" (131 : Nat) ({ cls := "java/util/ArrayList", name := "add", desc := "(Ljava/lang/Object;[Ljava/lang/Object;I)V" } : Jvm.MethodName)) ∈ lw_all := lw_g (lw_at lw_m1 189 rfl) rfl
theorem q260 : (Jvm.Cond.instanceMethod ({ cls := "java/util/ArrayList", name := "add", desc := "(Ljava/lang/Object;[Ljava/lang/Object;I)V" } : Jvm.MethodName)) ∈ lw_all := lw_g (lw_at lw_m1 191 rfl) rfl
theorem q651 : (Jvm.Cond.code ({ cls := "LameClocks", name := "wind", desc := "(II)I" } : Jvm.MethodName) prog_1_method_18_code (3 : Nat) (Option.some Jvm.ClassFile.FieldType.int)) ∈ lw_all := lw_g (lw_at lw_m3 102 rfl) rfl
theorem q652 : (Jvm.Cond.classLink "LameClocks" (172 : Nat) "LameClocks$Wound") ∈ lw_all := lw_g (lw_at lw_m3 103 rfl) rfl
theorem q653 : (Jvm.Cond.instantiable "LameClocks$Wound" (4 : Nat)) ∈ lw_all := lw_g (lw_at lw_m3 104 rfl) rfl
theorem q654 : (Jvm.Cond.methodLink "LameClocks" (174 : Nat) ({ cls := "LameClocks$Wound", name := "<init>", desc := "(LLameClocks;I)V" } : Jvm.MethodName)) ∈ lw_all := lw_g (lw_at lw_m3 105 rfl) rfl
theorem q655 : (Jvm.Cond.instanceMethod ({ cls := "LameClocks$Wound", name := "<init>", desc := "(LLameClocks;I)V" } : Jvm.MethodName)) ∈ lw_all := lw_g (lw_at lw_m3 106 rfl) rfl
theorem q691 : (Jvm.Cond.methodLink "LameClocks" (177 : Nat) ({ cls := "LameClocks$Wound", name := "kept", desc := "()V" } : Jvm.MethodName)) ∈ lw_all := lw_g (lw_at lw_m3 142 rfl) rfl
theorem q692 : (Jvm.Cond.sameMethod "LameClocks$Wound" "LameClocks$Repair" "kept" "()V") ∈ lw_all := lw_g (lw_at lw_m3 143 rfl) rfl
theorem q694 : (Jvm.Cond.selects "LameClocks$Wound" ({ cls := "LameClocks$Wound", name := "kept", desc := "()V" } : Jvm.MethodName) ({ cls := "LameClocks$Repair", name := "kept", desc := "()V" } : Jvm.MethodName)) ∈ lw_all := lw_g (lw_at lw_m3 145 rfl) rfl
theorem q695 : (Jvm.Cond.instanceMethod ({ cls := "LameClocks$Repair", name := "kept", desc := "()V" } : Jvm.MethodName)) ∈ lw_all := lw_g (lw_at lw_m3 146 rfl) rfl
theorem q696 : (Jvm.Cond.code ({ cls := "LameClocks$Repair", name := "kept", desc := "()V" } : Jvm.MethodName) prog_13_method_3_code (1 : Nat) (Option.none : Option Jvm.ClassFile.FieldType)) ∈ lw_all := lw_g (lw_at lw_m3 147 rfl) rfl
theorem q697 : (Jvm.Cond.methodLink "LameClocks$Repair" (26 : Nat) ({ cls := "java/util/ArrayList", name := "size", desc := "()I" } : Jvm.MethodName)) ∈ lw_all := lw_g (lw_at lw_m3 148 rfl) rfl
theorem q698 : (Jvm.Cond.methodLink "LameClocks$Repair" (32 : Nat) ({ cls := "java/util/ArrayList", name := "remove", desc := "(I)Ljava/lang/Object;" } : Jvm.MethodName)) ∈ lw_all := lw_g (lw_at lw_m3 149 rfl) rfl
theorem q699 : (Jvm.Cond.methodLink "LameClocks$Repair" (36 : Nat) ({ cls := "java/util/ArrayList", name := "add", desc := "(Ljava/lang/Object;)Z" } : Jvm.MethodName)) ∈ lw_all := lw_g (lw_at lw_m3 150 rfl) rfl
theorem q700 : (Jvm.Cond.methodLink "LameClocks" (180 : Nat) ({ cls := "LameClocks$Plain", name := "winds", desc := "(I)V" } : Jvm.MethodName)) ∈ lw_all := lw_g (lw_at lw_m3 151 rfl) rfl
theorem q701 : (Jvm.Cond.instanceMethod ({ cls := "LameClocks$Plain", name := "winds", desc := "(I)V" } : Jvm.MethodName)) ∈ lw_all := lw_g (lw_at lw_m3 152 rfl) rfl
theorem q702 : (Jvm.Cond.selects "LameClocks$Plain" ({ cls := "LameClocks$Plain", name := "winds", desc := "(I)V" } : Jvm.MethodName) ({ cls := "LameClocks$Plain", name := "winds", desc := "(I)V" } : Jvm.MethodName)) ∈ lw_all := lw_g (lw_at lw_m3 153 rfl) rfl
theorem q703 : (Jvm.Cond.sameMethod "LameClocks$Plain" "LameClocks$Plain" "winds" "(I)V") ∈ lw_all := lw_g (lw_at lw_m3 154 rfl) rfl
theorem q704 : (Jvm.Cond.selects "LameClocks$Cuckoo" ({ cls := "LameClocks$Plain", name := "winds", desc := "(I)V" } : Jvm.MethodName) ({ cls := "LameClocks$Plain", name := "winds", desc := "(I)V" } : Jvm.MethodName)) ∈ lw_all := lw_g (lw_at lw_m3 155 rfl) rfl
theorem q705 : (Jvm.Cond.selects "LameClocks$Mayor" ({ cls := "LameClocks$Plain", name := "winds", desc := "(I)V" } : Jvm.MethodName) ({ cls := "LameClocks$Plain", name := "winds", desc := "(I)V" } : Jvm.MethodName)) ∈ lw_all := lw_g (lw_at lw_m3 156 rfl) rfl
theorem q706 : (Jvm.Cond.selects "LameClocks$Stopped" ({ cls := "LameClocks$Plain", name := "winds", desc := "(I)V" } : Jvm.MethodName) ({ cls := "LameClocks$Plain", name := "winds", desc := "(I)V" } : Jvm.MethodName)) ∈ lw_all := lw_g (lw_at lw_m3 157 rfl) rfl
theorem q707 : (Jvm.Cond.selects "LameClocks$Sundial" ({ cls := "LameClocks$Plain", name := "winds", desc := "(I)V" } : Jvm.MethodName) ({ cls := "LameClocks$Plain", name := "winds", desc := "(I)V" } : Jvm.MethodName)) ∈ lw_all := lw_g (lw_at lw_m3 158 rfl) rfl
theorem q708 : (Jvm.Cond.selects "LameClocks$Twin" ({ cls := "LameClocks$Plain", name := "winds", desc := "(I)V" } : Jvm.MethodName) ({ cls := "LameClocks$Plain", name := "winds", desc := "(I)V" } : Jvm.MethodName)) ∈ lw_all := lw_g (lw_at lw_m3 159 rfl) rfl
theorem q830 : (Jvm.Cond.code ({ cls := "LameClocks$Race", name := "takes", desc := "(LLameClocks$Race;)V" } : Jvm.MethodName) prog_12_method_9_code (4 : Nat) (Option.none : Option Jvm.ClassFile.FieldType)) ∈ lw_all := lw_g (lw_at lw_m4 41 rfl) rfl
theorem q831 : (Jvm.Cond.methodLink "LameClocks$Race" (55 : Nat) ({ cls := "java/lang/System", name := "arraycopy", desc := "(Ljava/lang/Object;ILjava/lang/Object;II)V" } : Jvm.MethodName)) ∈ lw_all := lw_g (lw_at lw_m4 42 rfl) rfl
theorem q832 : (Jvm.Cond.methodLink "LameClocks$Race" (67 : Nat) ({ cls := "java/util/ArrayList", name := "remove", desc := "(I)Ljava/lang/Object;" } : Jvm.MethodName)) ∈ lw_all := lw_g (lw_at lw_m4 43 rfl) rfl
theorem q833 : (Jvm.Cond.methodLink "LameClocks$Race" (70 : Nat) ({ cls := "LameClocks$Plain", name := "copy", desc := "()LLameClocks$Plain;" } : Jvm.MethodName)) ∈ lw_all := lw_g (lw_at lw_m4 44 rfl) rfl
theorem q834 : (Jvm.Cond.instanceMethod ({ cls := "LameClocks$Plain", name := "copy", desc := "()LLameClocks$Plain;" } : Jvm.MethodName)) ∈ lw_all := lw_g (lw_at lw_m4 45 rfl) rfl
theorem q835 : (Jvm.Cond.selects "LameClocks$Plain" ({ cls := "LameClocks$Plain", name := "copy", desc := "()LLameClocks$Plain;" } : Jvm.MethodName) ({ cls := "LameClocks$Plain", name := "copy", desc := "()LLameClocks$Plain;" } : Jvm.MethodName)) ∈ lw_all := lw_g (lw_at lw_m4 46 rfl) rfl
theorem q836 : (Jvm.Cond.sameMethod "LameClocks$Plain" "LameClocks$Plain" "copy" "()LLameClocks$Plain;") ∈ lw_all := lw_g (lw_at lw_m4 47 rfl) rfl
theorem q837 : (Jvm.Cond.selects "LameClocks$Cuckoo" ({ cls := "LameClocks$Plain", name := "copy", desc := "()LLameClocks$Plain;" } : Jvm.MethodName) ({ cls := "LameClocks$Plain", name := "copy", desc := "()LLameClocks$Plain;" } : Jvm.MethodName)) ∈ lw_all := lw_g (lw_at lw_m4 48 rfl) rfl
theorem q838 : (Jvm.Cond.selects "LameClocks$Mayor" ({ cls := "LameClocks$Plain", name := "copy", desc := "()LLameClocks$Plain;" } : Jvm.MethodName) ({ cls := "LameClocks$Plain", name := "copy", desc := "()LLameClocks$Plain;" } : Jvm.MethodName)) ∈ lw_all := lw_g (lw_at lw_m4 49 rfl) rfl
theorem q839 : (Jvm.Cond.selects "LameClocks$Stopped" ({ cls := "LameClocks$Plain", name := "copy", desc := "()LLameClocks$Plain;" } : Jvm.MethodName) ({ cls := "LameClocks$Plain", name := "copy", desc := "()LLameClocks$Plain;" } : Jvm.MethodName)) ∈ lw_all := lw_g (lw_at lw_m4 50 rfl) rfl
theorem q840 : (Jvm.Cond.selects "LameClocks$Sundial" ({ cls := "LameClocks$Plain", name := "copy", desc := "()LLameClocks$Plain;" } : Jvm.MethodName) ({ cls := "LameClocks$Plain", name := "copy", desc := "()LLameClocks$Plain;" } : Jvm.MethodName)) ∈ lw_all := lw_g (lw_at lw_m4 51 rfl) rfl
theorem q841 : (Jvm.Cond.selects "LameClocks$Twin" ({ cls := "LameClocks$Plain", name := "copy", desc := "()LLameClocks$Plain;" } : Jvm.MethodName) ({ cls := "LameClocks$Plain", name := "copy", desc := "()LLameClocks$Plain;" } : Jvm.MethodName)) ∈ lw_all := lw_g (lw_at lw_m4 52 rfl) rfl
theorem q855 : (Jvm.Cond.methodLink "LameClocks$Race" (74 : Nat) ({ cls := "LameClocks$Plain", name := "kind", desc := "()I" } : Jvm.MethodName)) ∈ lw_all := lw_g (lw_at lw_m4 66 rfl) rfl
theorem q856 : (Jvm.Cond.methodLink "LameClocks$Race" (77 : Nat) ({ cls := "java/util/ArrayList", name := "set", desc := "(ILjava/lang/Object;)Ljava/lang/Object;" } : Jvm.MethodName)) ∈ lw_all := lw_g (lw_at lw_m4 67 rfl) rfl
theorem q857 : (Jvm.Cond.instanceMethod ({ cls := "java/util/ArrayList", name := "set", desc := "(ILjava/lang/Object;)Ljava/lang/Object;" } : Jvm.MethodName)) ∈ lw_all := lw_g (lw_at lw_m4 68 rfl) rfl
theorem q858 : (Jvm.Cond.selects "java/util/ArrayList" ({ cls := "java/util/ArrayList", name := "set", desc := "(ILjava/lang/Object;)Ljava/lang/Object;" } : Jvm.MethodName) ({ cls := "java/util/ArrayList", name := "set", desc := "(ILjava/lang/Object;)Ljava/lang/Object;" } : Jvm.MethodName)) ∈ lw_all := lw_g (lw_at lw_m4 69 rfl) rfl
theorem q860 : (Jvm.Cond.methodLink "LameClocks$Race" (81 : Nat) ({ cls := "LameClocks$Plain", name := "takes", desc := "(LLameClocks$Plain;)V" } : Jvm.MethodName)) ∈ lw_all := lw_g (lw_at lw_m4 71 rfl) rfl
theorem q950 : (Jvm.Cond.code ({ cls := "LameClocks", name := "bet", desc := "(II)I" } : Jvm.MethodName) prog_1_method_47_code (3 : Nat) (Option.some Jvm.ClassFile.FieldType.int)) ∈ lw_all := lw_g (lw_at lw_m4 161 rfl) rfl
theorem q951 : (Jvm.Cond.constantLong "LameClocks" (283 : Nat) (999 : Int64)) ∈ lw_all := lw_g (lw_at lw_m4 162 rfl) rfl
theorem q952 : (Jvm.Cond.instantiable "LameClocks$Bet" (2 : Nat)) ∈ lw_all := lw_g (lw_at lw_m4 163 rfl) rfl
theorem q953 : (Jvm.Cond.methodLink "LameClocks" (285 : Nat) ({ cls := "LameClocks$Bet", name := "<init>", desc := "(II)V" } : Jvm.MethodName)) ∈ lw_all := lw_g (lw_at lw_m4 164 rfl) rfl
theorem q954 : (Jvm.Cond.instanceMethod ({ cls := "LameClocks$Bet", name := "<init>", desc := "(II)V" } : Jvm.MethodName)) ∈ lw_all := lw_g (lw_at lw_m4 165 rfl) rfl
theorem q966 : (Jvm.Cond.methodLink "LameClocks" (288 : Nat) ({ cls := "java/util/ArrayList", name := "add", desc := "(Ljava/lang/Object;)Z" } : Jvm.MethodName)) ∈ lw_all := lw_g (lw_at lw_m4 177 rfl) rfl
theorem q1575 : (Jvm.Cond.fieldLink "LameClocks$Race" (61 : Nat) "LameClocks$Race" "heard" "I") ∈ lw_all := lw_g (lw_at lw_m7 66 rfl) rfl
theorem q1576 : (Jvm.Cond.fieldLink "LameClocks$Race" (64 : Nat) "LameClocks$Race" "strokes" "I") ∈ lw_all := lw_g (lw_at lw_m7 67 rfl) rfl
theorem q1617 : (Jvm.Cond.fieldLinkNest "LameClocks$Repair" (22 : Nat) "LameClocks" "undos" "Ljava/util/ArrayList;" "LameClocks") ∈ lw_tbl := lw_at lw_m7 108 rfl
abbrev cJ2_add : ByteArray := prog_50_method_25_code
def yJ2_add : MethodName := ⟨RJ2, "add", "(Ljava/lang/Object;)Z"⟩
def dkwJ2_add_1 : List UInt8 := [172]
abbrev dktJ2_add_1 : List UInt8 := dkwJ2_add_1 ++ []
def dkwJ2_add_0 : List UInt8 := [42, 89, 180, 0, 63, 4, 96, 181, 0, 63, 42, 43, 42, 180, 0, 9, 42, 180, 0, 48, 182, 0, 131, 4]
abbrev dktJ2_add_0 : List UInt8 := dkwJ2_add_0 ++ dktJ2_add_1
theorem dksJ2_add_0 : cJ2_add.data.toList.drop 0 = dktJ2_add_0 := by decide +kernel
theorem dksJ2_add_1 : cJ2_add.data.toList.drop 24 = dktJ2_add_1 := dk_seg dksJ2_add_0 24 rfl rfl
theorem dJ2_add_0 : decode cJ2_add 0 = .ok (.aload_n 0, 1) := dk_42 (dk_at dksJ2_add_0 0 rfl rfl)
theorem dJ2_add_1 : decode cJ2_add 1 = .ok (.dup, 1) := dk_89 (dk_at dksJ2_add_0 1 rfl rfl)
theorem dJ2_add_2 : decode cJ2_add 2 = .ok (.getfield 63, 3) := dk_180 0 63 (dk_at dksJ2_add_0 2 rfl rfl)
theorem dJ2_add_5 : decode cJ2_add 5 = .ok (.iconst 1, 1) := dk_4 (dk_at dksJ2_add_0 5 rfl rfl)
theorem dJ2_add_6 : decode cJ2_add 6 = .ok (.iadd, 1) := dk_96 (dk_at dksJ2_add_0 6 rfl rfl)
theorem dJ2_add_7 : decode cJ2_add 7 = .ok (.putfield 63, 3) := dk_181 0 63 (dk_at dksJ2_add_0 7 rfl rfl)
theorem dJ2_add_10 : decode cJ2_add 10 = .ok (.aload_n 0, 1) := dk_42 (dk_at dksJ2_add_0 10 rfl rfl)
theorem dJ2_add_11 : decode cJ2_add 11 = .ok (.aload_n 1, 1) := dk_43 (dk_at dksJ2_add_0 11 rfl rfl)
theorem dJ2_add_12 : decode cJ2_add 12 = .ok (.aload_n 0, 1) := dk_42 (dk_at dksJ2_add_0 12 rfl rfl)
theorem dJ2_add_13 : decode cJ2_add 13 = .ok (.getfield 9, 3) := dk_180 0 9 (dk_at dksJ2_add_0 13 rfl rfl)
theorem dJ2_add_16 : decode cJ2_add 16 = .ok (.aload_n 0, 1) := dk_42 (dk_at dksJ2_add_0 16 rfl rfl)
theorem dJ2_add_17 : decode cJ2_add 17 = .ok (.getfield 48, 3) := dk_180 0 48 (dk_at dksJ2_add_0 17 rfl rfl)
theorem dJ2_add_20 : decode cJ2_add 20 = .ok (.invokevirtual 131, 3) := dk_182 0 131 (dk_at dksJ2_add_0 20 rfl rfl)
theorem dJ2_add_23 : decode cJ2_add 23 = .ok (.iconst 1, 1) := dk_4 (dk_at dksJ2_add_0 23 rfl rfl)
theorem dJ2_add_24 : decode cJ2_add 24 = .ok (.ireturn, 1) := dk_172 (dk_at dksJ2_add_1 0 rfl rfl)
theorem dmV_J2_add_2 : yJ2_add_2.cls = RJ2 ∧ yJ2_add_2.cls ≠ "java/lang/invoke/MethodHandle" ∧ yJ2_add_2.cls ≠ "java/lang/invoke/VarHandle" ∧ (parseMethodDescriptor yJ2_add_2.desc).map (fun d => d.parameters.length) = some 3 := by decide +kernel
section CP
variable {Γ : Gc} {p : Program} {l : Launch} {e : Env} {s : State} {m : MethodId} {args : Array Value} {below : List Frame} {meth : Method} {c : Code} {ex : Nat → Option Nat} {z : Nat} {tF : St}
noncomputable def fJ2_add (ex : Nat → Option Nat) (z : Nat) (h0 : Nat) (h1 : Nat) (t : St) : Option (Int32 × St) := cgI [15] 0 t h0 fun v1 => cput [15] 0 t h0 (.int (v1 + 1)) fun t2 => cgA [15] 1 t2 h0 fun v3 => cgI [15] 2 t2 h0 fun v4 => ccast [15] t2 h0 (gb (fJ2_add_2 ex (z + t2.2.1) h0 h1 v3 v4 (t2.1, 0, 0)) t2 fun _ t6 => some (1, t6))
set_option maxHeartbeats 4000000 in
theorem wJ2_add {rF : Int32} (hex : ex = Γ.2.2.2.2) (X : g_X Γ p s m args meth c cJ2_add 2 RJ2) (hr : meth.sig.returnType = (some .boolean)) (h0 : Nat) (h1 : Nat) (t : St) : Wf Γ p l e 6 131 s m args below meth c 2 (g_ι z) v_i rF tF 0 [(0, .ref h0), (1, .ref h1)] [] t (fJ2_add ex z h0 h1 t) := by
  unfold fJ2_add
  refine g_aload_n (pc := 0) X 0 dJ2_add_0 rfl rfl ?_
  refine g_dup (pc := 1) X dJ2_add_1 rfl ?_
  refine cg_getI (pc := 2) X fo_J2_63 dJ2_add_2 (fun v1 => ?_)
  refine g_iconst (pc := 5) X 1 dJ2_add_5 rfl ?_
  refine g_iadd (pc := 6) X dJ2_add_6 ?_
  refine cg_put (pc := 7) X fp_J2_63 dJ2_add_7 (fun h => by cases h) rfl rfl (fun t2 => ?_)
  refine g_aload_n (pc := 10) X 0 dJ2_add_10 rfl rfl ?_
  refine g_aload_n (pc := 11) X 1 dJ2_add_11 rfl rfl ?_
  refine g_aload_n (pc := 12) X 0 dJ2_add_12 rfl rfl ?_
  refine cg_getA (pc := 13) X fo_J2_9 dJ2_add_13 (fun v3 => ?_)
  refine g_aload_n (pc := 16) X 0 dJ2_add_16 rfl rfl ?_
  refine cg_getI (pc := 17) X fo_J2_48 dJ2_add_17 (fun v4 => ?_)
  refine g_bD_v (pc := 20) X (cs := [15]) (As := [.ref h1, .ref v3, .int v4]) (rest := []) (b := h0) (n := 3) dJ2_add_20 rfl rfl (Nat.le_of_ble_eq_true rfl) (fun fl7 ci8 fs9 hs10 hci11 r u h => ?_) (fun r5 t6 => ?_)
  · obtain rfl := List.mem_singleton.mp hci11
    exact ⟨_, _, _, yJ2_add_2, _, _, _, 5, 108, rfl, kJ2_add_2 hex h, Or.inl (cwV 3 X.2.2.2.2.1 (lw_V q258 q260 qs0 q74 q262) rfl rfl rfl dmV_J2_add_2 ⟨Nat.le_of_ble_eq_true rfl, Nat.le_of_ble_eq_true rfl⟩)⟩
  refine g_iconst (pc := 23) X 1 dJ2_add_23 rfl ?_
  exact g_zret (pc := 24) X hr rfl dJ2_add_24
theorem kJ2_add {ex : Nat → Option Nat} {z : Nat} {h0 : Nat} {h1 : Nat} {σ : Sg} {r : Int32} {u : St} (hex : ex = Γ.2.2.2.2) (h : fJ2_add ex z h0 h1 (σ, 0, 0) = some (r, u)) : g_C Γ l yJ2_add cJ2_add 2 (some .boolean) 6 131 [.ref h0, .ref h1] σ z v_i r (g_ι z u) :=
  g_met (ι := g_ι z) (t := (σ, 0, 0)) [.ref h0, .ref h1] (by decide) (Nat.le_of_ble_eq_true rfl) h rfl (fun p e s m args below meth c X hr hn => wJ2_add hex X hr h0 h1 (σ, 0, 0))
end CP
abbrev cX0_bet : ByteArray := prog_1_method_47_code
def yX0_bet : MethodName := ⟨RX0, "bet", "(II)I"⟩
def dkwX0_bet_2 : List UInt8 := [183, 1, 29, 182, 1, 32, 87, 42, 180, 0, 89, 182, 0, 92, 4, 100, 172]
abbrev dktX0_bet_2 : List UInt8 := dkwX0_bet_2 ++ []
def dkwX0_bet_1 : List UInt8 := [180, 0, 89, 182, 0, 92, 16, 6, 160, 0, 6, 16, 253, 172, 42, 180, 0, 89, 187, 0, 96, 89, 27, 28]
abbrev dktX0_bet_1 : List UInt8 := dkwX0_bet_1 ++ dktX0_bet_2
def dkwX0_bet_0 : List UInt8 := [42, 27, 182, 0, 107, 153, 0, 15, 28, 133, 10, 20, 1, 27, 184, 0, 48, 154, 0, 5, 2, 172, 42]
abbrev dktX0_bet_0 : List UInt8 := dkwX0_bet_0 ++ dktX0_bet_1
theorem dksX0_bet_0 : cX0_bet.data.toList.drop 0 = dktX0_bet_0 := by decide +kernel
theorem dksX0_bet_1 : cX0_bet.data.toList.drop 23 = dktX0_bet_1 := dk_seg dksX0_bet_0 23 rfl rfl
theorem dksX0_bet_2 : cX0_bet.data.toList.drop 47 = dktX0_bet_2 := dk_seg dksX0_bet_1 24 rfl rfl
theorem dX0_bet_0 : decode cX0_bet 0 = .ok (.aload_n 0, 1) := dk_42 (dk_at dksX0_bet_0 0 rfl rfl)
theorem dX0_bet_1 : decode cX0_bet 1 = .ok (.iload_n 1, 1) := dk_27 (dk_at dksX0_bet_0 1 rfl rfl)
theorem dX0_bet_2 : decode cX0_bet 2 = .ok (.invokevirtual 107, 3) := dk_182 0 107 (dk_at dksX0_bet_0 2 rfl rfl)
theorem dX0_bet_5 : decode cX0_bet 5 = .ok (.ifCond .eq 15, 3) := dk_153 0 15 (dk_at dksX0_bet_0 5 rfl rfl)
theorem dX0_bet_8 : decode cX0_bet 8 = .ok (.iload_n 2, 1) := dk_28 (dk_at dksX0_bet_0 8 rfl rfl)
theorem dX0_bet_9 : decode cX0_bet 9 = .ok (.i2l, 1) := dk_133 (dk_at dksX0_bet_0 9 rfl rfl)
theorem dX0_bet_10 : decode cX0_bet 10 = .ok (.lconst 1, 1) := dk_10 (dk_at dksX0_bet_0 10 rfl rfl)
theorem dX0_bet_11 : decode cX0_bet 11 = .ok (.ldc2_w 283, 3) := dk_20 1 27 (dk_at dksX0_bet_0 11 rfl rfl)
theorem dX0_bet_14 : decode cX0_bet 14 = .ok (.invokestatic 48, 3) := dk_184 0 48 (dk_at dksX0_bet_0 14 rfl rfl)
theorem dX0_bet_17 : decode cX0_bet 17 = .ok (.ifCond .ne 5, 3) := dk_154 0 5 (dk_at dksX0_bet_0 17 rfl rfl)
theorem dX0_bet_20 : decode cX0_bet 20 = .ok (.iconst (-1), 1) := dk_2 (dk_at dksX0_bet_0 20 rfl rfl)
theorem dX0_bet_21 : decode cX0_bet 21 = .ok (.ireturn, 1) := dk_172 (dk_at dksX0_bet_0 21 rfl rfl)
theorem dX0_bet_22 : decode cX0_bet 22 = .ok (.aload_n 0, 1) := dk_42 (dk_at dksX0_bet_0 22 rfl rfl)
theorem dX0_bet_23 : decode cX0_bet 23 = .ok (.getfield 89, 3) := dk_180 0 89 (dk_at dksX0_bet_1 0 rfl rfl)
theorem dX0_bet_26 : decode cX0_bet 26 = .ok (.invokevirtual 92, 3) := dk_182 0 92 (dk_at dksX0_bet_1 3 rfl rfl)
theorem dX0_bet_29 : decode cX0_bet 29 = .ok (.bipush 6, 2) := dk_16 6 (dk_at dksX0_bet_1 6 rfl rfl)
theorem dX0_bet_31 : decode cX0_bet 31 = .ok (.if_icmp .ne 6, 3) := dk_160 0 6 (dk_at dksX0_bet_1 8 rfl rfl)
theorem dX0_bet_34 : decode cX0_bet 34 = .ok (.bipush (-3), 2) := dk_16 253 (dk_at dksX0_bet_1 11 rfl rfl)
theorem dX0_bet_36 : decode cX0_bet 36 = .ok (.ireturn, 1) := dk_172 (dk_at dksX0_bet_1 13 rfl rfl)
theorem dX0_bet_37 : decode cX0_bet 37 = .ok (.aload_n 0, 1) := dk_42 (dk_at dksX0_bet_1 14 rfl rfl)
theorem dX0_bet_38 : decode cX0_bet 38 = .ok (.getfield 89, 3) := dk_180 0 89 (dk_at dksX0_bet_1 15 rfl rfl)
theorem dX0_bet_41 : decode cX0_bet 41 = .ok (.new 96, 3) := dk_187 0 96 (dk_at dksX0_bet_1 18 rfl rfl)
theorem dX0_bet_44 : decode cX0_bet 44 = .ok (.dup, 1) := dk_89 (dk_at dksX0_bet_1 21 rfl rfl)
theorem dX0_bet_45 : decode cX0_bet 45 = .ok (.iload_n 1, 1) := dk_27 (dk_at dksX0_bet_1 22 rfl rfl)
theorem dX0_bet_46 : decode cX0_bet 46 = .ok (.iload_n 2, 1) := dk_28 (dk_at dksX0_bet_1 23 rfl rfl)
theorem dX0_bet_47 : decode cX0_bet 47 = .ok (.invokespecial 285, 3) := dk_183 1 29 (dk_at dksX0_bet_2 0 rfl rfl)
theorem dX0_bet_50 : decode cX0_bet 50 = .ok (.invokevirtual 288, 3) := dk_182 1 32 (dk_at dksX0_bet_2 3 rfl rfl)
theorem dX0_bet_53 : decode cX0_bet 53 = .ok (.pop, 1) := dk_87 (dk_at dksX0_bet_2 6 rfl rfl)
theorem dX0_bet_54 : decode cX0_bet 54 = .ok (.aload_n 0, 1) := dk_42 (dk_at dksX0_bet_2 7 rfl rfl)
theorem dX0_bet_55 : decode cX0_bet 55 = .ok (.getfield 89, 3) := dk_180 0 89 (dk_at dksX0_bet_2 8 rfl rfl)
theorem dX0_bet_58 : decode cX0_bet 58 = .ok (.invokevirtual 92, 3) := dk_182 0 92 (dk_at dksX0_bet_2 11 rfl rfl)
theorem dX0_bet_61 : decode cX0_bet 61 = .ok (.iconst 1, 1) := dk_4 (dk_at dksX0_bet_2 14 rfl rfl)
theorem dX0_bet_62 : decode cX0_bet 62 = .ok (.isub, 1) := dk_100 (dk_at dksX0_bet_2 15 rfl rfl)
theorem dX0_bet_63 : decode cX0_bet 63 = .ok (.ireturn, 1) := dk_172 (dk_at dksX0_bet_2 16 rfl rfl)
theorem nw_X0_96 : g_nw RX0 96 20 [.int 0, .int 0] 2 := ⟨_, _, _, tyX20, rfl, q359, q952, q105, in_X20, tyX20_ok, fun j hj => by
  match j, hj with
  | 0, _ => rfl
  | 1, _ => rfl⟩
theorem dmS_X20_init : yX20_init.cls ≠ "java/lang/invoke/MethodHandle" ∧ yX20_init.cls ≠ "java/lang/invoke/VarHandle" ∧ (parseMethodDescriptor yX20_init.desc).map (fun d => d.parameters.length) = some 2 := by decide +kernel
theorem dmV_J2_add : yJ2_add.cls = RJ2 ∧ yJ2_add.cls ≠ "java/lang/invoke/MethodHandle" ∧ yJ2_add.cls ≠ "java/lang/invoke/VarHandle" ∧ (parseMethodDescriptor yJ2_add.desc).map (fun d => d.parameters.length) = some 1 := by decide +kernel
section CP
variable {Γ : Gc} {p : Program} {l : Launch} {e : Env} {s : State} {m : MethodId} {args : Array Value} {below : List Frame} {meth : Method} {c : Code} {ex : Nat → Option Nat} {z : Nat} {tF : St}
noncomputable def fX0_bet (ex : Nat → Option Nat) (z : Nat) (h0 : Nat) (x1 : Int32) (x2 : Int32) (t : St) : Option (Int32 × St) := ccast [0] t h0 (gb (fX0_isClock ex (z + t.2.1) h0 x1 (t.1, 0, 0)) t fun r1 t2 => if r1 = 0 then some ((-1), t2) else gb (fX0_in ex (z + t2.2.1) x2.toInt64 1 999 (t2.1, 0, 0)) t2 fun r8 t9 => if r8 = 0 then some ((-1), t9) else cgA [0] 4 t9 h0 fun v10 => ccast [15] t9 v10 (gb (fJ2_size ex (z + t9.2.1) v10 (t9.1, 0, 0)) t9 fun r11 t12 => if r11 = 6 then some ((-3), t12) else cgA [0] 4 t12 h0 fun v18 => cnew z 20 [.int 0, .int 0] 2 t12 fun a19 t20 => gb (fX20_init ex (z + t20.2.1) a19 x1 x2 (t20.1, 0, 0)) t20 fun _ t22 => ccast [15] t22 v18 (gb (fJ2_add ex (z + t22.2.1) v18 a19 (t22.1, 0, 0)) t22 fun r23 t24 => cgA [0] 4 t24 h0 fun v30 => ccast [15] t24 v30 (gb (fJ2_size ex (z + t24.2.1) v30 (t24.1, 0, 0)) t24 fun r31 t32 => some (r31 - 1, t32)))))
set_option maxHeartbeats 4000000 in
theorem wX0_bet {rF : Int32} (hex : ex = Γ.2.2.2.2) (X : g_X Γ p s m args meth c cX0_bet 3 RX0) (hr : meth.sig.returnType = (some .int)) (h0 : Nat) (x1 : Int32) (x2 : Int32) (t : St) : Wf Γ p l e 7 152 s m args below meth c 3 (g_ι z) v_i rF tF 0 [(0, .ref h0), (1, .int x1), (2, .int x2)] [] t (fX0_bet ex z h0 x1 x2 t) := by
  unfold fX0_bet
  refine g_aload_n (pc := 0) X 0 dX0_bet_0 rfl rfl ?_
  refine g_iload_n (pc := 1) X 1 dX0_bet_1 rfl rfl ?_
  refine g_bD_i (pc := 2) X (cs := [0]) (As := [.int x1]) (rest := []) (b := h0) (n := 1) dX0_bet_2 rfl rfl (Nat.le_of_ble_eq_true rfl) (fun fl3 ci4 fs5 hs6 hci7 r u h => ?_) (fun r1 t2 => ?_)
  · obtain rfl := List.mem_singleton.mp hci7
    exact ⟨_, _, _, yX0_isClock, _, _, _, 2, 40, rfl, kX0_isClock hex h, Or.inl (cwV 1 X.2.2.2.2.1 (lw_V q368 q370 qs4 q70 q372) rfl rfl rfl dmV_X0_isClock ⟨Nat.le_of_ble_eq_true rfl, Nat.le_of_ble_eq_true rfl⟩)⟩
  refine g_if_eq (pc := 5) X 20 dX0_bet_5 (by decide) ?_ ?_
  · refine g_iconst (pc := 20) X (-1) dX0_bet_20 rfl ?_
    exact g_iret (pc := 21) X hr dX0_bet_21
  · refine g_iload_n (pc := 8) X 2 dX0_bet_8 rfl rfl ?_
    refine g_i2l (pc := 9) X dX0_bet_9 ?_
    refine g_lconst (pc := 10) X 1 dX0_bet_10 rfl ?_
    refine g_ldc2 (pc := 11) X 999 dX0_bet_11 q951 ?_
    refine g_bS_i (pc := 14) X (y := yX0_in) (As := [.long x2.toInt64, .long 1, .long 999]) (rest := []) (fr' := 0) (lo' := 0) (fun _ => va_cwS 3 X.2.2.2.2.1 (lw_S q122 q123 q70 q124) rfl rfl rfl dmS_X0_in ⟨Nat.le_of_ble_eq_true rfl, Nat.le_of_ble_eq_true rfl⟩) dX0_bet_14 rfl rfl (Nat.le_of_ble_eq_true rfl) (fun r u h => kX0_in hex h) (fun r8 t9 => ?_)
    refine g_if_ne (pc := 17) X 22 dX0_bet_17 (by decide) ?_ ?_
    · refine g_aload_n (pc := 22) X 0 dX0_bet_22 rfl rfl ?_
      refine cg_getA (pc := 23) X fo_X0_89 dX0_bet_23 (fun v10 => ?_)
      refine g_bD_i (pc := 26) X (cs := [15]) (As := []) (rest := []) (b := v10) (n := 0) dX0_bet_26 rfl rfl (Nat.le_of_ble_eq_true rfl) (fun fl13 ci14 fs15 hs16 hci17 r u h => ?_) (fun r11 t12 => ?_)
      · obtain rfl := List.mem_singleton.mp hci17
        exact ⟨_, _, _, yJ2_size, _, _, _, 0, 0, rfl, kJ2_size hex h, Or.inl (cwV 0 X.2.2.2.2.1 (lw_V q350 q134 q135 q74 q136) rfl rfl rfl dmV_J2_size ⟨Nat.le_of_ble_eq_true rfl, Nat.le_of_ble_eq_true rfl⟩)⟩
      refine g_bipush (pc := 29) X 6 dX0_bet_29 rfl ?_
      refine g_icmp_ne (pc := 31) X 37 dX0_bet_31 (by decide) ?_ ?_
      · refine g_aload_n (pc := 37) X 0 dX0_bet_37 rfl rfl ?_
        refine cg_getA (pc := 38) X fo_X0_89 dX0_bet_38 (fun v18 => ?_)
        refine cg_new (pc := 41) X nw_X0_96 dX0_bet_41 (fun a19 t20 => ?_)
        refine g_dup (pc := 44) X dX0_bet_44 rfl ?_
        refine g_iload_n (pc := 45) X 1 dX0_bet_45 rfl rfl ?_
        refine g_iload_n (pc := 46) X 2 dX0_bet_46 rfl rfl ?_
        refine g_bI_v (pc := 47) X (y := yX20_init) (As := [.int x1, .int x2]) (rest := [.ref a19, .ref v18]) (b := a19) (fr' := 1) (lo' := 12) (fun _ => cwI 2 X.2.2.2.2.1 (lw_meth q955) rfl rfl rfl (X.2.2.2.2.1 _ q105) (X.2.2.2.2.1 _ q953) (X.2.2.2.2.1 _ q954) rfl dmS_X20_init ⟨Nat.le_of_ble_eq_true rfl, Nat.le_of_ble_eq_true rfl⟩) dX0_bet_47 rfl rfl (Nat.le_of_ble_eq_true rfl) (fun r u h => kX20_init hex h) (fun r21 t22 => ?_)
        refine g_bD_i (pc := 50) X (cs := [15]) (As := [.ref a19]) (rest := []) (b := v18) (n := 1) dX0_bet_50 rfl rfl (Nat.le_of_ble_eq_true rfl) (fun fl25 ci26 fs27 hs28 hci29 r u h => ?_) (fun r23 t24 => ?_)
        · obtain rfl := List.mem_singleton.mp hci29
          exact ⟨_, _, _, yJ2_add, _, _, _, 6, 131, rfl, kJ2_add hex h, Or.inl (cwV 1 X.2.2.2.2.1 (lw_V q966 q255 q256 q74 q257) rfl rfl rfl dmV_J2_add ⟨Nat.le_of_ble_eq_true rfl, Nat.le_of_ble_eq_true rfl⟩)⟩
        refine g_pop (pc := 53) X dX0_bet_53 rfl ?_
        refine g_aload_n (pc := 54) X 0 dX0_bet_54 rfl rfl ?_
        refine cg_getA (pc := 55) X fo_X0_89 dX0_bet_55 (fun v30 => ?_)
        refine g_bD_i (pc := 58) X (cs := [15]) (As := []) (rest := []) (b := v30) (n := 0) dX0_bet_58 rfl rfl (Nat.le_of_ble_eq_true rfl) (fun fl33 ci34 fs35 hs36 hci37 r u h => ?_) (fun r31 t32 => ?_)
        · obtain rfl := List.mem_singleton.mp hci37
          exact ⟨_, _, _, yJ2_size, _, _, _, 0, 0, rfl, kJ2_size hex h, Or.inl (cwV 0 X.2.2.2.2.1 (lw_V q350 q134 q135 q74 q136) rfl rfl rfl dmV_J2_size ⟨Nat.le_of_ble_eq_true rfl, Nat.le_of_ble_eq_true rfl⟩)⟩
        refine g_iconst (pc := 61) X 1 dX0_bet_61 rfl ?_
        refine g_isub (pc := 62) X dX0_bet_62 ?_
        exact g_iret (pc := 63) X hr dX0_bet_63
      · refine g_bipush (pc := 34) X (-3) dX0_bet_34 rfl ?_
        exact g_iret (pc := 36) X hr dX0_bet_36
    · refine g_iconst (pc := 20) X (-1) dX0_bet_20 rfl ?_
      exact g_iret (pc := 21) X hr dX0_bet_21
theorem kX0_bet {ex : Nat → Option Nat} {z : Nat} {h0 : Nat} {x1 : Int32} {x2 : Int32} {σ : Sg} {r : Int32} {u : St} (hex : ex = Γ.2.2.2.2) (h : fX0_bet ex z h0 x1 x2 (σ, 0, 0) = some (r, u)) : g_C Γ l yX0_bet cX0_bet 3 (some .int) 7 152 [.ref h0, .int x1, .int x2] σ z v_i r (g_ι z u) :=
  g_met (ι := g_ι z) (t := (σ, 0, 0)) [.ref h0, .int x1, .int x2] (by decide) (Nat.le_of_ble_eq_true rfl) h rfl (fun p e s m args below meth c X hr hn => wX0_bet hex X hr h0 x1 x2 (σ, 0, 0))
end CP
abbrev cX1_comes : ByteArray := prog_12_method_8_code
def yX1_comes : MethodName := ⟨RX1, "comes", "(LLameClocks$Plain;)V"⟩
def dkwX1_comes_0 : List UInt8 := [43, 42, 180, 0, 22, 182, 0, 44, 181, 0, 48, 42, 180, 0, 22, 43, 182, 0, 51, 87, 177]
abbrev dktX1_comes_0 : List UInt8 := dkwX1_comes_0 ++ []
theorem dksX1_comes_0 : cX1_comes.data.toList.drop 0 = dktX1_comes_0 := by decide +kernel
theorem dX1_comes_0 : decode cX1_comes 0 = .ok (.aload_n 1, 1) := dk_43 (dk_at dksX1_comes_0 0 rfl rfl)
theorem dX1_comes_1 : decode cX1_comes 1 = .ok (.aload_n 0, 1) := dk_42 (dk_at dksX1_comes_0 1 rfl rfl)
theorem dX1_comes_2 : decode cX1_comes 2 = .ok (.getfield 22, 3) := dk_180 0 22 (dk_at dksX1_comes_0 2 rfl rfl)
theorem dX1_comes_5 : decode cX1_comes 5 = .ok (.invokevirtual 44, 3) := dk_182 0 44 (dk_at dksX1_comes_0 5 rfl rfl)
theorem dX1_comes_8 : decode cX1_comes 8 = .ok (.putfield 48, 3) := dk_181 0 48 (dk_at dksX1_comes_0 8 rfl rfl)
theorem dX1_comes_11 : decode cX1_comes 11 = .ok (.aload_n 0, 1) := dk_42 (dk_at dksX1_comes_0 11 rfl rfl)
theorem dX1_comes_12 : decode cX1_comes 12 = .ok (.getfield 22, 3) := dk_180 0 22 (dk_at dksX1_comes_0 12 rfl rfl)
theorem dX1_comes_15 : decode cX1_comes 15 = .ok (.aload_n 1, 1) := dk_43 (dk_at dksX1_comes_0 15 rfl rfl)
theorem dX1_comes_16 : decode cX1_comes 16 = .ok (.invokevirtual 51, 3) := dk_182 0 51 (dk_at dksX1_comes_0 16 rfl rfl)
theorem dX1_comes_19 : decode cX1_comes 19 = .ok (.pop, 1) := dk_87 (dk_at dksX1_comes_0 19 rfl rfl)
theorem dX1_comes_20 : decode cX1_comes 20 = .ok (.return_, 1) := dk_177 (dk_at dksX1_comes_0 20 rfl rfl)
theorem fp_X1_48 : g_fp RX1 48 [4, 5, 6, 7, 8, 9] 0 .int false := ⟨_, _, _, Or.inl q153, by decide +kernel, fun ci h => by
  simp only [List.mem_cons, List.not_mem_nil, or_false] at h; rcases h with rfl | rfl | rfl | rfl | rfl | rfl
  · exact ⟨_, _, _, tyX4, rfl, by decide, rfl, rfl, Or.inl rfl, in_X4, rfl, (fun h => by cases h), tyX4_ok, (by decide +kernel)⟩
  · exact ⟨_, _, _, tyX5, rfl, by decide, rfl, rfl, Or.inl rfl, in_X5, rfl, (fun h => by cases h), tyX5_ok, (by decide +kernel)⟩
  · exact ⟨_, _, _, tyX6, rfl, by decide, rfl, rfl, Or.inl rfl, in_X6, rfl, (fun h => by cases h), tyX6_ok, (by decide +kernel)⟩
  · exact ⟨_, _, _, tyX7, rfl, by decide, rfl, rfl, Or.inl rfl, in_X7, rfl, (fun h => by cases h), tyX7_ok, (by decide +kernel)⟩
  · exact ⟨_, _, _, tyX8, rfl, by decide, rfl, rfl, Or.inl rfl, in_X8, rfl, (fun h => by cases h), tyX8_ok, (by decide +kernel)⟩
  · exact ⟨_, _, _, tyX9, rfl, by decide, rfl, rfl, Or.inl rfl, in_X9, rfl, (fun h => by cases h), tyX9_ok, (by decide +kernel)⟩⟩
section CP
variable {Γ : Gc} {p : Program} {l : Launch} {e : Env} {s : State} {m : MethodId} {args : Array Value} {below : List Frame} {meth : Method} {c : Code} {ex : Nat → Option Nat} {z : Nat} {tF : St}
noncomputable def fX1_comes (ex : Nat → Option Nat) (z : Nat) (h0 : Nat) (h1 : Nat) (t : St) : Option (Unit × St) := cgA [1] 2 t h0 fun v1 => ccast [15] t v1 (gb (fJ2_size ex (z + t.2.1) v1 (t.1, 0, 0)) t fun r2 t3 => cput [4, 5, 6, 7, 8, 9] 0 t3 h1 (.int r2) fun t9 => cgA [1] 2 t9 h0 fun v10 => ccast [15] t9 v10 (gb (fJ2_add ex (z + t9.2.1) v10 h1 (t9.1, 0, 0)) t9 fun r11 t12 => some ((), t12)))
set_option maxHeartbeats 4000000 in
theorem wX1_comes {rF : Unit} (hex : ex = Γ.2.2.2.2) (X : g_X Γ p s m args meth c cX1_comes 2 RX1) (hr : meth.sig.returnType = none) (h0 : Nat) (h1 : Nat) (t : St) : Wf Γ p l e 7 152 s m args below meth c 2 (g_ι z) v_v rF tF 0 [(0, .ref h0), (1, .ref h1)] [] t (fX1_comes ex z h0 h1 t) := by
  unfold fX1_comes
  refine g_aload_n (pc := 0) X 1 dX1_comes_0 rfl rfl ?_
  refine g_aload_n (pc := 1) X 0 dX1_comes_1 rfl rfl ?_
  refine cg_getA (pc := 2) X fo_X1_22 dX1_comes_2 (fun v1 => ?_)
  refine g_bD_i (pc := 5) X (cs := [15]) (As := []) (rest := [.ref h1]) (b := v1) (n := 0) dX1_comes_5 rfl rfl (Nat.le_of_ble_eq_true rfl) (fun fl4 ci5 fs6 hs7 hci8 r u h => ?_) (fun r2 t3 => ?_)
  · obtain rfl := List.mem_singleton.mp hci8
    exact ⟨_, _, _, yJ2_size, _, _, _, 0, 0, rfl, kJ2_size hex h, Or.inl (cwV 0 X.2.2.2.2.1 (lw_V q133 q134 q135 q74 q136) rfl rfl rfl dmV_J2_size ⟨Nat.le_of_ble_eq_true rfl, Nat.le_of_ble_eq_true rfl⟩)⟩
  refine cg_put (pc := 8) X fp_X1_48 dX1_comes_8 (fun h => by cases h) rfl rfl (fun t9 => ?_)
  refine g_aload_n (pc := 11) X 0 dX1_comes_11 rfl rfl ?_
  refine cg_getA (pc := 12) X fo_X1_22 dX1_comes_12 (fun v10 => ?_)
  refine g_aload_n (pc := 15) X 1 dX1_comes_15 rfl rfl ?_
  refine g_bD_i (pc := 16) X (cs := [15]) (As := [.ref h1]) (rest := []) (b := v10) (n := 1) dX1_comes_16 rfl rfl (Nat.le_of_ble_eq_true rfl) (fun fl13 ci14 fs15 hs16 hci17 r u h => ?_) (fun r11 t12 => ?_)
  · obtain rfl := List.mem_singleton.mp hci17
    exact ⟨_, _, _, yJ2_add, _, _, _, 6, 131, rfl, kJ2_add hex h, Or.inl (cwV 1 X.2.2.2.2.1 (lw_V q254 q255 q256 q74 q257) rfl rfl rfl dmV_J2_add ⟨Nat.le_of_ble_eq_true rfl, Nat.le_of_ble_eq_true rfl⟩)⟩
  refine g_pop (pc := 19) X dX1_comes_19 rfl ?_
  exact g_vret (pc := 20) X hr dX1_comes_20
theorem kX1_comes {ex : Nat → Option Nat} {z : Nat} {h0 : Nat} {h1 : Nat} {σ : Sg} {r : Unit} {u : St} (hex : ex = Γ.2.2.2.2) (h : fX1_comes ex z h0 h1 (σ, 0, 0) = some (r, u)) : g_C Γ l yX1_comes cX1_comes 2 none 7 152 [.ref h0, .ref h1] σ z v_v r (g_ι z u) :=
  g_met (ι := g_ι z) (t := (σ, 0, 0)) [.ref h0, .ref h1] (by decide) (Nat.le_of_ble_eq_true rfl) h rfl (fun p e s m args below meth c X hr hn => wX1_comes hex X hr h0 h1 (σ, 0, 0))
end CP
abbrev cX1_takes : ByteArray := prog_12_method_9_code
def yX1_takes : MethodName := ⟨RX1, "takes", "(LLameClocks$Race;)V"⟩
def dkwX1_takes_9 : List UInt8 := [192, 0, 39, 45, 182, 0, 81, 132, 2, 1, 167, 255, 152, 177]
abbrev dktX1_takes_9 : List UInt8 := dkwX1_takes_9 ++ []
def dkwX1_takes_8 : List UInt8 := [180, 0, 22, 28, 45, 182, 0, 70, 182, 0, 77, 87, 167, 0, 18, 42, 180, 0, 22, 28, 182, 0, 35]
abbrev dktX1_takes_8 : List UInt8 := dkwX1_takes_8 ++ dktX1_takes_9
def dkwX1_takes_7 : List UInt8 := [42, 180, 0, 22, 28, 182, 0, 35, 192, 0, 39, 182, 0, 74, 45, 182, 0, 74, 159, 0, 19, 42]
abbrev dktX1_takes_7 : List UInt8 := dkwX1_takes_7 ++ dktX1_takes_8
def dkwX1_takes_6 : List UInt8 := [180, 0, 22, 182, 0, 44, 160, 0, 18, 42, 180, 0, 22, 45, 182, 0, 70, 182, 0, 51, 87, 167, 0, 55]
abbrev dktX1_takes_6 : List UInt8 := dkwX1_takes_6 ++ dktX1_takes_7
def dkwX1_takes_5 : List UInt8 := [180, 0, 22, 182, 0, 44, 162, 0, 99, 43, 180, 0, 22, 28, 182, 0, 35, 192, 0, 39, 78, 28, 42]
abbrev dktX1_takes_5 : List UInt8 := dkwX1_takes_5 ++ dktX1_takes_6
def dkwX1_takes_4 : List UInt8 := [180, 0, 22, 42, 180, 0, 22, 182, 0, 44, 4, 100, 182, 0, 67, 87, 167, 255, 222, 3, 61, 28, 43]
abbrev dktX1_takes_4 : List UInt8 := dkwX1_takes_4 ++ dktX1_takes_5
def dkwX1_takes_3 : List UInt8 := [180, 0, 64, 181, 0, 64, 42, 180, 0, 22, 182, 0, 44, 43, 180, 0, 22, 182, 0, 44, 164, 0, 23, 42]
abbrev dktX1_takes_3 : List UInt8 := dkwX1_takes_3 ++ dktX1_takes_4
def dkwX1_takes_2 : List UInt8 := [180, 0, 41, 181, 0, 41, 42, 43, 180, 0, 32, 181, 0, 32, 42, 43, 180, 0, 61, 181, 0, 61, 42, 43]
abbrev dktX1_takes_2 : List UInt8 := dkwX1_takes_2 ++ dktX1_takes_3
def dkwX1_takes_1 : List UInt8 := [180, 0, 26, 3, 42, 180, 0, 26, 3, 16, 12, 184, 0, 55, 42, 43, 180, 0, 29, 181, 0, 29, 42, 43]
abbrev dktX1_takes_1 : List UInt8 := dkwX1_takes_1 ++ dktX1_takes_2
def dkwX1_takes_0 : List UInt8 := [42, 43, 180, 0, 9, 181, 0, 9, 43, 180, 0, 15, 3, 42, 180, 0, 15, 3, 16, 24, 184, 0, 55, 43]
abbrev dktX1_takes_0 : List UInt8 := dkwX1_takes_0 ++ dktX1_takes_1
theorem dksX1_takes_0 : cX1_takes.data.toList.drop 0 = dktX1_takes_0 := by decide +kernel
theorem dksX1_takes_1 : cX1_takes.data.toList.drop 24 = dktX1_takes_1 := dk_seg dksX1_takes_0 24 rfl rfl
theorem dksX1_takes_2 : cX1_takes.data.toList.drop 48 = dktX1_takes_2 := dk_seg dksX1_takes_1 24 rfl rfl
theorem dksX1_takes_3 : cX1_takes.data.toList.drop 72 = dktX1_takes_3 := dk_seg dksX1_takes_2 24 rfl rfl
theorem dksX1_takes_4 : cX1_takes.data.toList.drop 96 = dktX1_takes_4 := dk_seg dksX1_takes_3 24 rfl rfl
theorem dksX1_takes_5 : cX1_takes.data.toList.drop 119 = dktX1_takes_5 := dk_seg dksX1_takes_4 23 rfl rfl
theorem dksX1_takes_6 : cX1_takes.data.toList.drop 142 = dktX1_takes_6 := dk_seg dksX1_takes_5 23 rfl rfl
theorem dksX1_takes_7 : cX1_takes.data.toList.drop 166 = dktX1_takes_7 := dk_seg dksX1_takes_6 24 rfl rfl
theorem dksX1_takes_8 : cX1_takes.data.toList.drop 188 = dktX1_takes_8 := dk_seg dksX1_takes_7 22 rfl rfl
theorem dksX1_takes_9 : cX1_takes.data.toList.drop 211 = dktX1_takes_9 := dk_seg dksX1_takes_8 23 rfl rfl
theorem dX1_takes_0 : decode cX1_takes 0 = .ok (.aload_n 0, 1) := dk_42 (dk_at dksX1_takes_0 0 rfl rfl)
theorem dX1_takes_1 : decode cX1_takes 1 = .ok (.aload_n 1, 1) := dk_43 (dk_at dksX1_takes_0 1 rfl rfl)
theorem dX1_takes_2 : decode cX1_takes 2 = .ok (.getfield 9, 3) := dk_180 0 9 (dk_at dksX1_takes_0 2 rfl rfl)
theorem dX1_takes_5 : decode cX1_takes 5 = .ok (.putfield 9, 3) := dk_181 0 9 (dk_at dksX1_takes_0 5 rfl rfl)
theorem dX1_takes_8 : decode cX1_takes 8 = .ok (.aload_n 1, 1) := dk_43 (dk_at dksX1_takes_0 8 rfl rfl)
theorem dX1_takes_9 : decode cX1_takes 9 = .ok (.getfield 15, 3) := dk_180 0 15 (dk_at dksX1_takes_0 9 rfl rfl)
theorem dX1_takes_12 : decode cX1_takes 12 = .ok (.iconst 0, 1) := dk_3 (dk_at dksX1_takes_0 12 rfl rfl)
theorem dX1_takes_13 : decode cX1_takes 13 = .ok (.aload_n 0, 1) := dk_42 (dk_at dksX1_takes_0 13 rfl rfl)
theorem dX1_takes_14 : decode cX1_takes 14 = .ok (.getfield 15, 3) := dk_180 0 15 (dk_at dksX1_takes_0 14 rfl rfl)
theorem dX1_takes_17 : decode cX1_takes 17 = .ok (.iconst 0, 1) := dk_3 (dk_at dksX1_takes_0 17 rfl rfl)
theorem dX1_takes_18 : decode cX1_takes 18 = .ok (.bipush 24, 2) := dk_16 24 (dk_at dksX1_takes_0 18 rfl rfl)
theorem dX1_takes_20 : decode cX1_takes 20 = .ok (.invokestatic 55, 3) := dk_184 0 55 (dk_at dksX1_takes_0 20 rfl rfl)
theorem dX1_takes_23 : decode cX1_takes 23 = .ok (.aload_n 1, 1) := dk_43 (dk_at dksX1_takes_0 23 rfl rfl)
theorem dX1_takes_24 : decode cX1_takes 24 = .ok (.getfield 26, 3) := dk_180 0 26 (dk_at dksX1_takes_1 0 rfl rfl)
theorem dX1_takes_27 : decode cX1_takes 27 = .ok (.iconst 0, 1) := dk_3 (dk_at dksX1_takes_1 3 rfl rfl)
theorem dX1_takes_28 : decode cX1_takes 28 = .ok (.aload_n 0, 1) := dk_42 (dk_at dksX1_takes_1 4 rfl rfl)
theorem dX1_takes_29 : decode cX1_takes 29 = .ok (.getfield 26, 3) := dk_180 0 26 (dk_at dksX1_takes_1 5 rfl rfl)
theorem dX1_takes_32 : decode cX1_takes 32 = .ok (.iconst 0, 1) := dk_3 (dk_at dksX1_takes_1 8 rfl rfl)
theorem dX1_takes_33 : decode cX1_takes 33 = .ok (.bipush 12, 2) := dk_16 12 (dk_at dksX1_takes_1 9 rfl rfl)
theorem dX1_takes_35 : decode cX1_takes 35 = .ok (.invokestatic 55, 3) := dk_184 0 55 (dk_at dksX1_takes_1 11 rfl rfl)
theorem dX1_takes_38 : decode cX1_takes 38 = .ok (.aload_n 0, 1) := dk_42 (dk_at dksX1_takes_1 14 rfl rfl)
theorem dX1_takes_39 : decode cX1_takes 39 = .ok (.aload_n 1, 1) := dk_43 (dk_at dksX1_takes_1 15 rfl rfl)
theorem dX1_takes_40 : decode cX1_takes 40 = .ok (.getfield 29, 3) := dk_180 0 29 (dk_at dksX1_takes_1 16 rfl rfl)
theorem dX1_takes_43 : decode cX1_takes 43 = .ok (.putfield 29, 3) := dk_181 0 29 (dk_at dksX1_takes_1 19 rfl rfl)
theorem dX1_takes_46 : decode cX1_takes 46 = .ok (.aload_n 0, 1) := dk_42 (dk_at dksX1_takes_1 22 rfl rfl)
theorem dX1_takes_47 : decode cX1_takes 47 = .ok (.aload_n 1, 1) := dk_43 (dk_at dksX1_takes_1 23 rfl rfl)
theorem dX1_takes_48 : decode cX1_takes 48 = .ok (.getfield 41, 3) := dk_180 0 41 (dk_at dksX1_takes_2 0 rfl rfl)
theorem dX1_takes_51 : decode cX1_takes 51 = .ok (.putfield 41, 3) := dk_181 0 41 (dk_at dksX1_takes_2 3 rfl rfl)
theorem dX1_takes_54 : decode cX1_takes 54 = .ok (.aload_n 0, 1) := dk_42 (dk_at dksX1_takes_2 6 rfl rfl)
theorem dX1_takes_55 : decode cX1_takes 55 = .ok (.aload_n 1, 1) := dk_43 (dk_at dksX1_takes_2 7 rfl rfl)
theorem dX1_takes_56 : decode cX1_takes 56 = .ok (.getfield 32, 3) := dk_180 0 32 (dk_at dksX1_takes_2 8 rfl rfl)
theorem dX1_takes_59 : decode cX1_takes 59 = .ok (.putfield 32, 3) := dk_181 0 32 (dk_at dksX1_takes_2 11 rfl rfl)
theorem dX1_takes_62 : decode cX1_takes 62 = .ok (.aload_n 0, 1) := dk_42 (dk_at dksX1_takes_2 14 rfl rfl)
theorem dX1_takes_63 : decode cX1_takes 63 = .ok (.aload_n 1, 1) := dk_43 (dk_at dksX1_takes_2 15 rfl rfl)
theorem dX1_takes_64 : decode cX1_takes 64 = .ok (.getfield 61, 3) := dk_180 0 61 (dk_at dksX1_takes_2 16 rfl rfl)
theorem dX1_takes_67 : decode cX1_takes 67 = .ok (.putfield 61, 3) := dk_181 0 61 (dk_at dksX1_takes_2 19 rfl rfl)
theorem dX1_takes_70 : decode cX1_takes 70 = .ok (.aload_n 0, 1) := dk_42 (dk_at dksX1_takes_2 22 rfl rfl)
theorem dX1_takes_71 : decode cX1_takes 71 = .ok (.aload_n 1, 1) := dk_43 (dk_at dksX1_takes_2 23 rfl rfl)
theorem dX1_takes_72 : decode cX1_takes 72 = .ok (.getfield 64, 3) := dk_180 0 64 (dk_at dksX1_takes_3 0 rfl rfl)
theorem dX1_takes_75 : decode cX1_takes 75 = .ok (.putfield 64, 3) := dk_181 0 64 (dk_at dksX1_takes_3 3 rfl rfl)
theorem dX1_takes_78 : decode cX1_takes 78 = .ok (.aload_n 0, 1) := dk_42 (dk_at dksX1_takes_3 6 rfl rfl)
theorem dX1_takes_79 : decode cX1_takes 79 = .ok (.getfield 22, 3) := dk_180 0 22 (dk_at dksX1_takes_3 7 rfl rfl)
theorem dX1_takes_82 : decode cX1_takes 82 = .ok (.invokevirtual 44, 3) := dk_182 0 44 (dk_at dksX1_takes_3 10 rfl rfl)
theorem dX1_takes_85 : decode cX1_takes 85 = .ok (.aload_n 1, 1) := dk_43 (dk_at dksX1_takes_3 13 rfl rfl)
theorem dX1_takes_86 : decode cX1_takes 86 = .ok (.getfield 22, 3) := dk_180 0 22 (dk_at dksX1_takes_3 14 rfl rfl)
theorem dX1_takes_89 : decode cX1_takes 89 = .ok (.invokevirtual 44, 3) := dk_182 0 44 (dk_at dksX1_takes_3 17 rfl rfl)
theorem dX1_takes_92 : decode cX1_takes 92 = .ok (.if_icmp .le 23, 3) := dk_164 0 23 (dk_at dksX1_takes_3 20 rfl rfl)
theorem dX1_takes_95 : decode cX1_takes 95 = .ok (.aload_n 0, 1) := dk_42 (dk_at dksX1_takes_3 23 rfl rfl)
theorem dX1_takes_96 : decode cX1_takes 96 = .ok (.getfield 22, 3) := dk_180 0 22 (dk_at dksX1_takes_4 0 rfl rfl)
theorem dX1_takes_99 : decode cX1_takes 99 = .ok (.aload_n 0, 1) := dk_42 (dk_at dksX1_takes_4 3 rfl rfl)
theorem dX1_takes_100 : decode cX1_takes 100 = .ok (.getfield 22, 3) := dk_180 0 22 (dk_at dksX1_takes_4 4 rfl rfl)
theorem dX1_takes_103 : decode cX1_takes 103 = .ok (.invokevirtual 44, 3) := dk_182 0 44 (dk_at dksX1_takes_4 7 rfl rfl)
theorem dX1_takes_106 : decode cX1_takes 106 = .ok (.iconst 1, 1) := dk_4 (dk_at dksX1_takes_4 10 rfl rfl)
theorem dX1_takes_107 : decode cX1_takes 107 = .ok (.isub, 1) := dk_100 (dk_at dksX1_takes_4 11 rfl rfl)
theorem dX1_takes_108 : decode cX1_takes 108 = .ok (.invokevirtual 67, 3) := dk_182 0 67 (dk_at dksX1_takes_4 12 rfl rfl)
theorem dX1_takes_111 : decode cX1_takes 111 = .ok (.pop, 1) := dk_87 (dk_at dksX1_takes_4 15 rfl rfl)
theorem dX1_takes_112 : decode cX1_takes 112 = .ok (.goto (-34), 3) := dk_167 255 222 (dk_at dksX1_takes_4 16 rfl rfl)
theorem dX1_takes_115 : decode cX1_takes 115 = .ok (.iconst 0, 1) := dk_3 (dk_at dksX1_takes_4 19 rfl rfl)
theorem dX1_takes_116 : decode cX1_takes 116 = .ok (.istore_n 2, 1) := dk_61 (dk_at dksX1_takes_4 20 rfl rfl)
theorem dX1_takes_117 : decode cX1_takes 117 = .ok (.iload_n 2, 1) := dk_28 (dk_at dksX1_takes_4 21 rfl rfl)
theorem dX1_takes_118 : decode cX1_takes 118 = .ok (.aload_n 1, 1) := dk_43 (dk_at dksX1_takes_4 22 rfl rfl)
theorem dX1_takes_119 : decode cX1_takes 119 = .ok (.getfield 22, 3) := dk_180 0 22 (dk_at dksX1_takes_5 0 rfl rfl)
theorem dX1_takes_122 : decode cX1_takes 122 = .ok (.invokevirtual 44, 3) := dk_182 0 44 (dk_at dksX1_takes_5 3 rfl rfl)
theorem dX1_takes_125 : decode cX1_takes 125 = .ok (.if_icmp .ge 99, 3) := dk_162 0 99 (dk_at dksX1_takes_5 6 rfl rfl)
theorem dX1_takes_128 : decode cX1_takes 128 = .ok (.aload_n 1, 1) := dk_43 (dk_at dksX1_takes_5 9 rfl rfl)
theorem dX1_takes_129 : decode cX1_takes 129 = .ok (.getfield 22, 3) := dk_180 0 22 (dk_at dksX1_takes_5 10 rfl rfl)
theorem dX1_takes_132 : decode cX1_takes 132 = .ok (.iload_n 2, 1) := dk_28 (dk_at dksX1_takes_5 13 rfl rfl)
theorem dX1_takes_133 : decode cX1_takes 133 = .ok (.invokevirtual 35, 3) := dk_182 0 35 (dk_at dksX1_takes_5 14 rfl rfl)
theorem dX1_takes_136 : decode cX1_takes 136 = .ok (.checkcast 39, 3) := dk_192 0 39 (dk_at dksX1_takes_5 17 rfl rfl)
theorem dX1_takes_139 : decode cX1_takes 139 = .ok (.astore_n 3, 1) := dk_78 (dk_at dksX1_takes_5 20 rfl rfl)
theorem dX1_takes_140 : decode cX1_takes 140 = .ok (.iload_n 2, 1) := dk_28 (dk_at dksX1_takes_5 21 rfl rfl)
theorem dX1_takes_141 : decode cX1_takes 141 = .ok (.aload_n 0, 1) := dk_42 (dk_at dksX1_takes_5 22 rfl rfl)
theorem dX1_takes_142 : decode cX1_takes 142 = .ok (.getfield 22, 3) := dk_180 0 22 (dk_at dksX1_takes_6 0 rfl rfl)
theorem dX1_takes_145 : decode cX1_takes 145 = .ok (.invokevirtual 44, 3) := dk_182 0 44 (dk_at dksX1_takes_6 3 rfl rfl)
theorem dX1_takes_148 : decode cX1_takes 148 = .ok (.if_icmp .ne 18, 3) := dk_160 0 18 (dk_at dksX1_takes_6 6 rfl rfl)
theorem dX1_takes_151 : decode cX1_takes 151 = .ok (.aload_n 0, 1) := dk_42 (dk_at dksX1_takes_6 9 rfl rfl)
theorem dX1_takes_152 : decode cX1_takes 152 = .ok (.getfield 22, 3) := dk_180 0 22 (dk_at dksX1_takes_6 10 rfl rfl)
theorem dX1_takes_155 : decode cX1_takes 155 = .ok (.aload_n 3, 1) := dk_45 (dk_at dksX1_takes_6 13 rfl rfl)
theorem dX1_takes_156 : decode cX1_takes 156 = .ok (.invokevirtual 70, 3) := dk_182 0 70 (dk_at dksX1_takes_6 14 rfl rfl)
theorem dX1_takes_159 : decode cX1_takes 159 = .ok (.invokevirtual 51, 3) := dk_182 0 51 (dk_at dksX1_takes_6 17 rfl rfl)
theorem dX1_takes_162 : decode cX1_takes 162 = .ok (.pop, 1) := dk_87 (dk_at dksX1_takes_6 20 rfl rfl)
theorem dX1_takes_163 : decode cX1_takes 163 = .ok (.goto 55, 3) := dk_167 0 55 (dk_at dksX1_takes_6 21 rfl rfl)
theorem dX1_takes_166 : decode cX1_takes 166 = .ok (.aload_n 0, 1) := dk_42 (dk_at dksX1_takes_7 0 rfl rfl)
theorem dX1_takes_167 : decode cX1_takes 167 = .ok (.getfield 22, 3) := dk_180 0 22 (dk_at dksX1_takes_7 1 rfl rfl)
theorem dX1_takes_170 : decode cX1_takes 170 = .ok (.iload_n 2, 1) := dk_28 (dk_at dksX1_takes_7 4 rfl rfl)
theorem dX1_takes_171 : decode cX1_takes 171 = .ok (.invokevirtual 35, 3) := dk_182 0 35 (dk_at dksX1_takes_7 5 rfl rfl)
theorem dX1_takes_174 : decode cX1_takes 174 = .ok (.checkcast 39, 3) := dk_192 0 39 (dk_at dksX1_takes_7 8 rfl rfl)
theorem dX1_takes_177 : decode cX1_takes 177 = .ok (.invokevirtual 74, 3) := dk_182 0 74 (dk_at dksX1_takes_7 11 rfl rfl)
theorem dX1_takes_180 : decode cX1_takes 180 = .ok (.aload_n 3, 1) := dk_45 (dk_at dksX1_takes_7 14 rfl rfl)
theorem dX1_takes_181 : decode cX1_takes 181 = .ok (.invokevirtual 74, 3) := dk_182 0 74 (dk_at dksX1_takes_7 15 rfl rfl)
theorem dX1_takes_184 : decode cX1_takes 184 = .ok (.if_icmp .eq 19, 3) := dk_159 0 19 (dk_at dksX1_takes_7 18 rfl rfl)
theorem dX1_takes_187 : decode cX1_takes 187 = .ok (.aload_n 0, 1) := dk_42 (dk_at dksX1_takes_7 21 rfl rfl)
theorem dX1_takes_188 : decode cX1_takes 188 = .ok (.getfield 22, 3) := dk_180 0 22 (dk_at dksX1_takes_8 0 rfl rfl)
theorem dX1_takes_191 : decode cX1_takes 191 = .ok (.iload_n 2, 1) := dk_28 (dk_at dksX1_takes_8 3 rfl rfl)
theorem dX1_takes_192 : decode cX1_takes 192 = .ok (.aload_n 3, 1) := dk_45 (dk_at dksX1_takes_8 4 rfl rfl)
theorem dX1_takes_193 : decode cX1_takes 193 = .ok (.invokevirtual 70, 3) := dk_182 0 70 (dk_at dksX1_takes_8 5 rfl rfl)
theorem dX1_takes_196 : decode cX1_takes 196 = .ok (.invokevirtual 77, 3) := dk_182 0 77 (dk_at dksX1_takes_8 8 rfl rfl)
theorem dX1_takes_199 : decode cX1_takes 199 = .ok (.pop, 1) := dk_87 (dk_at dksX1_takes_8 11 rfl rfl)
theorem dX1_takes_200 : decode cX1_takes 200 = .ok (.goto 18, 3) := dk_167 0 18 (dk_at dksX1_takes_8 12 rfl rfl)
theorem dX1_takes_203 : decode cX1_takes 203 = .ok (.aload_n 0, 1) := dk_42 (dk_at dksX1_takes_8 15 rfl rfl)
theorem dX1_takes_204 : decode cX1_takes 204 = .ok (.getfield 22, 3) := dk_180 0 22 (dk_at dksX1_takes_8 16 rfl rfl)
theorem dX1_takes_207 : decode cX1_takes 207 = .ok (.iload_n 2, 1) := dk_28 (dk_at dksX1_takes_8 19 rfl rfl)
theorem dX1_takes_208 : decode cX1_takes 208 = .ok (.invokevirtual 35, 3) := dk_182 0 35 (dk_at dksX1_takes_8 20 rfl rfl)
theorem dX1_takes_211 : decode cX1_takes 211 = .ok (.checkcast 39, 3) := dk_192 0 39 (dk_at dksX1_takes_9 0 rfl rfl)
theorem dX1_takes_214 : decode cX1_takes 214 = .ok (.aload_n 3, 1) := dk_45 (dk_at dksX1_takes_9 3 rfl rfl)
theorem dX1_takes_215 : decode cX1_takes 215 = .ok (.invokevirtual 81, 3) := dk_182 0 81 (dk_at dksX1_takes_9 4 rfl rfl)
theorem dX1_takes_218 : decode cX1_takes 218 = .ok (.iinc 2 1, 3) := dk_132 2 1 (dk_at dksX1_takes_9 7 rfl rfl)
theorem dX1_takes_221 : decode cX1_takes 221 = .ok (.goto (-104), 3) := dk_167 255 152 (dk_at dksX1_takes_9 10 rfl rfl)
theorem dX1_takes_224 : decode cX1_takes 224 = .ok (.return_, 1) := dk_177 (dk_at dksX1_takes_9 13 rfl rfl)
theorem fp_X1_41 : g_fp RX1 41 [1] 3 .int false := ⟨_, _, _, Or.inl q1566, by decide +kernel, fun ci h => by
  simp only [List.mem_cons, List.not_mem_nil, or_false] at h; rcases h with rfl
  · exact ⟨_, _, _, tyX1, rfl, by decide, rfl, rfl, Or.inl rfl, in_X1, rfl, (fun h => by cases h), tyX1_ok, (by decide +kernel)⟩⟩
theorem fo_X1_61 : g_fo RX1 61 [1] 7 := ⟨_, _, _, Or.inl q1575, fun ci h => by
  simp only [List.mem_cons, List.not_mem_nil, or_false] at h; rcases h with rfl
  · exact ⟨_, _, _, rfl, by decide, rfl, rfl, Or.inl rfl, in_X1⟩⟩
theorem fp_X1_61 : g_fp RX1 61 [1] 7 .int false := ⟨_, _, _, Or.inl q1575, by decide +kernel, fun ci h => by
  simp only [List.mem_cons, List.not_mem_nil, or_false] at h; rcases h with rfl
  · exact ⟨_, _, _, tyX1, rfl, by decide, rfl, rfl, Or.inl rfl, in_X1, rfl, (fun h => by cases h), tyX1_ok, (by decide +kernel)⟩⟩
theorem fo_X1_64 : g_fo RX1 64 [1] 8 := ⟨_, _, _, Or.inl q1576, fun ci h => by
  simp only [List.mem_cons, List.not_mem_nil, or_false] at h; rcases h with rfl
  · exact ⟨_, _, _, rfl, by decide, rfl, rfl, Or.inl rfl, in_X1⟩⟩
theorem fp_X1_64 : g_fp RX1 64 [1] 8 .int false := ⟨_, _, _, Or.inl q1576, by decide +kernel, fun ci h => by
  simp only [List.mem_cons, List.not_mem_nil, or_false] at h; rcases h with rfl
  · exact ⟨_, _, _, tyX1, rfl, by decide, rfl, rfl, Or.inl rfl, in_X1, rfl, (fun h => by cases h), tyX1_ok, (by decide +kernel)⟩⟩
theorem dmV_X4_copy : yX4_copy.cls = RX4 ∧ yX4_copy.cls ≠ "java/lang/invoke/MethodHandle" ∧ yX4_copy.cls ≠ "java/lang/invoke/VarHandle" ∧ (parseMethodDescriptor yX4_copy.desc).map (fun d => d.parameters.length) = some 0 := by decide +kernel
theorem dmU_X4_copy0 : "LameClocks$Plain" ≠ "java/lang/invoke/MethodHandle" ∧ "LameClocks$Plain" ≠ "java/lang/invoke/VarHandle" ∧ (parseMethodDescriptor "()LLameClocks$Plain;").map (fun d => d.parameters.length) = some 0 := by decide +kernel
theorem dmV_J2_set : yJ2_set.cls = RJ2 ∧ yJ2_set.cls ≠ "java/lang/invoke/MethodHandle" ∧ yJ2_set.cls ≠ "java/lang/invoke/VarHandle" ∧ (parseMethodDescriptor yJ2_set.desc).map (fun d => d.parameters.length) = some 2 := by decide +kernel
section CP
variable {Γ : Gc} {p : Program} {l : Launch} {e : Env} {s : State} {m : MethodId} {args : Array Value} {below : List Frame} {meth : Method} {c : Code} {ex : Nat → Option Nat} {z : Nat} {tF : St}
noncomputable def fX1_takes_218 (ex : Nat → Option Nat) (z : Nat) (kc117 : Nat → Nat → Int32 → St → Option (Unit × St)) (h0 : Nat) (h1 : Nat) (x2 : Int32) (t : St) : Option (Unit × St) := kc117 h0 h1 (x2 + 1) t
set_option maxHeartbeats 4000000 in
theorem wX1_takes_218 {rF : Unit} (hex : ex = Γ.2.2.2.2) (X : g_X Γ p s m args meth c cX1_takes 4 RX1) (hr : meth.sig.returnType = none) {kc117 : Nat → Nat → Int32 → St → Option (Unit × St)} (hk117 : ∀ (h0 : Nat) (h1 : Nat) (x2 : Int32) (t : St), Wf Γ p l e 7 152 s m args below meth c 4 (g_ι z) v_v rF tF 117 [(0, .ref h0), (1, .ref h1), (2, .int x2)] [] t (kc117 h0 h1 x2 t)) (h0 : Nat) (h1 : Nat) (x2 : Int32) (t : St) : Wf Γ p l e 7 152 s m args below meth c 4 (g_ι z) v_v rF tF 218 [(0, .ref h0), (1, .ref h1), (2, .int x2)] [] t (fX1_takes_218 ex z kc117 h0 h1 x2 t) := by
  unfold fX1_takes_218
  refine g_iinc (pc := 218) X 1 2 (lv' := [(2, .int (x2 + 1)), (0, .ref h0), (1, .ref h1)]) dX1_takes_218 rfl rfl (by decide) rfl ?_
  refine g_goto (pc := 221) X 117 dX1_takes_221 (by decide) ?_
  exact g_lv (pc := 117) (lv' := [(0, .ref h0), (1, .ref h1), (2, .int (x2 + 1))]) [1, 2, 0] rfl (hk117 h0 h1 (x2 + 1) t)
noncomputable def fX1_takes_117 (ex : Nat → Option Nat) (z : Nat) : Nat → Nat → Nat → Int32 → St → Option (Unit × St)
  | 0, _, _, _, _ => none
  | n + 1, h0, h1, x2, t => cgA [1] 2 t h1 fun v1 => ccast [15] t v1 (gb (fJ2_size ex (z + t.2.1) v1 (t.1, 0, 0)) t fun r2 t3 => if r2 ≤ x2 then some ((), t3) else cgA [1] 2 t3 h1 fun v9 => ccast [15] t3 v9 (gb (fJ2_get ex (z + t3.2.1) v9 x2 (t3.1, 0, 0)) t3 fun r10 t11 => ccast [4, 5, 6, 7, 8, 9] t11 r10 (cgA [1] 2 t11 h0 fun v17 => ccast [15] t11 v17 (gb (fJ2_size ex (z + t11.2.1) v17 (t11.1, 0, 0)) t11 fun r18 t19 => if x2 = r18 then cgA [1] 2 t19 h0 fun v77 => ccast [4, 5, 6, 7, 8, 9] t19 r10 (gb (fX4_copy ex (z + t19.2.1) r10 (t19.1, 0, 0)) t19 fun r78 t79 => ccast [15] t79 v77 (gb (fJ2_add ex (z + t79.2.1) v77 r78 (t79.1, 0, 0)) t79 fun r85 t86 => fX1_takes_218 ex z (fun a0 a1 a2 a3 => fX1_takes_117 ex z n a0 a1 a2 a3) h0 h1 x2 t86)) else cgA [1] 2 t19 h0 fun v25 => ccast [15] t19 v25 (gb (fJ2_get ex (z + t19.2.1) v25 x2 (t19.1, 0, 0)) t19 fun r26 t27 => ccast [4, 5, 6, 7, 8, 9] t27 r26 (ccast [4, 5, 6, 7, 8, 9] t27 r26 (gb (fv_X4_kind ex (z + t27.2.1) r26 (t27.1, 0, 0)) t27 fun r33 t34 => ccast [4, 5, 6, 7, 8, 9] t34 r10 (gb (fv_X4_kind ex (z + t34.2.1) r10 (t34.1, 0, 0)) t34 fun r40 t41 => if r33 = r40 then cgA [1] 2 t41 h0 fun v47 => ccast [15] t41 v47 (gb (fJ2_get ex (z + t41.2.1) v47 x2 (t41.1, 0, 0)) t41 fun r48 t49 => ccast [4, 5, 6, 7, 8, 9] t49 r48 (ccast [4, 5, 6, 7, 8, 9] t49 r48 (gb (fX4_takes ex (z + t49.2.1) r48 r10 (t49.1, 0, 0)) t49 fun _ t56 => fX1_takes_218 ex z (fun a0 a1 a2 a3 => fX1_takes_117 ex z n a0 a1 a2 a3) h0 h1 x2 t56))) else cgA [1] 2 t41 h0 fun v62 => ccast [4, 5, 6, 7, 8, 9] t41 r10 (gb (fX4_copy ex (z + t41.2.1) r10 (t41.1, 0, 0)) t41 fun r63 t64 => ccast [15] t64 v62 (gb (fJ2_set ex (z + t64.2.1) v62 x2 r63 (t64.1, 0, 0)) t64 fun r70 t71 => fX1_takes_218 ex z (fun a0 a1 a2 a3 => fX1_takes_117 ex z n a0 a1 a2 a3) h0 h1 x2 t71))))))))))
set_option maxHeartbeats 4000000 in
theorem wX1_takes_117 {rF : Unit} (hex : ex = Γ.2.2.2.2) (X : g_X Γ p s m args meth c cX1_takes 4 RX1) (hr : meth.sig.returnType = none) (n : Nat) : ∀ (h0 : Nat) (h1 : Nat) (x2 : Int32) (t : St), Wf Γ p l e 7 152 s m args below meth c 4 (g_ι z) v_v rF tF 117 [(0, .ref h0), (1, .ref h1), (2, .int x2)] [] t (fX1_takes_117 ex z n h0 h1 x2 t) := by
  induction n with
  | zero => intro h0 h1 x2 t; exact g_none
  | succ n ih =>
    intro h0 h1 x2 t
    rw [fX1_takes_117]
    refine g_iload_n (pc := 117) X 2 dX1_takes_117 rfl rfl ?_
    refine g_aload_n (pc := 118) X 1 dX1_takes_118 rfl rfl ?_
    refine cg_getA (pc := 119) X fo_X1_22 dX1_takes_119 (fun v1 => ?_)
    refine g_bD_i (pc := 122) X (cs := [15]) (As := []) (rest := [.int x2]) (b := v1) (n := 0) dX1_takes_122 rfl rfl (Nat.le_of_ble_eq_true rfl) (fun fl4 ci5 fs6 hs7 hci8 r u h => ?_) (fun r2 t3 => ?_)
    · obtain rfl := List.mem_singleton.mp hci8
      exact ⟨_, _, _, yJ2_size, _, _, _, 0, 0, rfl, kJ2_size hex h, Or.inl (cwV 0 X.2.2.2.2.1 (lw_V q133 q134 q135 q74 q136) rfl rfl rfl dmV_J2_size ⟨Nat.le_of_ble_eq_true rfl, Nat.le_of_ble_eq_true rfl⟩)⟩
    refine g_icmp_ge (pc := 125) X 224 dX1_takes_125 (by decide) ?_ ?_
    · exact g_vret (pc := 224) X hr dX1_takes_224
    · refine g_aload_n (pc := 128) X 1 dX1_takes_128 rfl rfl ?_
      refine cg_getA (pc := 129) X fo_X1_22 dX1_takes_129 (fun v9 => ?_)
      refine g_iload_n (pc := 132) X 2 dX1_takes_132 rfl rfl ?_
      refine g_bD_a (pc := 133) X (cs := [15]) (As := [.int x2]) (rest := []) (b := v9) (n := 1) dX1_takes_133 rfl rfl (Nat.le_of_ble_eq_true rfl) (fun fl12 ci13 fs14 hs15 hci16 r u h => ?_) (fun r10 t11 => ?_)
      · obtain rfl := List.mem_singleton.mp hci16
        exact ⟨_, _, _, yJ2_get, _, _, _, 2, 43, rfl, kJ2_get hex h, Or.inl (cwV 1 X.2.2.2.2.1 (lw_V q377 q352 q353 q74 q354) rfl rfl rfl dmV_J2_get ⟨Nat.le_of_ble_eq_true rfl, Nat.le_of_ble_eq_true rfl⟩)⟩
      refine cg_cast (pc := 136) X (cs := [4, 5, 6, 7, 8, 9]) q378 cf_LameClocks_Plain_6 dX1_takes_136 ?_
      refine g_astore_n (pc := 139) X (lv' := [(3, .ref r10), (0, .ref h0), (1, .ref h1), (2, .int x2)]) dX1_takes_139 rfl (by decide) rfl ?_
      refine g_iload_n (pc := 140) X 3 dX1_takes_140 rfl rfl ?_
      refine g_aload_n (pc := 141) X 1 dX1_takes_141 rfl rfl ?_
      refine cg_getA (pc := 142) X fo_X1_22 dX1_takes_142 (fun v17 => ?_)
      refine g_bD_i (pc := 145) X (cs := [15]) (As := []) (rest := [.int x2]) (b := v17) (n := 0) dX1_takes_145 rfl rfl (Nat.le_of_ble_eq_true rfl) (fun fl20 ci21 fs22 hs23 hci24 r u h => ?_) (fun r18 t19 => ?_)
      · obtain rfl := List.mem_singleton.mp hci24
        exact ⟨_, _, _, yJ2_size, _, _, _, 0, 0, rfl, kJ2_size hex h, Or.inl (cwV 0 X.2.2.2.2.1 (lw_V q133 q134 q135 q74 q136) rfl rfl rfl dmV_J2_size ⟨Nat.le_of_ble_eq_true rfl, Nat.le_of_ble_eq_true rfl⟩)⟩
      refine g_icmp_ne (pc := 148) X 166 dX1_takes_148 (by decide) ?_ ?_
      · refine g_aload_n (pc := 166) X 1 dX1_takes_166 rfl rfl ?_
        refine cg_getA (pc := 167) X fo_X1_22 dX1_takes_167 (fun v25 => ?_)
        refine g_iload_n (pc := 170) X 3 dX1_takes_170 rfl rfl ?_
        refine g_bD_a (pc := 171) X (cs := [15]) (As := [.int x2]) (rest := []) (b := v25) (n := 1) dX1_takes_171 rfl rfl (Nat.le_of_ble_eq_true rfl) (fun fl28 ci29 fs30 hs31 hci32 r u h => ?_) (fun r26 t27 => ?_)
        · obtain rfl := List.mem_singleton.mp hci32
          exact ⟨_, _, _, yJ2_get, _, _, _, 2, 43, rfl, kJ2_get hex h, Or.inl (cwV 1 X.2.2.2.2.1 (lw_V q377 q352 q353 q74 q354) rfl rfl rfl dmV_J2_get ⟨Nat.le_of_ble_eq_true rfl, Nat.le_of_ble_eq_true rfl⟩)⟩
        refine cg_cast (pc := 174) X (cs := [4, 5, 6, 7, 8, 9]) q378 cf_LameClocks_Plain_6 dX1_takes_174 ?_
        refine g_bD_i (pc := 177) X (cs := [4, 5, 6, 7, 8, 9]) (As := []) (rest := []) (b := r26) (n := 0) dX1_takes_177 rfl rfl (Nat.le_of_ble_eq_true rfl) (fun fl35 ci36 fs37 hs38 hci39 r u h => ?_) (fun r33 t34 => ?_)
        · simp only [List.mem_cons, List.not_mem_nil, or_false] at hci39
          rcases hci39 with rfl | rfl | rfl | rfl | rfl | rfl
          · exact ⟨_, _, _, yX4_kind, _, _, _, 0, 0, rfl, kX4_kind hex (by rw [fv_X4_kind_4 hs38] at h; exact h), Or.inl (cwV 0 X.2.2.2.2.1 (lw_V q855 q380 q381 q77 q403) rfl rfl rfl dmV_X4_kind ⟨Nat.le_of_ble_eq_true rfl, Nat.le_of_ble_eq_true rfl⟩)⟩
          · exact ⟨_, _, _, yX5_kind, _, _, _, 1, 20, rfl, kX5_kind hex (by rw [fv_X4_kind_5 hs38] at h; exact h), Or.inr (Or.inl ⟨_, _, va_cwO 0 X.2.2.2.2.1 (lw_O q855 q382 q380 q383 q384 q78 q385) rfl rfl rfl q403 dmU_X4_kind0 ⟨Nat.le_of_ble_eq_true rfl, Nat.le_of_ble_eq_true rfl⟩⟩)⟩
          · exact ⟨_, _, _, yX6_kind, _, _, _, 1, 20, rfl, kX6_kind hex (by rw [fv_X4_kind_6 hs38] at h; exact h), Or.inr (Or.inl ⟨_, _, va_cwO 0 X.2.2.2.2.1 (lw_O q855 q382 q380 q391 q392 q79 q393) rfl rfl rfl q403 dmU_X4_kind0 ⟨Nat.le_of_ble_eq_true rfl, Nat.le_of_ble_eq_true rfl⟩⟩)⟩
          · exact ⟨_, _, _, yX7_kind, _, _, _, 2, 40, rfl, kX7_kind hex (by rw [fv_X4_kind_7 hs38] at h; exact h), Or.inr (Or.inl ⟨_, _, va_cwO 0 X.2.2.2.2.1 (lw_O q855 q382 q380 q395 q396 q80 q397) rfl rfl rfl q403 dmU_X4_kind0 ⟨Nat.le_of_ble_eq_true rfl, Nat.le_of_ble_eq_true rfl⟩⟩)⟩
          · exact ⟨_, _, _, yX8_kind, _, _, _, 1, 20, rfl, kX8_kind hex (by rw [fv_X4_kind_8 hs38] at h; exact h), Or.inr (Or.inl ⟨_, _, va_cwO 0 X.2.2.2.2.1 (lw_O q855 q382 q380 q399 q400 q81 q401) rfl rfl rfl q403 dmU_X4_kind0 ⟨Nat.le_of_ble_eq_true rfl, Nat.le_of_ble_eq_true rfl⟩⟩)⟩
          · exact ⟨_, _, _, yX9_kind, _, _, _, 1, 20, rfl, kX9_kind hex (by rw [fv_X4_kind_9 hs38] at h; exact h), Or.inr (Or.inl ⟨_, _, va_cwO 0 X.2.2.2.2.1 (lw_O q855 q382 q380 q387 q388 q82 q389) rfl rfl rfl q403 dmU_X4_kind0 ⟨Nat.le_of_ble_eq_true rfl, Nat.le_of_ble_eq_true rfl⟩⟩)⟩
        refine g_aload_n (pc := 180) X 0 dX1_takes_180 rfl rfl ?_
        refine g_bD_i (pc := 181) X (cs := [4, 5, 6, 7, 8, 9]) (As := []) (rest := [.int r33]) (b := r10) (n := 0) dX1_takes_181 rfl rfl (Nat.le_of_ble_eq_true rfl) (fun fl42 ci43 fs44 hs45 hci46 r u h => ?_) (fun r40 t41 => ?_)
        · simp only [List.mem_cons, List.not_mem_nil, or_false] at hci46
          rcases hci46 with rfl | rfl | rfl | rfl | rfl | rfl
          · exact ⟨_, _, _, yX4_kind, _, _, _, 0, 0, rfl, kX4_kind hex (by rw [fv_X4_kind_4 hs45] at h; exact h), Or.inl (cwV 0 X.2.2.2.2.1 (lw_V q855 q380 q381 q77 q403) rfl rfl rfl dmV_X4_kind ⟨Nat.le_of_ble_eq_true rfl, Nat.le_of_ble_eq_true rfl⟩)⟩
          · exact ⟨_, _, _, yX5_kind, _, _, _, 1, 20, rfl, kX5_kind hex (by rw [fv_X4_kind_5 hs45] at h; exact h), Or.inr (Or.inl ⟨_, _, va_cwO 0 X.2.2.2.2.1 (lw_O q855 q382 q380 q383 q384 q78 q385) rfl rfl rfl q403 dmU_X4_kind0 ⟨Nat.le_of_ble_eq_true rfl, Nat.le_of_ble_eq_true rfl⟩⟩)⟩
          · exact ⟨_, _, _, yX6_kind, _, _, _, 1, 20, rfl, kX6_kind hex (by rw [fv_X4_kind_6 hs45] at h; exact h), Or.inr (Or.inl ⟨_, _, va_cwO 0 X.2.2.2.2.1 (lw_O q855 q382 q380 q391 q392 q79 q393) rfl rfl rfl q403 dmU_X4_kind0 ⟨Nat.le_of_ble_eq_true rfl, Nat.le_of_ble_eq_true rfl⟩⟩)⟩
          · exact ⟨_, _, _, yX7_kind, _, _, _, 2, 40, rfl, kX7_kind hex (by rw [fv_X4_kind_7 hs45] at h; exact h), Or.inr (Or.inl ⟨_, _, va_cwO 0 X.2.2.2.2.1 (lw_O q855 q382 q380 q395 q396 q80 q397) rfl rfl rfl q403 dmU_X4_kind0 ⟨Nat.le_of_ble_eq_true rfl, Nat.le_of_ble_eq_true rfl⟩⟩)⟩
          · exact ⟨_, _, _, yX8_kind, _, _, _, 1, 20, rfl, kX8_kind hex (by rw [fv_X4_kind_8 hs45] at h; exact h), Or.inr (Or.inl ⟨_, _, va_cwO 0 X.2.2.2.2.1 (lw_O q855 q382 q380 q399 q400 q81 q401) rfl rfl rfl q403 dmU_X4_kind0 ⟨Nat.le_of_ble_eq_true rfl, Nat.le_of_ble_eq_true rfl⟩⟩)⟩
          · exact ⟨_, _, _, yX9_kind, _, _, _, 1, 20, rfl, kX9_kind hex (by rw [fv_X4_kind_9 hs45] at h; exact h), Or.inr (Or.inl ⟨_, _, va_cwO 0 X.2.2.2.2.1 (lw_O q855 q382 q380 q387 q388 q82 q389) rfl rfl rfl q403 dmU_X4_kind0 ⟨Nat.le_of_ble_eq_true rfl, Nat.le_of_ble_eq_true rfl⟩⟩)⟩
        refine g_icmp_eq (pc := 184) X 203 dX1_takes_184 (by decide) ?_ ?_
        · refine g_aload_n (pc := 203) X 1 dX1_takes_203 rfl rfl ?_
          refine cg_getA (pc := 204) X fo_X1_22 dX1_takes_204 (fun v47 => ?_)
          refine g_iload_n (pc := 207) X 3 dX1_takes_207 rfl rfl ?_
          refine g_bD_a (pc := 208) X (cs := [15]) (As := [.int x2]) (rest := []) (b := v47) (n := 1) dX1_takes_208 rfl rfl (Nat.le_of_ble_eq_true rfl) (fun fl50 ci51 fs52 hs53 hci54 r u h => ?_) (fun r48 t49 => ?_)
          · obtain rfl := List.mem_singleton.mp hci54
            exact ⟨_, _, _, yJ2_get, _, _, _, 2, 43, rfl, kJ2_get hex h, Or.inl (cwV 1 X.2.2.2.2.1 (lw_V q377 q352 q353 q74 q354) rfl rfl rfl dmV_J2_get ⟨Nat.le_of_ble_eq_true rfl, Nat.le_of_ble_eq_true rfl⟩)⟩
          refine cg_cast (pc := 211) X (cs := [4, 5, 6, 7, 8, 9]) q378 cf_LameClocks_Plain_6 dX1_takes_211 ?_
          refine g_aload_n (pc := 214) X 0 dX1_takes_214 rfl rfl ?_
          refine g_bD_v (pc := 215) X (cs := [4, 5, 6, 7, 8, 9]) (As := [.ref r10]) (rest := []) (b := r48) (n := 1) dX1_takes_215 rfl rfl (Nat.le_of_ble_eq_true rfl) (fun fl57 ci58 fs59 hs60 hci61 r u h => ?_) (fun r55 t56 => ?_)
          · simp only [List.mem_cons, List.not_mem_nil, or_false] at hci61
            rcases hci61 with rfl | rfl | rfl | rfl | rfl | rfl
            · exact ⟨_, _, _, yX4_takes, _, _, _, 0, 0, rfl, kX4_takes hex h, Or.inl (cwV 1 X.2.2.2.2.1 (lw_V q860 q846 q847 q77 q854) rfl rfl rfl dmV_X4_takes ⟨Nat.le_of_ble_eq_true rfl, Nat.le_of_ble_eq_true rfl⟩)⟩
            · exact ⟨_, _, _, yX4_takes, _, _, _, 0, 0, rfl, kX4_takes hex h, Or.inr (Or.inl ⟨_, _, va_cwU 1 X.2.2.2.2.1 (lw_U q860 q848 q849 q846 q77 q854) rfl rfl rfl rfl dmU_X4_takes1 ⟨Nat.le_of_ble_eq_true rfl, Nat.le_of_ble_eq_true rfl⟩⟩)⟩
            · exact ⟨_, _, _, yX4_takes, _, _, _, 0, 0, rfl, kX4_takes hex h, Or.inr (Or.inl ⟨_, _, va_cwU 1 X.2.2.2.2.1 (lw_U q860 q848 q851 q846 q77 q854) rfl rfl rfl rfl dmU_X4_takes1 ⟨Nat.le_of_ble_eq_true rfl, Nat.le_of_ble_eq_true rfl⟩⟩)⟩
            · exact ⟨_, _, _, yX4_takes, _, _, _, 0, 0, rfl, kX4_takes hex h, Or.inr (Or.inl ⟨_, _, va_cwU 1 X.2.2.2.2.1 (lw_U q860 q848 q852 q846 q77 q854) rfl rfl rfl rfl dmU_X4_takes1 ⟨Nat.le_of_ble_eq_true rfl, Nat.le_of_ble_eq_true rfl⟩⟩)⟩
            · exact ⟨_, _, _, yX4_takes, _, _, _, 0, 0, rfl, kX4_takes hex h, Or.inr (Or.inl ⟨_, _, va_cwU 1 X.2.2.2.2.1 (lw_U q860 q848 q853 q846 q77 q854) rfl rfl rfl rfl dmU_X4_takes1 ⟨Nat.le_of_ble_eq_true rfl, Nat.le_of_ble_eq_true rfl⟩⟩)⟩
            · exact ⟨_, _, _, yX4_takes, _, _, _, 0, 0, rfl, kX4_takes hex h, Or.inr (Or.inl ⟨_, _, va_cwU 1 X.2.2.2.2.1 (lw_U q860 q848 q850 q846 q77 q854) rfl rfl rfl rfl dmU_X4_takes1 ⟨Nat.le_of_ble_eq_true rfl, Nat.le_of_ble_eq_true rfl⟩⟩)⟩
          exact g_lv (pc := 218) (lv' := [(0, .ref h0), (1, .ref h1), (2, .int x2)]) [1, 2, 3] rfl (wX1_takes_218 hex X hr (fun a0 a1 a2 a3 => ih a0 a1 a2 a3) h0 h1 x2 t56)
        · refine g_aload_n (pc := 187) X 1 dX1_takes_187 rfl rfl ?_
          refine cg_getA (pc := 188) X fo_X1_22 dX1_takes_188 (fun v62 => ?_)
          refine g_iload_n (pc := 191) X 3 dX1_takes_191 rfl rfl ?_
          refine g_aload_n (pc := 192) X 0 dX1_takes_192 rfl rfl ?_
          refine g_bD_a (pc := 193) X (cs := [4, 5, 6, 7, 8, 9]) (As := []) (rest := [.int x2, .ref v62]) (b := r10) (n := 0) dX1_takes_193 rfl rfl (Nat.le_of_ble_eq_true rfl) (fun fl65 ci66 fs67 hs68 hci69 r u h => ?_) (fun r63 t64 => ?_)
          · simp only [List.mem_cons, List.not_mem_nil, or_false] at hci69
            rcases hci69 with rfl | rfl | rfl | rfl | rfl | rfl
            · exact ⟨_, _, _, yX4_copy, _, _, _, 5, 92, rfl, kX4_copy hex h, Or.inl (cwV 0 X.2.2.2.2.1 (lw_V q833 q834 q835 q77 q842) rfl rfl rfl dmV_X4_copy ⟨Nat.le_of_ble_eq_true rfl, Nat.le_of_ble_eq_true rfl⟩)⟩
            · exact ⟨_, _, _, yX4_copy, _, _, _, 5, 92, rfl, kX4_copy hex h, Or.inr (Or.inl ⟨_, _, va_cwU 0 X.2.2.2.2.1 (lw_U q833 q836 q837 q834 q77 q842) rfl rfl rfl rfl dmU_X4_copy0 ⟨Nat.le_of_ble_eq_true rfl, Nat.le_of_ble_eq_true rfl⟩⟩)⟩
            · exact ⟨_, _, _, yX4_copy, _, _, _, 5, 92, rfl, kX4_copy hex h, Or.inr (Or.inl ⟨_, _, va_cwU 0 X.2.2.2.2.1 (lw_U q833 q836 q839 q834 q77 q842) rfl rfl rfl rfl dmU_X4_copy0 ⟨Nat.le_of_ble_eq_true rfl, Nat.le_of_ble_eq_true rfl⟩⟩)⟩
            · exact ⟨_, _, _, yX4_copy, _, _, _, 5, 92, rfl, kX4_copy hex h, Or.inr (Or.inl ⟨_, _, va_cwU 0 X.2.2.2.2.1 (lw_U q833 q836 q840 q834 q77 q842) rfl rfl rfl rfl dmU_X4_copy0 ⟨Nat.le_of_ble_eq_true rfl, Nat.le_of_ble_eq_true rfl⟩⟩)⟩
            · exact ⟨_, _, _, yX4_copy, _, _, _, 5, 92, rfl, kX4_copy hex h, Or.inr (Or.inl ⟨_, _, va_cwU 0 X.2.2.2.2.1 (lw_U q833 q836 q841 q834 q77 q842) rfl rfl rfl rfl dmU_X4_copy0 ⟨Nat.le_of_ble_eq_true rfl, Nat.le_of_ble_eq_true rfl⟩⟩)⟩
            · exact ⟨_, _, _, yX4_copy, _, _, _, 5, 92, rfl, kX4_copy hex h, Or.inr (Or.inl ⟨_, _, va_cwU 0 X.2.2.2.2.1 (lw_U q833 q836 q838 q834 q77 q842) rfl rfl rfl rfl dmU_X4_copy0 ⟨Nat.le_of_ble_eq_true rfl, Nat.le_of_ble_eq_true rfl⟩⟩)⟩
          refine g_bD_a (pc := 196) X (cs := [15]) (As := [.int x2, .ref r63]) (rest := []) (b := v62) (n := 2) dX1_takes_196 rfl rfl (Nat.le_of_ble_eq_true rfl) (fun fl72 ci73 fs74 hs75 hci76 r u h => ?_) (fun r70 t71 => ?_)
          · obtain rfl := List.mem_singleton.mp hci76
            exact ⟨_, _, _, yJ2_set, _, _, _, 2, 43, rfl, kJ2_set hex h, Or.inl (cwV 2 X.2.2.2.2.1 (lw_V q856 q857 q858 q74 q859) rfl rfl rfl dmV_J2_set ⟨Nat.le_of_ble_eq_true rfl, Nat.le_of_ble_eq_true rfl⟩)⟩
          refine g_pop (pc := 199) X dX1_takes_199 rfl ?_
          refine g_goto (pc := 200) X 218 dX1_takes_200 (by decide) ?_
          exact g_lv (pc := 218) (lv' := [(0, .ref h0), (1, .ref h1), (2, .int x2)]) [1, 2, 3] rfl (wX1_takes_218 hex X hr (fun a0 a1 a2 a3 => ih a0 a1 a2 a3) h0 h1 x2 t71)
      · refine g_aload_n (pc := 151) X 1 dX1_takes_151 rfl rfl ?_
        refine cg_getA (pc := 152) X fo_X1_22 dX1_takes_152 (fun v77 => ?_)
        refine g_aload_n (pc := 155) X 0 dX1_takes_155 rfl rfl ?_
        refine g_bD_a (pc := 156) X (cs := [4, 5, 6, 7, 8, 9]) (As := []) (rest := [.ref v77]) (b := r10) (n := 0) dX1_takes_156 rfl rfl (Nat.le_of_ble_eq_true rfl) (fun fl80 ci81 fs82 hs83 hci84 r u h => ?_) (fun r78 t79 => ?_)
        · simp only [List.mem_cons, List.not_mem_nil, or_false] at hci84
          rcases hci84 with rfl | rfl | rfl | rfl | rfl | rfl
          · exact ⟨_, _, _, yX4_copy, _, _, _, 5, 92, rfl, kX4_copy hex h, Or.inl (cwV 0 X.2.2.2.2.1 (lw_V q833 q834 q835 q77 q842) rfl rfl rfl dmV_X4_copy ⟨Nat.le_of_ble_eq_true rfl, Nat.le_of_ble_eq_true rfl⟩)⟩
          · exact ⟨_, _, _, yX4_copy, _, _, _, 5, 92, rfl, kX4_copy hex h, Or.inr (Or.inl ⟨_, _, va_cwU 0 X.2.2.2.2.1 (lw_U q833 q836 q837 q834 q77 q842) rfl rfl rfl rfl dmU_X4_copy0 ⟨Nat.le_of_ble_eq_true rfl, Nat.le_of_ble_eq_true rfl⟩⟩)⟩
          · exact ⟨_, _, _, yX4_copy, _, _, _, 5, 92, rfl, kX4_copy hex h, Or.inr (Or.inl ⟨_, _, va_cwU 0 X.2.2.2.2.1 (lw_U q833 q836 q839 q834 q77 q842) rfl rfl rfl rfl dmU_X4_copy0 ⟨Nat.le_of_ble_eq_true rfl, Nat.le_of_ble_eq_true rfl⟩⟩)⟩
          · exact ⟨_, _, _, yX4_copy, _, _, _, 5, 92, rfl, kX4_copy hex h, Or.inr (Or.inl ⟨_, _, va_cwU 0 X.2.2.2.2.1 (lw_U q833 q836 q840 q834 q77 q842) rfl rfl rfl rfl dmU_X4_copy0 ⟨Nat.le_of_ble_eq_true rfl, Nat.le_of_ble_eq_true rfl⟩⟩)⟩
          · exact ⟨_, _, _, yX4_copy, _, _, _, 5, 92, rfl, kX4_copy hex h, Or.inr (Or.inl ⟨_, _, va_cwU 0 X.2.2.2.2.1 (lw_U q833 q836 q841 q834 q77 q842) rfl rfl rfl rfl dmU_X4_copy0 ⟨Nat.le_of_ble_eq_true rfl, Nat.le_of_ble_eq_true rfl⟩⟩)⟩
          · exact ⟨_, _, _, yX4_copy, _, _, _, 5, 92, rfl, kX4_copy hex h, Or.inr (Or.inl ⟨_, _, va_cwU 0 X.2.2.2.2.1 (lw_U q833 q836 q838 q834 q77 q842) rfl rfl rfl rfl dmU_X4_copy0 ⟨Nat.le_of_ble_eq_true rfl, Nat.le_of_ble_eq_true rfl⟩⟩)⟩
        refine g_bD_i (pc := 159) X (cs := [15]) (As := [.ref r78]) (rest := []) (b := v77) (n := 1) dX1_takes_159 rfl rfl (Nat.le_of_ble_eq_true rfl) (fun fl87 ci88 fs89 hs90 hci91 r u h => ?_) (fun r85 t86 => ?_)
        · obtain rfl := List.mem_singleton.mp hci91
          exact ⟨_, _, _, yJ2_add, _, _, _, 6, 131, rfl, kJ2_add hex h, Or.inl (cwV 1 X.2.2.2.2.1 (lw_V q254 q255 q256 q74 q257) rfl rfl rfl dmV_J2_add ⟨Nat.le_of_ble_eq_true rfl, Nat.le_of_ble_eq_true rfl⟩)⟩
        refine g_pop (pc := 162) X dX1_takes_162 rfl ?_
        refine g_goto (pc := 163) X 218 dX1_takes_163 (by decide) ?_
        exact g_lv (pc := 218) (lv' := [(0, .ref h0), (1, .ref h1), (2, .int x2)]) [1, 2, 3] rfl (wX1_takes_218 hex X hr (fun a0 a1 a2 a3 => ih a0 a1 a2 a3) h0 h1 x2 t86)
noncomputable def fX1_takes_78 (ex : Nat → Option Nat) (z : Nat) : Nat → Nat → Nat → St → Option (Unit × St)
  | 0, _, _, _ => none
  | n + 1, h0, h1, t => cgA [1] 2 t h0 fun v1 => ccast [15] t v1 (gb (fJ2_size ex (z + t.2.1) v1 (t.1, 0, 0)) t fun r2 t3 => cgA [1] 2 t3 h1 fun v9 => ccast [15] t3 v9 (gb (fJ2_size ex (z + t3.2.1) v9 (t3.1, 0, 0)) t3 fun r10 t11 => if r2 ≤ r10 then fX1_takes_117 ex z 1000 h0 h1 0 t11 else cgA [1] 2 t11 h0 fun v17 => cgA [1] 2 t11 h0 fun v18 => ccast [15] t11 v18 (gb (fJ2_size ex (z + t11.2.1) v18 (t11.1, 0, 0)) t11 fun r19 t20 => ccast [15] t20 v17 (gb (fJ2_remove ex (z + t20.2.1) v17 (r19 - 1) (t20.1, 0, 0)) t20 fun r26 t27 => fX1_takes_78 ex z n h0 h1 t27))))
set_option maxHeartbeats 4000000 in
theorem wX1_takes_78 {rF : Unit} (hex : ex = Γ.2.2.2.2) (X : g_X Γ p s m args meth c cX1_takes 4 RX1) (hr : meth.sig.returnType = none) (n : Nat) : ∀ (h0 : Nat) (h1 : Nat) (t : St), Wf Γ p l e 7 152 s m args below meth c 4 (g_ι z) v_v rF tF 78 [(0, .ref h0), (1, .ref h1)] [] t (fX1_takes_78 ex z n h0 h1 t) := by
  induction n with
  | zero => intro h0 h1 t; exact g_none
  | succ n ih =>
    intro h0 h1 t
    rw [fX1_takes_78]
    refine g_aload_n (pc := 78) X 0 dX1_takes_78 rfl rfl ?_
    refine cg_getA (pc := 79) X fo_X1_22 dX1_takes_79 (fun v1 => ?_)
    refine g_bD_i (pc := 82) X (cs := [15]) (As := []) (rest := []) (b := v1) (n := 0) dX1_takes_82 rfl rfl (Nat.le_of_ble_eq_true rfl) (fun fl4 ci5 fs6 hs7 hci8 r u h => ?_) (fun r2 t3 => ?_)
    · obtain rfl := List.mem_singleton.mp hci8
      exact ⟨_, _, _, yJ2_size, _, _, _, 0, 0, rfl, kJ2_size hex h, Or.inl (cwV 0 X.2.2.2.2.1 (lw_V q133 q134 q135 q74 q136) rfl rfl rfl dmV_J2_size ⟨Nat.le_of_ble_eq_true rfl, Nat.le_of_ble_eq_true rfl⟩)⟩
    refine g_aload_n (pc := 85) X 1 dX1_takes_85 rfl rfl ?_
    refine cg_getA (pc := 86) X fo_X1_22 dX1_takes_86 (fun v9 => ?_)
    refine g_bD_i (pc := 89) X (cs := [15]) (As := []) (rest := [.int r2]) (b := v9) (n := 0) dX1_takes_89 rfl rfl (Nat.le_of_ble_eq_true rfl) (fun fl12 ci13 fs14 hs15 hci16 r u h => ?_) (fun r10 t11 => ?_)
    · obtain rfl := List.mem_singleton.mp hci16
      exact ⟨_, _, _, yJ2_size, _, _, _, 0, 0, rfl, kJ2_size hex h, Or.inl (cwV 0 X.2.2.2.2.1 (lw_V q133 q134 q135 q74 q136) rfl rfl rfl dmV_J2_size ⟨Nat.le_of_ble_eq_true rfl, Nat.le_of_ble_eq_true rfl⟩)⟩
    refine g_icmp_le (pc := 92) X 115 dX1_takes_92 (by decide) ?_ ?_
    · refine g_iconst (pc := 115) X 0 dX1_takes_115 rfl ?_
      refine g_istore_n (pc := 116) X (lv' := [(2, .int 0), (0, .ref h0), (1, .ref h1)]) dX1_takes_116 rfl (by decide) rfl ?_
      exact g_lv (pc := 117) (lv' := [(0, .ref h0), (1, .ref h1), (2, .int 0)]) [1, 2, 0] rfl (wX1_takes_117 hex X hr 1000 h0 h1 0 t11)
    · refine g_aload_n (pc := 95) X 0 dX1_takes_95 rfl rfl ?_
      refine cg_getA (pc := 96) X fo_X1_22 dX1_takes_96 (fun v17 => ?_)
      refine g_aload_n (pc := 99) X 0 dX1_takes_99 rfl rfl ?_
      refine cg_getA (pc := 100) X fo_X1_22 dX1_takes_100 (fun v18 => ?_)
      refine g_bD_i (pc := 103) X (cs := [15]) (As := []) (rest := [.ref v17]) (b := v18) (n := 0) dX1_takes_103 rfl rfl (Nat.le_of_ble_eq_true rfl) (fun fl21 ci22 fs23 hs24 hci25 r u h => ?_) (fun r19 t20 => ?_)
      · obtain rfl := List.mem_singleton.mp hci25
        exact ⟨_, _, _, yJ2_size, _, _, _, 0, 0, rfl, kJ2_size hex h, Or.inl (cwV 0 X.2.2.2.2.1 (lw_V q133 q134 q135 q74 q136) rfl rfl rfl dmV_J2_size ⟨Nat.le_of_ble_eq_true rfl, Nat.le_of_ble_eq_true rfl⟩)⟩
      refine g_iconst (pc := 106) X 1 dX1_takes_106 rfl ?_
      refine g_isub (pc := 107) X dX1_takes_107 ?_
      refine g_bD_a (pc := 108) X (cs := [15]) (As := [.int (r19 - 1)]) (rest := []) (b := v17) (n := 1) dX1_takes_108 rfl rfl (Nat.le_of_ble_eq_true rfl) (fun fl28 ci29 fs30 hs31 hci32 r u h => ?_) (fun r26 t27 => ?_)
      · obtain rfl := List.mem_singleton.mp hci32
        exact ⟨_, _, _, yJ2_remove, _, _, _, 2, 43, rfl, kJ2_remove hex h, Or.inl (cwV 1 X.2.2.2.2.1 (lw_V q832 q336 q337 q74 q338) rfl rfl rfl dmV_J2_remove ⟨Nat.le_of_ble_eq_true rfl, Nat.le_of_ble_eq_true rfl⟩)⟩
      refine g_pop (pc := 111) X dX1_takes_111 rfl ?_
      refine g_goto (pc := 112) X 78 dX1_takes_112 (by decide) ?_
      exact g_lv (pc := 78) (lv' := [(0, .ref h0), (1, .ref h1)]) [0, 1] rfl (ih h0 h1 t27)
noncomputable def fX1_takes (ex : Nat → Option Nat) (z : Nat) (h0 : Nat) (h1 : Nat) (t : St) : Option (Unit × St) := cgI [1] 0 t h1 fun v1 => cput [1] 0 t h0 (.int v1) fun t2 => cgA [1] 1 t2 h1 fun v3 => cgA [1] 1 t2 h0 fun v4 => ccopyI 0 .byte t2 v3 0 v4 0 24 fun t5 => cgA [1] 4 t5 h1 fun v6 => cgA [1] 4 t5 h0 fun v7 => ccopyI 0 .byte t5 v6 0 v7 0 12 fun t8 => cgI [1] 5 t8 h1 fun v9 => cput [1] 5 t8 h0 (.int v9) fun t10 => cgI [1] 3 t10 h1 fun v11 => cput [1] 3 t10 h0 (.int v11) fun t12 => cgI [1] 6 t12 h1 fun v13 => cput [1] 6 t12 h0 (.int v13) fun t14 => cgI [1] 7 t14 h1 fun v15 => cput [1] 7 t14 h0 (.int v15) fun t16 => cgI [1] 8 t16 h1 fun v17 => cput [1] 8 t16 h0 (.int v17) fun t18 => fX1_takes_78 ex z 1000 h0 h1 t18
set_option maxHeartbeats 4000000 in
theorem wX1_takes {rF : Unit} (hex : ex = Γ.2.2.2.2) (X : g_X Γ p s m args meth c cX1_takes 4 RX1) (hr : meth.sig.returnType = none) (h0 : Nat) (h1 : Nat) (t : St) : Wf Γ p l e 7 152 s m args below meth c 4 (g_ι z) v_v rF tF 0 [(0, .ref h0), (1, .ref h1)] [] t (fX1_takes ex z h0 h1 t) := by
  unfold fX1_takes
  refine g_aload_n (pc := 0) X 0 dX1_takes_0 rfl rfl ?_
  refine g_aload_n (pc := 1) X 1 dX1_takes_1 rfl rfl ?_
  refine cg_getI (pc := 2) X fo_X1_9 dX1_takes_2 (fun v1 => ?_)
  refine cg_put (pc := 5) X fp_X1_9 dX1_takes_5 (fun h => by cases h) rfl rfl (fun t2 => ?_)
  refine g_aload_n (pc := 8) X 1 dX1_takes_8 rfl rfl ?_
  refine cg_getA (pc := 9) X fo_X1_15 dX1_takes_9 (fun v3 => ?_)
  refine g_iconst (pc := 12) X 0 dX1_takes_12 rfl ?_
  refine g_aload_n (pc := 13) X 0 dX1_takes_13 rfl rfl ?_
  refine cg_getA (pc := 14) X fo_X1_15 dX1_takes_14 (fun v4 => ?_)
  refine g_iconst (pc := 17) X 0 dX1_takes_17 rfl ?_
  refine g_bipush (pc := 18) X 24 dX1_takes_18 rfl ?_
  refine cg_copyI (pc := 20) X (j := 0) .byte rfl rfl dX1_takes_20 q831 q328 q327 q86 (Nat.le_of_ble_eq_true rfl) (Nat.le_of_ble_eq_true rfl) (fun t5 => ?_)
  refine g_aload_n (pc := 23) X 1 dX1_takes_23 rfl rfl ?_
  refine cg_getA (pc := 24) X fo_X1_26 dX1_takes_24 (fun v6 => ?_)
  refine g_iconst (pc := 27) X 0 dX1_takes_27 rfl ?_
  refine g_aload_n (pc := 28) X 0 dX1_takes_28 rfl rfl ?_
  refine cg_getA (pc := 29) X fo_X1_26 dX1_takes_29 (fun v7 => ?_)
  refine g_iconst (pc := 32) X 0 dX1_takes_32 rfl ?_
  refine g_bipush (pc := 33) X 12 dX1_takes_33 rfl ?_
  refine cg_copyI (pc := 35) X (j := 0) .byte rfl rfl dX1_takes_35 q831 q328 q327 q86 (Nat.le_of_ble_eq_true rfl) (Nat.le_of_ble_eq_true rfl) (fun t8 => ?_)
  refine g_aload_n (pc := 38) X 0 dX1_takes_38 rfl rfl ?_
  refine g_aload_n (pc := 39) X 1 dX1_takes_39 rfl rfl ?_
  refine cg_getI (pc := 40) X fo_X1_29 dX1_takes_40 (fun v9 => ?_)
  refine cg_put (pc := 43) X fp_X1_29 dX1_takes_43 (fun h => by cases h) rfl rfl (fun t10 => ?_)
  refine g_aload_n (pc := 46) X 0 dX1_takes_46 rfl rfl ?_
  refine g_aload_n (pc := 47) X 1 dX1_takes_47 rfl rfl ?_
  refine cg_getI (pc := 48) X fo_X1_41 dX1_takes_48 (fun v11 => ?_)
  refine cg_put (pc := 51) X fp_X1_41 dX1_takes_51 (fun h => by cases h) rfl rfl (fun t12 => ?_)
  refine g_aload_n (pc := 54) X 0 dX1_takes_54 rfl rfl ?_
  refine g_aload_n (pc := 55) X 1 dX1_takes_55 rfl rfl ?_
  refine cg_getI (pc := 56) X fo_X1_32 dX1_takes_56 (fun v13 => ?_)
  refine cg_put (pc := 59) X fp_X1_32 dX1_takes_59 (fun h => by cases h) rfl rfl (fun t14 => ?_)
  refine g_aload_n (pc := 62) X 0 dX1_takes_62 rfl rfl ?_
  refine g_aload_n (pc := 63) X 1 dX1_takes_63 rfl rfl ?_
  refine cg_getI (pc := 64) X fo_X1_61 dX1_takes_64 (fun v15 => ?_)
  refine cg_put (pc := 67) X fp_X1_61 dX1_takes_67 (fun h => by cases h) rfl rfl (fun t16 => ?_)
  refine g_aload_n (pc := 70) X 0 dX1_takes_70 rfl rfl ?_
  refine g_aload_n (pc := 71) X 1 dX1_takes_71 rfl rfl ?_
  refine cg_getI (pc := 72) X fo_X1_64 dX1_takes_72 (fun v17 => ?_)
  refine cg_put (pc := 75) X fp_X1_64 dX1_takes_75 (fun h => by cases h) rfl rfl (fun t18 => ?_)
  exact g_lv (pc := 78) (lv' := [(0, .ref h0), (1, .ref h1)]) [0, 1] rfl (wX1_takes_78 hex X hr 1000 h0 h1 t18)
theorem kX1_takes {ex : Nat → Option Nat} {z : Nat} {h0 : Nat} {h1 : Nat} {σ : Sg} {r : Unit} {u : St} (hex : ex = Γ.2.2.2.2) (h : fX1_takes ex z h0 h1 (σ, 0, 0) = some (r, u)) : g_C Γ l yX1_takes cX1_takes 4 none 7 152 [.ref h0, .ref h1] σ z v_v r (g_ι z u) :=
  g_met (ι := g_ι z) (t := (σ, 0, 0)) [.ref h0, .ref h1] (by decide) (Nat.le_of_ble_eq_true rfl) h rfl (fun p e s m args below meth c X hr hn => wX1_takes hex X hr h0 h1 (σ, 0, 0))
end CP
abbrev cX15_kept : ByteArray := prog_13_method_3_code
def yX15_kept : MethodName := ⟨RX15, "kept", "()V"⟩
def dkwX15_kept_1 : List UInt8 := [182, 0, 32, 87, 42, 180, 0, 3, 180, 0, 22, 42, 182, 0, 36, 87, 177]
abbrev dktX15_kept_1 : List UInt8 := dkwX15_kept_1 ++ []
def dkwX15_kept_0 : List UInt8 := [42, 180, 0, 3, 180, 0, 22, 182, 0, 26, 16, 10, 160, 0, 15, 42, 180, 0, 3, 180, 0, 22, 3]
abbrev dktX15_kept_0 : List UInt8 := dkwX15_kept_0 ++ dktX15_kept_1
theorem dksX15_kept_0 : cX15_kept.data.toList.drop 0 = dktX15_kept_0 := by decide +kernel
theorem dksX15_kept_1 : cX15_kept.data.toList.drop 23 = dktX15_kept_1 := dk_seg dksX15_kept_0 23 rfl rfl
theorem dX15_kept_0 : decode cX15_kept 0 = .ok (.aload_n 0, 1) := dk_42 (dk_at dksX15_kept_0 0 rfl rfl)
theorem dX15_kept_1 : decode cX15_kept 1 = .ok (.getfield 3, 3) := dk_180 0 3 (dk_at dksX15_kept_0 1 rfl rfl)
theorem dX15_kept_4 : decode cX15_kept 4 = .ok (.getfield 22, 3) := dk_180 0 22 (dk_at dksX15_kept_0 4 rfl rfl)
theorem dX15_kept_7 : decode cX15_kept 7 = .ok (.invokevirtual 26, 3) := dk_182 0 26 (dk_at dksX15_kept_0 7 rfl rfl)
theorem dX15_kept_10 : decode cX15_kept 10 = .ok (.bipush 10, 2) := dk_16 10 (dk_at dksX15_kept_0 10 rfl rfl)
theorem dX15_kept_12 : decode cX15_kept 12 = .ok (.if_icmp .ne 15, 3) := dk_160 0 15 (dk_at dksX15_kept_0 12 rfl rfl)
theorem dX15_kept_15 : decode cX15_kept 15 = .ok (.aload_n 0, 1) := dk_42 (dk_at dksX15_kept_0 15 rfl rfl)
theorem dX15_kept_16 : decode cX15_kept 16 = .ok (.getfield 3, 3) := dk_180 0 3 (dk_at dksX15_kept_0 16 rfl rfl)
theorem dX15_kept_19 : decode cX15_kept 19 = .ok (.getfield 22, 3) := dk_180 0 22 (dk_at dksX15_kept_0 19 rfl rfl)
theorem dX15_kept_22 : decode cX15_kept 22 = .ok (.iconst 0, 1) := dk_3 (dk_at dksX15_kept_0 22 rfl rfl)
theorem dX15_kept_23 : decode cX15_kept 23 = .ok (.invokevirtual 32, 3) := dk_182 0 32 (dk_at dksX15_kept_1 0 rfl rfl)
theorem dX15_kept_26 : decode cX15_kept 26 = .ok (.pop, 1) := dk_87 (dk_at dksX15_kept_1 3 rfl rfl)
theorem dX15_kept_27 : decode cX15_kept 27 = .ok (.aload_n 0, 1) := dk_42 (dk_at dksX15_kept_1 4 rfl rfl)
theorem dX15_kept_28 : decode cX15_kept 28 = .ok (.getfield 3, 3) := dk_180 0 3 (dk_at dksX15_kept_1 5 rfl rfl)
theorem dX15_kept_31 : decode cX15_kept 31 = .ok (.getfield 22, 3) := dk_180 0 22 (dk_at dksX15_kept_1 8 rfl rfl)
theorem dX15_kept_34 : decode cX15_kept 34 = .ok (.aload_n 0, 1) := dk_42 (dk_at dksX15_kept_1 11 rfl rfl)
theorem dX15_kept_35 : decode cX15_kept 35 = .ok (.invokevirtual 36, 3) := dk_182 0 36 (dk_at dksX15_kept_1 12 rfl rfl)
theorem dX15_kept_38 : decode cX15_kept 38 = .ok (.pop, 1) := dk_87 (dk_at dksX15_kept_1 15 rfl rfl)
theorem dX15_kept_39 : decode cX15_kept 39 = .ok (.return_, 1) := dk_177 (dk_at dksX15_kept_1 16 rfl rfl)
theorem fo_X15_3 : g_fo RX15 3 [16, 17, 18, 19] 2 := ⟨_, _, _, Or.inl q681, fun ci h => by
  simp only [List.mem_cons, List.not_mem_nil, or_false] at h; rcases h with rfl | rfl | rfl | rfl
  · exact ⟨_, _, _, rfl, by decide, rfl, rfl, Or.inl rfl, in_X16⟩
  · exact ⟨_, _, _, rfl, by decide, rfl, rfl, Or.inl rfl, in_X17⟩
  · exact ⟨_, _, _, rfl, by decide, rfl, rfl, Or.inl rfl, in_X18⟩
  · exact ⟨_, _, _, rfl, by decide, rfl, rfl, Or.inl rfl, in_X19⟩⟩
theorem fo_X15_22 : g_fo RX15 22 [0] 2 := ⟨_, _, _, Or.inr ⟨_, q1617⟩, fun ci h => by
  simp only [List.mem_cons, List.not_mem_nil, or_false] at h; rcases h with rfl
  · exact ⟨_, _, _, rfl, by decide, rfl, rfl, Or.inl rfl, in_X0⟩⟩
section CP
variable {Γ : Gc} {p : Program} {l : Launch} {e : Env} {s : State} {m : MethodId} {args : Array Value} {below : List Frame} {meth : Method} {c : Code} {ex : Nat → Option Nat} {z : Nat} {tF : St}
noncomputable def fX15_kept_27 (ex : Nat → Option Nat) (z : Nat) (h0 : Nat) (t : St) : Option (Unit × St) := cgA [16, 17, 18, 19] 2 t h0 fun v1 => cgA [0] 2 t v1 fun v2 => ccast [15] t v2 (gb (fJ2_add ex (z + t.2.1) v2 h0 (t.1, 0, 0)) t fun r3 t4 => some ((), t4))
set_option maxHeartbeats 4000000 in
theorem wX15_kept_27 {rF : Unit} (hex : ex = Γ.2.2.2.2) (X : g_X Γ p s m args meth c cX15_kept 1 RX15) (hr : meth.sig.returnType = none) (h0 : Nat) (t : St) : Wf Γ p l e 7 152 s m args below meth c 1 (g_ι z) v_v rF tF 27 [(0, .ref h0)] [] t (fX15_kept_27 ex z h0 t) := by
  unfold fX15_kept_27
  refine g_aload_n (pc := 27) X 0 dX15_kept_27 rfl rfl ?_
  refine cg_getA (pc := 28) X fo_X15_3 dX15_kept_28 (fun v1 => ?_)
  refine cg_getA (pc := 31) X fo_X15_22 dX15_kept_31 (fun v2 => ?_)
  refine g_aload_n (pc := 34) X 0 dX15_kept_34 rfl rfl ?_
  refine g_bD_i (pc := 35) X (cs := [15]) (As := [.ref h0]) (rest := []) (b := v2) (n := 1) dX15_kept_35 rfl rfl (Nat.le_of_ble_eq_true rfl) (fun fl5 ci6 fs7 hs8 hci9 r u h => ?_) (fun r3 t4 => ?_)
  · obtain rfl := List.mem_singleton.mp hci9
    exact ⟨_, _, _, yJ2_add, _, _, _, 6, 131, rfl, kJ2_add hex h, Or.inl (cwV 1 X.2.2.2.2.1 (lw_V q699 q255 q256 q74 q257) rfl rfl rfl dmV_J2_add ⟨Nat.le_of_ble_eq_true rfl, Nat.le_of_ble_eq_true rfl⟩)⟩
  refine g_pop (pc := 38) X dX15_kept_38 rfl ?_
  exact g_vret (pc := 39) X hr dX15_kept_39
noncomputable def fX15_kept (ex : Nat → Option Nat) (z : Nat) (h0 : Nat) (t : St) : Option (Unit × St) := cgA [16, 17, 18, 19] 2 t h0 fun v1 => cgA [0] 2 t v1 fun v2 => ccast [15] t v2 (gb (fJ2_size ex (z + t.2.1) v2 (t.1, 0, 0)) t fun r3 t4 => if r3 = 10 then cgA [16, 17, 18, 19] 2 t4 h0 fun v10 => cgA [0] 2 t4 v10 fun v11 => ccast [15] t4 v11 (gb (fJ2_remove ex (z + t4.2.1) v11 0 (t4.1, 0, 0)) t4 fun r12 t13 => fX15_kept_27 ex z h0 t13) else fX15_kept_27 ex z h0 t4)
set_option maxHeartbeats 4000000 in
theorem wX15_kept {rF : Unit} (hex : ex = Γ.2.2.2.2) (X : g_X Γ p s m args meth c cX15_kept 1 RX15) (hr : meth.sig.returnType = none) (h0 : Nat) (t : St) : Wf Γ p l e 7 152 s m args below meth c 1 (g_ι z) v_v rF tF 0 [(0, .ref h0)] [] t (fX15_kept ex z h0 t) := by
  unfold fX15_kept
  refine g_aload_n (pc := 0) X 0 dX15_kept_0 rfl rfl ?_
  refine cg_getA (pc := 1) X fo_X15_3 dX15_kept_1 (fun v1 => ?_)
  refine cg_getA (pc := 4) X fo_X15_22 dX15_kept_4 (fun v2 => ?_)
  refine g_bD_i (pc := 7) X (cs := [15]) (As := []) (rest := []) (b := v2) (n := 0) dX15_kept_7 rfl rfl (Nat.le_of_ble_eq_true rfl) (fun fl5 ci6 fs7 hs8 hci9 r u h => ?_) (fun r3 t4 => ?_)
  · obtain rfl := List.mem_singleton.mp hci9
    exact ⟨_, _, _, yJ2_size, _, _, _, 0, 0, rfl, kJ2_size hex h, Or.inl (cwV 0 X.2.2.2.2.1 (lw_V q697 q134 q135 q74 q136) rfl rfl rfl dmV_J2_size ⟨Nat.le_of_ble_eq_true rfl, Nat.le_of_ble_eq_true rfl⟩)⟩
  refine g_bipush (pc := 10) X 10 dX15_kept_10 rfl ?_
  refine g_icmp_ne (pc := 12) X 27 dX15_kept_12 (by decide) ?_ ?_
  · exact g_lv (pc := 27) (lv' := [(0, .ref h0)]) [0] rfl (wX15_kept_27 hex X hr h0 t4)
  · refine g_aload_n (pc := 15) X 0 dX15_kept_15 rfl rfl ?_
    refine cg_getA (pc := 16) X fo_X15_3 dX15_kept_16 (fun v10 => ?_)
    refine cg_getA (pc := 19) X fo_X15_22 dX15_kept_19 (fun v11 => ?_)
    refine g_iconst (pc := 22) X 0 dX15_kept_22 rfl ?_
    refine g_bD_a (pc := 23) X (cs := [15]) (As := [.int 0]) (rest := []) (b := v11) (n := 1) dX15_kept_23 rfl rfl (Nat.le_of_ble_eq_true rfl) (fun fl14 ci15 fs16 hs17 hci18 r u h => ?_) (fun r12 t13 => ?_)
    · obtain rfl := List.mem_singleton.mp hci18
      exact ⟨_, _, _, yJ2_remove, _, _, _, 2, 43, rfl, kJ2_remove hex h, Or.inl (cwV 1 X.2.2.2.2.1 (lw_V q698 q336 q337 q74 q338) rfl rfl rfl dmV_J2_remove ⟨Nat.le_of_ble_eq_true rfl, Nat.le_of_ble_eq_true rfl⟩)⟩
    refine g_pop (pc := 26) X dX15_kept_26 rfl ?_
    exact g_lv (pc := 27) (lv' := [(0, .ref h0)]) [0] rfl (wX15_kept_27 hex X hr h0 t13)
theorem kX15_kept {ex : Nat → Option Nat} {z : Nat} {h0 : Nat} {σ : Sg} {r : Unit} {u : St} (hex : ex = Γ.2.2.2.2) (h : fX15_kept ex z h0 (σ, 0, 0) = some (r, u)) : g_C Γ l yX15_kept cX15_kept 1 none 7 152 [.ref h0] σ z v_v r (g_ι z u) :=
  g_met (ι := g_ι z) (t := (σ, 0, 0)) [.ref h0] (by decide) (Nat.le_of_ble_eq_true rfl) h rfl (fun p e s m args below meth c X hr hn => wX15_kept hex X hr h0 (σ, 0, 0))
end CP
abbrev cX0_clock : ByteArray := prog_1_method_7_code
def yX0_clock : MethodName := ⟨RX0, "clock", "(IIII)I"⟩
def dkwX0_clock_2 : List UInt8 := [180, 0, 38, 182, 0, 42, 4, 100, 172]
abbrev dktX0_clock_2 : List UInt8 := dkwX0_clock_2 ++ []
def dkwX0_clock_1 : List UInt8 := [160, 0, 6, 16, 253, 172, 42, 180, 0, 38, 27, 28, 29, 21, 4, 184, 0, 69, 182, 0, 72, 42]
abbrev dktX0_clock_1 : List UInt8 := dkwX0_clock_1 ++ dktX0_clock_2
def dkwX0_clock_0 : List UInt8 := [27, 28, 29, 21, 4, 184, 0, 65, 154, 0, 5, 2, 172, 42, 180, 0, 38, 182, 0, 42, 16, 9]
abbrev dktX0_clock_0 : List UInt8 := dkwX0_clock_0 ++ dktX0_clock_1
theorem dksX0_clock_0 : cX0_clock.data.toList.drop 0 = dktX0_clock_0 := by decide +kernel
theorem dksX0_clock_1 : cX0_clock.data.toList.drop 22 = dktX0_clock_1 := dk_seg dksX0_clock_0 22 rfl rfl
theorem dksX0_clock_2 : cX0_clock.data.toList.drop 44 = dktX0_clock_2 := dk_seg dksX0_clock_1 22 rfl rfl
theorem dX0_clock_0 : decode cX0_clock 0 = .ok (.iload_n 1, 1) := dk_27 (dk_at dksX0_clock_0 0 rfl rfl)
theorem dX0_clock_1 : decode cX0_clock 1 = .ok (.iload_n 2, 1) := dk_28 (dk_at dksX0_clock_0 1 rfl rfl)
theorem dX0_clock_2 : decode cX0_clock 2 = .ok (.iload_n 3, 1) := dk_29 (dk_at dksX0_clock_0 2 rfl rfl)
theorem dX0_clock_3 : decode cX0_clock 3 = .ok (.iload 4, 2) := dk_21 4 (dk_at dksX0_clock_0 3 rfl rfl)
theorem dX0_clock_5 : decode cX0_clock 5 = .ok (.invokestatic 65, 3) := dk_184 0 65 (dk_at dksX0_clock_0 5 rfl rfl)
theorem dX0_clock_8 : decode cX0_clock 8 = .ok (.ifCond .ne 5, 3) := dk_154 0 5 (dk_at dksX0_clock_0 8 rfl rfl)
theorem dX0_clock_11 : decode cX0_clock 11 = .ok (.iconst (-1), 1) := dk_2 (dk_at dksX0_clock_0 11 rfl rfl)
theorem dX0_clock_12 : decode cX0_clock 12 = .ok (.ireturn, 1) := dk_172 (dk_at dksX0_clock_0 12 rfl rfl)
theorem dX0_clock_13 : decode cX0_clock 13 = .ok (.aload_n 0, 1) := dk_42 (dk_at dksX0_clock_0 13 rfl rfl)
theorem dX0_clock_14 : decode cX0_clock 14 = .ok (.getfield 38, 3) := dk_180 0 38 (dk_at dksX0_clock_0 14 rfl rfl)
theorem dX0_clock_17 : decode cX0_clock 17 = .ok (.invokevirtual 42, 3) := dk_182 0 42 (dk_at dksX0_clock_0 17 rfl rfl)
theorem dX0_clock_20 : decode cX0_clock 20 = .ok (.bipush 9, 2) := dk_16 9 (dk_at dksX0_clock_0 20 rfl rfl)
theorem dX0_clock_22 : decode cX0_clock 22 = .ok (.if_icmp .ne 6, 3) := dk_160 0 6 (dk_at dksX0_clock_1 0 rfl rfl)
theorem dX0_clock_25 : decode cX0_clock 25 = .ok (.bipush (-3), 2) := dk_16 253 (dk_at dksX0_clock_1 3 rfl rfl)
theorem dX0_clock_27 : decode cX0_clock 27 = .ok (.ireturn, 1) := dk_172 (dk_at dksX0_clock_1 5 rfl rfl)
theorem dX0_clock_28 : decode cX0_clock 28 = .ok (.aload_n 0, 1) := dk_42 (dk_at dksX0_clock_1 6 rfl rfl)
theorem dX0_clock_29 : decode cX0_clock 29 = .ok (.getfield 38, 3) := dk_180 0 38 (dk_at dksX0_clock_1 7 rfl rfl)
theorem dX0_clock_32 : decode cX0_clock 32 = .ok (.iload_n 1, 1) := dk_27 (dk_at dksX0_clock_1 10 rfl rfl)
theorem dX0_clock_33 : decode cX0_clock 33 = .ok (.iload_n 2, 1) := dk_28 (dk_at dksX0_clock_1 11 rfl rfl)
theorem dX0_clock_34 : decode cX0_clock 34 = .ok (.iload_n 3, 1) := dk_29 (dk_at dksX0_clock_1 12 rfl rfl)
theorem dX0_clock_35 : decode cX0_clock 35 = .ok (.iload 4, 2) := dk_21 4 (dk_at dksX0_clock_1 13 rfl rfl)
theorem dX0_clock_37 : decode cX0_clock 37 = .ok (.invokestatic 69, 3) := dk_184 0 69 (dk_at dksX0_clock_1 15 rfl rfl)
theorem dX0_clock_40 : decode cX0_clock 40 = .ok (.invokevirtual 72, 3) := dk_182 0 72 (dk_at dksX0_clock_1 18 rfl rfl)
theorem dX0_clock_43 : decode cX0_clock 43 = .ok (.aload_n 0, 1) := dk_42 (dk_at dksX0_clock_1 21 rfl rfl)
theorem dX0_clock_44 : decode cX0_clock 44 = .ok (.getfield 38, 3) := dk_180 0 38 (dk_at dksX0_clock_2 0 rfl rfl)
theorem dX0_clock_47 : decode cX0_clock 47 = .ok (.invokevirtual 42, 3) := dk_182 0 42 (dk_at dksX0_clock_2 3 rfl rfl)
theorem dX0_clock_50 : decode cX0_clock 50 = .ok (.iconst 1, 1) := dk_4 (dk_at dksX0_clock_2 6 rfl rfl)
theorem dX0_clock_51 : decode cX0_clock 51 = .ok (.isub, 1) := dk_100 (dk_at dksX0_clock_2 7 rfl rfl)
theorem dX0_clock_52 : decode cX0_clock 52 = .ok (.ireturn, 1) := dk_172 (dk_at dksX0_clock_2 8 rfl rfl)
theorem dmS_X0_isMade : yX0_isMade.cls ≠ "java/lang/invoke/MethodHandle" ∧ yX0_isMade.cls ≠ "java/lang/invoke/VarHandle" ∧ (parseMethodDescriptor yX0_isMade.desc).map (fun d => d.parameters.length) = some 4 := by decide +kernel
theorem dmS_X0_made : yX0_made.cls ≠ "java/lang/invoke/MethodHandle" ∧ yX0_made.cls ≠ "java/lang/invoke/VarHandle" ∧ (parseMethodDescriptor yX0_made.desc).map (fun d => d.parameters.length) = some 4 := by decide +kernel
theorem dmV_X1_comes : yX1_comes.cls = RX1 ∧ yX1_comes.cls ≠ "java/lang/invoke/MethodHandle" ∧ yX1_comes.cls ≠ "java/lang/invoke/VarHandle" ∧ (parseMethodDescriptor yX1_comes.desc).map (fun d => d.parameters.length) = some 1 := by decide +kernel
section CP
variable {Γ : Gc} {p : Program} {l : Launch} {e : Env} {s : State} {m : MethodId} {args : Array Value} {below : List Frame} {meth : Method} {c : Code} {ex : Nat → Option Nat} {z : Nat} {tF : St}
noncomputable def fX0_clock (ex : Nat → Option Nat) (z : Nat) (h0 : Nat) (x1 : Int32) (x2 : Int32) (x3 : Int32) (x4 : Int32) (t : St) : Option (Int32 × St) := gb (fX0_isMade ex (z + t.2.1) x1 x2 x3 x4 (t.1, 0, 0)) t fun r1 t2 => if r1 = 0 then some ((-1), t2) else cgA [0] 0 t2 h0 fun v3 => ccast [1] t2 v3 (gb (fX1_size ex (z + t2.2.1) v3 (t2.1, 0, 0)) t2 fun r4 t5 => if r4 = 9 then some ((-3), t5) else cgA [0] 0 t5 h0 fun v11 => gb (fX0_made ex (z + t5.2.1) x1 x2 x3 x4 (t5.1, 0, 0)) t5 fun r12 t13 => ccast [1] t13 v11 (gb (fX1_comes ex (z + t13.2.1) v11 r12 (t13.1, 0, 0)) t13 fun _ t15 => cgA [0] 0 t15 h0 fun v21 => ccast [1] t15 v21 (gb (fX1_size ex (z + t15.2.1) v21 (t15.1, 0, 0)) t15 fun r22 t23 => some (r22 - 1, t23))))
set_option maxHeartbeats 4000000 in
theorem wX0_clock {rF : Int32} (hex : ex = Γ.2.2.2.2) (X : g_X Γ p s m args meth c cX0_clock 5 RX0) (hr : meth.sig.returnType = (some .int)) (h0 : Nat) (x1 : Int32) (x2 : Int32) (x3 : Int32) (x4 : Int32) (t : St) : Wf Γ p l e 8 173 s m args below meth c 5 (g_ι z) v_i rF tF 0 [(0, .ref h0), (1, .int x1), (2, .int x2), (3, .int x3), (4, .int x4)] [] t (fX0_clock ex z h0 x1 x2 x3 x4 t) := by
  unfold fX0_clock
  refine g_iload_n (pc := 0) X 1 dX0_clock_0 rfl rfl ?_
  refine g_iload_n (pc := 1) X 2 dX0_clock_1 rfl rfl ?_
  refine g_iload_n (pc := 2) X 3 dX0_clock_2 rfl rfl ?_
  refine g_iload (pc := 3) X 4 dX0_clock_3 rfl ?_
  refine g_bS_i (pc := 5) X (y := yX0_isMade) (As := [.int x1, .int x2, .int x3, .int x4]) (rest := []) (fr' := 1) (lo' := 25) (fun _ => va_cwS 4 X.2.2.2.2.1 (lw_S q118 q119 q70 q120) rfl rfl rfl dmS_X0_isMade ⟨Nat.le_of_ble_eq_true rfl, Nat.le_of_ble_eq_true rfl⟩) dX0_clock_5 rfl rfl (Nat.le_of_ble_eq_true rfl) (fun r u h => kX0_isMade hex h) (fun r1 t2 => ?_)
  refine g_if_ne (pc := 8) X 13 dX0_clock_8 (by decide) ?_ ?_
  · refine g_aload_n (pc := 13) X 0 dX0_clock_13 rfl rfl ?_
    refine cg_getA (pc := 14) X fo_X0_38 dX0_clock_14 (fun v3 => ?_)
    refine g_bD_i (pc := 17) X (cs := [1]) (As := []) (rest := []) (b := v3) (n := 0) dX0_clock_17 rfl rfl (Nat.le_of_ble_eq_true rfl) (fun fl6 ci7 fs8 hs9 hci10 r u h => ?_) (fun r4 t5 => ?_)
    · obtain rfl := List.mem_singleton.mp hci10
      exact ⟨_, _, _, yX1_size, _, _, _, 1, 20, rfl, kX1_size hex h, Or.inl (cwV 0 X.2.2.2.2.1 (lw_V q129 q130 q131 q71 q132) rfl rfl rfl dmV_X1_size ⟨Nat.le_of_ble_eq_true rfl, Nat.le_of_ble_eq_true rfl⟩)⟩
    refine g_bipush (pc := 20) X 9 dX0_clock_20 rfl ?_
    refine g_icmp_ne (pc := 22) X 28 dX0_clock_22 (by decide) ?_ ?_
    · refine g_aload_n (pc := 28) X 0 dX0_clock_28 rfl rfl ?_
      refine cg_getA (pc := 29) X fo_X0_38 dX0_clock_29 (fun v11 => ?_)
      refine g_iload_n (pc := 32) X 1 dX0_clock_32 rfl rfl ?_
      refine g_iload_n (pc := 33) X 2 dX0_clock_33 rfl rfl ?_
      refine g_iload_n (pc := 34) X 3 dX0_clock_34 rfl rfl ?_
      refine g_iload (pc := 35) X 4 dX0_clock_35 rfl ?_
      refine g_bS_a (pc := 37) X (y := yX0_made) (As := [.int x1, .int x2, .int x3, .int x4]) (rest := [.ref v11]) (fr' := 5) (lo' := 92) (fun _ => va_cwS 4 X.2.2.2.2.1 (lw_S q137 q138 q70 q139) rfl rfl rfl dmS_X0_made ⟨Nat.le_of_ble_eq_true rfl, Nat.le_of_ble_eq_true rfl⟩) dX0_clock_37 rfl rfl (Nat.le_of_ble_eq_true rfl) (fun r u h => kX0_made hex h) (fun r12 t13 => ?_)
      refine g_bD_v (pc := 40) X (cs := [1]) (As := [.ref r12]) (rest := []) (b := v11) (n := 1) dX0_clock_40 rfl rfl (Nat.le_of_ble_eq_true rfl) (fun fl16 ci17 fs18 hs19 hci20 r u h => ?_) (fun r14 t15 => ?_)
      · obtain rfl := List.mem_singleton.mp hci20
        exact ⟨_, _, _, yX1_comes, _, _, _, 7, 152, rfl, kX1_comes hex h, Or.inl (cwV 1 X.2.2.2.2.1 (lw_V q250 q251 q252 q71 q253) rfl rfl rfl dmV_X1_comes ⟨Nat.le_of_ble_eq_true rfl, Nat.le_of_ble_eq_true rfl⟩)⟩
      refine g_aload_n (pc := 43) X 0 dX0_clock_43 rfl rfl ?_
      refine cg_getA (pc := 44) X fo_X0_38 dX0_clock_44 (fun v21 => ?_)
      refine g_bD_i (pc := 47) X (cs := [1]) (As := []) (rest := []) (b := v21) (n := 0) dX0_clock_47 rfl rfl (Nat.le_of_ble_eq_true rfl) (fun fl24 ci25 fs26 hs27 hci28 r u h => ?_) (fun r22 t23 => ?_)
      · obtain rfl := List.mem_singleton.mp hci28
        exact ⟨_, _, _, yX1_size, _, _, _, 1, 20, rfl, kX1_size hex h, Or.inl (cwV 0 X.2.2.2.2.1 (lw_V q129 q130 q131 q71 q132) rfl rfl rfl dmV_X1_size ⟨Nat.le_of_ble_eq_true rfl, Nat.le_of_ble_eq_true rfl⟩)⟩
      refine g_iconst (pc := 50) X 1 dX0_clock_50 rfl ?_
      refine g_isub (pc := 51) X dX0_clock_51 ?_
      exact g_iret (pc := 52) X hr dX0_clock_52
    · refine g_bipush (pc := 25) X (-3) dX0_clock_25 rfl ?_
      exact g_iret (pc := 27) X hr dX0_clock_27
  · refine g_iconst (pc := 11) X (-1) dX0_clock_11 rfl ?_
    exact g_iret (pc := 12) X hr dX0_clock_12
theorem kX0_clock {ex : Nat → Option Nat} {z : Nat} {h0 : Nat} {x1 : Int32} {x2 : Int32} {x3 : Int32} {x4 : Int32} {σ : Sg} {r : Int32} {u : St} (hex : ex = Γ.2.2.2.2) (h : fX0_clock ex z h0 x1 x2 x3 x4 (σ, 0, 0) = some (r, u)) : g_C Γ l yX0_clock cX0_clock 5 (some .int) 8 173 [.ref h0, .int x1, .int x2, .int x3, .int x4] σ z v_i r (g_ι z u) :=
  g_met (ι := g_ι z) (t := (σ, 0, 0)) [.ref h0, .int x1, .int x2, .int x3, .int x4] (by decide) (Nat.le_of_ble_eq_true rfl) h rfl (fun p e s m args below meth c X hr hn => wX0_clock hex X hr h0 x1 x2 x3 x4 (σ, 0, 0))
end CP
abbrev cX0_wind : ByteArray := prog_1_method_18_code
def yX0_wind : MethodName := ⟨RX0, "wind", "(II)I"⟩
def dkwX0_wind_2 : List UInt8 := [42, 180, 0, 38, 27, 182, 0, 111, 180, 0, 35, 172]
abbrev dktX0_wind_2 : List UInt8 := dkwX0_wind_2 ++ []
def dkwX0_wind_1 : List UInt8 := [187, 0, 172, 89, 42, 27, 183, 0, 174, 182, 0, 177, 42, 180, 0, 38, 27, 182, 0, 111, 28, 182, 0, 180]
abbrev dktX0_wind_1 : List UInt8 := dkwX0_wind_1 ++ dktX0_wind_2
def dkwX0_wind_0 : List UInt8 := [42, 27, 182, 0, 107, 153, 0, 15, 28, 133, 10, 20, 0, 63, 184, 0, 48, 154, 0, 5, 2, 172]
abbrev dktX0_wind_0 : List UInt8 := dkwX0_wind_0 ++ dktX0_wind_1
theorem dksX0_wind_0 : cX0_wind.data.toList.drop 0 = dktX0_wind_0 := by decide +kernel
theorem dksX0_wind_1 : cX0_wind.data.toList.drop 22 = dktX0_wind_1 := dk_seg dksX0_wind_0 22 rfl rfl
theorem dksX0_wind_2 : cX0_wind.data.toList.drop 46 = dktX0_wind_2 := dk_seg dksX0_wind_1 24 rfl rfl
theorem dX0_wind_0 : decode cX0_wind 0 = .ok (.aload_n 0, 1) := dk_42 (dk_at dksX0_wind_0 0 rfl rfl)
theorem dX0_wind_1 : decode cX0_wind 1 = .ok (.iload_n 1, 1) := dk_27 (dk_at dksX0_wind_0 1 rfl rfl)
theorem dX0_wind_2 : decode cX0_wind 2 = .ok (.invokevirtual 107, 3) := dk_182 0 107 (dk_at dksX0_wind_0 2 rfl rfl)
theorem dX0_wind_5 : decode cX0_wind 5 = .ok (.ifCond .eq 15, 3) := dk_153 0 15 (dk_at dksX0_wind_0 5 rfl rfl)
theorem dX0_wind_8 : decode cX0_wind 8 = .ok (.iload_n 2, 1) := dk_28 (dk_at dksX0_wind_0 8 rfl rfl)
theorem dX0_wind_9 : decode cX0_wind 9 = .ok (.i2l, 1) := dk_133 (dk_at dksX0_wind_0 9 rfl rfl)
theorem dX0_wind_10 : decode cX0_wind 10 = .ok (.lconst 1, 1) := dk_10 (dk_at dksX0_wind_0 10 rfl rfl)
theorem dX0_wind_11 : decode cX0_wind 11 = .ok (.ldc2_w 63, 3) := dk_20 0 63 (dk_at dksX0_wind_0 11 rfl rfl)
theorem dX0_wind_14 : decode cX0_wind 14 = .ok (.invokestatic 48, 3) := dk_184 0 48 (dk_at dksX0_wind_0 14 rfl rfl)
theorem dX0_wind_17 : decode cX0_wind 17 = .ok (.ifCond .ne 5, 3) := dk_154 0 5 (dk_at dksX0_wind_0 17 rfl rfl)
theorem dX0_wind_20 : decode cX0_wind 20 = .ok (.iconst (-1), 1) := dk_2 (dk_at dksX0_wind_0 20 rfl rfl)
theorem dX0_wind_21 : decode cX0_wind 21 = .ok (.ireturn, 1) := dk_172 (dk_at dksX0_wind_0 21 rfl rfl)
theorem dX0_wind_22 : decode cX0_wind 22 = .ok (.new 172, 3) := dk_187 0 172 (dk_at dksX0_wind_1 0 rfl rfl)
theorem dX0_wind_25 : decode cX0_wind 25 = .ok (.dup, 1) := dk_89 (dk_at dksX0_wind_1 3 rfl rfl)
theorem dX0_wind_26 : decode cX0_wind 26 = .ok (.aload_n 0, 1) := dk_42 (dk_at dksX0_wind_1 4 rfl rfl)
theorem dX0_wind_27 : decode cX0_wind 27 = .ok (.iload_n 1, 1) := dk_27 (dk_at dksX0_wind_1 5 rfl rfl)
theorem dX0_wind_28 : decode cX0_wind 28 = .ok (.invokespecial 174, 3) := dk_183 0 174 (dk_at dksX0_wind_1 6 rfl rfl)
theorem dX0_wind_31 : decode cX0_wind 31 = .ok (.invokevirtual 177, 3) := dk_182 0 177 (dk_at dksX0_wind_1 9 rfl rfl)
theorem dX0_wind_34 : decode cX0_wind 34 = .ok (.aload_n 0, 1) := dk_42 (dk_at dksX0_wind_1 12 rfl rfl)
theorem dX0_wind_35 : decode cX0_wind 35 = .ok (.getfield 38, 3) := dk_180 0 38 (dk_at dksX0_wind_1 13 rfl rfl)
theorem dX0_wind_38 : decode cX0_wind 38 = .ok (.iload_n 1, 1) := dk_27 (dk_at dksX0_wind_1 16 rfl rfl)
theorem dX0_wind_39 : decode cX0_wind 39 = .ok (.invokevirtual 111, 3) := dk_182 0 111 (dk_at dksX0_wind_1 17 rfl rfl)
theorem dX0_wind_42 : decode cX0_wind 42 = .ok (.iload_n 2, 1) := dk_28 (dk_at dksX0_wind_1 20 rfl rfl)
theorem dX0_wind_43 : decode cX0_wind 43 = .ok (.invokevirtual 180, 3) := dk_182 0 180 (dk_at dksX0_wind_1 21 rfl rfl)
theorem dX0_wind_46 : decode cX0_wind 46 = .ok (.aload_n 0, 1) := dk_42 (dk_at dksX0_wind_2 0 rfl rfl)
theorem dX0_wind_47 : decode cX0_wind 47 = .ok (.getfield 38, 3) := dk_180 0 38 (dk_at dksX0_wind_2 1 rfl rfl)
theorem dX0_wind_50 : decode cX0_wind 50 = .ok (.iload_n 1, 1) := dk_27 (dk_at dksX0_wind_2 4 rfl rfl)
theorem dX0_wind_51 : decode cX0_wind 51 = .ok (.invokevirtual 111, 3) := dk_182 0 111 (dk_at dksX0_wind_2 5 rfl rfl)
theorem dX0_wind_54 : decode cX0_wind 54 = .ok (.getfield 35, 3) := dk_180 0 35 (dk_at dksX0_wind_2 8 rfl rfl)
theorem dX0_wind_57 : decode cX0_wind 57 = .ok (.ireturn, 1) := dk_172 (dk_at dksX0_wind_2 11 rfl rfl)
theorem nw_X0_172 : g_nw RX0 172 18 [.int 0, .int 0, .null, .null] 4 := ⟨_, _, _, tyX18, rfl, q652, q653, q103, in_X18, tyX18_ok, fun j hj => by
  match j, hj with
  | 0, _ => rfl
  | 1, _ => rfl
  | 2, _ => rfl
  | 3, _ => rfl⟩
theorem fo_X0_35 : g_fo RX0 35 [4, 5, 6, 7, 8, 9] 3 := ⟨_, _, _, Or.inl q164, fun ci h => by
  simp only [List.mem_cons, List.not_mem_nil, or_false] at h; rcases h with rfl | rfl | rfl | rfl | rfl | rfl
  · exact ⟨_, _, _, rfl, by decide, rfl, rfl, Or.inl rfl, in_X4⟩
  · exact ⟨_, _, _, rfl, by decide, rfl, rfl, Or.inl rfl, in_X5⟩
  · exact ⟨_, _, _, rfl, by decide, rfl, rfl, Or.inl rfl, in_X6⟩
  · exact ⟨_, _, _, rfl, by decide, rfl, rfl, Or.inl rfl, in_X7⟩
  · exact ⟨_, _, _, rfl, by decide, rfl, rfl, Or.inl rfl, in_X8⟩
  · exact ⟨_, _, _, rfl, by decide, rfl, rfl, Or.inl rfl, in_X9⟩⟩
theorem dmS_X18_init : yX18_init.cls ≠ "java/lang/invoke/MethodHandle" ∧ yX18_init.cls ≠ "java/lang/invoke/VarHandle" ∧ (parseMethodDescriptor yX18_init.desc).map (fun d => d.parameters.length) = some 2 := by decide +kernel
theorem dmU_X15_kept0 : "LameClocks$Repair" ≠ "java/lang/invoke/MethodHandle" ∧ "LameClocks$Repair" ≠ "java/lang/invoke/VarHandle" ∧ (parseMethodDescriptor "()V").map (fun d => d.parameters.length) = some 0 := by decide +kernel
theorem dmV_X4_winds : yX4_winds.cls = RX4 ∧ yX4_winds.cls ≠ "java/lang/invoke/MethodHandle" ∧ yX4_winds.cls ≠ "java/lang/invoke/VarHandle" ∧ (parseMethodDescriptor yX4_winds.desc).map (fun d => d.parameters.length) = some 1 := by decide +kernel
theorem dmU_X4_winds1 : "LameClocks$Plain" ≠ "java/lang/invoke/MethodHandle" ∧ "LameClocks$Plain" ≠ "java/lang/invoke/VarHandle" ∧ (parseMethodDescriptor "(I)V").map (fun d => d.parameters.length) = some 1 := by decide +kernel
section CP
variable {Γ : Gc} {p : Program} {l : Launch} {e : Env} {s : State} {m : MethodId} {args : Array Value} {below : List Frame} {meth : Method} {c : Code} {ex : Nat → Option Nat} {z : Nat} {tF : St}
noncomputable def fX0_wind (ex : Nat → Option Nat) (z : Nat) (h0 : Nat) (x1 : Int32) (x2 : Int32) (t : St) : Option (Int32 × St) := ccast [0] t h0 (gb (fX0_isClock ex (z + t.2.1) h0 x1 (t.1, 0, 0)) t fun r1 t2 => if r1 = 0 then some ((-1), t2) else gb (fX0_in ex (z + t2.2.1) x2.toInt64 1 99 (t2.1, 0, 0)) t2 fun r8 t9 => if r8 = 0 then some ((-1), t9) else cnew z 18 [.int 0, .int 0, .null, .null] 4 t9 fun a10 t11 => gb (fX18_init ex (z + t11.2.1) a10 h0 x1 (t11.1, 0, 0)) t11 fun _ t13 => ccast [18] t13 a10 (gb (fX15_kept ex (z + t13.2.1) a10 (t13.1, 0, 0)) t13 fun _ t15 => cgA [0] 0 t15 h0 fun v21 => ccast [1] t15 v21 (gb (fX1_clock ex (z + t15.2.1) v21 x1 (t15.1, 0, 0)) t15 fun r22 t23 => ccast [4, 5, 6, 7, 8, 9] t23 r22 (gb (fX4_winds ex (z + t23.2.1) r22 x2 (t23.1, 0, 0)) t23 fun _ t30 => cgA [0] 0 t30 h0 fun v36 => ccast [1] t30 v36 (gb (fX1_clock ex (z + t30.2.1) v36 x1 (t30.1, 0, 0)) t30 fun r37 t38 => cgI [4, 5, 6, 7, 8, 9] 3 t38 r37 fun v44 => some (v44, t38))))))
set_option maxHeartbeats 4000000 in
theorem wX0_wind {rF : Int32} (hex : ex = Γ.2.2.2.2) (X : g_X Γ p s m args meth c cX0_wind 3 RX0) (hr : meth.sig.returnType = (some .int)) (h0 : Nat) (x1 : Int32) (x2 : Int32) (t : St) : Wf Γ p l e 8 172 s m args below meth c 3 (g_ι z) v_i rF tF 0 [(0, .ref h0), (1, .int x1), (2, .int x2)] [] t (fX0_wind ex z h0 x1 x2 t) := by
  unfold fX0_wind
  refine g_aload_n (pc := 0) X 0 dX0_wind_0 rfl rfl ?_
  refine g_iload_n (pc := 1) X 1 dX0_wind_1 rfl rfl ?_
  refine g_bD_i (pc := 2) X (cs := [0]) (As := [.int x1]) (rest := []) (b := h0) (n := 1) dX0_wind_2 rfl rfl (Nat.le_of_ble_eq_true rfl) (fun fl3 ci4 fs5 hs6 hci7 r u h => ?_) (fun r1 t2 => ?_)
  · obtain rfl := List.mem_singleton.mp hci7
    exact ⟨_, _, _, yX0_isClock, _, _, _, 2, 40, rfl, kX0_isClock hex h, Or.inl (cwV 1 X.2.2.2.2.1 (lw_V q368 q370 qs4 q70 q372) rfl rfl rfl dmV_X0_isClock ⟨Nat.le_of_ble_eq_true rfl, Nat.le_of_ble_eq_true rfl⟩)⟩
  refine g_if_eq (pc := 5) X 20 dX0_wind_5 (by decide) ?_ ?_
  · refine g_iconst (pc := 20) X (-1) dX0_wind_20 rfl ?_
    exact g_iret (pc := 21) X hr dX0_wind_21
  · refine g_iload_n (pc := 8) X 2 dX0_wind_8 rfl rfl ?_
    refine g_i2l (pc := 9) X dX0_wind_9 ?_
    refine g_lconst (pc := 10) X 1 dX0_wind_10 rfl ?_
    refine g_ldc2 (pc := 11) X 99 dX0_wind_11 q128 ?_
    refine g_bS_i (pc := 14) X (y := yX0_in) (As := [.long x2.toInt64, .long 1, .long 99]) (rest := []) (fr' := 0) (lo' := 0) (fun _ => va_cwS 3 X.2.2.2.2.1 (lw_S q122 q123 q70 q124) rfl rfl rfl dmS_X0_in ⟨Nat.le_of_ble_eq_true rfl, Nat.le_of_ble_eq_true rfl⟩) dX0_wind_14 rfl rfl (Nat.le_of_ble_eq_true rfl) (fun r u h => kX0_in hex h) (fun r8 t9 => ?_)
    refine g_if_ne (pc := 17) X 22 dX0_wind_17 (by decide) ?_ ?_
    · refine cg_new (pc := 22) X nw_X0_172 dX0_wind_22 (fun a10 t11 => ?_)
      refine g_dup (pc := 25) X dX0_wind_25 rfl ?_
      refine g_aload_n (pc := 26) X 0 dX0_wind_26 rfl rfl ?_
      refine g_iload_n (pc := 27) X 1 dX0_wind_27 rfl rfl ?_
      refine g_bI_v (pc := 28) X (y := yX18_init) (As := [.ref h0, .int x1]) (rest := [.ref a10]) (b := a10) (fr' := 4) (lo' := 85) (fun _ => cwI 2 X.2.2.2.2.1 (lw_meth q656) rfl rfl rfl (X.2.2.2.2.1 _ q103) (X.2.2.2.2.1 _ q654) (X.2.2.2.2.1 _ q655) rfl dmS_X18_init ⟨Nat.le_of_ble_eq_true rfl, Nat.le_of_ble_eq_true rfl⟩) dX0_wind_28 rfl rfl (Nat.le_of_ble_eq_true rfl) (fun r u h => kX18_init hex h) (fun r12 t13 => ?_)
      refine g_bD_v (pc := 31) X (cs := [18]) (As := []) (rest := []) (b := a10) (n := 0) dX0_wind_31 rfl rfl (Nat.le_of_ble_eq_true rfl) (fun fl16 ci17 fs18 hs19 hci20 r u h => ?_) (fun r14 t15 => ?_)
      · obtain rfl := List.mem_singleton.mp hci20
        exact ⟨_, _, _, yX15_kept, _, _, _, 7, 152, rfl, kX15_kept hex h, Or.inr (Or.inl ⟨_, _, va_cwU 0 X.2.2.2.2.1 (lw_U q691 q692 q694 q695 q100 q696) rfl rfl rfl rfl dmU_X15_kept0 ⟨Nat.le_of_ble_eq_true rfl, Nat.le_of_ble_eq_true rfl⟩⟩)⟩
      refine g_aload_n (pc := 34) X 0 dX0_wind_34 rfl rfl ?_
      refine cg_getA (pc := 35) X fo_X0_38 dX0_wind_35 (fun v21 => ?_)
      refine g_iload_n (pc := 38) X 1 dX0_wind_38 rfl rfl ?_
      refine g_bD_a (pc := 39) X (cs := [1]) (As := [.int x1]) (rest := []) (b := v21) (n := 1) dX0_wind_39 rfl rfl (Nat.le_of_ble_eq_true rfl) (fun fl24 ci25 fs26 hs27 hci28 r u h => ?_) (fun r22 t23 => ?_)
      · obtain rfl := List.mem_singleton.mp hci28
        exact ⟨_, _, _, yX1_clock, _, _, _, 3, 64, rfl, kX1_clock hex h, Or.inl (cwV 1 X.2.2.2.2.1 (lw_V q373 q374 q375 q71 q376) rfl rfl rfl dmV_X1_clock ⟨Nat.le_of_ble_eq_true rfl, Nat.le_of_ble_eq_true rfl⟩)⟩
      refine g_iload_n (pc := 42) X 2 dX0_wind_42 rfl rfl ?_
      refine g_bD_v (pc := 43) X (cs := [4, 5, 6, 7, 8, 9]) (As := [.int x2]) (rest := []) (b := r22) (n := 1) dX0_wind_43 rfl rfl (Nat.le_of_ble_eq_true rfl) (fun fl31 ci32 fs33 hs34 hci35 r u h => ?_) (fun r29 t30 => ?_)
      · simp only [List.mem_cons, List.not_mem_nil, or_false] at hci35
        rcases hci35 with rfl | rfl | rfl | rfl | rfl | rfl
        · exact ⟨_, _, _, yX4_winds, _, _, _, 1, 21, rfl, kX4_winds hex h, Or.inl (cwV 1 X.2.2.2.2.1 (lw_V q700 q701 q702 q77 q709) rfl rfl rfl dmV_X4_winds ⟨Nat.le_of_ble_eq_true rfl, Nat.le_of_ble_eq_true rfl⟩)⟩
        · exact ⟨_, _, _, yX4_winds, _, _, _, 1, 21, rfl, kX4_winds hex h, Or.inr (Or.inl ⟨_, _, va_cwU 1 X.2.2.2.2.1 (lw_U q700 q703 q704 q701 q77 q709) rfl rfl rfl rfl dmU_X4_winds1 ⟨Nat.le_of_ble_eq_true rfl, Nat.le_of_ble_eq_true rfl⟩⟩)⟩
        · exact ⟨_, _, _, yX4_winds, _, _, _, 1, 21, rfl, kX4_winds hex h, Or.inr (Or.inl ⟨_, _, va_cwU 1 X.2.2.2.2.1 (lw_U q700 q703 q706 q701 q77 q709) rfl rfl rfl rfl dmU_X4_winds1 ⟨Nat.le_of_ble_eq_true rfl, Nat.le_of_ble_eq_true rfl⟩⟩)⟩
        · exact ⟨_, _, _, yX4_winds, _, _, _, 1, 21, rfl, kX4_winds hex h, Or.inr (Or.inl ⟨_, _, va_cwU 1 X.2.2.2.2.1 (lw_U q700 q703 q707 q701 q77 q709) rfl rfl rfl rfl dmU_X4_winds1 ⟨Nat.le_of_ble_eq_true rfl, Nat.le_of_ble_eq_true rfl⟩⟩)⟩
        · exact ⟨_, _, _, yX4_winds, _, _, _, 1, 21, rfl, kX4_winds hex h, Or.inr (Or.inl ⟨_, _, va_cwU 1 X.2.2.2.2.1 (lw_U q700 q703 q708 q701 q77 q709) rfl rfl rfl rfl dmU_X4_winds1 ⟨Nat.le_of_ble_eq_true rfl, Nat.le_of_ble_eq_true rfl⟩⟩)⟩
        · exact ⟨_, _, _, yX4_winds, _, _, _, 1, 21, rfl, kX4_winds hex h, Or.inr (Or.inl ⟨_, _, va_cwU 1 X.2.2.2.2.1 (lw_U q700 q703 q705 q701 q77 q709) rfl rfl rfl rfl dmU_X4_winds1 ⟨Nat.le_of_ble_eq_true rfl, Nat.le_of_ble_eq_true rfl⟩⟩)⟩
      refine g_aload_n (pc := 46) X 0 dX0_wind_46 rfl rfl ?_
      refine cg_getA (pc := 47) X fo_X0_38 dX0_wind_47 (fun v36 => ?_)
      refine g_iload_n (pc := 50) X 1 dX0_wind_50 rfl rfl ?_
      refine g_bD_a (pc := 51) X (cs := [1]) (As := [.int x1]) (rest := []) (b := v36) (n := 1) dX0_wind_51 rfl rfl (Nat.le_of_ble_eq_true rfl) (fun fl39 ci40 fs41 hs42 hci43 r u h => ?_) (fun r37 t38 => ?_)
      · obtain rfl := List.mem_singleton.mp hci43
        exact ⟨_, _, _, yX1_clock, _, _, _, 3, 64, rfl, kX1_clock hex h, Or.inl (cwV 1 X.2.2.2.2.1 (lw_V q373 q374 q375 q71 q376) rfl rfl rfl dmV_X1_clock ⟨Nat.le_of_ble_eq_true rfl, Nat.le_of_ble_eq_true rfl⟩)⟩
      refine cg_getI (pc := 54) X fo_X0_35 dX0_wind_54 (fun v44 => ?_)
      exact g_iret (pc := 57) X hr dX0_wind_57
    · refine g_iconst (pc := 20) X (-1) dX0_wind_20 rfl ?_
      exact g_iret (pc := 21) X hr dX0_wind_21
theorem kX0_wind {ex : Nat → Option Nat} {z : Nat} {h0 : Nat} {x1 : Int32} {x2 : Int32} {σ : Sg} {r : Int32} {u : St} (hex : ex = Γ.2.2.2.2) (h : fX0_wind ex z h0 x1 x2 (σ, 0, 0) = some (r, u)) : g_C Γ l yX0_wind cX0_wind 3 (some .int) 8 172 [.ref h0, .int x1, .int x2] σ z v_i r (g_ι z u) :=
  g_met (ι := g_ι z) (t := (σ, 0, 0)) [.ref h0, .int x1, .int x2] (by decide) (Nat.le_of_ble_eq_true rfl) h rfl (fun p e s m args below meth c X hr hn => wX0_wind hex X hr h0 x1 x2 (σ, 0, 0))
end CP
