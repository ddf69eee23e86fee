/-! the reference, its methods: duel, breath, right, appeal, spans, areClocks, has, struck, bet, pays, settle, lots, seed (printed by gen/model.py) -/
set_option maxRecDepth 100000
abbrev cX3_duel : ByteArray := prog_24_method_73_code
def yX3_duel : MethodName := ⟨RX3, "duel", "(IIII)I"⟩
def dkwX3_duel_8 : List UInt8 := [154, 0, 8, 21, 5, 167, 0, 5, 21, 6, 172]
abbrev dktX3_duel_8 : List UInt8 := dkwX3_duel_8 ++ []
def dkwX3_duel_7 : List UInt8 := [16, 12, 112, 96, 167, 0, 5, 21, 6, 54, 6, 132, 5, 1, 132, 7, 1, 167, 255, 207, 21, 4]
abbrev dktX3_duel_7 : List UInt8 := dkwX3_duel_7 ++ dktX3_duel_8
def dkwX3_duel_6 : List UInt8 := [42, 21, 7, 182, 1, 8, 153, 0, 32, 21, 5, 154, 0, 20, 16, 100, 21, 7, 16, 12, 108, 104, 21, 7]
abbrev dktX3_duel_6 : List UInt8 := dkwX3_duel_6 ++ dktX3_duel_7
def dkwX3_duel_5 : List UInt8 := [132, 5, 1, 167, 255, 180, 3, 54, 5, 16, 252, 54, 6, 3, 54, 7, 21, 7, 17, 0, 144, 162, 0, 47]
abbrev dktX3_duel_5 : List UInt8 := dkwX3_duel_5 ++ dktX3_duel_6
def dkwX3_duel_4 : List UInt8 := [180, 0, 7, 16, 42, 27, 96, 46, 42, 180, 0, 7, 16, 42, 28, 96, 46, 100, 79, 42, 182, 0, 251]
abbrev dktX3_duel_4 : List UInt8 := dkwX3_duel_4 ++ dktX3_duel_5
def dkwX3_duel_3 : List UInt8 := [28, 16, 60, 21, 5, 16, 12, 112, 104, 182, 0, 237, 42, 29, 182, 0, 248, 42, 180, 0, 53, 21, 5, 42]
abbrev dktX3_duel_3 : List UInt8 := dkwX3_duel_3 ++ dktX3_duel_4
def dkwX3_duel_2 : List UInt8 := [17, 0, 144, 162, 0, 74, 42, 182, 0, 245, 42, 27, 16, 60, 21, 5, 16, 12, 108, 104, 182, 0, 237, 42]
abbrev dktX3_duel_2 : List UInt8 := dkwX3_duel_2 ++ dktX3_duel_3
def dkwX3_duel_1 : List UInt8 := [184, 0, 242, 153, 0, 14, 21, 4, 133, 9, 10, 184, 0, 75, 154, 0, 5, 2, 172, 3, 54, 5, 21, 5]
abbrev dktX3_duel_1 : List UInt8 := dkwX3_duel_1 ++ dktX3_duel_2
def dkwX3_duel_0 : List UInt8 := [42, 27, 182, 0, 107, 153, 0, 34, 42, 28, 182, 0, 107, 153, 0, 26, 27, 28, 159, 0, 21, 29]
abbrev dktX3_duel_0 : List UInt8 := dkwX3_duel_0 ++ dktX3_duel_1
theorem dksX3_duel_0 : cX3_duel.data.toList.drop 0 = dktX3_duel_0 := by decide +kernel
theorem dksX3_duel_1 : cX3_duel.data.toList.drop 22 = dktX3_duel_1 := dk_seg dksX3_duel_0 22 rfl rfl
theorem dksX3_duel_2 : cX3_duel.data.toList.drop 46 = dktX3_duel_2 := dk_seg dksX3_duel_1 24 rfl rfl
theorem dksX3_duel_3 : cX3_duel.data.toList.drop 70 = dktX3_duel_3 := dk_seg dksX3_duel_2 24 rfl rfl
theorem dksX3_duel_4 : cX3_duel.data.toList.drop 94 = dktX3_duel_4 := dk_seg dksX3_duel_3 24 rfl rfl
theorem dksX3_duel_5 : cX3_duel.data.toList.drop 117 = dktX3_duel_5 := dk_seg dksX3_duel_4 23 rfl rfl
theorem dksX3_duel_6 : cX3_duel.data.toList.drop 141 = dktX3_duel_6 := dk_seg dksX3_duel_5 24 rfl rfl
theorem dksX3_duel_7 : cX3_duel.data.toList.drop 165 = dktX3_duel_7 := dk_seg dksX3_duel_6 24 rfl rfl
theorem dksX3_duel_8 : cX3_duel.data.toList.drop 187 = dktX3_duel_8 := dk_seg dksX3_duel_7 22 rfl rfl
theorem dX3_duel_0 : decode cX3_duel 0 = .ok (.aload_n 0, 1) := dk_42 (dk_at dksX3_duel_0 0 rfl rfl)
theorem dX3_duel_1 : decode cX3_duel 1 = .ok (.iload_n 1, 1) := dk_27 (dk_at dksX3_duel_0 1 rfl rfl)
theorem dX3_duel_2 : decode cX3_duel 2 = .ok (.invokevirtual 107, 3) := dk_182 0 107 (dk_at dksX3_duel_0 2 rfl rfl)
theorem dX3_duel_5 : decode cX3_duel 5 = .ok (.ifCond .eq 34, 3) := dk_153 0 34 (dk_at dksX3_duel_0 5 rfl rfl)
theorem dX3_duel_8 : decode cX3_duel 8 = .ok (.aload_n 0, 1) := dk_42 (dk_at dksX3_duel_0 8 rfl rfl)
theorem dX3_duel_9 : decode cX3_duel 9 = .ok (.iload_n 2, 1) := dk_28 (dk_at dksX3_duel_0 9 rfl rfl)
theorem dX3_duel_10 : decode cX3_duel 10 = .ok (.invokevirtual 107, 3) := dk_182 0 107 (dk_at dksX3_duel_0 10 rfl rfl)
theorem dX3_duel_13 : decode cX3_duel 13 = .ok (.ifCond .eq 26, 3) := dk_153 0 26 (dk_at dksX3_duel_0 13 rfl rfl)
theorem dX3_duel_16 : decode cX3_duel 16 = .ok (.iload_n 1, 1) := dk_27 (dk_at dksX3_duel_0 16 rfl rfl)
theorem dX3_duel_17 : decode cX3_duel 17 = .ok (.iload_n 2, 1) := dk_28 (dk_at dksX3_duel_0 17 rfl rfl)
theorem dX3_duel_18 : decode cX3_duel 18 = .ok (.if_icmp .eq 21, 3) := dk_159 0 21 (dk_at dksX3_duel_0 18 rfl rfl)
theorem dX3_duel_21 : decode cX3_duel 21 = .ok (.iload_n 3, 1) := dk_29 (dk_at dksX3_duel_0 21 rfl rfl)
theorem dX3_duel_22 : decode cX3_duel 22 = .ok (.invokestatic 242, 3) := dk_184 0 242 (dk_at dksX3_duel_1 0 rfl rfl)
theorem dX3_duel_25 : decode cX3_duel 25 = .ok (.ifCond .eq 14, 3) := dk_153 0 14 (dk_at dksX3_duel_1 3 rfl rfl)
theorem dX3_duel_28 : decode cX3_duel 28 = .ok (.iload 4, 2) := dk_21 4 (dk_at dksX3_duel_1 6 rfl rfl)
theorem dX3_duel_30 : decode cX3_duel 30 = .ok (.i2l, 1) := dk_133 (dk_at dksX3_duel_1 8 rfl rfl)
theorem dX3_duel_31 : decode cX3_duel 31 = .ok (.lconst 0, 1) := dk_9 (dk_at dksX3_duel_1 9 rfl rfl)
theorem dX3_duel_32 : decode cX3_duel 32 = .ok (.lconst 1, 1) := dk_10 (dk_at dksX3_duel_1 10 rfl rfl)
theorem dX3_duel_33 : decode cX3_duel 33 = .ok (.invokestatic 75, 3) := dk_184 0 75 (dk_at dksX3_duel_1 11 rfl rfl)
theorem dX3_duel_36 : decode cX3_duel 36 = .ok (.ifCond .ne 5, 3) := dk_154 0 5 (dk_at dksX3_duel_1 14 rfl rfl)
theorem dX3_duel_39 : decode cX3_duel 39 = .ok (.iconst (-1), 1) := dk_2 (dk_at dksX3_duel_1 17 rfl rfl)
theorem dX3_duel_40 : decode cX3_duel 40 = .ok (.ireturn, 1) := dk_172 (dk_at dksX3_duel_1 18 rfl rfl)
theorem dX3_duel_41 : decode cX3_duel 41 = .ok (.iconst 0, 1) := dk_3 (dk_at dksX3_duel_1 19 rfl rfl)
theorem dX3_duel_42 : decode cX3_duel 42 = .ok (.istore 5, 2) := dk_54 5 (dk_at dksX3_duel_1 20 rfl rfl)
theorem dX3_duel_44 : decode cX3_duel 44 = .ok (.iload 5, 2) := dk_21 5 (dk_at dksX3_duel_1 22 rfl rfl)
theorem dX3_duel_46 : decode cX3_duel 46 = .ok (.sipush 144, 3) := dk_17 0 144 (dk_at dksX3_duel_2 0 rfl rfl)
theorem dX3_duel_49 : decode cX3_duel 49 = .ok (.if_icmp .ge 74, 3) := dk_162 0 74 (dk_at dksX3_duel_2 3 rfl rfl)
theorem dX3_duel_52 : decode cX3_duel 52 = .ok (.aload_n 0, 1) := dk_42 (dk_at dksX3_duel_2 6 rfl rfl)
theorem dX3_duel_53 : decode cX3_duel 53 = .ok (.invokevirtual 245, 3) := dk_182 0 245 (dk_at dksX3_duel_2 7 rfl rfl)
theorem dX3_duel_56 : decode cX3_duel 56 = .ok (.aload_n 0, 1) := dk_42 (dk_at dksX3_duel_2 10 rfl rfl)
theorem dX3_duel_57 : decode cX3_duel 57 = .ok (.iload_n 1, 1) := dk_27 (dk_at dksX3_duel_2 11 rfl rfl)
theorem dX3_duel_58 : decode cX3_duel 58 = .ok (.bipush 60, 2) := dk_16 60 (dk_at dksX3_duel_2 12 rfl rfl)
theorem dX3_duel_60 : decode cX3_duel 60 = .ok (.iload 5, 2) := dk_21 5 (dk_at dksX3_duel_2 14 rfl rfl)
theorem dX3_duel_62 : decode cX3_duel 62 = .ok (.bipush 12, 2) := dk_16 12 (dk_at dksX3_duel_2 16 rfl rfl)
theorem dX3_duel_64 : decode cX3_duel 64 = .ok (.idiv, 1) := dk_108 (dk_at dksX3_duel_2 18 rfl rfl)
theorem dX3_duel_65 : decode cX3_duel 65 = .ok (.imul, 1) := dk_104 (dk_at dksX3_duel_2 19 rfl rfl)
theorem dX3_duel_66 : decode cX3_duel 66 = .ok (.invokevirtual 237, 3) := dk_182 0 237 (dk_at dksX3_duel_2 20 rfl rfl)
theorem dX3_duel_69 : decode cX3_duel 69 = .ok (.aload_n 0, 1) := dk_42 (dk_at dksX3_duel_2 23 rfl rfl)
theorem dX3_duel_70 : decode cX3_duel 70 = .ok (.iload_n 2, 1) := dk_28 (dk_at dksX3_duel_3 0 rfl rfl)
theorem dX3_duel_71 : decode cX3_duel 71 = .ok (.bipush 60, 2) := dk_16 60 (dk_at dksX3_duel_3 1 rfl rfl)
theorem dX3_duel_73 : decode cX3_duel 73 = .ok (.iload 5, 2) := dk_21 5 (dk_at dksX3_duel_3 3 rfl rfl)
theorem dX3_duel_75 : decode cX3_duel 75 = .ok (.bipush 12, 2) := dk_16 12 (dk_at dksX3_duel_3 5 rfl rfl)
theorem dX3_duel_77 : decode cX3_duel 77 = .ok (.irem, 1) := dk_112 (dk_at dksX3_duel_3 7 rfl rfl)
theorem dX3_duel_78 : decode cX3_duel 78 = .ok (.imul, 1) := dk_104 (dk_at dksX3_duel_3 8 rfl rfl)
theorem dX3_duel_79 : decode cX3_duel 79 = .ok (.invokevirtual 237, 3) := dk_182 0 237 (dk_at dksX3_duel_3 9 rfl rfl)
theorem dX3_duel_82 : decode cX3_duel 82 = .ok (.aload_n 0, 1) := dk_42 (dk_at dksX3_duel_3 12 rfl rfl)
theorem dX3_duel_83 : decode cX3_duel 83 = .ok (.iload_n 3, 1) := dk_29 (dk_at dksX3_duel_3 13 rfl rfl)
theorem dX3_duel_84 : decode cX3_duel 84 = .ok (.invokevirtual 248, 3) := dk_182 0 248 (dk_at dksX3_duel_3 14 rfl rfl)
theorem dX3_duel_87 : decode cX3_duel 87 = .ok (.aload_n 0, 1) := dk_42 (dk_at dksX3_duel_3 17 rfl rfl)
theorem dX3_duel_88 : decode cX3_duel 88 = .ok (.getfield 53, 3) := dk_180 0 53 (dk_at dksX3_duel_3 18 rfl rfl)
theorem dX3_duel_91 : decode cX3_duel 91 = .ok (.iload 5, 2) := dk_21 5 (dk_at dksX3_duel_3 21 rfl rfl)
theorem dX3_duel_93 : decode cX3_duel 93 = .ok (.aload_n 0, 1) := dk_42 (dk_at dksX3_duel_3 23 rfl rfl)
theorem dX3_duel_94 : decode cX3_duel 94 = .ok (.getfield 7, 3) := dk_180 0 7 (dk_at dksX3_duel_4 0 rfl rfl)
theorem dX3_duel_97 : decode cX3_duel 97 = .ok (.bipush 42, 2) := dk_16 42 (dk_at dksX3_duel_4 3 rfl rfl)
theorem dX3_duel_99 : decode cX3_duel 99 = .ok (.iload_n 1, 1) := dk_27 (dk_at dksX3_duel_4 5 rfl rfl)
theorem dX3_duel_100 : decode cX3_duel 100 = .ok (.iadd, 1) := dk_96 (dk_at dksX3_duel_4 6 rfl rfl)
theorem dX3_duel_101 : decode cX3_duel 101 = .ok (.iaload, 1) := dk_46 (dk_at dksX3_duel_4 7 rfl rfl)
theorem dX3_duel_102 : decode cX3_duel 102 = .ok (.aload_n 0, 1) := dk_42 (dk_at dksX3_duel_4 8 rfl rfl)
theorem dX3_duel_103 : decode cX3_duel 103 = .ok (.getfield 7, 3) := dk_180 0 7 (dk_at dksX3_duel_4 9 rfl rfl)
theorem dX3_duel_106 : decode cX3_duel 106 = .ok (.bipush 42, 2) := dk_16 42 (dk_at dksX3_duel_4 12 rfl rfl)
theorem dX3_duel_108 : decode cX3_duel 108 = .ok (.iload_n 2, 1) := dk_28 (dk_at dksX3_duel_4 14 rfl rfl)
theorem dX3_duel_109 : decode cX3_duel 109 = .ok (.iadd, 1) := dk_96 (dk_at dksX3_duel_4 15 rfl rfl)
theorem dX3_duel_110 : decode cX3_duel 110 = .ok (.iaload, 1) := dk_46 (dk_at dksX3_duel_4 16 rfl rfl)
theorem dX3_duel_111 : decode cX3_duel 111 = .ok (.isub, 1) := dk_100 (dk_at dksX3_duel_4 17 rfl rfl)
theorem dX3_duel_112 : decode cX3_duel 112 = .ok (.iastore, 1) := dk_79 (dk_at dksX3_duel_4 18 rfl rfl)
theorem dX3_duel_113 : decode cX3_duel 113 = .ok (.aload_n 0, 1) := dk_42 (dk_at dksX3_duel_4 19 rfl rfl)
theorem dX3_duel_114 : decode cX3_duel 114 = .ok (.invokevirtual 251, 3) := dk_182 0 251 (dk_at dksX3_duel_4 20 rfl rfl)
theorem dX3_duel_117 : decode cX3_duel 117 = .ok (.iinc 5 1, 3) := dk_132 5 1 (dk_at dksX3_duel_5 0 rfl rfl)
theorem dX3_duel_120 : decode cX3_duel 120 = .ok (.goto (-76), 3) := dk_167 255 180 (dk_at dksX3_duel_5 3 rfl rfl)
theorem dX3_duel_123 : decode cX3_duel 123 = .ok (.iconst 0, 1) := dk_3 (dk_at dksX3_duel_5 6 rfl rfl)
theorem dX3_duel_124 : decode cX3_duel 124 = .ok (.istore 5, 2) := dk_54 5 (dk_at dksX3_duel_5 7 rfl rfl)
theorem dX3_duel_126 : decode cX3_duel 126 = .ok (.bipush (-4), 2) := dk_16 252 (dk_at dksX3_duel_5 9 rfl rfl)
theorem dX3_duel_128 : decode cX3_duel 128 = .ok (.istore 6, 2) := dk_54 6 (dk_at dksX3_duel_5 11 rfl rfl)
theorem dX3_duel_130 : decode cX3_duel 130 = .ok (.iconst 0, 1) := dk_3 (dk_at dksX3_duel_5 13 rfl rfl)
theorem dX3_duel_131 : decode cX3_duel 131 = .ok (.istore 7, 2) := dk_54 7 (dk_at dksX3_duel_5 14 rfl rfl)
theorem dX3_duel_133 : decode cX3_duel 133 = .ok (.iload 7, 2) := dk_21 7 (dk_at dksX3_duel_5 16 rfl rfl)
theorem dX3_duel_135 : decode cX3_duel 135 = .ok (.sipush 144, 3) := dk_17 0 144 (dk_at dksX3_duel_5 18 rfl rfl)
theorem dX3_duel_138 : decode cX3_duel 138 = .ok (.if_icmp .ge 47, 3) := dk_162 0 47 (dk_at dksX3_duel_5 21 rfl rfl)
theorem dX3_duel_141 : decode cX3_duel 141 = .ok (.aload_n 0, 1) := dk_42 (dk_at dksX3_duel_6 0 rfl rfl)
theorem dX3_duel_142 : decode cX3_duel 142 = .ok (.iload 7, 2) := dk_21 7 (dk_at dksX3_duel_6 1 rfl rfl)
theorem dX3_duel_144 : decode cX3_duel 144 = .ok (.invokevirtual 264, 3) := dk_182 1 8 (dk_at dksX3_duel_6 3 rfl rfl)
theorem dX3_duel_147 : decode cX3_duel 147 = .ok (.ifCond .eq 32, 3) := dk_153 0 32 (dk_at dksX3_duel_6 6 rfl rfl)
theorem dX3_duel_150 : decode cX3_duel 150 = .ok (.iload 5, 2) := dk_21 5 (dk_at dksX3_duel_6 9 rfl rfl)
theorem dX3_duel_152 : decode cX3_duel 152 = .ok (.ifCond .ne 20, 3) := dk_154 0 20 (dk_at dksX3_duel_6 11 rfl rfl)
theorem dX3_duel_155 : decode cX3_duel 155 = .ok (.bipush 100, 2) := dk_16 100 (dk_at dksX3_duel_6 14 rfl rfl)
theorem dX3_duel_157 : decode cX3_duel 157 = .ok (.iload 7, 2) := dk_21 7 (dk_at dksX3_duel_6 16 rfl rfl)
theorem dX3_duel_159 : decode cX3_duel 159 = .ok (.bipush 12, 2) := dk_16 12 (dk_at dksX3_duel_6 18 rfl rfl)
theorem dX3_duel_161 : decode cX3_duel 161 = .ok (.idiv, 1) := dk_108 (dk_at dksX3_duel_6 20 rfl rfl)
theorem dX3_duel_162 : decode cX3_duel 162 = .ok (.imul, 1) := dk_104 (dk_at dksX3_duel_6 21 rfl rfl)
theorem dX3_duel_163 : decode cX3_duel 163 = .ok (.iload 7, 2) := dk_21 7 (dk_at dksX3_duel_6 22 rfl rfl)
theorem dX3_duel_165 : decode cX3_duel 165 = .ok (.bipush 12, 2) := dk_16 12 (dk_at dksX3_duel_7 0 rfl rfl)
theorem dX3_duel_167 : decode cX3_duel 167 = .ok (.irem, 1) := dk_112 (dk_at dksX3_duel_7 2 rfl rfl)
theorem dX3_duel_168 : decode cX3_duel 168 = .ok (.iadd, 1) := dk_96 (dk_at dksX3_duel_7 3 rfl rfl)
theorem dX3_duel_169 : decode cX3_duel 169 = .ok (.goto 5, 3) := dk_167 0 5 (dk_at dksX3_duel_7 4 rfl rfl)
theorem dX3_duel_172 : decode cX3_duel 172 = .ok (.iload 6, 2) := dk_21 6 (dk_at dksX3_duel_7 7 rfl rfl)
theorem dX3_duel_174 : decode cX3_duel 174 = .ok (.istore 6, 2) := dk_54 6 (dk_at dksX3_duel_7 9 rfl rfl)
theorem dX3_duel_176 : decode cX3_duel 176 = .ok (.iinc 5 1, 3) := dk_132 5 1 (dk_at dksX3_duel_7 11 rfl rfl)
theorem dX3_duel_179 : decode cX3_duel 179 = .ok (.iinc 7 1, 3) := dk_132 7 1 (dk_at dksX3_duel_7 14 rfl rfl)
theorem dX3_duel_182 : decode cX3_duel 182 = .ok (.goto (-49), 3) := dk_167 255 207 (dk_at dksX3_duel_7 17 rfl rfl)
theorem dX3_duel_185 : decode cX3_duel 185 = .ok (.iload 4, 2) := dk_21 4 (dk_at dksX3_duel_7 20 rfl rfl)
theorem dX3_duel_187 : decode cX3_duel 187 = .ok (.ifCond .ne 8, 3) := dk_154 0 8 (dk_at dksX3_duel_8 0 rfl rfl)
theorem dX3_duel_190 : decode cX3_duel 190 = .ok (.iload 5, 2) := dk_21 5 (dk_at dksX3_duel_8 3 rfl rfl)
theorem dX3_duel_192 : decode cX3_duel 192 = .ok (.goto 5, 3) := dk_167 0 5 (dk_at dksX3_duel_8 5 rfl rfl)
theorem dX3_duel_195 : decode cX3_duel 195 = .ok (.iload 6, 2) := dk_21 6 (dk_at dksX3_duel_8 8 rfl rfl)
theorem dX3_duel_197 : decode cX3_duel 197 = .ok (.ireturn, 1) := dk_172 (dk_at dksX3_duel_8 10 rfl rfl)
abbrev cX3_breath : ByteArray := prog_24_method_74_code
def yX3_breath : MethodName := ⟨RX3, "breath", "(II)I"⟩
def dkwX3_breath_5 : List UInt8 := [167, 255, 171, 21, 4, 172]
abbrev dktX3_breath_5 : List UInt8 := dkwX3_breath_5 ++ []
def dkwX3_breath_4 : List UInt8 := [167, 0, 5, 21, 4, 54, 4, 21, 6, 29, 164, 0, 8, 21, 6, 167, 0, 4, 29, 62, 132, 5, 1]
abbrev dktX3_breath_4 : List UInt8 := dkwX3_breath_4 ++ dktX3_breath_5
def dkwX3_breath_3 : List UInt8 := [180, 0, 7, 16, 42, 27, 96, 46, 54, 6, 42, 182, 0, 251, 21, 6, 29, 164, 0, 8, 21, 5]
abbrev dktX3_breath_3 : List UInt8 := dkwX3_breath_3 ++ dktX3_breath_4
def dkwX3_breath_2 : List UInt8 := [16, 12, 159, 0, 64, 42, 182, 0, 245, 42, 180, 0, 7, 21, 5, 16, 12, 79, 42, 28, 182, 0, 248, 42]
abbrev dktX3_breath_2 : List UInt8 := dkwX3_breath_2 ++ dktX3_breath_3
def dkwX3_breath_1 : List UInt8 := [62, 16, 252, 54, 4, 3, 54, 5, 21, 5, 42, 180, 0, 19, 162, 0, 82, 42, 180, 0, 7, 21, 5, 46]
abbrev dktX3_breath_1 : List UInt8 := dkwX3_breath_1 ++ dktX3_breath_2
def dkwX3_breath_0 : List UInt8 := [42, 27, 182, 0, 107, 153, 0, 10, 28, 184, 0, 242, 154, 0, 5, 2, 172, 42, 27, 28, 3, 182, 1, 11]
abbrev dktX3_breath_0 : List UInt8 := dkwX3_breath_0 ++ dktX3_breath_1
theorem dksX3_breath_0 : cX3_breath.data.toList.drop 0 = dktX3_breath_0 := by decide +kernel
theorem dksX3_breath_1 : cX3_breath.data.toList.drop 24 = dktX3_breath_1 := dk_seg dksX3_breath_0 24 rfl rfl
theorem dksX3_breath_2 : cX3_breath.data.toList.drop 48 = dktX3_breath_2 := dk_seg dksX3_breath_1 24 rfl rfl
theorem dksX3_breath_3 : cX3_breath.data.toList.drop 72 = dktX3_breath_3 := dk_seg dksX3_breath_2 24 rfl rfl
theorem dksX3_breath_4 : cX3_breath.data.toList.drop 94 = dktX3_breath_4 := dk_seg dksX3_breath_3 22 rfl rfl
theorem dksX3_breath_5 : cX3_breath.data.toList.drop 117 = dktX3_breath_5 := dk_seg dksX3_breath_4 23 rfl rfl
theorem dX3_breath_0 : decode cX3_breath 0 = .ok (.aload_n 0, 1) := dk_42 (dk_at dksX3_breath_0 0 rfl rfl)
theorem dX3_breath_1 : decode cX3_breath 1 = .ok (.iload_n 1, 1) := dk_27 (dk_at dksX3_breath_0 1 rfl rfl)
theorem dX3_breath_2 : decode cX3_breath 2 = .ok (.invokevirtual 107, 3) := dk_182 0 107 (dk_at dksX3_breath_0 2 rfl rfl)
theorem dX3_breath_5 : decode cX3_breath 5 = .ok (.ifCond .eq 10, 3) := dk_153 0 10 (dk_at dksX3_breath_0 5 rfl rfl)
theorem dX3_breath_8 : decode cX3_breath 8 = .ok (.iload_n 2, 1) := dk_28 (dk_at dksX3_breath_0 8 rfl rfl)
theorem dX3_breath_9 : decode cX3_breath 9 = .ok (.invokestatic 242, 3) := dk_184 0 242 (dk_at dksX3_breath_0 9 rfl rfl)
theorem dX3_breath_12 : decode cX3_breath 12 = .ok (.ifCond .ne 5, 3) := dk_154 0 5 (dk_at dksX3_breath_0 12 rfl rfl)
theorem dX3_breath_15 : decode cX3_breath 15 = .ok (.iconst (-1), 1) := dk_2 (dk_at dksX3_breath_0 15 rfl rfl)
theorem dX3_breath_16 : decode cX3_breath 16 = .ok (.ireturn, 1) := dk_172 (dk_at dksX3_breath_0 16 rfl rfl)
theorem dX3_breath_17 : decode cX3_breath 17 = .ok (.aload_n 0, 1) := dk_42 (dk_at dksX3_breath_0 17 rfl rfl)
theorem dX3_breath_18 : decode cX3_breath 18 = .ok (.iload_n 1, 1) := dk_27 (dk_at dksX3_breath_0 18 rfl rfl)
theorem dX3_breath_19 : decode cX3_breath 19 = .ok (.iload_n 2, 1) := dk_28 (dk_at dksX3_breath_0 19 rfl rfl)
theorem dX3_breath_20 : decode cX3_breath 20 = .ok (.iconst 0, 1) := dk_3 (dk_at dksX3_breath_0 20 rfl rfl)
theorem dX3_breath_21 : decode cX3_breath 21 = .ok (.invokevirtual 267, 3) := dk_182 1 11 (dk_at dksX3_breath_0 21 rfl rfl)
theorem dX3_breath_24 : decode cX3_breath 24 = .ok (.istore_n 3, 1) := dk_62 (dk_at dksX3_breath_1 0 rfl rfl)
theorem dX3_breath_25 : decode cX3_breath 25 = .ok (.bipush (-4), 2) := dk_16 252 (dk_at dksX3_breath_1 1 rfl rfl)
theorem dX3_breath_27 : decode cX3_breath 27 = .ok (.istore 4, 2) := dk_54 4 (dk_at dksX3_breath_1 3 rfl rfl)
theorem dX3_breath_29 : decode cX3_breath 29 = .ok (.iconst 0, 1) := dk_3 (dk_at dksX3_breath_1 5 rfl rfl)
theorem dX3_breath_30 : decode cX3_breath 30 = .ok (.istore 5, 2) := dk_54 5 (dk_at dksX3_breath_1 6 rfl rfl)
theorem dX3_breath_32 : decode cX3_breath 32 = .ok (.iload 5, 2) := dk_21 5 (dk_at dksX3_breath_1 8 rfl rfl)
theorem dX3_breath_34 : decode cX3_breath 34 = .ok (.aload_n 0, 1) := dk_42 (dk_at dksX3_breath_1 10 rfl rfl)
theorem dX3_breath_35 : decode cX3_breath 35 = .ok (.getfield 19, 3) := dk_180 0 19 (dk_at dksX3_breath_1 11 rfl rfl)
theorem dX3_breath_38 : decode cX3_breath 38 = .ok (.if_icmp .ge 82, 3) := dk_162 0 82 (dk_at dksX3_breath_1 14 rfl rfl)
theorem dX3_breath_41 : decode cX3_breath 41 = .ok (.aload_n 0, 1) := dk_42 (dk_at dksX3_breath_1 17 rfl rfl)
theorem dX3_breath_42 : decode cX3_breath 42 = .ok (.getfield 7, 3) := dk_180 0 7 (dk_at dksX3_breath_1 18 rfl rfl)
theorem dX3_breath_45 : decode cX3_breath 45 = .ok (.iload 5, 2) := dk_21 5 (dk_at dksX3_breath_1 21 rfl rfl)
theorem dX3_breath_47 : decode cX3_breath 47 = .ok (.iaload, 1) := dk_46 (dk_at dksX3_breath_1 23 rfl rfl)
theorem dX3_breath_48 : decode cX3_breath 48 = .ok (.bipush 12, 2) := dk_16 12 (dk_at dksX3_breath_2 0 rfl rfl)
theorem dX3_breath_50 : decode cX3_breath 50 = .ok (.if_icmp .eq 64, 3) := dk_159 0 64 (dk_at dksX3_breath_2 2 rfl rfl)
theorem dX3_breath_53 : decode cX3_breath 53 = .ok (.aload_n 0, 1) := dk_42 (dk_at dksX3_breath_2 5 rfl rfl)
theorem dX3_breath_54 : decode cX3_breath 54 = .ok (.invokevirtual 245, 3) := dk_182 0 245 (dk_at dksX3_breath_2 6 rfl rfl)
theorem dX3_breath_57 : decode cX3_breath 57 = .ok (.aload_n 0, 1) := dk_42 (dk_at dksX3_breath_2 9 rfl rfl)
theorem dX3_breath_58 : decode cX3_breath 58 = .ok (.getfield 7, 3) := dk_180 0 7 (dk_at dksX3_breath_2 10 rfl rfl)
theorem dX3_breath_61 : decode cX3_breath 61 = .ok (.iload 5, 2) := dk_21 5 (dk_at dksX3_breath_2 13 rfl rfl)
theorem dX3_breath_63 : decode cX3_breath 63 = .ok (.bipush 12, 2) := dk_16 12 (dk_at dksX3_breath_2 15 rfl rfl)
theorem dX3_breath_65 : decode cX3_breath 65 = .ok (.iastore, 1) := dk_79 (dk_at dksX3_breath_2 17 rfl rfl)
theorem dX3_breath_66 : decode cX3_breath 66 = .ok (.aload_n 0, 1) := dk_42 (dk_at dksX3_breath_2 18 rfl rfl)
theorem dX3_breath_67 : decode cX3_breath 67 = .ok (.iload_n 2, 1) := dk_28 (dk_at dksX3_breath_2 19 rfl rfl)
theorem dX3_breath_68 : decode cX3_breath 68 = .ok (.invokevirtual 248, 3) := dk_182 0 248 (dk_at dksX3_breath_2 20 rfl rfl)
theorem dX3_breath_71 : decode cX3_breath 71 = .ok (.aload_n 0, 1) := dk_42 (dk_at dksX3_breath_2 23 rfl rfl)
theorem dX3_breath_72 : decode cX3_breath 72 = .ok (.getfield 7, 3) := dk_180 0 7 (dk_at dksX3_breath_3 0 rfl rfl)
theorem dX3_breath_75 : decode cX3_breath 75 = .ok (.bipush 42, 2) := dk_16 42 (dk_at dksX3_breath_3 3 rfl rfl)
theorem dX3_breath_77 : decode cX3_breath 77 = .ok (.iload_n 1, 1) := dk_27 (dk_at dksX3_breath_3 5 rfl rfl)
theorem dX3_breath_78 : decode cX3_breath 78 = .ok (.iadd, 1) := dk_96 (dk_at dksX3_breath_3 6 rfl rfl)
theorem dX3_breath_79 : decode cX3_breath 79 = .ok (.iaload, 1) := dk_46 (dk_at dksX3_breath_3 7 rfl rfl)
theorem dX3_breath_80 : decode cX3_breath 80 = .ok (.istore 6, 2) := dk_54 6 (dk_at dksX3_breath_3 8 rfl rfl)
theorem dX3_breath_82 : decode cX3_breath 82 = .ok (.aload_n 0, 1) := dk_42 (dk_at dksX3_breath_3 10 rfl rfl)
theorem dX3_breath_83 : decode cX3_breath 83 = .ok (.invokevirtual 251, 3) := dk_182 0 251 (dk_at dksX3_breath_3 11 rfl rfl)
theorem dX3_breath_86 : decode cX3_breath 86 = .ok (.iload 6, 2) := dk_21 6 (dk_at dksX3_breath_3 14 rfl rfl)
theorem dX3_breath_88 : decode cX3_breath 88 = .ok (.iload_n 3, 1) := dk_29 (dk_at dksX3_breath_3 16 rfl rfl)
theorem dX3_breath_89 : decode cX3_breath 89 = .ok (.if_icmp .le 8, 3) := dk_164 0 8 (dk_at dksX3_breath_3 17 rfl rfl)
theorem dX3_breath_92 : decode cX3_breath 92 = .ok (.iload 5, 2) := dk_21 5 (dk_at dksX3_breath_3 20 rfl rfl)
theorem dX3_breath_94 : decode cX3_breath 94 = .ok (.goto 5, 3) := dk_167 0 5 (dk_at dksX3_breath_4 0 rfl rfl)
theorem dX3_breath_97 : decode cX3_breath 97 = .ok (.iload 4, 2) := dk_21 4 (dk_at dksX3_breath_4 3 rfl rfl)
theorem dX3_breath_99 : decode cX3_breath 99 = .ok (.istore 4, 2) := dk_54 4 (dk_at dksX3_breath_4 5 rfl rfl)
theorem dX3_breath_101 : decode cX3_breath 101 = .ok (.iload 6, 2) := dk_21 6 (dk_at dksX3_breath_4 7 rfl rfl)
theorem dX3_breath_103 : decode cX3_breath 103 = .ok (.iload_n 3, 1) := dk_29 (dk_at dksX3_breath_4 9 rfl rfl)
theorem dX3_breath_104 : decode cX3_breath 104 = .ok (.if_icmp .le 8, 3) := dk_164 0 8 (dk_at dksX3_breath_4 10 rfl rfl)
theorem dX3_breath_107 : decode cX3_breath 107 = .ok (.iload 6, 2) := dk_21 6 (dk_at dksX3_breath_4 13 rfl rfl)
theorem dX3_breath_109 : decode cX3_breath 109 = .ok (.goto 4, 3) := dk_167 0 4 (dk_at dksX3_breath_4 15 rfl rfl)
theorem dX3_breath_112 : decode cX3_breath 112 = .ok (.iload_n 3, 1) := dk_29 (dk_at dksX3_breath_4 18 rfl rfl)
theorem dX3_breath_113 : decode cX3_breath 113 = .ok (.istore_n 3, 1) := dk_62 (dk_at dksX3_breath_4 19 rfl rfl)
theorem dX3_breath_114 : decode cX3_breath 114 = .ok (.iinc 5 1, 3) := dk_132 5 1 (dk_at dksX3_breath_4 20 rfl rfl)
theorem dX3_breath_117 : decode cX3_breath 117 = .ok (.goto (-85), 3) := dk_167 255 171 (dk_at dksX3_breath_5 0 rfl rfl)
theorem dX3_breath_120 : decode cX3_breath 120 = .ok (.iload 4, 2) := dk_21 4 (dk_at dksX3_breath_5 3 rfl rfl)
theorem dX3_breath_122 : decode cX3_breath 122 = .ok (.ireturn, 1) := dk_172 (dk_at dksX3_breath_5 5 rfl rfl)
abbrev cX3_right : ByteArray := prog_24_method_75_code
def yX3_right : MethodName := ⟨RX3, "right", "(II)I"⟩
def dkwX3_right_3 : List UInt8 := [182, 0, 251, 29, 172]
abbrev dktX3_right_3 : List UInt8 := dkwX3_right_3 ++ []
def dkwX3_right_2 : List UInt8 := [4, 167, 0, 4, 3, 96, 62, 42, 42, 182, 0, 223, 182, 0, 226, 87, 132, 4, 1, 167, 255, 215, 42]
abbrev dktX3_right_2 : List UInt8 := dkwX3_right_2 ++ dktX3_right_3
def dkwX3_right_1 : List UInt8 := [54, 4, 21, 4, 28, 162, 0, 41, 29, 42, 27, 182, 0, 111, 42, 182, 0, 99, 16, 60, 108, 160, 0, 7]
abbrev dktX3_right_1 : List UInt8 := dkwX3_right_1 ++ dktX3_right_2
def dkwX3_right_0 : List UInt8 := [42, 27, 182, 0, 107, 153, 0, 10, 28, 184, 0, 242, 154, 0, 5, 2, 172, 42, 182, 0, 245, 3, 62, 3]
abbrev dktX3_right_0 : List UInt8 := dkwX3_right_0 ++ dktX3_right_1
theorem dksX3_right_0 : cX3_right.data.toList.drop 0 = dktX3_right_0 := by decide +kernel
theorem dksX3_right_1 : cX3_right.data.toList.drop 24 = dktX3_right_1 := dk_seg dksX3_right_0 24 rfl rfl
theorem dksX3_right_2 : cX3_right.data.toList.drop 48 = dktX3_right_2 := dk_seg dksX3_right_1 24 rfl rfl
theorem dksX3_right_3 : cX3_right.data.toList.drop 71 = dktX3_right_3 := dk_seg dksX3_right_2 23 rfl rfl
theorem dX3_right_0 : decode cX3_right 0 = .ok (.aload_n 0, 1) := dk_42 (dk_at dksX3_right_0 0 rfl rfl)
theorem dX3_right_1 : decode cX3_right 1 = .ok (.iload_n 1, 1) := dk_27 (dk_at dksX3_right_0 1 rfl rfl)
theorem dX3_right_2 : decode cX3_right 2 = .ok (.invokevirtual 107, 3) := dk_182 0 107 (dk_at dksX3_right_0 2 rfl rfl)
theorem dX3_right_5 : decode cX3_right 5 = .ok (.ifCond .eq 10, 3) := dk_153 0 10 (dk_at dksX3_right_0 5 rfl rfl)
theorem dX3_right_8 : decode cX3_right 8 = .ok (.iload_n 2, 1) := dk_28 (dk_at dksX3_right_0 8 rfl rfl)
theorem dX3_right_9 : decode cX3_right 9 = .ok (.invokestatic 242, 3) := dk_184 0 242 (dk_at dksX3_right_0 9 rfl rfl)
theorem dX3_right_12 : decode cX3_right 12 = .ok (.ifCond .ne 5, 3) := dk_154 0 5 (dk_at dksX3_right_0 12 rfl rfl)
theorem dX3_right_15 : decode cX3_right 15 = .ok (.iconst (-1), 1) := dk_2 (dk_at dksX3_right_0 15 rfl rfl)
theorem dX3_right_16 : decode cX3_right 16 = .ok (.ireturn, 1) := dk_172 (dk_at dksX3_right_0 16 rfl rfl)
theorem dX3_right_17 : decode cX3_right 17 = .ok (.aload_n 0, 1) := dk_42 (dk_at dksX3_right_0 17 rfl rfl)
theorem dX3_right_18 : decode cX3_right 18 = .ok (.invokevirtual 245, 3) := dk_182 0 245 (dk_at dksX3_right_0 18 rfl rfl)
theorem dX3_right_21 : decode cX3_right 21 = .ok (.iconst 0, 1) := dk_3 (dk_at dksX3_right_0 21 rfl rfl)
theorem dX3_right_22 : decode cX3_right 22 = .ok (.istore_n 3, 1) := dk_62 (dk_at dksX3_right_0 22 rfl rfl)
theorem dX3_right_23 : decode cX3_right 23 = .ok (.iconst 0, 1) := dk_3 (dk_at dksX3_right_0 23 rfl rfl)
theorem dX3_right_24 : decode cX3_right 24 = .ok (.istore 4, 2) := dk_54 4 (dk_at dksX3_right_1 0 rfl rfl)
theorem dX3_right_26 : decode cX3_right 26 = .ok (.iload 4, 2) := dk_21 4 (dk_at dksX3_right_1 2 rfl rfl)
theorem dX3_right_28 : decode cX3_right 28 = .ok (.iload_n 2, 1) := dk_28 (dk_at dksX3_right_1 4 rfl rfl)
theorem dX3_right_29 : decode cX3_right 29 = .ok (.if_icmp .ge 41, 3) := dk_162 0 41 (dk_at dksX3_right_1 5 rfl rfl)
theorem dX3_right_32 : decode cX3_right 32 = .ok (.iload_n 3, 1) := dk_29 (dk_at dksX3_right_1 8 rfl rfl)
theorem dX3_right_33 : decode cX3_right 33 = .ok (.aload_n 0, 1) := dk_42 (dk_at dksX3_right_1 9 rfl rfl)
theorem dX3_right_34 : decode cX3_right 34 = .ok (.iload_n 1, 1) := dk_27 (dk_at dksX3_right_1 10 rfl rfl)
theorem dX3_right_35 : decode cX3_right 35 = .ok (.invokevirtual 111, 3) := dk_182 0 111 (dk_at dksX3_right_1 11 rfl rfl)
theorem dX3_right_38 : decode cX3_right 38 = .ok (.aload_n 0, 1) := dk_42 (dk_at dksX3_right_1 14 rfl rfl)
theorem dX3_right_39 : decode cX3_right 39 = .ok (.invokevirtual 99, 3) := dk_182 0 99 (dk_at dksX3_right_1 15 rfl rfl)
theorem dX3_right_42 : decode cX3_right 42 = .ok (.bipush 60, 2) := dk_16 60 (dk_at dksX3_right_1 18 rfl rfl)
theorem dX3_right_44 : decode cX3_right 44 = .ok (.idiv, 1) := dk_108 (dk_at dksX3_right_1 20 rfl rfl)
theorem dX3_right_45 : decode cX3_right 45 = .ok (.if_icmp .ne 7, 3) := dk_160 0 7 (dk_at dksX3_right_1 21 rfl rfl)
theorem dX3_right_48 : decode cX3_right 48 = .ok (.iconst 1, 1) := dk_4 (dk_at dksX3_right_2 0 rfl rfl)
theorem dX3_right_49 : decode cX3_right 49 = .ok (.goto 4, 3) := dk_167 0 4 (dk_at dksX3_right_2 1 rfl rfl)
theorem dX3_right_52 : decode cX3_right 52 = .ok (.iconst 0, 1) := dk_3 (dk_at dksX3_right_2 4 rfl rfl)
theorem dX3_right_53 : decode cX3_right 53 = .ok (.iadd, 1) := dk_96 (dk_at dksX3_right_2 5 rfl rfl)
theorem dX3_right_54 : decode cX3_right 54 = .ok (.istore_n 3, 1) := dk_62 (dk_at dksX3_right_2 6 rfl rfl)
theorem dX3_right_55 : decode cX3_right 55 = .ok (.aload_n 0, 1) := dk_42 (dk_at dksX3_right_2 7 rfl rfl)
theorem dX3_right_56 : decode cX3_right 56 = .ok (.aload_n 0, 1) := dk_42 (dk_at dksX3_right_2 8 rfl rfl)
theorem dX3_right_57 : decode cX3_right 57 = .ok (.invokevirtual 223, 3) := dk_182 0 223 (dk_at dksX3_right_2 9 rfl rfl)
theorem dX3_right_60 : decode cX3_right 60 = .ok (.invokevirtual 226, 3) := dk_182 0 226 (dk_at dksX3_right_2 12 rfl rfl)
theorem dX3_right_63 : decode cX3_right 63 = .ok (.pop, 1) := dk_87 (dk_at dksX3_right_2 15 rfl rfl)
theorem dX3_right_64 : decode cX3_right 64 = .ok (.iinc 4 1, 3) := dk_132 4 1 (dk_at dksX3_right_2 16 rfl rfl)
theorem dX3_right_67 : decode cX3_right 67 = .ok (.goto (-41), 3) := dk_167 255 215 (dk_at dksX3_right_2 19 rfl rfl)
theorem dX3_right_70 : decode cX3_right 70 = .ok (.aload_n 0, 1) := dk_42 (dk_at dksX3_right_2 22 rfl rfl)
theorem dX3_right_71 : decode cX3_right 71 = .ok (.invokevirtual 251, 3) := dk_182 0 251 (dk_at dksX3_right_3 0 rfl rfl)
theorem dX3_right_74 : decode cX3_right 74 = .ok (.iload_n 3, 1) := dk_29 (dk_at dksX3_right_3 3 rfl rfl)
theorem dX3_right_75 : decode cX3_right 75 = .ok (.ireturn, 1) := dk_172 (dk_at dksX3_right_3 4 rfl rfl)
abbrev cX3_appeal : ByteArray := prog_24_method_76_code
def yX3_appeal : MethodName := ⟨RX3, "appeal", "(II)I"⟩
def dkwX3_appeal_1 : List UInt8 := [28, 4, 182, 1, 11, 62, 42, 2, 181, 0, 29, 29, 172]
abbrev dktX3_appeal_1 : List UInt8 := dkwX3_appeal_1 ++ []
def dkwX3_appeal_0 : List UInt8 := [42, 27, 182, 0, 107, 153, 0, 10, 28, 184, 0, 242, 154, 0, 5, 2, 172, 42, 3, 181, 0, 29, 42, 27]
abbrev dktX3_appeal_0 : List UInt8 := dkwX3_appeal_0 ++ dktX3_appeal_1
theorem dksX3_appeal_0 : cX3_appeal.data.toList.drop 0 = dktX3_appeal_0 := by decide +kernel
theorem dksX3_appeal_1 : cX3_appeal.data.toList.drop 24 = dktX3_appeal_1 := dk_seg dksX3_appeal_0 24 rfl rfl
theorem dX3_appeal_0 : decode cX3_appeal 0 = .ok (.aload_n 0, 1) := dk_42 (dk_at dksX3_appeal_0 0 rfl rfl)
theorem dX3_appeal_1 : decode cX3_appeal 1 = .ok (.iload_n 1, 1) := dk_27 (dk_at dksX3_appeal_0 1 rfl rfl)
theorem dX3_appeal_2 : decode cX3_appeal 2 = .ok (.invokevirtual 107, 3) := dk_182 0 107 (dk_at dksX3_appeal_0 2 rfl rfl)
theorem dX3_appeal_5 : decode cX3_appeal 5 = .ok (.ifCond .eq 10, 3) := dk_153 0 10 (dk_at dksX3_appeal_0 5 rfl rfl)
theorem dX3_appeal_8 : decode cX3_appeal 8 = .ok (.iload_n 2, 1) := dk_28 (dk_at dksX3_appeal_0 8 rfl rfl)
theorem dX3_appeal_9 : decode cX3_appeal 9 = .ok (.invokestatic 242, 3) := dk_184 0 242 (dk_at dksX3_appeal_0 9 rfl rfl)
theorem dX3_appeal_12 : decode cX3_appeal 12 = .ok (.ifCond .ne 5, 3) := dk_154 0 5 (dk_at dksX3_appeal_0 12 rfl rfl)
theorem dX3_appeal_15 : decode cX3_appeal 15 = .ok (.iconst (-1), 1) := dk_2 (dk_at dksX3_appeal_0 15 rfl rfl)
theorem dX3_appeal_16 : decode cX3_appeal 16 = .ok (.ireturn, 1) := dk_172 (dk_at dksX3_appeal_0 16 rfl rfl)
theorem dX3_appeal_17 : decode cX3_appeal 17 = .ok (.aload_n 0, 1) := dk_42 (dk_at dksX3_appeal_0 17 rfl rfl)
theorem dX3_appeal_18 : decode cX3_appeal 18 = .ok (.iconst 0, 1) := dk_3 (dk_at dksX3_appeal_0 18 rfl rfl)
theorem dX3_appeal_19 : decode cX3_appeal 19 = .ok (.putfield 29, 3) := dk_181 0 29 (dk_at dksX3_appeal_0 19 rfl rfl)
theorem dX3_appeal_22 : decode cX3_appeal 22 = .ok (.aload_n 0, 1) := dk_42 (dk_at dksX3_appeal_0 22 rfl rfl)
theorem dX3_appeal_23 : decode cX3_appeal 23 = .ok (.iload_n 1, 1) := dk_27 (dk_at dksX3_appeal_0 23 rfl rfl)
theorem dX3_appeal_24 : decode cX3_appeal 24 = .ok (.iload_n 2, 1) := dk_28 (dk_at dksX3_appeal_1 0 rfl rfl)
theorem dX3_appeal_25 : decode cX3_appeal 25 = .ok (.iconst 1, 1) := dk_4 (dk_at dksX3_appeal_1 1 rfl rfl)
theorem dX3_appeal_26 : decode cX3_appeal 26 = .ok (.invokevirtual 267, 3) := dk_182 1 11 (dk_at dksX3_appeal_1 2 rfl rfl)
theorem dX3_appeal_29 : decode cX3_appeal 29 = .ok (.istore_n 3, 1) := dk_62 (dk_at dksX3_appeal_1 5 rfl rfl)
theorem dX3_appeal_30 : decode cX3_appeal 30 = .ok (.aload_n 0, 1) := dk_42 (dk_at dksX3_appeal_1 6 rfl rfl)
theorem dX3_appeal_31 : decode cX3_appeal 31 = .ok (.iconst (-1), 1) := dk_2 (dk_at dksX3_appeal_1 7 rfl rfl)
theorem dX3_appeal_32 : decode cX3_appeal 32 = .ok (.putfield 29, 3) := dk_181 0 29 (dk_at dksX3_appeal_1 8 rfl rfl)
theorem dX3_appeal_35 : decode cX3_appeal 35 = .ok (.iload_n 3, 1) := dk_29 (dk_at dksX3_appeal_1 11 rfl rfl)
theorem dX3_appeal_36 : decode cX3_appeal 36 = .ok (.ireturn, 1) := dk_172 (dk_at dksX3_appeal_1 12 rfl rfl)
abbrev cX3_spans : ByteArray := prog_24_method_77_code
def yX3_spans : MethodName := ⟨RX3, "spans", "(II)I"⟩
def dkwX3_spans_4 : List UInt8 := [21, 5, 167, 0, 4, 29, 62, 132, 4, 1, 167, 255, 177, 29, 172]
abbrev dktX3_spans_4 : List UInt8 := dkwX3_spans_4 ++ []
def dkwX3_spans_3 : List UInt8 := [29, 155, 0, 22, 28, 154, 0, 12, 21, 5, 29, 162, 0, 17, 167, 0, 9, 21, 5, 29, 164, 0, 8]
abbrev dktX3_spans_3 : List UInt8 := dkwX3_spans_3 ++ dktX3_spans_4
def dkwX3_spans_2 : List UInt8 := [27, 182, 0, 197, 154, 0, 16, 42, 21, 4, 182, 0, 226, 87, 132, 5, 1, 167, 255, 230, 42, 182, 0, 251]
abbrev dktX3_spans_2 : List UInt8 := dkwX3_spans_2 ++ dktX3_spans_3
def dkwX3_spans_1 : List UInt8 := [54, 4, 21, 4, 7, 162, 0, 79, 42, 182, 0, 245, 3, 54, 5, 21, 5, 17, 0, 200, 163, 0, 24, 42]
abbrev dktX3_spans_1 : List UInt8 := dkwX3_spans_1 ++ dktX3_spans_2
def dkwX3_spans_0 : List UInt8 := [42, 27, 182, 0, 107, 153, 0, 13, 28, 133, 9, 10, 184, 0, 75, 154, 0, 5, 2, 172, 16, 252, 62, 3]
abbrev dktX3_spans_0 : List UInt8 := dkwX3_spans_0 ++ dktX3_spans_1
theorem dksX3_spans_0 : cX3_spans.data.toList.drop 0 = dktX3_spans_0 := by decide +kernel
theorem dksX3_spans_1 : cX3_spans.data.toList.drop 24 = dktX3_spans_1 := dk_seg dksX3_spans_0 24 rfl rfl
theorem dksX3_spans_2 : cX3_spans.data.toList.drop 48 = dktX3_spans_2 := dk_seg dksX3_spans_1 24 rfl rfl
theorem dksX3_spans_3 : cX3_spans.data.toList.drop 72 = dktX3_spans_3 := dk_seg dksX3_spans_2 24 rfl rfl
theorem dksX3_spans_4 : cX3_spans.data.toList.drop 95 = dktX3_spans_4 := dk_seg dksX3_spans_3 23 rfl rfl
theorem dX3_spans_0 : decode cX3_spans 0 = .ok (.aload_n 0, 1) := dk_42 (dk_at dksX3_spans_0 0 rfl rfl)
theorem dX3_spans_1 : decode cX3_spans 1 = .ok (.iload_n 1, 1) := dk_27 (dk_at dksX3_spans_0 1 rfl rfl)
theorem dX3_spans_2 : decode cX3_spans 2 = .ok (.invokevirtual 107, 3) := dk_182 0 107 (dk_at dksX3_spans_0 2 rfl rfl)
theorem dX3_spans_5 : decode cX3_spans 5 = .ok (.ifCond .eq 13, 3) := dk_153 0 13 (dk_at dksX3_spans_0 5 rfl rfl)
theorem dX3_spans_8 : decode cX3_spans 8 = .ok (.iload_n 2, 1) := dk_28 (dk_at dksX3_spans_0 8 rfl rfl)
theorem dX3_spans_9 : decode cX3_spans 9 = .ok (.i2l, 1) := dk_133 (dk_at dksX3_spans_0 9 rfl rfl)
theorem dX3_spans_10 : decode cX3_spans 10 = .ok (.lconst 0, 1) := dk_9 (dk_at dksX3_spans_0 10 rfl rfl)
theorem dX3_spans_11 : decode cX3_spans 11 = .ok (.lconst 1, 1) := dk_10 (dk_at dksX3_spans_0 11 rfl rfl)
theorem dX3_spans_12 : decode cX3_spans 12 = .ok (.invokestatic 75, 3) := dk_184 0 75 (dk_at dksX3_spans_0 12 rfl rfl)
theorem dX3_spans_15 : decode cX3_spans 15 = .ok (.ifCond .ne 5, 3) := dk_154 0 5 (dk_at dksX3_spans_0 15 rfl rfl)
theorem dX3_spans_18 : decode cX3_spans 18 = .ok (.iconst (-1), 1) := dk_2 (dk_at dksX3_spans_0 18 rfl rfl)
theorem dX3_spans_19 : decode cX3_spans 19 = .ok (.ireturn, 1) := dk_172 (dk_at dksX3_spans_0 19 rfl rfl)
theorem dX3_spans_20 : decode cX3_spans 20 = .ok (.bipush (-4), 2) := dk_16 252 (dk_at dksX3_spans_0 20 rfl rfl)
theorem dX3_spans_22 : decode cX3_spans 22 = .ok (.istore_n 3, 1) := dk_62 (dk_at dksX3_spans_0 22 rfl rfl)
theorem dX3_spans_23 : decode cX3_spans 23 = .ok (.iconst 0, 1) := dk_3 (dk_at dksX3_spans_0 23 rfl rfl)
theorem dX3_spans_24 : decode cX3_spans 24 = .ok (.istore 4, 2) := dk_54 4 (dk_at dksX3_spans_1 0 rfl rfl)
theorem dX3_spans_26 : decode cX3_spans 26 = .ok (.iload 4, 2) := dk_21 4 (dk_at dksX3_spans_1 2 rfl rfl)
theorem dX3_spans_28 : decode cX3_spans 28 = .ok (.iconst 4, 1) := dk_7 (dk_at dksX3_spans_1 4 rfl rfl)
theorem dX3_spans_29 : decode cX3_spans 29 = .ok (.if_icmp .ge 79, 3) := dk_162 0 79 (dk_at dksX3_spans_1 5 rfl rfl)
theorem dX3_spans_32 : decode cX3_spans 32 = .ok (.aload_n 0, 1) := dk_42 (dk_at dksX3_spans_1 8 rfl rfl)
theorem dX3_spans_33 : decode cX3_spans 33 = .ok (.invokevirtual 245, 3) := dk_182 0 245 (dk_at dksX3_spans_1 9 rfl rfl)
theorem dX3_spans_36 : decode cX3_spans 36 = .ok (.iconst 0, 1) := dk_3 (dk_at dksX3_spans_1 12 rfl rfl)
theorem dX3_spans_37 : decode cX3_spans 37 = .ok (.istore 5, 2) := dk_54 5 (dk_at dksX3_spans_1 13 rfl rfl)
theorem dX3_spans_39 : decode cX3_spans 39 = .ok (.iload 5, 2) := dk_21 5 (dk_at dksX3_spans_1 15 rfl rfl)
theorem dX3_spans_41 : decode cX3_spans 41 = .ok (.sipush 200, 3) := dk_17 0 200 (dk_at dksX3_spans_1 17 rfl rfl)
theorem dX3_spans_44 : decode cX3_spans 44 = .ok (.if_icmp .gt 24, 3) := dk_163 0 24 (dk_at dksX3_spans_1 20 rfl rfl)
theorem dX3_spans_47 : decode cX3_spans 47 = .ok (.aload_n 0, 1) := dk_42 (dk_at dksX3_spans_1 23 rfl rfl)
theorem dX3_spans_48 : decode cX3_spans 48 = .ok (.iload_n 1, 1) := dk_27 (dk_at dksX3_spans_2 0 rfl rfl)
theorem dX3_spans_49 : decode cX3_spans 49 = .ok (.invokevirtual 197, 3) := dk_182 0 197 (dk_at dksX3_spans_2 1 rfl rfl)
theorem dX3_spans_52 : decode cX3_spans 52 = .ok (.ifCond .ne 16, 3) := dk_154 0 16 (dk_at dksX3_spans_2 4 rfl rfl)
theorem dX3_spans_55 : decode cX3_spans 55 = .ok (.aload_n 0, 1) := dk_42 (dk_at dksX3_spans_2 7 rfl rfl)
theorem dX3_spans_56 : decode cX3_spans 56 = .ok (.iload 4, 2) := dk_21 4 (dk_at dksX3_spans_2 8 rfl rfl)
theorem dX3_spans_58 : decode cX3_spans 58 = .ok (.invokevirtual 226, 3) := dk_182 0 226 (dk_at dksX3_spans_2 10 rfl rfl)
theorem dX3_spans_61 : decode cX3_spans 61 = .ok (.pop, 1) := dk_87 (dk_at dksX3_spans_2 13 rfl rfl)
theorem dX3_spans_62 : decode cX3_spans 62 = .ok (.iinc 5 1, 3) := dk_132 5 1 (dk_at dksX3_spans_2 14 rfl rfl)
theorem dX3_spans_65 : decode cX3_spans 65 = .ok (.goto (-26), 3) := dk_167 255 230 (dk_at dksX3_spans_2 17 rfl rfl)
theorem dX3_spans_68 : decode cX3_spans 68 = .ok (.aload_n 0, 1) := dk_42 (dk_at dksX3_spans_2 20 rfl rfl)
theorem dX3_spans_69 : decode cX3_spans 69 = .ok (.invokevirtual 251, 3) := dk_182 0 251 (dk_at dksX3_spans_2 21 rfl rfl)
theorem dX3_spans_72 : decode cX3_spans 72 = .ok (.iload_n 3, 1) := dk_29 (dk_at dksX3_spans_3 0 rfl rfl)
theorem dX3_spans_73 : decode cX3_spans 73 = .ok (.ifCond .lt 22, 3) := dk_155 0 22 (dk_at dksX3_spans_3 1 rfl rfl)
theorem dX3_spans_76 : decode cX3_spans 76 = .ok (.iload_n 2, 1) := dk_28 (dk_at dksX3_spans_3 4 rfl rfl)
theorem dX3_spans_77 : decode cX3_spans 77 = .ok (.ifCond .ne 12, 3) := dk_154 0 12 (dk_at dksX3_spans_3 5 rfl rfl)
theorem dX3_spans_80 : decode cX3_spans 80 = .ok (.iload 5, 2) := dk_21 5 (dk_at dksX3_spans_3 8 rfl rfl)
theorem dX3_spans_82 : decode cX3_spans 82 = .ok (.iload_n 3, 1) := dk_29 (dk_at dksX3_spans_3 10 rfl rfl)
theorem dX3_spans_83 : decode cX3_spans 83 = .ok (.if_icmp .ge 17, 3) := dk_162 0 17 (dk_at dksX3_spans_3 11 rfl rfl)
theorem dX3_spans_86 : decode cX3_spans 86 = .ok (.goto 9, 3) := dk_167 0 9 (dk_at dksX3_spans_3 14 rfl rfl)
theorem dX3_spans_89 : decode cX3_spans 89 = .ok (.iload 5, 2) := dk_21 5 (dk_at dksX3_spans_3 17 rfl rfl)
theorem dX3_spans_91 : decode cX3_spans 91 = .ok (.iload_n 3, 1) := dk_29 (dk_at dksX3_spans_3 19 rfl rfl)
theorem dX3_spans_92 : decode cX3_spans 92 = .ok (.if_icmp .le 8, 3) := dk_164 0 8 (dk_at dksX3_spans_3 20 rfl rfl)
theorem dX3_spans_95 : decode cX3_spans 95 = .ok (.iload 5, 2) := dk_21 5 (dk_at dksX3_spans_4 0 rfl rfl)
theorem dX3_spans_97 : decode cX3_spans 97 = .ok (.goto 4, 3) := dk_167 0 4 (dk_at dksX3_spans_4 2 rfl rfl)
theorem dX3_spans_100 : decode cX3_spans 100 = .ok (.iload_n 3, 1) := dk_29 (dk_at dksX3_spans_4 5 rfl rfl)
theorem dX3_spans_101 : decode cX3_spans 101 = .ok (.istore_n 3, 1) := dk_62 (dk_at dksX3_spans_4 6 rfl rfl)
theorem dX3_spans_102 : decode cX3_spans 102 = .ok (.iinc 4 1, 3) := dk_132 4 1 (dk_at dksX3_spans_4 7 rfl rfl)
theorem dX3_spans_105 : decode cX3_spans 105 = .ok (.goto (-79), 3) := dk_167 255 177 (dk_at dksX3_spans_4 10 rfl rfl)
theorem dX3_spans_108 : decode cX3_spans 108 = .ok (.iload_n 3, 1) := dk_29 (dk_at dksX3_spans_4 13 rfl rfl)
theorem dX3_spans_109 : decode cX3_spans 109 = .ok (.ireturn, 1) := dk_172 (dk_at dksX3_spans_4 14 rfl rfl)
abbrev cX3_areClocks : ByteArray := prog_24_method_78_code
def yX3_areClocks : MethodName := ⟨RX3, "areClocks", "(I)Z"⟩
def dkwX3_areClocks_0 : List UInt8 := [27, 133, 9, 4, 42, 180, 0, 72, 120, 4, 100, 133, 184, 0, 75, 172]
abbrev dktX3_areClocks_0 : List UInt8 := dkwX3_areClocks_0 ++ []
theorem dksX3_areClocks_0 : cX3_areClocks.data.toList.drop 0 = dktX3_areClocks_0 := by decide +kernel
theorem dX3_areClocks_0 : decode cX3_areClocks 0 = .ok (.iload_n 1, 1) := dk_27 (dk_at dksX3_areClocks_0 0 rfl rfl)
theorem dX3_areClocks_1 : decode cX3_areClocks 1 = .ok (.i2l, 1) := dk_133 (dk_at dksX3_areClocks_0 1 rfl rfl)
theorem dX3_areClocks_2 : decode cX3_areClocks 2 = .ok (.lconst 0, 1) := dk_9 (dk_at dksX3_areClocks_0 2 rfl rfl)
theorem dX3_areClocks_3 : decode cX3_areClocks 3 = .ok (.iconst 1, 1) := dk_4 (dk_at dksX3_areClocks_0 3 rfl rfl)
theorem dX3_areClocks_4 : decode cX3_areClocks 4 = .ok (.aload_n 0, 1) := dk_42 (dk_at dksX3_areClocks_0 4 rfl rfl)
theorem dX3_areClocks_5 : decode cX3_areClocks 5 = .ok (.getfield 72, 3) := dk_180 0 72 (dk_at dksX3_areClocks_0 5 rfl rfl)
theorem dX3_areClocks_8 : decode cX3_areClocks 8 = .ok (.ishl, 1) := dk_120 (dk_at dksX3_areClocks_0 8 rfl rfl)
theorem dX3_areClocks_9 : decode cX3_areClocks 9 = .ok (.iconst 1, 1) := dk_4 (dk_at dksX3_areClocks_0 9 rfl rfl)
theorem dX3_areClocks_10 : decode cX3_areClocks 10 = .ok (.isub, 1) := dk_100 (dk_at dksX3_areClocks_0 10 rfl rfl)
theorem dX3_areClocks_11 : decode cX3_areClocks 11 = .ok (.i2l, 1) := dk_133 (dk_at dksX3_areClocks_0 11 rfl rfl)
theorem dX3_areClocks_12 : decode cX3_areClocks 12 = .ok (.invokestatic 75, 3) := dk_184 0 75 (dk_at dksX3_areClocks_0 12 rfl rfl)
theorem dX3_areClocks_15 : decode cX3_areClocks 15 = .ok (.ireturn, 1) := dk_172 (dk_at dksX3_areClocks_0 15 rfl rfl)
abbrev cX3_has : ByteArray := prog_24_method_3_code
def yX3_has : MethodName := ⟨RX3, "has", "(II)Z"⟩
def dkwX3_has_0 : List UInt8 := [26, 27, 122, 4, 126, 4, 160, 0, 7, 4, 167, 0, 4, 3, 172]
abbrev dktX3_has_0 : List UInt8 := dkwX3_has_0 ++ []
theorem dksX3_has_0 : cX3_has.data.toList.drop 0 = dktX3_has_0 := by decide +kernel
theorem dX3_has_0 : decode cX3_has 0 = .ok (.iload_n 0, 1) := dk_26 (dk_at dksX3_has_0 0 rfl rfl)
theorem dX3_has_1 : decode cX3_has 1 = .ok (.iload_n 1, 1) := dk_27 (dk_at dksX3_has_0 1 rfl rfl)
theorem dX3_has_2 : decode cX3_has 2 = .ok (.ishr, 1) := dk_122 (dk_at dksX3_has_0 2 rfl rfl)
theorem dX3_has_3 : decode cX3_has 3 = .ok (.iconst 1, 1) := dk_4 (dk_at dksX3_has_0 3 rfl rfl)
theorem dX3_has_4 : decode cX3_has 4 = .ok (.iand, 1) := dk_126 (dk_at dksX3_has_0 4 rfl rfl)
theorem dX3_has_5 : decode cX3_has 5 = .ok (.iconst 1, 1) := dk_4 (dk_at dksX3_has_0 5 rfl rfl)
theorem dX3_has_6 : decode cX3_has 6 = .ok (.if_icmp .ne 7, 3) := dk_160 0 7 (dk_at dksX3_has_0 6 rfl rfl)
theorem dX3_has_9 : decode cX3_has 9 = .ok (.iconst 1, 1) := dk_4 (dk_at dksX3_has_0 9 rfl rfl)
theorem dX3_has_10 : decode cX3_has 10 = .ok (.goto 4, 3) := dk_167 0 4 (dk_at dksX3_has_0 10 rfl rfl)
theorem dX3_has_13 : decode cX3_has 13 = .ok (.iconst 0, 1) := dk_3 (dk_at dksX3_has_0 13 rfl rfl)
theorem dX3_has_14 : decode cX3_has 14 = .ok (.ireturn, 1) := dk_172 (dk_at dksX3_has_0 14 rfl rfl)
abbrev cX3_struck : ByteArray := prog_24_method_79_code
def yX3_struck : MethodName := ⟨RX3, "struck", "(III)I"⟩
def dkwX3_struck_7 : List UInt8 := [154, 0, 8, 16, 252, 167, 0, 15, 29, 4, 160, 0, 8, 21, 5, 167, 0, 5, 21, 6, 172]
abbrev dktX3_struck_7 : List UInt8 := dkwX3_struck_7 ++ []
def dkwX3_struck_6 : List UInt8 := [21, 7, 126, 54, 6, 132, 7, 1, 167, 255, 154, 29, 154, 0, 8, 21, 4, 167, 0, 25, 21, 4]
abbrev dktX3_struck_6 : List UInt8 := dkwX3_struck_6 ++ dktX3_struck_7
def dkwX3_struck_5 : List UInt8 := [28, 160, 0, 27, 21, 4, 154, 0, 8, 21, 7, 167, 0, 5, 21, 5, 54, 5, 132, 4, 1, 21, 6]
abbrev dktX3_struck_5 : List UInt8 := dkwX3_struck_5 ++ dktX3_struck_6
def dkwX3_struck_4 : List UInt8 := [167, 0, 4, 3, 96, 54, 8, 132, 9, 1, 167, 255, 216, 21, 7, 27, 2, 130, 126, 154, 0, 33, 21, 8]
abbrev dktX3_struck_4 : List UInt8 := dkwX3_struck_4 ++ dktX3_struck_5
def dkwX3_struck_3 : List UInt8 := [162, 0, 37, 21, 8, 21, 7, 21, 9, 184, 1, 22, 153, 0, 15, 42, 21, 9, 182, 0, 111, 184, 0, 216]
abbrev dktX3_struck_3 : List UInt8 := dkwX3_struck_3 ++ dktX3_struck_4
def dkwX3_struck_2 : List UInt8 := [21, 7, 4, 42, 180, 0, 72, 120, 162, 0, 97, 3, 54, 8, 3, 54, 9, 21, 9, 42, 180, 0, 72]
abbrev dktX3_struck_2 : List UInt8 := dkwX3_struck_2 ++ dktX3_struck_3
def dkwX3_struck_1 : List UInt8 := [20, 1, 20, 184, 0, 75, 154, 0, 5, 2, 172, 3, 54, 4, 16, 252, 54, 5, 27, 54, 6, 4, 54, 7]
abbrev dktX3_struck_1 : List UInt8 := dkwX3_struck_1 ++ dktX3_struck_2
def dkwX3_struck_0 : List UInt8 := [42, 27, 182, 1, 15, 153, 0, 27, 28, 133, 10, 20, 1, 18, 184, 0, 75, 153, 0, 15, 29, 133, 9]
abbrev dktX3_struck_0 : List UInt8 := dkwX3_struck_0 ++ dktX3_struck_1
theorem dksX3_struck_0 : cX3_struck.data.toList.drop 0 = dktX3_struck_0 := by decide +kernel
theorem dksX3_struck_1 : cX3_struck.data.toList.drop 23 = dktX3_struck_1 := dk_seg dksX3_struck_0 23 rfl rfl
theorem dksX3_struck_2 : cX3_struck.data.toList.drop 47 = dktX3_struck_2 := dk_seg dksX3_struck_1 24 rfl rfl
theorem dksX3_struck_3 : cX3_struck.data.toList.drop 70 = dktX3_struck_3 := dk_seg dksX3_struck_2 23 rfl rfl
theorem dksX3_struck_4 : cX3_struck.data.toList.drop 94 = dktX3_struck_4 := dk_seg dksX3_struck_3 24 rfl rfl
theorem dksX3_struck_5 : cX3_struck.data.toList.drop 118 = dktX3_struck_5 := dk_seg dksX3_struck_4 24 rfl rfl
theorem dksX3_struck_6 : cX3_struck.data.toList.drop 141 = dktX3_struck_6 := dk_seg dksX3_struck_5 23 rfl rfl
theorem dksX3_struck_7 : cX3_struck.data.toList.drop 163 = dktX3_struck_7 := dk_seg dksX3_struck_6 22 rfl rfl
theorem dX3_struck_0 : decode cX3_struck 0 = .ok (.aload_n 0, 1) := dk_42 (dk_at dksX3_struck_0 0 rfl rfl)
theorem dX3_struck_1 : decode cX3_struck 1 = .ok (.iload_n 1, 1) := dk_27 (dk_at dksX3_struck_0 1 rfl rfl)
theorem dX3_struck_2 : decode cX3_struck 2 = .ok (.invokevirtual 271, 3) := dk_182 1 15 (dk_at dksX3_struck_0 2 rfl rfl)
theorem dX3_struck_5 : decode cX3_struck 5 = .ok (.ifCond .eq 27, 3) := dk_153 0 27 (dk_at dksX3_struck_0 5 rfl rfl)
theorem dX3_struck_8 : decode cX3_struck 8 = .ok (.iload_n 2, 1) := dk_28 (dk_at dksX3_struck_0 8 rfl rfl)
theorem dX3_struck_9 : decode cX3_struck 9 = .ok (.i2l, 1) := dk_133 (dk_at dksX3_struck_0 9 rfl rfl)
theorem dX3_struck_10 : decode cX3_struck 10 = .ok (.lconst 1, 1) := dk_10 (dk_at dksX3_struck_0 10 rfl rfl)
theorem dX3_struck_11 : decode cX3_struck 11 = .ok (.ldc2_w 274, 3) := dk_20 1 18 (dk_at dksX3_struck_0 11 rfl rfl)
theorem dX3_struck_14 : decode cX3_struck 14 = .ok (.invokestatic 75, 3) := dk_184 0 75 (dk_at dksX3_struck_0 14 rfl rfl)
theorem dX3_struck_17 : decode cX3_struck 17 = .ok (.ifCond .eq 15, 3) := dk_153 0 15 (dk_at dksX3_struck_0 17 rfl rfl)
theorem dX3_struck_20 : decode cX3_struck 20 = .ok (.iload_n 3, 1) := dk_29 (dk_at dksX3_struck_0 20 rfl rfl)
theorem dX3_struck_21 : decode cX3_struck 21 = .ok (.i2l, 1) := dk_133 (dk_at dksX3_struck_0 21 rfl rfl)
theorem dX3_struck_22 : decode cX3_struck 22 = .ok (.lconst 0, 1) := dk_9 (dk_at dksX3_struck_0 22 rfl rfl)
theorem dX3_struck_23 : decode cX3_struck 23 = .ok (.ldc2_w 276, 3) := dk_20 1 20 (dk_at dksX3_struck_1 0 rfl rfl)
theorem dX3_struck_26 : decode cX3_struck 26 = .ok (.invokestatic 75, 3) := dk_184 0 75 (dk_at dksX3_struck_1 3 rfl rfl)
theorem dX3_struck_29 : decode cX3_struck 29 = .ok (.ifCond .ne 5, 3) := dk_154 0 5 (dk_at dksX3_struck_1 6 rfl rfl)
theorem dX3_struck_32 : decode cX3_struck 32 = .ok (.iconst (-1), 1) := dk_2 (dk_at dksX3_struck_1 9 rfl rfl)
theorem dX3_struck_33 : decode cX3_struck 33 = .ok (.ireturn, 1) := dk_172 (dk_at dksX3_struck_1 10 rfl rfl)
theorem dX3_struck_34 : decode cX3_struck 34 = .ok (.iconst 0, 1) := dk_3 (dk_at dksX3_struck_1 11 rfl rfl)
theorem dX3_struck_35 : decode cX3_struck 35 = .ok (.istore 4, 2) := dk_54 4 (dk_at dksX3_struck_1 12 rfl rfl)
theorem dX3_struck_37 : decode cX3_struck 37 = .ok (.bipush (-4), 2) := dk_16 252 (dk_at dksX3_struck_1 14 rfl rfl)
theorem dX3_struck_39 : decode cX3_struck 39 = .ok (.istore 5, 2) := dk_54 5 (dk_at dksX3_struck_1 16 rfl rfl)
theorem dX3_struck_41 : decode cX3_struck 41 = .ok (.iload_n 1, 1) := dk_27 (dk_at dksX3_struck_1 18 rfl rfl)
theorem dX3_struck_42 : decode cX3_struck 42 = .ok (.istore 6, 2) := dk_54 6 (dk_at dksX3_struck_1 19 rfl rfl)
theorem dX3_struck_44 : decode cX3_struck 44 = .ok (.iconst 1, 1) := dk_4 (dk_at dksX3_struck_1 21 rfl rfl)
theorem dX3_struck_45 : decode cX3_struck 45 = .ok (.istore 7, 2) := dk_54 7 (dk_at dksX3_struck_1 22 rfl rfl)
theorem dX3_struck_47 : decode cX3_struck 47 = .ok (.iload 7, 2) := dk_21 7 (dk_at dksX3_struck_2 0 rfl rfl)
theorem dX3_struck_49 : decode cX3_struck 49 = .ok (.iconst 1, 1) := dk_4 (dk_at dksX3_struck_2 2 rfl rfl)
theorem dX3_struck_50 : decode cX3_struck 50 = .ok (.aload_n 0, 1) := dk_42 (dk_at dksX3_struck_2 3 rfl rfl)
theorem dX3_struck_51 : decode cX3_struck 51 = .ok (.getfield 72, 3) := dk_180 0 72 (dk_at dksX3_struck_2 4 rfl rfl)
theorem dX3_struck_54 : decode cX3_struck 54 = .ok (.ishl, 1) := dk_120 (dk_at dksX3_struck_2 7 rfl rfl)
theorem dX3_struck_55 : decode cX3_struck 55 = .ok (.if_icmp .ge 97, 3) := dk_162 0 97 (dk_at dksX3_struck_2 8 rfl rfl)
theorem dX3_struck_58 : decode cX3_struck 58 = .ok (.iconst 0, 1) := dk_3 (dk_at dksX3_struck_2 11 rfl rfl)
theorem dX3_struck_59 : decode cX3_struck 59 = .ok (.istore 8, 2) := dk_54 8 (dk_at dksX3_struck_2 12 rfl rfl)
theorem dX3_struck_61 : decode cX3_struck 61 = .ok (.iconst 0, 1) := dk_3 (dk_at dksX3_struck_2 14 rfl rfl)
theorem dX3_struck_62 : decode cX3_struck 62 = .ok (.istore 9, 2) := dk_54 9 (dk_at dksX3_struck_2 15 rfl rfl)
theorem dX3_struck_64 : decode cX3_struck 64 = .ok (.iload 9, 2) := dk_21 9 (dk_at dksX3_struck_2 17 rfl rfl)
theorem dX3_struck_66 : decode cX3_struck 66 = .ok (.aload_n 0, 1) := dk_42 (dk_at dksX3_struck_2 19 rfl rfl)
theorem dX3_struck_67 : decode cX3_struck 67 = .ok (.getfield 72, 3) := dk_180 0 72 (dk_at dksX3_struck_2 20 rfl rfl)
theorem dX3_struck_70 : decode cX3_struck 70 = .ok (.if_icmp .ge 37, 3) := dk_162 0 37 (dk_at dksX3_struck_3 0 rfl rfl)
theorem dX3_struck_73 : decode cX3_struck 73 = .ok (.iload 8, 2) := dk_21 8 (dk_at dksX3_struck_3 3 rfl rfl)
theorem dX3_struck_75 : decode cX3_struck 75 = .ok (.iload 7, 2) := dk_21 7 (dk_at dksX3_struck_3 5 rfl rfl)
theorem dX3_struck_77 : decode cX3_struck 77 = .ok (.iload 9, 2) := dk_21 9 (dk_at dksX3_struck_3 7 rfl rfl)
theorem dX3_struck_79 : decode cX3_struck 79 = .ok (.invokestatic 278, 3) := dk_184 1 22 (dk_at dksX3_struck_3 9 rfl rfl)
theorem dX3_struck_82 : decode cX3_struck 82 = .ok (.ifCond .eq 15, 3) := dk_153 0 15 (dk_at dksX3_struck_3 12 rfl rfl)
theorem dX3_struck_85 : decode cX3_struck 85 = .ok (.aload_n 0, 1) := dk_42 (dk_at dksX3_struck_3 15 rfl rfl)
theorem dX3_struck_86 : decode cX3_struck 86 = .ok (.iload 9, 2) := dk_21 9 (dk_at dksX3_struck_3 16 rfl rfl)
theorem dX3_struck_88 : decode cX3_struck 88 = .ok (.invokevirtual 111, 3) := dk_182 0 111 (dk_at dksX3_struck_3 18 rfl rfl)
theorem dX3_struck_91 : decode cX3_struck 91 = .ok (.invokestatic 216, 3) := dk_184 0 216 (dk_at dksX3_struck_3 21 rfl rfl)
theorem dX3_struck_94 : decode cX3_struck 94 = .ok (.goto 4, 3) := dk_167 0 4 (dk_at dksX3_struck_4 0 rfl rfl)
theorem dX3_struck_97 : decode cX3_struck 97 = .ok (.iconst 0, 1) := dk_3 (dk_at dksX3_struck_4 3 rfl rfl)
theorem dX3_struck_98 : decode cX3_struck 98 = .ok (.iadd, 1) := dk_96 (dk_at dksX3_struck_4 4 rfl rfl)
theorem dX3_struck_99 : decode cX3_struck 99 = .ok (.istore 8, 2) := dk_54 8 (dk_at dksX3_struck_4 5 rfl rfl)
theorem dX3_struck_101 : decode cX3_struck 101 = .ok (.iinc 9 1, 3) := dk_132 9 1 (dk_at dksX3_struck_4 7 rfl rfl)
theorem dX3_struck_104 : decode cX3_struck 104 = .ok (.goto (-40), 3) := dk_167 255 216 (dk_at dksX3_struck_4 10 rfl rfl)
theorem dX3_struck_107 : decode cX3_struck 107 = .ok (.iload 7, 2) := dk_21 7 (dk_at dksX3_struck_4 13 rfl rfl)
theorem dX3_struck_109 : decode cX3_struck 109 = .ok (.iload_n 1, 1) := dk_27 (dk_at dksX3_struck_4 15 rfl rfl)
theorem dX3_struck_110 : decode cX3_struck 110 = .ok (.iconst (-1), 1) := dk_2 (dk_at dksX3_struck_4 16 rfl rfl)
theorem dX3_struck_111 : decode cX3_struck 111 = .ok (.ixor, 1) := dk_130 (dk_at dksX3_struck_4 17 rfl rfl)
theorem dX3_struck_112 : decode cX3_struck 112 = .ok (.iand, 1) := dk_126 (dk_at dksX3_struck_4 18 rfl rfl)
theorem dX3_struck_113 : decode cX3_struck 113 = .ok (.ifCond .ne 33, 3) := dk_154 0 33 (dk_at dksX3_struck_4 19 rfl rfl)
theorem dX3_struck_116 : decode cX3_struck 116 = .ok (.iload 8, 2) := dk_21 8 (dk_at dksX3_struck_4 22 rfl rfl)
theorem dX3_struck_118 : decode cX3_struck 118 = .ok (.iload_n 2, 1) := dk_28 (dk_at dksX3_struck_5 0 rfl rfl)
theorem dX3_struck_119 : decode cX3_struck 119 = .ok (.if_icmp .ne 27, 3) := dk_160 0 27 (dk_at dksX3_struck_5 1 rfl rfl)
theorem dX3_struck_122 : decode cX3_struck 122 = .ok (.iload 4, 2) := dk_21 4 (dk_at dksX3_struck_5 4 rfl rfl)
theorem dX3_struck_124 : decode cX3_struck 124 = .ok (.ifCond .ne 8, 3) := dk_154 0 8 (dk_at dksX3_struck_5 6 rfl rfl)
theorem dX3_struck_127 : decode cX3_struck 127 = .ok (.iload 7, 2) := dk_21 7 (dk_at dksX3_struck_5 9 rfl rfl)
theorem dX3_struck_129 : decode cX3_struck 129 = .ok (.goto 5, 3) := dk_167 0 5 (dk_at dksX3_struck_5 11 rfl rfl)
theorem dX3_struck_132 : decode cX3_struck 132 = .ok (.iload 5, 2) := dk_21 5 (dk_at dksX3_struck_5 14 rfl rfl)
theorem dX3_struck_134 : decode cX3_struck 134 = .ok (.istore 5, 2) := dk_54 5 (dk_at dksX3_struck_5 16 rfl rfl)
theorem dX3_struck_136 : decode cX3_struck 136 = .ok (.iinc 4 1, 3) := dk_132 4 1 (dk_at dksX3_struck_5 18 rfl rfl)
theorem dX3_struck_139 : decode cX3_struck 139 = .ok (.iload 6, 2) := dk_21 6 (dk_at dksX3_struck_5 21 rfl rfl)
theorem dX3_struck_141 : decode cX3_struck 141 = .ok (.iload 7, 2) := dk_21 7 (dk_at dksX3_struck_6 0 rfl rfl)
theorem dX3_struck_143 : decode cX3_struck 143 = .ok (.iand, 1) := dk_126 (dk_at dksX3_struck_6 2 rfl rfl)
theorem dX3_struck_144 : decode cX3_struck 144 = .ok (.istore 6, 2) := dk_54 6 (dk_at dksX3_struck_6 3 rfl rfl)
theorem dX3_struck_146 : decode cX3_struck 146 = .ok (.iinc 7 1, 3) := dk_132 7 1 (dk_at dksX3_struck_6 5 rfl rfl)
theorem dX3_struck_149 : decode cX3_struck 149 = .ok (.goto (-102), 3) := dk_167 255 154 (dk_at dksX3_struck_6 8 rfl rfl)
theorem dX3_struck_152 : decode cX3_struck 152 = .ok (.iload_n 3, 1) := dk_29 (dk_at dksX3_struck_6 11 rfl rfl)
theorem dX3_struck_153 : decode cX3_struck 153 = .ok (.ifCond .ne 8, 3) := dk_154 0 8 (dk_at dksX3_struck_6 12 rfl rfl)
theorem dX3_struck_156 : decode cX3_struck 156 = .ok (.iload 4, 2) := dk_21 4 (dk_at dksX3_struck_6 15 rfl rfl)
theorem dX3_struck_158 : decode cX3_struck 158 = .ok (.goto 25, 3) := dk_167 0 25 (dk_at dksX3_struck_6 17 rfl rfl)
theorem dX3_struck_161 : decode cX3_struck 161 = .ok (.iload 4, 2) := dk_21 4 (dk_at dksX3_struck_6 20 rfl rfl)
theorem dX3_struck_163 : decode cX3_struck 163 = .ok (.ifCond .ne 8, 3) := dk_154 0 8 (dk_at dksX3_struck_7 0 rfl rfl)
theorem dX3_struck_166 : decode cX3_struck 166 = .ok (.bipush (-4), 2) := dk_16 252 (dk_at dksX3_struck_7 3 rfl rfl)
theorem dX3_struck_168 : decode cX3_struck 168 = .ok (.goto 15, 3) := dk_167 0 15 (dk_at dksX3_struck_7 5 rfl rfl)
theorem dX3_struck_171 : decode cX3_struck 171 = .ok (.iload_n 3, 1) := dk_29 (dk_at dksX3_struck_7 8 rfl rfl)
theorem dX3_struck_172 : decode cX3_struck 172 = .ok (.iconst 1, 1) := dk_4 (dk_at dksX3_struck_7 9 rfl rfl)
theorem dX3_struck_173 : decode cX3_struck 173 = .ok (.if_icmp .ne 8, 3) := dk_160 0 8 (dk_at dksX3_struck_7 10 rfl rfl)
theorem dX3_struck_176 : decode cX3_struck 176 = .ok (.iload 5, 2) := dk_21 5 (dk_at dksX3_struck_7 13 rfl rfl)
theorem dX3_struck_178 : decode cX3_struck 178 = .ok (.goto 5, 3) := dk_167 0 5 (dk_at dksX3_struck_7 15 rfl rfl)
theorem dX3_struck_181 : decode cX3_struck 181 = .ok (.iload 6, 2) := dk_21 6 (dk_at dksX3_struck_7 18 rfl rfl)
theorem dX3_struck_183 : decode cX3_struck 183 = .ok (.ireturn, 1) := dk_172 (dk_at dksX3_struck_7 20 rfl rfl)
abbrev cX3_bet : ByteArray := prog_24_method_80_code
def yX3_bet : MethodName := ⟨RX3, "bet", "(II)I"⟩
def dkwX3_bet_3 : List UInt8 := [100, 172]
abbrev dktX3_bet_3 : List UInt8 := dkwX3_bet_3 ++ []
def dkwX3_bet_2 : List UInt8 := [180, 0, 35, 42, 180, 0, 93, 28, 79, 42, 89, 180, 0, 93, 4, 96, 181, 0, 93, 42, 180, 0, 93, 4]
abbrev dktX3_bet_2 : List UInt8 := dkwX3_bet_2 ++ dktX3_bet_3
def dkwX3_bet_1 : List UInt8 := [180, 0, 93, 16, 6, 160, 0, 6, 16, 253, 172, 42, 180, 0, 32, 42, 180, 0, 93, 27, 79, 42]
abbrev dktX3_bet_1 : List UInt8 := dkwX3_bet_1 ++ dktX3_bet_2
def dkwX3_bet_0 : List UInt8 := [42, 27, 182, 0, 107, 153, 0, 15, 28, 133, 10, 20, 1, 25, 184, 0, 75, 154, 0, 5, 2, 172, 42]
abbrev dktX3_bet_0 : List UInt8 := dkwX3_bet_0 ++ dktX3_bet_1
theorem dksX3_bet_0 : cX3_bet.data.toList.drop 0 = dktX3_bet_0 := by decide +kernel
theorem dksX3_bet_1 : cX3_bet.data.toList.drop 23 = dktX3_bet_1 := dk_seg dksX3_bet_0 23 rfl rfl
theorem dksX3_bet_2 : cX3_bet.data.toList.drop 45 = dktX3_bet_2 := dk_seg dksX3_bet_1 22 rfl rfl
theorem dksX3_bet_3 : cX3_bet.data.toList.drop 69 = dktX3_bet_3 := dk_seg dksX3_bet_2 24 rfl rfl
theorem dX3_bet_0 : decode cX3_bet 0 = .ok (.aload_n 0, 1) := dk_42 (dk_at dksX3_bet_0 0 rfl rfl)
theorem dX3_bet_1 : decode cX3_bet 1 = .ok (.iload_n 1, 1) := dk_27 (dk_at dksX3_bet_0 1 rfl rfl)
theorem dX3_bet_2 : decode cX3_bet 2 = .ok (.invokevirtual 107, 3) := dk_182 0 107 (dk_at dksX3_bet_0 2 rfl rfl)
theorem dX3_bet_5 : decode cX3_bet 5 = .ok (.ifCond .eq 15, 3) := dk_153 0 15 (dk_at dksX3_bet_0 5 rfl rfl)
theorem dX3_bet_8 : decode cX3_bet 8 = .ok (.iload_n 2, 1) := dk_28 (dk_at dksX3_bet_0 8 rfl rfl)
theorem dX3_bet_9 : decode cX3_bet 9 = .ok (.i2l, 1) := dk_133 (dk_at dksX3_bet_0 9 rfl rfl)
theorem dX3_bet_10 : decode cX3_bet 10 = .ok (.lconst 1, 1) := dk_10 (dk_at dksX3_bet_0 10 rfl rfl)
theorem dX3_bet_11 : decode cX3_bet 11 = .ok (.ldc2_w 281, 3) := dk_20 1 25 (dk_at dksX3_bet_0 11 rfl rfl)
theorem dX3_bet_14 : decode cX3_bet 14 = .ok (.invokestatic 75, 3) := dk_184 0 75 (dk_at dksX3_bet_0 14 rfl rfl)
theorem dX3_bet_17 : decode cX3_bet 17 = .ok (.ifCond .ne 5, 3) := dk_154 0 5 (dk_at dksX3_bet_0 17 rfl rfl)
theorem dX3_bet_20 : decode cX3_bet 20 = .ok (.iconst (-1), 1) := dk_2 (dk_at dksX3_bet_0 20 rfl rfl)
theorem dX3_bet_21 : decode cX3_bet 21 = .ok (.ireturn, 1) := dk_172 (dk_at dksX3_bet_0 21 rfl rfl)
theorem dX3_bet_22 : decode cX3_bet 22 = .ok (.aload_n 0, 1) := dk_42 (dk_at dksX3_bet_0 22 rfl rfl)
theorem dX3_bet_23 : decode cX3_bet 23 = .ok (.getfield 93, 3) := dk_180 0 93 (dk_at dksX3_bet_1 0 rfl rfl)
theorem dX3_bet_26 : decode cX3_bet 26 = .ok (.bipush 6, 2) := dk_16 6 (dk_at dksX3_bet_1 3 rfl rfl)
theorem dX3_bet_28 : decode cX3_bet 28 = .ok (.if_icmp .ne 6, 3) := dk_160 0 6 (dk_at dksX3_bet_1 5 rfl rfl)
theorem dX3_bet_31 : decode cX3_bet 31 = .ok (.bipush (-3), 2) := dk_16 253 (dk_at dksX3_bet_1 8 rfl rfl)
theorem dX3_bet_33 : decode cX3_bet 33 = .ok (.ireturn, 1) := dk_172 (dk_at dksX3_bet_1 10 rfl rfl)
theorem dX3_bet_34 : decode cX3_bet 34 = .ok (.aload_n 0, 1) := dk_42 (dk_at dksX3_bet_1 11 rfl rfl)
theorem dX3_bet_35 : decode cX3_bet 35 = .ok (.getfield 32, 3) := dk_180 0 32 (dk_at dksX3_bet_1 12 rfl rfl)
theorem dX3_bet_38 : decode cX3_bet 38 = .ok (.aload_n 0, 1) := dk_42 (dk_at dksX3_bet_1 15 rfl rfl)
theorem dX3_bet_39 : decode cX3_bet 39 = .ok (.getfield 93, 3) := dk_180 0 93 (dk_at dksX3_bet_1 16 rfl rfl)
theorem dX3_bet_42 : decode cX3_bet 42 = .ok (.iload_n 1, 1) := dk_27 (dk_at dksX3_bet_1 19 rfl rfl)
theorem dX3_bet_43 : decode cX3_bet 43 = .ok (.iastore, 1) := dk_79 (dk_at dksX3_bet_1 20 rfl rfl)
theorem dX3_bet_44 : decode cX3_bet 44 = .ok (.aload_n 0, 1) := dk_42 (dk_at dksX3_bet_1 21 rfl rfl)
theorem dX3_bet_45 : decode cX3_bet 45 = .ok (.getfield 35, 3) := dk_180 0 35 (dk_at dksX3_bet_2 0 rfl rfl)
theorem dX3_bet_48 : decode cX3_bet 48 = .ok (.aload_n 0, 1) := dk_42 (dk_at dksX3_bet_2 3 rfl rfl)
theorem dX3_bet_49 : decode cX3_bet 49 = .ok (.getfield 93, 3) := dk_180 0 93 (dk_at dksX3_bet_2 4 rfl rfl)
theorem dX3_bet_52 : decode cX3_bet 52 = .ok (.iload_n 2, 1) := dk_28 (dk_at dksX3_bet_2 7 rfl rfl)
theorem dX3_bet_53 : decode cX3_bet 53 = .ok (.iastore, 1) := dk_79 (dk_at dksX3_bet_2 8 rfl rfl)
theorem dX3_bet_54 : decode cX3_bet 54 = .ok (.aload_n 0, 1) := dk_42 (dk_at dksX3_bet_2 9 rfl rfl)
theorem dX3_bet_55 : decode cX3_bet 55 = .ok (.dup, 1) := dk_89 (dk_at dksX3_bet_2 10 rfl rfl)
theorem dX3_bet_56 : decode cX3_bet 56 = .ok (.getfield 93, 3) := dk_180 0 93 (dk_at dksX3_bet_2 11 rfl rfl)
theorem dX3_bet_59 : decode cX3_bet 59 = .ok (.iconst 1, 1) := dk_4 (dk_at dksX3_bet_2 14 rfl rfl)
theorem dX3_bet_60 : decode cX3_bet 60 = .ok (.iadd, 1) := dk_96 (dk_at dksX3_bet_2 15 rfl rfl)
theorem dX3_bet_61 : decode cX3_bet 61 = .ok (.putfield 93, 3) := dk_181 0 93 (dk_at dksX3_bet_2 16 rfl rfl)
theorem dX3_bet_64 : decode cX3_bet 64 = .ok (.aload_n 0, 1) := dk_42 (dk_at dksX3_bet_2 19 rfl rfl)
theorem dX3_bet_65 : decode cX3_bet 65 = .ok (.getfield 93, 3) := dk_180 0 93 (dk_at dksX3_bet_2 20 rfl rfl)
theorem dX3_bet_68 : decode cX3_bet 68 = .ok (.iconst 1, 1) := dk_4 (dk_at dksX3_bet_2 23 rfl rfl)
theorem dX3_bet_69 : decode cX3_bet 69 = .ok (.isub, 1) := dk_100 (dk_at dksX3_bet_3 0 rfl rfl)
theorem dX3_bet_70 : decode cX3_bet 70 = .ok (.ireturn, 1) := dk_172 (dk_at dksX3_bet_3 1 rfl rfl)
abbrev cX3_pays : ByteArray := prog_24_method_81_code
def yX3_pays : MethodName := ⟨RX3, "pays", "(II)I"⟩
def dkwX3_pays_5 : List UInt8 := [180, 0, 35, 27, 46, 104, 21, 4, 108, 167, 0, 4, 3, 172]
abbrev dktX3_pays_5 : List UInt8 := dkwX3_pays_5 ++ []
def dkwX3_pays_4 : List UInt8 := [42, 180, 0, 35, 27, 46, 167, 0, 31, 28, 42, 180, 0, 32, 27, 46, 184, 1, 22, 153, 0, 17, 29, 42]
abbrev dktX3_pays_4 : List UInt8 := dkwX3_pays_4 ++ dktX3_pays_5
def dkwX3_pays_3 : List UInt8 := [180, 0, 35, 21, 5, 46, 167, 0, 4, 3, 96, 54, 4, 132, 5, 1, 167, 255, 204, 21, 4, 154, 0, 12]
abbrev dktX3_pays_3 : List UInt8 := dkwX3_pays_3 ++ dktX3_pays_4
def dkwX3_pays_2 : List UInt8 := [21, 5, 46, 96, 62, 21, 4, 28, 42, 180, 0, 32, 21, 5, 46, 184, 1, 22, 153, 0, 13, 42]
abbrev dktX3_pays_2 : List UInt8 := dkwX3_pays_2 ++ dktX3_pays_3
def dkwX3_pays_1 : List UInt8 := [2, 172, 3, 62, 3, 54, 4, 3, 54, 5, 21, 5, 42, 180, 0, 93, 162, 0, 49, 29, 42, 180, 0, 35]
abbrev dktX3_pays_1 : List UInt8 := dkwX3_pays_1 ++ dktX3_pays_2
def dkwX3_pays_0 : List UInt8 := [27, 133, 9, 42, 180, 0, 93, 4, 100, 133, 184, 0, 75, 153, 0, 11, 42, 28, 182, 1, 15, 154, 0, 5]
abbrev dktX3_pays_0 : List UInt8 := dkwX3_pays_0 ++ dktX3_pays_1
theorem dksX3_pays_0 : cX3_pays.data.toList.drop 0 = dktX3_pays_0 := by decide +kernel
theorem dksX3_pays_1 : cX3_pays.data.toList.drop 24 = dktX3_pays_1 := dk_seg dksX3_pays_0 24 rfl rfl
theorem dksX3_pays_2 : cX3_pays.data.toList.drop 48 = dktX3_pays_2 := dk_seg dksX3_pays_1 24 rfl rfl
theorem dksX3_pays_3 : cX3_pays.data.toList.drop 70 = dktX3_pays_3 := dk_seg dksX3_pays_2 22 rfl rfl
theorem dksX3_pays_4 : cX3_pays.data.toList.drop 94 = dktX3_pays_4 := dk_seg dksX3_pays_3 24 rfl rfl
theorem dksX3_pays_5 : cX3_pays.data.toList.drop 118 = dktX3_pays_5 := dk_seg dksX3_pays_4 24 rfl rfl
theorem dX3_pays_0 : decode cX3_pays 0 = .ok (.iload_n 1, 1) := dk_27 (dk_at dksX3_pays_0 0 rfl rfl)
theorem dX3_pays_1 : decode cX3_pays 1 = .ok (.i2l, 1) := dk_133 (dk_at dksX3_pays_0 1 rfl rfl)
theorem dX3_pays_2 : decode cX3_pays 2 = .ok (.lconst 0, 1) := dk_9 (dk_at dksX3_pays_0 2 rfl rfl)
theorem dX3_pays_3 : decode cX3_pays 3 = .ok (.aload_n 0, 1) := dk_42 (dk_at dksX3_pays_0 3 rfl rfl)
theorem dX3_pays_4 : decode cX3_pays 4 = .ok (.getfield 93, 3) := dk_180 0 93 (dk_at dksX3_pays_0 4 rfl rfl)
theorem dX3_pays_7 : decode cX3_pays 7 = .ok (.iconst 1, 1) := dk_4 (dk_at dksX3_pays_0 7 rfl rfl)
theorem dX3_pays_8 : decode cX3_pays 8 = .ok (.isub, 1) := dk_100 (dk_at dksX3_pays_0 8 rfl rfl)
theorem dX3_pays_9 : decode cX3_pays 9 = .ok (.i2l, 1) := dk_133 (dk_at dksX3_pays_0 9 rfl rfl)
theorem dX3_pays_10 : decode cX3_pays 10 = .ok (.invokestatic 75, 3) := dk_184 0 75 (dk_at dksX3_pays_0 10 rfl rfl)
theorem dX3_pays_13 : decode cX3_pays 13 = .ok (.ifCond .eq 11, 3) := dk_153 0 11 (dk_at dksX3_pays_0 13 rfl rfl)
theorem dX3_pays_16 : decode cX3_pays 16 = .ok (.aload_n 0, 1) := dk_42 (dk_at dksX3_pays_0 16 rfl rfl)
theorem dX3_pays_17 : decode cX3_pays 17 = .ok (.iload_n 2, 1) := dk_28 (dk_at dksX3_pays_0 17 rfl rfl)
theorem dX3_pays_18 : decode cX3_pays 18 = .ok (.invokevirtual 271, 3) := dk_182 1 15 (dk_at dksX3_pays_0 18 rfl rfl)
theorem dX3_pays_21 : decode cX3_pays 21 = .ok (.ifCond .ne 5, 3) := dk_154 0 5 (dk_at dksX3_pays_0 21 rfl rfl)
theorem dX3_pays_24 : decode cX3_pays 24 = .ok (.iconst (-1), 1) := dk_2 (dk_at dksX3_pays_1 0 rfl rfl)
theorem dX3_pays_25 : decode cX3_pays 25 = .ok (.ireturn, 1) := dk_172 (dk_at dksX3_pays_1 1 rfl rfl)
theorem dX3_pays_26 : decode cX3_pays 26 = .ok (.iconst 0, 1) := dk_3 (dk_at dksX3_pays_1 2 rfl rfl)
theorem dX3_pays_27 : decode cX3_pays 27 = .ok (.istore_n 3, 1) := dk_62 (dk_at dksX3_pays_1 3 rfl rfl)
theorem dX3_pays_28 : decode cX3_pays 28 = .ok (.iconst 0, 1) := dk_3 (dk_at dksX3_pays_1 4 rfl rfl)
theorem dX3_pays_29 : decode cX3_pays 29 = .ok (.istore 4, 2) := dk_54 4 (dk_at dksX3_pays_1 5 rfl rfl)
theorem dX3_pays_31 : decode cX3_pays 31 = .ok (.iconst 0, 1) := dk_3 (dk_at dksX3_pays_1 7 rfl rfl)
theorem dX3_pays_32 : decode cX3_pays 32 = .ok (.istore 5, 2) := dk_54 5 (dk_at dksX3_pays_1 8 rfl rfl)
theorem dX3_pays_34 : decode cX3_pays 34 = .ok (.iload 5, 2) := dk_21 5 (dk_at dksX3_pays_1 10 rfl rfl)
theorem dX3_pays_36 : decode cX3_pays 36 = .ok (.aload_n 0, 1) := dk_42 (dk_at dksX3_pays_1 12 rfl rfl)
theorem dX3_pays_37 : decode cX3_pays 37 = .ok (.getfield 93, 3) := dk_180 0 93 (dk_at dksX3_pays_1 13 rfl rfl)
theorem dX3_pays_40 : decode cX3_pays 40 = .ok (.if_icmp .ge 49, 3) := dk_162 0 49 (dk_at dksX3_pays_1 16 rfl rfl)
theorem dX3_pays_43 : decode cX3_pays 43 = .ok (.iload_n 3, 1) := dk_29 (dk_at dksX3_pays_1 19 rfl rfl)
theorem dX3_pays_44 : decode cX3_pays 44 = .ok (.aload_n 0, 1) := dk_42 (dk_at dksX3_pays_1 20 rfl rfl)
theorem dX3_pays_45 : decode cX3_pays 45 = .ok (.getfield 35, 3) := dk_180 0 35 (dk_at dksX3_pays_1 21 rfl rfl)
theorem dX3_pays_48 : decode cX3_pays 48 = .ok (.iload 5, 2) := dk_21 5 (dk_at dksX3_pays_2 0 rfl rfl)
theorem dX3_pays_50 : decode cX3_pays 50 = .ok (.iaload, 1) := dk_46 (dk_at dksX3_pays_2 2 rfl rfl)
theorem dX3_pays_51 : decode cX3_pays 51 = .ok (.iadd, 1) := dk_96 (dk_at dksX3_pays_2 3 rfl rfl)
theorem dX3_pays_52 : decode cX3_pays 52 = .ok (.istore_n 3, 1) := dk_62 (dk_at dksX3_pays_2 4 rfl rfl)
theorem dX3_pays_53 : decode cX3_pays 53 = .ok (.iload 4, 2) := dk_21 4 (dk_at dksX3_pays_2 5 rfl rfl)
theorem dX3_pays_55 : decode cX3_pays 55 = .ok (.iload_n 2, 1) := dk_28 (dk_at dksX3_pays_2 7 rfl rfl)
theorem dX3_pays_56 : decode cX3_pays 56 = .ok (.aload_n 0, 1) := dk_42 (dk_at dksX3_pays_2 8 rfl rfl)
theorem dX3_pays_57 : decode cX3_pays 57 = .ok (.getfield 32, 3) := dk_180 0 32 (dk_at dksX3_pays_2 9 rfl rfl)
theorem dX3_pays_60 : decode cX3_pays 60 = .ok (.iload 5, 2) := dk_21 5 (dk_at dksX3_pays_2 12 rfl rfl)
theorem dX3_pays_62 : decode cX3_pays 62 = .ok (.iaload, 1) := dk_46 (dk_at dksX3_pays_2 14 rfl rfl)
theorem dX3_pays_63 : decode cX3_pays 63 = .ok (.invokestatic 278, 3) := dk_184 1 22 (dk_at dksX3_pays_2 15 rfl rfl)
theorem dX3_pays_66 : decode cX3_pays 66 = .ok (.ifCond .eq 13, 3) := dk_153 0 13 (dk_at dksX3_pays_2 18 rfl rfl)
theorem dX3_pays_69 : decode cX3_pays 69 = .ok (.aload_n 0, 1) := dk_42 (dk_at dksX3_pays_2 21 rfl rfl)
theorem dX3_pays_70 : decode cX3_pays 70 = .ok (.getfield 35, 3) := dk_180 0 35 (dk_at dksX3_pays_3 0 rfl rfl)
theorem dX3_pays_73 : decode cX3_pays 73 = .ok (.iload 5, 2) := dk_21 5 (dk_at dksX3_pays_3 3 rfl rfl)
theorem dX3_pays_75 : decode cX3_pays 75 = .ok (.iaload, 1) := dk_46 (dk_at dksX3_pays_3 5 rfl rfl)
theorem dX3_pays_76 : decode cX3_pays 76 = .ok (.goto 4, 3) := dk_167 0 4 (dk_at dksX3_pays_3 6 rfl rfl)
theorem dX3_pays_79 : decode cX3_pays 79 = .ok (.iconst 0, 1) := dk_3 (dk_at dksX3_pays_3 9 rfl rfl)
theorem dX3_pays_80 : decode cX3_pays 80 = .ok (.iadd, 1) := dk_96 (dk_at dksX3_pays_3 10 rfl rfl)
theorem dX3_pays_81 : decode cX3_pays 81 = .ok (.istore 4, 2) := dk_54 4 (dk_at dksX3_pays_3 11 rfl rfl)
theorem dX3_pays_83 : decode cX3_pays 83 = .ok (.iinc 5 1, 3) := dk_132 5 1 (dk_at dksX3_pays_3 13 rfl rfl)
theorem dX3_pays_86 : decode cX3_pays 86 = .ok (.goto (-52), 3) := dk_167 255 204 (dk_at dksX3_pays_3 16 rfl rfl)
theorem dX3_pays_89 : decode cX3_pays 89 = .ok (.iload 4, 2) := dk_21 4 (dk_at dksX3_pays_3 19 rfl rfl)
theorem dX3_pays_91 : decode cX3_pays 91 = .ok (.ifCond .ne 12, 3) := dk_154 0 12 (dk_at dksX3_pays_3 21 rfl rfl)
theorem dX3_pays_94 : decode cX3_pays 94 = .ok (.aload_n 0, 1) := dk_42 (dk_at dksX3_pays_4 0 rfl rfl)
theorem dX3_pays_95 : decode cX3_pays 95 = .ok (.getfield 35, 3) := dk_180 0 35 (dk_at dksX3_pays_4 1 rfl rfl)
theorem dX3_pays_98 : decode cX3_pays 98 = .ok (.iload_n 1, 1) := dk_27 (dk_at dksX3_pays_4 4 rfl rfl)
theorem dX3_pays_99 : decode cX3_pays 99 = .ok (.iaload, 1) := dk_46 (dk_at dksX3_pays_4 5 rfl rfl)
theorem dX3_pays_100 : decode cX3_pays 100 = .ok (.goto 31, 3) := dk_167 0 31 (dk_at dksX3_pays_4 6 rfl rfl)
theorem dX3_pays_103 : decode cX3_pays 103 = .ok (.iload_n 2, 1) := dk_28 (dk_at dksX3_pays_4 9 rfl rfl)
theorem dX3_pays_104 : decode cX3_pays 104 = .ok (.aload_n 0, 1) := dk_42 (dk_at dksX3_pays_4 10 rfl rfl)
theorem dX3_pays_105 : decode cX3_pays 105 = .ok (.getfield 32, 3) := dk_180 0 32 (dk_at dksX3_pays_4 11 rfl rfl)
theorem dX3_pays_108 : decode cX3_pays 108 = .ok (.iload_n 1, 1) := dk_27 (dk_at dksX3_pays_4 14 rfl rfl)
theorem dX3_pays_109 : decode cX3_pays 109 = .ok (.iaload, 1) := dk_46 (dk_at dksX3_pays_4 15 rfl rfl)
theorem dX3_pays_110 : decode cX3_pays 110 = .ok (.invokestatic 278, 3) := dk_184 1 22 (dk_at dksX3_pays_4 16 rfl rfl)
theorem dX3_pays_113 : decode cX3_pays 113 = .ok (.ifCond .eq 17, 3) := dk_153 0 17 (dk_at dksX3_pays_4 19 rfl rfl)
theorem dX3_pays_116 : decode cX3_pays 116 = .ok (.iload_n 3, 1) := dk_29 (dk_at dksX3_pays_4 22 rfl rfl)
theorem dX3_pays_117 : decode cX3_pays 117 = .ok (.aload_n 0, 1) := dk_42 (dk_at dksX3_pays_4 23 rfl rfl)
theorem dX3_pays_118 : decode cX3_pays 118 = .ok (.getfield 35, 3) := dk_180 0 35 (dk_at dksX3_pays_5 0 rfl rfl)
theorem dX3_pays_121 : decode cX3_pays 121 = .ok (.iload_n 1, 1) := dk_27 (dk_at dksX3_pays_5 3 rfl rfl)
theorem dX3_pays_122 : decode cX3_pays 122 = .ok (.iaload, 1) := dk_46 (dk_at dksX3_pays_5 4 rfl rfl)
theorem dX3_pays_123 : decode cX3_pays 123 = .ok (.imul, 1) := dk_104 (dk_at dksX3_pays_5 5 rfl rfl)
theorem dX3_pays_124 : decode cX3_pays 124 = .ok (.iload 4, 2) := dk_21 4 (dk_at dksX3_pays_5 6 rfl rfl)
theorem dX3_pays_126 : decode cX3_pays 126 = .ok (.idiv, 1) := dk_108 (dk_at dksX3_pays_5 8 rfl rfl)
theorem dX3_pays_127 : decode cX3_pays 127 = .ok (.goto 4, 3) := dk_167 0 4 (dk_at dksX3_pays_5 9 rfl rfl)
theorem dX3_pays_130 : decode cX3_pays 130 = .ok (.iconst 0, 1) := dk_3 (dk_at dksX3_pays_5 12 rfl rfl)
theorem dX3_pays_131 : decode cX3_pays 131 = .ok (.ireturn, 1) := dk_172 (dk_at dksX3_pays_5 13 rfl rfl)
abbrev cX3_settle : ByteArray := prog_24_method_82_code
def yX3_settle : MethodName := ⟨RX3, "settle", "()I"⟩
def dkwX3_settle_0 : List UInt8 := [42, 180, 0, 93, 60, 42, 3, 181, 0, 93, 27, 172]
abbrev dktX3_settle_0 : List UInt8 := dkwX3_settle_0 ++ []
theorem dksX3_settle_0 : cX3_settle.data.toList.drop 0 = dktX3_settle_0 := by decide +kernel
theorem dX3_settle_0 : decode cX3_settle 0 = .ok (.aload_n 0, 1) := dk_42 (dk_at dksX3_settle_0 0 rfl rfl)
theorem dX3_settle_1 : decode cX3_settle 1 = .ok (.getfield 93, 3) := dk_180 0 93 (dk_at dksX3_settle_0 1 rfl rfl)
theorem dX3_settle_4 : decode cX3_settle 4 = .ok (.istore_n 1, 1) := dk_60 (dk_at dksX3_settle_0 4 rfl rfl)
theorem dX3_settle_5 : decode cX3_settle 5 = .ok (.aload_n 0, 1) := dk_42 (dk_at dksX3_settle_0 5 rfl rfl)
theorem dX3_settle_6 : decode cX3_settle 6 = .ok (.iconst 0, 1) := dk_3 (dk_at dksX3_settle_0 6 rfl rfl)
theorem dX3_settle_7 : decode cX3_settle 7 = .ok (.putfield 93, 3) := dk_181 0 93 (dk_at dksX3_settle_0 7 rfl rfl)
theorem dX3_settle_10 : decode cX3_settle 10 = .ok (.iload_n 1, 1) := dk_27 (dk_at dksX3_settle_0 10 rfl rfl)
theorem dX3_settle_11 : decode cX3_settle 11 = .ok (.ireturn, 1) := dk_172 (dk_at dksX3_settle_0 11 rfl rfl)
abbrev cX3_lots : ByteArray := prog_24_method_83_code
def yX3_lots : MethodName := ⟨RX3, "lots", "(I)I"⟩
def dkwX3_lots_3 : List UInt8 := [19, 1, 35, 108, 7, 112, 182, 0, 226, 96, 61, 132, 3, 1, 167, 255, 209, 28, 172]
abbrev dktX3_lots_3 : List UInt8 := dkwX3_lots_3 ++ []
def dkwX3_lots_2 : List UInt8 := [20, 1, 29, 105, 20, 1, 31, 97, 20, 1, 33, 127, 136, 181, 0, 41, 28, 42, 42, 180, 0, 41]
abbrev dktX3_lots_2 : List UInt8 := dkwX3_lots_2 ++ dktX3_lots_3
def dkwX3_lots_1 : List UInt8 := [17, 39, 15, 164, 0, 6, 16, 253, 172, 3, 61, 3, 62, 29, 27, 162, 0, 48, 42, 42, 180, 0, 41, 133]
abbrev dktX3_lots_1 : List UInt8 := dkwX3_lots_1 ++ dktX3_lots_2
def dkwX3_lots_0 : List UInt8 := [27, 133, 10, 20, 1, 27, 184, 0, 75, 154, 0, 5, 2, 172, 42, 180, 0, 7, 16, 60, 46, 27, 96]
abbrev dktX3_lots_0 : List UInt8 := dkwX3_lots_0 ++ dktX3_lots_1
theorem dksX3_lots_0 : cX3_lots.data.toList.drop 0 = dktX3_lots_0 := by decide +kernel
theorem dksX3_lots_1 : cX3_lots.data.toList.drop 23 = dktX3_lots_1 := dk_seg dksX3_lots_0 23 rfl rfl
theorem dksX3_lots_2 : cX3_lots.data.toList.drop 47 = dktX3_lots_2 := dk_seg dksX3_lots_1 24 rfl rfl
theorem dksX3_lots_3 : cX3_lots.data.toList.drop 69 = dktX3_lots_3 := dk_seg dksX3_lots_2 22 rfl rfl
theorem dX3_lots_0 : decode cX3_lots 0 = .ok (.iload_n 1, 1) := dk_27 (dk_at dksX3_lots_0 0 rfl rfl)
theorem dX3_lots_1 : decode cX3_lots 1 = .ok (.i2l, 1) := dk_133 (dk_at dksX3_lots_0 1 rfl rfl)
theorem dX3_lots_2 : decode cX3_lots 2 = .ok (.lconst 1, 1) := dk_10 (dk_at dksX3_lots_0 2 rfl rfl)
theorem dX3_lots_3 : decode cX3_lots 3 = .ok (.ldc2_w 283, 3) := dk_20 1 27 (dk_at dksX3_lots_0 3 rfl rfl)
theorem dX3_lots_6 : decode cX3_lots 6 = .ok (.invokestatic 75, 3) := dk_184 0 75 (dk_at dksX3_lots_0 6 rfl rfl)
theorem dX3_lots_9 : decode cX3_lots 9 = .ok (.ifCond .ne 5, 3) := dk_154 0 5 (dk_at dksX3_lots_0 9 rfl rfl)
theorem dX3_lots_12 : decode cX3_lots 12 = .ok (.iconst (-1), 1) := dk_2 (dk_at dksX3_lots_0 12 rfl rfl)
theorem dX3_lots_13 : decode cX3_lots 13 = .ok (.ireturn, 1) := dk_172 (dk_at dksX3_lots_0 13 rfl rfl)
theorem dX3_lots_14 : decode cX3_lots 14 = .ok (.aload_n 0, 1) := dk_42 (dk_at dksX3_lots_0 14 rfl rfl)
theorem dX3_lots_15 : decode cX3_lots 15 = .ok (.getfield 7, 3) := dk_180 0 7 (dk_at dksX3_lots_0 15 rfl rfl)
theorem dX3_lots_18 : decode cX3_lots 18 = .ok (.bipush 60, 2) := dk_16 60 (dk_at dksX3_lots_0 18 rfl rfl)
theorem dX3_lots_20 : decode cX3_lots 20 = .ok (.iaload, 1) := dk_46 (dk_at dksX3_lots_0 20 rfl rfl)
theorem dX3_lots_21 : decode cX3_lots 21 = .ok (.iload_n 1, 1) := dk_27 (dk_at dksX3_lots_0 21 rfl rfl)
theorem dX3_lots_22 : decode cX3_lots 22 = .ok (.iadd, 1) := dk_96 (dk_at dksX3_lots_0 22 rfl rfl)
theorem dX3_lots_23 : decode cX3_lots 23 = .ok (.sipush 9999, 3) := dk_17 39 15 (dk_at dksX3_lots_1 0 rfl rfl)
theorem dX3_lots_26 : decode cX3_lots 26 = .ok (.if_icmp .le 6, 3) := dk_164 0 6 (dk_at dksX3_lots_1 3 rfl rfl)
theorem dX3_lots_29 : decode cX3_lots 29 = .ok (.bipush (-3), 2) := dk_16 253 (dk_at dksX3_lots_1 6 rfl rfl)
theorem dX3_lots_31 : decode cX3_lots 31 = .ok (.ireturn, 1) := dk_172 (dk_at dksX3_lots_1 8 rfl rfl)
theorem dX3_lots_32 : decode cX3_lots 32 = .ok (.iconst 0, 1) := dk_3 (dk_at dksX3_lots_1 9 rfl rfl)
theorem dX3_lots_33 : decode cX3_lots 33 = .ok (.istore_n 2, 1) := dk_61 (dk_at dksX3_lots_1 10 rfl rfl)
theorem dX3_lots_34 : decode cX3_lots 34 = .ok (.iconst 0, 1) := dk_3 (dk_at dksX3_lots_1 11 rfl rfl)
theorem dX3_lots_35 : decode cX3_lots 35 = .ok (.istore_n 3, 1) := dk_62 (dk_at dksX3_lots_1 12 rfl rfl)
theorem dX3_lots_36 : decode cX3_lots 36 = .ok (.iload_n 3, 1) := dk_29 (dk_at dksX3_lots_1 13 rfl rfl)
theorem dX3_lots_37 : decode cX3_lots 37 = .ok (.iload_n 1, 1) := dk_27 (dk_at dksX3_lots_1 14 rfl rfl)
theorem dX3_lots_38 : decode cX3_lots 38 = .ok (.if_icmp .ge 48, 3) := dk_162 0 48 (dk_at dksX3_lots_1 15 rfl rfl)
theorem dX3_lots_41 : decode cX3_lots 41 = .ok (.aload_n 0, 1) := dk_42 (dk_at dksX3_lots_1 18 rfl rfl)
theorem dX3_lots_42 : decode cX3_lots 42 = .ok (.aload_n 0, 1) := dk_42 (dk_at dksX3_lots_1 19 rfl rfl)
theorem dX3_lots_43 : decode cX3_lots 43 = .ok (.getfield 41, 3) := dk_180 0 41 (dk_at dksX3_lots_1 20 rfl rfl)
theorem dX3_lots_46 : decode cX3_lots 46 = .ok (.i2l, 1) := dk_133 (dk_at dksX3_lots_1 23 rfl rfl)
theorem dX3_lots_47 : decode cX3_lots 47 = .ok (.ldc2_w 285, 3) := dk_20 1 29 (dk_at dksX3_lots_2 0 rfl rfl)
theorem dX3_lots_50 : decode cX3_lots 50 = .ok (.lmul, 1) := dk_105 (dk_at dksX3_lots_2 3 rfl rfl)
theorem dX3_lots_51 : decode cX3_lots 51 = .ok (.ldc2_w 287, 3) := dk_20 1 31 (dk_at dksX3_lots_2 4 rfl rfl)
theorem dX3_lots_54 : decode cX3_lots 54 = .ok (.ladd, 1) := dk_97 (dk_at dksX3_lots_2 7 rfl rfl)
theorem dX3_lots_55 : decode cX3_lots 55 = .ok (.ldc2_w 289, 3) := dk_20 1 33 (dk_at dksX3_lots_2 8 rfl rfl)
theorem dX3_lots_58 : decode cX3_lots 58 = .ok (.land, 1) := dk_127 (dk_at dksX3_lots_2 11 rfl rfl)
theorem dX3_lots_59 : decode cX3_lots 59 = .ok (.l2i, 1) := dk_136 (dk_at dksX3_lots_2 12 rfl rfl)
theorem dX3_lots_60 : decode cX3_lots 60 = .ok (.putfield 41, 3) := dk_181 0 41 (dk_at dksX3_lots_2 13 rfl rfl)
theorem dX3_lots_63 : decode cX3_lots 63 = .ok (.iload_n 2, 1) := dk_28 (dk_at dksX3_lots_2 16 rfl rfl)
theorem dX3_lots_64 : decode cX3_lots 64 = .ok (.aload_n 0, 1) := dk_42 (dk_at dksX3_lots_2 17 rfl rfl)
theorem dX3_lots_65 : decode cX3_lots 65 = .ok (.aload_n 0, 1) := dk_42 (dk_at dksX3_lots_2 18 rfl rfl)
theorem dX3_lots_66 : decode cX3_lots 66 = .ok (.getfield 41, 3) := dk_180 0 41 (dk_at dksX3_lots_2 19 rfl rfl)
theorem dX3_lots_69 : decode cX3_lots 69 = .ok (.ldc_w 291, 3) := dk_19 1 35 (dk_at dksX3_lots_3 0 rfl rfl)
theorem dX3_lots_72 : decode cX3_lots 72 = .ok (.idiv, 1) := dk_108 (dk_at dksX3_lots_3 3 rfl rfl)
theorem dX3_lots_73 : decode cX3_lots 73 = .ok (.iconst 4, 1) := dk_7 (dk_at dksX3_lots_3 4 rfl rfl)
theorem dX3_lots_74 : decode cX3_lots 74 = .ok (.irem, 1) := dk_112 (dk_at dksX3_lots_3 5 rfl rfl)
theorem dX3_lots_75 : decode cX3_lots 75 = .ok (.invokevirtual 226, 3) := dk_182 0 226 (dk_at dksX3_lots_3 6 rfl rfl)
theorem dX3_lots_78 : decode cX3_lots 78 = .ok (.iadd, 1) := dk_96 (dk_at dksX3_lots_3 9 rfl rfl)
theorem dX3_lots_79 : decode cX3_lots 79 = .ok (.istore_n 2, 1) := dk_61 (dk_at dksX3_lots_3 10 rfl rfl)
theorem dX3_lots_80 : decode cX3_lots 80 = .ok (.iinc 3 1, 3) := dk_132 3 1 (dk_at dksX3_lots_3 11 rfl rfl)
theorem dX3_lots_83 : decode cX3_lots 83 = .ok (.goto (-47), 3) := dk_167 255 209 (dk_at dksX3_lots_3 14 rfl rfl)
theorem dX3_lots_86 : decode cX3_lots 86 = .ok (.iload_n 2, 1) := dk_28 (dk_at dksX3_lots_3 17 rfl rfl)
theorem dX3_lots_87 : decode cX3_lots 87 = .ok (.ireturn, 1) := dk_172 (dk_at dksX3_lots_3 18 rfl rfl)
abbrev cX3_seed : ByteArray := prog_24_method_84_code
def yX3_seed : MethodName := ⟨RX3, "seed", "(I)I"⟩
def dkwX3_seed_0 : List UInt8 := [27, 156, 0, 5, 2, 172, 42, 180, 0, 41, 61, 42, 27, 181, 0, 41, 28, 172]
abbrev dktX3_seed_0 : List UInt8 := dkwX3_seed_0 ++ []
theorem dksX3_seed_0 : cX3_seed.data.toList.drop 0 = dktX3_seed_0 := by decide +kernel
theorem dX3_seed_0 : decode cX3_seed 0 = .ok (.iload_n 1, 1) := dk_27 (dk_at dksX3_seed_0 0 rfl rfl)
theorem dX3_seed_1 : decode cX3_seed 1 = .ok (.ifCond .ge 5, 3) := dk_156 0 5 (dk_at dksX3_seed_0 1 rfl rfl)
theorem dX3_seed_4 : decode cX3_seed 4 = .ok (.iconst (-1), 1) := dk_2 (dk_at dksX3_seed_0 4 rfl rfl)
theorem dX3_seed_5 : decode cX3_seed 5 = .ok (.ireturn, 1) := dk_172 (dk_at dksX3_seed_0 5 rfl rfl)
theorem dX3_seed_6 : decode cX3_seed 6 = .ok (.aload_n 0, 1) := dk_42 (dk_at dksX3_seed_0 6 rfl rfl)
theorem dX3_seed_7 : decode cX3_seed 7 = .ok (.getfield 41, 3) := dk_180 0 41 (dk_at dksX3_seed_0 7 rfl rfl)
theorem dX3_seed_10 : decode cX3_seed 10 = .ok (.istore_n 2, 1) := dk_61 (dk_at dksX3_seed_0 10 rfl rfl)
theorem dX3_seed_11 : decode cX3_seed 11 = .ok (.aload_n 0, 1) := dk_42 (dk_at dksX3_seed_0 11 rfl rfl)
theorem dX3_seed_12 : decode cX3_seed 12 = .ok (.iload_n 1, 1) := dk_27 (dk_at dksX3_seed_0 12 rfl rfl)
theorem dX3_seed_13 : decode cX3_seed 13 = .ok (.putfield 41, 3) := dk_181 0 41 (dk_at dksX3_seed_0 13 rfl rfl)
theorem dX3_seed_16 : decode cX3_seed 16 = .ok (.iload_n 2, 1) := dk_28 (dk_at dksX3_seed_0 16 rfl rfl)
theorem dX3_seed_17 : decode cX3_seed 17 = .ok (.ireturn, 1) := dk_172 (dk_at dksX3_seed_0 17 rfl rfl)
theorem q1693 : (Jvm.Cond.fieldLink "LameClocksModel" (41 : Nat) "LameClocksModel" "drawn" "I") ∈ lw_all := lw_g (lw_at lw_m7 184 rfl) rfl
theorem q1998 : (Jvm.Cond.instanceMethod ({ cls := "LameClocksModel", name := "behind", desc := "(III)I" } : Jvm.MethodName)) ∈ lw_all := lw_g (lw_at lw_m9 9 rfl) rfl
theorem q1999 : (Jvm.Cond.selects "LameClocksModel" ({ cls := "LameClocksModel", name := "behind", desc := "(III)I" } : Jvm.MethodName) ({ cls := "LameClocksModel", name := "behind", desc := "(III)I" } : Jvm.MethodName)) ∈ lw_all := lw_g (lw_at lw_m9 10 rfl) rfl
theorem q2053 : (Jvm.Cond.code ({ cls := "LameClocksModel", name := "duel", desc := "(IIII)I" } : Jvm.MethodName) prog_24_method_73_code (8 : Nat) (Option.some Jvm.ClassFile.FieldType.int)) ∈ lw_all := lw_g (lw_at lw_m9 64 rfl) rfl
theorem q2054 : (Jvm.Cond.methodLink "LameClocksModel" (264 : Nat) ({ cls := "LameClocksModel", name := "doesRest", desc := "(I)Z" } : Jvm.MethodName)) ∈ lw_all := lw_g (lw_at lw_m9 65 rfl) rfl
theorem q2056 : (Jvm.Cond.instanceMethod ({ cls := "LameClocksModel", name := "doesRest", desc := "(I)Z" } : Jvm.MethodName)) ∈ lw_all := lw_g (lw_at lw_m9 67 rfl) rfl
theorem q2061 : (Jvm.Cond.code ({ cls := "LameClocksModel", name := "breath", desc := "(II)I" } : Jvm.MethodName) prog_24_method_74_code (7 : Nat) (Option.some Jvm.ClassFile.FieldType.int)) ∈ lw_all := lw_g (lw_at lw_m9 72 rfl) rfl
theorem q2062 : (Jvm.Cond.methodLink "LameClocksModel" (267 : Nat) ({ cls := "LameClocksModel", name := "behind", desc := "(III)I" } : Jvm.MethodName)) ∈ lw_all := lw_g (lw_at lw_m9 73 rfl) rfl
theorem q2066 : (Jvm.Cond.code ({ cls := "LameClocksModel", name := "right", desc := "(II)I" } : Jvm.MethodName) prog_24_method_75_code (5 : Nat) (Option.some Jvm.ClassFile.FieldType.int)) ∈ lw_all := lw_g (lw_at lw_m9 77 rfl) rfl
theorem q2070 : (Jvm.Cond.code ({ cls := "LameClocksModel", name := "appeal", desc := "(II)I" } : Jvm.MethodName) prog_24_method_76_code (4 : Nat) (Option.some Jvm.ClassFile.FieldType.int)) ∈ lw_all := lw_g (lw_at lw_m9 81 rfl) rfl
theorem q2074 : (Jvm.Cond.code ({ cls := "LameClocksModel", name := "spans", desc := "(II)I" } : Jvm.MethodName) prog_24_method_77_code (6 : Nat) (Option.some Jvm.ClassFile.FieldType.int)) ∈ lw_all := lw_g (lw_at lw_m9 85 rfl) rfl
theorem q2078 : (Jvm.Cond.code ({ cls := "LameClocksModel", name := "struck", desc := "(III)I" } : Jvm.MethodName) prog_24_method_79_code (10 : Nat) (Option.some Jvm.ClassFile.FieldType.int)) ∈ lw_all := lw_g (lw_at lw_m9 89 rfl) rfl
theorem q2079 : (Jvm.Cond.methodLink "LameClocksModel" (271 : Nat) ({ cls := "LameClocksModel", name := "areClocks", desc := "(I)Z" } : Jvm.MethodName)) ∈ lw_all := lw_g (lw_at lw_m9 90 rfl) rfl
theorem q2081 : (Jvm.Cond.instanceMethod ({ cls := "LameClocksModel", name := "areClocks", desc := "(I)Z" } : Jvm.MethodName)) ∈ lw_all := lw_g (lw_at lw_m9 92 rfl) rfl
theorem q2082 : (Jvm.Cond.code ({ cls := "LameClocksModel", name := "areClocks", desc := "(I)Z" } : Jvm.MethodName) prog_24_method_78_code (2 : Nat) (Option.some Jvm.ClassFile.FieldType.boolean)) ∈ lw_all := lw_g (lw_at lw_m9 93 rfl) rfl
theorem q2083 : (Jvm.Cond.constantLong "LameClocksModel" (274 : Nat) (108 : Int64)) ∈ lw_all := lw_g (lw_at lw_m9 94 rfl) rfl
theorem q2084 : (Jvm.Cond.constantLong "LameClocksModel" (276 : Nat) (2 : Int64)) ∈ lw_all := lw_g (lw_at lw_m9 95 rfl) rfl
theorem q2085 : (Jvm.Cond.methodLink "LameClocksModel" (278 : Nat) ({ cls := "LameClocksModel", name := "has", desc := "(II)Z" } : Jvm.MethodName)) ∈ lw_all := lw_g (lw_at lw_m9 96 rfl) rfl
theorem q2086 : (Jvm.Cond.static ({ cls := "LameClocksModel", name := "has", desc := "(II)Z" } : Jvm.MethodName)) ∈ lw_all := lw_g (lw_at lw_m9 97 rfl) rfl
theorem q2087 : (Jvm.Cond.code ({ cls := "LameClocksModel", name := "has", desc := "(II)Z" } : Jvm.MethodName) prog_24_method_3_code (2 : Nat) (Option.some Jvm.ClassFile.FieldType.boolean)) ∈ lw_all := lw_g (lw_at lw_m9 98 rfl) rfl
theorem q2091 : (Jvm.Cond.code ({ cls := "LameClocksModel", name := "bet", desc := "(II)I" } : Jvm.MethodName) prog_24_method_80_code (3 : Nat) (Option.some Jvm.ClassFile.FieldType.int)) ∈ lw_all := lw_g (lw_at lw_m9 102 rfl) rfl
theorem q2092 : (Jvm.Cond.constantLong "LameClocksModel" (281 : Nat) (999 : Int64)) ∈ lw_all := lw_g (lw_at lw_m9 103 rfl) rfl
theorem q2096 : (Jvm.Cond.code ({ cls := "LameClocksModel", name := "pays", desc := "(II)I" } : Jvm.MethodName) prog_24_method_81_code (6 : Nat) (Option.some Jvm.ClassFile.FieldType.int)) ∈ lw_all := lw_g (lw_at lw_m9 107 rfl) rfl
theorem q2100 : (Jvm.Cond.code ({ cls := "LameClocksModel", name := "settle", desc := "()I" } : Jvm.MethodName) prog_24_method_82_code (2 : Nat) (Option.some Jvm.ClassFile.FieldType.int)) ∈ lw_all := lw_g (lw_at lw_m9 111 rfl) rfl
theorem q2104 : (Jvm.Cond.code ({ cls := "LameClocksModel", name := "lots", desc := "(I)I" } : Jvm.MethodName) prog_24_method_83_code (4 : Nat) (Option.some Jvm.ClassFile.FieldType.int)) ∈ lw_all := lw_g (lw_at lw_m9 115 rfl) rfl
theorem q2105 : (Jvm.Cond.constantLong "LameClocksModel" (283 : Nat) (60 : Int64)) ∈ lw_all := lw_g (lw_at lw_m9 116 rfl) rfl
theorem q2106 : (Jvm.Cond.constantLong "LameClocksModel" (285 : Nat) (1103515245 : Int64)) ∈ lw_all := lw_g (lw_at lw_m9 117 rfl) rfl
theorem q2107 : (Jvm.Cond.constantLong "LameClocksModel" (287 : Nat) (12345 : Int64)) ∈ lw_all := lw_g (lw_at lw_m9 118 rfl) rfl
theorem q2108 : (Jvm.Cond.constantLong "LameClocksModel" (289 : Nat) (2147483647 : Int64)) ∈ lw_all := lw_g (lw_at lw_m9 119 rfl) rfl
theorem q2109 : (Jvm.Cond.constant "LameClocksModel" (291 : Nat) (65536 : Int32)) ∈ lw_all := lw_g (lw_at lw_m9 120 rfl) rfl
theorem q2113 : (Jvm.Cond.code ({ cls := "LameClocksModel", name := "seed", desc := "(I)I" } : Jvm.MethodName) prog_24_method_84_code (3 : Nat) (Option.some Jvm.ClassFile.FieldType.int)) ∈ lw_all := lw_g (lw_at lw_m9 124 rfl) rfl
theorem dmV_X3_doesRest : yX3_doesRest.cls = RX3 ∧ yX3_doesRest.cls ≠ "java/lang/invoke/MethodHandle" ∧ yX3_doesRest.cls ≠ "java/lang/invoke/VarHandle" ∧ (parseMethodDescriptor yX3_doesRest.desc).map (fun d => d.parameters.length) = some 1 := by decide +kernel
theorem dmV_X3_behind : yX3_behind.cls = RX3 ∧ yX3_behind.cls ≠ "java/lang/invoke/MethodHandle" ∧ yX3_behind.cls ≠ "java/lang/invoke/VarHandle" ∧ (parseMethodDescriptor yX3_behind.desc).map (fun d => d.parameters.length) = some 3 := by decide +kernel
theorem fp_X3_29 : g_fp RX3 29 [3] 7 .int false := ⟨_, _, _, Or.inl q1687, by decide +kernel, fun ci h => by rcases List.mem_singleton.mp h with rfl; exact ⟨_, _, _, tyX3, rfl, by decide, rfl, rfl, Or.inl rfl, in_X3, rfl, (fun h => by cases h), tyX3_ok, fun j hj hne => nmX3 j hj 7 (by decide) hne⟩⟩
theorem dmS_X3_has : yX3_has.cls ≠ "java/lang/invoke/MethodHandle" ∧ yX3_has.cls ≠ "java/lang/invoke/VarHandle" ∧ (parseMethodDescriptor yX3_has.desc).map (fun d => d.parameters.length) = some 2 := by decide +kernel
theorem dmV_X3_areClocks : yX3_areClocks.cls = RX3 ∧ yX3_areClocks.cls ≠ "java/lang/invoke/MethodHandle" ∧ yX3_areClocks.cls ≠ "java/lang/invoke/VarHandle" ∧ (parseMethodDescriptor yX3_areClocks.desc).map (fun d => d.parameters.length) = some 1 := by decide +kernel
theorem fo_X3_41 : g_fo RX3 41 [3] 13 := ⟨_, _, _, Or.inl q1693, fun ci h => by rcases List.mem_singleton.mp h with rfl; exact ⟨_, _, _, rfl, by decide, rfl, rfl, Or.inl rfl, in_X3⟩⟩
theorem fp_X3_41 : g_fp RX3 41 [3] 13 .int false := ⟨_, _, _, Or.inl q1693, by decide +kernel, fun ci h => by rcases List.mem_singleton.mp h with rfl; exact ⟨_, _, _, tyX3, rfl, by decide, rfl, rfl, Or.inl rfl, in_X3, rfl, (fun h => by cases h), tyX3_ok, fun j hj hne => nmX3 j hj 13 (by decide) hne⟩⟩
section MP
variable {Γ : Gc} {p : Program} {l : Launch} {e : Env} {s : State} {m : MethodId} {args : Array Value} {below : List Frame} {meth : Method} {c : Code} {mo : Nat} {ρ : Sg} {sz : Nat} {tF : MS}
def fX3_duel_179 (kc133 : Int32 → Int32 → Int32 → Int32 → MS → Option (Int32 × MS)) (x4 : Int32) (x5 : Int32) (x6 : Int32) (x7 : Int32) (t : MS) : Option (Int32 × MS) := kc133 x4 x5 x6 (x7 + 1) t
set_option maxHeartbeats 4000000 in
theorem wX3_duel_179 {rF : Int32} (X : g_X Γ p s m args meth c cX3_duel 8 RX3) (hr : meth.sig.returnType = (Option.some Jvm.ClassFile.FieldType.int)) {kc133 : Int32 → Int32 → Int32 → Int32 → MS → Option (Int32 × MS)} (hk133 : ∀ (x4 : Int32) (x5 : Int32) (x6 : Int32) (x7 : Int32) (t : MS), Wf Γ p l e 6 134 s m args below meth c 8 (m_ι mo ρ sz) v_i rF tF 133 [(0, .ref mo), (4, .int x4), (5, .int x5), (6, .int x6), (7, .int x7)] [] t (kc133 x4 x5 x6 x7 t)) (x4 : Int32) (x5 : Int32) (x6 : Int32) (x7 : Int32) (t : MS) : Wf Γ p l e 6 134 s m args below meth c 8 (m_ι mo ρ sz) v_i rF tF 179 [(0, .ref mo), (4, .int x4), (5, .int x5), (6, .int x6), (7, .int x7)] [] t (fX3_duel_179 kc133 x4 x5 x6 x7 t) := by
  unfold fX3_duel_179
  refine g_iinc (pc := 179) X 1 4 (lv' := [(7, .int (x7 + 1)), (0, .ref mo), (4, .int x4), (5, .int x5), (6, .int x6)]) dX3_duel_179 rfl rfl (by decide) rfl ?_
  refine g_goto (pc := 182) X 133 dX3_duel_182 (by decide) ?_
  exact g_lv (pc := 133) (lv' := [(0, .ref mo), (4, .int x4), (5, .int x5), (6, .int x6), (7, .int (x7 + 1))]) [1, 2, 3, 4, 0] rfl (hk133 x4 x5 x6 (x7 + 1) t)
def fX3_duel_174 (kc133 : Int32 → Int32 → Int32 → Int32 → MS → Option (Int32 × MS)) (x4 : Int32) (x5 : Int32) (x7 : Int32) (s0 : Int32) (t : MS) : Option (Int32 × MS) := fX3_duel_179 kc133 x4 (x5 + 1) s0 x7 t
set_option maxHeartbeats 4000000 in
theorem wX3_duel_174 {rF : Int32} (X : g_X Γ p s m args meth c cX3_duel 8 RX3) (hr : meth.sig.returnType = (Option.some Jvm.ClassFile.FieldType.int)) {kc133 : Int32 → Int32 → Int32 → Int32 → MS → Option (Int32 × MS)} (hk133 : ∀ (x4 : Int32) (x5 : Int32) (x6 : Int32) (x7 : Int32) (t : MS), Wf Γ p l e 6 134 s m args below meth c 8 (m_ι mo ρ sz) v_i rF tF 133 [(0, .ref mo), (4, .int x4), (5, .int x5), (6, .int x6), (7, .int x7)] [] t (kc133 x4 x5 x6 x7 t)) (x4 : Int32) (x5 : Int32) (x7 : Int32) (s0 : Int32) (t : MS) : Wf Γ p l e 6 134 s m args below meth c 8 (m_ι mo ρ sz) v_i rF tF 174 [(0, .ref mo), (4, .int x4), (5, .int x5), (7, .int x7)] [.int s0] t (fX3_duel_174 kc133 x4 x5 x7 s0 t) := by
  unfold fX3_duel_174
  refine g_istore (pc := 174) X (lv' := [(6, .int s0), (0, .ref mo), (4, .int x4), (5, .int x5), (7, .int x7)]) dX3_duel_174 (by decide) rfl ?_
  refine g_iinc (pc := 176) X 1 3 (lv' := [(5, .int (x5 + 1)), (6, .int s0), (0, .ref mo), (4, .int x4), (7, .int x7)]) dX3_duel_176 rfl rfl (by decide) rfl ?_
  exact g_lv (pc := 179) (lv' := [(0, .ref mo), (4, .int x4), (5, .int (x5 + 1)), (6, .int s0), (7, .int x7)]) [2, 3, 0, 1, 4] rfl (wX3_duel_179 X hr hk133 x4 (x5 + 1) s0 x7 t)
def fX3_duel_133 : Nat → Int32 → Int32 → Int32 → Int32 → MS → Option (Int32 × MS)
  | 0, _, _, _, _, _ => none
  | n + 1, x4, x5, x6, x7, t => if 144 ≤ x7 then if x4 = 0 then some (x5, t) else some (x6, t) else gm (fX3_doesRest x7 t) fun r1 t2 => if r1 = 0 then fX3_duel_179 (fun a0 a1 a2 a3 a4 => fX3_duel_133 n a0 a1 a2 a3 a4) x4 x5 x6 x7 t2 else if x5 = 0 then fX3_duel_174 (fun a0 a1 a2 a3 a4 => fX3_duel_133 n a0 a1 a2 a3 a4) x4 x5 x7 ((100 * (x7 / 12)) + (x7 - x7 / 12 * 12)) t2 else fX3_duel_174 (fun a0 a1 a2 a3 a4 => fX3_duel_133 n a0 a1 a2 a3 a4) x4 x5 x7 x6 t2
set_option maxHeartbeats 4000000 in
theorem wX3_duel_133 {rF : Int32} (X : g_X Γ p s m args meth c cX3_duel 8 RX3) (hr : meth.sig.returnType = (Option.some Jvm.ClassFile.FieldType.int)) (n : Nat) : ∀ (x4 : Int32) (x5 : Int32) (x6 : Int32) (x7 : Int32) (t : MS), Wf Γ p l e 6 134 s m args below meth c 8 (m_ι mo ρ sz) v_i rF tF 133 [(0, .ref mo), (4, .int x4), (5, .int x5), (6, .int x6), (7, .int x7)] [] t (fX3_duel_133 n x4 x5 x6 x7 t) := by
  induction n with
  | zero => intro x4 x5 x6 x7 t; exact g_none
  | succ n ih =>
    intro x4 x5 x6 x7 t
    rw [fX3_duel_133]
    refine g_iload (pc := 133) X 4 dX3_duel_133 rfl ?_
    refine g_sipush (pc := 135) X 144 dX3_duel_135 rfl ?_
    refine g_icmp_ge (pc := 138) X 185 dX3_duel_138 (by decide) ?_ ?_
    · refine g_iload (pc := 185) X 1 dX3_duel_185 rfl ?_
      refine g_if_ne (pc := 187) X 195 dX3_duel_187 (by decide) ?_ ?_
      · refine g_iload (pc := 195) X 3 dX3_duel_195 rfl ?_
        exact g_iret (pc := 197) X hr dX3_duel_197
      · refine g_iload (pc := 190) X 2 dX3_duel_190 rfl ?_
        refine g_goto (pc := 192) X 197 dX3_duel_192 (by decide) ?_
        exact g_iret (pc := 197) X hr dX3_duel_197
    · refine g_aload_n (pc := 141) X 0 dX3_duel_141 rfl rfl ?_
      refine g_iload (pc := 142) X 4 dX3_duel_142 rfl ?_
      refine g_mV_i (pc := 144) X (C := RX3) (y := yX3_doesRest) (As := [.int x7]) (rest := []) (fr' := 0) (lo' := 0) (fun _ => cwV 1 X.2.2.2.2.1 (lw_V q2054 q2056 qs64 q76 q2057) rfl rfl rfl dmV_X3_doesRest ⟨Nat.le_of_ble_eq_true rfl, Nat.le_of_ble_eq_true rfl⟩) dX3_duel_144 MC_o ⟨_, _, rfl⟩ rfl rfl (Nat.le_of_ble_eq_true rfl) (fun _ => rfl) (fun r u h => kX3_doesRest h) (fun r1 t2 => ?_)
      refine g_if_eq (pc := 147) X 179 dX3_duel_147 (by decide) ?_ ?_
      · exact g_lv (pc := 179) (lv' := [(0, .ref mo), (4, .int x4), (5, .int x5), (6, .int x6), (7, .int x7)]) [0, 1, 2, 3, 4] rfl (wX3_duel_179 X hr (fun a0 a1 a2 a3 a4 => ih a0 a1 a2 a3 a4) x4 x5 x6 x7 t2)
      · refine g_iload (pc := 150) X 2 dX3_duel_150 rfl ?_
        refine g_if_ne (pc := 152) X 172 dX3_duel_152 (by decide) ?_ ?_
        · refine g_iload (pc := 172) X 3 dX3_duel_172 rfl ?_
          exact g_lv (pc := 174) (lv' := [(0, .ref mo), (4, .int x4), (5, .int x5), (7, .int x7)]) [0, 1, 2, 4] rfl (wX3_duel_174 X hr (fun a0 a1 a2 a3 a4 => ih a0 a1 a2 a3 a4) x4 x5 x7 x6 t2)
        · refine g_bipush (pc := 155) X 100 dX3_duel_155 rfl ?_
          refine g_iload (pc := 157) X 4 dX3_duel_157 rfl ?_
          refine g_bipush (pc := 159) X 12 dX3_duel_159 rfl ?_
          refine g_idiv (pc := 161) X dX3_duel_161 (by decide) ?_
          refine g_imul (pc := 162) X dX3_duel_162 ?_
          refine g_iload (pc := 163) X 4 dX3_duel_163 rfl ?_
          refine g_bipush (pc := 165) X 12 dX3_duel_165 rfl ?_
          refine g_irem (pc := 167) X dX3_duel_167 (by decide) ?_
          refine g_iadd (pc := 168) X dX3_duel_168 ?_
          refine g_goto (pc := 169) X 174 dX3_duel_169 (by decide) ?_
          exact g_lv (pc := 174) (lv' := [(0, .ref mo), (4, .int x4), (5, .int x5), (7, .int x7)]) [0, 1, 2, 4] rfl (wX3_duel_174 X hr (fun a0 a1 a2 a3 a4 => ih a0 a1 a2 a3 a4) x4 x5 x7 ((100 * (x7 / 12)) + (x7 - x7 / 12 * 12)) t2)
def fX3_duel_44 : Nat → Int32 → Int32 → Int32 → Int32 → Int32 → MS → Option (Int32 × MS)
  | 0, _, _, _, _, _, _ => none
  | n + 1, x1, x2, x3, x4, x5, t => if 144 ≤ x5 then fX3_duel_133 1000 x4 0 (-4) 0 t else gm (fX3_keepAside t) fun _ t2 => gm (fX3_addHands x1 (60 * (x5 / 12)) t2) fun _ t4 => gm (fX3_addHands x2 (60 * (x5 - x5 / 12 * 12)) t4) fun _ t6 => gm (fX3_goHours x3 t6) fun _ t8 => mald t8 0 63 (42 + x1) fun v9 => mald t8 0 63 (42 + x2) fun v10 => mast t8 10 144 x5 (v9 - v10) fun t11 => gm (fX3_bringBack t11) fun _ t13 => fX3_duel_44 n x1 x2 x3 x4 (x5 + 1) t13
set_option maxHeartbeats 4000000 in
theorem wX3_duel_44 {rF : Int32} (X : g_X Γ p s m args meth c cX3_duel 8 RX3) (hr : meth.sig.returnType = (Option.some Jvm.ClassFile.FieldType.int)) (n : Nat) : ∀ (x1 : Int32) (x2 : Int32) (x3 : Int32) (x4 : Int32) (x5 : Int32) (t : MS), Wf Γ p l e 6 134 s m args below meth c 8 (m_ι mo ρ sz) v_i rF tF 44 [(0, .ref mo), (1, .int x1), (2, .int x2), (3, .int x3), (4, .int x4), (5, .int x5)] [] t (fX3_duel_44 n x1 x2 x3 x4 x5 t) := by
  induction n with
  | zero => intro x1 x2 x3 x4 x5 t; exact g_none
  | succ n ih =>
    intro x1 x2 x3 x4 x5 t
    rw [fX3_duel_44]
    refine g_iload (pc := 44) X 5 dX3_duel_44 rfl ?_
    refine g_sipush (pc := 46) X 144 dX3_duel_46 rfl ?_
    refine g_icmp_ge (pc := 49) X 123 dX3_duel_49 (by decide) ?_ ?_
    · refine g_iconst (pc := 123) X 0 dX3_duel_123 rfl ?_
      refine g_istore (pc := 124) X (lv' := [(5, .int 0), (0, .ref mo), (1, .int x1), (2, .int x2), (3, .int x3), (4, .int x4)]) dX3_duel_124 (by decide) rfl ?_
      refine g_bipush (pc := 126) X (-4) dX3_duel_126 rfl ?_
      refine g_istore (pc := 128) X (lv' := [(6, .int (-4)), (5, .int 0), (0, .ref mo), (1, .int x1), (2, .int x2), (3, .int x3), (4, .int x4)]) dX3_duel_128 (by decide) rfl ?_
      refine g_iconst (pc := 130) X 0 dX3_duel_130 rfl ?_
      refine g_istore (pc := 131) X (lv' := [(7, .int 0), (6, .int (-4)), (5, .int 0), (0, .ref mo), (1, .int x1), (2, .int x2), (3, .int x3), (4, .int x4)]) dX3_duel_131 (by decide) rfl ?_
      exact g_lv (pc := 133) (lv' := [(0, .ref mo), (4, .int x4), (5, .int 0), (6, .int (-4)), (7, .int 0)]) [3, 7, 2, 1, 0] rfl (wX3_duel_133 X hr 1000 x4 0 (-4) 0 t)
    · refine g_aload_n (pc := 52) X 0 dX3_duel_52 rfl rfl ?_
      refine g_mV_v (pc := 53) X (C := RX3) (y := yX3_keepAside) (As := []) (rest := []) (fr' := 0) (lo' := 0) (fun _ => cwV 0 X.2.2.2.2.1 (lw_V q2005 q2007 qs59 q76 q2008) rfl rfl rfl dmV_X3_keepAside ⟨Nat.le_of_ble_eq_true rfl, Nat.le_of_ble_eq_true rfl⟩) dX3_duel_53 MC_o ⟨_, _, rfl⟩ rfl rfl (Nat.le_of_ble_eq_true rfl) (fun _ => rfl) (fun r u h => kX3_keepAside h) (fun r1 t2 => ?_)
      refine g_aload_n (pc := 56) X 0 dX3_duel_56 rfl rfl ?_
      refine g_iload_n (pc := 57) X 1 dX3_duel_57 rfl rfl ?_
      refine g_bipush (pc := 58) X 60 dX3_duel_58 rfl ?_
      refine g_iload (pc := 60) X 5 dX3_duel_60 rfl ?_
      refine g_bipush (pc := 62) X 12 dX3_duel_62 rfl ?_
      refine g_idiv (pc := 64) X dX3_duel_64 (by decide) ?_
      refine g_imul (pc := 65) X dX3_duel_65 ?_
      refine g_mV_v (pc := 66) X (C := RX3) (y := yX3_addHands) (As := [.int x1, .int (60 * (x5 / 12))]) (rest := []) (fr' := 0) (lo' := 0) (fun _ => cwV 2 X.2.2.2.2.1 (lw_V q1918 q1920 qs49 q76 q1921) rfl rfl rfl dmV_X3_addHands ⟨Nat.le_of_ble_eq_true rfl, Nat.le_of_ble_eq_true rfl⟩) dX3_duel_66 MC_o ⟨_, _, rfl⟩ rfl rfl (Nat.le_of_ble_eq_true rfl) (fun _ => rfl) (fun r u h => kX3_addHands h) (fun r3 t4 => ?_)
      refine g_aload_n (pc := 69) X 0 dX3_duel_69 rfl rfl ?_
      refine g_iload_n (pc := 70) X 2 dX3_duel_70 rfl rfl ?_
      refine g_bipush (pc := 71) X 60 dX3_duel_71 rfl ?_
      refine g_iload (pc := 73) X 5 dX3_duel_73 rfl ?_
      refine g_bipush (pc := 75) X 12 dX3_duel_75 rfl ?_
      refine g_irem (pc := 77) X dX3_duel_77 (by decide) ?_
      refine g_imul (pc := 78) X dX3_duel_78 ?_
      refine g_mV_v (pc := 79) X (C := RX3) (y := yX3_addHands) (As := [.int x2, .int (60 * (x5 - x5 / 12 * 12))]) (rest := []) (fr' := 0) (lo' := 0) (fun _ => cwV 2 X.2.2.2.2.1 (lw_V q1918 q1920 qs49 q76 q1921) rfl rfl rfl dmV_X3_addHands ⟨Nat.le_of_ble_eq_true rfl, Nat.le_of_ble_eq_true rfl⟩) dX3_duel_79 MC_o ⟨_, _, rfl⟩ rfl rfl (Nat.le_of_ble_eq_true rfl) (fun _ => rfl) (fun r u h => kX3_addHands h) (fun r5 t6 => ?_)
      refine g_aload_n (pc := 82) X 0 dX3_duel_82 rfl rfl ?_
      refine g_iload_n (pc := 83) X 3 dX3_duel_83 rfl rfl ?_
      refine g_mV_v (pc := 84) X (C := RX3) (y := yX3_goHours) (As := [.int x3]) (rest := []) (fr' := 5) (lo' := 112) (fun _ => cwV 1 X.2.2.2.2.1 (lw_V q2009 q2011 qs60 q76 q2012) rfl rfl rfl dmV_X3_goHours ⟨Nat.le_of_ble_eq_true rfl, Nat.le_of_ble_eq_true rfl⟩) dX3_duel_84 MC_o ⟨_, _, rfl⟩ rfl rfl (Nat.le_of_ble_eq_true rfl) (fun _ => rfl) (fun r u h => kX3_goHours h) (fun r7 t8 => ?_)
      refine g_aload_n (pc := 87) X 0 dX3_duel_87 rfl rfl ?_
      refine mg_get (pc := 88) X fo_X3_53 dX3_duel_88 rfl ?_
      refine g_iload (pc := 91) X 5 dX3_duel_91 rfl ?_
      refine g_aload_n (pc := 93) X 0 dX3_duel_93 rfl rfl ?_
      refine mg_get (pc := 94) X fo_X3_7 dX3_duel_94 rfl ?_
      refine g_bipush (pc := 97) X 42 dX3_duel_97 rfl ?_
      refine g_iload_n (pc := 99) X 1 dX3_duel_99 rfl rfl ?_
      refine g_iadd (pc := 100) X dX3_duel_100 ?_
      refine mg_ald (pc := 101) X (j := 0) dX3_duel_101 (by decide) rfl (fun v9 => ?_)
      refine g_aload_n (pc := 102) X 0 dX3_duel_102 rfl rfl ?_
      refine mg_get (pc := 103) X fo_X3_7 dX3_duel_103 rfl ?_
      refine g_bipush (pc := 106) X 42 dX3_duel_106 rfl ?_
      refine g_iload_n (pc := 108) X 2 dX3_duel_108 rfl rfl ?_
      refine g_iadd (pc := 109) X dX3_duel_109 ?_
      refine mg_ald (pc := 110) X (j := 0) dX3_duel_110 (by decide) rfl (fun v10 => ?_)
      refine g_isub (pc := 111) X dX3_duel_111 ?_
      refine mg_ast (pc := 112) X (j := 10) dX3_duel_112 (by decide) rfl (fun t11 => ?_)
      refine g_aload_n (pc := 113) X 0 dX3_duel_113 rfl rfl ?_
      refine g_mV_v (pc := 114) X (C := RX3) (y := yX3_bringBack) (As := []) (rest := []) (fr' := 0) (lo' := 0) (fun _ => cwV 0 X.2.2.2.2.1 (lw_V q2013 q2015 qs61 q76 q2016) rfl rfl rfl dmV_X3_bringBack ⟨Nat.le_of_ble_eq_true rfl, Nat.le_of_ble_eq_true rfl⟩) dX3_duel_114 MC_o ⟨_, _, rfl⟩ rfl rfl (Nat.le_of_ble_eq_true rfl) (fun _ => rfl) (fun r u h => kX3_bringBack h) (fun r12 t13 => ?_)
      refine g_iinc (pc := 117) X 1 5 (lv' := [(5, .int (x5 + 1)), (0, .ref mo), (1, .int x1), (2, .int x2), (3, .int x3), (4, .int x4)]) dX3_duel_117 rfl rfl (by decide) rfl ?_
      refine g_goto (pc := 120) X 44 dX3_duel_120 (by decide) ?_
      exact g_lv (pc := 44) (lv' := [(0, .ref mo), (1, .int x1), (2, .int x2), (3, .int x3), (4, .int x4), (5, .int (x5 + 1))]) [1, 2, 3, 4, 5, 0] rfl (ih x1 x2 x3 x4 (x5 + 1) t13)
def fX3_duel (x1 : Int32) (x2 : Int32) (x3 : Int32) (x4 : Int32) (t : MS) : Option (Int32 × MS) := gm (fX3_isClock x1 t) fun r1 t2 => if r1 = 0 then some ((-1), t2) else gm (fX3_isClock x2 t2) fun r3 t4 => if r3 = 0 then some ((-1), t4) else if x1 = x2 then some ((-1), t4) else gm (fX3_isLong x3 t4) fun r5 t6 => if r5 = 0 then some ((-1), t6) else gm (fX3_in x4.toInt64 0 1 t6) fun r7 t8 => if r7 = 0 then some ((-1), t8) else fX3_duel_44 1000 x1 x2 x3 x4 0 t8
set_option maxHeartbeats 4000000 in
theorem wX3_duel {rF : Int32} (X : g_X Γ p s m args meth c cX3_duel 8 RX3) (hr : meth.sig.returnType = (Option.some Jvm.ClassFile.FieldType.int)) (x1 : Int32) (x2 : Int32) (x3 : Int32) (x4 : Int32) (t : MS) : Wf Γ p l e 6 134 s m args below meth c 8 (m_ι mo ρ sz) v_i rF tF 0 [(0, .ref mo), (1, .int x1), (2, .int x2), (3, .int x3), (4, .int x4)] [] t (fX3_duel x1 x2 x3 x4 t) := by
  unfold fX3_duel
  refine g_aload_n (pc := 0) X 0 dX3_duel_0 rfl rfl ?_
  refine g_iload_n (pc := 1) X 1 dX3_duel_1 rfl rfl ?_
  refine g_mV_i (pc := 2) X (C := RX3) (y := yX3_isClock) (As := [.int x1]) (rest := []) (fr' := 1) (lo' := 25) (fun _ => cwV 1 X.2.2.2.2.1 (lw_V q1786 q1788 qs31 q76 q1789) rfl rfl rfl dmV_X3_isClock ⟨Nat.le_of_ble_eq_true rfl, Nat.le_of_ble_eq_true rfl⟩) dX3_duel_2 MC_o ⟨_, _, rfl⟩ rfl rfl (Nat.le_of_ble_eq_true rfl) (fun _ => rfl) (fun r u h => kX3_isClock h) (fun r1 t2 => ?_)
  refine g_if_eq (pc := 5) X 39 dX3_duel_5 (by decide) ?_ ?_
  · refine g_iconst (pc := 39) X (-1) dX3_duel_39 rfl ?_
    exact g_iret (pc := 40) X hr dX3_duel_40
  · refine g_aload_n (pc := 8) X 0 dX3_duel_8 rfl rfl ?_
    refine g_iload_n (pc := 9) X 2 dX3_duel_9 rfl rfl ?_
    refine g_mV_i (pc := 10) X (C := RX3) (y := yX3_isClock) (As := [.int x2]) (rest := []) (fr' := 1) (lo' := 25) (fun _ => cwV 1 X.2.2.2.2.1 (lw_V q1786 q1788 qs31 q76 q1789) rfl rfl rfl dmV_X3_isClock ⟨Nat.le_of_ble_eq_true rfl, Nat.le_of_ble_eq_true rfl⟩) dX3_duel_10 MC_o ⟨_, _, rfl⟩ rfl rfl (Nat.le_of_ble_eq_true rfl) (fun _ => rfl) (fun r u h => kX3_isClock h) (fun r3 t4 => ?_)
    refine g_if_eq (pc := 13) X 39 dX3_duel_13 (by decide) ?_ ?_
    · refine g_iconst (pc := 39) X (-1) dX3_duel_39 rfl ?_
      exact g_iret (pc := 40) X hr dX3_duel_40
    · refine g_iload_n (pc := 16) X 1 dX3_duel_16 rfl rfl ?_
      refine g_iload_n (pc := 17) X 2 dX3_duel_17 rfl rfl ?_
      refine g_icmp_eq (pc := 18) X 39 dX3_duel_18 (by decide) ?_ ?_
      · refine g_iconst (pc := 39) X (-1) dX3_duel_39 rfl ?_
        exact g_iret (pc := 40) X hr dX3_duel_40
      · refine g_iload_n (pc := 21) X 3 dX3_duel_21 rfl rfl ?_
        refine g_mS_i (pc := 22) X (y := yX3_isLong) (As := [.int x3]) (rest := []) (fr' := 1) (lo' := 25) (fun _ => va_cwS 1 X.2.2.2.2.1 (lw_S q2001 q2002 q76 q2003) rfl rfl rfl dmS_X3_isLong ⟨Nat.le_of_ble_eq_true rfl, Nat.le_of_ble_eq_true rfl⟩) dX3_duel_22 rfl rfl (Nat.le_of_ble_eq_true rfl) (fun _ => rfl) (fun r u h => kX3_isLong h) (fun r5 t6 => ?_)
        refine g_if_eq (pc := 25) X 39 dX3_duel_25 (by decide) ?_ ?_
        · refine g_iconst (pc := 39) X (-1) dX3_duel_39 rfl ?_
          exact g_iret (pc := 40) X hr dX3_duel_40
        · refine g_iload (pc := 28) X 4 dX3_duel_28 rfl ?_
          refine g_i2l (pc := 30) X dX3_duel_30 ?_
          refine g_lconst (pc := 31) X 0 dX3_duel_31 rfl ?_
          refine g_lconst (pc := 32) X 1 dX3_duel_32 rfl ?_
          refine g_mS_i (pc := 33) X (y := yX3_in) (As := [.long x4.toInt64, .long 0, .long 1]) (rest := []) (fr' := 0) (lo' := 0) (fun _ => va_cwS 3 X.2.2.2.2.1 (lw_S q1767 q1768 q76 q1769) rfl rfl rfl dmS_X3_in ⟨Nat.le_of_ble_eq_true rfl, Nat.le_of_ble_eq_true rfl⟩) dX3_duel_33 rfl rfl (Nat.le_of_ble_eq_true rfl) (fun _ => rfl) (fun r u h => kX3_in h) (fun r7 t8 => ?_)
          refine g_if_ne (pc := 36) X 41 dX3_duel_36 (by decide) ?_ ?_
          · refine g_iconst (pc := 41) X 0 dX3_duel_41 rfl ?_
            refine g_istore (pc := 42) X (lv' := [(5, .int 0), (0, .ref mo), (1, .int x1), (2, .int x2), (3, .int x3), (4, .int x4)]) dX3_duel_42 (by decide) rfl ?_
            exact g_lv (pc := 44) (lv' := [(0, .ref mo), (1, .int x1), (2, .int x2), (3, .int x3), (4, .int x4), (5, .int 0)]) [1, 2, 3, 4, 5, 0] rfl (wX3_duel_44 X hr 1000 x1 x2 x3 x4 0 t8)
          · refine g_iconst (pc := 39) X (-1) dX3_duel_39 rfl ?_
            exact g_iret (pc := 40) X hr dX3_duel_40
theorem kX3_duel {mo : Nat} {ρ : Sg} {sz : Nat} {x1 : Int32} {x2 : Int32} {x3 : Int32} {x4 : Int32} {t : MS} {r : Int32} {u : MS} (h : fX3_duel x1 x2 x3 x4 t = some (r, u)) : g_C Γ l yX3_duel cX3_duel 8 (Option.some Jvm.ClassFile.FieldType.int) 6 134 [.ref mo, .int x1, .int x2, .int x3, .int x4] (MC mo t ρ) sz v_i r (m_ι mo ρ sz u) :=
  g_met [.ref mo, .int x1, .int x2, .int x3, .int x4] (by decide) (Nat.le_of_ble_eq_true rfl) h rfl (fun p e s m args below meth c X hr hn => wX3_duel X hr x1 x2 x3 x4 t)
def fX3_breath_114 (kc32 : Int32 → Int32 → Int32 → Int32 → Int32 → MS → Option (Int32 × MS)) (x1 : Int32) (x2 : Int32) (x3 : Int32) (x4 : Int32) (x5 : Int32) (t : MS) : Option (Int32 × MS) := kc32 x1 x2 x3 x4 (x5 + 1) t
set_option maxHeartbeats 4000000 in
theorem wX3_breath_114 {rF : Int32} (X : g_X Γ p s m args meth c cX3_breath 7 RX3) (hr : meth.sig.returnType = (Option.some Jvm.ClassFile.FieldType.int)) {kc32 : Int32 → Int32 → Int32 → Int32 → Int32 → MS → Option (Int32 × MS)} (hk32 : ∀ (x1 : Int32) (x2 : Int32) (x3 : Int32) (x4 : Int32) (x5 : Int32) (t : MS), Wf Γ p l e 7 158 s m args below meth c 7 (m_ι mo ρ sz) v_i rF tF 32 [(0, .ref mo), (1, .int x1), (2, .int x2), (3, .int x3), (4, .int x4), (5, .int x5)] [] t (kc32 x1 x2 x3 x4 x5 t)) (x1 : Int32) (x2 : Int32) (x3 : Int32) (x4 : Int32) (x5 : Int32) (t : MS) : Wf Γ p l e 7 158 s m args below meth c 7 (m_ι mo ρ sz) v_i rF tF 114 [(0, .ref mo), (1, .int x1), (2, .int x2), (3, .int x3), (4, .int x4), (5, .int x5)] [] t (fX3_breath_114 kc32 x1 x2 x3 x4 x5 t) := by
  unfold fX3_breath_114
  refine g_iinc (pc := 114) X 1 5 (lv' := [(5, .int (x5 + 1)), (0, .ref mo), (1, .int x1), (2, .int x2), (3, .int x3), (4, .int x4)]) dX3_breath_114 rfl rfl (by decide) rfl ?_
  refine g_goto (pc := 117) X 32 dX3_breath_117 (by decide) ?_
  exact g_lv (pc := 32) (lv' := [(0, .ref mo), (1, .int x1), (2, .int x2), (3, .int x3), (4, .int x4), (5, .int (x5 + 1))]) [1, 2, 3, 4, 5, 0] rfl (hk32 x1 x2 x3 x4 (x5 + 1) t)
def fX3_breath_113 (kc32 : Int32 → Int32 → Int32 → Int32 → Int32 → MS → Option (Int32 × MS)) (x1 : Int32) (x2 : Int32) (x4 : Int32) (x5 : Int32) (s0 : Int32) (t : MS) : Option (Int32 × MS) := fX3_breath_114 kc32 x1 x2 s0 x4 x5 t
set_option maxHeartbeats 4000000 in
theorem wX3_breath_113 {rF : Int32} (X : g_X Γ p s m args meth c cX3_breath 7 RX3) (hr : meth.sig.returnType = (Option.some Jvm.ClassFile.FieldType.int)) {kc32 : Int32 → Int32 → Int32 → Int32 → Int32 → MS → Option (Int32 × MS)} (hk32 : ∀ (x1 : Int32) (x2 : Int32) (x3 : Int32) (x4 : Int32) (x5 : Int32) (t : MS), Wf Γ p l e 7 158 s m args below meth c 7 (m_ι mo ρ sz) v_i rF tF 32 [(0, .ref mo), (1, .int x1), (2, .int x2), (3, .int x3), (4, .int x4), (5, .int x5)] [] t (kc32 x1 x2 x3 x4 x5 t)) (x1 : Int32) (x2 : Int32) (x4 : Int32) (x5 : Int32) (s0 : Int32) (t : MS) : Wf Γ p l e 7 158 s m args below meth c 7 (m_ι mo ρ sz) v_i rF tF 113 [(0, .ref mo), (1, .int x1), (2, .int x2), (4, .int x4), (5, .int x5)] [.int s0] t (fX3_breath_113 kc32 x1 x2 x4 x5 s0 t) := by
  unfold fX3_breath_113
  refine g_istore_n (pc := 113) X (lv' := [(3, .int s0), (0, .ref mo), (1, .int x1), (2, .int x2), (4, .int x4), (5, .int x5)]) dX3_breath_113 rfl (by decide) rfl ?_
  exact g_lv (pc := 114) (lv' := [(0, .ref mo), (1, .int x1), (2, .int x2), (3, .int s0), (4, .int x4), (5, .int x5)]) [1, 2, 3, 0, 4, 5] rfl (wX3_breath_114 X hr hk32 x1 x2 s0 x4 x5 t)
def fX3_breath_99 (kc32 : Int32 → Int32 → Int32 → Int32 → Int32 → MS → Option (Int32 × MS)) (x1 : Int32) (x2 : Int32) (x3 : Int32) (x5 : Int32) (x6 : Int32) (s0 : Int32) (t : MS) : Option (Int32 × MS) := if x6 ≤ x3 then fX3_breath_113 kc32 x1 x2 s0 x5 x3 t else fX3_breath_113 kc32 x1 x2 s0 x5 x6 t
set_option maxHeartbeats 4000000 in
theorem wX3_breath_99 {rF : Int32} (X : g_X Γ p s m args meth c cX3_breath 7 RX3) (hr : meth.sig.returnType = (Option.some Jvm.ClassFile.FieldType.int)) {kc32 : Int32 → Int32 → Int32 → Int32 → Int32 → MS → Option (Int32 × MS)} (hk32 : ∀ (x1 : Int32) (x2 : Int32) (x3 : Int32) (x4 : Int32) (x5 : Int32) (t : MS), Wf Γ p l e 7 158 s m args below meth c 7 (m_ι mo ρ sz) v_i rF tF 32 [(0, .ref mo), (1, .int x1), (2, .int x2), (3, .int x3), (4, .int x4), (5, .int x5)] [] t (kc32 x1 x2 x3 x4 x5 t)) (x1 : Int32) (x2 : Int32) (x3 : Int32) (x5 : Int32) (x6 : Int32) (s0 : Int32) (t : MS) : Wf Γ p l e 7 158 s m args below meth c 7 (m_ι mo ρ sz) v_i rF tF 99 [(0, .ref mo), (1, .int x1), (2, .int x2), (3, .int x3), (5, .int x5), (6, .int x6)] [.int s0] t (fX3_breath_99 kc32 x1 x2 x3 x5 x6 s0 t) := by
  unfold fX3_breath_99
  refine g_istore (pc := 99) X (lv' := [(4, .int s0), (0, .ref mo), (1, .int x1), (2, .int x2), (3, .int x3), (5, .int x5), (6, .int x6)]) dX3_breath_99 (by decide) rfl ?_
  refine g_iload (pc := 101) X 6 dX3_breath_101 rfl ?_
  refine g_iload_n (pc := 103) X 4 dX3_breath_103 rfl rfl ?_
  refine g_icmp_le (pc := 104) X 112 dX3_breath_104 (by decide) ?_ ?_
  · refine g_iload_n (pc := 112) X 4 dX3_breath_112 rfl rfl ?_
    exact g_lv (pc := 113) (lv' := [(0, .ref mo), (1, .int x1), (2, .int x2), (4, .int s0), (5, .int x5)]) [1, 2, 3, 0, 5] rfl (wX3_breath_113 X hr hk32 x1 x2 s0 x5 x3 t)
  · refine g_iload (pc := 107) X 6 dX3_breath_107 rfl ?_
    refine g_goto (pc := 109) X 113 dX3_breath_109 (by decide) ?_
    exact g_lv (pc := 113) (lv' := [(0, .ref mo), (1, .int x1), (2, .int x2), (4, .int s0), (5, .int x5)]) [1, 2, 3, 0, 5] rfl (wX3_breath_113 X hr hk32 x1 x2 s0 x5 x6 t)
def fX3_breath_32 : Nat → Int32 → Int32 → Int32 → Int32 → Int32 → MS → Option (Int32 × MS)
  | 0, _, _, _, _, _, _ => none
  | n + 1, x1, x2, x3, x4, x5, t => if t.1 4 ≤ x5 then some (x4, t) else mald t 0 63 x5 fun v1 => if v1 = 12 then fX3_breath_114 (fun a0 a1 a2 a3 a4 a5 => fX3_breath_32 n a0 a1 a2 a3 a4 a5) x1 x2 x3 x4 x5 t else gm (fX3_keepAside t) fun _ t3 => mast t3 0 63 x5 12 fun t4 => gm (fX3_goHours x2 t4) fun _ t6 => mald t6 0 63 (42 + x1) fun v7 => gm (fX3_bringBack t6) fun _ t9 => if v7 ≤ x3 then fX3_breath_99 (fun a0 a1 a2 a3 a4 a5 => fX3_breath_32 n a0 a1 a2 a3 a4 a5) x1 x2 x3 x5 v7 x4 t9 else fX3_breath_99 (fun a0 a1 a2 a3 a4 a5 => fX3_breath_32 n a0 a1 a2 a3 a4 a5) x1 x2 x3 x5 v7 x5 t9
set_option maxHeartbeats 4000000 in
theorem wX3_breath_32 {rF : Int32} (X : g_X Γ p s m args meth c cX3_breath 7 RX3) (hr : meth.sig.returnType = (Option.some Jvm.ClassFile.FieldType.int)) (n : Nat) : ∀ (x1 : Int32) (x2 : Int32) (x3 : Int32) (x4 : Int32) (x5 : Int32) (t : MS), Wf Γ p l e 7 158 s m args below meth c 7 (m_ι mo ρ sz) v_i rF tF 32 [(0, .ref mo), (1, .int x1), (2, .int x2), (3, .int x3), (4, .int x4), (5, .int x5)] [] t (fX3_breath_32 n x1 x2 x3 x4 x5 t) := by
  induction n with
  | zero => intro x1 x2 x3 x4 x5 t; exact g_none
  | succ n ih =>
    intro x1 x2 x3 x4 x5 t
    rw [fX3_breath_32]
    refine g_iload (pc := 32) X 5 dX3_breath_32 rfl ?_
    refine g_aload_n (pc := 34) X 0 dX3_breath_34 rfl rfl ?_
    refine mg_get (pc := 35) X fo_X3_19 dX3_breath_35 rfl ?_
    refine g_icmp_ge (pc := 38) X 120 dX3_breath_38 (by decide) ?_ ?_
    · refine g_iload (pc := 120) X 4 dX3_breath_120 rfl ?_
      exact g_iret (pc := 122) X hr dX3_breath_122
    · refine g_aload_n (pc := 41) X 0 dX3_breath_41 rfl rfl ?_
      refine mg_get (pc := 42) X fo_X3_7 dX3_breath_42 rfl ?_
      refine g_iload (pc := 45) X 5 dX3_breath_45 rfl ?_
      refine mg_ald (pc := 47) X (j := 0) dX3_breath_47 (by decide) rfl (fun v1 => ?_)
      refine g_bipush (pc := 48) X 12 dX3_breath_48 rfl ?_
      refine g_icmp_eq (pc := 50) X 114 dX3_breath_50 (by decide) ?_ ?_
      · exact g_lv (pc := 114) (lv' := [(0, .ref mo), (1, .int x1), (2, .int x2), (3, .int x3), (4, .int x4), (5, .int x5)]) [0, 1, 2, 3, 4, 5] rfl (wX3_breath_114 X hr (fun a0 a1 a2 a3 a4 a5 => ih a0 a1 a2 a3 a4 a5) x1 x2 x3 x4 x5 t)
      · refine g_aload_n (pc := 53) X 0 dX3_breath_53 rfl rfl ?_
        refine g_mV_v (pc := 54) X (C := RX3) (y := yX3_keepAside) (As := []) (rest := []) (fr' := 0) (lo' := 0) (fun _ => cwV 0 X.2.2.2.2.1 (lw_V q2005 q2007 qs59 q76 q2008) rfl rfl rfl dmV_X3_keepAside ⟨Nat.le_of_ble_eq_true rfl, Nat.le_of_ble_eq_true rfl⟩) dX3_breath_54 MC_o ⟨_, _, rfl⟩ rfl rfl (Nat.le_of_ble_eq_true rfl) (fun _ => rfl) (fun r u h => kX3_keepAside h) (fun r2 t3 => ?_)
        refine g_aload_n (pc := 57) X 0 dX3_breath_57 rfl rfl ?_
        refine mg_get (pc := 58) X fo_X3_7 dX3_breath_58 rfl ?_
        refine g_iload (pc := 61) X 5 dX3_breath_61 rfl ?_
        refine g_bipush (pc := 63) X 12 dX3_breath_63 rfl ?_
        refine mg_ast (pc := 65) X (j := 0) dX3_breath_65 (by decide) rfl (fun t4 => ?_)
        refine g_aload_n (pc := 66) X 0 dX3_breath_66 rfl rfl ?_
        refine g_iload_n (pc := 67) X 2 dX3_breath_67 rfl rfl ?_
        refine g_mV_v (pc := 68) X (C := RX3) (y := yX3_goHours) (As := [.int x2]) (rest := []) (fr' := 5) (lo' := 112) (fun _ => cwV 1 X.2.2.2.2.1 (lw_V q2009 q2011 qs60 q76 q2012) rfl rfl rfl dmV_X3_goHours ⟨Nat.le_of_ble_eq_true rfl, Nat.le_of_ble_eq_true rfl⟩) dX3_breath_68 MC_o ⟨_, _, rfl⟩ rfl rfl (Nat.le_of_ble_eq_true rfl) (fun _ => rfl) (fun r u h => kX3_goHours h) (fun r5 t6 => ?_)
        refine g_aload_n (pc := 71) X 0 dX3_breath_71 rfl rfl ?_
        refine mg_get (pc := 72) X fo_X3_7 dX3_breath_72 rfl ?_
        refine g_bipush (pc := 75) X 42 dX3_breath_75 rfl ?_
        refine g_iload_n (pc := 77) X 1 dX3_breath_77 rfl rfl ?_
        refine g_iadd (pc := 78) X dX3_breath_78 ?_
        refine mg_ald (pc := 79) X (j := 0) dX3_breath_79 (by decide) rfl (fun v7 => ?_)
        refine g_istore (pc := 80) X (lv' := [(6, .int v7), (0, .ref mo), (1, .int x1), (2, .int x2), (3, .int x3), (4, .int x4), (5, .int x5)]) dX3_breath_80 (by decide) rfl ?_
        refine g_aload_n (pc := 82) X 1 dX3_breath_82 rfl rfl ?_
        refine g_mV_v (pc := 83) X (C := RX3) (y := yX3_bringBack) (As := []) (rest := []) (fr' := 0) (lo' := 0) (fun _ => cwV 0 X.2.2.2.2.1 (lw_V q2013 q2015 qs61 q76 q2016) rfl rfl rfl dmV_X3_bringBack ⟨Nat.le_of_ble_eq_true rfl, Nat.le_of_ble_eq_true rfl⟩) dX3_breath_83 MC_o ⟨_, _, rfl⟩ rfl rfl (Nat.le_of_ble_eq_true rfl) (fun _ => rfl) (fun r u h => kX3_bringBack h) (fun r8 t9 => ?_)
        refine g_iload (pc := 86) X 0 dX3_breath_86 rfl ?_
        refine g_iload_n (pc := 88) X 4 dX3_breath_88 rfl rfl ?_
        refine g_icmp_le (pc := 89) X 97 dX3_breath_89 (by decide) ?_ ?_
        · refine g_iload (pc := 97) X 5 dX3_breath_97 rfl ?_
          exact g_lv (pc := 99) (lv' := [(0, .ref mo), (1, .int x1), (2, .int x2), (3, .int x3), (5, .int x5), (6, .int v7)]) [1, 2, 3, 4, 6, 0] rfl (wX3_breath_99 X hr (fun a0 a1 a2 a3 a4 a5 => ih a0 a1 a2 a3 a4 a5) x1 x2 x3 x5 v7 x4 t9)
        · refine g_iload (pc := 92) X 6 dX3_breath_92 rfl ?_
          refine g_goto (pc := 94) X 99 dX3_breath_94 (by decide) ?_
          exact g_lv (pc := 99) (lv' := [(0, .ref mo), (1, .int x1), (2, .int x2), (3, .int x3), (5, .int x5), (6, .int v7)]) [1, 2, 3, 4, 6, 0] rfl (wX3_breath_99 X hr (fun a0 a1 a2 a3 a4 a5 => ih a0 a1 a2 a3 a4 a5) x1 x2 x3 x5 v7 x5 t9)
def fX3_breath (x1 : Int32) (x2 : Int32) (t : MS) : Option (Int32 × MS) := gm (fX3_isClock x1 t) fun r1 t2 => if r1 = 0 then some ((-1), t2) else gm (fX3_isLong x2 t2) fun r3 t4 => if r3 = 0 then some ((-1), t4) else gm (fX3_behind x1 x2 0 t4) fun r5 t6 => fX3_breath_32 1000 x1 x2 r5 (-4) 0 t6
set_option maxHeartbeats 4000000 in
theorem wX3_breath {rF : Int32} (X : g_X Γ p s m args meth c cX3_breath 7 RX3) (hr : meth.sig.returnType = (Option.some Jvm.ClassFile.FieldType.int)) (x1 : Int32) (x2 : Int32) (t : MS) : Wf Γ p l e 7 158 s m args below meth c 7 (m_ι mo ρ sz) v_i rF tF 0 [(0, .ref mo), (1, .int x1), (2, .int x2)] [] t (fX3_breath x1 x2 t) := by
  unfold fX3_breath
  refine g_aload_n (pc := 0) X 0 dX3_breath_0 rfl rfl ?_
  refine g_iload_n (pc := 1) X 1 dX3_breath_1 rfl rfl ?_
  refine g_mV_i (pc := 2) X (C := RX3) (y := yX3_isClock) (As := [.int x1]) (rest := []) (fr' := 1) (lo' := 25) (fun _ => cwV 1 X.2.2.2.2.1 (lw_V q1786 q1788 qs31 q76 q1789) rfl rfl rfl dmV_X3_isClock ⟨Nat.le_of_ble_eq_true rfl, Nat.le_of_ble_eq_true rfl⟩) dX3_breath_2 MC_o ⟨_, _, rfl⟩ rfl rfl (Nat.le_of_ble_eq_true rfl) (fun _ => rfl) (fun r u h => kX3_isClock h) (fun r1 t2 => ?_)
  refine g_if_eq (pc := 5) X 15 dX3_breath_5 (by decide) ?_ ?_
  · refine g_iconst (pc := 15) X (-1) dX3_breath_15 rfl ?_
    exact g_iret (pc := 16) X hr dX3_breath_16
  · refine g_iload_n (pc := 8) X 2 dX3_breath_8 rfl rfl ?_
    refine g_mS_i (pc := 9) X (y := yX3_isLong) (As := [.int x2]) (rest := []) (fr' := 1) (lo' := 25) (fun _ => va_cwS 1 X.2.2.2.2.1 (lw_S q2001 q2002 q76 q2003) rfl rfl rfl dmS_X3_isLong ⟨Nat.le_of_ble_eq_true rfl, Nat.le_of_ble_eq_true rfl⟩) dX3_breath_9 rfl rfl (Nat.le_of_ble_eq_true rfl) (fun _ => rfl) (fun r u h => kX3_isLong h) (fun r3 t4 => ?_)
    refine g_if_ne (pc := 12) X 17 dX3_breath_12 (by decide) ?_ ?_
    · refine g_aload_n (pc := 17) X 0 dX3_breath_17 rfl rfl ?_
      refine g_iload_n (pc := 18) X 1 dX3_breath_18 rfl rfl ?_
      refine g_iload_n (pc := 19) X 2 dX3_breath_19 rfl rfl ?_
      refine g_iconst (pc := 20) X 0 dX3_breath_20 rfl ?_
      refine g_mV_i (pc := 21) X (C := RX3) (y := yX3_behind) (As := [.int x1, .int x2, .int 0]) (rest := []) (fr' := 6) (lo' := 134) (fun _ => cwV 3 X.2.2.2.2.1 (lw_V q2062 q1998 q1999 q76 q2000) rfl rfl rfl dmV_X3_behind ⟨Nat.le_of_ble_eq_true rfl, Nat.le_of_ble_eq_true rfl⟩) dX3_breath_21 MC_o ⟨_, _, rfl⟩ rfl rfl (Nat.le_of_ble_eq_true rfl) (fun _ => rfl) (fun r u h => kX3_behind h) (fun r5 t6 => ?_)
      refine g_istore_n (pc := 24) X (lv' := [(3, .int r5), (0, .ref mo), (1, .int x1), (2, .int x2)]) dX3_breath_24 rfl (by decide) rfl ?_
      refine g_bipush (pc := 25) X (-4) dX3_breath_25 rfl ?_
      refine g_istore (pc := 27) X (lv' := [(4, .int (-4)), (3, .int r5), (0, .ref mo), (1, .int x1), (2, .int x2)]) dX3_breath_27 (by decide) rfl ?_
      refine g_iconst (pc := 29) X 0 dX3_breath_29 rfl ?_
      refine g_istore (pc := 30) X (lv' := [(5, .int 0), (4, .int (-4)), (3, .int r5), (0, .ref mo), (1, .int x1), (2, .int x2)]) dX3_breath_30 (by decide) rfl ?_
      exact g_lv (pc := 32) (lv' := [(0, .ref mo), (1, .int x1), (2, .int x2), (3, .int r5), (4, .int (-4)), (5, .int 0)]) [3, 4, 5, 2, 1, 0] rfl (wX3_breath_32 X hr 1000 x1 x2 r5 (-4) 0 t6)
    · refine g_iconst (pc := 15) X (-1) dX3_breath_15 rfl ?_
      exact g_iret (pc := 16) X hr dX3_breath_16
theorem kX3_breath {mo : Nat} {ρ : Sg} {sz : Nat} {x1 : Int32} {x2 : Int32} {t : MS} {r : Int32} {u : MS} (h : fX3_breath x1 x2 t = some (r, u)) : g_C Γ l yX3_breath cX3_breath 7 (Option.some Jvm.ClassFile.FieldType.int) 7 158 [.ref mo, .int x1, .int x2] (MC mo t ρ) sz v_i r (m_ι mo ρ sz u) :=
  g_met [.ref mo, .int x1, .int x2] (by decide) (Nat.le_of_ble_eq_true rfl) h rfl (fun p e s m args below meth c X hr hn => wX3_breath X hr x1 x2 t)
def fX3_right_53 (kc26 : Int32 → Int32 → Int32 → Int32 → MS → Option (Int32 × MS)) (x1 : Int32) (x2 : Int32) (x4 : Int32) (s0 : Int32) (s1 : Int32) (t : MS) : Option (Int32 × MS) := lt (s1 + s0) fun y1 => gm (fX3_skyNow t) fun r2 t3 => gm (fX3_goOn r2 t3) fun r4 t5 => kc26 x1 x2 y1 (x4 + 1) t5
set_option maxHeartbeats 4000000 in
theorem wX3_right_53 {rF : Int32} (X : g_X Γ p s m args meth c cX3_right 5 RX3) (hr : meth.sig.returnType = (Option.some Jvm.ClassFile.FieldType.int)) {kc26 : Int32 → Int32 → Int32 → Int32 → MS → Option (Int32 × MS)} (hk26 : ∀ (x1 : Int32) (x2 : Int32) (x3 : Int32) (x4 : Int32) (t : MS), Wf Γ p l e 5 112 s m args below meth c 5 (m_ι mo ρ sz) v_i rF tF 26 [(0, .ref mo), (1, .int x1), (2, .int x2), (3, .int x3), (4, .int x4)] [] t (kc26 x1 x2 x3 x4 t)) (x1 : Int32) (x2 : Int32) (x4 : Int32) (s0 : Int32) (s1 : Int32) (t : MS) : Wf Γ p l e 5 112 s m args below meth c 5 (m_ι mo ρ sz) v_i rF tF 53 [(0, .ref mo), (1, .int x1), (2, .int x2), (4, .int x4)] [.int s0, .int s1] t (fX3_right_53 kc26 x1 x2 x4 s0 s1 t) := by
  unfold fX3_right_53
  refine g_iadd (pc := 53) X dX3_right_53 ?_
  refine g_lti (pc := 54) (fun y1 => ?_)
  refine g_istore_n (pc := 54) X (lv' := [(3, .int y1), (0, .ref mo), (1, .int x1), (2, .int x2), (4, .int x4)]) dX3_right_54 rfl (by decide) rfl ?_
  refine g_aload_n (pc := 55) X 1 dX3_right_55 rfl rfl ?_
  refine g_aload_n (pc := 56) X 1 dX3_right_56 rfl rfl ?_
  refine g_mV_i (pc := 57) X (C := RX3) (y := yX3_skyNow) (As := []) (rest := [.ref mo]) (fr' := 0) (lo' := 0) (fun _ => cwV 0 X.2.2.2.2.1 (lw_V q1930 q1932 qs50 q76 q1933) rfl rfl rfl dmV_X3_skyNow ⟨Nat.le_of_ble_eq_true rfl, Nat.le_of_ble_eq_true rfl⟩) dX3_right_57 MC_o ⟨_, _, rfl⟩ rfl rfl (Nat.le_of_ble_eq_true rfl) (fun _ => rfl) (fun r u h => kX3_skyNow h) (fun r2 t3 => ?_)
  refine g_mV_i (pc := 60) X (C := RX3) (y := yX3_goOn) (As := [.int r2]) (rest := []) (fr' := 4) (lo' := 86) (fun _ => cwV 1 X.2.2.2.2.1 (lw_V q1934 q1936 qs51 q76 q1937) rfl rfl rfl dmV_X3_goOn ⟨Nat.le_of_ble_eq_true rfl, Nat.le_of_ble_eq_true rfl⟩) dX3_right_60 MC_o ⟨_, _, rfl⟩ rfl rfl (Nat.le_of_ble_eq_true rfl) (fun _ => rfl) (fun r u h => kX3_goOn h) (fun r4 t5 => ?_)
  refine g_pop (pc := 63) X dX3_right_63 rfl ?_
  refine g_iinc (pc := 64) X 1 4 (lv' := [(4, .int (x4 + 1)), (3, .int y1), (0, .ref mo), (1, .int x1), (2, .int x2)]) dX3_right_64 rfl rfl (by decide) rfl ?_
  refine g_goto (pc := 67) X 26 dX3_right_67 (by decide) ?_
  exact g_lv (pc := 26) (lv' := [(0, .ref mo), (1, .int x1), (2, .int x2), (3, .int y1), (4, .int (x4 + 1))]) [2, 3, 4, 1, 0] rfl (hk26 x1 x2 y1 (x4 + 1) t5)
def fX3_right_26 : Nat → Int32 → Int32 → Int32 → Int32 → MS → Option (Int32 × MS)
  | 0, _, _, _, _, _ => none
  | n + 1, x1, x2, x3, x4, t => if x2 ≤ x4 then gm (fX3_bringBack t) fun _ t2 => some (x3, t2) else gm (fX3_strikes x1 t) fun r3 t4 => gm (fX3_truth t4) fun r5 t6 => if r3 = r5 / 60 then fX3_right_53 (fun a0 a1 a2 a3 a4 => fX3_right_26 n a0 a1 a2 a3 a4) x1 x2 x4 1 x3 t6 else fX3_right_53 (fun a0 a1 a2 a3 a4 => fX3_right_26 n a0 a1 a2 a3 a4) x1 x2 x4 0 x3 t6
set_option maxHeartbeats 4000000 in
theorem wX3_right_26 {rF : Int32} (X : g_X Γ p s m args meth c cX3_right 5 RX3) (hr : meth.sig.returnType = (Option.some Jvm.ClassFile.FieldType.int)) (n : Nat) : ∀ (x1 : Int32) (x2 : Int32) (x3 : Int32) (x4 : Int32) (t : MS), Wf Γ p l e 5 112 s m args below meth c 5 (m_ι mo ρ sz) v_i rF tF 26 [(0, .ref mo), (1, .int x1), (2, .int x2), (3, .int x3), (4, .int x4)] [] t (fX3_right_26 n x1 x2 x3 x4 t) := by
  induction n with
  | zero => intro x1 x2 x3 x4 t; exact g_none
  | succ n ih =>
    intro x1 x2 x3 x4 t
    rw [fX3_right_26]
    refine g_iload (pc := 26) X 4 dX3_right_26 rfl ?_
    refine g_iload_n (pc := 28) X 2 dX3_right_28 rfl rfl ?_
    refine g_icmp_ge (pc := 29) X 70 dX3_right_29 (by decide) ?_ ?_
    · refine g_aload_n (pc := 70) X 0 dX3_right_70 rfl rfl ?_
      refine g_mV_v (pc := 71) X (C := RX3) (y := yX3_bringBack) (As := []) (rest := []) (fr' := 0) (lo' := 0) (fun _ => cwV 0 X.2.2.2.2.1 (lw_V q2013 q2015 qs61 q76 q2016) rfl rfl rfl dmV_X3_bringBack ⟨Nat.le_of_ble_eq_true rfl, Nat.le_of_ble_eq_true rfl⟩) dX3_right_71 MC_o ⟨_, _, rfl⟩ rfl rfl (Nat.le_of_ble_eq_true rfl) (fun _ => rfl) (fun r u h => kX3_bringBack h) (fun r1 t2 => ?_)
      refine g_iload_n (pc := 74) X 3 dX3_right_74 rfl rfl ?_
      exact g_iret (pc := 75) X hr dX3_right_75
    · refine g_iload_n (pc := 32) X 3 dX3_right_32 rfl rfl ?_
      refine g_aload_n (pc := 33) X 0 dX3_right_33 rfl rfl ?_
      refine g_iload_n (pc := 34) X 1 dX3_right_34 rfl rfl ?_
      refine g_mV_i (pc := 35) X (C := RX3) (y := yX3_strikes) (As := [.int x1]) (rest := [.int x3]) (fr' := 2) (lo' := 42) (fun _ => cwV 1 X.2.2.2.2.1 (lw_V q1798 q1800 qs34 q76 q1801) rfl rfl rfl dmV_X3_strikes ⟨Nat.le_of_ble_eq_true rfl, Nat.le_of_ble_eq_true rfl⟩) dX3_right_35 MC_o ⟨_, _, rfl⟩ rfl rfl (Nat.le_of_ble_eq_true rfl) (fun _ => rfl) (fun r u h => kX3_strikes h) (fun r3 t4 => ?_)
      refine g_aload_n (pc := 38) X 0 dX3_right_38 rfl rfl ?_
      refine g_mV_i (pc := 39) X (C := RX3) (y := yX3_truth) (As := []) (rest := [.int r3, .int x3]) (fr' := 0) (lo' := 0) (fun _ => cwV 0 X.2.2.2.2.1 (lw_V q1794 q1796 qs33 q76 q1797) rfl rfl rfl dmV_X3_truth ⟨Nat.le_of_ble_eq_true rfl, Nat.le_of_ble_eq_true rfl⟩) dX3_right_39 MC_o ⟨_, _, rfl⟩ rfl rfl (Nat.le_of_ble_eq_true rfl) (fun _ => rfl) (fun r u h => kX3_truth h) (fun r5 t6 => ?_)
      refine g_bipush (pc := 42) X 60 dX3_right_42 rfl ?_
      refine g_idiv (pc := 44) X dX3_right_44 (by decide) ?_
      refine g_icmp_ne (pc := 45) X 52 dX3_right_45 (by decide) ?_ ?_
      · refine g_iconst (pc := 52) X 0 dX3_right_52 rfl ?_
        exact g_lv (pc := 53) (lv' := [(0, .ref mo), (1, .int x1), (2, .int x2), (4, .int x4)]) [0, 1, 2, 4] rfl (wX3_right_53 X hr (fun a0 a1 a2 a3 a4 => ih a0 a1 a2 a3 a4) x1 x2 x4 0 x3 t6)
      · refine g_iconst (pc := 48) X 1 dX3_right_48 rfl ?_
        refine g_goto (pc := 49) X 53 dX3_right_49 (by decide) ?_
        exact g_lv (pc := 53) (lv' := [(0, .ref mo), (1, .int x1), (2, .int x2), (4, .int x4)]) [0, 1, 2, 4] rfl (wX3_right_53 X hr (fun a0 a1 a2 a3 a4 => ih a0 a1 a2 a3 a4) x1 x2 x4 1 x3 t6)
def fX3_right (x1 : Int32) (x2 : Int32) (t : MS) : Option (Int32 × MS) := gm (fX3_isClock x1 t) fun r1 t2 => if r1 = 0 then some ((-1), t2) else gm (fX3_isLong x2 t2) fun r3 t4 => if r3 = 0 then some ((-1), t4) else gm (fX3_keepAside t4) fun _ t6 => fX3_right_26 1000 x1 x2 0 0 t6
set_option maxHeartbeats 4000000 in
theorem wX3_right {rF : Int32} (X : g_X Γ p s m args meth c cX3_right 5 RX3) (hr : meth.sig.returnType = (Option.some Jvm.ClassFile.FieldType.int)) (x1 : Int32) (x2 : Int32) (t : MS) : Wf Γ p l e 5 112 s m args below meth c 5 (m_ι mo ρ sz) v_i rF tF 0 [(0, .ref mo), (1, .int x1), (2, .int x2)] [] t (fX3_right x1 x2 t) := by
  unfold fX3_right
  refine g_aload_n (pc := 0) X 0 dX3_right_0 rfl rfl ?_
  refine g_iload_n (pc := 1) X 1 dX3_right_1 rfl rfl ?_
  refine g_mV_i (pc := 2) X (C := RX3) (y := yX3_isClock) (As := [.int x1]) (rest := []) (fr' := 1) (lo' := 25) (fun _ => cwV 1 X.2.2.2.2.1 (lw_V q1786 q1788 qs31 q76 q1789) rfl rfl rfl dmV_X3_isClock ⟨Nat.le_of_ble_eq_true rfl, Nat.le_of_ble_eq_true rfl⟩) dX3_right_2 MC_o ⟨_, _, rfl⟩ rfl rfl (Nat.le_of_ble_eq_true rfl) (fun _ => rfl) (fun r u h => kX3_isClock h) (fun r1 t2 => ?_)
  refine g_if_eq (pc := 5) X 15 dX3_right_5 (by decide) ?_ ?_
  · refine g_iconst (pc := 15) X (-1) dX3_right_15 rfl ?_
    exact g_iret (pc := 16) X hr dX3_right_16
  · refine g_iload_n (pc := 8) X 2 dX3_right_8 rfl rfl ?_
    refine g_mS_i (pc := 9) X (y := yX3_isLong) (As := [.int x2]) (rest := []) (fr' := 1) (lo' := 25) (fun _ => va_cwS 1 X.2.2.2.2.1 (lw_S q2001 q2002 q76 q2003) rfl rfl rfl dmS_X3_isLong ⟨Nat.le_of_ble_eq_true rfl, Nat.le_of_ble_eq_true rfl⟩) dX3_right_9 rfl rfl (Nat.le_of_ble_eq_true rfl) (fun _ => rfl) (fun r u h => kX3_isLong h) (fun r3 t4 => ?_)
    refine g_if_ne (pc := 12) X 17 dX3_right_12 (by decide) ?_ ?_
    · refine g_aload_n (pc := 17) X 0 dX3_right_17 rfl rfl ?_
      refine g_mV_v (pc := 18) X (C := RX3) (y := yX3_keepAside) (As := []) (rest := []) (fr' := 0) (lo' := 0) (fun _ => cwV 0 X.2.2.2.2.1 (lw_V q2005 q2007 qs59 q76 q2008) rfl rfl rfl dmV_X3_keepAside ⟨Nat.le_of_ble_eq_true rfl, Nat.le_of_ble_eq_true rfl⟩) dX3_right_18 MC_o ⟨_, _, rfl⟩ rfl rfl (Nat.le_of_ble_eq_true rfl) (fun _ => rfl) (fun r u h => kX3_keepAside h) (fun r5 t6 => ?_)
      refine g_iconst (pc := 21) X 0 dX3_right_21 rfl ?_
      refine g_istore_n (pc := 22) X (lv' := [(3, .int 0), (0, .ref mo), (1, .int x1), (2, .int x2)]) dX3_right_22 rfl (by decide) rfl ?_
      refine g_iconst (pc := 23) X 0 dX3_right_23 rfl ?_
      refine g_istore (pc := 24) X (lv' := [(4, .int 0), (3, .int 0), (0, .ref mo), (1, .int x1), (2, .int x2)]) dX3_right_24 (by decide) rfl ?_
      exact g_lv (pc := 26) (lv' := [(0, .ref mo), (1, .int x1), (2, .int x2), (3, .int 0), (4, .int 0)]) [2, 3, 4, 1, 0] rfl (wX3_right_26 X hr 1000 x1 x2 0 0 t6)
    · refine g_iconst (pc := 15) X (-1) dX3_right_15 rfl ?_
      exact g_iret (pc := 16) X hr dX3_right_16
theorem kX3_right {mo : Nat} {ρ : Sg} {sz : Nat} {x1 : Int32} {x2 : Int32} {t : MS} {r : Int32} {u : MS} (h : fX3_right x1 x2 t = some (r, u)) : g_C Γ l yX3_right cX3_right 5 (Option.some Jvm.ClassFile.FieldType.int) 5 112 [.ref mo, .int x1, .int x2] (MC mo t ρ) sz v_i r (m_ι mo ρ sz u) :=
  g_met [.ref mo, .int x1, .int x2] (by decide) (Nat.le_of_ble_eq_true rfl) h rfl (fun p e s m args below meth c X hr hn => wX3_right X hr x1 x2 t)
def fX3_appeal (x1 : Int32) (x2 : Int32) (t : MS) : Option (Int32 × MS) := gm (fX3_isClock x1 t) fun r1 t2 => if r1 = 0 then some ((-1), t2) else gm (fX3_isLong x2 t2) fun r3 t4 => if r3 = 0 then some ((-1), t4) else lt (setI t4 7 0) fun t5 => gm (fX3_behind x1 x2 1 t5) fun r6 t7 => lt (setI t7 7 (-1)) fun t8 => some (r6, t8)
set_option maxHeartbeats 4000000 in
theorem wX3_appeal {rF : Int32} (X : g_X Γ p s m args meth c cX3_appeal 4 RX3) (hr : meth.sig.returnType = (Option.some Jvm.ClassFile.FieldType.int)) (x1 : Int32) (x2 : Int32) (t : MS) : Wf Γ p l e 7 158 s m args below meth c 4 (m_ι mo ρ sz) v_i rF tF 0 [(0, .ref mo), (1, .int x1), (2, .int x2)] [] t (fX3_appeal x1 x2 t) := by
  unfold fX3_appeal
  refine g_aload_n (pc := 0) X 0 dX3_appeal_0 rfl rfl ?_
  refine g_iload_n (pc := 1) X 1 dX3_appeal_1 rfl rfl ?_
  refine g_mV_i (pc := 2) X (C := RX3) (y := yX3_isClock) (As := [.int x1]) (rest := []) (fr' := 1) (lo' := 25) (fun _ => cwV 1 X.2.2.2.2.1 (lw_V q1786 q1788 qs31 q76 q1789) rfl rfl rfl dmV_X3_isClock ⟨Nat.le_of_ble_eq_true rfl, Nat.le_of_ble_eq_true rfl⟩) dX3_appeal_2 MC_o ⟨_, _, rfl⟩ rfl rfl (Nat.le_of_ble_eq_true rfl) (fun _ => rfl) (fun r u h => kX3_isClock h) (fun r1 t2 => ?_)
  refine g_if_eq (pc := 5) X 15 dX3_appeal_5 (by decide) ?_ ?_
  · refine g_iconst (pc := 15) X (-1) dX3_appeal_15 rfl ?_
    exact g_iret (pc := 16) X hr dX3_appeal_16
  · refine g_iload_n (pc := 8) X 2 dX3_appeal_8 rfl rfl ?_
    refine g_mS_i (pc := 9) X (y := yX3_isLong) (As := [.int x2]) (rest := []) (fr' := 1) (lo' := 25) (fun _ => va_cwS 1 X.2.2.2.2.1 (lw_S q2001 q2002 q76 q2003) rfl rfl rfl dmS_X3_isLong ⟨Nat.le_of_ble_eq_true rfl, Nat.le_of_ble_eq_true rfl⟩) dX3_appeal_9 rfl rfl (Nat.le_of_ble_eq_true rfl) (fun _ => rfl) (fun r u h => kX3_isLong h) (fun r3 t4 => ?_)
    refine g_if_ne (pc := 12) X 17 dX3_appeal_12 (by decide) ?_ ?_
    · refine g_aload_n (pc := 17) X 0 dX3_appeal_17 rfl rfl ?_
      refine g_iconst (pc := 18) X 0 dX3_appeal_18 rfl ?_
      refine mg_put (pc := 19) X fp_X3_29 dX3_appeal_19 rfl rfl (by decide) rfl (fun t5 => ?_)
      refine g_aload_n (pc := 22) X 0 dX3_appeal_22 rfl rfl ?_
      refine g_iload_n (pc := 23) X 1 dX3_appeal_23 rfl rfl ?_
      refine g_iload_n (pc := 24) X 2 dX3_appeal_24 rfl rfl ?_
      refine g_iconst (pc := 25) X 1 dX3_appeal_25 rfl ?_
      refine g_mV_i (pc := 26) X (C := RX3) (y := yX3_behind) (As := [.int x1, .int x2, .int 1]) (rest := []) (fr' := 6) (lo' := 134) (fun _ => cwV 3 X.2.2.2.2.1 (lw_V q2062 q1998 q1999 q76 q2000) rfl rfl rfl dmV_X3_behind ⟨Nat.le_of_ble_eq_true rfl, Nat.le_of_ble_eq_true rfl⟩) dX3_appeal_26 MC_o ⟨_, _, rfl⟩ rfl rfl (Nat.le_of_ble_eq_true rfl) (fun _ => rfl) (fun r u h => kX3_behind h) (fun r6 t7 => ?_)
      refine g_istore_n (pc := 29) X (lv' := [(3, .int r6), (0, .ref mo), (1, .int x1), (2, .int x2)]) dX3_appeal_29 rfl (by decide) rfl ?_
      refine g_aload_n (pc := 30) X 1 dX3_appeal_30 rfl rfl ?_
      refine g_iconst (pc := 31) X (-1) dX3_appeal_31 rfl ?_
      refine mg_put (pc := 32) X fp_X3_29 dX3_appeal_32 rfl rfl (by decide) rfl (fun t8 => ?_)
      refine g_iload_n (pc := 35) X 0 dX3_appeal_35 rfl rfl ?_
      exact g_iret (pc := 36) X hr dX3_appeal_36
    · refine g_iconst (pc := 15) X (-1) dX3_appeal_15 rfl ?_
      exact g_iret (pc := 16) X hr dX3_appeal_16
theorem kX3_appeal {mo : Nat} {ρ : Sg} {sz : Nat} {x1 : Int32} {x2 : Int32} {t : MS} {r : Int32} {u : MS} (h : fX3_appeal x1 x2 t = some (r, u)) : g_C Γ l yX3_appeal cX3_appeal 4 (Option.some Jvm.ClassFile.FieldType.int) 7 158 [.ref mo, .int x1, .int x2] (MC mo t ρ) sz v_i r (m_ι mo ρ sz u) :=
  g_met [.ref mo, .int x1, .int x2] (by decide) (Nat.le_of_ble_eq_true rfl) h rfl (fun p e s m args below meth c X hr hn => wX3_appeal X hr x1 x2 t)
def fX3_spans_101 (kc26 : Int32 → Int32 → Int32 → Int32 → MS → Option (Int32 × MS)) (x1 : Int32) (x2 : Int32) (x4 : Int32) (s0 : Int32) (t : MS) : Option (Int32 × MS) := kc26 x1 x2 s0 (x4 + 1) t
set_option maxHeartbeats 4000000 in
theorem wX3_spans_101 {rF : Int32} (X : g_X Γ p s m args meth c cX3_spans 6 RX3) (hr : meth.sig.returnType = (Option.some Jvm.ClassFile.FieldType.int)) {kc26 : Int32 → Int32 → Int32 → Int32 → MS → Option (Int32 × MS)} (hk26 : ∀ (x1 : Int32) (x2 : Int32) (x3 : Int32) (x4 : Int32) (t : MS), Wf Γ p l e 5 112 s m args below meth c 6 (m_ι mo ρ sz) v_i rF tF 26 [(0, .ref mo), (1, .int x1), (2, .int x2), (3, .int x3), (4, .int x4)] [] t (kc26 x1 x2 x3 x4 t)) (x1 : Int32) (x2 : Int32) (x4 : Int32) (s0 : Int32) (t : MS) : Wf Γ p l e 5 112 s m args below meth c 6 (m_ι mo ρ sz) v_i rF tF 101 [(0, .ref mo), (1, .int x1), (2, .int x2), (4, .int x4)] [.int s0] t (fX3_spans_101 kc26 x1 x2 x4 s0 t) := by
  unfold fX3_spans_101
  refine g_istore_n (pc := 101) X (lv' := [(3, .int s0), (0, .ref mo), (1, .int x1), (2, .int x2), (4, .int x4)]) dX3_spans_101 rfl (by decide) rfl ?_
  refine g_iinc (pc := 102) X 1 4 (lv' := [(4, .int (x4 + 1)), (3, .int s0), (0, .ref mo), (1, .int x1), (2, .int x2)]) dX3_spans_102 rfl rfl (by decide) rfl ?_
  refine g_goto (pc := 105) X 26 dX3_spans_105 (by decide) ?_
  exact g_lv (pc := 26) (lv' := [(0, .ref mo), (1, .int x1), (2, .int x2), (3, .int s0), (4, .int (x4 + 1))]) [2, 3, 4, 1, 0] rfl (hk26 x1 x2 s0 (x4 + 1) t)
def fX3_spans_95 (kc26 : Int32 → Int32 → Int32 → Int32 → MS → Option (Int32 × MS)) (x1 : Int32) (x2 : Int32) (x4 : Int32) (x5 : Int32) (t : MS) : Option (Int32 × MS) := fX3_spans_101 kc26 x1 x2 x4 x5 t
set_option maxHeartbeats 4000000 in
theorem wX3_spans_95 {rF : Int32} (X : g_X Γ p s m args meth c cX3_spans 6 RX3) (hr : meth.sig.returnType = (Option.some Jvm.ClassFile.FieldType.int)) {kc26 : Int32 → Int32 → Int32 → Int32 → MS → Option (Int32 × MS)} (hk26 : ∀ (x1 : Int32) (x2 : Int32) (x3 : Int32) (x4 : Int32) (t : MS), Wf Γ p l e 5 112 s m args below meth c 6 (m_ι mo ρ sz) v_i rF tF 26 [(0, .ref mo), (1, .int x1), (2, .int x2), (3, .int x3), (4, .int x4)] [] t (kc26 x1 x2 x3 x4 t)) (x1 : Int32) (x2 : Int32) (x4 : Int32) (x5 : Int32) (t : MS) : Wf Γ p l e 5 112 s m args below meth c 6 (m_ι mo ρ sz) v_i rF tF 95 [(0, .ref mo), (1, .int x1), (2, .int x2), (4, .int x4), (5, .int x5)] [] t (fX3_spans_95 kc26 x1 x2 x4 x5 t) := by
  unfold fX3_spans_95
  refine g_iload (pc := 95) X 4 dX3_spans_95 rfl ?_
  refine g_goto (pc := 97) X 101 dX3_spans_97 (by decide) ?_
  exact g_lv (pc := 101) (lv' := [(0, .ref mo), (1, .int x1), (2, .int x2), (4, .int x4)]) [0, 1, 2, 3] rfl (wX3_spans_101 X hr hk26 x1 x2 x4 x5 t)
def fX3_spans_100 (kc26 : Int32 → Int32 → Int32 → Int32 → MS → Option (Int32 × MS)) (x1 : Int32) (x2 : Int32) (x3 : Int32) (x4 : Int32) (t : MS) : Option (Int32 × MS) := fX3_spans_101 kc26 x1 x2 x4 x3 t
set_option maxHeartbeats 4000000 in
theorem wX3_spans_100 {rF : Int32} (X : g_X Γ p s m args meth c cX3_spans 6 RX3) (hr : meth.sig.returnType = (Option.some Jvm.ClassFile.FieldType.int)) {kc26 : Int32 → Int32 → Int32 → Int32 → MS → Option (Int32 × MS)} (hk26 : ∀ (x1 : Int32) (x2 : Int32) (x3 : Int32) (x4 : Int32) (t : MS), Wf Γ p l e 5 112 s m args below meth c 6 (m_ι mo ρ sz) v_i rF tF 26 [(0, .ref mo), (1, .int x1), (2, .int x2), (3, .int x3), (4, .int x4)] [] t (kc26 x1 x2 x3 x4 t)) (x1 : Int32) (x2 : Int32) (x3 : Int32) (x4 : Int32) (t : MS) : Wf Γ p l e 5 112 s m args below meth c 6 (m_ι mo ρ sz) v_i rF tF 100 [(0, .ref mo), (1, .int x1), (2, .int x2), (3, .int x3), (4, .int x4)] [] t (fX3_spans_100 kc26 x1 x2 x3 x4 t) := by
  unfold fX3_spans_100
  refine g_iload_n (pc := 100) X 3 dX3_spans_100 rfl rfl ?_
  exact g_lv (pc := 101) (lv' := [(0, .ref mo), (1, .int x1), (2, .int x2), (4, .int x4)]) [0, 1, 2, 4] rfl (wX3_spans_101 X hr hk26 x1 x2 x4 x3 t)
def fX3_spans_68 (kc26 : Int32 → Int32 → Int32 → Int32 → MS → Option (Int32 × MS)) (x1 : Int32) (x2 : Int32) (x3 : Int32) (x4 : Int32) (x5 : Int32) (t : MS) : Option (Int32 × MS) := gm (fX3_bringBack t) fun _ t2 => if x3 < 0 then fX3_spans_95 kc26 x1 x2 x4 x5 t2 else if x2 = 0 then if x3 ≤ x5 then fX3_spans_100 kc26 x1 x2 x3 x4 t2 else fX3_spans_95 kc26 x1 x2 x4 x5 t2 else if x5 ≤ x3 then fX3_spans_100 kc26 x1 x2 x3 x4 t2 else fX3_spans_95 kc26 x1 x2 x4 x5 t2
set_option maxHeartbeats 4000000 in
theorem wX3_spans_68 {rF : Int32} (X : g_X Γ p s m args meth c cX3_spans 6 RX3) (hr : meth.sig.returnType = (Option.some Jvm.ClassFile.FieldType.int)) {kc26 : Int32 → Int32 → Int32 → Int32 → MS → Option (Int32 × MS)} (hk26 : ∀ (x1 : Int32) (x2 : Int32) (x3 : Int32) (x4 : Int32) (t : MS), Wf Γ p l e 5 112 s m args below meth c 6 (m_ι mo ρ sz) v_i rF tF 26 [(0, .ref mo), (1, .int x1), (2, .int x2), (3, .int x3), (4, .int x4)] [] t (kc26 x1 x2 x3 x4 t)) (x1 : Int32) (x2 : Int32) (x3 : Int32) (x4 : Int32) (x5 : Int32) (t : MS) : Wf Γ p l e 5 112 s m args below meth c 6 (m_ι mo ρ sz) v_i rF tF 68 [(0, .ref mo), (1, .int x1), (2, .int x2), (3, .int x3), (4, .int x4), (5, .int x5)] [] t (fX3_spans_68 kc26 x1 x2 x3 x4 x5 t) := by
  unfold fX3_spans_68
  refine g_aload_n (pc := 68) X 0 dX3_spans_68 rfl rfl ?_
  refine g_mV_v (pc := 69) X (C := RX3) (y := yX3_bringBack) (As := []) (rest := []) (fr' := 0) (lo' := 0) (fun _ => cwV 0 X.2.2.2.2.1 (lw_V q2013 q2015 qs61 q76 q2016) rfl rfl rfl dmV_X3_bringBack ⟨Nat.le_of_ble_eq_true rfl, Nat.le_of_ble_eq_true rfl⟩) dX3_spans_69 MC_o ⟨_, _, rfl⟩ rfl rfl (Nat.le_of_ble_eq_true rfl) (fun _ => rfl) (fun r u h => kX3_bringBack h) (fun r1 t2 => ?_)
  refine g_iload_n (pc := 72) X 3 dX3_spans_72 rfl rfl ?_
  refine g_if_lt (pc := 73) X 95 dX3_spans_73 (by decide) ?_ ?_
  · exact g_lv (pc := 95) (lv' := [(0, .ref mo), (1, .int x1), (2, .int x2), (4, .int x4), (5, .int x5)]) [0, 1, 2, 4, 5] rfl (wX3_spans_95 X hr hk26 x1 x2 x4 x5 t2)
  · refine g_iload_n (pc := 76) X 2 dX3_spans_76 rfl rfl ?_
    refine g_if_ne (pc := 77) X 89 dX3_spans_77 (by decide) ?_ ?_
    · refine g_iload (pc := 89) X 5 dX3_spans_89 rfl ?_
      refine g_iload_n (pc := 91) X 3 dX3_spans_91 rfl rfl ?_
      refine g_icmp_le (pc := 92) X 100 dX3_spans_92 (by decide) ?_ ?_
      · exact g_lv (pc := 100) (lv' := [(0, .ref mo), (1, .int x1), (2, .int x2), (3, .int x3), (4, .int x4)]) [0, 1, 2, 3, 4] rfl (wX3_spans_100 X hr hk26 x1 x2 x3 x4 t2)
      · exact g_lv (pc := 95) (lv' := [(0, .ref mo), (1, .int x1), (2, .int x2), (4, .int x4), (5, .int x5)]) [0, 1, 2, 4, 5] rfl (wX3_spans_95 X hr hk26 x1 x2 x4 x5 t2)
    · refine g_iload (pc := 80) X 5 dX3_spans_80 rfl ?_
      refine g_iload_n (pc := 82) X 3 dX3_spans_82 rfl rfl ?_
      refine g_icmp_ge (pc := 83) X 100 dX3_spans_83 (by decide) ?_ ?_
      · exact g_lv (pc := 100) (lv' := [(0, .ref mo), (1, .int x1), (2, .int x2), (3, .int x3), (4, .int x4)]) [0, 1, 2, 3, 4] rfl (wX3_spans_100 X hr hk26 x1 x2 x3 x4 t2)
      · refine g_goto (pc := 86) X 95 dX3_spans_86 (by decide) ?_
        exact g_lv (pc := 95) (lv' := [(0, .ref mo), (1, .int x1), (2, .int x2), (4, .int x4), (5, .int x5)]) [0, 1, 2, 4, 5] rfl (wX3_spans_95 X hr hk26 x1 x2 x4 x5 t2)
def fX3_spans_39 (kc26 : Int32 → Int32 → Int32 → Int32 → MS → Option (Int32 × MS)) : Nat → Int32 → Int32 → Int32 → Int32 → Int32 → MS → Option (Int32 × MS)
  | 0, _, _, _, _, _, _ => none
  | n + 1, x1, x2, x3, x4, x5, t => if 200 < x5 then fX3_spans_68 kc26 x1 x2 x3 x4 x5 t else gm (fX3_isHome x1 t) fun r1 t2 => if r1 = 0 then gm (fX3_goOn x4 t2) fun r3 t4 => fX3_spans_39 kc26 n x1 x2 x3 x4 (x5 + 1) t4 else fX3_spans_68 kc26 x1 x2 x3 x4 x5 t2
set_option maxHeartbeats 4000000 in
theorem wX3_spans_39 {rF : Int32} (X : g_X Γ p s m args meth c cX3_spans 6 RX3) (hr : meth.sig.returnType = (Option.some Jvm.ClassFile.FieldType.int)) {kc26 : Int32 → Int32 → Int32 → Int32 → MS → Option (Int32 × MS)} (hk26 : ∀ (x1 : Int32) (x2 : Int32) (x3 : Int32) (x4 : Int32) (t : MS), Wf Γ p l e 5 112 s m args below meth c 6 (m_ι mo ρ sz) v_i rF tF 26 [(0, .ref mo), (1, .int x1), (2, .int x2), (3, .int x3), (4, .int x4)] [] t (kc26 x1 x2 x3 x4 t)) (n : Nat) : ∀ (x1 : Int32) (x2 : Int32) (x3 : Int32) (x4 : Int32) (x5 : Int32) (t : MS), Wf Γ p l e 5 112 s m args below meth c 6 (m_ι mo ρ sz) v_i rF tF 39 [(0, .ref mo), (1, .int x1), (2, .int x2), (3, .int x3), (4, .int x4), (5, .int x5)] [] t (fX3_spans_39 kc26 n x1 x2 x3 x4 x5 t) := by
  induction n with
  | zero => intro x1 x2 x3 x4 x5 t; exact g_none
  | succ n ih =>
    intro x1 x2 x3 x4 x5 t
    rw [fX3_spans_39]
    refine g_iload (pc := 39) X 5 dX3_spans_39 rfl ?_
    refine g_sipush (pc := 41) X 200 dX3_spans_41 rfl ?_
    refine g_icmp_gt (pc := 44) X 68 dX3_spans_44 (by decide) ?_ ?_
    · exact g_lv (pc := 68) (lv' := [(0, .ref mo), (1, .int x1), (2, .int x2), (3, .int x3), (4, .int x4), (5, .int x5)]) [0, 1, 2, 3, 4, 5] rfl (wX3_spans_68 X hr hk26 x1 x2 x3 x4 x5 t)
    · refine g_aload_n (pc := 47) X 0 dX3_spans_47 rfl rfl ?_
      refine g_iload_n (pc := 48) X 1 dX3_spans_48 rfl rfl ?_
      refine g_mV_i (pc := 49) X (C := RX3) (y := yX3_isHome) (As := [.int x1]) (rest := []) (fr' := 0) (lo' := 0) (fun _ => cwV 1 X.2.2.2.2.1 (lw_V q1938 q1940 qs52 q76 q1941) rfl rfl rfl dmV_X3_isHome ⟨Nat.le_of_ble_eq_true rfl, Nat.le_of_ble_eq_true rfl⟩) dX3_spans_49 MC_o ⟨_, _, rfl⟩ rfl rfl (Nat.le_of_ble_eq_true rfl) (fun _ => rfl) (fun r u h => kX3_isHome h) (fun r1 t2 => ?_)
      refine g_if_ne (pc := 52) X 68 dX3_spans_52 (by decide) ?_ ?_
      · exact g_lv (pc := 68) (lv' := [(0, .ref mo), (1, .int x1), (2, .int x2), (3, .int x3), (4, .int x4), (5, .int x5)]) [0, 1, 2, 3, 4, 5] rfl (wX3_spans_68 X hr hk26 x1 x2 x3 x4 x5 t2)
      · refine g_aload_n (pc := 55) X 0 dX3_spans_55 rfl rfl ?_
        refine g_iload (pc := 56) X 4 dX3_spans_56 rfl ?_
        refine g_mV_i (pc := 58) X (C := RX3) (y := yX3_goOn) (As := [.int x4]) (rest := []) (fr' := 4) (lo' := 86) (fun _ => cwV 1 X.2.2.2.2.1 (lw_V q1934 q1936 qs51 q76 q1937) rfl rfl rfl dmV_X3_goOn ⟨Nat.le_of_ble_eq_true rfl, Nat.le_of_ble_eq_true rfl⟩) dX3_spans_58 MC_o ⟨_, _, rfl⟩ rfl rfl (Nat.le_of_ble_eq_true rfl) (fun _ => rfl) (fun r u h => kX3_goOn h) (fun r3 t4 => ?_)
        refine g_pop (pc := 61) X dX3_spans_61 rfl ?_
        refine g_iinc (pc := 62) X 1 5 (lv' := [(5, .int (x5 + 1)), (0, .ref mo), (1, .int x1), (2, .int x2), (3, .int x3), (4, .int x4)]) dX3_spans_62 rfl rfl (by decide) rfl ?_
        refine g_goto (pc := 65) X 39 dX3_spans_65 (by decide) ?_
        exact g_lv (pc := 39) (lv' := [(0, .ref mo), (1, .int x1), (2, .int x2), (3, .int x3), (4, .int x4), (5, .int (x5 + 1))]) [1, 2, 3, 4, 5, 0] rfl (ih x1 x2 x3 x4 (x5 + 1) t4)
def fX3_spans_26 : Nat → Int32 → Int32 → Int32 → Int32 → MS → Option (Int32 × MS)
  | 0, _, _, _, _, _ => none
  | n + 1, x1, x2, x3, x4, t => if 4 ≤ x4 then some (x3, t) else gm (fX3_keepAside t) fun _ t2 => fX3_spans_39 (fun a0 a1 a2 a3 a4 => fX3_spans_26 n a0 a1 a2 a3 a4) 1000 x1 x2 x3 x4 0 t2
set_option maxHeartbeats 4000000 in
theorem wX3_spans_26 {rF : Int32} (X : g_X Γ p s m args meth c cX3_spans 6 RX3) (hr : meth.sig.returnType = (Option.some Jvm.ClassFile.FieldType.int)) (n : Nat) : ∀ (x1 : Int32) (x2 : Int32) (x3 : Int32) (x4 : Int32) (t : MS), Wf Γ p l e 5 112 s m args below meth c 6 (m_ι mo ρ sz) v_i rF tF 26 [(0, .ref mo), (1, .int x1), (2, .int x2), (3, .int x3), (4, .int x4)] [] t (fX3_spans_26 n x1 x2 x3 x4 t) := by
  induction n with
  | zero => intro x1 x2 x3 x4 t; exact g_none
  | succ n ih =>
    intro x1 x2 x3 x4 t
    rw [fX3_spans_26]
    refine g_iload (pc := 26) X 4 dX3_spans_26 rfl ?_
    refine g_iconst (pc := 28) X 4 dX3_spans_28 rfl ?_
    refine g_icmp_ge (pc := 29) X 108 dX3_spans_29 (by decide) ?_ ?_
    · refine g_iload_n (pc := 108) X 3 dX3_spans_108 rfl rfl ?_
      exact g_iret (pc := 109) X hr dX3_spans_109
    · refine g_aload_n (pc := 32) X 0 dX3_spans_32 rfl rfl ?_
      refine g_mV_v (pc := 33) X (C := RX3) (y := yX3_keepAside) (As := []) (rest := []) (fr' := 0) (lo' := 0) (fun _ => cwV 0 X.2.2.2.2.1 (lw_V q2005 q2007 qs59 q76 q2008) rfl rfl rfl dmV_X3_keepAside ⟨Nat.le_of_ble_eq_true rfl, Nat.le_of_ble_eq_true rfl⟩) dX3_spans_33 MC_o ⟨_, _, rfl⟩ rfl rfl (Nat.le_of_ble_eq_true rfl) (fun _ => rfl) (fun r u h => kX3_keepAside h) (fun r1 t2 => ?_)
      refine g_iconst (pc := 36) X 0 dX3_spans_36 rfl ?_
      refine g_istore (pc := 37) X (lv' := [(5, .int 0), (0, .ref mo), (1, .int x1), (2, .int x2), (3, .int x3), (4, .int x4)]) dX3_spans_37 (by decide) rfl ?_
      exact g_lv (pc := 39) (lv' := [(0, .ref mo), (1, .int x1), (2, .int x2), (3, .int x3), (4, .int x4), (5, .int 0)]) [1, 2, 3, 4, 5, 0] rfl (wX3_spans_39 X hr (fun a0 a1 a2 a3 a4 => ih a0 a1 a2 a3 a4) 1000 x1 x2 x3 x4 0 t2)
def fX3_spans (x1 : Int32) (x2 : Int32) (t : MS) : Option (Int32 × MS) := gm (fX3_isClock x1 t) fun r1 t2 => if r1 = 0 then some ((-1), t2) else gm (fX3_in x2.toInt64 0 1 t2) fun r3 t4 => if r3 = 0 then some ((-1), t4) else fX3_spans_26 1000 x1 x2 (-4) 0 t4
set_option maxHeartbeats 4000000 in
theorem wX3_spans {rF : Int32} (X : g_X Γ p s m args meth c cX3_spans 6 RX3) (hr : meth.sig.returnType = (Option.some Jvm.ClassFile.FieldType.int)) (x1 : Int32) (x2 : Int32) (t : MS) : Wf Γ p l e 5 112 s m args below meth c 6 (m_ι mo ρ sz) v_i rF tF 0 [(0, .ref mo), (1, .int x1), (2, .int x2)] [] t (fX3_spans x1 x2 t) := by
  unfold fX3_spans
  refine g_aload_n (pc := 0) X 0 dX3_spans_0 rfl rfl ?_
  refine g_iload_n (pc := 1) X 1 dX3_spans_1 rfl rfl ?_
  refine g_mV_i (pc := 2) X (C := RX3) (y := yX3_isClock) (As := [.int x1]) (rest := []) (fr' := 1) (lo' := 25) (fun _ => cwV 1 X.2.2.2.2.1 (lw_V q1786 q1788 qs31 q76 q1789) rfl rfl rfl dmV_X3_isClock ⟨Nat.le_of_ble_eq_true rfl, Nat.le_of_ble_eq_true rfl⟩) dX3_spans_2 MC_o ⟨_, _, rfl⟩ rfl rfl (Nat.le_of_ble_eq_true rfl) (fun _ => rfl) (fun r u h => kX3_isClock h) (fun r1 t2 => ?_)
  refine g_if_eq (pc := 5) X 18 dX3_spans_5 (by decide) ?_ ?_
  · refine g_iconst (pc := 18) X (-1) dX3_spans_18 rfl ?_
    exact g_iret (pc := 19) X hr dX3_spans_19
  · refine g_iload_n (pc := 8) X 2 dX3_spans_8 rfl rfl ?_
    refine g_i2l (pc := 9) X dX3_spans_9 ?_
    refine g_lconst (pc := 10) X 0 dX3_spans_10 rfl ?_
    refine g_lconst (pc := 11) X 1 dX3_spans_11 rfl ?_
    refine g_mS_i (pc := 12) X (y := yX3_in) (As := [.long x2.toInt64, .long 0, .long 1]) (rest := []) (fr' := 0) (lo' := 0) (fun _ => va_cwS 3 X.2.2.2.2.1 (lw_S q1767 q1768 q76 q1769) rfl rfl rfl dmS_X3_in ⟨Nat.le_of_ble_eq_true rfl, Nat.le_of_ble_eq_true rfl⟩) dX3_spans_12 rfl rfl (Nat.le_of_ble_eq_true rfl) (fun _ => rfl) (fun r u h => kX3_in h) (fun r3 t4 => ?_)
    refine g_if_ne (pc := 15) X 20 dX3_spans_15 (by decide) ?_ ?_
    · refine g_bipush (pc := 20) X (-4) dX3_spans_20 rfl ?_
      refine g_istore_n (pc := 22) X (lv' := [(3, .int (-4)), (0, .ref mo), (1, .int x1), (2, .int x2)]) dX3_spans_22 rfl (by decide) rfl ?_
      refine g_iconst (pc := 23) X 0 dX3_spans_23 rfl ?_
      refine g_istore (pc := 24) X (lv' := [(4, .int 0), (3, .int (-4)), (0, .ref mo), (1, .int x1), (2, .int x2)]) dX3_spans_24 (by decide) rfl ?_
      exact g_lv (pc := 26) (lv' := [(0, .ref mo), (1, .int x1), (2, .int x2), (3, .int (-4)), (4, .int 0)]) [2, 3, 4, 1, 0] rfl (wX3_spans_26 X hr 1000 x1 x2 (-4) 0 t4)
    · refine g_iconst (pc := 18) X (-1) dX3_spans_18 rfl ?_
      exact g_iret (pc := 19) X hr dX3_spans_19
theorem kX3_spans {mo : Nat} {ρ : Sg} {sz : Nat} {x1 : Int32} {x2 : Int32} {t : MS} {r : Int32} {u : MS} (h : fX3_spans x1 x2 t = some (r, u)) : g_C Γ l yX3_spans cX3_spans 6 (Option.some Jvm.ClassFile.FieldType.int) 5 112 [.ref mo, .int x1, .int x2] (MC mo t ρ) sz v_i r (m_ι mo ρ sz u) :=
  g_met [.ref mo, .int x1, .int x2] (by decide) (Nat.le_of_ble_eq_true rfl) h rfl (fun p e s m args below meth c X hr hn => wX3_spans X hr x1 x2 t)
def fX3_areClocks (x1 : Int32) (t : MS) : Option (Int32 × MS) := gm (fX3_in x1.toInt64 0 (((1 <<< ((t.1 3) &&& 31)) - 1).toInt64) t) fun r1 t2 => if r1 = 0 ∨ r1 = 1 then some (r1, t2) else none
set_option maxHeartbeats 4000000 in
theorem wX3_areClocks {rF : Int32} (X : g_X Γ p s m args meth c cX3_areClocks 2 RX3) (hr : meth.sig.returnType = (Option.some Jvm.ClassFile.FieldType.boolean)) (x1 : Int32) (t : MS) : Wf Γ p l e 1 25 s m args below meth c 2 (m_ι mo ρ sz) v_i rF tF 0 [(0, .ref mo), (1, .int x1)] [] t (fX3_areClocks x1 t) := by
  unfold fX3_areClocks
  refine g_iload_n (pc := 0) X 1 dX3_areClocks_0 rfl rfl ?_
  refine g_i2l (pc := 1) X dX3_areClocks_1 ?_
  refine g_lconst (pc := 2) X 0 dX3_areClocks_2 rfl ?_
  refine g_iconst (pc := 3) X 1 dX3_areClocks_3 rfl ?_
  refine g_aload_n (pc := 4) X 0 dX3_areClocks_4 rfl rfl ?_
  refine mg_get (pc := 5) X fo_X3_72 dX3_areClocks_5 rfl ?_
  refine g_ishl (pc := 8) X dX3_areClocks_8 ?_
  refine g_iconst (pc := 9) X 1 dX3_areClocks_9 rfl ?_
  refine g_isub (pc := 10) X dX3_areClocks_10 ?_
  refine g_i2l (pc := 11) X dX3_areClocks_11 ?_
  refine g_mS_i (pc := 12) X (y := yX3_in) (As := [.long x1.toInt64, .long 0, .long (((1 <<< ((t.1 3) &&& 31)) - 1).toInt64)]) (rest := []) (fr' := 0) (lo' := 0) (fun _ => va_cwS 3 X.2.2.2.2.1 (lw_S q1767 q1768 q76 q1769) rfl rfl rfl dmS_X3_in ⟨Nat.le_of_ble_eq_true rfl, Nat.le_of_ble_eq_true rfl⟩) dX3_areClocks_12 rfl rfl (Nat.le_of_ble_eq_true rfl) (fun _ => rfl) (fun r u h => kX3_in h) (fun r1 t2 => ?_)
  exact g_bret (pc := 15) X hr dX3_areClocks_15
theorem kX3_areClocks {mo : Nat} {ρ : Sg} {sz : Nat} {x1 : Int32} {t : MS} {r : Int32} {u : MS} (h : fX3_areClocks x1 t = some (r, u)) : g_C Γ l yX3_areClocks cX3_areClocks 2 (Option.some Jvm.ClassFile.FieldType.boolean) 1 25 [.ref mo, .int x1] (MC mo t ρ) sz v_i r (m_ι mo ρ sz u) :=
  g_met [.ref mo, .int x1] (by decide) (Nat.le_of_ble_eq_true rfl) h rfl (fun p e s m args below meth c X hr hn => wX3_areClocks X hr x1 t)
def fX3_has (x0 : Int32) (x1 : Int32) (t : MS) : Option (Int32 × MS) := if (x0 >>> (x1 &&& 31)) &&& 1 = 1 then some (1, t) else some (0, t)
set_option maxHeartbeats 4000000 in
theorem wX3_has {rF : Int32} (X : g_X Γ p s m args meth c cX3_has 2 RX3) (hr : meth.sig.returnType = (Option.some Jvm.ClassFile.FieldType.boolean)) (x0 : Int32) (x1 : Int32) (t : MS) : Wf Γ p l e 0 0 s m args below meth c 2 (m_ι mo ρ sz) v_i rF tF 0 [(0, .int x0), (1, .int x1)] [] t (fX3_has x0 x1 t) := by
  unfold fX3_has
  refine g_iload_n (pc := 0) X 0 dX3_has_0 rfl rfl ?_
  refine g_iload_n (pc := 1) X 1 dX3_has_1 rfl rfl ?_
  refine g_ishr (pc := 2) X dX3_has_2 ?_
  refine g_iconst (pc := 3) X 1 dX3_has_3 rfl ?_
  refine g_iand (pc := 4) X dX3_has_4 ?_
  refine g_iconst (pc := 5) X 1 dX3_has_5 rfl ?_
  refine g_icmp_ne (pc := 6) X 13 dX3_has_6 (by decide) ?_ ?_
  · refine g_iconst (pc := 13) X 0 dX3_has_13 rfl ?_
    exact g_zret (pc := 14) X hr rfl dX3_has_14
  · refine g_iconst (pc := 9) X 1 dX3_has_9 rfl ?_
    refine g_goto (pc := 10) X 14 dX3_has_10 (by decide) ?_
    exact g_zret (pc := 14) X hr rfl dX3_has_14
theorem kX3_has {mo : Nat} {ρ : Sg} {sz : Nat} {x0 : Int32} {x1 : Int32} {t : MS} {r : Int32} {u : MS} (h : fX3_has x0 x1 t = some (r, u)) : g_C Γ l yX3_has cX3_has 2 (Option.some Jvm.ClassFile.FieldType.boolean) 0 0 [.int x0, .int x1] (MC mo t ρ) sz v_i r (m_ι mo ρ sz u) :=
  g_met [.int x0, .int x1] (by decide) (Nat.le_of_ble_eq_true rfl) h rfl (fun p e s m args below meth c X hr hn => wX3_has X hr x0 x1 t)
def fX3_struck_98 (kc47 : Int32 → Int32 → Int32 → Int32 → Int32 → Int32 → Int32 → MS → Option (Int32 × MS)) (kc64 : Int32 → Int32 → Int32 → Int32 → Int32 → Int32 → Int32 → Int32 → Int32 → MS → Option (Int32 × MS)) (x1 : Int32) (x2 : Int32) (x3 : Int32) (x4 : Int32) (x5 : Int32) (x6 : Int32) (x7 : Int32) (x9 : Int32) (s0 : Int32) (s1 : Int32) (t : MS) : Option (Int32 × MS) := lt (s1 + s0) fun y1 => kc64 x1 x2 x3 x4 x5 x6 x7 y1 (x9 + 1) t
set_option maxHeartbeats 4000000 in
theorem wX3_struck_98 {rF : Int32} (X : g_X Γ p s m args meth c cX3_struck 10 RX3) (hr : meth.sig.returnType = (Option.some Jvm.ClassFile.FieldType.int)) {kc47 : Int32 → Int32 → Int32 → Int32 → Int32 → Int32 → Int32 → MS → Option (Int32 × MS)} (hk47 : ∀ (x1 : Int32) (x2 : Int32) (x3 : Int32) (x4 : Int32) (x5 : Int32) (x6 : Int32) (x7 : Int32) (t : MS), Wf Γ p l e 3 63 s m args below meth c 10 (m_ι mo ρ sz) v_i rF tF 47 [(0, .ref mo), (1, .int x1), (2, .int x2), (3, .int x3), (4, .int x4), (5, .int x5), (6, .int x6), (7, .int x7)] [] t (kc47 x1 x2 x3 x4 x5 x6 x7 t)) {kc64 : Int32 → Int32 → Int32 → Int32 → Int32 → Int32 → Int32 → Int32 → Int32 → MS → Option (Int32 × MS)} (hk64 : ∀ (x1 : Int32) (x2 : Int32) (x3 : Int32) (x4 : Int32) (x5 : Int32) (x6 : Int32) (x7 : Int32) (x8 : Int32) (x9 : Int32) (t : MS), Wf Γ p l e 3 63 s m args below meth c 10 (m_ι mo ρ sz) v_i rF tF 64 [(0, .ref mo), (1, .int x1), (2, .int x2), (3, .int x3), (4, .int x4), (5, .int x5), (6, .int x6), (7, .int x7), (8, .int x8), (9, .int x9)] [] t (kc64 x1 x2 x3 x4 x5 x6 x7 x8 x9 t)) (x1 : Int32) (x2 : Int32) (x3 : Int32) (x4 : Int32) (x5 : Int32) (x6 : Int32) (x7 : Int32) (x9 : Int32) (s0 : Int32) (s1 : Int32) (t : MS) : Wf Γ p l e 3 63 s m args below meth c 10 (m_ι mo ρ sz) v_i rF tF 98 [(0, .ref mo), (1, .int x1), (2, .int x2), (3, .int x3), (4, .int x4), (5, .int x5), (6, .int x6), (7, .int x7), (9, .int x9)] [.int s0, .int s1] t (fX3_struck_98 kc47 kc64 x1 x2 x3 x4 x5 x6 x7 x9 s0 s1 t) := by
  unfold fX3_struck_98
  refine g_iadd (pc := 98) X dX3_struck_98 ?_
  refine g_lti (pc := 99) (fun y1 => ?_)
  refine g_istore (pc := 99) X (lv' := [(8, .int y1), (0, .ref mo), (1, .int x1), (2, .int x2), (3, .int x3), (4, .int x4), (5, .int x5), (6, .int x6), (7, .int x7), (9, .int x9)]) dX3_struck_99 (by decide) rfl ?_
  refine g_iinc (pc := 101) X 1 9 (lv' := [(9, .int (x9 + 1)), (8, .int y1), (0, .ref mo), (1, .int x1), (2, .int x2), (3, .int x3), (4, .int x4), (5, .int x5), (6, .int x6), (7, .int x7)]) dX3_struck_101 rfl rfl (by decide) rfl ?_
  refine g_goto (pc := 104) X 64 dX3_struck_104 (by decide) ?_
  exact g_lv (pc := 64) (lv' := [(0, .ref mo), (1, .int x1), (2, .int x2), (3, .int x3), (4, .int x4), (5, .int x5), (6, .int x6), (7, .int x7), (8, .int y1), (9, .int (x9 + 1))]) [2, 3, 4, 5, 6, 7, 8, 9, 1, 0] rfl (hk64 x1 x2 x3 x4 x5 x6 x7 y1 (x9 + 1) t)
def fX3_struck_146 (kc47 : Int32 → Int32 → Int32 → Int32 → Int32 → Int32 → Int32 → MS → Option (Int32 × MS)) (x1 : Int32) (x2 : Int32) (x3 : Int32) (x4 : Int32) (x5 : Int32) (x6 : Int32) (x7 : Int32) (t : MS) : Option (Int32 × MS) := kc47 x1 x2 x3 x4 x5 x6 (x7 + 1) t
set_option maxHeartbeats 4000000 in
theorem wX3_struck_146 {rF : Int32} (X : g_X Γ p s m args meth c cX3_struck 10 RX3) (hr : meth.sig.returnType = (Option.some Jvm.ClassFile.FieldType.int)) {kc47 : Int32 → Int32 → Int32 → Int32 → Int32 → Int32 → Int32 → MS → Option (Int32 × MS)} (hk47 : ∀ (x1 : Int32) (x2 : Int32) (x3 : Int32) (x4 : Int32) (x5 : Int32) (x6 : Int32) (x7 : Int32) (t : MS), Wf Γ p l e 3 63 s m args below meth c 10 (m_ι mo ρ sz) v_i rF tF 47 [(0, .ref mo), (1, .int x1), (2, .int x2), (3, .int x3), (4, .int x4), (5, .int x5), (6, .int x6), (7, .int x7)] [] t (kc47 x1 x2 x3 x4 x5 x6 x7 t)) (x1 : Int32) (x2 : Int32) (x3 : Int32) (x4 : Int32) (x5 : Int32) (x6 : Int32) (x7 : Int32) (t : MS) : Wf Γ p l e 3 63 s m args below meth c 10 (m_ι mo ρ sz) v_i rF tF 146 [(0, .ref mo), (1, .int x1), (2, .int x2), (3, .int x3), (4, .int x4), (5, .int x5), (6, .int x6), (7, .int x7)] [] t (fX3_struck_146 kc47 x1 x2 x3 x4 x5 x6 x7 t) := by
  unfold fX3_struck_146
  refine g_iinc (pc := 146) X 1 7 (lv' := [(7, .int (x7 + 1)), (0, .ref mo), (1, .int x1), (2, .int x2), (3, .int x3), (4, .int x4), (5, .int x5), (6, .int x6)]) dX3_struck_146 rfl rfl (by decide) rfl ?_
  refine g_goto (pc := 149) X 47 dX3_struck_149 (by decide) ?_
  exact g_lv (pc := 47) (lv' := [(0, .ref mo), (1, .int x1), (2, .int x2), (3, .int x3), (4, .int x4), (5, .int x5), (6, .int x6), (7, .int (x7 + 1))]) [1, 2, 3, 4, 5, 6, 7, 0] rfl (hk47 x1 x2 x3 x4 x5 x6 (x7 + 1) t)
def fX3_struck_134 (kc47 : Int32 → Int32 → Int32 → Int32 → Int32 → Int32 → Int32 → MS → Option (Int32 × MS)) (x1 : Int32) (x2 : Int32) (x3 : Int32) (x4 : Int32) (x6 : Int32) (x7 : Int32) (s0 : Int32) (t : MS) : Option (Int32 × MS) := lt (x6 &&& x7) fun y1 => fX3_struck_146 kc47 x1 x2 x3 (x4 + 1) s0 y1 x7 t
set_option maxHeartbeats 4000000 in
theorem wX3_struck_134 {rF : Int32} (X : g_X Γ p s m args meth c cX3_struck 10 RX3) (hr : meth.sig.returnType = (Option.some Jvm.ClassFile.FieldType.int)) {kc47 : Int32 → Int32 → Int32 → Int32 → Int32 → Int32 → Int32 → MS → Option (Int32 × MS)} (hk47 : ∀ (x1 : Int32) (x2 : Int32) (x3 : Int32) (x4 : Int32) (x5 : Int32) (x6 : Int32) (x7 : Int32) (t : MS), Wf Γ p l e 3 63 s m args below meth c 10 (m_ι mo ρ sz) v_i rF tF 47 [(0, .ref mo), (1, .int x1), (2, .int x2), (3, .int x3), (4, .int x4), (5, .int x5), (6, .int x6), (7, .int x7)] [] t (kc47 x1 x2 x3 x4 x5 x6 x7 t)) (x1 : Int32) (x2 : Int32) (x3 : Int32) (x4 : Int32) (x6 : Int32) (x7 : Int32) (s0 : Int32) (t : MS) : Wf Γ p l e 3 63 s m args below meth c 10 (m_ι mo ρ sz) v_i rF tF 134 [(0, .ref mo), (1, .int x1), (2, .int x2), (3, .int x3), (4, .int x4), (6, .int x6), (7, .int x7)] [.int s0] t (fX3_struck_134 kc47 x1 x2 x3 x4 x6 x7 s0 t) := by
  unfold fX3_struck_134
  refine g_istore (pc := 134) X (lv' := [(5, .int s0), (0, .ref mo), (1, .int x1), (2, .int x2), (3, .int x3), (4, .int x4), (6, .int x6), (7, .int x7)]) dX3_struck_134 (by decide) rfl ?_
  refine g_iinc (pc := 136) X 1 5 (lv' := [(4, .int (x4 + 1)), (5, .int s0), (0, .ref mo), (1, .int x1), (2, .int x2), (3, .int x3), (6, .int x6), (7, .int x7)]) dX3_struck_136 rfl rfl (by decide) rfl ?_
  refine g_iload (pc := 139) X 6 dX3_struck_139 rfl ?_
  refine g_iload (pc := 141) X 7 dX3_struck_141 rfl ?_
  refine g_iand (pc := 143) X dX3_struck_143 ?_
  refine g_lti (pc := 144) (fun y1 => ?_)
  refine g_istore (pc := 144) X (lv' := [(6, .int y1), (4, .int (x4 + 1)), (5, .int s0), (0, .ref mo), (1, .int x1), (2, .int x2), (3, .int x3), (7, .int x7)]) dX3_struck_144 (by decide) rfl ?_
  exact g_lv (pc := 146) (lv' := [(0, .ref mo), (1, .int x1), (2, .int x2), (3, .int x3), (4, .int (x4 + 1)), (5, .int s0), (6, .int y1), (7, .int x7)]) [3, 4, 5, 6, 1, 2, 0, 7] rfl (wX3_struck_146 X hr hk47 x1 x2 x3 (x4 + 1) s0 y1 x7 t)
def fX3_struck_64 (kc47 : Int32 → Int32 → Int32 → Int32 → Int32 → Int32 → Int32 → MS → Option (Int32 × MS)) : Nat → Int32 → Int32 → Int32 → Int32 → Int32 → Int32 → Int32 → Int32 → Int32 → MS → Option (Int32 × MS)
  | 0, _, _, _, _, _, _, _, _, _, _ => none
  | n + 1, x1, x2, x3, x4, x5, x6, x7, x8, x9, t => if t.1 3 ≤ x9 then if x7 &&& (x1 ^^^ (-1)) = 0 then if x8 = x2 then if x4 = 0 then fX3_struck_134 kc47 x1 x2 x3 x4 x6 x7 x7 t else fX3_struck_134 kc47 x1 x2 x3 x4 x6 x7 x5 t else fX3_struck_146 kc47 x1 x2 x3 x4 x5 x6 x7 t else fX3_struck_146 kc47 x1 x2 x3 x4 x5 x6 x7 t else gm (fX3_has x7 x9 t) fun r1 t2 => if r1 = 0 then fX3_struck_98 kc47 (fun a0 a1 a2 a3 a4 a5 a6 a7 a8 a9 => fX3_struck_64 kc47 n a0 a1 a2 a3 a4 a5 a6 a7 a8 a9) x1 x2 x3 x4 x5 x6 x7 x9 0 x8 t2 else gm (fX3_strikes x9 t2) fun r3 t4 => gm (fX3_strokesOf r3 t4) fun r5 t6 => fX3_struck_98 kc47 (fun a0 a1 a2 a3 a4 a5 a6 a7 a8 a9 => fX3_struck_64 kc47 n a0 a1 a2 a3 a4 a5 a6 a7 a8 a9) x1 x2 x3 x4 x5 x6 x7 x9 r5 x8 t6
set_option maxHeartbeats 4000000 in
theorem wX3_struck_64 {rF : Int32} (X : g_X Γ p s m args meth c cX3_struck 10 RX3) (hr : meth.sig.returnType = (Option.some Jvm.ClassFile.FieldType.int)) {kc47 : Int32 → Int32 → Int32 → Int32 → Int32 → Int32 → Int32 → MS → Option (Int32 × MS)} (hk47 : ∀ (x1 : Int32) (x2 : Int32) (x3 : Int32) (x4 : Int32) (x5 : Int32) (x6 : Int32) (x7 : Int32) (t : MS), Wf Γ p l e 3 63 s m args below meth c 10 (m_ι mo ρ sz) v_i rF tF 47 [(0, .ref mo), (1, .int x1), (2, .int x2), (3, .int x3), (4, .int x4), (5, .int x5), (6, .int x6), (7, .int x7)] [] t (kc47 x1 x2 x3 x4 x5 x6 x7 t)) (n : Nat) : ∀ (x1 : Int32) (x2 : Int32) (x3 : Int32) (x4 : Int32) (x5 : Int32) (x6 : Int32) (x7 : Int32) (x8 : Int32) (x9 : Int32) (t : MS), Wf Γ p l e 3 63 s m args below meth c 10 (m_ι mo ρ sz) v_i rF tF 64 [(0, .ref mo), (1, .int x1), (2, .int x2), (3, .int x3), (4, .int x4), (5, .int x5), (6, .int x6), (7, .int x7), (8, .int x8), (9, .int x9)] [] t (fX3_struck_64 kc47 n x1 x2 x3 x4 x5 x6 x7 x8 x9 t) := by
  induction n with
  | zero => intro x1 x2 x3 x4 x5 x6 x7 x8 x9 t; exact g_none
  | succ n ih =>
    intro x1 x2 x3 x4 x5 x6 x7 x8 x9 t
    rw [fX3_struck_64]
    refine g_iload (pc := 64) X 9 dX3_struck_64 rfl ?_
    refine g_aload_n (pc := 66) X 0 dX3_struck_66 rfl rfl ?_
    refine mg_get (pc := 67) X fo_X3_72 dX3_struck_67 rfl ?_
    refine g_icmp_ge (pc := 70) X 107 dX3_struck_70 (by decide) ?_ ?_
    · refine g_iload (pc := 107) X 7 dX3_struck_107 rfl ?_
      refine g_iload_n (pc := 109) X 1 dX3_struck_109 rfl rfl ?_
      refine g_iconst (pc := 110) X (-1) dX3_struck_110 rfl ?_
      refine g_ixor (pc := 111) X dX3_struck_111 ?_
      refine g_iand (pc := 112) X dX3_struck_112 ?_
      refine g_if_ne (pc := 113) X 146 dX3_struck_113 (by decide) ?_ ?_
      · exact g_lv (pc := 146) (lv' := [(0, .ref mo), (1, .int x1), (2, .int x2), (3, .int x3), (4, .int x4), (5, .int x5), (6, .int x6), (7, .int x7)]) [0, 1, 2, 3, 4, 5, 6, 7] rfl (wX3_struck_146 X hr hk47 x1 x2 x3 x4 x5 x6 x7 t)
      · refine g_iload (pc := 116) X 8 dX3_struck_116 rfl ?_
        refine g_iload_n (pc := 118) X 2 dX3_struck_118 rfl rfl ?_
        refine g_icmp_ne (pc := 119) X 146 dX3_struck_119 (by decide) ?_ ?_
        · exact g_lv (pc := 146) (lv' := [(0, .ref mo), (1, .int x1), (2, .int x2), (3, .int x3), (4, .int x4), (5, .int x5), (6, .int x6), (7, .int x7)]) [0, 1, 2, 3, 4, 5, 6, 7] rfl (wX3_struck_146 X hr hk47 x1 x2 x3 x4 x5 x6 x7 t)
        · refine g_iload (pc := 122) X 4 dX3_struck_122 rfl ?_
          refine g_if_ne (pc := 124) X 132 dX3_struck_124 (by decide) ?_ ?_
          · refine g_iload (pc := 132) X 5 dX3_struck_132 rfl ?_
            exact g_lv (pc := 134) (lv' := [(0, .ref mo), (1, .int x1), (2, .int x2), (3, .int x3), (4, .int x4), (6, .int x6), (7, .int x7)]) [0, 1, 2, 3, 4, 6, 7] rfl (wX3_struck_134 X hr hk47 x1 x2 x3 x4 x6 x7 x5 t)
          · refine g_iload (pc := 127) X 7 dX3_struck_127 rfl ?_
            refine g_goto (pc := 129) X 134 dX3_struck_129 (by decide) ?_
            exact g_lv (pc := 134) (lv' := [(0, .ref mo), (1, .int x1), (2, .int x2), (3, .int x3), (4, .int x4), (6, .int x6), (7, .int x7)]) [0, 1, 2, 3, 4, 6, 7] rfl (wX3_struck_134 X hr hk47 x1 x2 x3 x4 x6 x7 x7 t)
    · refine g_iload (pc := 73) X 8 dX3_struck_73 rfl ?_
      refine g_iload (pc := 75) X 7 dX3_struck_75 rfl ?_
      refine g_iload (pc := 77) X 9 dX3_struck_77 rfl ?_
      refine g_mS_i (pc := 79) X (y := yX3_has) (As := [.int x7, .int x9]) (rest := [.int x8]) (fr' := 0) (lo' := 0) (fun _ => va_cwS 2 X.2.2.2.2.1 (lw_S q2085 q2086 q76 q2087) rfl rfl rfl dmS_X3_has ⟨Nat.le_of_ble_eq_true rfl, Nat.le_of_ble_eq_true rfl⟩) dX3_struck_79 rfl rfl (Nat.le_of_ble_eq_true rfl) (fun _ => rfl) (fun r u h => kX3_has h) (fun r1 t2 => ?_)
      refine g_if_eq (pc := 82) X 97 dX3_struck_82 (by decide) ?_ ?_
      · refine g_iconst (pc := 97) X 0 dX3_struck_97 rfl ?_
        exact g_lv (pc := 98) (lv' := [(0, .ref mo), (1, .int x1), (2, .int x2), (3, .int x3), (4, .int x4), (5, .int x5), (6, .int x6), (7, .int x7), (9, .int x9)]) [0, 1, 2, 3, 4, 5, 6, 7, 9] rfl (wX3_struck_98 X hr hk47 (fun a0 a1 a2 a3 a4 a5 a6 a7 a8 a9 => ih a0 a1 a2 a3 a4 a5 a6 a7 a8 a9) x1 x2 x3 x4 x5 x6 x7 x9 0 x8 t2)
      · refine g_aload_n (pc := 85) X 0 dX3_struck_85 rfl rfl ?_
        refine g_iload (pc := 86) X 9 dX3_struck_86 rfl ?_
        refine g_mV_i (pc := 88) X (C := RX3) (y := yX3_strikes) (As := [.int x9]) (rest := [.int x8]) (fr' := 2) (lo' := 42) (fun _ => cwV 1 X.2.2.2.2.1 (lw_V q1798 q1800 qs34 q76 q1801) rfl rfl rfl dmV_X3_strikes ⟨Nat.le_of_ble_eq_true rfl, Nat.le_of_ble_eq_true rfl⟩) dX3_struck_88 MC_o ⟨_, _, rfl⟩ rfl rfl (Nat.le_of_ble_eq_true rfl) (fun _ => rfl) (fun r u h => kX3_strikes h) (fun r3 t4 => ?_)
        refine g_mS_i (pc := 91) X (y := yX3_strokesOf) (As := [.int r3]) (rest := [.int x8]) (fr' := 0) (lo' := 0) (fun _ => va_cwS 1 X.2.2.2.2.1 (lw_S q1946 q1947 q76 q1948) rfl rfl rfl dmS_X3_strokesOf ⟨Nat.le_of_ble_eq_true rfl, Nat.le_of_ble_eq_true rfl⟩) dX3_struck_91 rfl rfl (Nat.le_of_ble_eq_true rfl) (fun _ => rfl) (fun r u h => kX3_strokesOf h) (fun r5 t6 => ?_)
        refine g_goto (pc := 94) X 98 dX3_struck_94 (by decide) ?_
        exact g_lv (pc := 98) (lv' := [(0, .ref mo), (1, .int x1), (2, .int x2), (3, .int x3), (4, .int x4), (5, .int x5), (6, .int x6), (7, .int x7), (9, .int x9)]) [0, 1, 2, 3, 4, 5, 6, 7, 9] rfl (wX3_struck_98 X hr hk47 (fun a0 a1 a2 a3 a4 a5 a6 a7 a8 a9 => ih a0 a1 a2 a3 a4 a5 a6 a7 a8 a9) x1 x2 x3 x4 x5 x6 x7 x9 r5 x8 t6)
def fX3_struck_47 : Nat → Int32 → Int32 → Int32 → Int32 → Int32 → Int32 → Int32 → MS → Option (Int32 × MS)
  | 0, _, _, _, _, _, _, _, _ => none
  | n + 1, x1, x2, x3, x4, x5, x6, x7, t => if 1 <<< ((t.1 3) &&& 31) ≤ x7 then if x3 = 0 then some (x4, t) else if x4 = 0 then some ((-4), t) else if x3 = 1 then some (x5, t) else some (x6, t) else fX3_struck_64 (fun a0 a1 a2 a3 a4 a5 a6 a7 => fX3_struck_47 n a0 a1 a2 a3 a4 a5 a6 a7) 1000 x1 x2 x3 x4 x5 x6 x7 0 0 t
set_option maxHeartbeats 4000000 in
theorem wX3_struck_47 {rF : Int32} (X : g_X Γ p s m args meth c cX3_struck 10 RX3) (hr : meth.sig.returnType = (Option.some Jvm.ClassFile.FieldType.int)) (n : Nat) : ∀ (x1 : Int32) (x2 : Int32) (x3 : Int32) (x4 : Int32) (x5 : Int32) (x6 : Int32) (x7 : Int32) (t : MS), Wf Γ p l e 3 63 s m args below meth c 10 (m_ι mo ρ sz) v_i rF tF 47 [(0, .ref mo), (1, .int x1), (2, .int x2), (3, .int x3), (4, .int x4), (5, .int x5), (6, .int x6), (7, .int x7)] [] t (fX3_struck_47 n x1 x2 x3 x4 x5 x6 x7 t) := by
  induction n with
  | zero => intro x1 x2 x3 x4 x5 x6 x7 t; exact g_none
  | succ n ih =>
    intro x1 x2 x3 x4 x5 x6 x7 t
    rw [fX3_struck_47]
    refine g_iload (pc := 47) X 7 dX3_struck_47 rfl ?_
    refine g_iconst (pc := 49) X 1 dX3_struck_49 rfl ?_
    refine g_aload_n (pc := 50) X 0 dX3_struck_50 rfl rfl ?_
    refine mg_get (pc := 51) X fo_X3_72 dX3_struck_51 rfl ?_
    refine g_ishl (pc := 54) X dX3_struck_54 ?_
    refine g_icmp_ge (pc := 55) X 152 dX3_struck_55 (by decide) ?_ ?_
    · refine g_iload_n (pc := 152) X 3 dX3_struck_152 rfl rfl ?_
      refine g_if_ne (pc := 153) X 161 dX3_struck_153 (by decide) ?_ ?_
      · refine g_iload (pc := 161) X 4 dX3_struck_161 rfl ?_
        refine g_if_ne (pc := 163) X 171 dX3_struck_163 (by decide) ?_ ?_
        · refine g_iload_n (pc := 171) X 3 dX3_struck_171 rfl rfl ?_
          refine g_iconst (pc := 172) X 1 dX3_struck_172 rfl ?_
          refine g_icmp_ne (pc := 173) X 181 dX3_struck_173 (by decide) ?_ ?_
          · refine g_iload (pc := 181) X 6 dX3_struck_181 rfl ?_
            exact g_iret (pc := 183) X hr dX3_struck_183
          · refine g_iload (pc := 176) X 5 dX3_struck_176 rfl ?_
            refine g_goto (pc := 178) X 183 dX3_struck_178 (by decide) ?_
            exact g_iret (pc := 183) X hr dX3_struck_183
        · refine g_bipush (pc := 166) X (-4) dX3_struck_166 rfl ?_
          refine g_goto (pc := 168) X 183 dX3_struck_168 (by decide) ?_
          exact g_iret (pc := 183) X hr dX3_struck_183
      · refine g_iload (pc := 156) X 4 dX3_struck_156 rfl ?_
        refine g_goto (pc := 158) X 183 dX3_struck_158 (by decide) ?_
        exact g_iret (pc := 183) X hr dX3_struck_183
    · refine g_iconst (pc := 58) X 0 dX3_struck_58 rfl ?_
      refine g_istore (pc := 59) X (lv' := [(8, .int 0), (0, .ref mo), (1, .int x1), (2, .int x2), (3, .int x3), (4, .int x4), (5, .int x5), (6, .int x6), (7, .int x7)]) dX3_struck_59 (by decide) rfl ?_
      refine g_iconst (pc := 61) X 0 dX3_struck_61 rfl ?_
      refine g_istore (pc := 62) X (lv' := [(9, .int 0), (8, .int 0), (0, .ref mo), (1, .int x1), (2, .int x2), (3, .int x3), (4, .int x4), (5, .int x5), (6, .int x6), (7, .int x7)]) dX3_struck_62 (by decide) rfl ?_
      exact g_lv (pc := 64) (lv' := [(0, .ref mo), (1, .int x1), (2, .int x2), (3, .int x3), (4, .int x4), (5, .int x5), (6, .int x6), (7, .int x7), (8, .int 0), (9, .int 0)]) [2, 3, 4, 5, 6, 7, 8, 9, 1, 0] rfl (wX3_struck_64 X hr (fun a0 a1 a2 a3 a4 a5 a6 a7 => ih a0 a1 a2 a3 a4 a5 a6 a7) 1000 x1 x2 x3 x4 x5 x6 x7 0 0 t)
def fX3_struck (x1 : Int32) (x2 : Int32) (x3 : Int32) (t : MS) : Option (Int32 × MS) := gm (fX3_areClocks x1 t) fun r1 t2 => if r1 = 0 then some ((-1), t2) else gm (fX3_in x2.toInt64 1 108 t2) fun r3 t4 => if r3 = 0 then some ((-1), t4) else gm (fX3_in x3.toInt64 0 2 t4) fun r5 t6 => if r5 = 0 then some ((-1), t6) else fX3_struck_47 1000 x1 x2 x3 0 (-4) x1 1 t6
set_option maxHeartbeats 4000000 in
theorem wX3_struck {rF : Int32} (X : g_X Γ p s m args meth c cX3_struck 10 RX3) (hr : meth.sig.returnType = (Option.some Jvm.ClassFile.FieldType.int)) (x1 : Int32) (x2 : Int32) (x3 : Int32) (t : MS) : Wf Γ p l e 3 63 s m args below meth c 10 (m_ι mo ρ sz) v_i rF tF 0 [(0, .ref mo), (1, .int x1), (2, .int x2), (3, .int x3)] [] t (fX3_struck x1 x2 x3 t) := by
  unfold fX3_struck
  refine g_aload_n (pc := 0) X 0 dX3_struck_0 rfl rfl ?_
  refine g_iload_n (pc := 1) X 1 dX3_struck_1 rfl rfl ?_
  refine g_mV_i (pc := 2) X (C := RX3) (y := yX3_areClocks) (As := [.int x1]) (rest := []) (fr' := 1) (lo' := 25) (fun _ => cwV 1 X.2.2.2.2.1 (lw_V q2079 q2081 qs65 q76 q2082) rfl rfl rfl dmV_X3_areClocks ⟨Nat.le_of_ble_eq_true rfl, Nat.le_of_ble_eq_true rfl⟩) dX3_struck_2 MC_o ⟨_, _, rfl⟩ rfl rfl (Nat.le_of_ble_eq_true rfl) (fun _ => rfl) (fun r u h => kX3_areClocks h) (fun r1 t2 => ?_)
  refine g_if_eq (pc := 5) X 32 dX3_struck_5 (by decide) ?_ ?_
  · refine g_iconst (pc := 32) X (-1) dX3_struck_32 rfl ?_
    exact g_iret (pc := 33) X hr dX3_struck_33
  · refine g_iload_n (pc := 8) X 2 dX3_struck_8 rfl rfl ?_
    refine g_i2l (pc := 9) X dX3_struck_9 ?_
    refine g_lconst (pc := 10) X 1 dX3_struck_10 rfl ?_
    refine g_ldc2 (pc := 11) X 108 dX3_struck_11 q2083 ?_
    refine g_mS_i (pc := 14) X (y := yX3_in) (As := [.long x2.toInt64, .long 1, .long 108]) (rest := []) (fr' := 0) (lo' := 0) (fun _ => va_cwS 3 X.2.2.2.2.1 (lw_S q1767 q1768 q76 q1769) rfl rfl rfl dmS_X3_in ⟨Nat.le_of_ble_eq_true rfl, Nat.le_of_ble_eq_true rfl⟩) dX3_struck_14 rfl rfl (Nat.le_of_ble_eq_true rfl) (fun _ => rfl) (fun r u h => kX3_in h) (fun r3 t4 => ?_)
    refine g_if_eq (pc := 17) X 32 dX3_struck_17 (by decide) ?_ ?_
    · refine g_iconst (pc := 32) X (-1) dX3_struck_32 rfl ?_
      exact g_iret (pc := 33) X hr dX3_struck_33
    · refine g_iload_n (pc := 20) X 3 dX3_struck_20 rfl rfl ?_
      refine g_i2l (pc := 21) X dX3_struck_21 ?_
      refine g_lconst (pc := 22) X 0 dX3_struck_22 rfl ?_
      refine g_ldc2 (pc := 23) X 2 dX3_struck_23 q2084 ?_
      refine g_mS_i (pc := 26) X (y := yX3_in) (As := [.long x3.toInt64, .long 0, .long 2]) (rest := []) (fr' := 0) (lo' := 0) (fun _ => va_cwS 3 X.2.2.2.2.1 (lw_S q1767 q1768 q76 q1769) rfl rfl rfl dmS_X3_in ⟨Nat.le_of_ble_eq_true rfl, Nat.le_of_ble_eq_true rfl⟩) dX3_struck_26 rfl rfl (Nat.le_of_ble_eq_true rfl) (fun _ => rfl) (fun r u h => kX3_in h) (fun r5 t6 => ?_)
      refine g_if_ne (pc := 29) X 34 dX3_struck_29 (by decide) ?_ ?_
      · refine g_iconst (pc := 34) X 0 dX3_struck_34 rfl ?_
        refine g_istore (pc := 35) X (lv' := [(4, .int 0), (0, .ref mo), (1, .int x1), (2, .int x2), (3, .int x3)]) dX3_struck_35 (by decide) rfl ?_
        refine g_bipush (pc := 37) X (-4) dX3_struck_37 rfl ?_
        refine g_istore (pc := 39) X (lv' := [(5, .int (-4)), (4, .int 0), (0, .ref mo), (1, .int x1), (2, .int x2), (3, .int x3)]) dX3_struck_39 (by decide) rfl ?_
        refine g_iload_n (pc := 41) X 3 dX3_struck_41 rfl rfl ?_
        refine g_istore (pc := 42) X (lv' := [(6, .int x1), (5, .int (-4)), (4, .int 0), (0, .ref mo), (1, .int x1), (2, .int x2), (3, .int x3)]) dX3_struck_42 (by decide) rfl ?_
        refine g_iconst (pc := 44) X 1 dX3_struck_44 rfl ?_
        refine g_istore (pc := 45) X (lv' := [(7, .int 1), (6, .int x1), (5, .int (-4)), (4, .int 0), (0, .ref mo), (1, .int x1), (2, .int x2), (3, .int x3)]) dX3_struck_45 (by decide) rfl ?_
        exact g_lv (pc := 47) (lv' := [(0, .ref mo), (1, .int x1), (2, .int x2), (3, .int x3), (4, .int 0), (5, .int (-4)), (6, .int x1), (7, .int 1)]) [4, 5, 6, 7, 3, 2, 1, 0] rfl (wX3_struck_47 X hr 1000 x1 x2 x3 0 (-4) x1 1 t6)
      · refine g_iconst (pc := 32) X (-1) dX3_struck_32 rfl ?_
        exact g_iret (pc := 33) X hr dX3_struck_33
theorem kX3_struck {mo : Nat} {ρ : Sg} {sz : Nat} {x1 : Int32} {x2 : Int32} {x3 : Int32} {t : MS} {r : Int32} {u : MS} (h : fX3_struck x1 x2 x3 t = some (r, u)) : g_C Γ l yX3_struck cX3_struck 10 (Option.some Jvm.ClassFile.FieldType.int) 3 63 [.ref mo, .int x1, .int x2, .int x3] (MC mo t ρ) sz v_i r (m_ι mo ρ sz u) :=
  g_met [.ref mo, .int x1, .int x2, .int x3] (by decide) (Nat.le_of_ble_eq_true rfl) h rfl (fun p e s m args below meth c X hr hn => wX3_struck X hr x1 x2 x3 t)
def fX3_bet (x1 : Int32) (x2 : Int32) (t : MS) : Option (Int32 × MS) := gm (fX3_isClock x1 t) fun r1 t2 => if r1 = 0 then some ((-1), t2) else gm (fX3_in x2.toInt64 1 999 t2) fun r3 t4 => if r3 = 0 then some ((-1), t4) else if t4.1 10 = 6 then some ((-3), t4) else mast t4 4 6 (t4.1 10) x1 fun t5 => mast t5 5 6 (t5.1 10) x2 fun t6 => lt (setI t6 10 ((t6.1 10) + 1)) fun t7 => some ((t7.1 10) - 1, t7)
set_option maxHeartbeats 4000000 in
theorem wX3_bet {rF : Int32} (X : g_X Γ p s m args meth c cX3_bet 3 RX3) (hr : meth.sig.returnType = (Option.some Jvm.ClassFile.FieldType.int)) (x1 : Int32) (x2 : Int32) (t : MS) : Wf Γ p l e 2 46 s m args below meth c 3 (m_ι mo ρ sz) v_i rF tF 0 [(0, .ref mo), (1, .int x1), (2, .int x2)] [] t (fX3_bet x1 x2 t) := by
  unfold fX3_bet
  refine g_aload_n (pc := 0) X 0 dX3_bet_0 rfl rfl ?_
  refine g_iload_n (pc := 1) X 1 dX3_bet_1 rfl rfl ?_
  refine g_mV_i (pc := 2) X (C := RX3) (y := yX3_isClock) (As := [.int x1]) (rest := []) (fr' := 1) (lo' := 25) (fun _ => cwV 1 X.2.2.2.2.1 (lw_V q1786 q1788 qs31 q76 q1789) rfl rfl rfl dmV_X3_isClock ⟨Nat.le_of_ble_eq_true rfl, Nat.le_of_ble_eq_true rfl⟩) dX3_bet_2 MC_o ⟨_, _, rfl⟩ rfl rfl (Nat.le_of_ble_eq_true rfl) (fun _ => rfl) (fun r u h => kX3_isClock h) (fun r1 t2 => ?_)
  refine g_if_eq (pc := 5) X 20 dX3_bet_5 (by decide) ?_ ?_
  · refine g_iconst (pc := 20) X (-1) dX3_bet_20 rfl ?_
    exact g_iret (pc := 21) X hr dX3_bet_21
  · refine g_iload_n (pc := 8) X 2 dX3_bet_8 rfl rfl ?_
    refine g_i2l (pc := 9) X dX3_bet_9 ?_
    refine g_lconst (pc := 10) X 1 dX3_bet_10 rfl ?_
    refine g_ldc2 (pc := 11) X 999 dX3_bet_11 q2092 ?_
    refine g_mS_i (pc := 14) X (y := yX3_in) (As := [.long x2.toInt64, .long 1, .long 999]) (rest := []) (fr' := 0) (lo' := 0) (fun _ => va_cwS 3 X.2.2.2.2.1 (lw_S q1767 q1768 q76 q1769) rfl rfl rfl dmS_X3_in ⟨Nat.le_of_ble_eq_true rfl, Nat.le_of_ble_eq_true rfl⟩) dX3_bet_14 rfl rfl (Nat.le_of_ble_eq_true rfl) (fun _ => rfl) (fun r u h => kX3_in h) (fun r3 t4 => ?_)
    refine g_if_ne (pc := 17) X 22 dX3_bet_17 (by decide) ?_ ?_
    · refine g_aload_n (pc := 22) X 0 dX3_bet_22 rfl rfl ?_
      refine mg_get (pc := 23) X fo_X3_93 dX3_bet_23 rfl ?_
      refine g_bipush (pc := 26) X 6 dX3_bet_26 rfl ?_
      refine g_icmp_ne (pc := 28) X 34 dX3_bet_28 (by decide) ?_ ?_
      · refine g_aload_n (pc := 34) X 0 dX3_bet_34 rfl rfl ?_
        refine mg_get (pc := 35) X fo_X3_32 dX3_bet_35 rfl ?_
        refine g_aload_n (pc := 38) X 0 dX3_bet_38 rfl rfl ?_
        refine mg_get (pc := 39) X fo_X3_93 dX3_bet_39 rfl ?_
        refine g_iload_n (pc := 42) X 1 dX3_bet_42 rfl rfl ?_
        refine mg_ast (pc := 43) X (j := 4) dX3_bet_43 (by decide) rfl (fun t5 => ?_)
        refine g_aload_n (pc := 44) X 0 dX3_bet_44 rfl rfl ?_
        refine mg_get (pc := 45) X fo_X3_35 dX3_bet_45 rfl ?_
        refine g_aload_n (pc := 48) X 0 dX3_bet_48 rfl rfl ?_
        refine mg_get (pc := 49) X fo_X3_93 dX3_bet_49 rfl ?_
        refine g_iload_n (pc := 52) X 2 dX3_bet_52 rfl rfl ?_
        refine mg_ast (pc := 53) X (j := 5) dX3_bet_53 (by decide) rfl (fun t6 => ?_)
        refine g_aload_n (pc := 54) X 0 dX3_bet_54 rfl rfl ?_
        refine g_dup (pc := 55) X dX3_bet_55 rfl ?_
        refine mg_get (pc := 56) X fo_X3_93 dX3_bet_56 rfl ?_
        refine g_iconst (pc := 59) X 1 dX3_bet_59 rfl ?_
        refine g_iadd (pc := 60) X dX3_bet_60 ?_
        refine mg_put (pc := 61) X fp_X3_93 dX3_bet_61 rfl rfl (by decide) rfl (fun t7 => ?_)
        refine g_aload_n (pc := 64) X 0 dX3_bet_64 rfl rfl ?_
        refine mg_get (pc := 65) X fo_X3_93 dX3_bet_65 rfl ?_
        refine g_iconst (pc := 68) X 1 dX3_bet_68 rfl ?_
        refine g_isub (pc := 69) X dX3_bet_69 ?_
        exact g_iret (pc := 70) X hr dX3_bet_70
      · refine g_bipush (pc := 31) X (-3) dX3_bet_31 rfl ?_
        exact g_iret (pc := 33) X hr dX3_bet_33
    · refine g_iconst (pc := 20) X (-1) dX3_bet_20 rfl ?_
      exact g_iret (pc := 21) X hr dX3_bet_21
theorem kX3_bet {mo : Nat} {ρ : Sg} {sz : Nat} {x1 : Int32} {x2 : Int32} {t : MS} {r : Int32} {u : MS} (h : fX3_bet x1 x2 t = some (r, u)) : g_C Γ l yX3_bet cX3_bet 3 (Option.some Jvm.ClassFile.FieldType.int) 2 46 [.ref mo, .int x1, .int x2] (MC mo t ρ) sz v_i r (m_ι mo ρ sz u) :=
  g_met [.ref mo, .int x1, .int x2] (by decide) (Nat.le_of_ble_eq_true rfl) h rfl (fun p e s m args below meth c X hr hn => wX3_bet X hr x1 x2 t)
def fX3_pays_80 (kc34 : Int32 → Int32 → Int32 → Int32 → Int32 → MS → Option (Int32 × MS)) (x1 : Int32) (x2 : Int32) (x3 : Int32) (x5 : Int32) (s0 : Int32) (s1 : Int32) (t : MS) : Option (Int32 × MS) := lt (s1 + s0) fun y1 => kc34 x1 x2 x3 y1 (x5 + 1) t
set_option maxHeartbeats 4000000 in
theorem wX3_pays_80 {rF : Int32} (X : g_X Γ p s m args meth c cX3_pays 6 RX3) (hr : meth.sig.returnType = (Option.some Jvm.ClassFile.FieldType.int)) {kc34 : Int32 → Int32 → Int32 → Int32 → Int32 → MS → Option (Int32 × MS)} (hk34 : ∀ (x1 : Int32) (x2 : Int32) (x3 : Int32) (x4 : Int32) (x5 : Int32) (t : MS), Wf Γ p l e 2 46 s m args below meth c 6 (m_ι mo ρ sz) v_i rF tF 34 [(0, .ref mo), (1, .int x1), (2, .int x2), (3, .int x3), (4, .int x4), (5, .int x5)] [] t (kc34 x1 x2 x3 x4 x5 t)) (x1 : Int32) (x2 : Int32) (x3 : Int32) (x5 : Int32) (s0 : Int32) (s1 : Int32) (t : MS) : Wf Γ p l e 2 46 s m args below meth c 6 (m_ι mo ρ sz) v_i rF tF 80 [(0, .ref mo), (1, .int x1), (2, .int x2), (3, .int x3), (5, .int x5)] [.int s0, .int s1] t (fX3_pays_80 kc34 x1 x2 x3 x5 s0 s1 t) := by
  unfold fX3_pays_80
  refine g_iadd (pc := 80) X dX3_pays_80 ?_
  refine g_lti (pc := 81) (fun y1 => ?_)
  refine g_istore (pc := 81) X (lv' := [(4, .int y1), (0, .ref mo), (1, .int x1), (2, .int x2), (3, .int x3), (5, .int x5)]) dX3_pays_81 (by decide) rfl ?_
  refine g_iinc (pc := 83) X 1 5 (lv' := [(5, .int (x5 + 1)), (4, .int y1), (0, .ref mo), (1, .int x1), (2, .int x2), (3, .int x3)]) dX3_pays_83 rfl rfl (by decide) rfl ?_
  refine g_goto (pc := 86) X 34 dX3_pays_86 (by decide) ?_
  exact g_lv (pc := 34) (lv' := [(0, .ref mo), (1, .int x1), (2, .int x2), (3, .int x3), (4, .int y1), (5, .int (x5 + 1))]) [2, 3, 4, 5, 1, 0] rfl (hk34 x1 x2 x3 y1 (x5 + 1) t)
def fX3_pays_34 : Nat → Int32 → Int32 → Int32 → Int32 → Int32 → MS → Option (Int32 × MS)
  | 0, _, _, _, _, _, _ => none
  | n + 1, x1, x2, x3, x4, x5, t => if t.1 10 ≤ x5 then if x4 = 0 then mald t 5 6 x1 fun v6 => some (v6, t) else mald t 4 6 x1 fun v1 => gm (fX3_has x2 v1 t) fun r2 t3 => if r2 = 0 then some (0, t3) else mald t3 5 6 x1 fun v4 => if x4 = 0 then none else some ((x3 * v4) / x4, t3) else mald t 5 6 x5 fun v7 => lt (x3 + v7) fun y8 => mald t 4 6 x5 fun v9 => gm (fX3_has x2 v9 t) fun r10 t11 => if r10 = 0 then fX3_pays_80 (fun a0 a1 a2 a3 a4 a5 => fX3_pays_34 n a0 a1 a2 a3 a4 a5) x1 x2 y8 x5 0 x4 t11 else mald t11 5 6 x5 fun v12 => fX3_pays_80 (fun a0 a1 a2 a3 a4 a5 => fX3_pays_34 n a0 a1 a2 a3 a4 a5) x1 x2 y8 x5 v12 x4 t11
set_option maxHeartbeats 4000000 in
theorem wX3_pays_34 {rF : Int32} (X : g_X Γ p s m args meth c cX3_pays 6 RX3) (hr : meth.sig.returnType = (Option.some Jvm.ClassFile.FieldType.int)) (n : Nat) : ∀ (x1 : Int32) (x2 : Int32) (x3 : Int32) (x4 : Int32) (x5 : Int32) (t : MS), Wf Γ p l e 2 46 s m args below meth c 6 (m_ι mo ρ sz) v_i rF tF 34 [(0, .ref mo), (1, .int x1), (2, .int x2), (3, .int x3), (4, .int x4), (5, .int x5)] [] t (fX3_pays_34 n x1 x2 x3 x4 x5 t) := by
  induction n with
  | zero => intro x1 x2 x3 x4 x5 t; exact g_none
  | succ n ih =>
    intro x1 x2 x3 x4 x5 t
    rw [fX3_pays_34]
    refine g_iload (pc := 34) X 5 dX3_pays_34 rfl ?_
    refine g_aload_n (pc := 36) X 0 dX3_pays_36 rfl rfl ?_
    refine mg_get (pc := 37) X fo_X3_93 dX3_pays_37 rfl ?_
    refine g_icmp_ge (pc := 40) X 89 dX3_pays_40 (by decide) ?_ ?_
    · refine g_iload (pc := 89) X 4 dX3_pays_89 rfl ?_
      refine g_if_ne (pc := 91) X 103 dX3_pays_91 (by decide) ?_ ?_
      · refine g_iload_n (pc := 103) X 2 dX3_pays_103 rfl rfl ?_
        refine g_aload_n (pc := 104) X 0 dX3_pays_104 rfl rfl ?_
        refine mg_get (pc := 105) X fo_X3_32 dX3_pays_105 rfl ?_
        refine g_iload_n (pc := 108) X 1 dX3_pays_108 rfl rfl ?_
        refine mg_ald (pc := 109) X (j := 4) dX3_pays_109 (by decide) rfl (fun v1 => ?_)
        refine g_mS_i (pc := 110) X (y := yX3_has) (As := [.int x2, .int v1]) (rest := []) (fr' := 0) (lo' := 0) (fun _ => va_cwS 2 X.2.2.2.2.1 (lw_S q2085 q2086 q76 q2087) rfl rfl rfl dmS_X3_has ⟨Nat.le_of_ble_eq_true rfl, Nat.le_of_ble_eq_true rfl⟩) dX3_pays_110 rfl rfl (Nat.le_of_ble_eq_true rfl) (fun _ => rfl) (fun r u h => kX3_has h) (fun r2 t3 => ?_)
        refine g_if_eq (pc := 113) X 130 dX3_pays_113 (by decide) ?_ ?_
        · refine g_iconst (pc := 130) X 0 dX3_pays_130 rfl ?_
          exact g_iret (pc := 131) X hr dX3_pays_131
        · refine g_iload_n (pc := 116) X 3 dX3_pays_116 rfl rfl ?_
          refine g_aload_n (pc := 117) X 0 dX3_pays_117 rfl rfl ?_
          refine mg_get (pc := 118) X fo_X3_35 dX3_pays_118 rfl ?_
          refine g_iload_n (pc := 121) X 1 dX3_pays_121 rfl rfl ?_
          refine mg_ald (pc := 122) X (j := 5) dX3_pays_122 (by decide) rfl (fun v4 => ?_)
          refine g_imul (pc := 123) X dX3_pays_123 ?_
          refine g_iload (pc := 124) X 4 dX3_pays_124 rfl ?_
          refine g_no (pc := 126) (fun hn5 => ?_)
          refine g_idiv (pc := 126) X dX3_pays_126 hn5 ?_
          refine g_goto (pc := 127) X 131 dX3_pays_127 (by decide) ?_
          exact g_iret (pc := 131) X hr dX3_pays_131
      · refine g_aload_n (pc := 94) X 0 dX3_pays_94 rfl rfl ?_
        refine mg_get (pc := 95) X fo_X3_35 dX3_pays_95 rfl ?_
        refine g_iload_n (pc := 98) X 1 dX3_pays_98 rfl rfl ?_
        refine mg_ald (pc := 99) X (j := 5) dX3_pays_99 (by decide) rfl (fun v6 => ?_)
        refine g_goto (pc := 100) X 131 dX3_pays_100 (by decide) ?_
        exact g_iret (pc := 131) X hr dX3_pays_131
    · refine g_iload_n (pc := 43) X 3 dX3_pays_43 rfl rfl ?_
      refine g_aload_n (pc := 44) X 0 dX3_pays_44 rfl rfl ?_
      refine mg_get (pc := 45) X fo_X3_35 dX3_pays_45 rfl ?_
      refine g_iload (pc := 48) X 5 dX3_pays_48 rfl ?_
      refine mg_ald (pc := 50) X (j := 5) dX3_pays_50 (by decide) rfl (fun v7 => ?_)
      refine g_iadd (pc := 51) X dX3_pays_51 ?_
      refine g_lti (pc := 52) (fun y8 => ?_)
      refine g_istore_n (pc := 52) X (lv' := [(3, .int y8), (0, .ref mo), (1, .int x1), (2, .int x2), (4, .int x4), (5, .int x5)]) dX3_pays_52 rfl (by decide) rfl ?_
      refine g_iload (pc := 53) X 4 dX3_pays_53 rfl ?_
      refine g_iload_n (pc := 55) X 3 dX3_pays_55 rfl rfl ?_
      refine g_aload_n (pc := 56) X 1 dX3_pays_56 rfl rfl ?_
      refine mg_get (pc := 57) X fo_X3_32 dX3_pays_57 rfl ?_
      refine g_iload (pc := 60) X 5 dX3_pays_60 rfl ?_
      refine mg_ald (pc := 62) X (j := 4) dX3_pays_62 (by decide) rfl (fun v9 => ?_)
      refine g_mS_i (pc := 63) X (y := yX3_has) (As := [.int x2, .int v9]) (rest := [.int x4]) (fr' := 0) (lo' := 0) (fun _ => va_cwS 2 X.2.2.2.2.1 (lw_S q2085 q2086 q76 q2087) rfl rfl rfl dmS_X3_has ⟨Nat.le_of_ble_eq_true rfl, Nat.le_of_ble_eq_true rfl⟩) dX3_pays_63 rfl rfl (Nat.le_of_ble_eq_true rfl) (fun _ => rfl) (fun r u h => kX3_has h) (fun r10 t11 => ?_)
      refine g_if_eq (pc := 66) X 79 dX3_pays_66 (by decide) ?_ ?_
      · refine g_iconst (pc := 79) X 0 dX3_pays_79 rfl ?_
        exact g_lv (pc := 80) (lv' := [(0, .ref mo), (1, .int x1), (2, .int x2), (3, .int y8), (5, .int x5)]) [1, 2, 3, 0, 5] rfl (wX3_pays_80 X hr (fun a0 a1 a2 a3 a4 a5 => ih a0 a1 a2 a3 a4 a5) x1 x2 y8 x5 0 x4 t11)
      · refine g_aload_n (pc := 69) X 1 dX3_pays_69 rfl rfl ?_
        refine mg_get (pc := 70) X fo_X3_35 dX3_pays_70 rfl ?_
        refine g_iload (pc := 73) X 5 dX3_pays_73 rfl ?_
        refine mg_ald (pc := 75) X (j := 5) dX3_pays_75 (by decide) rfl (fun v12 => ?_)
        refine g_goto (pc := 76) X 80 dX3_pays_76 (by decide) ?_
        exact g_lv (pc := 80) (lv' := [(0, .ref mo), (1, .int x1), (2, .int x2), (3, .int y8), (5, .int x5)]) [1, 2, 3, 0, 5] rfl (wX3_pays_80 X hr (fun a0 a1 a2 a3 a4 a5 => ih a0 a1 a2 a3 a4 a5) x1 x2 y8 x5 v12 x4 t11)
def fX3_pays (x1 : Int32) (x2 : Int32) (t : MS) : Option (Int32 × MS) := gm (fX3_in x1.toInt64 0 (((t.1 10) - 1).toInt64) t) fun r1 t2 => if r1 = 0 then some ((-1), t2) else gm (fX3_areClocks x2 t2) fun r3 t4 => if r3 = 0 then some ((-1), t4) else fX3_pays_34 1000 x1 x2 0 0 0 t4
set_option maxHeartbeats 4000000 in
theorem wX3_pays {rF : Int32} (X : g_X Γ p s m args meth c cX3_pays 6 RX3) (hr : meth.sig.returnType = (Option.some Jvm.ClassFile.FieldType.int)) (x1 : Int32) (x2 : Int32) (t : MS) : Wf Γ p l e 2 46 s m args below meth c 6 (m_ι mo ρ sz) v_i rF tF 0 [(0, .ref mo), (1, .int x1), (2, .int x2)] [] t (fX3_pays x1 x2 t) := by
  unfold fX3_pays
  refine g_iload_n (pc := 0) X 1 dX3_pays_0 rfl rfl ?_
  refine g_i2l (pc := 1) X dX3_pays_1 ?_
  refine g_lconst (pc := 2) X 0 dX3_pays_2 rfl ?_
  refine g_aload_n (pc := 3) X 0 dX3_pays_3 rfl rfl ?_
  refine mg_get (pc := 4) X fo_X3_93 dX3_pays_4 rfl ?_
  refine g_iconst (pc := 7) X 1 dX3_pays_7 rfl ?_
  refine g_isub (pc := 8) X dX3_pays_8 ?_
  refine g_i2l (pc := 9) X dX3_pays_9 ?_
  refine g_mS_i (pc := 10) X (y := yX3_in) (As := [.long x1.toInt64, .long 0, .long (((t.1 10) - 1).toInt64)]) (rest := []) (fr' := 0) (lo' := 0) (fun _ => va_cwS 3 X.2.2.2.2.1 (lw_S q1767 q1768 q76 q1769) rfl rfl rfl dmS_X3_in ⟨Nat.le_of_ble_eq_true rfl, Nat.le_of_ble_eq_true rfl⟩) dX3_pays_10 rfl rfl (Nat.le_of_ble_eq_true rfl) (fun _ => rfl) (fun r u h => kX3_in h) (fun r1 t2 => ?_)
  refine g_if_eq (pc := 13) X 24 dX3_pays_13 (by decide) ?_ ?_
  · refine g_iconst (pc := 24) X (-1) dX3_pays_24 rfl ?_
    exact g_iret (pc := 25) X hr dX3_pays_25
  · refine g_aload_n (pc := 16) X 0 dX3_pays_16 rfl rfl ?_
    refine g_iload_n (pc := 17) X 2 dX3_pays_17 rfl rfl ?_
    refine g_mV_i (pc := 18) X (C := RX3) (y := yX3_areClocks) (As := [.int x2]) (rest := []) (fr' := 1) (lo' := 25) (fun _ => cwV 1 X.2.2.2.2.1 (lw_V q2079 q2081 qs65 q76 q2082) rfl rfl rfl dmV_X3_areClocks ⟨Nat.le_of_ble_eq_true rfl, Nat.le_of_ble_eq_true rfl⟩) dX3_pays_18 MC_o ⟨_, _, rfl⟩ rfl rfl (Nat.le_of_ble_eq_true rfl) (fun _ => rfl) (fun r u h => kX3_areClocks h) (fun r3 t4 => ?_)
    refine g_if_ne (pc := 21) X 26 dX3_pays_21 (by decide) ?_ ?_
    · refine g_iconst (pc := 26) X 0 dX3_pays_26 rfl ?_
      refine g_istore_n (pc := 27) X (lv' := [(3, .int 0), (0, .ref mo), (1, .int x1), (2, .int x2)]) dX3_pays_27 rfl (by decide) rfl ?_
      refine g_iconst (pc := 28) X 0 dX3_pays_28 rfl ?_
      refine g_istore (pc := 29) X (lv' := [(4, .int 0), (3, .int 0), (0, .ref mo), (1, .int x1), (2, .int x2)]) dX3_pays_29 (by decide) rfl ?_
      refine g_iconst (pc := 31) X 0 dX3_pays_31 rfl ?_
      refine g_istore (pc := 32) X (lv' := [(5, .int 0), (4, .int 0), (3, .int 0), (0, .ref mo), (1, .int x1), (2, .int x2)]) dX3_pays_32 (by decide) rfl ?_
      exact g_lv (pc := 34) (lv' := [(0, .ref mo), (1, .int x1), (2, .int x2), (3, .int 0), (4, .int 0), (5, .int 0)]) [3, 4, 5, 2, 1, 0] rfl (wX3_pays_34 X hr 1000 x1 x2 0 0 0 t4)
    · refine g_iconst (pc := 24) X (-1) dX3_pays_24 rfl ?_
      exact g_iret (pc := 25) X hr dX3_pays_25
theorem kX3_pays {mo : Nat} {ρ : Sg} {sz : Nat} {x1 : Int32} {x2 : Int32} {t : MS} {r : Int32} {u : MS} (h : fX3_pays x1 x2 t = some (r, u)) : g_C Γ l yX3_pays cX3_pays 6 (Option.some Jvm.ClassFile.FieldType.int) 2 46 [.ref mo, .int x1, .int x2] (MC mo t ρ) sz v_i r (m_ι mo ρ sz u) :=
  g_met [.ref mo, .int x1, .int x2] (by decide) (Nat.le_of_ble_eq_true rfl) h rfl (fun p e s m args below meth c X hr hn => wX3_pays X hr x1 x2 t)
def fX3_settle (t : MS) : Option (Int32 × MS) := lt (setI t 10 0) fun t1 => some (t.1 10, t1)
set_option maxHeartbeats 4000000 in
theorem wX3_settle {rF : Int32} (X : g_X Γ p s m args meth c cX3_settle 2 RX3) (hr : meth.sig.returnType = (Option.some Jvm.ClassFile.FieldType.int)) (t : MS) : Wf Γ p l e 0 0 s m args below meth c 2 (m_ι mo ρ sz) v_i rF tF 0 [(0, .ref mo)] [] t (fX3_settle  t) := by
  unfold fX3_settle
  refine g_aload_n (pc := 0) X 0 dX3_settle_0 rfl rfl ?_
  refine mg_get (pc := 1) X fo_X3_93 dX3_settle_1 rfl ?_
  refine g_istore_n (pc := 4) X (lv' := [(1, .int (t.1 10)), (0, .ref mo)]) dX3_settle_4 rfl (by decide) rfl ?_
  refine g_aload_n (pc := 5) X 1 dX3_settle_5 rfl rfl ?_
  refine g_iconst (pc := 6) X 0 dX3_settle_6 rfl ?_
  refine mg_put (pc := 7) X fp_X3_93 dX3_settle_7 rfl rfl (by decide) rfl (fun t1 => ?_)
  refine g_iload_n (pc := 10) X 0 dX3_settle_10 rfl rfl ?_
  exact g_iret (pc := 11) X hr dX3_settle_11
theorem kX3_settle {mo : Nat} {ρ : Sg} {sz : Nat} {t : MS} {r : Int32} {u : MS} (h : fX3_settle  t = some (r, u)) : g_C Γ l yX3_settle cX3_settle 2 (Option.some Jvm.ClassFile.FieldType.int) 0 0 [.ref mo] (MC mo t ρ) sz v_i r (m_ι mo ρ sz u) :=
  g_met [.ref mo] (by decide) (Nat.le_of_ble_eq_true rfl) h rfl (fun p e s m args below meth c X hr hn => wX3_settle X hr  t)
def fX3_lots_36 : Nat → Int32 → Int32 → Int32 → MS → Option (Int32 × MS)
  | 0, _, _, _, _ => none
  | n + 1, x1, x2, x3, t => if x1 ≤ x3 then some (x2, t) else lt (setI t 13 ((((((t.1 13).toInt64) * 1103515245) + 12345) &&& 2147483647).toInt32)) fun t1 => gm (fX3_goOn (((t1.1 13) / 65536) - ((t1.1 13) / 65536) / 4 * 4) t1) fun r2 t3 => lt (x2 + r2) fun y4 => fX3_lots_36 n x1 y4 (x3 + 1) t3
set_option maxHeartbeats 4000000 in
theorem wX3_lots_36 {rF : Int32} (X : g_X Γ p s m args meth c cX3_lots 4 RX3) (hr : meth.sig.returnType = (Option.some Jvm.ClassFile.FieldType.int)) (n : Nat) : ∀ (x1 : Int32) (x2 : Int32) (x3 : Int32) (t : MS), Wf Γ p l e 5 112 s m args below meth c 4 (m_ι mo ρ sz) v_i rF tF 36 [(0, .ref mo), (1, .int x1), (2, .int x2), (3, .int x3)] [] t (fX3_lots_36 n x1 x2 x3 t) := by
  induction n with
  | zero => intro x1 x2 x3 t; exact g_none
  | succ n ih =>
    intro x1 x2 x3 t
    rw [fX3_lots_36]
    refine g_iload_n (pc := 36) X 3 dX3_lots_36 rfl rfl ?_
    refine g_iload_n (pc := 37) X 1 dX3_lots_37 rfl rfl ?_
    refine g_icmp_ge (pc := 38) X 86 dX3_lots_38 (by decide) ?_ ?_
    · refine g_iload_n (pc := 86) X 2 dX3_lots_86 rfl rfl ?_
      exact g_iret (pc := 87) X hr dX3_lots_87
    · refine g_aload_n (pc := 41) X 0 dX3_lots_41 rfl rfl ?_
      refine g_aload_n (pc := 42) X 0 dX3_lots_42 rfl rfl ?_
      refine mg_get (pc := 43) X fo_X3_41 dX3_lots_43 rfl ?_
      refine g_i2l (pc := 46) X dX3_lots_46 ?_
      refine g_ldc2 (pc := 47) X 1103515245 dX3_lots_47 q2106 ?_
      refine g_lmul (pc := 50) X dX3_lots_50 ?_
      refine g_ldc2 (pc := 51) X 12345 dX3_lots_51 q2107 ?_
      refine g_ladd (pc := 54) X dX3_lots_54 ?_
      refine g_ldc2 (pc := 55) X 2147483647 dX3_lots_55 q2108 ?_
      refine g_land (pc := 58) X dX3_lots_58 ?_
      refine g_l2i (pc := 59) X dX3_lots_59 ?_
      refine mg_put (pc := 60) X fp_X3_41 dX3_lots_60 rfl rfl (by decide) rfl (fun t1 => ?_)
      refine g_iload_n (pc := 63) X 2 dX3_lots_63 rfl rfl ?_
      refine g_aload_n (pc := 64) X 0 dX3_lots_64 rfl rfl ?_
      refine g_aload_n (pc := 65) X 0 dX3_lots_65 rfl rfl ?_
      refine mg_get (pc := 66) X fo_X3_41 dX3_lots_66 rfl ?_
      refine g_ldc_w (pc := 69) X 65536 dX3_lots_69 q2109 ?_
      refine g_idiv (pc := 72) X dX3_lots_72 (by decide) ?_
      refine g_iconst (pc := 73) X 4 dX3_lots_73 rfl ?_
      refine g_irem (pc := 74) X dX3_lots_74 (by decide) ?_
      refine g_mV_i (pc := 75) X (C := RX3) (y := yX3_goOn) (As := [.int (((t1.1 13) / 65536) - ((t1.1 13) / 65536) / 4 * 4)]) (rest := [.int x2]) (fr' := 4) (lo' := 86) (fun _ => cwV 1 X.2.2.2.2.1 (lw_V q1934 q1936 qs51 q76 q1937) rfl rfl rfl dmV_X3_goOn ⟨Nat.le_of_ble_eq_true rfl, Nat.le_of_ble_eq_true rfl⟩) dX3_lots_75 MC_o ⟨_, _, rfl⟩ rfl rfl (Nat.le_of_ble_eq_true rfl) (fun _ => rfl) (fun r u h => kX3_goOn h) (fun r2 t3 => ?_)
      refine g_iadd (pc := 78) X dX3_lots_78 ?_
      refine g_lti (pc := 79) (fun y4 => ?_)
      refine g_istore_n (pc := 79) X (lv' := [(2, .int y4), (0, .ref mo), (1, .int x1), (3, .int x3)]) dX3_lots_79 rfl (by decide) rfl ?_
      refine g_iinc (pc := 80) X 1 3 (lv' := [(3, .int (x3 + 1)), (2, .int y4), (0, .ref mo), (1, .int x1)]) dX3_lots_80 rfl rfl (by decide) rfl ?_
      refine g_goto (pc := 83) X 36 dX3_lots_83 (by decide) ?_
      exact g_lv (pc := 36) (lv' := [(0, .ref mo), (1, .int x1), (2, .int y4), (3, .int (x3 + 1))]) [2, 3, 1, 0] rfl (ih x1 y4 (x3 + 1) t3)
def fX3_lots (x1 : Int32) (t : MS) : Option (Int32 × MS) := gm (fX3_in x1.toInt64 1 60 t) fun r1 t2 => if r1 = 0 then some ((-1), t2) else mald t2 0 63 60 fun v3 => if v3 + x1 ≤ 9999 then fX3_lots_36 1000 x1 0 0 t2 else some ((-3), t2)
set_option maxHeartbeats 4000000 in
theorem wX3_lots {rF : Int32} (X : g_X Γ p s m args meth c cX3_lots 4 RX3) (hr : meth.sig.returnType = (Option.some Jvm.ClassFile.FieldType.int)) (x1 : Int32) (t : MS) : Wf Γ p l e 5 112 s m args below meth c 4 (m_ι mo ρ sz) v_i rF tF 0 [(0, .ref mo), (1, .int x1)] [] t (fX3_lots x1 t) := by
  unfold fX3_lots
  refine g_iload_n (pc := 0) X 1 dX3_lots_0 rfl rfl ?_
  refine g_i2l (pc := 1) X dX3_lots_1 ?_
  refine g_lconst (pc := 2) X 1 dX3_lots_2 rfl ?_
  refine g_ldc2 (pc := 3) X 60 dX3_lots_3 q2105 ?_
  refine g_mS_i (pc := 6) X (y := yX3_in) (As := [.long x1.toInt64, .long 1, .long 60]) (rest := []) (fr' := 0) (lo' := 0) (fun _ => va_cwS 3 X.2.2.2.2.1 (lw_S q1767 q1768 q76 q1769) rfl rfl rfl dmS_X3_in ⟨Nat.le_of_ble_eq_true rfl, Nat.le_of_ble_eq_true rfl⟩) dX3_lots_6 rfl rfl (Nat.le_of_ble_eq_true rfl) (fun _ => rfl) (fun r u h => kX3_in h) (fun r1 t2 => ?_)
  refine g_if_ne (pc := 9) X 14 dX3_lots_9 (by decide) ?_ ?_
  · refine g_aload_n (pc := 14) X 0 dX3_lots_14 rfl rfl ?_
    refine mg_get (pc := 15) X fo_X3_7 dX3_lots_15 rfl ?_
    refine g_bipush (pc := 18) X 60 dX3_lots_18 rfl ?_
    refine mg_ald (pc := 20) X (j := 0) dX3_lots_20 (by decide) rfl (fun v3 => ?_)
    refine g_iload_n (pc := 21) X 1 dX3_lots_21 rfl rfl ?_
    refine g_iadd (pc := 22) X dX3_lots_22 ?_
    refine g_sipush (pc := 23) X 9999 dX3_lots_23 rfl ?_
    refine g_icmp_le (pc := 26) X 32 dX3_lots_26 (by decide) ?_ ?_
    · refine g_iconst (pc := 32) X 0 dX3_lots_32 rfl ?_
      refine g_istore_n (pc := 33) X (lv' := [(2, .int 0), (0, .ref mo), (1, .int x1)]) dX3_lots_33 rfl (by decide) rfl ?_
      refine g_iconst (pc := 34) X 0 dX3_lots_34 rfl ?_
      refine g_istore_n (pc := 35) X (lv' := [(3, .int 0), (2, .int 0), (0, .ref mo), (1, .int x1)]) dX3_lots_35 rfl (by decide) rfl ?_
      exact g_lv (pc := 36) (lv' := [(0, .ref mo), (1, .int x1), (2, .int 0), (3, .int 0)]) [2, 3, 1, 0] rfl (wX3_lots_36 X hr 1000 x1 0 0 t2)
    · refine g_bipush (pc := 29) X (-3) dX3_lots_29 rfl ?_
      exact g_iret (pc := 31) X hr dX3_lots_31
  · refine g_iconst (pc := 12) X (-1) dX3_lots_12 rfl ?_
    exact g_iret (pc := 13) X hr dX3_lots_13
theorem kX3_lots {mo : Nat} {ρ : Sg} {sz : Nat} {x1 : Int32} {t : MS} {r : Int32} {u : MS} (h : fX3_lots x1 t = some (r, u)) : g_C Γ l yX3_lots cX3_lots 4 (Option.some Jvm.ClassFile.FieldType.int) 5 112 [.ref mo, .int x1] (MC mo t ρ) sz v_i r (m_ι mo ρ sz u) :=
  g_met [.ref mo, .int x1] (by decide) (Nat.le_of_ble_eq_true rfl) h rfl (fun p e s m args below meth c X hr hn => wX3_lots X hr x1 t)
def fX3_seed (x1 : Int32) (t : MS) : Option (Int32 × MS) := if 0 ≤ x1 then lt (setI t 13 x1) fun t1 => some (t.1 13, t1) else some ((-1), t)
set_option maxHeartbeats 4000000 in
theorem wX3_seed {rF : Int32} (X : g_X Γ p s m args meth c cX3_seed 3 RX3) (hr : meth.sig.returnType = (Option.some Jvm.ClassFile.FieldType.int)) (x1 : Int32) (t : MS) : Wf Γ p l e 0 0 s m args below meth c 3 (m_ι mo ρ sz) v_i rF tF 0 [(0, .ref mo), (1, .int x1)] [] t (fX3_seed x1 t) := by
  unfold fX3_seed
  refine g_iload_n (pc := 0) X 1 dX3_seed_0 rfl rfl ?_
  refine g_if_ge (pc := 1) X 6 dX3_seed_1 (by decide) ?_ ?_
  · refine g_aload_n (pc := 6) X 0 dX3_seed_6 rfl rfl ?_
    refine mg_get (pc := 7) X fo_X3_41 dX3_seed_7 rfl ?_
    refine g_istore_n (pc := 10) X (lv' := [(2, .int (t.1 13)), (0, .ref mo), (1, .int x1)]) dX3_seed_10 rfl (by decide) rfl ?_
    refine g_aload_n (pc := 11) X 1 dX3_seed_11 rfl rfl ?_
    refine g_iload_n (pc := 12) X 2 dX3_seed_12 rfl rfl ?_
    refine mg_put (pc := 13) X fp_X3_41 dX3_seed_13 rfl rfl (by decide) rfl (fun t1 => ?_)
    refine g_iload_n (pc := 16) X 0 dX3_seed_16 rfl rfl ?_
    exact g_iret (pc := 17) X hr dX3_seed_17
  · refine g_iconst (pc := 4) X (-1) dX3_seed_4 rfl ?_
    exact g_iret (pc := 5) X hr dX3_seed_5
theorem kX3_seed {mo : Nat} {ρ : Sg} {sz : Nat} {x1 : Int32} {t : MS} {r : Int32} {u : MS} (h : fX3_seed x1 t = some (r, u)) : g_C Γ l yX3_seed cX3_seed 3 (Option.some Jvm.ClassFile.FieldType.int) 0 0 [.ref mo, .int x1] (MC mo t ρ) sz v_i r (m_ι mo ρ sz u) :=
  g_met [.ref mo, .int x1] (by decide) (Nat.le_of_ble_eq_true rfl) h rfl (fun p e s m args below meth c X hr hn => wX3_seed X hr x1 t)
end MP
