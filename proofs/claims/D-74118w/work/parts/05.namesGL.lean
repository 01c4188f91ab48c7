/-! GateLifter -/
set_option maxRecDepth 100000
abbrev wsX10 : List Cond := u_ws RX1 TX1 22
set_option maxRecDepth 100000 in
theorem nmX1 : ∀ a, a < 22 → ∀ b, b < 22 → a ≠ b → (TX1 a).2.1 ≠ (TX1 b).2.1 := by decide +kernel
set_option maxRecDepth 100000 in
theorem tyX1_ok : ∀ k, k < 22 → parseFieldDescriptor (TX1 k).2.2.1 = some (tyX1 k) := by decide +kernel
abbrev cX1_init : ByteArray := prog_1_method_3_code
def yX1_init : MethodName := ⟨RX1, "<init>", "()V"⟩
def dkwX1_init_7 : List UInt8 := [180, 0, 50, 42, 180, 0, 33, 16, 8, 182, 0, 85, 182, 0, 89, 177]
abbrev dktX1_init_7 : List UInt8 := dkwX1_init_7 ++ []
def dkwX1_init_6 : List UInt8 := [162, 0, 22, 42, 180, 0, 43, 27, 187, 0, 30, 89, 183, 0, 32, 83, 132, 1, 1, 167, 255, 234, 42]
abbrev dktX1_init_6 : List UInt8 := dkwX1_init_6 ++ dktX1_init_7
def dkwX1_init_5 : List UInt8 := [183, 0, 73, 181, 0, 74, 42, 2, 181, 0, 78, 42, 16, 16, 188, 10, 181, 0, 82, 3, 60, 27, 16, 8]
abbrev dktX1_init_5 : List UInt8 := dkwX1_init_5 ++ dktX1_init_6
def dkwX1_init_4 : List UInt8 := [187, 0, 60, 89, 183, 0, 62, 181, 0, 63, 42, 16, 16, 188, 10, 181, 0, 67, 42, 187, 0, 71, 89]
abbrev dktX1_init_4 : List UInt8 := dkwX1_init_4 ++ dktX1_init_5
def dkwX1_init_3 : List UInt8 := [187, 0, 47, 89, 183, 0, 49, 181, 0, 54, 42, 187, 0, 47, 89, 183, 0, 49, 181, 0, 57, 42]
abbrev dktX1_init_3 : List UInt8 := dkwX1_init_3 ++ dktX1_init_4
def dkwX1_init_2 : List UInt8 := [181, 0, 40, 42, 16, 8, 189, 0, 30, 181, 0, 43, 42, 187, 0, 47, 89, 183, 0, 49, 181, 0, 50, 42]
abbrev dktX1_init_2 : List UInt8 := dkwX1_init_2 ++ dktX1_init_3
def dkwX1_init_1 : List UInt8 := [181, 0, 33, 42, 187, 0, 30, 89, 183, 0, 32, 181, 0, 37, 42, 187, 0, 30, 89, 183, 0, 32]
abbrev dktX1_init_1 : List UInt8 := dkwX1_init_1 ++ dktX1_init_2
def dkwX1_init_0 : List UInt8 := [42, 183, 0, 17, 42, 187, 0, 23, 89, 183, 0, 25, 181, 0, 26, 42, 187, 0, 30, 89, 183, 0, 32]
abbrev dktX1_init_0 : List UInt8 := dkwX1_init_0 ++ dktX1_init_1
theorem dksX1_init_0 : cX1_init.data.toList.drop 0 = dktX1_init_0 := by decide +kernel
theorem dksX1_init_1 : cX1_init.data.toList.drop 23 = dktX1_init_1 := dk_seg dksX1_init_0 23 rfl rfl
theorem dksX1_init_2 : cX1_init.data.toList.drop 45 = dktX1_init_2 := dk_seg dksX1_init_1 22 rfl rfl
theorem dksX1_init_3 : cX1_init.data.toList.drop 69 = dktX1_init_3 := dk_seg dksX1_init_2 24 rfl rfl
theorem dksX1_init_4 : cX1_init.data.toList.drop 91 = dktX1_init_4 := dk_seg dksX1_init_3 22 rfl rfl
theorem dksX1_init_5 : cX1_init.data.toList.drop 114 = dktX1_init_5 := dk_seg dksX1_init_4 23 rfl rfl
theorem dksX1_init_6 : cX1_init.data.toList.drop 138 = dktX1_init_6 := dk_seg dksX1_init_5 24 rfl rfl
theorem dksX1_init_7 : cX1_init.data.toList.drop 161 = dktX1_init_7 := dk_seg dksX1_init_6 23 rfl rfl
theorem dX1_init_0 : decode cX1_init 0 = .ok (.aload_n 0, 1) := dk_42 (dk_at dksX1_init_0 0 rfl rfl)
theorem dX1_init_1 : decode cX1_init 1 = .ok (.invokespecial 17, 3) := dk_183 0 17 (dk_at dksX1_init_0 1 rfl rfl)
theorem dX1_init_4 : decode cX1_init 4 = .ok (.aload_n 0, 1) := dk_42 (dk_at dksX1_init_0 4 rfl rfl)
theorem dX1_init_5 : decode cX1_init 5 = .ok (.new 23, 3) := dk_187 0 23 (dk_at dksX1_init_0 5 rfl rfl)
theorem dX1_init_8 : decode cX1_init 8 = .ok (.dup, 1) := dk_89 (dk_at dksX1_init_0 8 rfl rfl)
theorem dX1_init_9 : decode cX1_init 9 = .ok (.invokespecial 25, 3) := dk_183 0 25 (dk_at dksX1_init_0 9 rfl rfl)
theorem dX1_init_12 : decode cX1_init 12 = .ok (.putfield 26, 3) := dk_181 0 26 (dk_at dksX1_init_0 12 rfl rfl)
theorem dX1_init_15 : decode cX1_init 15 = .ok (.aload_n 0, 1) := dk_42 (dk_at dksX1_init_0 15 rfl rfl)
theorem dX1_init_16 : decode cX1_init 16 = .ok (.new 30, 3) := dk_187 0 30 (dk_at dksX1_init_0 16 rfl rfl)
theorem dX1_init_19 : decode cX1_init 19 = .ok (.dup, 1) := dk_89 (dk_at dksX1_init_0 19 rfl rfl)
theorem dX1_init_20 : decode cX1_init 20 = .ok (.invokespecial 32, 3) := dk_183 0 32 (dk_at dksX1_init_0 20 rfl rfl)
theorem dX1_init_23 : decode cX1_init 23 = .ok (.putfield 33, 3) := dk_181 0 33 (dk_at dksX1_init_1 0 rfl rfl)
theorem dX1_init_26 : decode cX1_init 26 = .ok (.aload_n 0, 1) := dk_42 (dk_at dksX1_init_1 3 rfl rfl)
theorem dX1_init_27 : decode cX1_init 27 = .ok (.new 30, 3) := dk_187 0 30 (dk_at dksX1_init_1 4 rfl rfl)
theorem dX1_init_30 : decode cX1_init 30 = .ok (.dup, 1) := dk_89 (dk_at dksX1_init_1 7 rfl rfl)
theorem dX1_init_31 : decode cX1_init 31 = .ok (.invokespecial 32, 3) := dk_183 0 32 (dk_at dksX1_init_1 8 rfl rfl)
theorem dX1_init_34 : decode cX1_init 34 = .ok (.putfield 37, 3) := dk_181 0 37 (dk_at dksX1_init_1 11 rfl rfl)
theorem dX1_init_37 : decode cX1_init 37 = .ok (.aload_n 0, 1) := dk_42 (dk_at dksX1_init_1 14 rfl rfl)
theorem dX1_init_38 : decode cX1_init 38 = .ok (.new 30, 3) := dk_187 0 30 (dk_at dksX1_init_1 15 rfl rfl)
theorem dX1_init_41 : decode cX1_init 41 = .ok (.dup, 1) := dk_89 (dk_at dksX1_init_1 18 rfl rfl)
theorem dX1_init_42 : decode cX1_init 42 = .ok (.invokespecial 32, 3) := dk_183 0 32 (dk_at dksX1_init_1 19 rfl rfl)
theorem dX1_init_45 : decode cX1_init 45 = .ok (.putfield 40, 3) := dk_181 0 40 (dk_at dksX1_init_2 0 rfl rfl)
theorem dX1_init_48 : decode cX1_init 48 = .ok (.aload_n 0, 1) := dk_42 (dk_at dksX1_init_2 3 rfl rfl)
theorem dX1_init_49 : decode cX1_init 49 = .ok (.bipush 8, 2) := dk_16 8 (dk_at dksX1_init_2 4 rfl rfl)
theorem dX1_init_51 : decode cX1_init 51 = .ok (.anewarray 30, 3) := dk_189 0 30 (dk_at dksX1_init_2 6 rfl rfl)
theorem dX1_init_54 : decode cX1_init 54 = .ok (.putfield 43, 3) := dk_181 0 43 (dk_at dksX1_init_2 9 rfl rfl)
theorem dX1_init_57 : decode cX1_init 57 = .ok (.aload_n 0, 1) := dk_42 (dk_at dksX1_init_2 12 rfl rfl)
theorem dX1_init_58 : decode cX1_init 58 = .ok (.new 47, 3) := dk_187 0 47 (dk_at dksX1_init_2 13 rfl rfl)
theorem dX1_init_61 : decode cX1_init 61 = .ok (.dup, 1) := dk_89 (dk_at dksX1_init_2 16 rfl rfl)
theorem dX1_init_62 : decode cX1_init 62 = .ok (.invokespecial 49, 3) := dk_183 0 49 (dk_at dksX1_init_2 17 rfl rfl)
theorem dX1_init_65 : decode cX1_init 65 = .ok (.putfield 50, 3) := dk_181 0 50 (dk_at dksX1_init_2 20 rfl rfl)
theorem dX1_init_68 : decode cX1_init 68 = .ok (.aload_n 0, 1) := dk_42 (dk_at dksX1_init_2 23 rfl rfl)
theorem dX1_init_69 : decode cX1_init 69 = .ok (.new 47, 3) := dk_187 0 47 (dk_at dksX1_init_3 0 rfl rfl)
theorem dX1_init_72 : decode cX1_init 72 = .ok (.dup, 1) := dk_89 (dk_at dksX1_init_3 3 rfl rfl)
theorem dX1_init_73 : decode cX1_init 73 = .ok (.invokespecial 49, 3) := dk_183 0 49 (dk_at dksX1_init_3 4 rfl rfl)
theorem dX1_init_76 : decode cX1_init 76 = .ok (.putfield 54, 3) := dk_181 0 54 (dk_at dksX1_init_3 7 rfl rfl)
theorem dX1_init_79 : decode cX1_init 79 = .ok (.aload_n 0, 1) := dk_42 (dk_at dksX1_init_3 10 rfl rfl)
theorem dX1_init_80 : decode cX1_init 80 = .ok (.new 47, 3) := dk_187 0 47 (dk_at dksX1_init_3 11 rfl rfl)
theorem dX1_init_83 : decode cX1_init 83 = .ok (.dup, 1) := dk_89 (dk_at dksX1_init_3 14 rfl rfl)
theorem dX1_init_84 : decode cX1_init 84 = .ok (.invokespecial 49, 3) := dk_183 0 49 (dk_at dksX1_init_3 15 rfl rfl)
theorem dX1_init_87 : decode cX1_init 87 = .ok (.putfield 57, 3) := dk_181 0 57 (dk_at dksX1_init_3 18 rfl rfl)
theorem dX1_init_90 : decode cX1_init 90 = .ok (.aload_n 0, 1) := dk_42 (dk_at dksX1_init_3 21 rfl rfl)
theorem dX1_init_91 : decode cX1_init 91 = .ok (.new 60, 3) := dk_187 0 60 (dk_at dksX1_init_4 0 rfl rfl)
theorem dX1_init_94 : decode cX1_init 94 = .ok (.dup, 1) := dk_89 (dk_at dksX1_init_4 3 rfl rfl)
theorem dX1_init_95 : decode cX1_init 95 = .ok (.invokespecial 62, 3) := dk_183 0 62 (dk_at dksX1_init_4 4 rfl rfl)
theorem dX1_init_98 : decode cX1_init 98 = .ok (.putfield 63, 3) := dk_181 0 63 (dk_at dksX1_init_4 7 rfl rfl)
theorem dX1_init_101 : decode cX1_init 101 = .ok (.aload_n 0, 1) := dk_42 (dk_at dksX1_init_4 10 rfl rfl)
theorem dX1_init_102 : decode cX1_init 102 = .ok (.bipush 16, 2) := dk_16 16 (dk_at dksX1_init_4 11 rfl rfl)
theorem dX1_init_104 : decode cX1_init 104 = .ok (.newarray .int, 2) := dk_188_10 (dk_at dksX1_init_4 13 rfl rfl)
theorem dX1_init_106 : decode cX1_init 106 = .ok (.putfield 67, 3) := dk_181 0 67 (dk_at dksX1_init_4 15 rfl rfl)
theorem dX1_init_109 : decode cX1_init 109 = .ok (.aload_n 0, 1) := dk_42 (dk_at dksX1_init_4 18 rfl rfl)
theorem dX1_init_110 : decode cX1_init 110 = .ok (.new 71, 3) := dk_187 0 71 (dk_at dksX1_init_4 19 rfl rfl)
theorem dX1_init_113 : decode cX1_init 113 = .ok (.dup, 1) := dk_89 (dk_at dksX1_init_4 22 rfl rfl)
theorem dX1_init_114 : decode cX1_init 114 = .ok (.invokespecial 73, 3) := dk_183 0 73 (dk_at dksX1_init_5 0 rfl rfl)
theorem dX1_init_117 : decode cX1_init 117 = .ok (.putfield 74, 3) := dk_181 0 74 (dk_at dksX1_init_5 3 rfl rfl)
theorem dX1_init_120 : decode cX1_init 120 = .ok (.aload_n 0, 1) := dk_42 (dk_at dksX1_init_5 6 rfl rfl)
theorem dX1_init_121 : decode cX1_init 121 = .ok (.iconst (-1), 1) := dk_2 (dk_at dksX1_init_5 7 rfl rfl)
theorem dX1_init_122 : decode cX1_init 122 = .ok (.putfield 78, 3) := dk_181 0 78 (dk_at dksX1_init_5 8 rfl rfl)
theorem dX1_init_125 : decode cX1_init 125 = .ok (.aload_n 0, 1) := dk_42 (dk_at dksX1_init_5 11 rfl rfl)
theorem dX1_init_126 : decode cX1_init 126 = .ok (.bipush 16, 2) := dk_16 16 (dk_at dksX1_init_5 12 rfl rfl)
theorem dX1_init_128 : decode cX1_init 128 = .ok (.newarray .int, 2) := dk_188_10 (dk_at dksX1_init_5 14 rfl rfl)
theorem dX1_init_130 : decode cX1_init 130 = .ok (.putfield 82, 3) := dk_181 0 82 (dk_at dksX1_init_5 16 rfl rfl)
theorem dX1_init_133 : decode cX1_init 133 = .ok (.iconst 0, 1) := dk_3 (dk_at dksX1_init_5 19 rfl rfl)
theorem dX1_init_134 : decode cX1_init 134 = .ok (.istore_n 1, 1) := dk_60 (dk_at dksX1_init_5 20 rfl rfl)
theorem dX1_init_135 : decode cX1_init 135 = .ok (.iload_n 1, 1) := dk_27 (dk_at dksX1_init_5 21 rfl rfl)
theorem dX1_init_136 : decode cX1_init 136 = .ok (.bipush 8, 2) := dk_16 8 (dk_at dksX1_init_5 22 rfl rfl)
theorem dX1_init_138 : decode cX1_init 138 = .ok (.if_icmp .ge 22, 3) := dk_162 0 22 (dk_at dksX1_init_6 0 rfl rfl)
theorem dX1_init_141 : decode cX1_init 141 = .ok (.aload_n 0, 1) := dk_42 (dk_at dksX1_init_6 3 rfl rfl)
theorem dX1_init_142 : decode cX1_init 142 = .ok (.getfield 43, 3) := dk_180 0 43 (dk_at dksX1_init_6 4 rfl rfl)
theorem dX1_init_145 : decode cX1_init 145 = .ok (.iload_n 1, 1) := dk_27 (dk_at dksX1_init_6 7 rfl rfl)
theorem dX1_init_146 : decode cX1_init 146 = .ok (.new 30, 3) := dk_187 0 30 (dk_at dksX1_init_6 8 rfl rfl)
theorem dX1_init_149 : decode cX1_init 149 = .ok (.dup, 1) := dk_89 (dk_at dksX1_init_6 11 rfl rfl)
theorem dX1_init_150 : decode cX1_init 150 = .ok (.invokespecial 32, 3) := dk_183 0 32 (dk_at dksX1_init_6 12 rfl rfl)
theorem dX1_init_153 : decode cX1_init 153 = .ok (.aastore, 1) := dk_83 (dk_at dksX1_init_6 15 rfl rfl)
theorem dX1_init_154 : decode cX1_init 154 = .ok (.iinc 1 1, 3) := dk_132 1 1 (dk_at dksX1_init_6 16 rfl rfl)
theorem dX1_init_157 : decode cX1_init 157 = .ok (.goto (-22), 3) := dk_167 255 234 (dk_at dksX1_init_6 19 rfl rfl)
theorem dX1_init_160 : decode cX1_init 160 = .ok (.aload_n 0, 1) := dk_42 (dk_at dksX1_init_6 22 rfl rfl)
theorem dX1_init_161 : decode cX1_init 161 = .ok (.getfield 50, 3) := dk_180 0 50 (dk_at dksX1_init_7 0 rfl rfl)
theorem dX1_init_164 : decode cX1_init 164 = .ok (.aload_n 0, 1) := dk_42 (dk_at dksX1_init_7 3 rfl rfl)
theorem dX1_init_165 : decode cX1_init 165 = .ok (.getfield 33, 3) := dk_180 0 33 (dk_at dksX1_init_7 4 rfl rfl)
theorem dX1_init_168 : decode cX1_init 168 = .ok (.bipush 8, 2) := dk_16 8 (dk_at dksX1_init_7 7 rfl rfl)
theorem dX1_init_170 : decode cX1_init 170 = .ok (.invokevirtual 85, 3) := dk_182 0 85 (dk_at dksX1_init_7 9 rfl rfl)
theorem dX1_init_173 : decode cX1_init 173 = .ok (.invokevirtual 89, 3) := dk_182 0 89 (dk_at dksX1_init_7 12 rfl rfl)
theorem dX1_init_176 : decode cX1_init 176 = .ok (.return_, 1) := dk_177 (dk_at dksX1_init_7 15 rfl rfl)
abbrev cX1_has : ByteArray := prog_1_method_1_code
def yX1_has : MethodName := ⟨RX1, "has", "(II)Z"⟩
def dkwX1_has_0 : List UInt8 := [26, 27, 122, 4, 126, 4, 160, 0, 7, 4, 167, 0, 4, 3, 172]
abbrev dktX1_has_0 : List UInt8 := dkwX1_has_0 ++ []
theorem dksX1_has_0 : cX1_has.data.toList.drop 0 = dktX1_has_0 := by decide +kernel
theorem dX1_has_0 : decode cX1_has 0 = .ok (.iload_n 0, 1) := dk_26 (dk_at dksX1_has_0 0 rfl rfl)
theorem dX1_has_1 : decode cX1_has 1 = .ok (.iload_n 1, 1) := dk_27 (dk_at dksX1_has_0 1 rfl rfl)
theorem dX1_has_2 : decode cX1_has 2 = .ok (.ishr, 1) := dk_122 (dk_at dksX1_has_0 2 rfl rfl)
theorem dX1_has_3 : decode cX1_has 3 = .ok (.iconst 1, 1) := dk_4 (dk_at dksX1_has_0 3 rfl rfl)
theorem dX1_has_4 : decode cX1_has 4 = .ok (.iand, 1) := dk_126 (dk_at dksX1_has_0 4 rfl rfl)
theorem dX1_has_5 : decode cX1_has 5 = .ok (.iconst 1, 1) := dk_4 (dk_at dksX1_has_0 5 rfl rfl)
theorem dX1_has_6 : decode cX1_has 6 = .ok (.if_icmp .ne 7, 3) := dk_160 0 7 (dk_at dksX1_has_0 6 rfl rfl)
theorem dX1_has_9 : decode cX1_has 9 = .ok (.iconst 1, 1) := dk_4 (dk_at dksX1_has_0 9 rfl rfl)
theorem dX1_has_10 : decode cX1_has 10 = .ok (.goto 4, 3) := dk_167 0 4 (dk_at dksX1_has_0 10 rfl rfl)
theorem dX1_has_13 : decode cX1_has 13 = .ok (.iconst 0, 1) := dk_3 (dk_at dksX1_has_0 13 rfl rfl)
theorem dX1_has_14 : decode cX1_has 14 = .ok (.ireturn, 1) := dk_172 (dk_at dksX1_has_0 14 rfl rfl)
abbrev cX1_gates : ByteArray := prog_1_method_2_code
def yX1_gates : MethodName := ⟨RX1, "gates", "(LGateLifter$Flow;II[I)V"⟩
def dkwX1_gates_8 : List UInt8 := [79, 132, 5, 1, 167, 255, 131, 167, 255, 117, 177]
abbrev dktX1_gates_8 : List UInt8 := dkwX1_gates_8 ++ []
def dkwX1_gates_7 : List UInt8 := [154, 0, 12, 21, 6, 45, 21, 5, 46, 159, 0, 7, 4, 167, 0, 4, 3, 54, 4, 45, 21, 5, 21, 6]
abbrev dktX1_gates_7 : List UInt8 := dkwX1_gates_7 ++ dktX1_gates_8
def dkwX1_gates_6 : List UInt8 := [45, 21, 7, 46, 126, 54, 6, 132, 7, 1, 167, 255, 208, 21, 6, 4, 21, 5, 120, 128, 54, 6, 21, 4]
abbrev dktX1_gates_6 : List UInt8 := dkwX1_gates_6 ++ dktX1_gates_7
def dkwX1_gates_5 : List UInt8 := [184, 0, 7, 153, 0, 28, 42, 21, 7, 185, 0, 13, 2, 0, 21, 5, 184, 0, 7, 153, 0, 12, 21, 6]
abbrev dktX1_gates_5 : List UInt8 := dkwX1_gates_5 ++ dktX1_gates_6
def dkwX1_gates_4 : List UInt8 := [167, 0, 96, 28, 54, 6, 3, 54, 7, 21, 7, 42, 185, 0, 1, 1, 0, 162, 0, 43, 28, 21, 7]
abbrev dktX1_gates_4 : List UInt8 := dkwX1_gates_4 ++ dktX1_gates_5
def dkwX1_gates_3 : List UInt8 := [185, 0, 1, 1, 0, 162, 0, 120, 28, 21, 5, 184, 0, 7, 153, 0, 105, 21, 5, 27, 160, 0, 6]
abbrev dktX1_gates_3 : List UInt8 := dkwX1_gates_3 ++ dktX1_gates_4
def dkwX1_gates_2 : List UInt8 := [132, 4, 1, 167, 255, 211, 4, 54, 4, 21, 4, 153, 0, 140, 3, 54, 4, 3, 54, 5, 21, 5, 42]
abbrev dktX1_gates_2 : List UInt8 := dkwX1_gates_2 ++ dktX1_gates_3
def dkwX1_gates_1 : List UInt8 := [153, 0, 20, 21, 4, 27, 160, 0, 10, 4, 21, 4, 120, 167, 0, 8, 28, 167, 0, 4, 3, 79]
abbrev dktX1_gates_1 : List UInt8 := dkwX1_gates_1 ++ dktX1_gates_2
def dkwX1_gates_0 : List UInt8 := [3, 54, 4, 21, 4, 42, 185, 0, 1, 1, 0, 162, 0, 40, 45, 21, 4, 28, 21, 4, 184, 0, 7]
abbrev dktX1_gates_0 : List UInt8 := dkwX1_gates_0 ++ dktX1_gates_1
theorem dksX1_gates_0 : cX1_gates.data.toList.drop 0 = dktX1_gates_0 := by decide +kernel
theorem dksX1_gates_1 : cX1_gates.data.toList.drop 23 = dktX1_gates_1 := dk_seg dksX1_gates_0 23 rfl rfl
theorem dksX1_gates_2 : cX1_gates.data.toList.drop 45 = dktX1_gates_2 := dk_seg dksX1_gates_1 22 rfl rfl
theorem dksX1_gates_3 : cX1_gates.data.toList.drop 68 = dktX1_gates_3 := dk_seg dksX1_gates_2 23 rfl rfl
theorem dksX1_gates_4 : cX1_gates.data.toList.drop 91 = dktX1_gates_4 := dk_seg dksX1_gates_3 23 rfl rfl
theorem dksX1_gates_5 : cX1_gates.data.toList.drop 114 = dktX1_gates_5 := dk_seg dksX1_gates_4 23 rfl rfl
theorem dksX1_gates_6 : cX1_gates.data.toList.drop 138 = dktX1_gates_6 := dk_seg dksX1_gates_5 24 rfl rfl
theorem dksX1_gates_7 : cX1_gates.data.toList.drop 162 = dktX1_gates_7 := dk_seg dksX1_gates_6 24 rfl rfl
theorem dksX1_gates_8 : cX1_gates.data.toList.drop 186 = dktX1_gates_8 := dk_seg dksX1_gates_7 24 rfl rfl
theorem dX1_gates_0 : decode cX1_gates 0 = .ok (.iconst 0, 1) := dk_3 (dk_at dksX1_gates_0 0 rfl rfl)
theorem dX1_gates_1 : decode cX1_gates 1 = .ok (.istore 4, 2) := dk_54 4 (dk_at dksX1_gates_0 1 rfl rfl)
theorem dX1_gates_3 : decode cX1_gates 3 = .ok (.iload 4, 2) := dk_21 4 (dk_at dksX1_gates_0 3 rfl rfl)
theorem dX1_gates_5 : decode cX1_gates 5 = .ok (.aload_n 0, 1) := dk_42 (dk_at dksX1_gates_0 5 rfl rfl)
theorem dX1_gates_6 : decode cX1_gates 6 = .ok (.invokeinterface 1 1, 5) := by decide +kernel
theorem dX1_gates_11 : decode cX1_gates 11 = .ok (.if_icmp .ge 40, 3) := dk_162 0 40 (dk_at dksX1_gates_0 11 rfl rfl)
theorem dX1_gates_14 : decode cX1_gates 14 = .ok (.aload_n 3, 1) := dk_45 (dk_at dksX1_gates_0 14 rfl rfl)
theorem dX1_gates_15 : decode cX1_gates 15 = .ok (.iload 4, 2) := dk_21 4 (dk_at dksX1_gates_0 15 rfl rfl)
theorem dX1_gates_17 : decode cX1_gates 17 = .ok (.iload_n 2, 1) := dk_28 (dk_at dksX1_gates_0 17 rfl rfl)
theorem dX1_gates_18 : decode cX1_gates 18 = .ok (.iload 4, 2) := dk_21 4 (dk_at dksX1_gates_0 18 rfl rfl)
theorem dX1_gates_20 : decode cX1_gates 20 = .ok (.invokestatic 7, 3) := dk_184 0 7 (dk_at dksX1_gates_0 20 rfl rfl)
theorem dX1_gates_23 : decode cX1_gates 23 = .ok (.ifCond .eq 20, 3) := dk_153 0 20 (dk_at dksX1_gates_1 0 rfl rfl)
theorem dX1_gates_26 : decode cX1_gates 26 = .ok (.iload 4, 2) := dk_21 4 (dk_at dksX1_gates_1 3 rfl rfl)
theorem dX1_gates_28 : decode cX1_gates 28 = .ok (.iload_n 1, 1) := dk_27 (dk_at dksX1_gates_1 5 rfl rfl)
theorem dX1_gates_29 : decode cX1_gates 29 = .ok (.if_icmp .ne 10, 3) := dk_160 0 10 (dk_at dksX1_gates_1 6 rfl rfl)
theorem dX1_gates_32 : decode cX1_gates 32 = .ok (.iconst 1, 1) := dk_4 (dk_at dksX1_gates_1 9 rfl rfl)
theorem dX1_gates_33 : decode cX1_gates 33 = .ok (.iload 4, 2) := dk_21 4 (dk_at dksX1_gates_1 10 rfl rfl)
theorem dX1_gates_35 : decode cX1_gates 35 = .ok (.ishl, 1) := dk_120 (dk_at dksX1_gates_1 12 rfl rfl)
theorem dX1_gates_36 : decode cX1_gates 36 = .ok (.goto 8, 3) := dk_167 0 8 (dk_at dksX1_gates_1 13 rfl rfl)
theorem dX1_gates_39 : decode cX1_gates 39 = .ok (.iload_n 2, 1) := dk_28 (dk_at dksX1_gates_1 16 rfl rfl)
theorem dX1_gates_40 : decode cX1_gates 40 = .ok (.goto 4, 3) := dk_167 0 4 (dk_at dksX1_gates_1 17 rfl rfl)
theorem dX1_gates_43 : decode cX1_gates 43 = .ok (.iconst 0, 1) := dk_3 (dk_at dksX1_gates_1 20 rfl rfl)
theorem dX1_gates_44 : decode cX1_gates 44 = .ok (.iastore, 1) := dk_79 (dk_at dksX1_gates_1 21 rfl rfl)
theorem dX1_gates_45 : decode cX1_gates 45 = .ok (.iinc 4 1, 3) := dk_132 4 1 (dk_at dksX1_gates_2 0 rfl rfl)
theorem dX1_gates_48 : decode cX1_gates 48 = .ok (.goto (-45), 3) := dk_167 255 211 (dk_at dksX1_gates_2 3 rfl rfl)
theorem dX1_gates_51 : decode cX1_gates 51 = .ok (.iconst 1, 1) := dk_4 (dk_at dksX1_gates_2 6 rfl rfl)
theorem dX1_gates_52 : decode cX1_gates 52 = .ok (.istore 4, 2) := dk_54 4 (dk_at dksX1_gates_2 7 rfl rfl)
theorem dX1_gates_54 : decode cX1_gates 54 = .ok (.iload 4, 2) := dk_21 4 (dk_at dksX1_gates_2 9 rfl rfl)
theorem dX1_gates_56 : decode cX1_gates 56 = .ok (.ifCond .eq 140, 3) := dk_153 0 140 (dk_at dksX1_gates_2 11 rfl rfl)
theorem dX1_gates_59 : decode cX1_gates 59 = .ok (.iconst 0, 1) := dk_3 (dk_at dksX1_gates_2 14 rfl rfl)
theorem dX1_gates_60 : decode cX1_gates 60 = .ok (.istore 4, 2) := dk_54 4 (dk_at dksX1_gates_2 15 rfl rfl)
theorem dX1_gates_62 : decode cX1_gates 62 = .ok (.iconst 0, 1) := dk_3 (dk_at dksX1_gates_2 17 rfl rfl)
theorem dX1_gates_63 : decode cX1_gates 63 = .ok (.istore 5, 2) := dk_54 5 (dk_at dksX1_gates_2 18 rfl rfl)
theorem dX1_gates_65 : decode cX1_gates 65 = .ok (.iload 5, 2) := dk_21 5 (dk_at dksX1_gates_2 20 rfl rfl)
theorem dX1_gates_67 : decode cX1_gates 67 = .ok (.aload_n 0, 1) := dk_42 (dk_at dksX1_gates_2 22 rfl rfl)
theorem dX1_gates_68 : decode cX1_gates 68 = .ok (.invokeinterface 1 1, 5) := by decide +kernel
theorem dX1_gates_73 : decode cX1_gates 73 = .ok (.if_icmp .ge 120, 3) := dk_162 0 120 (dk_at dksX1_gates_3 5 rfl rfl)
theorem dX1_gates_76 : decode cX1_gates 76 = .ok (.iload_n 2, 1) := dk_28 (dk_at dksX1_gates_3 8 rfl rfl)
theorem dX1_gates_77 : decode cX1_gates 77 = .ok (.iload 5, 2) := dk_21 5 (dk_at dksX1_gates_3 9 rfl rfl)
theorem dX1_gates_79 : decode cX1_gates 79 = .ok (.invokestatic 7, 3) := dk_184 0 7 (dk_at dksX1_gates_3 11 rfl rfl)
theorem dX1_gates_82 : decode cX1_gates 82 = .ok (.ifCond .eq 105, 3) := dk_153 0 105 (dk_at dksX1_gates_3 14 rfl rfl)
theorem dX1_gates_85 : decode cX1_gates 85 = .ok (.iload 5, 2) := dk_21 5 (dk_at dksX1_gates_3 17 rfl rfl)
theorem dX1_gates_87 : decode cX1_gates 87 = .ok (.iload_n 1, 1) := dk_27 (dk_at dksX1_gates_3 19 rfl rfl)
theorem dX1_gates_88 : decode cX1_gates 88 = .ok (.if_icmp .ne 6, 3) := dk_160 0 6 (dk_at dksX1_gates_3 20 rfl rfl)
theorem dX1_gates_91 : decode cX1_gates 91 = .ok (.goto 96, 3) := dk_167 0 96 (dk_at dksX1_gates_4 0 rfl rfl)
theorem dX1_gates_94 : decode cX1_gates 94 = .ok (.iload_n 2, 1) := dk_28 (dk_at dksX1_gates_4 3 rfl rfl)
theorem dX1_gates_95 : decode cX1_gates 95 = .ok (.istore 6, 2) := dk_54 6 (dk_at dksX1_gates_4 4 rfl rfl)
theorem dX1_gates_97 : decode cX1_gates 97 = .ok (.iconst 0, 1) := dk_3 (dk_at dksX1_gates_4 6 rfl rfl)
theorem dX1_gates_98 : decode cX1_gates 98 = .ok (.istore 7, 2) := dk_54 7 (dk_at dksX1_gates_4 7 rfl rfl)
theorem dX1_gates_100 : decode cX1_gates 100 = .ok (.iload 7, 2) := dk_21 7 (dk_at dksX1_gates_4 9 rfl rfl)
theorem dX1_gates_102 : decode cX1_gates 102 = .ok (.aload_n 0, 1) := dk_42 (dk_at dksX1_gates_4 11 rfl rfl)
theorem dX1_gates_103 : decode cX1_gates 103 = .ok (.invokeinterface 1 1, 5) := by decide +kernel
theorem dX1_gates_108 : decode cX1_gates 108 = .ok (.if_icmp .ge 43, 3) := dk_162 0 43 (dk_at dksX1_gates_4 17 rfl rfl)
theorem dX1_gates_111 : decode cX1_gates 111 = .ok (.iload_n 2, 1) := dk_28 (dk_at dksX1_gates_4 20 rfl rfl)
theorem dX1_gates_112 : decode cX1_gates 112 = .ok (.iload 7, 2) := dk_21 7 (dk_at dksX1_gates_4 21 rfl rfl)
theorem dX1_gates_114 : decode cX1_gates 114 = .ok (.invokestatic 7, 3) := dk_184 0 7 (dk_at dksX1_gates_5 0 rfl rfl)
theorem dX1_gates_117 : decode cX1_gates 117 = .ok (.ifCond .eq 28, 3) := dk_153 0 28 (dk_at dksX1_gates_5 3 rfl rfl)
theorem dX1_gates_120 : decode cX1_gates 120 = .ok (.aload_n 0, 1) := dk_42 (dk_at dksX1_gates_5 6 rfl rfl)
theorem dX1_gates_121 : decode cX1_gates 121 = .ok (.iload 7, 2) := dk_21 7 (dk_at dksX1_gates_5 7 rfl rfl)
theorem dX1_gates_123 : decode cX1_gates 123 = .ok (.invokeinterface 13 2, 5) := by decide +kernel
theorem dX1_gates_128 : decode cX1_gates 128 = .ok (.iload 5, 2) := dk_21 5 (dk_at dksX1_gates_5 14 rfl rfl)
theorem dX1_gates_130 : decode cX1_gates 130 = .ok (.invokestatic 7, 3) := dk_184 0 7 (dk_at dksX1_gates_5 16 rfl rfl)
theorem dX1_gates_133 : decode cX1_gates 133 = .ok (.ifCond .eq 12, 3) := dk_153 0 12 (dk_at dksX1_gates_5 19 rfl rfl)
theorem dX1_gates_136 : decode cX1_gates 136 = .ok (.iload 6, 2) := dk_21 6 (dk_at dksX1_gates_5 22 rfl rfl)
theorem dX1_gates_138 : decode cX1_gates 138 = .ok (.aload_n 3, 1) := dk_45 (dk_at dksX1_gates_6 0 rfl rfl)
theorem dX1_gates_139 : decode cX1_gates 139 = .ok (.iload 7, 2) := dk_21 7 (dk_at dksX1_gates_6 1 rfl rfl)
theorem dX1_gates_141 : decode cX1_gates 141 = .ok (.iaload, 1) := dk_46 (dk_at dksX1_gates_6 3 rfl rfl)
theorem dX1_gates_142 : decode cX1_gates 142 = .ok (.iand, 1) := dk_126 (dk_at dksX1_gates_6 4 rfl rfl)
theorem dX1_gates_143 : decode cX1_gates 143 = .ok (.istore 6, 2) := dk_54 6 (dk_at dksX1_gates_6 5 rfl rfl)
theorem dX1_gates_145 : decode cX1_gates 145 = .ok (.iinc 7 1, 3) := dk_132 7 1 (dk_at dksX1_gates_6 7 rfl rfl)
theorem dX1_gates_148 : decode cX1_gates 148 = .ok (.goto (-48), 3) := dk_167 255 208 (dk_at dksX1_gates_6 10 rfl rfl)
theorem dX1_gates_151 : decode cX1_gates 151 = .ok (.iload 6, 2) := dk_21 6 (dk_at dksX1_gates_6 13 rfl rfl)
theorem dX1_gates_153 : decode cX1_gates 153 = .ok (.iconst 1, 1) := dk_4 (dk_at dksX1_gates_6 15 rfl rfl)
theorem dX1_gates_154 : decode cX1_gates 154 = .ok (.iload 5, 2) := dk_21 5 (dk_at dksX1_gates_6 16 rfl rfl)
theorem dX1_gates_156 : decode cX1_gates 156 = .ok (.ishl, 1) := dk_120 (dk_at dksX1_gates_6 18 rfl rfl)
theorem dX1_gates_157 : decode cX1_gates 157 = .ok (.ior, 1) := dk_128 (dk_at dksX1_gates_6 19 rfl rfl)
theorem dX1_gates_158 : decode cX1_gates 158 = .ok (.istore 6, 2) := dk_54 6 (dk_at dksX1_gates_6 20 rfl rfl)
theorem dX1_gates_160 : decode cX1_gates 160 = .ok (.iload 4, 2) := dk_21 4 (dk_at dksX1_gates_6 22 rfl rfl)
theorem dX1_gates_162 : decode cX1_gates 162 = .ok (.ifCond .ne 12, 3) := dk_154 0 12 (dk_at dksX1_gates_7 0 rfl rfl)
theorem dX1_gates_165 : decode cX1_gates 165 = .ok (.iload 6, 2) := dk_21 6 (dk_at dksX1_gates_7 3 rfl rfl)
theorem dX1_gates_167 : decode cX1_gates 167 = .ok (.aload_n 3, 1) := dk_45 (dk_at dksX1_gates_7 5 rfl rfl)
theorem dX1_gates_168 : decode cX1_gates 168 = .ok (.iload 5, 2) := dk_21 5 (dk_at dksX1_gates_7 6 rfl rfl)
theorem dX1_gates_170 : decode cX1_gates 170 = .ok (.iaload, 1) := dk_46 (dk_at dksX1_gates_7 8 rfl rfl)
theorem dX1_gates_171 : decode cX1_gates 171 = .ok (.if_icmp .eq 7, 3) := dk_159 0 7 (dk_at dksX1_gates_7 9 rfl rfl)
theorem dX1_gates_174 : decode cX1_gates 174 = .ok (.iconst 1, 1) := dk_4 (dk_at dksX1_gates_7 12 rfl rfl)
theorem dX1_gates_175 : decode cX1_gates 175 = .ok (.goto 4, 3) := dk_167 0 4 (dk_at dksX1_gates_7 13 rfl rfl)
theorem dX1_gates_178 : decode cX1_gates 178 = .ok (.iconst 0, 1) := dk_3 (dk_at dksX1_gates_7 16 rfl rfl)
theorem dX1_gates_179 : decode cX1_gates 179 = .ok (.istore 4, 2) := dk_54 4 (dk_at dksX1_gates_7 17 rfl rfl)
theorem dX1_gates_181 : decode cX1_gates 181 = .ok (.aload_n 3, 1) := dk_45 (dk_at dksX1_gates_7 19 rfl rfl)
theorem dX1_gates_182 : decode cX1_gates 182 = .ok (.iload 5, 2) := dk_21 5 (dk_at dksX1_gates_7 20 rfl rfl)
theorem dX1_gates_184 : decode cX1_gates 184 = .ok (.iload 6, 2) := dk_21 6 (dk_at dksX1_gates_7 22 rfl rfl)
theorem dX1_gates_186 : decode cX1_gates 186 = .ok (.iastore, 1) := dk_79 (dk_at dksX1_gates_8 0 rfl rfl)
theorem dX1_gates_187 : decode cX1_gates 187 = .ok (.iinc 5 1, 3) := dk_132 5 1 (dk_at dksX1_gates_8 1 rfl rfl)
theorem dX1_gates_190 : decode cX1_gates 190 = .ok (.goto (-125), 3) := dk_167 255 131 (dk_at dksX1_gates_8 4 rfl rfl)
theorem dX1_gates_193 : decode cX1_gates 193 = .ok (.goto (-139), 3) := dk_167 255 117 (dk_at dksX1_gates_8 7 rfl rfl)
theorem dX1_gates_196 : decode cX1_gates 196 = .ok (.return_, 1) := dk_177 (dk_at dksX1_gates_8 10 rfl rfl)
abbrev cX1_feed : ByteArray := prog_1_method_11_code
def yX1_feed : MethodName := ⟨RX1, "feed", "(IIIII)I"⟩
def dkwX1_feed_2 : List UInt8 := [180, 0, 26, 180, 0, 112, 172]
abbrev dktX1_feed_2 : List UInt8 := dkwX1_feed_2 ++ []
def dkwX1_feed_1 : List UInt8 := [28, 182, 0, 115, 42, 29, 182, 0, 115, 42, 21, 4, 182, 0, 115, 42, 21, 5, 182, 0, 115, 42]
abbrev dktX1_feed_1 : List UInt8 := dkwX1_feed_1 ++ dktX1_feed_2
def dkwX1_feed_0 : List UInt8 := [42, 180, 0, 26, 180, 0, 112, 16, 20, 96, 17, 1, 144, 164, 0, 5, 2, 172, 42, 27, 182, 0, 115, 42]
abbrev dktX1_feed_0 : List UInt8 := dkwX1_feed_0 ++ dktX1_feed_1
theorem dksX1_feed_0 : cX1_feed.data.toList.drop 0 = dktX1_feed_0 := by decide +kernel
theorem dksX1_feed_1 : cX1_feed.data.toList.drop 24 = dktX1_feed_1 := dk_seg dksX1_feed_0 24 rfl rfl
theorem dksX1_feed_2 : cX1_feed.data.toList.drop 46 = dktX1_feed_2 := dk_seg dksX1_feed_1 22 rfl rfl
theorem dX1_feed_0 : decode cX1_feed 0 = .ok (.aload_n 0, 1) := dk_42 (dk_at dksX1_feed_0 0 rfl rfl)
theorem dX1_feed_1 : decode cX1_feed 1 = .ok (.getfield 26, 3) := dk_180 0 26 (dk_at dksX1_feed_0 1 rfl rfl)
theorem dX1_feed_4 : decode cX1_feed 4 = .ok (.getfield 112, 3) := dk_180 0 112 (dk_at dksX1_feed_0 4 rfl rfl)
theorem dX1_feed_7 : decode cX1_feed 7 = .ok (.bipush 20, 2) := dk_16 20 (dk_at dksX1_feed_0 7 rfl rfl)
theorem dX1_feed_9 : decode cX1_feed 9 = .ok (.iadd, 1) := dk_96 (dk_at dksX1_feed_0 9 rfl rfl)
theorem dX1_feed_10 : decode cX1_feed 10 = .ok (.sipush 400, 3) := dk_17 1 144 (dk_at dksX1_feed_0 10 rfl rfl)
theorem dX1_feed_13 : decode cX1_feed 13 = .ok (.if_icmp .le 5, 3) := dk_164 0 5 (dk_at dksX1_feed_0 13 rfl rfl)
theorem dX1_feed_16 : decode cX1_feed 16 = .ok (.iconst (-1), 1) := dk_2 (dk_at dksX1_feed_0 16 rfl rfl)
theorem dX1_feed_17 : decode cX1_feed 17 = .ok (.ireturn, 1) := dk_172 (dk_at dksX1_feed_0 17 rfl rfl)
theorem dX1_feed_18 : decode cX1_feed 18 = .ok (.aload_n 0, 1) := dk_42 (dk_at dksX1_feed_0 18 rfl rfl)
theorem dX1_feed_19 : decode cX1_feed 19 = .ok (.iload_n 1, 1) := dk_27 (dk_at dksX1_feed_0 19 rfl rfl)
theorem dX1_feed_20 : decode cX1_feed 20 = .ok (.invokevirtual 115, 3) := dk_182 0 115 (dk_at dksX1_feed_0 20 rfl rfl)
theorem dX1_feed_23 : decode cX1_feed 23 = .ok (.aload_n 0, 1) := dk_42 (dk_at dksX1_feed_0 23 rfl rfl)
theorem dX1_feed_24 : decode cX1_feed 24 = .ok (.iload_n 2, 1) := dk_28 (dk_at dksX1_feed_1 0 rfl rfl)
theorem dX1_feed_25 : decode cX1_feed 25 = .ok (.invokevirtual 115, 3) := dk_182 0 115 (dk_at dksX1_feed_1 1 rfl rfl)
theorem dX1_feed_28 : decode cX1_feed 28 = .ok (.aload_n 0, 1) := dk_42 (dk_at dksX1_feed_1 4 rfl rfl)
theorem dX1_feed_29 : decode cX1_feed 29 = .ok (.iload_n 3, 1) := dk_29 (dk_at dksX1_feed_1 5 rfl rfl)
theorem dX1_feed_30 : decode cX1_feed 30 = .ok (.invokevirtual 115, 3) := dk_182 0 115 (dk_at dksX1_feed_1 6 rfl rfl)
theorem dX1_feed_33 : decode cX1_feed 33 = .ok (.aload_n 0, 1) := dk_42 (dk_at dksX1_feed_1 9 rfl rfl)
theorem dX1_feed_34 : decode cX1_feed 34 = .ok (.iload 4, 2) := dk_21 4 (dk_at dksX1_feed_1 10 rfl rfl)
theorem dX1_feed_36 : decode cX1_feed 36 = .ok (.invokevirtual 115, 3) := dk_182 0 115 (dk_at dksX1_feed_1 12 rfl rfl)
theorem dX1_feed_39 : decode cX1_feed 39 = .ok (.aload_n 0, 1) := dk_42 (dk_at dksX1_feed_1 15 rfl rfl)
theorem dX1_feed_40 : decode cX1_feed 40 = .ok (.iload 5, 2) := dk_21 5 (dk_at dksX1_feed_1 16 rfl rfl)
theorem dX1_feed_42 : decode cX1_feed 42 = .ok (.invokevirtual 115, 3) := dk_182 0 115 (dk_at dksX1_feed_1 18 rfl rfl)
theorem dX1_feed_45 : decode cX1_feed 45 = .ok (.aload_n 0, 1) := dk_42 (dk_at dksX1_feed_1 21 rfl rfl)
theorem dX1_feed_46 : decode cX1_feed 46 = .ok (.getfield 26, 3) := dk_180 0 26 (dk_at dksX1_feed_2 0 rfl rfl)
theorem dX1_feed_49 : decode cX1_feed 49 = .ok (.getfield 112, 3) := dk_180 0 112 (dk_at dksX1_feed_2 3 rfl rfl)
theorem dX1_feed_52 : decode cX1_feed 52 = .ok (.ireturn, 1) := dk_172 (dk_at dksX1_feed_2 6 rfl rfl)
abbrev cX1_four : ByteArray := prog_1_method_10_code
def yX1_four : MethodName := ⟨RX1, "four", "(I)V"⟩
def dkwX1_four_1 : List UInt8 := [145, 84, 42, 180, 0, 26, 89, 180, 0, 112, 4, 96, 181, 0, 112, 132, 2, 248, 167, 255, 217, 177]
abbrev dktX1_four_1 : List UInt8 := dkwX1_four_1 ++ []
def dkwX1_four_0 : List UInt8 := [16, 24, 61, 28, 155, 0, 41, 42, 180, 0, 26, 180, 0, 108, 42, 180, 0, 26, 180, 0, 112, 27, 28, 122]
abbrev dktX1_four_0 : List UInt8 := dkwX1_four_0 ++ dktX1_four_1
theorem dksX1_four_0 : cX1_four.data.toList.drop 0 = dktX1_four_0 := by decide +kernel
theorem dksX1_four_1 : cX1_four.data.toList.drop 24 = dktX1_four_1 := dk_seg dksX1_four_0 24 rfl rfl
theorem dX1_four_0 : decode cX1_four 0 = .ok (.bipush 24, 2) := dk_16 24 (dk_at dksX1_four_0 0 rfl rfl)
theorem dX1_four_2 : decode cX1_four 2 = .ok (.istore_n 2, 1) := dk_61 (dk_at dksX1_four_0 2 rfl rfl)
theorem dX1_four_3 : decode cX1_four 3 = .ok (.iload_n 2, 1) := dk_28 (dk_at dksX1_four_0 3 rfl rfl)
theorem dX1_four_4 : decode cX1_four 4 = .ok (.ifCond .lt 41, 3) := dk_155 0 41 (dk_at dksX1_four_0 4 rfl rfl)
theorem dX1_four_7 : decode cX1_four 7 = .ok (.aload_n 0, 1) := dk_42 (dk_at dksX1_four_0 7 rfl rfl)
theorem dX1_four_8 : decode cX1_four 8 = .ok (.getfield 26, 3) := dk_180 0 26 (dk_at dksX1_four_0 8 rfl rfl)
theorem dX1_four_11 : decode cX1_four 11 = .ok (.getfield 108, 3) := dk_180 0 108 (dk_at dksX1_four_0 11 rfl rfl)
theorem dX1_four_14 : decode cX1_four 14 = .ok (.aload_n 0, 1) := dk_42 (dk_at dksX1_four_0 14 rfl rfl)
theorem dX1_four_15 : decode cX1_four 15 = .ok (.getfield 26, 3) := dk_180 0 26 (dk_at dksX1_four_0 15 rfl rfl)
theorem dX1_four_18 : decode cX1_four 18 = .ok (.getfield 112, 3) := dk_180 0 112 (dk_at dksX1_four_0 18 rfl rfl)
theorem dX1_four_21 : decode cX1_four 21 = .ok (.iload_n 1, 1) := dk_27 (dk_at dksX1_four_0 21 rfl rfl)
theorem dX1_four_22 : decode cX1_four 22 = .ok (.iload_n 2, 1) := dk_28 (dk_at dksX1_four_0 22 rfl rfl)
theorem dX1_four_23 : decode cX1_four 23 = .ok (.ishr, 1) := dk_122 (dk_at dksX1_four_0 23 rfl rfl)
theorem dX1_four_24 : decode cX1_four 24 = .ok (.i2b, 1) := dk_145 (dk_at dksX1_four_1 0 rfl rfl)
theorem dX1_four_25 : decode cX1_four 25 = .ok (.bastore, 1) := dk_84 (dk_at dksX1_four_1 1 rfl rfl)
theorem dX1_four_26 : decode cX1_four 26 = .ok (.aload_n 0, 1) := dk_42 (dk_at dksX1_four_1 2 rfl rfl)
theorem dX1_four_27 : decode cX1_four 27 = .ok (.getfield 26, 3) := dk_180 0 26 (dk_at dksX1_four_1 3 rfl rfl)
theorem dX1_four_30 : decode cX1_four 30 = .ok (.dup, 1) := dk_89 (dk_at dksX1_four_1 6 rfl rfl)
theorem dX1_four_31 : decode cX1_four 31 = .ok (.getfield 112, 3) := dk_180 0 112 (dk_at dksX1_four_1 7 rfl rfl)
theorem dX1_four_34 : decode cX1_four 34 = .ok (.iconst 1, 1) := dk_4 (dk_at dksX1_four_1 10 rfl rfl)
theorem dX1_four_35 : decode cX1_four 35 = .ok (.iadd, 1) := dk_96 (dk_at dksX1_four_1 11 rfl rfl)
theorem dX1_four_36 : decode cX1_four 36 = .ok (.putfield 112, 3) := dk_181 0 112 (dk_at dksX1_four_1 12 rfl rfl)
theorem dX1_four_39 : decode cX1_four 39 = .ok (.iinc 2 (-8), 3) := dk_132 2 248 (dk_at dksX1_four_1 15 rfl rfl)
theorem dX1_four_42 : decode cX1_four 42 = .ok (.goto (-39), 3) := dk_167 255 217 (dk_at dksX1_four_1 18 rfl rfl)
theorem dX1_four_45 : decode cX1_four 45 = .ok (.return_, 1) := dk_177 (dk_at dksX1_four_1 21 rfl rfl)
abbrev cX1_end : ByteArray := prog_1_method_12_code
def yX1_end : MethodName := ⟨RX1, "end", "(I)Z"⟩
def dkwX1_end_1 : List UInt8 := [181, 0, 112, 4, 172]
abbrev dktX1_end_1 : List UInt8 := dkwX1_end_1 ++ []
def dkwX1_end_0 : List UInt8 := [27, 3, 42, 180, 0, 26, 180, 0, 112, 184, 0, 119, 154, 0, 5, 3, 172, 42, 180, 0, 26, 27]
abbrev dktX1_end_0 : List UInt8 := dkwX1_end_0 ++ dktX1_end_1
theorem dksX1_end_0 : cX1_end.data.toList.drop 0 = dktX1_end_0 := by decide +kernel
theorem dksX1_end_1 : cX1_end.data.toList.drop 22 = dktX1_end_1 := dk_seg dksX1_end_0 22 rfl rfl
theorem dX1_end_0 : decode cX1_end 0 = .ok (.iload_n 1, 1) := dk_27 (dk_at dksX1_end_0 0 rfl rfl)
theorem dX1_end_1 : decode cX1_end 1 = .ok (.iconst 0, 1) := dk_3 (dk_at dksX1_end_0 1 rfl rfl)
theorem dX1_end_2 : decode cX1_end 2 = .ok (.aload_n 0, 1) := dk_42 (dk_at dksX1_end_0 2 rfl rfl)
theorem dX1_end_3 : decode cX1_end 3 = .ok (.getfield 26, 3) := dk_180 0 26 (dk_at dksX1_end_0 3 rfl rfl)
theorem dX1_end_6 : decode cX1_end 6 = .ok (.getfield 112, 3) := dk_180 0 112 (dk_at dksX1_end_0 6 rfl rfl)
theorem dX1_end_9 : decode cX1_end 9 = .ok (.invokestatic 119, 3) := dk_184 0 119 (dk_at dksX1_end_0 9 rfl rfl)
theorem dX1_end_12 : decode cX1_end 12 = .ok (.ifCond .ne 5, 3) := dk_154 0 5 (dk_at dksX1_end_0 12 rfl rfl)
theorem dX1_end_15 : decode cX1_end 15 = .ok (.iconst 0, 1) := dk_3 (dk_at dksX1_end_0 15 rfl rfl)
theorem dX1_end_16 : decode cX1_end 16 = .ok (.ireturn, 1) := dk_172 (dk_at dksX1_end_0 16 rfl rfl)
theorem dX1_end_17 : decode cX1_end 17 = .ok (.aload_n 0, 1) := dk_42 (dk_at dksX1_end_0 17 rfl rfl)
theorem dX1_end_18 : decode cX1_end 18 = .ok (.getfield 26, 3) := dk_180 0 26 (dk_at dksX1_end_0 18 rfl rfl)
theorem dX1_end_21 : decode cX1_end 21 = .ok (.iload_n 1, 1) := dk_27 (dk_at dksX1_end_0 21 rfl rfl)
theorem dX1_end_22 : decode cX1_end 22 = .ok (.putfield 112, 3) := dk_181 0 112 (dk_at dksX1_end_1 0 rfl rfl)
theorem dX1_end_25 : decode cX1_end 25 = .ok (.iconst 1, 1) := dk_4 (dk_at dksX1_end_1 3 rfl rfl)
theorem dX1_end_26 : decode cX1_end 26 = .ok (.ireturn, 1) := dk_172 (dk_at dksX1_end_1 4 rfl rfl)
abbrev cX1_isIn : ByteArray := prog_1_method_9_code
def yX1_isIn : MethodName := ⟨RX1, "isIn", "(III)Z"⟩
def dkwX1_isIn_0 : List UInt8 := [26, 27, 161, 0, 12, 26, 28, 163, 0, 7, 4, 167, 0, 4, 3, 172]
abbrev dktX1_isIn_0 : List UInt8 := dkwX1_isIn_0 ++ []
theorem dksX1_isIn_0 : cX1_isIn.data.toList.drop 0 = dktX1_isIn_0 := by decide +kernel
theorem dX1_isIn_0 : decode cX1_isIn 0 = .ok (.iload_n 0, 1) := dk_26 (dk_at dksX1_isIn_0 0 rfl rfl)
theorem dX1_isIn_1 : decode cX1_isIn 1 = .ok (.iload_n 1, 1) := dk_27 (dk_at dksX1_isIn_0 1 rfl rfl)
theorem dX1_isIn_2 : decode cX1_isIn 2 = .ok (.if_icmp .lt 12, 3) := dk_161 0 12 (dk_at dksX1_isIn_0 2 rfl rfl)
theorem dX1_isIn_5 : decode cX1_isIn 5 = .ok (.iload_n 0, 1) := dk_26 (dk_at dksX1_isIn_0 5 rfl rfl)
theorem dX1_isIn_6 : decode cX1_isIn 6 = .ok (.iload_n 2, 1) := dk_28 (dk_at dksX1_isIn_0 6 rfl rfl)
theorem dX1_isIn_7 : decode cX1_isIn 7 = .ok (.if_icmp .gt 7, 3) := dk_163 0 7 (dk_at dksX1_isIn_0 7 rfl rfl)
theorem dX1_isIn_10 : decode cX1_isIn 10 = .ok (.iconst 1, 1) := dk_4 (dk_at dksX1_isIn_0 10 rfl rfl)
theorem dX1_isIn_11 : decode cX1_isIn 11 = .ok (.goto 4, 3) := dk_167 0 4 (dk_at dksX1_isIn_0 11 rfl rfl)
theorem dX1_isIn_14 : decode cX1_isIn 14 = .ok (.iconst 0, 1) := dk_3 (dk_at dksX1_isIn_0 14 rfl rfl)
theorem dX1_isIn_15 : decode cX1_isIn 15 = .ok (.ireturn, 1) := dk_172 (dk_at dksX1_isIn_0 15 rfl rfl)
abbrev cX1_fault : ByteArray := prog_1_method_18_code
def yX1_fault : MethodName := ⟨RX1, "fault", "()I"⟩
theorem dX1_fault_0 : decode cX1_fault 0 = .ok (.aload_n 0, 1) := by decide +kernel
theorem dX1_fault_1 : decode cX1_fault 1 = .ok (.getfield 78, 3) := by decide +kernel
theorem dX1_fault_4 : decode cX1_fault 4 = .ok (.ireturn, 1) := by decide +kernel
abbrev cX1_why : ByteArray := prog_1_method_19_code
def yX1_why : MethodName := ⟨RX1, "why", "()I"⟩
theorem dX1_why_0 : decode cX1_why 0 = .ok (.aload_n 0, 1) := by decide +kernel
theorem dX1_why_1 : decode cX1_why 1 = .ok (.getfield 160, 3) := by decide +kernel
theorem dX1_why_4 : decode cX1_why 4 = .ok (.ireturn, 1) := by decide +kernel
abbrev cX1_walk : ByteArray := prog_1_method_57_code
def yX1_walk : MethodName := ⟨RX1, "walk", "(I)I"⟩
def dkwX1_walk_1 : List UInt8 := [180, 0, 218, 182, 1, 135, 172]
abbrev dktX1_walk_1 : List UInt8 := dkwX1_walk_1 ++ []
def dkwX1_walk_0 : List UInt8 := [42, 3, 181, 1, 129, 42, 27, 181, 1, 132, 27, 156, 0, 7, 2, 167, 0, 14, 42, 42, 180, 0, 33]
abbrev dktX1_walk_0 : List UInt8 := dkwX1_walk_0 ++ dktX1_walk_1
theorem dksX1_walk_0 : cX1_walk.data.toList.drop 0 = dktX1_walk_0 := by decide +kernel
theorem dksX1_walk_1 : cX1_walk.data.toList.drop 23 = dktX1_walk_1 := dk_seg dksX1_walk_0 23 rfl rfl
theorem dX1_walk_0 : decode cX1_walk 0 = .ok (.aload_n 0, 1) := dk_42 (dk_at dksX1_walk_0 0 rfl rfl)
theorem dX1_walk_1 : decode cX1_walk 1 = .ok (.iconst 0, 1) := dk_3 (dk_at dksX1_walk_0 1 rfl rfl)
theorem dX1_walk_2 : decode cX1_walk 2 = .ok (.putfield 385, 3) := dk_181 1 129 (dk_at dksX1_walk_0 2 rfl rfl)
theorem dX1_walk_5 : decode cX1_walk 5 = .ok (.aload_n 0, 1) := dk_42 (dk_at dksX1_walk_0 5 rfl rfl)
theorem dX1_walk_6 : decode cX1_walk 6 = .ok (.iload_n 1, 1) := dk_27 (dk_at dksX1_walk_0 6 rfl rfl)
theorem dX1_walk_7 : decode cX1_walk 7 = .ok (.putfield 388, 3) := dk_181 1 132 (dk_at dksX1_walk_0 7 rfl rfl)
theorem dX1_walk_10 : decode cX1_walk 10 = .ok (.iload_n 1, 1) := dk_27 (dk_at dksX1_walk_0 10 rfl rfl)
theorem dX1_walk_11 : decode cX1_walk 11 = .ok (.ifCond .ge 7, 3) := dk_156 0 7 (dk_at dksX1_walk_0 11 rfl rfl)
theorem dX1_walk_14 : decode cX1_walk 14 = .ok (.iconst (-1), 1) := dk_2 (dk_at dksX1_walk_0 14 rfl rfl)
theorem dX1_walk_15 : decode cX1_walk 15 = .ok (.goto 14, 3) := dk_167 0 14 (dk_at dksX1_walk_0 15 rfl rfl)
theorem dX1_walk_18 : decode cX1_walk 18 = .ok (.aload_n 0, 1) := dk_42 (dk_at dksX1_walk_0 18 rfl rfl)
theorem dX1_walk_19 : decode cX1_walk 19 = .ok (.aload_n 0, 1) := dk_42 (dk_at dksX1_walk_0 19 rfl rfl)
theorem dX1_walk_20 : decode cX1_walk 20 = .ok (.getfield 33, 3) := dk_180 0 33 (dk_at dksX1_walk_0 20 rfl rfl)
theorem dX1_walk_23 : decode cX1_walk 23 = .ok (.getfield 218, 3) := dk_180 0 218 (dk_at dksX1_walk_1 0 rfl rfl)
theorem dX1_walk_26 : decode cX1_walk 26 = .ok (.invokevirtual 391, 3) := dk_182 1 135 (dk_at dksX1_walk_1 3 rfl rfl)
theorem dX1_walk_29 : decode cX1_walk 29 = .ok (.ireturn, 1) := dk_172 (dk_at dksX1_walk_1 6 rfl rfl)
abbrev cX1_walks : ByteArray := prog_1_method_56_code
def yX1_walks : MethodName := ⟨RX1, "walks", "(I)I"⟩
def dkwX1_walks_3 : List UInt8 := [62, 29, 2, 159, 0, 5, 29, 172, 132, 2, 1, 167, 255, 199, 2, 172]
abbrev dktX1_walks_3 : List UInt8 := dkwX1_walks_3 ++ []
def dkwX1_walks_2 : List UInt8 := [153, 0, 32, 42, 180, 0, 50, 180, 1, 63, 28, 46, 27, 159, 0, 6, 167, 0, 16, 42, 28, 182, 1, 135]
abbrev dktX1_walks_2 : List UInt8 := dkwX1_walks_2 ++ dktX1_walks_3
def dkwX1_walks_1 : List UInt8 := [61, 28, 42, 180, 0, 33, 180, 1, 1, 162, 0, 52, 42, 180, 0, 50, 180, 0, 140, 28, 184, 0, 7]
abbrev dktX1_walks_1 : List UInt8 := dkwX1_walks_1 ++ dktX1_walks_2
def dkwX1_walks_0 : List UInt8 := [42, 180, 1, 129, 42, 180, 1, 132, 160, 0, 5, 27, 172, 42, 89, 180, 1, 129, 4, 96, 181, 1, 129, 3]
abbrev dktX1_walks_0 : List UInt8 := dkwX1_walks_0 ++ dktX1_walks_1
theorem dksX1_walks_0 : cX1_walks.data.toList.drop 0 = dktX1_walks_0 := by decide +kernel
theorem dksX1_walks_1 : cX1_walks.data.toList.drop 24 = dktX1_walks_1 := dk_seg dksX1_walks_0 24 rfl rfl
theorem dksX1_walks_2 : cX1_walks.data.toList.drop 47 = dktX1_walks_2 := dk_seg dksX1_walks_1 23 rfl rfl
theorem dksX1_walks_3 : cX1_walks.data.toList.drop 71 = dktX1_walks_3 := dk_seg dksX1_walks_2 24 rfl rfl
theorem dX1_walks_0 : decode cX1_walks 0 = .ok (.aload_n 0, 1) := dk_42 (dk_at dksX1_walks_0 0 rfl rfl)
theorem dX1_walks_1 : decode cX1_walks 1 = .ok (.getfield 385, 3) := dk_180 1 129 (dk_at dksX1_walks_0 1 rfl rfl)
theorem dX1_walks_4 : decode cX1_walks 4 = .ok (.aload_n 0, 1) := dk_42 (dk_at dksX1_walks_0 4 rfl rfl)
theorem dX1_walks_5 : decode cX1_walks 5 = .ok (.getfield 388, 3) := dk_180 1 132 (dk_at dksX1_walks_0 5 rfl rfl)
theorem dX1_walks_8 : decode cX1_walks 8 = .ok (.if_icmp .ne 5, 3) := dk_160 0 5 (dk_at dksX1_walks_0 8 rfl rfl)
theorem dX1_walks_11 : decode cX1_walks 11 = .ok (.iload_n 1, 1) := dk_27 (dk_at dksX1_walks_0 11 rfl rfl)
theorem dX1_walks_12 : decode cX1_walks 12 = .ok (.ireturn, 1) := dk_172 (dk_at dksX1_walks_0 12 rfl rfl)
theorem dX1_walks_13 : decode cX1_walks 13 = .ok (.aload_n 0, 1) := dk_42 (dk_at dksX1_walks_0 13 rfl rfl)
theorem dX1_walks_14 : decode cX1_walks 14 = .ok (.dup, 1) := dk_89 (dk_at dksX1_walks_0 14 rfl rfl)
theorem dX1_walks_15 : decode cX1_walks 15 = .ok (.getfield 385, 3) := dk_180 1 129 (dk_at dksX1_walks_0 15 rfl rfl)
theorem dX1_walks_18 : decode cX1_walks 18 = .ok (.iconst 1, 1) := dk_4 (dk_at dksX1_walks_0 18 rfl rfl)
theorem dX1_walks_19 : decode cX1_walks 19 = .ok (.iadd, 1) := dk_96 (dk_at dksX1_walks_0 19 rfl rfl)
theorem dX1_walks_20 : decode cX1_walks 20 = .ok (.putfield 385, 3) := dk_181 1 129 (dk_at dksX1_walks_0 20 rfl rfl)
theorem dX1_walks_23 : decode cX1_walks 23 = .ok (.iconst 0, 1) := dk_3 (dk_at dksX1_walks_0 23 rfl rfl)
theorem dX1_walks_24 : decode cX1_walks 24 = .ok (.istore_n 2, 1) := dk_61 (dk_at dksX1_walks_1 0 rfl rfl)
theorem dX1_walks_25 : decode cX1_walks 25 = .ok (.iload_n 2, 1) := dk_28 (dk_at dksX1_walks_1 1 rfl rfl)
theorem dX1_walks_26 : decode cX1_walks 26 = .ok (.aload_n 0, 1) := dk_42 (dk_at dksX1_walks_1 2 rfl rfl)
theorem dX1_walks_27 : decode cX1_walks 27 = .ok (.getfield 33, 3) := dk_180 0 33 (dk_at dksX1_walks_1 3 rfl rfl)
theorem dX1_walks_30 : decode cX1_walks 30 = .ok (.getfield 257, 3) := dk_180 1 1 (dk_at dksX1_walks_1 6 rfl rfl)
theorem dX1_walks_33 : decode cX1_walks 33 = .ok (.if_icmp .ge 52, 3) := dk_162 0 52 (dk_at dksX1_walks_1 9 rfl rfl)
theorem dX1_walks_36 : decode cX1_walks 36 = .ok (.aload_n 0, 1) := dk_42 (dk_at dksX1_walks_1 12 rfl rfl)
theorem dX1_walks_37 : decode cX1_walks 37 = .ok (.getfield 50, 3) := dk_180 0 50 (dk_at dksX1_walks_1 13 rfl rfl)
theorem dX1_walks_40 : decode cX1_walks 40 = .ok (.getfield 140, 3) := dk_180 0 140 (dk_at dksX1_walks_1 16 rfl rfl)
theorem dX1_walks_43 : decode cX1_walks 43 = .ok (.iload_n 2, 1) := dk_28 (dk_at dksX1_walks_1 19 rfl rfl)
theorem dX1_walks_44 : decode cX1_walks 44 = .ok (.invokestatic 7, 3) := dk_184 0 7 (dk_at dksX1_walks_1 20 rfl rfl)
theorem dX1_walks_47 : decode cX1_walks 47 = .ok (.ifCond .eq 32, 3) := dk_153 0 32 (dk_at dksX1_walks_2 0 rfl rfl)
theorem dX1_walks_50 : decode cX1_walks 50 = .ok (.aload_n 0, 1) := dk_42 (dk_at dksX1_walks_2 3 rfl rfl)
theorem dX1_walks_51 : decode cX1_walks 51 = .ok (.getfield 50, 3) := dk_180 0 50 (dk_at dksX1_walks_2 4 rfl rfl)
theorem dX1_walks_54 : decode cX1_walks 54 = .ok (.getfield 319, 3) := dk_180 1 63 (dk_at dksX1_walks_2 7 rfl rfl)
theorem dX1_walks_57 : decode cX1_walks 57 = .ok (.iload_n 2, 1) := dk_28 (dk_at dksX1_walks_2 10 rfl rfl)
theorem dX1_walks_58 : decode cX1_walks 58 = .ok (.iaload, 1) := dk_46 (dk_at dksX1_walks_2 11 rfl rfl)
theorem dX1_walks_59 : decode cX1_walks 59 = .ok (.iload_n 1, 1) := dk_27 (dk_at dksX1_walks_2 12 rfl rfl)
theorem dX1_walks_60 : decode cX1_walks 60 = .ok (.if_icmp .eq 6, 3) := dk_159 0 6 (dk_at dksX1_walks_2 13 rfl rfl)
theorem dX1_walks_63 : decode cX1_walks 63 = .ok (.goto 16, 3) := dk_167 0 16 (dk_at dksX1_walks_2 16 rfl rfl)
theorem dX1_walks_66 : decode cX1_walks 66 = .ok (.aload_n 0, 1) := dk_42 (dk_at dksX1_walks_2 19 rfl rfl)
theorem dX1_walks_67 : decode cX1_walks 67 = .ok (.iload_n 2, 1) := dk_28 (dk_at dksX1_walks_2 20 rfl rfl)
theorem dX1_walks_68 : decode cX1_walks 68 = .ok (.invokevirtual 391, 3) := dk_182 1 135 (dk_at dksX1_walks_2 21 rfl rfl)
theorem dX1_walks_71 : decode cX1_walks 71 = .ok (.istore_n 3, 1) := dk_62 (dk_at dksX1_walks_3 0 rfl rfl)
theorem dX1_walks_72 : decode cX1_walks 72 = .ok (.iload_n 3, 1) := dk_29 (dk_at dksX1_walks_3 1 rfl rfl)
theorem dX1_walks_73 : decode cX1_walks 73 = .ok (.iconst (-1), 1) := dk_2 (dk_at dksX1_walks_3 2 rfl rfl)
theorem dX1_walks_74 : decode cX1_walks 74 = .ok (.if_icmp .eq 5, 3) := dk_159 0 5 (dk_at dksX1_walks_3 3 rfl rfl)
theorem dX1_walks_77 : decode cX1_walks 77 = .ok (.iload_n 3, 1) := dk_29 (dk_at dksX1_walks_3 6 rfl rfl)
theorem dX1_walks_78 : decode cX1_walks 78 = .ok (.ireturn, 1) := dk_172 (dk_at dksX1_walks_3 7 rfl rfl)
theorem dX1_walks_79 : decode cX1_walks 79 = .ok (.iinc 2 1, 3) := dk_132 2 1 (dk_at dksX1_walks_3 8 rfl rfl)
theorem dX1_walks_82 : decode cX1_walks 82 = .ok (.goto (-57), 3) := dk_167 255 199 (dk_at dksX1_walks_3 11 rfl rfl)
theorem dX1_walks_85 : decode cX1_walks 85 = .ok (.iconst (-1), 1) := dk_2 (dk_at dksX1_walks_3 14 rfl rfl)
theorem dX1_walks_86 : decode cX1_walks 86 = .ok (.ireturn, 1) := dk_172 (dk_at dksX1_walks_3 15 rfl rfl)
abbrev cX1_level : ByteArray := prog_1_method_64_code
def yX1_level : MethodName := ⟨RX1, "level", "(I)I"⟩
def dkwX1_level_0 : List UInt8 := [42, 42, 27, 186, 1, 153, 0, 0, 182, 1, 11, 172]
abbrev dktX1_level_0 : List UInt8 := dkwX1_level_0 ++ []
theorem dksX1_level_0 : cX1_level.data.toList.drop 0 = dktX1_level_0 := by decide +kernel
theorem dX1_level_0 : decode cX1_level 0 = .ok (.aload_n 0, 1) := dk_42 (dk_at dksX1_level_0 0 rfl rfl)
theorem dX1_level_1 : decode cX1_level 1 = .ok (.aload_n 0, 1) := dk_42 (dk_at dksX1_level_0 1 rfl rfl)
theorem dX1_level_2 : decode cX1_level 2 = .ok (.iload_n 1, 1) := dk_27 (dk_at dksX1_level_0 2 rfl rfl)
theorem dX1_level_3 : decode cX1_level 3 = .ok (.invokedynamic 409, 5) := by decide +kernel
theorem dX1_level_8 : decode cX1_level 8 = .ok (.invokevirtual 267, 3) := dk_182 1 11 (dk_at dksX1_level_0 8 rfl rfl)
theorem dX1_level_11 : decode cX1_level 11 = .ok (.ireturn, 1) := dk_172 (dk_at dksX1_level_0 11 rfl rfl)
abbrev cX1_lambda_level_8 : ByteArray := prog_1_method_96_code
def yX1_lambda_level_8 : MethodName := ⟨RX1, "lambda$level$8", "(II)Z"⟩
def dkwX1_lambda_level_8_1 : List UInt8 := [160, 0, 7, 4, 167, 0, 4, 3, 172]
abbrev dktX1_lambda_level_8_1 : List UInt8 := dkwX1_lambda_level_8_1 ++ []
def dkwX1_lambda_level_8_0 : List UInt8 := [42, 180, 0, 50, 180, 0, 140, 28, 184, 0, 7, 153, 0, 20, 42, 180, 0, 50, 180, 1, 66, 28, 46, 27]
abbrev dktX1_lambda_level_8_0 : List UInt8 := dkwX1_lambda_level_8_0 ++ dktX1_lambda_level_8_1
theorem dksX1_lambda_level_8_0 : cX1_lambda_level_8.data.toList.drop 0 = dktX1_lambda_level_8_0 := by decide +kernel
theorem dksX1_lambda_level_8_1 : cX1_lambda_level_8.data.toList.drop 24 = dktX1_lambda_level_8_1 := dk_seg dksX1_lambda_level_8_0 24 rfl rfl
theorem dX1_lambda_level_8_0 : decode cX1_lambda_level_8 0 = .ok (.aload_n 0, 1) := dk_42 (dk_at dksX1_lambda_level_8_0 0 rfl rfl)
theorem dX1_lambda_level_8_1 : decode cX1_lambda_level_8 1 = .ok (.getfield 50, 3) := dk_180 0 50 (dk_at dksX1_lambda_level_8_0 1 rfl rfl)
theorem dX1_lambda_level_8_4 : decode cX1_lambda_level_8 4 = .ok (.getfield 140, 3) := dk_180 0 140 (dk_at dksX1_lambda_level_8_0 4 rfl rfl)
theorem dX1_lambda_level_8_7 : decode cX1_lambda_level_8 7 = .ok (.iload_n 2, 1) := dk_28 (dk_at dksX1_lambda_level_8_0 7 rfl rfl)
theorem dX1_lambda_level_8_8 : decode cX1_lambda_level_8 8 = .ok (.invokestatic 7, 3) := dk_184 0 7 (dk_at dksX1_lambda_level_8_0 8 rfl rfl)
theorem dX1_lambda_level_8_11 : decode cX1_lambda_level_8 11 = .ok (.ifCond .eq 20, 3) := dk_153 0 20 (dk_at dksX1_lambda_level_8_0 11 rfl rfl)
theorem dX1_lambda_level_8_14 : decode cX1_lambda_level_8 14 = .ok (.aload_n 0, 1) := dk_42 (dk_at dksX1_lambda_level_8_0 14 rfl rfl)
theorem dX1_lambda_level_8_15 : decode cX1_lambda_level_8 15 = .ok (.getfield 50, 3) := dk_180 0 50 (dk_at dksX1_lambda_level_8_0 15 rfl rfl)
theorem dX1_lambda_level_8_18 : decode cX1_lambda_level_8 18 = .ok (.getfield 322, 3) := dk_180 1 66 (dk_at dksX1_lambda_level_8_0 18 rfl rfl)
theorem dX1_lambda_level_8_21 : decode cX1_lambda_level_8 21 = .ok (.iload_n 2, 1) := dk_28 (dk_at dksX1_lambda_level_8_0 21 rfl rfl)
theorem dX1_lambda_level_8_22 : decode cX1_lambda_level_8 22 = .ok (.iaload, 1) := dk_46 (dk_at dksX1_lambda_level_8_0 22 rfl rfl)
theorem dX1_lambda_level_8_23 : decode cX1_lambda_level_8 23 = .ok (.iload_n 1, 1) := dk_27 (dk_at dksX1_lambda_level_8_0 23 rfl rfl)
theorem dX1_lambda_level_8_24 : decode cX1_lambda_level_8 24 = .ok (.if_icmp .ne 7, 3) := dk_160 0 7 (dk_at dksX1_lambda_level_8_1 0 rfl rfl)
theorem dX1_lambda_level_8_27 : decode cX1_lambda_level_8 27 = .ok (.iconst 1, 1) := dk_4 (dk_at dksX1_lambda_level_8_1 3 rfl rfl)
theorem dX1_lambda_level_8_28 : decode cX1_lambda_level_8 28 = .ok (.goto 4, 3) := dk_167 0 4 (dk_at dksX1_lambda_level_8_1 4 rfl rfl)
theorem dX1_lambda_level_8_31 : decode cX1_lambda_level_8 31 = .ok (.iconst 0, 1) := dk_3 (dk_at dksX1_lambda_level_8_1 7 rfl rfl)
theorem dX1_lambda_level_8_32 : decode cX1_lambda_level_8 32 = .ok (.ireturn, 1) := dk_172 (dk_at dksX1_lambda_level_8_1 8 rfl rfl)
abbrev cX1_bits : ByteArray := prog_1_method_32_code
def yX1_bits : MethodName := ⟨RX1, "bits", "(LGateLifter$Is;)I"⟩
def dkwX1_bits_1 : List UInt8 := [153, 0, 9, 4, 29, 120, 167, 0, 4, 3, 128, 61, 132, 3, 1, 167, 255, 222, 28, 172]
abbrev dktX1_bits_1 : List UInt8 := dkwX1_bits_1 ++ []
def dkwX1_bits_0 : List UInt8 := [3, 61, 3, 62, 29, 42, 180, 0, 33, 180, 1, 1, 162, 0, 29, 28, 43, 29, 185, 1, 3, 2, 0]
abbrev dktX1_bits_0 : List UInt8 := dkwX1_bits_0 ++ dktX1_bits_1
theorem dksX1_bits_0 : cX1_bits.data.toList.drop 0 = dktX1_bits_0 := by decide +kernel
theorem dksX1_bits_1 : cX1_bits.data.toList.drop 23 = dktX1_bits_1 := dk_seg dksX1_bits_0 23 rfl rfl
theorem dX1_bits_0 : decode cX1_bits 0 = .ok (.iconst 0, 1) := dk_3 (dk_at dksX1_bits_0 0 rfl rfl)
theorem dX1_bits_1 : decode cX1_bits 1 = .ok (.istore_n 2, 1) := dk_61 (dk_at dksX1_bits_0 1 rfl rfl)
theorem dX1_bits_2 : decode cX1_bits 2 = .ok (.iconst 0, 1) := dk_3 (dk_at dksX1_bits_0 2 rfl rfl)
theorem dX1_bits_3 : decode cX1_bits 3 = .ok (.istore_n 3, 1) := dk_62 (dk_at dksX1_bits_0 3 rfl rfl)
theorem dX1_bits_4 : decode cX1_bits 4 = .ok (.iload_n 3, 1) := dk_29 (dk_at dksX1_bits_0 4 rfl rfl)
theorem dX1_bits_5 : decode cX1_bits 5 = .ok (.aload_n 0, 1) := dk_42 (dk_at dksX1_bits_0 5 rfl rfl)
theorem dX1_bits_6 : decode cX1_bits 6 = .ok (.getfield 33, 3) := dk_180 0 33 (dk_at dksX1_bits_0 6 rfl rfl)
theorem dX1_bits_9 : decode cX1_bits 9 = .ok (.getfield 257, 3) := dk_180 1 1 (dk_at dksX1_bits_0 9 rfl rfl)
theorem dX1_bits_12 : decode cX1_bits 12 = .ok (.if_icmp .ge 29, 3) := dk_162 0 29 (dk_at dksX1_bits_0 12 rfl rfl)
theorem dX1_bits_15 : decode cX1_bits 15 = .ok (.iload_n 2, 1) := dk_28 (dk_at dksX1_bits_0 15 rfl rfl)
theorem dX1_bits_16 : decode cX1_bits 16 = .ok (.aload_n 1, 1) := dk_43 (dk_at dksX1_bits_0 16 rfl rfl)
theorem dX1_bits_17 : decode cX1_bits 17 = .ok (.iload_n 3, 1) := dk_29 (dk_at dksX1_bits_0 17 rfl rfl)
theorem dX1_bits_18 : decode cX1_bits 18 = .ok (.invokeinterface 259 2, 5) := by decide +kernel
theorem dX1_bits_23 : decode cX1_bits 23 = .ok (.ifCond .eq 9, 3) := dk_153 0 9 (dk_at dksX1_bits_1 0 rfl rfl)
theorem dX1_bits_26 : decode cX1_bits 26 = .ok (.iconst 1, 1) := dk_4 (dk_at dksX1_bits_1 3 rfl rfl)
theorem dX1_bits_27 : decode cX1_bits 27 = .ok (.iload_n 3, 1) := dk_29 (dk_at dksX1_bits_1 4 rfl rfl)
theorem dX1_bits_28 : decode cX1_bits 28 = .ok (.ishl, 1) := dk_120 (dk_at dksX1_bits_1 5 rfl rfl)
theorem dX1_bits_29 : decode cX1_bits 29 = .ok (.goto 4, 3) := dk_167 0 4 (dk_at dksX1_bits_1 6 rfl rfl)
theorem dX1_bits_32 : decode cX1_bits 32 = .ok (.iconst 0, 1) := dk_3 (dk_at dksX1_bits_1 9 rfl rfl)
theorem dX1_bits_33 : decode cX1_bits 33 = .ok (.ior, 1) := dk_128 (dk_at dksX1_bits_1 10 rfl rfl)
theorem dX1_bits_34 : decode cX1_bits 34 = .ok (.istore_n 2, 1) := dk_61 (dk_at dksX1_bits_1 11 rfl rfl)
theorem dX1_bits_35 : decode cX1_bits 35 = .ok (.iinc 3 1, 3) := dk_132 3 1 (dk_at dksX1_bits_1 12 rfl rfl)
theorem dX1_bits_38 : decode cX1_bits 38 = .ok (.goto (-34), 3) := dk_167 255 222 (dk_at dksX1_bits_1 15 rfl rfl)
theorem dX1_bits_41 : decode cX1_bits 41 = .ok (.iload_n 2, 1) := dk_28 (dk_at dksX1_bits_1 18 rfl rfl)
theorem dX1_bits_42 : decode cX1_bits 42 = .ok (.ireturn, 1) := dk_172 (dk_at dksX1_bits_1 19 rfl rfl)
abbrev cX1_row : ByteArray := prog_1_method_71_code
def yX1_row : MethodName := ⟨RX1, "row", "(I)I"⟩
def dkwX1_row_3 : List UInt8 := [167, 255, 202, 132, 3, 1, 167, 255, 182, 2, 172]
abbrev dktX1_row_3 : List UInt8 := dkwX1_row_3 ++ []
def dkwX1_row_2 : List UInt8 := [182, 1, 82, 29, 159, 0, 6, 167, 0, 14, 28, 27, 160, 0, 6, 21, 4, 172, 132, 2, 1, 132, 4, 1]
abbrev dktX1_row_2 : List UInt8 := dkwX1_row_2 ++ dktX1_row_3
def dkwX1_row_1 : List UInt8 := [180, 1, 1, 162, 0, 48, 42, 180, 0, 50, 180, 0, 140, 21, 4, 184, 0, 7, 153, 0, 27, 42, 21, 4]
abbrev dktX1_row_1 : List UInt8 := dkwX1_row_1 ++ dktX1_row_2
def dkwX1_row_0 : List UInt8 := [3, 61, 3, 62, 29, 42, 180, 0, 33, 180, 1, 1, 162, 0, 69, 3, 54, 4, 21, 4, 42, 180, 0, 33]
abbrev dktX1_row_0 : List UInt8 := dkwX1_row_0 ++ dktX1_row_1
theorem dksX1_row_0 : cX1_row.data.toList.drop 0 = dktX1_row_0 := by decide +kernel
theorem dksX1_row_1 : cX1_row.data.toList.drop 24 = dktX1_row_1 := dk_seg dksX1_row_0 24 rfl rfl
theorem dksX1_row_2 : cX1_row.data.toList.drop 48 = dktX1_row_2 := dk_seg dksX1_row_1 24 rfl rfl
theorem dksX1_row_3 : cX1_row.data.toList.drop 72 = dktX1_row_3 := dk_seg dksX1_row_2 24 rfl rfl
theorem dX1_row_0 : decode cX1_row 0 = .ok (.iconst 0, 1) := dk_3 (dk_at dksX1_row_0 0 rfl rfl)
theorem dX1_row_1 : decode cX1_row 1 = .ok (.istore_n 2, 1) := dk_61 (dk_at dksX1_row_0 1 rfl rfl)
theorem dX1_row_2 : decode cX1_row 2 = .ok (.iconst 0, 1) := dk_3 (dk_at dksX1_row_0 2 rfl rfl)
theorem dX1_row_3 : decode cX1_row 3 = .ok (.istore_n 3, 1) := dk_62 (dk_at dksX1_row_0 3 rfl rfl)
theorem dX1_row_4 : decode cX1_row 4 = .ok (.iload_n 3, 1) := dk_29 (dk_at dksX1_row_0 4 rfl rfl)
theorem dX1_row_5 : decode cX1_row 5 = .ok (.aload_n 0, 1) := dk_42 (dk_at dksX1_row_0 5 rfl rfl)
theorem dX1_row_6 : decode cX1_row 6 = .ok (.getfield 33, 3) := dk_180 0 33 (dk_at dksX1_row_0 6 rfl rfl)
theorem dX1_row_9 : decode cX1_row 9 = .ok (.getfield 257, 3) := dk_180 1 1 (dk_at dksX1_row_0 9 rfl rfl)
theorem dX1_row_12 : decode cX1_row 12 = .ok (.if_icmp .ge 69, 3) := dk_162 0 69 (dk_at dksX1_row_0 12 rfl rfl)
theorem dX1_row_15 : decode cX1_row 15 = .ok (.iconst 0, 1) := dk_3 (dk_at dksX1_row_0 15 rfl rfl)
theorem dX1_row_16 : decode cX1_row 16 = .ok (.istore 4, 2) := dk_54 4 (dk_at dksX1_row_0 16 rfl rfl)
theorem dX1_row_18 : decode cX1_row 18 = .ok (.iload 4, 2) := dk_21 4 (dk_at dksX1_row_0 18 rfl rfl)
theorem dX1_row_20 : decode cX1_row 20 = .ok (.aload_n 0, 1) := dk_42 (dk_at dksX1_row_0 20 rfl rfl)
theorem dX1_row_21 : decode cX1_row 21 = .ok (.getfield 33, 3) := dk_180 0 33 (dk_at dksX1_row_0 21 rfl rfl)
theorem dX1_row_24 : decode cX1_row 24 = .ok (.getfield 257, 3) := dk_180 1 1 (dk_at dksX1_row_1 0 rfl rfl)
theorem dX1_row_27 : decode cX1_row 27 = .ok (.if_icmp .ge 48, 3) := dk_162 0 48 (dk_at dksX1_row_1 3 rfl rfl)
theorem dX1_row_30 : decode cX1_row 30 = .ok (.aload_n 0, 1) := dk_42 (dk_at dksX1_row_1 6 rfl rfl)
theorem dX1_row_31 : decode cX1_row 31 = .ok (.getfield 50, 3) := dk_180 0 50 (dk_at dksX1_row_1 7 rfl rfl)
theorem dX1_row_34 : decode cX1_row 34 = .ok (.getfield 140, 3) := dk_180 0 140 (dk_at dksX1_row_1 10 rfl rfl)
theorem dX1_row_37 : decode cX1_row 37 = .ok (.iload 4, 2) := dk_21 4 (dk_at dksX1_row_1 13 rfl rfl)
theorem dX1_row_39 : decode cX1_row 39 = .ok (.invokestatic 7, 3) := dk_184 0 7 (dk_at dksX1_row_1 15 rfl rfl)
theorem dX1_row_42 : decode cX1_row 42 = .ok (.ifCond .eq 27, 3) := dk_153 0 27 (dk_at dksX1_row_1 18 rfl rfl)
theorem dX1_row_45 : decode cX1_row 45 = .ok (.aload_n 0, 1) := dk_42 (dk_at dksX1_row_1 21 rfl rfl)
theorem dX1_row_46 : decode cX1_row 46 = .ok (.iload 4, 2) := dk_21 4 (dk_at dksX1_row_1 22 rfl rfl)
theorem dX1_row_48 : decode cX1_row 48 = .ok (.invokevirtual 338, 3) := dk_182 1 82 (dk_at dksX1_row_2 0 rfl rfl)
theorem dX1_row_51 : decode cX1_row 51 = .ok (.iload_n 3, 1) := dk_29 (dk_at dksX1_row_2 3 rfl rfl)
theorem dX1_row_52 : decode cX1_row 52 = .ok (.if_icmp .eq 6, 3) := dk_159 0 6 (dk_at dksX1_row_2 4 rfl rfl)
theorem dX1_row_55 : decode cX1_row 55 = .ok (.goto 14, 3) := dk_167 0 14 (dk_at dksX1_row_2 7 rfl rfl)
theorem dX1_row_58 : decode cX1_row 58 = .ok (.iload_n 2, 1) := dk_28 (dk_at dksX1_row_2 10 rfl rfl)
theorem dX1_row_59 : decode cX1_row 59 = .ok (.iload_n 1, 1) := dk_27 (dk_at dksX1_row_2 11 rfl rfl)
theorem dX1_row_60 : decode cX1_row 60 = .ok (.if_icmp .ne 6, 3) := dk_160 0 6 (dk_at dksX1_row_2 12 rfl rfl)
theorem dX1_row_63 : decode cX1_row 63 = .ok (.iload 4, 2) := dk_21 4 (dk_at dksX1_row_2 15 rfl rfl)
theorem dX1_row_65 : decode cX1_row 65 = .ok (.ireturn, 1) := dk_172 (dk_at dksX1_row_2 17 rfl rfl)
theorem dX1_row_66 : decode cX1_row 66 = .ok (.iinc 2 1, 3) := dk_132 2 1 (dk_at dksX1_row_2 18 rfl rfl)
theorem dX1_row_69 : decode cX1_row 69 = .ok (.iinc 4 1, 3) := dk_132 4 1 (dk_at dksX1_row_2 21 rfl rfl)
theorem dX1_row_72 : decode cX1_row 72 = .ok (.goto (-54), 3) := dk_167 255 202 (dk_at dksX1_row_3 0 rfl rfl)
theorem dX1_row_75 : decode cX1_row 75 = .ok (.iinc 3 1, 3) := dk_132 3 1 (dk_at dksX1_row_3 3 rfl rfl)
theorem dX1_row_78 : decode cX1_row 78 = .ok (.goto (-74), 3) := dk_167 255 182 (dk_at dksX1_row_3 6 rfl rfl)
theorem dX1_row_81 : decode cX1_row 81 = .ok (.iconst (-1), 1) := dk_2 (dk_at dksX1_row_3 9 rfl rfl)
theorem dX1_row_82 : decode cX1_row 82 = .ok (.ireturn, 1) := dk_172 (dk_at dksX1_row_3 10 rfl rfl)
abbrev cX1_nearOf : ByteArray := prog_1_method_40_code
def yX1_nearOf : MethodName := ⟨RX1, "nearOf", "(I)I"⟩
def dkwX1_nearOf_3 : List UInt8 := [3, 128, 54, 4, 132, 5, 1, 167, 255, 213, 21, 4, 61, 132, 3, 1, 167, 255, 182, 2, 172]
abbrev dktX1_nearOf_3 : List UInt8 := dkwX1_nearOf_3 ++ []
def dkwX1_nearOf_2 : List UInt8 := [21, 4, 28, 21, 5, 184, 0, 7, 153, 0, 16, 42, 180, 0, 33, 180, 1, 19, 21, 5, 46, 167, 0, 4]
abbrev dktX1_nearOf_2 : List UInt8 := dkwX1_nearOf_2 ++ dktX1_nearOf_3
def dkwX1_nearOf_1 : List UInt8 := [153, 0, 5, 29, 172, 28, 54, 4, 3, 54, 5, 21, 5, 42, 180, 0, 33, 180, 1, 1, 162, 0, 37]
abbrev dktX1_nearOf_1 : List UInt8 := dkwX1_nearOf_1 ++ dktX1_nearOf_2
def dkwX1_nearOf_0 : List UInt8 := [4, 42, 180, 0, 33, 180, 0, 218, 120, 61, 3, 62, 29, 16, 16, 162, 0, 74, 28, 27, 184, 0, 7]
abbrev dktX1_nearOf_0 : List UInt8 := dkwX1_nearOf_0 ++ dktX1_nearOf_1
theorem dksX1_nearOf_0 : cX1_nearOf.data.toList.drop 0 = dktX1_nearOf_0 := by decide +kernel
theorem dksX1_nearOf_1 : cX1_nearOf.data.toList.drop 23 = dktX1_nearOf_1 := dk_seg dksX1_nearOf_0 23 rfl rfl
theorem dksX1_nearOf_2 : cX1_nearOf.data.toList.drop 46 = dktX1_nearOf_2 := dk_seg dksX1_nearOf_1 23 rfl rfl
theorem dksX1_nearOf_3 : cX1_nearOf.data.toList.drop 70 = dktX1_nearOf_3 := dk_seg dksX1_nearOf_2 24 rfl rfl
theorem dX1_nearOf_0 : decode cX1_nearOf 0 = .ok (.iconst 1, 1) := dk_4 (dk_at dksX1_nearOf_0 0 rfl rfl)
theorem dX1_nearOf_1 : decode cX1_nearOf 1 = .ok (.aload_n 0, 1) := dk_42 (dk_at dksX1_nearOf_0 1 rfl rfl)
theorem dX1_nearOf_2 : decode cX1_nearOf 2 = .ok (.getfield 33, 3) := dk_180 0 33 (dk_at dksX1_nearOf_0 2 rfl rfl)
theorem dX1_nearOf_5 : decode cX1_nearOf 5 = .ok (.getfield 218, 3) := dk_180 0 218 (dk_at dksX1_nearOf_0 5 rfl rfl)
theorem dX1_nearOf_8 : decode cX1_nearOf 8 = .ok (.ishl, 1) := dk_120 (dk_at dksX1_nearOf_0 8 rfl rfl)
theorem dX1_nearOf_9 : decode cX1_nearOf 9 = .ok (.istore_n 2, 1) := dk_61 (dk_at dksX1_nearOf_0 9 rfl rfl)
theorem dX1_nearOf_10 : decode cX1_nearOf 10 = .ok (.iconst 0, 1) := dk_3 (dk_at dksX1_nearOf_0 10 rfl rfl)
theorem dX1_nearOf_11 : decode cX1_nearOf 11 = .ok (.istore_n 3, 1) := dk_62 (dk_at dksX1_nearOf_0 11 rfl rfl)
theorem dX1_nearOf_12 : decode cX1_nearOf 12 = .ok (.iload_n 3, 1) := dk_29 (dk_at dksX1_nearOf_0 12 rfl rfl)
theorem dX1_nearOf_13 : decode cX1_nearOf 13 = .ok (.bipush 16, 2) := dk_16 16 (dk_at dksX1_nearOf_0 13 rfl rfl)
theorem dX1_nearOf_15 : decode cX1_nearOf 15 = .ok (.if_icmp .ge 74, 3) := dk_162 0 74 (dk_at dksX1_nearOf_0 15 rfl rfl)
theorem dX1_nearOf_18 : decode cX1_nearOf 18 = .ok (.iload_n 2, 1) := dk_28 (dk_at dksX1_nearOf_0 18 rfl rfl)
theorem dX1_nearOf_19 : decode cX1_nearOf 19 = .ok (.iload_n 1, 1) := dk_27 (dk_at dksX1_nearOf_0 19 rfl rfl)
theorem dX1_nearOf_20 : decode cX1_nearOf 20 = .ok (.invokestatic 7, 3) := dk_184 0 7 (dk_at dksX1_nearOf_0 20 rfl rfl)
theorem dX1_nearOf_23 : decode cX1_nearOf 23 = .ok (.ifCond .eq 5, 3) := dk_153 0 5 (dk_at dksX1_nearOf_1 0 rfl rfl)
theorem dX1_nearOf_26 : decode cX1_nearOf 26 = .ok (.iload_n 3, 1) := dk_29 (dk_at dksX1_nearOf_1 3 rfl rfl)
theorem dX1_nearOf_27 : decode cX1_nearOf 27 = .ok (.ireturn, 1) := dk_172 (dk_at dksX1_nearOf_1 4 rfl rfl)
theorem dX1_nearOf_28 : decode cX1_nearOf 28 = .ok (.iload_n 2, 1) := dk_28 (dk_at dksX1_nearOf_1 5 rfl rfl)
theorem dX1_nearOf_29 : decode cX1_nearOf 29 = .ok (.istore 4, 2) := dk_54 4 (dk_at dksX1_nearOf_1 6 rfl rfl)
theorem dX1_nearOf_31 : decode cX1_nearOf 31 = .ok (.iconst 0, 1) := dk_3 (dk_at dksX1_nearOf_1 8 rfl rfl)
theorem dX1_nearOf_32 : decode cX1_nearOf 32 = .ok (.istore 5, 2) := dk_54 5 (dk_at dksX1_nearOf_1 9 rfl rfl)
theorem dX1_nearOf_34 : decode cX1_nearOf 34 = .ok (.iload 5, 2) := dk_21 5 (dk_at dksX1_nearOf_1 11 rfl rfl)
theorem dX1_nearOf_36 : decode cX1_nearOf 36 = .ok (.aload_n 0, 1) := dk_42 (dk_at dksX1_nearOf_1 13 rfl rfl)
theorem dX1_nearOf_37 : decode cX1_nearOf 37 = .ok (.getfield 33, 3) := dk_180 0 33 (dk_at dksX1_nearOf_1 14 rfl rfl)
theorem dX1_nearOf_40 : decode cX1_nearOf 40 = .ok (.getfield 257, 3) := dk_180 1 1 (dk_at dksX1_nearOf_1 17 rfl rfl)
theorem dX1_nearOf_43 : decode cX1_nearOf 43 = .ok (.if_icmp .ge 37, 3) := dk_162 0 37 (dk_at dksX1_nearOf_1 20 rfl rfl)
theorem dX1_nearOf_46 : decode cX1_nearOf 46 = .ok (.iload 4, 2) := dk_21 4 (dk_at dksX1_nearOf_2 0 rfl rfl)
theorem dX1_nearOf_48 : decode cX1_nearOf 48 = .ok (.iload_n 2, 1) := dk_28 (dk_at dksX1_nearOf_2 2 rfl rfl)
theorem dX1_nearOf_49 : decode cX1_nearOf 49 = .ok (.iload 5, 2) := dk_21 5 (dk_at dksX1_nearOf_2 3 rfl rfl)
theorem dX1_nearOf_51 : decode cX1_nearOf 51 = .ok (.invokestatic 7, 3) := dk_184 0 7 (dk_at dksX1_nearOf_2 5 rfl rfl)
theorem dX1_nearOf_54 : decode cX1_nearOf 54 = .ok (.ifCond .eq 16, 3) := dk_153 0 16 (dk_at dksX1_nearOf_2 8 rfl rfl)
theorem dX1_nearOf_57 : decode cX1_nearOf 57 = .ok (.aload_n 0, 1) := dk_42 (dk_at dksX1_nearOf_2 11 rfl rfl)
theorem dX1_nearOf_58 : decode cX1_nearOf 58 = .ok (.getfield 33, 3) := dk_180 0 33 (dk_at dksX1_nearOf_2 12 rfl rfl)
theorem dX1_nearOf_61 : decode cX1_nearOf 61 = .ok (.getfield 275, 3) := dk_180 1 19 (dk_at dksX1_nearOf_2 15 rfl rfl)
theorem dX1_nearOf_64 : decode cX1_nearOf 64 = .ok (.iload 5, 2) := dk_21 5 (dk_at dksX1_nearOf_2 18 rfl rfl)
theorem dX1_nearOf_66 : decode cX1_nearOf 66 = .ok (.iaload, 1) := dk_46 (dk_at dksX1_nearOf_2 20 rfl rfl)
theorem dX1_nearOf_67 : decode cX1_nearOf 67 = .ok (.goto 4, 3) := dk_167 0 4 (dk_at dksX1_nearOf_2 21 rfl rfl)
theorem dX1_nearOf_70 : decode cX1_nearOf 70 = .ok (.iconst 0, 1) := dk_3 (dk_at dksX1_nearOf_3 0 rfl rfl)
theorem dX1_nearOf_71 : decode cX1_nearOf 71 = .ok (.ior, 1) := dk_128 (dk_at dksX1_nearOf_3 1 rfl rfl)
theorem dX1_nearOf_72 : decode cX1_nearOf 72 = .ok (.istore 4, 2) := dk_54 4 (dk_at dksX1_nearOf_3 2 rfl rfl)
theorem dX1_nearOf_74 : decode cX1_nearOf 74 = .ok (.iinc 5 1, 3) := dk_132 5 1 (dk_at dksX1_nearOf_3 4 rfl rfl)
theorem dX1_nearOf_77 : decode cX1_nearOf 77 = .ok (.goto (-43), 3) := dk_167 255 213 (dk_at dksX1_nearOf_3 7 rfl rfl)
theorem dX1_nearOf_80 : decode cX1_nearOf 80 = .ok (.iload 4, 2) := dk_21 4 (dk_at dksX1_nearOf_3 10 rfl rfl)
theorem dX1_nearOf_82 : decode cX1_nearOf 82 = .ok (.istore_n 2, 1) := dk_61 (dk_at dksX1_nearOf_3 12 rfl rfl)
theorem dX1_nearOf_83 : decode cX1_nearOf 83 = .ok (.iinc 3 1, 3) := dk_132 3 1 (dk_at dksX1_nearOf_3 13 rfl rfl)
theorem dX1_nearOf_86 : decode cX1_nearOf 86 = .ok (.goto (-74), 3) := dk_167 255 182 (dk_at dksX1_nearOf_3 16 rfl rfl)
theorem dX1_nearOf_89 : decode cX1_nearOf 89 = .ok (.iconst (-1), 1) := dk_2 (dk_at dksX1_nearOf_3 19 rfl rfl)
theorem dX1_nearOf_90 : decode cX1_nearOf 90 = .ok (.ireturn, 1) := dk_172 (dk_at dksX1_nearOf_3 20 rfl rfl)
abbrev cX1_octet : ByteArray := prog_1_method_78_code
def yX1_octet : MethodName := ⟨RX1, "octet", "(I)I"⟩
def dkwX1_octet_1 : List UInt8 := [182, 1, 183, 167, 0, 4, 2, 172]
abbrev dktX1_octet_1 : List UInt8 := dkwX1_octet_1 ++ []
def dkwX1_octet_0 : List UInt8 := [27, 3, 42, 180, 0, 74, 182, 1, 182, 4, 100, 184, 0, 119, 153, 0, 14, 42, 180, 0, 74, 27]
abbrev dktX1_octet_0 : List UInt8 := dkwX1_octet_0 ++ dktX1_octet_1
theorem dksX1_octet_0 : cX1_octet.data.toList.drop 0 = dktX1_octet_0 := by decide +kernel
theorem dksX1_octet_1 : cX1_octet.data.toList.drop 22 = dktX1_octet_1 := dk_seg dksX1_octet_0 22 rfl rfl
theorem dX1_octet_0 : decode cX1_octet 0 = .ok (.iload_n 1, 1) := dk_27 (dk_at dksX1_octet_0 0 rfl rfl)
theorem dX1_octet_1 : decode cX1_octet 1 = .ok (.iconst 0, 1) := dk_3 (dk_at dksX1_octet_0 1 rfl rfl)
theorem dX1_octet_2 : decode cX1_octet 2 = .ok (.aload_n 0, 1) := dk_42 (dk_at dksX1_octet_0 2 rfl rfl)
theorem dX1_octet_3 : decode cX1_octet 3 = .ok (.getfield 74, 3) := dk_180 0 74 (dk_at dksX1_octet_0 3 rfl rfl)
theorem dX1_octet_6 : decode cX1_octet 6 = .ok (.invokevirtual 438, 3) := dk_182 1 182 (dk_at dksX1_octet_0 6 rfl rfl)
theorem dX1_octet_9 : decode cX1_octet 9 = .ok (.iconst 1, 1) := dk_4 (dk_at dksX1_octet_0 9 rfl rfl)
theorem dX1_octet_10 : decode cX1_octet 10 = .ok (.isub, 1) := dk_100 (dk_at dksX1_octet_0 10 rfl rfl)
theorem dX1_octet_11 : decode cX1_octet 11 = .ok (.invokestatic 119, 3) := dk_184 0 119 (dk_at dksX1_octet_0 11 rfl rfl)
theorem dX1_octet_14 : decode cX1_octet 14 = .ok (.ifCond .eq 14, 3) := dk_153 0 14 (dk_at dksX1_octet_0 14 rfl rfl)
theorem dX1_octet_17 : decode cX1_octet 17 = .ok (.aload_n 0, 1) := dk_42 (dk_at dksX1_octet_0 17 rfl rfl)
theorem dX1_octet_18 : decode cX1_octet 18 = .ok (.getfield 74, 3) := dk_180 0 74 (dk_at dksX1_octet_0 18 rfl rfl)
theorem dX1_octet_21 : decode cX1_octet 21 = .ok (.iload_n 1, 1) := dk_27 (dk_at dksX1_octet_0 21 rfl rfl)
theorem dX1_octet_22 : decode cX1_octet 22 = .ok (.invokevirtual 439, 3) := dk_182 1 183 (dk_at dksX1_octet_1 0 rfl rfl)
theorem dX1_octet_25 : decode cX1_octet 25 = .ok (.goto 4, 3) := dk_167 0 4 (dk_at dksX1_octet_1 3 rfl rfl)
theorem dX1_octet_28 : decode cX1_octet 28 = .ok (.iconst (-1), 1) := dk_2 (dk_at dksX1_octet_1 6 rfl rfl)
theorem dX1_octet_29 : decode cX1_octet 29 = .ok (.ireturn, 1) := dk_172 (dk_at dksX1_octet_1 7 rfl rfl)
abbrev cX1_image : ByteArray := prog_1_method_79_code
def yX1_image : MethodName := ⟨RX1, "image", "()V"⟩
def dkwX1_image_0 : List UInt8 := [42, 180, 0, 37, 42, 180, 0, 33, 182, 0, 170, 42, 4, 181, 1, 187, 177]
abbrev dktX1_image_0 : List UInt8 := dkwX1_image_0 ++ []
theorem dksX1_image_0 : cX1_image.data.toList.drop 0 = dktX1_image_0 := by decide +kernel
theorem dX1_image_0 : decode cX1_image 0 = .ok (.aload_n 0, 1) := dk_42 (dk_at dksX1_image_0 0 rfl rfl)
theorem dX1_image_1 : decode cX1_image 1 = .ok (.getfield 37, 3) := dk_180 0 37 (dk_at dksX1_image_0 1 rfl rfl)
theorem dX1_image_4 : decode cX1_image 4 = .ok (.aload_n 0, 1) := dk_42 (dk_at dksX1_image_0 4 rfl rfl)
theorem dX1_image_5 : decode cX1_image 5 = .ok (.getfield 33, 3) := dk_180 0 33 (dk_at dksX1_image_0 5 rfl rfl)
theorem dX1_image_8 : decode cX1_image 8 = .ok (.invokevirtual 170, 3) := dk_182 0 170 (dk_at dksX1_image_0 8 rfl rfl)
theorem dX1_image_11 : decode cX1_image 11 = .ok (.aload_n 0, 1) := dk_42 (dk_at dksX1_image_0 11 rfl rfl)
theorem dX1_image_12 : decode cX1_image 12 = .ok (.iconst 1, 1) := dk_4 (dk_at dksX1_image_0 12 rfl rfl)
theorem dX1_image_13 : decode cX1_image 13 = .ok (.putfield 443, 3) := dk_181 1 187 (dk_at dksX1_image_0 13 rfl rfl)
theorem dX1_image_16 : decode cX1_image 16 = .ok (.return_, 1) := dk_177 (dk_at dksX1_image_0 16 rfl rfl)
abbrev cX1_back : ByteArray := prog_1_method_80_code
def yX1_back : MethodName := ⟨RX1, "back", "()Z"⟩
def dkwX1_back_1 : List UInt8 := [42, 180, 0, 33, 182, 0, 89, 42, 3, 181, 0, 173, 42, 182, 0, 176, 4, 172]
abbrev dktX1_back_1 : List UInt8 := dkwX1_back_1 ++ []
def dkwX1_back_0 : List UInt8 := [42, 180, 1, 187, 154, 0, 5, 3, 172, 42, 180, 0, 33, 42, 180, 0, 37, 182, 0, 170, 42, 180, 0, 50]
abbrev dktX1_back_0 : List UInt8 := dkwX1_back_0 ++ dktX1_back_1
theorem dksX1_back_0 : cX1_back.data.toList.drop 0 = dktX1_back_0 := by decide +kernel
theorem dksX1_back_1 : cX1_back.data.toList.drop 24 = dktX1_back_1 := dk_seg dksX1_back_0 24 rfl rfl
theorem dX1_back_0 : decode cX1_back 0 = .ok (.aload_n 0, 1) := dk_42 (dk_at dksX1_back_0 0 rfl rfl)
theorem dX1_back_1 : decode cX1_back 1 = .ok (.getfield 443, 3) := dk_180 1 187 (dk_at dksX1_back_0 1 rfl rfl)
theorem dX1_back_4 : decode cX1_back 4 = .ok (.ifCond .ne 5, 3) := dk_154 0 5 (dk_at dksX1_back_0 4 rfl rfl)
theorem dX1_back_7 : decode cX1_back 7 = .ok (.iconst 0, 1) := dk_3 (dk_at dksX1_back_0 7 rfl rfl)
theorem dX1_back_8 : decode cX1_back 8 = .ok (.ireturn, 1) := dk_172 (dk_at dksX1_back_0 8 rfl rfl)
theorem dX1_back_9 : decode cX1_back 9 = .ok (.aload_n 0, 1) := dk_42 (dk_at dksX1_back_0 9 rfl rfl)
theorem dX1_back_10 : decode cX1_back 10 = .ok (.getfield 33, 3) := dk_180 0 33 (dk_at dksX1_back_0 10 rfl rfl)
theorem dX1_back_13 : decode cX1_back 13 = .ok (.aload_n 0, 1) := dk_42 (dk_at dksX1_back_0 13 rfl rfl)
theorem dX1_back_14 : decode cX1_back 14 = .ok (.getfield 37, 3) := dk_180 0 37 (dk_at dksX1_back_0 14 rfl rfl)
theorem dX1_back_17 : decode cX1_back 17 = .ok (.invokevirtual 170, 3) := dk_182 0 170 (dk_at dksX1_back_0 17 rfl rfl)
theorem dX1_back_20 : decode cX1_back 20 = .ok (.aload_n 0, 1) := dk_42 (dk_at dksX1_back_0 20 rfl rfl)
theorem dX1_back_21 : decode cX1_back 21 = .ok (.getfield 50, 3) := dk_180 0 50 (dk_at dksX1_back_0 21 rfl rfl)
theorem dX1_back_24 : decode cX1_back 24 = .ok (.aload_n 0, 1) := dk_42 (dk_at dksX1_back_1 0 rfl rfl)
theorem dX1_back_25 : decode cX1_back 25 = .ok (.getfield 33, 3) := dk_180 0 33 (dk_at dksX1_back_1 1 rfl rfl)
theorem dX1_back_28 : decode cX1_back 28 = .ok (.invokevirtual 89, 3) := dk_182 0 89 (dk_at dksX1_back_1 4 rfl rfl)
theorem dX1_back_31 : decode cX1_back 31 = .ok (.aload_n 0, 1) := dk_42 (dk_at dksX1_back_1 7 rfl rfl)
theorem dX1_back_32 : decode cX1_back 32 = .ok (.iconst 0, 1) := dk_3 (dk_at dksX1_back_1 8 rfl rfl)
theorem dX1_back_33 : decode cX1_back 33 = .ok (.putfield 173, 3) := dk_181 0 173 (dk_at dksX1_back_1 9 rfl rfl)
theorem dX1_back_36 : decode cX1_back 36 = .ok (.aload_n 0, 1) := dk_42 (dk_at dksX1_back_1 12 rfl rfl)
theorem dX1_back_37 : decode cX1_back 37 = .ok (.invokevirtual 176, 3) := dk_182 0 176 (dk_at dksX1_back_1 13 rfl rfl)
theorem dX1_back_40 : decode cX1_back 40 = .ok (.iconst 1, 1) := dk_4 (dk_at dksX1_back_1 16 rfl rfl)
theorem dX1_back_41 : decode cX1_back 41 = .ok (.ireturn, 1) := dk_172 (dk_at dksX1_back_1 17 rfl rfl)
abbrev cX1_forgets : ByteArray := prog_1_method_15_code
def yX1_forgets : MethodName := ⟨RX1, "forgets", "()V"⟩
def dkwX1_forgets_0 : List UInt8 := [42, 3, 181, 0, 128, 42, 3, 181, 0, 131, 42, 3, 181, 0, 134, 42, 3, 181, 0, 137, 177]
abbrev dktX1_forgets_0 : List UInt8 := dkwX1_forgets_0 ++ []
theorem dksX1_forgets_0 : cX1_forgets.data.toList.drop 0 = dktX1_forgets_0 := by decide +kernel
theorem dX1_forgets_0 : decode cX1_forgets 0 = .ok (.aload_n 0, 1) := dk_42 (dk_at dksX1_forgets_0 0 rfl rfl)
theorem dX1_forgets_1 : decode cX1_forgets 1 = .ok (.iconst 0, 1) := dk_3 (dk_at dksX1_forgets_0 1 rfl rfl)
theorem dX1_forgets_2 : decode cX1_forgets 2 = .ok (.putfield 128, 3) := dk_181 0 128 (dk_at dksX1_forgets_0 2 rfl rfl)
theorem dX1_forgets_5 : decode cX1_forgets 5 = .ok (.aload_n 0, 1) := dk_42 (dk_at dksX1_forgets_0 5 rfl rfl)
theorem dX1_forgets_6 : decode cX1_forgets 6 = .ok (.iconst 0, 1) := dk_3 (dk_at dksX1_forgets_0 6 rfl rfl)
theorem dX1_forgets_7 : decode cX1_forgets 7 = .ok (.putfield 131, 3) := dk_181 0 131 (dk_at dksX1_forgets_0 7 rfl rfl)
theorem dX1_forgets_10 : decode cX1_forgets 10 = .ok (.aload_n 0, 1) := dk_42 (dk_at dksX1_forgets_0 10 rfl rfl)
theorem dX1_forgets_11 : decode cX1_forgets 11 = .ok (.iconst 0, 1) := dk_3 (dk_at dksX1_forgets_0 11 rfl rfl)
theorem dX1_forgets_12 : decode cX1_forgets 12 = .ok (.putfield 134, 3) := dk_181 0 134 (dk_at dksX1_forgets_0 12 rfl rfl)
theorem dX1_forgets_15 : decode cX1_forgets 15 = .ok (.aload_n 0, 1) := dk_42 (dk_at dksX1_forgets_0 15 rfl rfl)
theorem dX1_forgets_16 : decode cX1_forgets 16 = .ok (.iconst 0, 1) := dk_3 (dk_at dksX1_forgets_0 16 rfl rfl)
theorem dX1_forgets_17 : decode cX1_forgets 17 = .ok (.putfield 137, 3) := dk_181 0 137 (dk_at dksX1_forgets_0 17 rfl rfl)
theorem dX1_forgets_20 : decode cX1_forgets 20 = .ok (.return_, 1) := dk_177 (dk_at dksX1_forgets_0 20 rfl rfl)
abbrev cX1_count : ByteArray := prog_1_method_91_code
def yX1_count : MethodName := ⟨RX1, "count", "(I)I"⟩
def dkwX1_count_9 : List UInt8 := [2, 172]
abbrev dktX1_count_9 : List UInt8 := dkwX1_count_9 ++ []
def dkwX1_count_8 : List UInt8 := [167, 0, 25, 42, 182, 1, 228, 167, 0, 18, 42, 182, 1, 231, 167, 0, 11, 42, 182, 1, 234, 167, 0, 4]
abbrev dktX1_count_8 : List UInt8 := dkwX1_count_8 ++ dktX1_count_9
def dkwX1_count_7 : List UInt8 := [182, 1, 11, 167, 0, 46, 42, 182, 1, 222, 167, 0, 39, 42, 180, 0, 173, 167, 0, 32, 42, 182, 1, 225]
abbrev dktX1_count_7 : List UInt8 := dkwX1_count_7 ++ dktX1_count_8
def dkwX1_count_6 : List UInt8 := [167, 0, 71, 3, 167, 0, 67, 42, 3, 182, 1, 204, 167, 0, 59, 42, 42, 186, 1, 221, 0, 0]
abbrev dktX1_count_6 : List UInt8 := dkwX1_count_6 ++ dktX1_count_7
def dkwX1_count_5 : List UInt8 := [42, 5, 182, 1, 211, 167, 0, 89, 42, 182, 1, 214, 167, 0, 82, 42, 182, 1, 217, 153, 0, 7, 4]
abbrev dktX1_count_5 : List UInt8 := dkwX1_count_5 ++ dktX1_count_6
def dkwX1_count_4 : List UInt8 := [180, 0, 50, 180, 0, 140, 167, 0, 112, 42, 4, 182, 1, 204, 167, 0, 104, 42, 182, 1, 208, 167, 0, 97]
abbrev dktX1_count_4 : List UInt8 := dkwX1_count_4 ++ dktX1_count_5
def dkwX1_count_3 : List UInt8 := [180, 0, 215, 167, 0, 139, 42, 180, 0, 33, 180, 0, 230, 167, 0, 129, 42, 182, 1, 201, 167, 0, 122, 42]
abbrev dktX1_count_3 : List UInt8 := dkwX1_count_3 ++ dktX1_count_4
def dkwX1_count_2 : List UInt8 := [42, 180, 0, 33, 180, 1, 1, 167, 0, 159, 42, 180, 0, 33, 180, 0, 218, 167, 0, 149, 42, 180, 0, 33]
abbrev dktX1_count_2 : List UInt8 := dkwX1_count_2 ++ dktX1_count_3
def dkwX1_count_1 : List UInt8 := [170, 0, 0, 0, 0, 1, 0, 0, 0, 0, 0, 0, 0, 0, 18, 0, 0, 0, 91, 0, 0, 0, 101, 0, 0, 0, 111, 0, 0, 0, 121, 0, 0, 0, 131, 0, 0, 0, 138, 0, 0, 0, 148, 0, 0, 0, 156, 0, 0, 0, 163, 0, 0, 0, 171, 0, 0, 0, 178, 0, 0, 0, 193, 0, 0, 0, 201, 0, 0, 0, 214, 0, 0, 0, 221, 0, 0, 0, 228, 0, 0, 0, 235, 0, 0, 0, 242, 0, 0, 0, 249]
abbrev dktX1_count_1 : List UInt8 := dkwX1_count_1 ++ dktX1_count_2
def dkwX1_count_0 : List UInt8 := [27]
abbrev dktX1_count_0 : List UInt8 := dkwX1_count_0 ++ dktX1_count_1
theorem dksX1_count_0 : cX1_count.data.toList.drop 0 = dktX1_count_0 := by decide +kernel
theorem dksX1_count_1 : cX1_count.data.toList.drop 1 = dktX1_count_1 := dk_seg dksX1_count_0 1 rfl rfl
theorem dksX1_count_2 : cX1_count.data.toList.drop 92 = dktX1_count_2 := dk_seg dksX1_count_1 91 rfl rfl
theorem dksX1_count_3 : cX1_count.data.toList.drop 116 = dktX1_count_3 := dk_seg dksX1_count_2 24 rfl rfl
theorem dksX1_count_4 : cX1_count.data.toList.drop 140 = dktX1_count_4 := dk_seg dksX1_count_3 24 rfl rfl
theorem dksX1_count_5 : cX1_count.data.toList.drop 164 = dktX1_count_5 := dk_seg dksX1_count_4 24 rfl rfl
theorem dksX1_count_6 : cX1_count.data.toList.drop 187 = dktX1_count_6 := dk_seg dksX1_count_5 23 rfl rfl
theorem dksX1_count_7 : cX1_count.data.toList.drop 209 = dktX1_count_7 := dk_seg dksX1_count_6 22 rfl rfl
theorem dksX1_count_8 : cX1_count.data.toList.drop 233 = dktX1_count_8 := dk_seg dksX1_count_7 24 rfl rfl
theorem dksX1_count_9 : cX1_count.data.toList.drop 257 = dktX1_count_9 := dk_seg dksX1_count_8 24 rfl rfl
theorem dX1_count_0 : decode cX1_count 0 = .ok (.iload_n 1, 1) := dk_27 (dk_at dksX1_count_0 0 rfl rfl)
theorem dX1_count_1 : decode cX1_count 1 = .ok (.tableswitch 256 0 18 #[91, 101, 111, 121, 131, 138, 148, 156, 163, 171, 178, 193, 201, 214, 221, 228, 235, 242, 249], 91) := by decide +kernel
theorem dX1_count_92 : decode cX1_count 92 = .ok (.aload_n 0, 1) := dk_42 (dk_at dksX1_count_2 0 rfl rfl)
theorem dX1_count_93 : decode cX1_count 93 = .ok (.getfield 33, 3) := dk_180 0 33 (dk_at dksX1_count_2 1 rfl rfl)
theorem dX1_count_96 : decode cX1_count 96 = .ok (.getfield 257, 3) := dk_180 1 1 (dk_at dksX1_count_2 4 rfl rfl)
theorem dX1_count_99 : decode cX1_count 99 = .ok (.goto 159, 3) := dk_167 0 159 (dk_at dksX1_count_2 7 rfl rfl)
theorem dX1_count_102 : decode cX1_count 102 = .ok (.aload_n 0, 1) := dk_42 (dk_at dksX1_count_2 10 rfl rfl)
theorem dX1_count_103 : decode cX1_count 103 = .ok (.getfield 33, 3) := dk_180 0 33 (dk_at dksX1_count_2 11 rfl rfl)
theorem dX1_count_106 : decode cX1_count 106 = .ok (.getfield 218, 3) := dk_180 0 218 (dk_at dksX1_count_2 14 rfl rfl)
theorem dX1_count_109 : decode cX1_count 109 = .ok (.goto 149, 3) := dk_167 0 149 (dk_at dksX1_count_2 17 rfl rfl)
theorem dX1_count_112 : decode cX1_count 112 = .ok (.aload_n 0, 1) := dk_42 (dk_at dksX1_count_2 20 rfl rfl)
theorem dX1_count_113 : decode cX1_count 113 = .ok (.getfield 33, 3) := dk_180 0 33 (dk_at dksX1_count_2 21 rfl rfl)
theorem dX1_count_116 : decode cX1_count 116 = .ok (.getfield 215, 3) := dk_180 0 215 (dk_at dksX1_count_3 0 rfl rfl)
theorem dX1_count_119 : decode cX1_count 119 = .ok (.goto 139, 3) := dk_167 0 139 (dk_at dksX1_count_3 3 rfl rfl)
theorem dX1_count_122 : decode cX1_count 122 = .ok (.aload_n 0, 1) := dk_42 (dk_at dksX1_count_3 6 rfl rfl)
theorem dX1_count_123 : decode cX1_count 123 = .ok (.getfield 33, 3) := dk_180 0 33 (dk_at dksX1_count_3 7 rfl rfl)
theorem dX1_count_126 : decode cX1_count 126 = .ok (.getfield 230, 3) := dk_180 0 230 (dk_at dksX1_count_3 10 rfl rfl)
theorem dX1_count_129 : decode cX1_count 129 = .ok (.goto 129, 3) := dk_167 0 129 (dk_at dksX1_count_3 13 rfl rfl)
theorem dX1_count_132 : decode cX1_count 132 = .ok (.aload_n 0, 1) := dk_42 (dk_at dksX1_count_3 16 rfl rfl)
theorem dX1_count_133 : decode cX1_count 133 = .ok (.invokevirtual 457, 3) := dk_182 1 201 (dk_at dksX1_count_3 17 rfl rfl)
theorem dX1_count_136 : decode cX1_count 136 = .ok (.goto 122, 3) := dk_167 0 122 (dk_at dksX1_count_3 20 rfl rfl)
theorem dX1_count_139 : decode cX1_count 139 = .ok (.aload_n 0, 1) := dk_42 (dk_at dksX1_count_3 23 rfl rfl)
theorem dX1_count_140 : decode cX1_count 140 = .ok (.getfield 50, 3) := dk_180 0 50 (dk_at dksX1_count_4 0 rfl rfl)
theorem dX1_count_143 : decode cX1_count 143 = .ok (.getfield 140, 3) := dk_180 0 140 (dk_at dksX1_count_4 3 rfl rfl)
theorem dX1_count_146 : decode cX1_count 146 = .ok (.goto 112, 3) := dk_167 0 112 (dk_at dksX1_count_4 6 rfl rfl)
theorem dX1_count_149 : decode cX1_count 149 = .ok (.aload_n 0, 1) := dk_42 (dk_at dksX1_count_4 9 rfl rfl)
theorem dX1_count_150 : decode cX1_count 150 = .ok (.iconst 1, 1) := dk_4 (dk_at dksX1_count_4 10 rfl rfl)
theorem dX1_count_151 : decode cX1_count 151 = .ok (.invokevirtual 460, 3) := dk_182 1 204 (dk_at dksX1_count_4 11 rfl rfl)
theorem dX1_count_154 : decode cX1_count 154 = .ok (.goto 104, 3) := dk_167 0 104 (dk_at dksX1_count_4 14 rfl rfl)
theorem dX1_count_157 : decode cX1_count 157 = .ok (.aload_n 0, 1) := dk_42 (dk_at dksX1_count_4 17 rfl rfl)
theorem dX1_count_158 : decode cX1_count 158 = .ok (.invokevirtual 464, 3) := dk_182 1 208 (dk_at dksX1_count_4 18 rfl rfl)
theorem dX1_count_161 : decode cX1_count 161 = .ok (.goto 97, 3) := dk_167 0 97 (dk_at dksX1_count_4 21 rfl rfl)
theorem dX1_count_164 : decode cX1_count 164 = .ok (.aload_n 0, 1) := dk_42 (dk_at dksX1_count_5 0 rfl rfl)
theorem dX1_count_165 : decode cX1_count 165 = .ok (.iconst 2, 1) := dk_5 (dk_at dksX1_count_5 1 rfl rfl)
theorem dX1_count_166 : decode cX1_count 166 = .ok (.invokevirtual 467, 3) := dk_182 1 211 (dk_at dksX1_count_5 2 rfl rfl)
theorem dX1_count_169 : decode cX1_count 169 = .ok (.goto 89, 3) := dk_167 0 89 (dk_at dksX1_count_5 5 rfl rfl)
theorem dX1_count_172 : decode cX1_count 172 = .ok (.aload_n 0, 1) := dk_42 (dk_at dksX1_count_5 8 rfl rfl)
theorem dX1_count_173 : decode cX1_count 173 = .ok (.invokevirtual 470, 3) := dk_182 1 214 (dk_at dksX1_count_5 9 rfl rfl)
theorem dX1_count_176 : decode cX1_count 176 = .ok (.goto 82, 3) := dk_167 0 82 (dk_at dksX1_count_5 12 rfl rfl)
theorem dX1_count_179 : decode cX1_count 179 = .ok (.aload_n 0, 1) := dk_42 (dk_at dksX1_count_5 15 rfl rfl)
theorem dX1_count_180 : decode cX1_count 180 = .ok (.invokevirtual 473, 3) := dk_182 1 217 (dk_at dksX1_count_5 16 rfl rfl)
theorem dX1_count_183 : decode cX1_count 183 = .ok (.ifCond .eq 7, 3) := dk_153 0 7 (dk_at dksX1_count_5 19 rfl rfl)
theorem dX1_count_186 : decode cX1_count 186 = .ok (.iconst 1, 1) := dk_4 (dk_at dksX1_count_5 22 rfl rfl)
theorem dX1_count_187 : decode cX1_count 187 = .ok (.goto 71, 3) := dk_167 0 71 (dk_at dksX1_count_6 0 rfl rfl)
theorem dX1_count_190 : decode cX1_count 190 = .ok (.iconst 0, 1) := dk_3 (dk_at dksX1_count_6 3 rfl rfl)
theorem dX1_count_191 : decode cX1_count 191 = .ok (.goto 67, 3) := dk_167 0 67 (dk_at dksX1_count_6 4 rfl rfl)
theorem dX1_count_194 : decode cX1_count 194 = .ok (.aload_n 0, 1) := dk_42 (dk_at dksX1_count_6 7 rfl rfl)
theorem dX1_count_195 : decode cX1_count 195 = .ok (.iconst 0, 1) := dk_3 (dk_at dksX1_count_6 8 rfl rfl)
theorem dX1_count_196 : decode cX1_count 196 = .ok (.invokevirtual 460, 3) := dk_182 1 204 (dk_at dksX1_count_6 9 rfl rfl)
theorem dX1_count_199 : decode cX1_count 199 = .ok (.goto 59, 3) := dk_167 0 59 (dk_at dksX1_count_6 12 rfl rfl)
theorem dX1_count_202 : decode cX1_count 202 = .ok (.aload_n 0, 1) := dk_42 (dk_at dksX1_count_6 15 rfl rfl)
theorem dX1_count_203 : decode cX1_count 203 = .ok (.aload_n 0, 1) := dk_42 (dk_at dksX1_count_6 16 rfl rfl)
theorem dX1_count_204 : decode cX1_count 204 = .ok (.invokedynamic 477, 5) := by decide +kernel
theorem dX1_count_209 : decode cX1_count 209 = .ok (.invokevirtual 267, 3) := dk_182 1 11 (dk_at dksX1_count_7 0 rfl rfl)
theorem dX1_count_212 : decode cX1_count 212 = .ok (.goto 46, 3) := dk_167 0 46 (dk_at dksX1_count_7 3 rfl rfl)
theorem dX1_count_215 : decode cX1_count 215 = .ok (.aload_n 0, 1) := dk_42 (dk_at dksX1_count_7 6 rfl rfl)
theorem dX1_count_216 : decode cX1_count 216 = .ok (.invokevirtual 478, 3) := dk_182 1 222 (dk_at dksX1_count_7 7 rfl rfl)
theorem dX1_count_219 : decode cX1_count 219 = .ok (.goto 39, 3) := dk_167 0 39 (dk_at dksX1_count_7 10 rfl rfl)
theorem dX1_count_222 : decode cX1_count 222 = .ok (.aload_n 0, 1) := dk_42 (dk_at dksX1_count_7 13 rfl rfl)
theorem dX1_count_223 : decode cX1_count 223 = .ok (.getfield 173, 3) := dk_180 0 173 (dk_at dksX1_count_7 14 rfl rfl)
theorem dX1_count_226 : decode cX1_count 226 = .ok (.goto 32, 3) := dk_167 0 32 (dk_at dksX1_count_7 17 rfl rfl)
theorem dX1_count_229 : decode cX1_count 229 = .ok (.aload_n 0, 1) := dk_42 (dk_at dksX1_count_7 20 rfl rfl)
theorem dX1_count_230 : decode cX1_count 230 = .ok (.invokevirtual 481, 3) := dk_182 1 225 (dk_at dksX1_count_7 21 rfl rfl)
theorem dX1_count_233 : decode cX1_count 233 = .ok (.goto 25, 3) := dk_167 0 25 (dk_at dksX1_count_8 0 rfl rfl)
theorem dX1_count_236 : decode cX1_count 236 = .ok (.aload_n 0, 1) := dk_42 (dk_at dksX1_count_8 3 rfl rfl)
theorem dX1_count_237 : decode cX1_count 237 = .ok (.invokevirtual 484, 3) := dk_182 1 228 (dk_at dksX1_count_8 4 rfl rfl)
theorem dX1_count_240 : decode cX1_count 240 = .ok (.goto 18, 3) := dk_167 0 18 (dk_at dksX1_count_8 7 rfl rfl)
theorem dX1_count_243 : decode cX1_count 243 = .ok (.aload_n 0, 1) := dk_42 (dk_at dksX1_count_8 10 rfl rfl)
theorem dX1_count_244 : decode cX1_count 244 = .ok (.invokevirtual 487, 3) := dk_182 1 231 (dk_at dksX1_count_8 11 rfl rfl)
theorem dX1_count_247 : decode cX1_count 247 = .ok (.goto 11, 3) := dk_167 0 11 (dk_at dksX1_count_8 14 rfl rfl)
theorem dX1_count_250 : decode cX1_count 250 = .ok (.aload_n 0, 1) := dk_42 (dk_at dksX1_count_8 17 rfl rfl)
theorem dX1_count_251 : decode cX1_count 251 = .ok (.invokevirtual 490, 3) := dk_182 1 234 (dk_at dksX1_count_8 18 rfl rfl)
theorem dX1_count_254 : decode cX1_count 254 = .ok (.goto 4, 3) := dk_167 0 4 (dk_at dksX1_count_8 21 rfl rfl)
theorem dX1_count_257 : decode cX1_count 257 = .ok (.iconst (-1), 1) := dk_2 (dk_at dksX1_count_9 0 rfl rfl)
theorem dX1_count_258 : decode cX1_count 258 = .ok (.ireturn, 1) := dk_172 (dk_at dksX1_count_9 1 rfl rfl)
abbrev cX1_openArcs : ByteArray := prog_1_method_90_code
def yX1_openArcs : MethodName := ⟨RX1, "openArcs", "()I"⟩
def dkwX1_openArcs_1 : List UInt8 := [51, 153, 0, 7, 4, 167, 0, 4, 3, 96, 60, 132, 2, 1, 167, 255, 222, 27, 172]
abbrev dktX1_openArcs_1 : List UInt8 := dkwX1_openArcs_1 ++ []
def dkwX1_openArcs_0 : List UInt8 := [3, 60, 3, 61, 28, 42, 180, 0, 33, 180, 0, 230, 162, 0, 29, 27, 42, 180, 0, 33, 180, 1, 54, 28]
abbrev dktX1_openArcs_0 : List UInt8 := dkwX1_openArcs_0 ++ dktX1_openArcs_1
theorem dksX1_openArcs_0 : cX1_openArcs.data.toList.drop 0 = dktX1_openArcs_0 := by decide +kernel
theorem dksX1_openArcs_1 : cX1_openArcs.data.toList.drop 24 = dktX1_openArcs_1 := dk_seg dksX1_openArcs_0 24 rfl rfl
theorem dX1_openArcs_0 : decode cX1_openArcs 0 = .ok (.iconst 0, 1) := dk_3 (dk_at dksX1_openArcs_0 0 rfl rfl)
theorem dX1_openArcs_1 : decode cX1_openArcs 1 = .ok (.istore_n 1, 1) := dk_60 (dk_at dksX1_openArcs_0 1 rfl rfl)
theorem dX1_openArcs_2 : decode cX1_openArcs 2 = .ok (.iconst 0, 1) := dk_3 (dk_at dksX1_openArcs_0 2 rfl rfl)
theorem dX1_openArcs_3 : decode cX1_openArcs 3 = .ok (.istore_n 2, 1) := dk_61 (dk_at dksX1_openArcs_0 3 rfl rfl)
theorem dX1_openArcs_4 : decode cX1_openArcs 4 = .ok (.iload_n 2, 1) := dk_28 (dk_at dksX1_openArcs_0 4 rfl rfl)
theorem dX1_openArcs_5 : decode cX1_openArcs 5 = .ok (.aload_n 0, 1) := dk_42 (dk_at dksX1_openArcs_0 5 rfl rfl)
theorem dX1_openArcs_6 : decode cX1_openArcs 6 = .ok (.getfield 33, 3) := dk_180 0 33 (dk_at dksX1_openArcs_0 6 rfl rfl)
theorem dX1_openArcs_9 : decode cX1_openArcs 9 = .ok (.getfield 230, 3) := dk_180 0 230 (dk_at dksX1_openArcs_0 9 rfl rfl)
theorem dX1_openArcs_12 : decode cX1_openArcs 12 = .ok (.if_icmp .ge 29, 3) := dk_162 0 29 (dk_at dksX1_openArcs_0 12 rfl rfl)
theorem dX1_openArcs_15 : decode cX1_openArcs 15 = .ok (.iload_n 1, 1) := dk_27 (dk_at dksX1_openArcs_0 15 rfl rfl)
theorem dX1_openArcs_16 : decode cX1_openArcs 16 = .ok (.aload_n 0, 1) := dk_42 (dk_at dksX1_openArcs_0 16 rfl rfl)
theorem dX1_openArcs_17 : decode cX1_openArcs 17 = .ok (.getfield 33, 3) := dk_180 0 33 (dk_at dksX1_openArcs_0 17 rfl rfl)
theorem dX1_openArcs_20 : decode cX1_openArcs 20 = .ok (.getfield 310, 3) := dk_180 1 54 (dk_at dksX1_openArcs_0 20 rfl rfl)
theorem dX1_openArcs_23 : decode cX1_openArcs 23 = .ok (.iload_n 2, 1) := dk_28 (dk_at dksX1_openArcs_0 23 rfl rfl)
theorem dX1_openArcs_24 : decode cX1_openArcs 24 = .ok (.baload, 1) := dk_51 (dk_at dksX1_openArcs_1 0 rfl rfl)
theorem dX1_openArcs_25 : decode cX1_openArcs 25 = .ok (.ifCond .eq 7, 3) := dk_153 0 7 (dk_at dksX1_openArcs_1 1 rfl rfl)
theorem dX1_openArcs_28 : decode cX1_openArcs 28 = .ok (.iconst 1, 1) := dk_4 (dk_at dksX1_openArcs_1 4 rfl rfl)
theorem dX1_openArcs_29 : decode cX1_openArcs 29 = .ok (.goto 4, 3) := dk_167 0 4 (dk_at dksX1_openArcs_1 5 rfl rfl)
theorem dX1_openArcs_32 : decode cX1_openArcs 32 = .ok (.iconst 0, 1) := dk_3 (dk_at dksX1_openArcs_1 8 rfl rfl)
theorem dX1_openArcs_33 : decode cX1_openArcs 33 = .ok (.iadd, 1) := dk_96 (dk_at dksX1_openArcs_1 9 rfl rfl)
theorem dX1_openArcs_34 : decode cX1_openArcs 34 = .ok (.istore_n 1, 1) := dk_60 (dk_at dksX1_openArcs_1 10 rfl rfl)
theorem dX1_openArcs_35 : decode cX1_openArcs 35 = .ok (.iinc 2 1, 3) := dk_132 2 1 (dk_at dksX1_openArcs_1 11 rfl rfl)
theorem dX1_openArcs_38 : decode cX1_openArcs 38 = .ok (.goto (-34), 3) := dk_167 255 222 (dk_at dksX1_openArcs_1 14 rfl rfl)
theorem dX1_openArcs_41 : decode cX1_openArcs 41 = .ok (.iload_n 1, 1) := dk_27 (dk_at dksX1_openArcs_1 17 rfl rfl)
theorem dX1_openArcs_42 : decode cX1_openArcs 42 = .ok (.ireturn, 1) := dk_172 (dk_at dksX1_openArcs_1 18 rfl rfl)
abbrev cX1_depths : ByteArray := prog_1_method_85_code
def yX1_depths : MethodName := ⟨RX1, "depths", "(Z)I"⟩
def dkwX1_depths_3 : List UInt8 := [172]
abbrev dktX1_depths_3 : List UInt8 := dkwX1_depths_3 ++ []
def dkwX1_depths_2 : List UInt8 := [153, 0, 12, 28, 21, 4, 184, 1, 193, 167, 0, 7, 28, 21, 4, 96, 61, 132, 3, 1, 167, 255, 195, 28]
abbrev dktX1_depths_2 : List UInt8 := dkwX1_depths_2 ++ dktX1_depths_3
def dkwX1_depths_1 : List UInt8 := [184, 0, 7, 153, 0, 15, 42, 180, 0, 50, 180, 1, 66, 29, 46, 167, 0, 4, 3, 54, 4, 27]
abbrev dktX1_depths_1 : List UInt8 := dkwX1_depths_1 ++ dktX1_depths_2
def dkwX1_depths_0 : List UInt8 := [3, 61, 3, 62, 29, 42, 180, 0, 33, 180, 1, 1, 162, 0, 56, 42, 180, 0, 50, 180, 0, 140, 29]
abbrev dktX1_depths_0 : List UInt8 := dkwX1_depths_0 ++ dktX1_depths_1
theorem dksX1_depths_0 : cX1_depths.data.toList.drop 0 = dktX1_depths_0 := by decide +kernel
theorem dksX1_depths_1 : cX1_depths.data.toList.drop 23 = dktX1_depths_1 := dk_seg dksX1_depths_0 23 rfl rfl
theorem dksX1_depths_2 : cX1_depths.data.toList.drop 45 = dktX1_depths_2 := dk_seg dksX1_depths_1 22 rfl rfl
theorem dksX1_depths_3 : cX1_depths.data.toList.drop 69 = dktX1_depths_3 := dk_seg dksX1_depths_2 24 rfl rfl
theorem dX1_depths_0 : decode cX1_depths 0 = .ok (.iconst 0, 1) := dk_3 (dk_at dksX1_depths_0 0 rfl rfl)
theorem dX1_depths_1 : decode cX1_depths 1 = .ok (.istore_n 2, 1) := dk_61 (dk_at dksX1_depths_0 1 rfl rfl)
theorem dX1_depths_2 : decode cX1_depths 2 = .ok (.iconst 0, 1) := dk_3 (dk_at dksX1_depths_0 2 rfl rfl)
theorem dX1_depths_3 : decode cX1_depths 3 = .ok (.istore_n 3, 1) := dk_62 (dk_at dksX1_depths_0 3 rfl rfl)
theorem dX1_depths_4 : decode cX1_depths 4 = .ok (.iload_n 3, 1) := dk_29 (dk_at dksX1_depths_0 4 rfl rfl)
theorem dX1_depths_5 : decode cX1_depths 5 = .ok (.aload_n 0, 1) := dk_42 (dk_at dksX1_depths_0 5 rfl rfl)
theorem dX1_depths_6 : decode cX1_depths 6 = .ok (.getfield 33, 3) := dk_180 0 33 (dk_at dksX1_depths_0 6 rfl rfl)
theorem dX1_depths_9 : decode cX1_depths 9 = .ok (.getfield 257, 3) := dk_180 1 1 (dk_at dksX1_depths_0 9 rfl rfl)
theorem dX1_depths_12 : decode cX1_depths 12 = .ok (.if_icmp .ge 56, 3) := dk_162 0 56 (dk_at dksX1_depths_0 12 rfl rfl)
theorem dX1_depths_15 : decode cX1_depths 15 = .ok (.aload_n 0, 1) := dk_42 (dk_at dksX1_depths_0 15 rfl rfl)
theorem dX1_depths_16 : decode cX1_depths 16 = .ok (.getfield 50, 3) := dk_180 0 50 (dk_at dksX1_depths_0 16 rfl rfl)
theorem dX1_depths_19 : decode cX1_depths 19 = .ok (.getfield 140, 3) := dk_180 0 140 (dk_at dksX1_depths_0 19 rfl rfl)
theorem dX1_depths_22 : decode cX1_depths 22 = .ok (.iload_n 3, 1) := dk_29 (dk_at dksX1_depths_0 22 rfl rfl)
theorem dX1_depths_23 : decode cX1_depths 23 = .ok (.invokestatic 7, 3) := dk_184 0 7 (dk_at dksX1_depths_1 0 rfl rfl)
theorem dX1_depths_26 : decode cX1_depths 26 = .ok (.ifCond .eq 15, 3) := dk_153 0 15 (dk_at dksX1_depths_1 3 rfl rfl)
theorem dX1_depths_29 : decode cX1_depths 29 = .ok (.aload_n 0, 1) := dk_42 (dk_at dksX1_depths_1 6 rfl rfl)
theorem dX1_depths_30 : decode cX1_depths 30 = .ok (.getfield 50, 3) := dk_180 0 50 (dk_at dksX1_depths_1 7 rfl rfl)
theorem dX1_depths_33 : decode cX1_depths 33 = .ok (.getfield 322, 3) := dk_180 1 66 (dk_at dksX1_depths_1 10 rfl rfl)
theorem dX1_depths_36 : decode cX1_depths 36 = .ok (.iload_n 3, 1) := dk_29 (dk_at dksX1_depths_1 13 rfl rfl)
theorem dX1_depths_37 : decode cX1_depths 37 = .ok (.iaload, 1) := dk_46 (dk_at dksX1_depths_1 14 rfl rfl)
theorem dX1_depths_38 : decode cX1_depths 38 = .ok (.goto 4, 3) := dk_167 0 4 (dk_at dksX1_depths_1 15 rfl rfl)
theorem dX1_depths_41 : decode cX1_depths 41 = .ok (.iconst 0, 1) := dk_3 (dk_at dksX1_depths_1 18 rfl rfl)
theorem dX1_depths_42 : decode cX1_depths 42 = .ok (.istore 4, 2) := dk_54 4 (dk_at dksX1_depths_1 19 rfl rfl)
theorem dX1_depths_44 : decode cX1_depths 44 = .ok (.iload_n 1, 1) := dk_27 (dk_at dksX1_depths_1 21 rfl rfl)
theorem dX1_depths_45 : decode cX1_depths 45 = .ok (.ifCond .eq 12, 3) := dk_153 0 12 (dk_at dksX1_depths_2 0 rfl rfl)
theorem dX1_depths_48 : decode cX1_depths 48 = .ok (.iload_n 2, 1) := dk_28 (dk_at dksX1_depths_2 3 rfl rfl)
theorem dX1_depths_49 : decode cX1_depths 49 = .ok (.iload 4, 2) := dk_21 4 (dk_at dksX1_depths_2 4 rfl rfl)
theorem dX1_depths_51 : decode cX1_depths 51 = .ok (.invokestatic 449, 3) := dk_184 1 193 (dk_at dksX1_depths_2 6 rfl rfl)
theorem dX1_depths_54 : decode cX1_depths 54 = .ok (.goto 7, 3) := dk_167 0 7 (dk_at dksX1_depths_2 9 rfl rfl)
theorem dX1_depths_57 : decode cX1_depths 57 = .ok (.iload_n 2, 1) := dk_28 (dk_at dksX1_depths_2 12 rfl rfl)
theorem dX1_depths_58 : decode cX1_depths 58 = .ok (.iload 4, 2) := dk_21 4 (dk_at dksX1_depths_2 13 rfl rfl)
theorem dX1_depths_60 : decode cX1_depths 60 = .ok (.iadd, 1) := dk_96 (dk_at dksX1_depths_2 15 rfl rfl)
theorem dX1_depths_61 : decode cX1_depths 61 = .ok (.istore_n 2, 1) := dk_61 (dk_at dksX1_depths_2 16 rfl rfl)
theorem dX1_depths_62 : decode cX1_depths 62 = .ok (.iinc 3 1, 3) := dk_132 3 1 (dk_at dksX1_depths_2 17 rfl rfl)
theorem dX1_depths_65 : decode cX1_depths 65 = .ok (.goto (-61), 3) := dk_167 255 195 (dk_at dksX1_depths_2 20 rfl rfl)
theorem dX1_depths_68 : decode cX1_depths 68 = .ok (.iload_n 2, 1) := dk_28 (dk_at dksX1_depths_2 23 rfl rfl)
theorem dX1_depths_69 : decode cX1_depths 69 = .ok (.ireturn, 1) := dk_172 (dk_at dksX1_depths_3 0 rfl rfl)
abbrev cX1_heads : ByteArray := prog_1_method_37_code
def yX1_heads : MethodName := ⟨RX1, "heads", "()I"⟩
def dkwX1_heads_0 : List UInt8 := [42, 42, 186, 1, 23, 0, 0, 182, 1, 11, 172]
abbrev dktX1_heads_0 : List UInt8 := dkwX1_heads_0 ++ []
theorem dksX1_heads_0 : cX1_heads.data.toList.drop 0 = dktX1_heads_0 := by decide +kernel
theorem dX1_heads_0 : decode cX1_heads 0 = .ok (.aload_n 0, 1) := dk_42 (dk_at dksX1_heads_0 0 rfl rfl)
theorem dX1_heads_1 : decode cX1_heads 1 = .ok (.aload_n 0, 1) := dk_42 (dk_at dksX1_heads_0 1 rfl rfl)
theorem dX1_heads_2 : decode cX1_heads 2 = .ok (.invokedynamic 279, 5) := by decide +kernel
theorem dX1_heads_7 : decode cX1_heads 7 = .ok (.invokevirtual 267, 3) := dk_182 1 11 (dk_at dksX1_heads_0 7 rfl rfl)
theorem dX1_heads_10 : decode cX1_heads 10 = .ok (.ireturn, 1) := dk_172 (dk_at dksX1_heads_0 10 rfl rfl)
abbrev cX1_lambda_heads_3 : ByteArray := prog_1_method_101_code
def yX1_lambda_heads_3 : MethodName := ⟨RX1, "lambda$heads$3", "(I)Z"⟩
def dkwX1_lambda_heads_3_0 : List UInt8 := [42, 27, 182, 1, 26, 153, 0, 7, 4, 167, 0, 4, 3, 172]
abbrev dktX1_lambda_heads_3_0 : List UInt8 := dkwX1_lambda_heads_3_0 ++ []
theorem dksX1_lambda_heads_3_0 : cX1_lambda_heads_3.data.toList.drop 0 = dktX1_lambda_heads_3_0 := by decide +kernel
theorem dX1_lambda_heads_3_0 : decode cX1_lambda_heads_3 0 = .ok (.aload_n 0, 1) := dk_42 (dk_at dksX1_lambda_heads_3_0 0 rfl rfl)
theorem dX1_lambda_heads_3_1 : decode cX1_lambda_heads_3 1 = .ok (.iload_n 1, 1) := dk_27 (dk_at dksX1_lambda_heads_3_0 1 rfl rfl)
theorem dX1_lambda_heads_3_2 : decode cX1_lambda_heads_3 2 = .ok (.invokevirtual 282, 3) := dk_182 1 26 (dk_at dksX1_lambda_heads_3_0 2 rfl rfl)
theorem dX1_lambda_heads_3_5 : decode cX1_lambda_heads_3 5 = .ok (.ifCond .eq 7, 3) := dk_153 0 7 (dk_at dksX1_lambda_heads_3_0 5 rfl rfl)
theorem dX1_lambda_heads_3_8 : decode cX1_lambda_heads_3 8 = .ok (.iconst 1, 1) := dk_4 (dk_at dksX1_lambda_heads_3_0 8 rfl rfl)
theorem dX1_lambda_heads_3_9 : decode cX1_lambda_heads_3 9 = .ok (.goto 4, 3) := dk_167 0 4 (dk_at dksX1_lambda_heads_3_0 9 rfl rfl)
theorem dX1_lambda_heads_3_12 : decode cX1_lambda_heads_3 12 = .ok (.iconst 0, 1) := dk_3 (dk_at dksX1_lambda_heads_3_0 12 rfl rfl)
theorem dX1_lambda_heads_3_13 : decode cX1_lambda_heads_3 13 = .ok (.ireturn, 1) := dk_172 (dk_at dksX1_lambda_heads_3_0 13 rfl rfl)
abbrev cX1_tailsOf : ByteArray := prog_1_method_36_code
def yX1_tailsOf : MethodName := ⟨RX1, "tailsOf", "(I)I"⟩
def dkwX1_tailsOf_0 : List UInt8 := [42, 42, 27, 186, 1, 22, 0, 0, 182, 1, 11, 172]
abbrev dktX1_tailsOf_0 : List UInt8 := dkwX1_tailsOf_0 ++ []
theorem dksX1_tailsOf_0 : cX1_tailsOf.data.toList.drop 0 = dktX1_tailsOf_0 := by decide +kernel
theorem dX1_tailsOf_0 : decode cX1_tailsOf 0 = .ok (.aload_n 0, 1) := dk_42 (dk_at dksX1_tailsOf_0 0 rfl rfl)
theorem dX1_tailsOf_1 : decode cX1_tailsOf 1 = .ok (.aload_n 0, 1) := dk_42 (dk_at dksX1_tailsOf_0 1 rfl rfl)
theorem dX1_tailsOf_2 : decode cX1_tailsOf 2 = .ok (.iload_n 1, 1) := dk_27 (dk_at dksX1_tailsOf_0 2 rfl rfl)
theorem dX1_tailsOf_3 : decode cX1_tailsOf 3 = .ok (.invokedynamic 278, 5) := by decide +kernel
theorem dX1_tailsOf_8 : decode cX1_tailsOf 8 = .ok (.invokevirtual 267, 3) := dk_182 1 11 (dk_at dksX1_tailsOf_0 8 rfl rfl)
theorem dX1_tailsOf_11 : decode cX1_tailsOf 11 = .ok (.ireturn, 1) := dk_172 (dk_at dksX1_tailsOf_0 11 rfl rfl)
abbrev cX1_lambda_tailsOf_2 : ByteArray := prog_1_method_102_code
def yX1_lambda_tailsOf_2 : MethodName := ⟨RX1, "lambda$tailsOf$2", "(II)Z"⟩
def dkwX1_lambda_tailsOf_2_1 : List UInt8 := [182, 1, 138, 153, 0, 7, 4, 167, 0, 4, 3, 172]
abbrev dktX1_lambda_tailsOf_2_1 : List UInt8 := dkwX1_lambda_tailsOf_2_1 ++ []
def dkwX1_lambda_tailsOf_2_0 : List UInt8 := [42, 180, 0, 33, 180, 1, 19, 28, 46, 27, 184, 0, 7, 153, 0, 19, 42, 180, 0, 50, 28, 27]
abbrev dktX1_lambda_tailsOf_2_0 : List UInt8 := dkwX1_lambda_tailsOf_2_0 ++ dktX1_lambda_tailsOf_2_1
theorem dksX1_lambda_tailsOf_2_0 : cX1_lambda_tailsOf_2.data.toList.drop 0 = dktX1_lambda_tailsOf_2_0 := by decide +kernel
theorem dksX1_lambda_tailsOf_2_1 : cX1_lambda_tailsOf_2.data.toList.drop 22 = dktX1_lambda_tailsOf_2_1 := dk_seg dksX1_lambda_tailsOf_2_0 22 rfl rfl
theorem dX1_lambda_tailsOf_2_0 : decode cX1_lambda_tailsOf_2 0 = .ok (.aload_n 0, 1) := dk_42 (dk_at dksX1_lambda_tailsOf_2_0 0 rfl rfl)
theorem dX1_lambda_tailsOf_2_1 : decode cX1_lambda_tailsOf_2 1 = .ok (.getfield 33, 3) := dk_180 0 33 (dk_at dksX1_lambda_tailsOf_2_0 1 rfl rfl)
theorem dX1_lambda_tailsOf_2_4 : decode cX1_lambda_tailsOf_2 4 = .ok (.getfield 275, 3) := dk_180 1 19 (dk_at dksX1_lambda_tailsOf_2_0 4 rfl rfl)
theorem dX1_lambda_tailsOf_2_7 : decode cX1_lambda_tailsOf_2 7 = .ok (.iload_n 2, 1) := dk_28 (dk_at dksX1_lambda_tailsOf_2_0 7 rfl rfl)
theorem dX1_lambda_tailsOf_2_8 : decode cX1_lambda_tailsOf_2 8 = .ok (.iaload, 1) := dk_46 (dk_at dksX1_lambda_tailsOf_2_0 8 rfl rfl)
theorem dX1_lambda_tailsOf_2_9 : decode cX1_lambda_tailsOf_2 9 = .ok (.iload_n 1, 1) := dk_27 (dk_at dksX1_lambda_tailsOf_2_0 9 rfl rfl)
theorem dX1_lambda_tailsOf_2_10 : decode cX1_lambda_tailsOf_2 10 = .ok (.invokestatic 7, 3) := dk_184 0 7 (dk_at dksX1_lambda_tailsOf_2_0 10 rfl rfl)
theorem dX1_lambda_tailsOf_2_13 : decode cX1_lambda_tailsOf_2 13 = .ok (.ifCond .eq 19, 3) := dk_153 0 19 (dk_at dksX1_lambda_tailsOf_2_0 13 rfl rfl)
theorem dX1_lambda_tailsOf_2_16 : decode cX1_lambda_tailsOf_2 16 = .ok (.aload_n 0, 1) := dk_42 (dk_at dksX1_lambda_tailsOf_2_0 16 rfl rfl)
theorem dX1_lambda_tailsOf_2_17 : decode cX1_lambda_tailsOf_2 17 = .ok (.getfield 50, 3) := dk_180 0 50 (dk_at dksX1_lambda_tailsOf_2_0 17 rfl rfl)
theorem dX1_lambda_tailsOf_2_20 : decode cX1_lambda_tailsOf_2 20 = .ok (.iload_n 2, 1) := dk_28 (dk_at dksX1_lambda_tailsOf_2_0 20 rfl rfl)
theorem dX1_lambda_tailsOf_2_21 : decode cX1_lambda_tailsOf_2 21 = .ok (.iload_n 1, 1) := dk_27 (dk_at dksX1_lambda_tailsOf_2_0 21 rfl rfl)
theorem dX1_lambda_tailsOf_2_22 : decode cX1_lambda_tailsOf_2 22 = .ok (.invokevirtual 394, 3) := dk_182 1 138 (dk_at dksX1_lambda_tailsOf_2_1 0 rfl rfl)
theorem dX1_lambda_tailsOf_2_25 : decode cX1_lambda_tailsOf_2 25 = .ok (.ifCond .eq 7, 3) := dk_153 0 7 (dk_at dksX1_lambda_tailsOf_2_1 3 rfl rfl)
theorem dX1_lambda_tailsOf_2_28 : decode cX1_lambda_tailsOf_2 28 = .ok (.iconst 1, 1) := dk_4 (dk_at dksX1_lambda_tailsOf_2_1 6 rfl rfl)
theorem dX1_lambda_tailsOf_2_29 : decode cX1_lambda_tailsOf_2 29 = .ok (.goto 4, 3) := dk_167 0 4 (dk_at dksX1_lambda_tailsOf_2_1 7 rfl rfl)
theorem dX1_lambda_tailsOf_2_32 : decode cX1_lambda_tailsOf_2 32 = .ok (.iconst 0, 1) := dk_3 (dk_at dksX1_lambda_tailsOf_2_1 10 rfl rfl)
theorem dX1_lambda_tailsOf_2_33 : decode cX1_lambda_tailsOf_2 33 = .ok (.ireturn, 1) := dk_172 (dk_at dksX1_lambda_tailsOf_2_1 11 rfl rfl)
abbrev cX1_arcsOf : ByteArray := prog_1_method_81_code
def yX1_arcsOf : MethodName := ⟨RX1, "arcsOf", "(I)I"⟩
def dkwX1_arcsOf_1 : List UInt8 := [160, 0, 7, 4, 167, 0, 4, 3, 96, 61, 132, 3, 1, 167, 255, 225, 28, 172]
abbrev dktX1_arcsOf_1 : List UInt8 := dkwX1_arcsOf_1 ++ []
def dkwX1_arcsOf_0 : List UInt8 := [3, 61, 3, 62, 29, 42, 180, 0, 33, 180, 0, 230, 162, 0, 26, 28, 42, 29, 182, 1, 147, 27]
abbrev dktX1_arcsOf_0 : List UInt8 := dkwX1_arcsOf_0 ++ dktX1_arcsOf_1
theorem dksX1_arcsOf_0 : cX1_arcsOf.data.toList.drop 0 = dktX1_arcsOf_0 := by decide +kernel
theorem dksX1_arcsOf_1 : cX1_arcsOf.data.toList.drop 22 = dktX1_arcsOf_1 := dk_seg dksX1_arcsOf_0 22 rfl rfl
theorem dX1_arcsOf_0 : decode cX1_arcsOf 0 = .ok (.iconst 0, 1) := dk_3 (dk_at dksX1_arcsOf_0 0 rfl rfl)
theorem dX1_arcsOf_1 : decode cX1_arcsOf 1 = .ok (.istore_n 2, 1) := dk_61 (dk_at dksX1_arcsOf_0 1 rfl rfl)
theorem dX1_arcsOf_2 : decode cX1_arcsOf 2 = .ok (.iconst 0, 1) := dk_3 (dk_at dksX1_arcsOf_0 2 rfl rfl)
theorem dX1_arcsOf_3 : decode cX1_arcsOf 3 = .ok (.istore_n 3, 1) := dk_62 (dk_at dksX1_arcsOf_0 3 rfl rfl)
theorem dX1_arcsOf_4 : decode cX1_arcsOf 4 = .ok (.iload_n 3, 1) := dk_29 (dk_at dksX1_arcsOf_0 4 rfl rfl)
theorem dX1_arcsOf_5 : decode cX1_arcsOf 5 = .ok (.aload_n 0, 1) := dk_42 (dk_at dksX1_arcsOf_0 5 rfl rfl)
theorem dX1_arcsOf_6 : decode cX1_arcsOf 6 = .ok (.getfield 33, 3) := dk_180 0 33 (dk_at dksX1_arcsOf_0 6 rfl rfl)
theorem dX1_arcsOf_9 : decode cX1_arcsOf 9 = .ok (.getfield 230, 3) := dk_180 0 230 (dk_at dksX1_arcsOf_0 9 rfl rfl)
theorem dX1_arcsOf_12 : decode cX1_arcsOf 12 = .ok (.if_icmp .ge 26, 3) := dk_162 0 26 (dk_at dksX1_arcsOf_0 12 rfl rfl)
theorem dX1_arcsOf_15 : decode cX1_arcsOf 15 = .ok (.iload_n 2, 1) := dk_28 (dk_at dksX1_arcsOf_0 15 rfl rfl)
theorem dX1_arcsOf_16 : decode cX1_arcsOf 16 = .ok (.aload_n 0, 1) := dk_42 (dk_at dksX1_arcsOf_0 16 rfl rfl)
theorem dX1_arcsOf_17 : decode cX1_arcsOf 17 = .ok (.iload_n 3, 1) := dk_29 (dk_at dksX1_arcsOf_0 17 rfl rfl)
theorem dX1_arcsOf_18 : decode cX1_arcsOf 18 = .ok (.invokevirtual 403, 3) := dk_182 1 147 (dk_at dksX1_arcsOf_0 18 rfl rfl)
theorem dX1_arcsOf_21 : decode cX1_arcsOf 21 = .ok (.iload_n 1, 1) := dk_27 (dk_at dksX1_arcsOf_0 21 rfl rfl)
theorem dX1_arcsOf_22 : decode cX1_arcsOf 22 = .ok (.if_icmp .ne 7, 3) := dk_160 0 7 (dk_at dksX1_arcsOf_1 0 rfl rfl)
theorem dX1_arcsOf_25 : decode cX1_arcsOf 25 = .ok (.iconst 1, 1) := dk_4 (dk_at dksX1_arcsOf_1 3 rfl rfl)
theorem dX1_arcsOf_26 : decode cX1_arcsOf 26 = .ok (.goto 4, 3) := dk_167 0 4 (dk_at dksX1_arcsOf_1 4 rfl rfl)
theorem dX1_arcsOf_29 : decode cX1_arcsOf 29 = .ok (.iconst 0, 1) := dk_3 (dk_at dksX1_arcsOf_1 7 rfl rfl)
theorem dX1_arcsOf_30 : decode cX1_arcsOf 30 = .ok (.iadd, 1) := dk_96 (dk_at dksX1_arcsOf_1 8 rfl rfl)
theorem dX1_arcsOf_31 : decode cX1_arcsOf 31 = .ok (.istore_n 2, 1) := dk_61 (dk_at dksX1_arcsOf_1 9 rfl rfl)
theorem dX1_arcsOf_32 : decode cX1_arcsOf 32 = .ok (.iinc 3 1, 3) := dk_132 3 1 (dk_at dksX1_arcsOf_1 10 rfl rfl)
theorem dX1_arcsOf_35 : decode cX1_arcsOf 35 = .ok (.goto (-31), 3) := dk_167 255 225 (dk_at dksX1_arcsOf_1 13 rfl rfl)
theorem dX1_arcsOf_38 : decode cX1_arcsOf 38 = .ok (.iload_n 2, 1) := dk_28 (dk_at dksX1_arcsOf_1 16 rfl rfl)
theorem dX1_arcsOf_39 : decode cX1_arcsOf 39 = .ok (.ireturn, 1) := dk_172 (dk_at dksX1_arcsOf_1 17 rfl rfl)
abbrev cX1_kindOf : ByteArray := prog_1_method_58_code
def yX1_kindOf : MethodName := ⟨RX1, "kindOf", "(I)I"⟩
def dkwX1_kindOf_4 : List UInt8 := [46, 160, 0, 7, 6, 167, 0, 4, 7, 172]
abbrev dktX1_kindOf_4 : List UInt8 := dkwX1_kindOf_4 ++ []
def dkwX1_kindOf_3 : List UInt8 := [180, 0, 50, 180, 1, 63, 42, 180, 0, 33, 180, 0, 201, 27, 46, 46, 42, 180, 0, 33, 180, 0, 198, 27]
abbrev dktX1_kindOf_3 : List UInt8 := dkwX1_kindOf_3 ++ dktX1_kindOf_4
def dkwX1_kindOf_2 : List UInt8 := [180, 0, 198, 27, 46, 42, 180, 0, 33, 180, 0, 201, 27, 46, 182, 1, 138, 153, 0, 5, 5, 172, 42]
abbrev dktX1_kindOf_2 : List UInt8 := dkwX1_kindOf_2 ++ dktX1_kindOf_3
def dkwX1_kindOf_1 : List UInt8 := [180, 0, 33, 180, 0, 198, 27, 46, 184, 0, 7, 154, 0, 5, 4, 172, 42, 180, 0, 50, 42, 180, 0, 33]
abbrev dktX1_kindOf_1 : List UInt8 := dkwX1_kindOf_1 ++ dktX1_kindOf_2
def dkwX1_kindOf_0 : List UInt8 := [42, 180, 0, 33, 180, 1, 54, 27, 51, 154, 0, 5, 3, 172, 42, 180, 0, 50, 180, 0, 140, 42]
abbrev dktX1_kindOf_0 : List UInt8 := dkwX1_kindOf_0 ++ dktX1_kindOf_1
theorem dksX1_kindOf_0 : cX1_kindOf.data.toList.drop 0 = dktX1_kindOf_0 := by decide +kernel
theorem dksX1_kindOf_1 : cX1_kindOf.data.toList.drop 22 = dktX1_kindOf_1 := dk_seg dksX1_kindOf_0 22 rfl rfl
theorem dksX1_kindOf_2 : cX1_kindOf.data.toList.drop 46 = dktX1_kindOf_2 := dk_seg dksX1_kindOf_1 24 rfl rfl
theorem dksX1_kindOf_3 : cX1_kindOf.data.toList.drop 69 = dktX1_kindOf_3 := dk_seg dksX1_kindOf_2 23 rfl rfl
theorem dksX1_kindOf_4 : cX1_kindOf.data.toList.drop 93 = dktX1_kindOf_4 := dk_seg dksX1_kindOf_3 24 rfl rfl
theorem dX1_kindOf_0 : decode cX1_kindOf 0 = .ok (.aload_n 0, 1) := dk_42 (dk_at dksX1_kindOf_0 0 rfl rfl)
theorem dX1_kindOf_1 : decode cX1_kindOf 1 = .ok (.getfield 33, 3) := dk_180 0 33 (dk_at dksX1_kindOf_0 1 rfl rfl)
theorem dX1_kindOf_4 : decode cX1_kindOf 4 = .ok (.getfield 310, 3) := dk_180 1 54 (dk_at dksX1_kindOf_0 4 rfl rfl)
theorem dX1_kindOf_7 : decode cX1_kindOf 7 = .ok (.iload_n 1, 1) := dk_27 (dk_at dksX1_kindOf_0 7 rfl rfl)
theorem dX1_kindOf_8 : decode cX1_kindOf 8 = .ok (.baload, 1) := dk_51 (dk_at dksX1_kindOf_0 8 rfl rfl)
theorem dX1_kindOf_9 : decode cX1_kindOf 9 = .ok (.ifCond .ne 5, 3) := dk_154 0 5 (dk_at dksX1_kindOf_0 9 rfl rfl)
theorem dX1_kindOf_12 : decode cX1_kindOf 12 = .ok (.iconst 0, 1) := dk_3 (dk_at dksX1_kindOf_0 12 rfl rfl)
theorem dX1_kindOf_13 : decode cX1_kindOf 13 = .ok (.ireturn, 1) := dk_172 (dk_at dksX1_kindOf_0 13 rfl rfl)
theorem dX1_kindOf_14 : decode cX1_kindOf 14 = .ok (.aload_n 0, 1) := dk_42 (dk_at dksX1_kindOf_0 14 rfl rfl)
theorem dX1_kindOf_15 : decode cX1_kindOf 15 = .ok (.getfield 50, 3) := dk_180 0 50 (dk_at dksX1_kindOf_0 15 rfl rfl)
theorem dX1_kindOf_18 : decode cX1_kindOf 18 = .ok (.getfield 140, 3) := dk_180 0 140 (dk_at dksX1_kindOf_0 18 rfl rfl)
theorem dX1_kindOf_21 : decode cX1_kindOf 21 = .ok (.aload_n 0, 1) := dk_42 (dk_at dksX1_kindOf_0 21 rfl rfl)
theorem dX1_kindOf_22 : decode cX1_kindOf 22 = .ok (.getfield 33, 3) := dk_180 0 33 (dk_at dksX1_kindOf_1 0 rfl rfl)
theorem dX1_kindOf_25 : decode cX1_kindOf 25 = .ok (.getfield 198, 3) := dk_180 0 198 (dk_at dksX1_kindOf_1 3 rfl rfl)
theorem dX1_kindOf_28 : decode cX1_kindOf 28 = .ok (.iload_n 1, 1) := dk_27 (dk_at dksX1_kindOf_1 6 rfl rfl)
theorem dX1_kindOf_29 : decode cX1_kindOf 29 = .ok (.iaload, 1) := dk_46 (dk_at dksX1_kindOf_1 7 rfl rfl)
theorem dX1_kindOf_30 : decode cX1_kindOf 30 = .ok (.invokestatic 7, 3) := dk_184 0 7 (dk_at dksX1_kindOf_1 8 rfl rfl)
theorem dX1_kindOf_33 : decode cX1_kindOf 33 = .ok (.ifCond .ne 5, 3) := dk_154 0 5 (dk_at dksX1_kindOf_1 11 rfl rfl)
theorem dX1_kindOf_36 : decode cX1_kindOf 36 = .ok (.iconst 1, 1) := dk_4 (dk_at dksX1_kindOf_1 14 rfl rfl)
theorem dX1_kindOf_37 : decode cX1_kindOf 37 = .ok (.ireturn, 1) := dk_172 (dk_at dksX1_kindOf_1 15 rfl rfl)
theorem dX1_kindOf_38 : decode cX1_kindOf 38 = .ok (.aload_n 0, 1) := dk_42 (dk_at dksX1_kindOf_1 16 rfl rfl)
theorem dX1_kindOf_39 : decode cX1_kindOf 39 = .ok (.getfield 50, 3) := dk_180 0 50 (dk_at dksX1_kindOf_1 17 rfl rfl)
theorem dX1_kindOf_42 : decode cX1_kindOf 42 = .ok (.aload_n 0, 1) := dk_42 (dk_at dksX1_kindOf_1 20 rfl rfl)
theorem dX1_kindOf_43 : decode cX1_kindOf 43 = .ok (.getfield 33, 3) := dk_180 0 33 (dk_at dksX1_kindOf_1 21 rfl rfl)
theorem dX1_kindOf_46 : decode cX1_kindOf 46 = .ok (.getfield 198, 3) := dk_180 0 198 (dk_at dksX1_kindOf_2 0 rfl rfl)
theorem dX1_kindOf_49 : decode cX1_kindOf 49 = .ok (.iload_n 1, 1) := dk_27 (dk_at dksX1_kindOf_2 3 rfl rfl)
theorem dX1_kindOf_50 : decode cX1_kindOf 50 = .ok (.iaload, 1) := dk_46 (dk_at dksX1_kindOf_2 4 rfl rfl)
theorem dX1_kindOf_51 : decode cX1_kindOf 51 = .ok (.aload_n 0, 1) := dk_42 (dk_at dksX1_kindOf_2 5 rfl rfl)
theorem dX1_kindOf_52 : decode cX1_kindOf 52 = .ok (.getfield 33, 3) := dk_180 0 33 (dk_at dksX1_kindOf_2 6 rfl rfl)
theorem dX1_kindOf_55 : decode cX1_kindOf 55 = .ok (.getfield 201, 3) := dk_180 0 201 (dk_at dksX1_kindOf_2 9 rfl rfl)
theorem dX1_kindOf_58 : decode cX1_kindOf 58 = .ok (.iload_n 1, 1) := dk_27 (dk_at dksX1_kindOf_2 12 rfl rfl)
theorem dX1_kindOf_59 : decode cX1_kindOf 59 = .ok (.iaload, 1) := dk_46 (dk_at dksX1_kindOf_2 13 rfl rfl)
theorem dX1_kindOf_60 : decode cX1_kindOf 60 = .ok (.invokevirtual 394, 3) := dk_182 1 138 (dk_at dksX1_kindOf_2 14 rfl rfl)
theorem dX1_kindOf_63 : decode cX1_kindOf 63 = .ok (.ifCond .eq 5, 3) := dk_153 0 5 (dk_at dksX1_kindOf_2 17 rfl rfl)
theorem dX1_kindOf_66 : decode cX1_kindOf 66 = .ok (.iconst 2, 1) := dk_5 (dk_at dksX1_kindOf_2 20 rfl rfl)
theorem dX1_kindOf_67 : decode cX1_kindOf 67 = .ok (.ireturn, 1) := dk_172 (dk_at dksX1_kindOf_2 21 rfl rfl)
theorem dX1_kindOf_68 : decode cX1_kindOf 68 = .ok (.aload_n 0, 1) := dk_42 (dk_at dksX1_kindOf_2 22 rfl rfl)
theorem dX1_kindOf_69 : decode cX1_kindOf 69 = .ok (.getfield 50, 3) := dk_180 0 50 (dk_at dksX1_kindOf_3 0 rfl rfl)
theorem dX1_kindOf_72 : decode cX1_kindOf 72 = .ok (.getfield 319, 3) := dk_180 1 63 (dk_at dksX1_kindOf_3 3 rfl rfl)
theorem dX1_kindOf_75 : decode cX1_kindOf 75 = .ok (.aload_n 0, 1) := dk_42 (dk_at dksX1_kindOf_3 6 rfl rfl)
theorem dX1_kindOf_76 : decode cX1_kindOf 76 = .ok (.getfield 33, 3) := dk_180 0 33 (dk_at dksX1_kindOf_3 7 rfl rfl)
theorem dX1_kindOf_79 : decode cX1_kindOf 79 = .ok (.getfield 201, 3) := dk_180 0 201 (dk_at dksX1_kindOf_3 10 rfl rfl)
theorem dX1_kindOf_82 : decode cX1_kindOf 82 = .ok (.iload_n 1, 1) := dk_27 (dk_at dksX1_kindOf_3 13 rfl rfl)
theorem dX1_kindOf_83 : decode cX1_kindOf 83 = .ok (.iaload, 1) := dk_46 (dk_at dksX1_kindOf_3 14 rfl rfl)
theorem dX1_kindOf_84 : decode cX1_kindOf 84 = .ok (.iaload, 1) := dk_46 (dk_at dksX1_kindOf_3 15 rfl rfl)
theorem dX1_kindOf_85 : decode cX1_kindOf 85 = .ok (.aload_n 0, 1) := dk_42 (dk_at dksX1_kindOf_3 16 rfl rfl)
theorem dX1_kindOf_86 : decode cX1_kindOf 86 = .ok (.getfield 33, 3) := dk_180 0 33 (dk_at dksX1_kindOf_3 17 rfl rfl)
theorem dX1_kindOf_89 : decode cX1_kindOf 89 = .ok (.getfield 198, 3) := dk_180 0 198 (dk_at dksX1_kindOf_3 20 rfl rfl)
theorem dX1_kindOf_92 : decode cX1_kindOf 92 = .ok (.iload_n 1, 1) := dk_27 (dk_at dksX1_kindOf_3 23 rfl rfl)
theorem dX1_kindOf_93 : decode cX1_kindOf 93 = .ok (.iaload, 1) := dk_46 (dk_at dksX1_kindOf_4 0 rfl rfl)
theorem dX1_kindOf_94 : decode cX1_kindOf 94 = .ok (.if_icmp .ne 7, 3) := dk_160 0 7 (dk_at dksX1_kindOf_4 1 rfl rfl)
theorem dX1_kindOf_97 : decode cX1_kindOf 97 = .ok (.iconst 3, 1) := dk_6 (dk_at dksX1_kindOf_4 4 rfl rfl)
theorem dX1_kindOf_98 : decode cX1_kindOf 98 = .ok (.goto 4, 3) := dk_167 0 4 (dk_at dksX1_kindOf_4 5 rfl rfl)
theorem dX1_kindOf_101 : decode cX1_kindOf 101 = .ok (.iconst 4, 1) := dk_7 (dk_at dksX1_kindOf_4 8 rfl rfl)
theorem dX1_kindOf_102 : decode cX1_kindOf 102 = .ok (.ireturn, 1) := dk_172 (dk_at dksX1_kindOf_4 9 rfl rfl)
abbrev cX1_bridges : ByteArray := prog_1_method_82_code
def yX1_bridges : MethodName := ⟨RX1, "bridges", "()I"⟩
def dkwX1_bridges_1 : List UInt8 := [4, 167, 0, 4, 3, 96, 60, 132, 2, 1, 167, 255, 226, 27, 172]
abbrev dktX1_bridges_1 : List UInt8 := dkwX1_bridges_1 ++ []
def dkwX1_bridges_0 : List UInt8 := [3, 60, 3, 61, 28, 42, 180, 0, 33, 180, 0, 230, 162, 0, 25, 27, 42, 28, 182, 1, 150, 153, 0, 7]
abbrev dktX1_bridges_0 : List UInt8 := dkwX1_bridges_0 ++ dktX1_bridges_1
theorem dksX1_bridges_0 : cX1_bridges.data.toList.drop 0 = dktX1_bridges_0 := by decide +kernel
theorem dksX1_bridges_1 : cX1_bridges.data.toList.drop 24 = dktX1_bridges_1 := dk_seg dksX1_bridges_0 24 rfl rfl
theorem dX1_bridges_0 : decode cX1_bridges 0 = .ok (.iconst 0, 1) := dk_3 (dk_at dksX1_bridges_0 0 rfl rfl)
theorem dX1_bridges_1 : decode cX1_bridges 1 = .ok (.istore_n 1, 1) := dk_60 (dk_at dksX1_bridges_0 1 rfl rfl)
theorem dX1_bridges_2 : decode cX1_bridges 2 = .ok (.iconst 0, 1) := dk_3 (dk_at dksX1_bridges_0 2 rfl rfl)
theorem dX1_bridges_3 : decode cX1_bridges 3 = .ok (.istore_n 2, 1) := dk_61 (dk_at dksX1_bridges_0 3 rfl rfl)
theorem dX1_bridges_4 : decode cX1_bridges 4 = .ok (.iload_n 2, 1) := dk_28 (dk_at dksX1_bridges_0 4 rfl rfl)
theorem dX1_bridges_5 : decode cX1_bridges 5 = .ok (.aload_n 0, 1) := dk_42 (dk_at dksX1_bridges_0 5 rfl rfl)
theorem dX1_bridges_6 : decode cX1_bridges 6 = .ok (.getfield 33, 3) := dk_180 0 33 (dk_at dksX1_bridges_0 6 rfl rfl)
theorem dX1_bridges_9 : decode cX1_bridges 9 = .ok (.getfield 230, 3) := dk_180 0 230 (dk_at dksX1_bridges_0 9 rfl rfl)
theorem dX1_bridges_12 : decode cX1_bridges 12 = .ok (.if_icmp .ge 25, 3) := dk_162 0 25 (dk_at dksX1_bridges_0 12 rfl rfl)
theorem dX1_bridges_15 : decode cX1_bridges 15 = .ok (.iload_n 1, 1) := dk_27 (dk_at dksX1_bridges_0 15 rfl rfl)
theorem dX1_bridges_16 : decode cX1_bridges 16 = .ok (.aload_n 0, 1) := dk_42 (dk_at dksX1_bridges_0 16 rfl rfl)
theorem dX1_bridges_17 : decode cX1_bridges 17 = .ok (.iload_n 2, 1) := dk_28 (dk_at dksX1_bridges_0 17 rfl rfl)
theorem dX1_bridges_18 : decode cX1_bridges 18 = .ok (.invokevirtual 406, 3) := dk_182 1 150 (dk_at dksX1_bridges_0 18 rfl rfl)
theorem dX1_bridges_21 : decode cX1_bridges 21 = .ok (.ifCond .eq 7, 3) := dk_153 0 7 (dk_at dksX1_bridges_0 21 rfl rfl)
theorem dX1_bridges_24 : decode cX1_bridges 24 = .ok (.iconst 1, 1) := dk_4 (dk_at dksX1_bridges_1 0 rfl rfl)
theorem dX1_bridges_25 : decode cX1_bridges 25 = .ok (.goto 4, 3) := dk_167 0 4 (dk_at dksX1_bridges_1 1 rfl rfl)
theorem dX1_bridges_28 : decode cX1_bridges 28 = .ok (.iconst 0, 1) := dk_3 (dk_at dksX1_bridges_1 4 rfl rfl)
theorem dX1_bridges_29 : decode cX1_bridges 29 = .ok (.iadd, 1) := dk_96 (dk_at dksX1_bridges_1 5 rfl rfl)
theorem dX1_bridges_30 : decode cX1_bridges 30 = .ok (.istore_n 1, 1) := dk_60 (dk_at dksX1_bridges_1 6 rfl rfl)
theorem dX1_bridges_31 : decode cX1_bridges 31 = .ok (.iinc 2 1, 3) := dk_132 2 1 (dk_at dksX1_bridges_1 7 rfl rfl)
theorem dX1_bridges_34 : decode cX1_bridges 34 = .ok (.goto (-30), 3) := dk_167 255 226 (dk_at dksX1_bridges_1 10 rfl rfl)
theorem dX1_bridges_37 : decode cX1_bridges 37 = .ok (.iload_n 1, 1) := dk_27 (dk_at dksX1_bridges_1 13 rfl rfl)
theorem dX1_bridges_38 : decode cX1_bridges 38 = .ok (.ireturn, 1) := dk_172 (dk_at dksX1_bridges_1 14 rfl rfl)
abbrev cX1_isBridge : ByteArray := prog_1_method_59_code
def yX1_isBridge : MethodName := ⟨RX1, "isBridge", "(I)Z"⟩
def dkwX1_isBridge_1 : List UInt8 := [182, 1, 115, 42, 180, 0, 33, 180, 0, 201, 27, 46, 184, 0, 7, 154, 0, 7, 4, 167, 0, 4, 3, 172]
abbrev dktX1_isBridge_1 : List UInt8 := dkwX1_isBridge_1 ++ []
def dkwX1_isBridge_0 : List UInt8 := [42, 180, 0, 33, 27, 42, 180, 0, 50, 180, 0, 140, 182, 1, 141, 153, 0, 30, 42, 180, 0, 33, 27]
abbrev dktX1_isBridge_0 : List UInt8 := dkwX1_isBridge_0 ++ dktX1_isBridge_1
theorem dksX1_isBridge_0 : cX1_isBridge.data.toList.drop 0 = dktX1_isBridge_0 := by decide +kernel
theorem dksX1_isBridge_1 : cX1_isBridge.data.toList.drop 23 = dktX1_isBridge_1 := dk_seg dksX1_isBridge_0 23 rfl rfl
theorem dX1_isBridge_0 : decode cX1_isBridge 0 = .ok (.aload_n 0, 1) := dk_42 (dk_at dksX1_isBridge_0 0 rfl rfl)
theorem dX1_isBridge_1 : decode cX1_isBridge 1 = .ok (.getfield 33, 3) := dk_180 0 33 (dk_at dksX1_isBridge_0 1 rfl rfl)
theorem dX1_isBridge_4 : decode cX1_isBridge 4 = .ok (.iload_n 1, 1) := dk_27 (dk_at dksX1_isBridge_0 4 rfl rfl)
theorem dX1_isBridge_5 : decode cX1_isBridge 5 = .ok (.aload_n 0, 1) := dk_42 (dk_at dksX1_isBridge_0 5 rfl rfl)
theorem dX1_isBridge_6 : decode cX1_isBridge 6 = .ok (.getfield 50, 3) := dk_180 0 50 (dk_at dksX1_isBridge_0 6 rfl rfl)
theorem dX1_isBridge_9 : decode cX1_isBridge 9 = .ok (.getfield 140, 3) := dk_180 0 140 (dk_at dksX1_isBridge_0 9 rfl rfl)
theorem dX1_isBridge_12 : decode cX1_isBridge 12 = .ok (.invokevirtual 397, 3) := dk_182 1 141 (dk_at dksX1_isBridge_0 12 rfl rfl)
theorem dX1_isBridge_15 : decode cX1_isBridge 15 = .ok (.ifCond .eq 30, 3) := dk_153 0 30 (dk_at dksX1_isBridge_0 15 rfl rfl)
theorem dX1_isBridge_18 : decode cX1_isBridge 18 = .ok (.aload_n 0, 1) := dk_42 (dk_at dksX1_isBridge_0 18 rfl rfl)
theorem dX1_isBridge_19 : decode cX1_isBridge 19 = .ok (.getfield 33, 3) := dk_180 0 33 (dk_at dksX1_isBridge_0 19 rfl rfl)
theorem dX1_isBridge_22 : decode cX1_isBridge 22 = .ok (.iload_n 1, 1) := dk_27 (dk_at dksX1_isBridge_0 22 rfl rfl)
theorem dX1_isBridge_23 : decode cX1_isBridge 23 = .ok (.invokevirtual 371, 3) := dk_182 1 115 (dk_at dksX1_isBridge_1 0 rfl rfl)
theorem dX1_isBridge_26 : decode cX1_isBridge 26 = .ok (.aload_n 0, 1) := dk_42 (dk_at dksX1_isBridge_1 3 rfl rfl)
theorem dX1_isBridge_27 : decode cX1_isBridge 27 = .ok (.getfield 33, 3) := dk_180 0 33 (dk_at dksX1_isBridge_1 4 rfl rfl)
theorem dX1_isBridge_30 : decode cX1_isBridge 30 = .ok (.getfield 201, 3) := dk_180 0 201 (dk_at dksX1_isBridge_1 7 rfl rfl)
theorem dX1_isBridge_33 : decode cX1_isBridge 33 = .ok (.iload_n 1, 1) := dk_27 (dk_at dksX1_isBridge_1 10 rfl rfl)
theorem dX1_isBridge_34 : decode cX1_isBridge 34 = .ok (.iaload, 1) := dk_46 (dk_at dksX1_isBridge_1 11 rfl rfl)
theorem dX1_isBridge_35 : decode cX1_isBridge 35 = .ok (.invokestatic 7, 3) := dk_184 0 7 (dk_at dksX1_isBridge_1 12 rfl rfl)
theorem dX1_isBridge_38 : decode cX1_isBridge 38 = .ok (.ifCond .ne 7, 3) := dk_154 0 7 (dk_at dksX1_isBridge_1 15 rfl rfl)
theorem dX1_isBridge_41 : decode cX1_isBridge 41 = .ok (.iconst 1, 1) := dk_4 (dk_at dksX1_isBridge_1 18 rfl rfl)
theorem dX1_isBridge_42 : decode cX1_isBridge 42 = .ok (.goto 4, 3) := dk_167 0 4 (dk_at dksX1_isBridge_1 19 rfl rfl)
theorem dX1_isBridge_45 : decode cX1_isBridge 45 = .ok (.iconst 0, 1) := dk_3 (dk_at dksX1_isBridge_1 22 rfl rfl)
theorem dX1_isBridge_46 : decode cX1_isBridge 46 = .ok (.ireturn, 1) := dk_172 (dk_at dksX1_isBridge_1 23 rfl rfl)
abbrev cX1_isSound : ByteArray := prog_1_method_83_code
def yX1_isSound : MethodName := ⟨RX1, "isSound", "()Z"⟩
def dkwX1_isSound_1 : List UInt8 := [186, 1, 191, 0, 0, 182, 1, 11, 126, 60, 167, 255, 233, 27, 154, 0, 7, 4, 167, 0, 4, 3, 172]
abbrev dktX1_isSound_1 : List UInt8 := dkwX1_isSound_1 ++ []
def dkwX1_isSound_0 : List UInt8 := [42, 180, 0, 50, 180, 0, 140, 60, 3, 61, 28, 27, 159, 0, 24, 27, 61, 27, 62, 27, 42, 42, 29]
abbrev dktX1_isSound_0 : List UInt8 := dkwX1_isSound_0 ++ dktX1_isSound_1
theorem dksX1_isSound_0 : cX1_isSound.data.toList.drop 0 = dktX1_isSound_0 := by decide +kernel
theorem dksX1_isSound_1 : cX1_isSound.data.toList.drop 23 = dktX1_isSound_1 := dk_seg dksX1_isSound_0 23 rfl rfl
theorem dX1_isSound_0 : decode cX1_isSound 0 = .ok (.aload_n 0, 1) := dk_42 (dk_at dksX1_isSound_0 0 rfl rfl)
theorem dX1_isSound_1 : decode cX1_isSound 1 = .ok (.getfield 50, 3) := dk_180 0 50 (dk_at dksX1_isSound_0 1 rfl rfl)
theorem dX1_isSound_4 : decode cX1_isSound 4 = .ok (.getfield 140, 3) := dk_180 0 140 (dk_at dksX1_isSound_0 4 rfl rfl)
theorem dX1_isSound_7 : decode cX1_isSound 7 = .ok (.istore_n 1, 1) := dk_60 (dk_at dksX1_isSound_0 7 rfl rfl)
theorem dX1_isSound_8 : decode cX1_isSound 8 = .ok (.iconst 0, 1) := dk_3 (dk_at dksX1_isSound_0 8 rfl rfl)
theorem dX1_isSound_9 : decode cX1_isSound 9 = .ok (.istore_n 2, 1) := dk_61 (dk_at dksX1_isSound_0 9 rfl rfl)
theorem dX1_isSound_10 : decode cX1_isSound 10 = .ok (.iload_n 2, 1) := dk_28 (dk_at dksX1_isSound_0 10 rfl rfl)
theorem dX1_isSound_11 : decode cX1_isSound 11 = .ok (.iload_n 1, 1) := dk_27 (dk_at dksX1_isSound_0 11 rfl rfl)
theorem dX1_isSound_12 : decode cX1_isSound 12 = .ok (.if_icmp .eq 24, 3) := dk_159 0 24 (dk_at dksX1_isSound_0 12 rfl rfl)
theorem dX1_isSound_15 : decode cX1_isSound 15 = .ok (.iload_n 1, 1) := dk_27 (dk_at dksX1_isSound_0 15 rfl rfl)
theorem dX1_isSound_16 : decode cX1_isSound 16 = .ok (.istore_n 2, 1) := dk_61 (dk_at dksX1_isSound_0 16 rfl rfl)
theorem dX1_isSound_17 : decode cX1_isSound 17 = .ok (.iload_n 1, 1) := dk_27 (dk_at dksX1_isSound_0 17 rfl rfl)
theorem dX1_isSound_18 : decode cX1_isSound 18 = .ok (.istore_n 3, 1) := dk_62 (dk_at dksX1_isSound_0 18 rfl rfl)
theorem dX1_isSound_19 : decode cX1_isSound 19 = .ok (.iload_n 1, 1) := dk_27 (dk_at dksX1_isSound_0 19 rfl rfl)
theorem dX1_isSound_20 : decode cX1_isSound 20 = .ok (.aload_n 0, 1) := dk_42 (dk_at dksX1_isSound_0 20 rfl rfl)
theorem dX1_isSound_21 : decode cX1_isSound 21 = .ok (.aload_n 0, 1) := dk_42 (dk_at dksX1_isSound_0 21 rfl rfl)
theorem dX1_isSound_22 : decode cX1_isSound 22 = .ok (.iload_n 3, 1) := dk_29 (dk_at dksX1_isSound_0 22 rfl rfl)
theorem dX1_isSound_23 : decode cX1_isSound 23 = .ok (.invokedynamic 447, 5) := by decide +kernel
theorem dX1_isSound_28 : decode cX1_isSound 28 = .ok (.invokevirtual 267, 3) := dk_182 1 11 (dk_at dksX1_isSound_1 5 rfl rfl)
theorem dX1_isSound_31 : decode cX1_isSound 31 = .ok (.iand, 1) := dk_126 (dk_at dksX1_isSound_1 8 rfl rfl)
theorem dX1_isSound_32 : decode cX1_isSound 32 = .ok (.istore_n 1, 1) := dk_60 (dk_at dksX1_isSound_1 9 rfl rfl)
theorem dX1_isSound_33 : decode cX1_isSound 33 = .ok (.goto (-23), 3) := dk_167 255 233 (dk_at dksX1_isSound_1 10 rfl rfl)
theorem dX1_isSound_36 : decode cX1_isSound 36 = .ok (.iload_n 1, 1) := dk_27 (dk_at dksX1_isSound_1 13 rfl rfl)
theorem dX1_isSound_37 : decode cX1_isSound 37 = .ok (.ifCond .ne 7, 3) := dk_154 0 7 (dk_at dksX1_isSound_1 14 rfl rfl)
theorem dX1_isSound_40 : decode cX1_isSound 40 = .ok (.iconst 1, 1) := dk_4 (dk_at dksX1_isSound_1 17 rfl rfl)
theorem dX1_isSound_41 : decode cX1_isSound 41 = .ok (.goto 4, 3) := dk_167 0 4 (dk_at dksX1_isSound_1 18 rfl rfl)
theorem dX1_isSound_44 : decode cX1_isSound 44 = .ok (.iconst 0, 1) := dk_3 (dk_at dksX1_isSound_1 21 rfl rfl)
theorem dX1_isSound_45 : decode cX1_isSound 45 = .ok (.ireturn, 1) := dk_172 (dk_at dksX1_isSound_1 22 rfl rfl)
abbrev cX1_lambda_isSound_10 : ByteArray := prog_1_method_94_code
def yX1_lambda_isSound_10 : MethodName := ⟨RX1, "lambda$isSound$10", "(II)Z"⟩
def dkwX1_lambda_isSound_10_1 : List UInt8 := [2, 130, 126, 153, 0, 7, 4, 167, 0, 4, 3, 172]
abbrev dktX1_lambda_isSound_10_1 : List UInt8 := dkwX1_lambda_isSound_10_1 ++ []
def dkwX1_lambda_isSound_10_0 : List UInt8 := [27, 28, 184, 0, 7, 153, 0, 29, 42, 180, 0, 33, 180, 1, 19, 28, 46, 27, 126, 42, 28, 182, 1, 237]
abbrev dktX1_lambda_isSound_10_0 : List UInt8 := dkwX1_lambda_isSound_10_0 ++ dktX1_lambda_isSound_10_1
theorem dksX1_lambda_isSound_10_0 : cX1_lambda_isSound_10.data.toList.drop 0 = dktX1_lambda_isSound_10_0 := by decide +kernel
theorem dksX1_lambda_isSound_10_1 : cX1_lambda_isSound_10.data.toList.drop 24 = dktX1_lambda_isSound_10_1 := dk_seg dksX1_lambda_isSound_10_0 24 rfl rfl
theorem dX1_lambda_isSound_10_0 : decode cX1_lambda_isSound_10 0 = .ok (.iload_n 1, 1) := dk_27 (dk_at dksX1_lambda_isSound_10_0 0 rfl rfl)
theorem dX1_lambda_isSound_10_1 : decode cX1_lambda_isSound_10 1 = .ok (.iload_n 2, 1) := dk_28 (dk_at dksX1_lambda_isSound_10_0 1 rfl rfl)
theorem dX1_lambda_isSound_10_2 : decode cX1_lambda_isSound_10 2 = .ok (.invokestatic 7, 3) := dk_184 0 7 (dk_at dksX1_lambda_isSound_10_0 2 rfl rfl)
theorem dX1_lambda_isSound_10_5 : decode cX1_lambda_isSound_10 5 = .ok (.ifCond .eq 29, 3) := dk_153 0 29 (dk_at dksX1_lambda_isSound_10_0 5 rfl rfl)
theorem dX1_lambda_isSound_10_8 : decode cX1_lambda_isSound_10 8 = .ok (.aload_n 0, 1) := dk_42 (dk_at dksX1_lambda_isSound_10_0 8 rfl rfl)
theorem dX1_lambda_isSound_10_9 : decode cX1_lambda_isSound_10 9 = .ok (.getfield 33, 3) := dk_180 0 33 (dk_at dksX1_lambda_isSound_10_0 9 rfl rfl)
theorem dX1_lambda_isSound_10_12 : decode cX1_lambda_isSound_10 12 = .ok (.getfield 275, 3) := dk_180 1 19 (dk_at dksX1_lambda_isSound_10_0 12 rfl rfl)
theorem dX1_lambda_isSound_10_15 : decode cX1_lambda_isSound_10 15 = .ok (.iload_n 2, 1) := dk_28 (dk_at dksX1_lambda_isSound_10_0 15 rfl rfl)
theorem dX1_lambda_isSound_10_16 : decode cX1_lambda_isSound_10 16 = .ok (.iaload, 1) := dk_46 (dk_at dksX1_lambda_isSound_10_0 16 rfl rfl)
theorem dX1_lambda_isSound_10_17 : decode cX1_lambda_isSound_10 17 = .ok (.iload_n 1, 1) := dk_27 (dk_at dksX1_lambda_isSound_10_0 17 rfl rfl)
theorem dX1_lambda_isSound_10_18 : decode cX1_lambda_isSound_10 18 = .ok (.iand, 1) := dk_126 (dk_at dksX1_lambda_isSound_10_0 18 rfl rfl)
theorem dX1_lambda_isSound_10_19 : decode cX1_lambda_isSound_10 19 = .ok (.aload_n 0, 1) := dk_42 (dk_at dksX1_lambda_isSound_10_0 19 rfl rfl)
theorem dX1_lambda_isSound_10_20 : decode cX1_lambda_isSound_10 20 = .ok (.iload_n 2, 1) := dk_28 (dk_at dksX1_lambda_isSound_10_0 20 rfl rfl)
theorem dX1_lambda_isSound_10_21 : decode cX1_lambda_isSound_10 21 = .ok (.invokevirtual 493, 3) := dk_182 1 237 (dk_at dksX1_lambda_isSound_10_0 21 rfl rfl)
theorem dX1_lambda_isSound_10_24 : decode cX1_lambda_isSound_10 24 = .ok (.iconst (-1), 1) := dk_2 (dk_at dksX1_lambda_isSound_10_1 0 rfl rfl)
theorem dX1_lambda_isSound_10_25 : decode cX1_lambda_isSound_10 25 = .ok (.ixor, 1) := dk_130 (dk_at dksX1_lambda_isSound_10_1 1 rfl rfl)
theorem dX1_lambda_isSound_10_26 : decode cX1_lambda_isSound_10 26 = .ok (.iand, 1) := dk_126 (dk_at dksX1_lambda_isSound_10_1 2 rfl rfl)
theorem dX1_lambda_isSound_10_27 : decode cX1_lambda_isSound_10 27 = .ok (.ifCond .eq 7, 3) := dk_153 0 7 (dk_at dksX1_lambda_isSound_10_1 3 rfl rfl)
theorem dX1_lambda_isSound_10_30 : decode cX1_lambda_isSound_10 30 = .ok (.iconst 1, 1) := dk_4 (dk_at dksX1_lambda_isSound_10_1 6 rfl rfl)
theorem dX1_lambda_isSound_10_31 : decode cX1_lambda_isSound_10 31 = .ok (.goto 4, 3) := dk_167 0 4 (dk_at dksX1_lambda_isSound_10_1 7 rfl rfl)
theorem dX1_lambda_isSound_10_34 : decode cX1_lambda_isSound_10 34 = .ok (.iconst 0, 1) := dk_3 (dk_at dksX1_lambda_isSound_10_1 10 rfl rfl)
theorem dX1_lambda_isSound_10_35 : decode cX1_lambda_isSound_10 35 = .ok (.ireturn, 1) := dk_172 (dk_at dksX1_lambda_isSound_10_1 11 rfl rfl)
abbrev cX1_backFrom : ByteArray := prog_1_method_84_code
def yX1_backFrom : MethodName := ⟨RX1, "backFrom", "(I)I"⟩
def dkwX1_backFrom_0 : List UInt8 := [42, 42, 27, 186, 1, 192, 0, 0, 182, 1, 11, 172]
abbrev dktX1_backFrom_0 : List UInt8 := dkwX1_backFrom_0 ++ []
theorem dksX1_backFrom_0 : cX1_backFrom.data.toList.drop 0 = dktX1_backFrom_0 := by decide +kernel
theorem dX1_backFrom_0 : decode cX1_backFrom 0 = .ok (.aload_n 0, 1) := dk_42 (dk_at dksX1_backFrom_0 0 rfl rfl)
theorem dX1_backFrom_1 : decode cX1_backFrom 1 = .ok (.aload_n 0, 1) := dk_42 (dk_at dksX1_backFrom_0 1 rfl rfl)
theorem dX1_backFrom_2 : decode cX1_backFrom 2 = .ok (.iload_n 1, 1) := dk_27 (dk_at dksX1_backFrom_0 2 rfl rfl)
theorem dX1_backFrom_3 : decode cX1_backFrom 3 = .ok (.invokedynamic 448, 5) := by decide +kernel
theorem dX1_backFrom_8 : decode cX1_backFrom 8 = .ok (.invokevirtual 267, 3) := dk_182 1 11 (dk_at dksX1_backFrom_0 8 rfl rfl)
theorem dX1_backFrom_11 : decode cX1_backFrom 11 = .ok (.ireturn, 1) := dk_172 (dk_at dksX1_backFrom_0 11 rfl rfl)
abbrev cX1_lambda_backFrom_11 : ByteArray := prog_1_method_93_code
def yX1_lambda_backFrom_11 : MethodName := ⟨RX1, "lambda$backFrom$11", "(II)Z"⟩
def dkwX1_lambda_backFrom_11_0 : List UInt8 := [42, 180, 0, 50, 27, 28, 182, 1, 138, 172]
abbrev dktX1_lambda_backFrom_11_0 : List UInt8 := dkwX1_lambda_backFrom_11_0 ++ []
theorem dksX1_lambda_backFrom_11_0 : cX1_lambda_backFrom_11.data.toList.drop 0 = dktX1_lambda_backFrom_11_0 := by decide +kernel
theorem dX1_lambda_backFrom_11_0 : decode cX1_lambda_backFrom_11 0 = .ok (.aload_n 0, 1) := dk_42 (dk_at dksX1_lambda_backFrom_11_0 0 rfl rfl)
theorem dX1_lambda_backFrom_11_1 : decode cX1_lambda_backFrom_11 1 = .ok (.getfield 50, 3) := dk_180 0 50 (dk_at dksX1_lambda_backFrom_11_0 1 rfl rfl)
theorem dX1_lambda_backFrom_11_4 : decode cX1_lambda_backFrom_11 4 = .ok (.iload_n 1, 1) := dk_27 (dk_at dksX1_lambda_backFrom_11_0 4 rfl rfl)
theorem dX1_lambda_backFrom_11_5 : decode cX1_lambda_backFrom_11 5 = .ok (.iload_n 2, 1) := dk_28 (dk_at dksX1_lambda_backFrom_11_0 5 rfl rfl)
theorem dX1_lambda_backFrom_11_6 : decode cX1_lambda_backFrom_11 6 = .ok (.invokevirtual 394, 3) := dk_182 1 138 (dk_at dksX1_lambda_backFrom_11_0 6 rfl rfl)
theorem dX1_lambda_backFrom_11_9 : decode cX1_lambda_backFrom_11 9 = .ok (.ireturn, 1) := dk_172 (dk_at dksX1_lambda_backFrom_11_0 9 rfl rfl)
abbrev cX1_lambda_count_12 : ByteArray := prog_1_method_92_code
def yX1_lambda_count_12 : MethodName := ⟨RX1, "lambda$count$12", "(I)Z"⟩
def dkwX1_lambda_count_12_1 : List UInt8 := [167, 0, 4, 3, 172]
abbrev dktX1_lambda_count_12_1 : List UInt8 := dkwX1_lambda_count_12_1 ++ []
def dkwX1_lambda_count_12_0 : List UInt8 := [42, 180, 0, 50, 180, 0, 140, 27, 184, 0, 7, 153, 0, 15, 42, 27, 182, 1, 16, 154, 0, 7, 4]
abbrev dktX1_lambda_count_12_0 : List UInt8 := dkwX1_lambda_count_12_0 ++ dktX1_lambda_count_12_1
theorem dksX1_lambda_count_12_0 : cX1_lambda_count_12.data.toList.drop 0 = dktX1_lambda_count_12_0 := by decide +kernel
theorem dksX1_lambda_count_12_1 : cX1_lambda_count_12.data.toList.drop 23 = dktX1_lambda_count_12_1 := dk_seg dksX1_lambda_count_12_0 23 rfl rfl
theorem dX1_lambda_count_12_0 : decode cX1_lambda_count_12 0 = .ok (.aload_n 0, 1) := dk_42 (dk_at dksX1_lambda_count_12_0 0 rfl rfl)
theorem dX1_lambda_count_12_1 : decode cX1_lambda_count_12 1 = .ok (.getfield 50, 3) := dk_180 0 50 (dk_at dksX1_lambda_count_12_0 1 rfl rfl)
theorem dX1_lambda_count_12_4 : decode cX1_lambda_count_12 4 = .ok (.getfield 140, 3) := dk_180 0 140 (dk_at dksX1_lambda_count_12_0 4 rfl rfl)
theorem dX1_lambda_count_12_7 : decode cX1_lambda_count_12 7 = .ok (.iload_n 1, 1) := dk_27 (dk_at dksX1_lambda_count_12_0 7 rfl rfl)
theorem dX1_lambda_count_12_8 : decode cX1_lambda_count_12 8 = .ok (.invokestatic 7, 3) := dk_184 0 7 (dk_at dksX1_lambda_count_12_0 8 rfl rfl)
theorem dX1_lambda_count_12_11 : decode cX1_lambda_count_12 11 = .ok (.ifCond .eq 15, 3) := dk_153 0 15 (dk_at dksX1_lambda_count_12_0 11 rfl rfl)
theorem dX1_lambda_count_12_14 : decode cX1_lambda_count_12 14 = .ok (.aload_n 0, 1) := dk_42 (dk_at dksX1_lambda_count_12_0 14 rfl rfl)
theorem dX1_lambda_count_12_15 : decode cX1_lambda_count_12 15 = .ok (.iload_n 1, 1) := dk_27 (dk_at dksX1_lambda_count_12_0 15 rfl rfl)
theorem dX1_lambda_count_12_16 : decode cX1_lambda_count_12 16 = .ok (.invokevirtual 272, 3) := dk_182 1 16 (dk_at dksX1_lambda_count_12_0 16 rfl rfl)
theorem dX1_lambda_count_12_19 : decode cX1_lambda_count_12 19 = .ok (.ifCond .ne 7, 3) := dk_154 0 7 (dk_at dksX1_lambda_count_12_0 19 rfl rfl)
theorem dX1_lambda_count_12_22 : decode cX1_lambda_count_12 22 = .ok (.iconst 1, 1) := dk_4 (dk_at dksX1_lambda_count_12_0 22 rfl rfl)
theorem dX1_lambda_count_12_23 : decode cX1_lambda_count_12 23 = .ok (.goto 4, 3) := dk_167 0 4 (dk_at dksX1_lambda_count_12_1 0 rfl rfl)
theorem dX1_lambda_count_12_26 : decode cX1_lambda_count_12 26 = .ok (.iconst 0, 1) := dk_3 (dk_at dksX1_lambda_count_12_1 3 rfl rfl)
theorem dX1_lambda_count_12_27 : decode cX1_lambda_count_12 27 = .ok (.ireturn, 1) := dk_172 (dk_at dksX1_lambda_count_12_1 4 rfl rfl)
abbrev cX1_keptBy : ByteArray := prog_1_method_34_code
def yX1_keptBy : MethodName := ⟨RX1, "keptBy", "(I)I"⟩
def dkwX1_keptBy_0 : List UInt8 := [42, 42, 27, 186, 1, 15, 0, 0, 182, 1, 11, 172]
abbrev dktX1_keptBy_0 : List UInt8 := dkwX1_keptBy_0 ++ []
theorem dksX1_keptBy_0 : cX1_keptBy.data.toList.drop 0 = dktX1_keptBy_0 := by decide +kernel
theorem dX1_keptBy_0 : decode cX1_keptBy 0 = .ok (.aload_n 0, 1) := dk_42 (dk_at dksX1_keptBy_0 0 rfl rfl)
theorem dX1_keptBy_1 : decode cX1_keptBy 1 = .ok (.aload_n 0, 1) := dk_42 (dk_at dksX1_keptBy_0 1 rfl rfl)
theorem dX1_keptBy_2 : decode cX1_keptBy 2 = .ok (.iload_n 1, 1) := dk_27 (dk_at dksX1_keptBy_0 2 rfl rfl)
theorem dX1_keptBy_3 : decode cX1_keptBy 3 = .ok (.invokedynamic 271, 5) := by decide +kernel
theorem dX1_keptBy_8 : decode cX1_keptBy 8 = .ok (.invokevirtual 267, 3) := dk_182 1 11 (dk_at dksX1_keptBy_0 8 rfl rfl)
theorem dX1_keptBy_11 : decode cX1_keptBy 11 = .ok (.ireturn, 1) := dk_172 (dk_at dksX1_keptBy_0 11 rfl rfl)
abbrev cX1_lambda_keptBy_1 : ByteArray := prog_1_method_103_code
def yX1_lambda_keptBy_1 : MethodName := ⟨RX1, "lambda$keptBy$1", "(II)Z"⟩
def dkwX1_lambda_keptBy_1_0 : List UInt8 := [42, 180, 0, 50, 27, 28, 182, 1, 123, 172]
abbrev dktX1_lambda_keptBy_1_0 : List UInt8 := dkwX1_lambda_keptBy_1_0 ++ []
theorem dksX1_lambda_keptBy_1_0 : cX1_lambda_keptBy_1.data.toList.drop 0 = dktX1_lambda_keptBy_1_0 := by decide +kernel
theorem dX1_lambda_keptBy_1_0 : decode cX1_lambda_keptBy_1 0 = .ok (.aload_n 0, 1) := dk_42 (dk_at dksX1_lambda_keptBy_1_0 0 rfl rfl)
theorem dX1_lambda_keptBy_1_1 : decode cX1_lambda_keptBy_1 1 = .ok (.getfield 50, 3) := dk_180 0 50 (dk_at dksX1_lambda_keptBy_1_0 1 rfl rfl)
theorem dX1_lambda_keptBy_1_4 : decode cX1_lambda_keptBy_1 4 = .ok (.iload_n 1, 1) := dk_27 (dk_at dksX1_lambda_keptBy_1_0 4 rfl rfl)
theorem dX1_lambda_keptBy_1_5 : decode cX1_lambda_keptBy_1 5 = .ok (.iload_n 2, 1) := dk_28 (dk_at dksX1_lambda_keptBy_1_0 5 rfl rfl)
theorem dX1_lambda_keptBy_1_6 : decode cX1_lambda_keptBy_1 6 = .ok (.invokevirtual 379, 3) := dk_182 1 123 (dk_at dksX1_lambda_keptBy_1_0 6 rfl rfl)
theorem dX1_lambda_keptBy_1_9 : decode cX1_lambda_keptBy_1 9 = .ok (.ireturn, 1) := dk_172 (dk_at dksX1_lambda_keptBy_1_0 9 rfl rfl)
abbrev cX1_mostNest : ByteArray := prog_1_method_86_code
def yX1_mostNest : MethodName := ⟨RX1, "mostNest", "()I"⟩
def dkwX1_mostNest_1 : List UInt8 := [60, 132, 2, 1, 167, 255, 232, 27, 172]
abbrev dktX1_mostNest_1 : List UInt8 := dkwX1_mostNest_1 ++ []
def dkwX1_mostNest_0 : List UInt8 := [3, 60, 3, 61, 28, 42, 180, 0, 33, 180, 1, 1, 162, 0, 19, 27, 42, 28, 182, 1, 79, 184, 1, 193]
abbrev dktX1_mostNest_0 : List UInt8 := dkwX1_mostNest_0 ++ dktX1_mostNest_1
theorem dksX1_mostNest_0 : cX1_mostNest.data.toList.drop 0 = dktX1_mostNest_0 := by decide +kernel
theorem dksX1_mostNest_1 : cX1_mostNest.data.toList.drop 24 = dktX1_mostNest_1 := dk_seg dksX1_mostNest_0 24 rfl rfl
theorem dX1_mostNest_0 : decode cX1_mostNest 0 = .ok (.iconst 0, 1) := dk_3 (dk_at dksX1_mostNest_0 0 rfl rfl)
theorem dX1_mostNest_1 : decode cX1_mostNest 1 = .ok (.istore_n 1, 1) := dk_60 (dk_at dksX1_mostNest_0 1 rfl rfl)
theorem dX1_mostNest_2 : decode cX1_mostNest 2 = .ok (.iconst 0, 1) := dk_3 (dk_at dksX1_mostNest_0 2 rfl rfl)
theorem dX1_mostNest_3 : decode cX1_mostNest 3 = .ok (.istore_n 2, 1) := dk_61 (dk_at dksX1_mostNest_0 3 rfl rfl)
theorem dX1_mostNest_4 : decode cX1_mostNest 4 = .ok (.iload_n 2, 1) := dk_28 (dk_at dksX1_mostNest_0 4 rfl rfl)
theorem dX1_mostNest_5 : decode cX1_mostNest 5 = .ok (.aload_n 0, 1) := dk_42 (dk_at dksX1_mostNest_0 5 rfl rfl)
theorem dX1_mostNest_6 : decode cX1_mostNest 6 = .ok (.getfield 33, 3) := dk_180 0 33 (dk_at dksX1_mostNest_0 6 rfl rfl)
theorem dX1_mostNest_9 : decode cX1_mostNest 9 = .ok (.getfield 257, 3) := dk_180 1 1 (dk_at dksX1_mostNest_0 9 rfl rfl)
theorem dX1_mostNest_12 : decode cX1_mostNest 12 = .ok (.if_icmp .ge 19, 3) := dk_162 0 19 (dk_at dksX1_mostNest_0 12 rfl rfl)
theorem dX1_mostNest_15 : decode cX1_mostNest 15 = .ok (.iload_n 1, 1) := dk_27 (dk_at dksX1_mostNest_0 15 rfl rfl)
theorem dX1_mostNest_16 : decode cX1_mostNest 16 = .ok (.aload_n 0, 1) := dk_42 (dk_at dksX1_mostNest_0 16 rfl rfl)
theorem dX1_mostNest_17 : decode cX1_mostNest 17 = .ok (.iload_n 2, 1) := dk_28 (dk_at dksX1_mostNest_0 17 rfl rfl)
theorem dX1_mostNest_18 : decode cX1_mostNest 18 = .ok (.invokevirtual 335, 3) := dk_182 1 79 (dk_at dksX1_mostNest_0 18 rfl rfl)
theorem dX1_mostNest_21 : decode cX1_mostNest 21 = .ok (.invokestatic 449, 3) := dk_184 1 193 (dk_at dksX1_mostNest_0 21 rfl rfl)
theorem dX1_mostNest_24 : decode cX1_mostNest 24 = .ok (.istore_n 1, 1) := dk_60 (dk_at dksX1_mostNest_1 0 rfl rfl)
theorem dX1_mostNest_25 : decode cX1_mostNest 25 = .ok (.iinc 2 1, 3) := dk_132 2 1 (dk_at dksX1_mostNest_1 1 rfl rfl)
theorem dX1_mostNest_28 : decode cX1_mostNest 28 = .ok (.goto (-24), 3) := dk_167 255 232 (dk_at dksX1_mostNest_1 4 rfl rfl)
theorem dX1_mostNest_31 : decode cX1_mostNest 31 = .ok (.iload_n 1, 1) := dk_27 (dk_at dksX1_mostNest_1 7 rfl rfl)
theorem dX1_mostNest_32 : decode cX1_mostNest 32 = .ok (.ireturn, 1) := dk_172 (dk_at dksX1_mostNest_1 8 rfl rfl)
abbrev cX1_nestOf : ByteArray := prog_1_method_39_code
def yX1_nestOf : MethodName := ⟨RX1, "nestOf", "(I)I"⟩
def dkwX1_nestOf_0 : List UInt8 := [42, 42, 27, 186, 1, 32, 0, 0, 182, 1, 11, 184, 0, 236, 172]
abbrev dktX1_nestOf_0 : List UInt8 := dkwX1_nestOf_0 ++ []
theorem dksX1_nestOf_0 : cX1_nestOf.data.toList.drop 0 = dktX1_nestOf_0 := by decide +kernel
theorem dX1_nestOf_0 : decode cX1_nestOf 0 = .ok (.aload_n 0, 1) := dk_42 (dk_at dksX1_nestOf_0 0 rfl rfl)
theorem dX1_nestOf_1 : decode cX1_nestOf 1 = .ok (.aload_n 0, 1) := dk_42 (dk_at dksX1_nestOf_0 1 rfl rfl)
theorem dX1_nestOf_2 : decode cX1_nestOf 2 = .ok (.iload_n 1, 1) := dk_27 (dk_at dksX1_nestOf_0 2 rfl rfl)
theorem dX1_nestOf_3 : decode cX1_nestOf 3 = .ok (.invokedynamic 288, 5) := by decide +kernel
theorem dX1_nestOf_8 : decode cX1_nestOf 8 = .ok (.invokevirtual 267, 3) := dk_182 1 11 (dk_at dksX1_nestOf_0 8 rfl rfl)
theorem dX1_nestOf_11 : decode cX1_nestOf 11 = .ok (.invokestatic 236, 3) := dk_184 0 236 (dk_at dksX1_nestOf_0 11 rfl rfl)
theorem dX1_nestOf_14 : decode cX1_nestOf 14 = .ok (.ireturn, 1) := dk_172 (dk_at dksX1_nestOf_0 14 rfl rfl)
abbrev cX1_lambda_nestOf_5 : ByteArray := prog_1_method_99_code
def yX1_lambda_nestOf_5 : MethodName := ⟨RX1, "lambda$nestOf$5", "(II)Z"⟩
def dkwX1_lambda_nestOf_5_0 : List UInt8 := [42, 28, 182, 1, 76, 27, 184, 0, 7, 172]
abbrev dktX1_lambda_nestOf_5_0 : List UInt8 := dkwX1_lambda_nestOf_5_0 ++ []
theorem dksX1_lambda_nestOf_5_0 : cX1_lambda_nestOf_5.data.toList.drop 0 = dktX1_lambda_nestOf_5_0 := by decide +kernel
theorem dX1_lambda_nestOf_5_0 : decode cX1_lambda_nestOf_5 0 = .ok (.aload_n 0, 1) := dk_42 (dk_at dksX1_lambda_nestOf_5_0 0 rfl rfl)
theorem dX1_lambda_nestOf_5_1 : decode cX1_lambda_nestOf_5 1 = .ok (.iload_n 2, 1) := dk_28 (dk_at dksX1_lambda_nestOf_5_0 1 rfl rfl)
theorem dX1_lambda_nestOf_5_2 : decode cX1_lambda_nestOf_5 2 = .ok (.invokevirtual 332, 3) := dk_182 1 76 (dk_at dksX1_lambda_nestOf_5_0 2 rfl rfl)
theorem dX1_lambda_nestOf_5_5 : decode cX1_lambda_nestOf_5 5 = .ok (.iload_n 1, 1) := dk_27 (dk_at dksX1_lambda_nestOf_5_0 5 rfl rfl)
theorem dX1_lambda_nestOf_5_6 : decode cX1_lambda_nestOf_5 6 = .ok (.invokestatic 7, 3) := dk_184 0 7 (dk_at dksX1_lambda_nestOf_5_0 6 rfl rfl)
theorem dX1_lambda_nestOf_5_9 : decode cX1_lambda_nestOf_5 9 = .ok (.ireturn, 1) := dk_172 (dk_at dksX1_lambda_nestOf_5_0 9 rfl rfl)
abbrev cX1_bodyOf : ByteArray := prog_1_method_38_code
def yX1_bodyOf : MethodName := ⟨RX1, "bodyOf", "(I)I"⟩
def dkwX1_bodyOf_1 : List UInt8 := [182, 1, 11, 128, 172]
abbrev dktX1_bodyOf_1 : List UInt8 := dkwX1_bodyOf_1 ++ []
def dkwX1_bodyOf_0 : List UInt8 := [42, 27, 182, 1, 26, 61, 28, 154, 0, 5, 3, 172, 4, 27, 120, 42, 42, 27, 28, 186, 1, 29, 0, 0]
abbrev dktX1_bodyOf_0 : List UInt8 := dkwX1_bodyOf_0 ++ dktX1_bodyOf_1
theorem dksX1_bodyOf_0 : cX1_bodyOf.data.toList.drop 0 = dktX1_bodyOf_0 := by decide +kernel
theorem dksX1_bodyOf_1 : cX1_bodyOf.data.toList.drop 24 = dktX1_bodyOf_1 := dk_seg dksX1_bodyOf_0 24 rfl rfl
theorem dX1_bodyOf_0 : decode cX1_bodyOf 0 = .ok (.aload_n 0, 1) := dk_42 (dk_at dksX1_bodyOf_0 0 rfl rfl)
theorem dX1_bodyOf_1 : decode cX1_bodyOf 1 = .ok (.iload_n 1, 1) := dk_27 (dk_at dksX1_bodyOf_0 1 rfl rfl)
theorem dX1_bodyOf_2 : decode cX1_bodyOf 2 = .ok (.invokevirtual 282, 3) := dk_182 1 26 (dk_at dksX1_bodyOf_0 2 rfl rfl)
theorem dX1_bodyOf_5 : decode cX1_bodyOf 5 = .ok (.istore_n 2, 1) := dk_61 (dk_at dksX1_bodyOf_0 5 rfl rfl)
theorem dX1_bodyOf_6 : decode cX1_bodyOf 6 = .ok (.iload_n 2, 1) := dk_28 (dk_at dksX1_bodyOf_0 6 rfl rfl)
theorem dX1_bodyOf_7 : decode cX1_bodyOf 7 = .ok (.ifCond .ne 5, 3) := dk_154 0 5 (dk_at dksX1_bodyOf_0 7 rfl rfl)
theorem dX1_bodyOf_10 : decode cX1_bodyOf 10 = .ok (.iconst 0, 1) := dk_3 (dk_at dksX1_bodyOf_0 10 rfl rfl)
theorem dX1_bodyOf_11 : decode cX1_bodyOf 11 = .ok (.ireturn, 1) := dk_172 (dk_at dksX1_bodyOf_0 11 rfl rfl)
theorem dX1_bodyOf_12 : decode cX1_bodyOf 12 = .ok (.iconst 1, 1) := dk_4 (dk_at dksX1_bodyOf_0 12 rfl rfl)
theorem dX1_bodyOf_13 : decode cX1_bodyOf 13 = .ok (.iload_n 1, 1) := dk_27 (dk_at dksX1_bodyOf_0 13 rfl rfl)
theorem dX1_bodyOf_14 : decode cX1_bodyOf 14 = .ok (.ishl, 1) := dk_120 (dk_at dksX1_bodyOf_0 14 rfl rfl)
theorem dX1_bodyOf_15 : decode cX1_bodyOf 15 = .ok (.aload_n 0, 1) := dk_42 (dk_at dksX1_bodyOf_0 15 rfl rfl)
theorem dX1_bodyOf_16 : decode cX1_bodyOf 16 = .ok (.aload_n 0, 1) := dk_42 (dk_at dksX1_bodyOf_0 16 rfl rfl)
theorem dX1_bodyOf_17 : decode cX1_bodyOf 17 = .ok (.iload_n 1, 1) := dk_27 (dk_at dksX1_bodyOf_0 17 rfl rfl)
theorem dX1_bodyOf_18 : decode cX1_bodyOf 18 = .ok (.iload_n 2, 1) := dk_28 (dk_at dksX1_bodyOf_0 18 rfl rfl)
theorem dX1_bodyOf_19 : decode cX1_bodyOf 19 = .ok (.invokedynamic 285, 5) := by decide +kernel
theorem dX1_bodyOf_24 : decode cX1_bodyOf 24 = .ok (.invokevirtual 267, 3) := dk_182 1 11 (dk_at dksX1_bodyOf_1 0 rfl rfl)
theorem dX1_bodyOf_27 : decode cX1_bodyOf 27 = .ok (.ior, 1) := dk_128 (dk_at dksX1_bodyOf_1 3 rfl rfl)
theorem dX1_bodyOf_28 : decode cX1_bodyOf 28 = .ok (.ireturn, 1) := dk_172 (dk_at dksX1_bodyOf_1 4 rfl rfl)
abbrev cX1_lambda_bodyOf_4 : ByteArray := prog_1_method_100_code
def yX1_lambda_bodyOf_4 : MethodName := ⟨RX1, "lambda$bodyOf$4", "(III)Z"⟩
def dkwX1_lambda_bodyOf_4_1 : List UInt8 := [4, 27, 120, 182, 1, 118, 28, 126, 4, 27, 120, 2, 130, 126, 153, 0, 7, 4, 167, 0, 4, 3, 172]
abbrev dktX1_lambda_bodyOf_4_1 : List UInt8 := dkwX1_lambda_bodyOf_4_1 ++ []
def dkwX1_lambda_bodyOf_4_0 : List UInt8 := [29, 27, 159, 0, 43, 42, 180, 0, 50, 180, 0, 140, 29, 184, 0, 7, 153, 0, 29, 42, 180, 0, 33, 29]
abbrev dktX1_lambda_bodyOf_4_0 : List UInt8 := dkwX1_lambda_bodyOf_4_0 ++ dktX1_lambda_bodyOf_4_1
theorem dksX1_lambda_bodyOf_4_0 : cX1_lambda_bodyOf_4.data.toList.drop 0 = dktX1_lambda_bodyOf_4_0 := by decide +kernel
theorem dksX1_lambda_bodyOf_4_1 : cX1_lambda_bodyOf_4.data.toList.drop 24 = dktX1_lambda_bodyOf_4_1 := dk_seg dksX1_lambda_bodyOf_4_0 24 rfl rfl
theorem dX1_lambda_bodyOf_4_0 : decode cX1_lambda_bodyOf_4 0 = .ok (.iload_n 3, 1) := dk_29 (dk_at dksX1_lambda_bodyOf_4_0 0 rfl rfl)
theorem dX1_lambda_bodyOf_4_1 : decode cX1_lambda_bodyOf_4 1 = .ok (.iload_n 1, 1) := dk_27 (dk_at dksX1_lambda_bodyOf_4_0 1 rfl rfl)
theorem dX1_lambda_bodyOf_4_2 : decode cX1_lambda_bodyOf_4 2 = .ok (.if_icmp .eq 43, 3) := dk_159 0 43 (dk_at dksX1_lambda_bodyOf_4_0 2 rfl rfl)
theorem dX1_lambda_bodyOf_4_5 : decode cX1_lambda_bodyOf_4 5 = .ok (.aload_n 0, 1) := dk_42 (dk_at dksX1_lambda_bodyOf_4_0 5 rfl rfl)
theorem dX1_lambda_bodyOf_4_6 : decode cX1_lambda_bodyOf_4 6 = .ok (.getfield 50, 3) := dk_180 0 50 (dk_at dksX1_lambda_bodyOf_4_0 6 rfl rfl)
theorem dX1_lambda_bodyOf_4_9 : decode cX1_lambda_bodyOf_4 9 = .ok (.getfield 140, 3) := dk_180 0 140 (dk_at dksX1_lambda_bodyOf_4_0 9 rfl rfl)
theorem dX1_lambda_bodyOf_4_12 : decode cX1_lambda_bodyOf_4 12 = .ok (.iload_n 3, 1) := dk_29 (dk_at dksX1_lambda_bodyOf_4_0 12 rfl rfl)
theorem dX1_lambda_bodyOf_4_13 : decode cX1_lambda_bodyOf_4 13 = .ok (.invokestatic 7, 3) := dk_184 0 7 (dk_at dksX1_lambda_bodyOf_4_0 13 rfl rfl)
theorem dX1_lambda_bodyOf_4_16 : decode cX1_lambda_bodyOf_4 16 = .ok (.ifCond .eq 29, 3) := dk_153 0 29 (dk_at dksX1_lambda_bodyOf_4_0 16 rfl rfl)
theorem dX1_lambda_bodyOf_4_19 : decode cX1_lambda_bodyOf_4 19 = .ok (.aload_n 0, 1) := dk_42 (dk_at dksX1_lambda_bodyOf_4_0 19 rfl rfl)
theorem dX1_lambda_bodyOf_4_20 : decode cX1_lambda_bodyOf_4 20 = .ok (.getfield 33, 3) := dk_180 0 33 (dk_at dksX1_lambda_bodyOf_4_0 20 rfl rfl)
theorem dX1_lambda_bodyOf_4_23 : decode cX1_lambda_bodyOf_4 23 = .ok (.iload_n 3, 1) := dk_29 (dk_at dksX1_lambda_bodyOf_4_0 23 rfl rfl)
theorem dX1_lambda_bodyOf_4_24 : decode cX1_lambda_bodyOf_4 24 = .ok (.iconst 1, 1) := dk_4 (dk_at dksX1_lambda_bodyOf_4_1 0 rfl rfl)
theorem dX1_lambda_bodyOf_4_25 : decode cX1_lambda_bodyOf_4 25 = .ok (.iload_n 1, 1) := dk_27 (dk_at dksX1_lambda_bodyOf_4_1 1 rfl rfl)
theorem dX1_lambda_bodyOf_4_26 : decode cX1_lambda_bodyOf_4 26 = .ok (.ishl, 1) := dk_120 (dk_at dksX1_lambda_bodyOf_4_1 2 rfl rfl)
theorem dX1_lambda_bodyOf_4_27 : decode cX1_lambda_bodyOf_4 27 = .ok (.invokevirtual 374, 3) := dk_182 1 118 (dk_at dksX1_lambda_bodyOf_4_1 3 rfl rfl)
theorem dX1_lambda_bodyOf_4_30 : decode cX1_lambda_bodyOf_4 30 = .ok (.iload_n 2, 1) := dk_28 (dk_at dksX1_lambda_bodyOf_4_1 6 rfl rfl)
theorem dX1_lambda_bodyOf_4_31 : decode cX1_lambda_bodyOf_4 31 = .ok (.iand, 1) := dk_126 (dk_at dksX1_lambda_bodyOf_4_1 7 rfl rfl)
theorem dX1_lambda_bodyOf_4_32 : decode cX1_lambda_bodyOf_4 32 = .ok (.iconst 1, 1) := dk_4 (dk_at dksX1_lambda_bodyOf_4_1 8 rfl rfl)
theorem dX1_lambda_bodyOf_4_33 : decode cX1_lambda_bodyOf_4 33 = .ok (.iload_n 1, 1) := dk_27 (dk_at dksX1_lambda_bodyOf_4_1 9 rfl rfl)
theorem dX1_lambda_bodyOf_4_34 : decode cX1_lambda_bodyOf_4 34 = .ok (.ishl, 1) := dk_120 (dk_at dksX1_lambda_bodyOf_4_1 10 rfl rfl)
theorem dX1_lambda_bodyOf_4_35 : decode cX1_lambda_bodyOf_4 35 = .ok (.iconst (-1), 1) := dk_2 (dk_at dksX1_lambda_bodyOf_4_1 11 rfl rfl)
theorem dX1_lambda_bodyOf_4_36 : decode cX1_lambda_bodyOf_4 36 = .ok (.ixor, 1) := dk_130 (dk_at dksX1_lambda_bodyOf_4_1 12 rfl rfl)
theorem dX1_lambda_bodyOf_4_37 : decode cX1_lambda_bodyOf_4 37 = .ok (.iand, 1) := dk_126 (dk_at dksX1_lambda_bodyOf_4_1 13 rfl rfl)
theorem dX1_lambda_bodyOf_4_38 : decode cX1_lambda_bodyOf_4 38 = .ok (.ifCond .eq 7, 3) := dk_153 0 7 (dk_at dksX1_lambda_bodyOf_4_1 14 rfl rfl)
theorem dX1_lambda_bodyOf_4_41 : decode cX1_lambda_bodyOf_4 41 = .ok (.iconst 1, 1) := dk_4 (dk_at dksX1_lambda_bodyOf_4_1 17 rfl rfl)
theorem dX1_lambda_bodyOf_4_42 : decode cX1_lambda_bodyOf_4 42 = .ok (.goto 4, 3) := dk_167 0 4 (dk_at dksX1_lambda_bodyOf_4_1 18 rfl rfl)
theorem dX1_lambda_bodyOf_4_45 : decode cX1_lambda_bodyOf_4 45 = .ok (.iconst 0, 1) := dk_3 (dk_at dksX1_lambda_bodyOf_4_1 21 rfl rfl)
theorem dX1_lambda_bodyOf_4_46 : decode cX1_lambda_bodyOf_4 46 = .ok (.ireturn, 1) := dk_172 (dk_at dksX1_lambda_bodyOf_4_1 22 rfl rfl)
abbrev cX1_spans : ByteArray := prog_1_method_87_code
def yX1_spans : MethodName := ⟨RX1, "spans", "()I"⟩
def dkwX1_spans_2 : List UInt8 := [96, 60, 132, 2, 1, 167, 255, 207, 27, 172]
abbrev dktX1_spans_2 : List UInt8 := dkwX1_spans_2 ++ []
def dkwX1_spans_1 : List UInt8 := [184, 0, 7, 153, 0, 20, 42, 28, 182, 1, 16, 42, 28, 182, 1, 44, 126, 184, 0, 236, 167, 0, 4, 3]
abbrev dktX1_spans_1 : List UInt8 := dkwX1_spans_1 ++ dktX1_spans_2
def dkwX1_spans_0 : List UInt8 := [3, 60, 3, 61, 28, 42, 180, 0, 33, 180, 1, 1, 162, 0, 44, 27, 42, 180, 0, 50, 180, 0, 140, 28]
abbrev dktX1_spans_0 : List UInt8 := dkwX1_spans_0 ++ dktX1_spans_1
theorem dksX1_spans_0 : cX1_spans.data.toList.drop 0 = dktX1_spans_0 := by decide +kernel
theorem dksX1_spans_1 : cX1_spans.data.toList.drop 24 = dktX1_spans_1 := dk_seg dksX1_spans_0 24 rfl rfl
theorem dksX1_spans_2 : cX1_spans.data.toList.drop 48 = dktX1_spans_2 := dk_seg dksX1_spans_1 24 rfl rfl
theorem dX1_spans_0 : decode cX1_spans 0 = .ok (.iconst 0, 1) := dk_3 (dk_at dksX1_spans_0 0 rfl rfl)
theorem dX1_spans_1 : decode cX1_spans 1 = .ok (.istore_n 1, 1) := dk_60 (dk_at dksX1_spans_0 1 rfl rfl)
theorem dX1_spans_2 : decode cX1_spans 2 = .ok (.iconst 0, 1) := dk_3 (dk_at dksX1_spans_0 2 rfl rfl)
theorem dX1_spans_3 : decode cX1_spans 3 = .ok (.istore_n 2, 1) := dk_61 (dk_at dksX1_spans_0 3 rfl rfl)
theorem dX1_spans_4 : decode cX1_spans 4 = .ok (.iload_n 2, 1) := dk_28 (dk_at dksX1_spans_0 4 rfl rfl)
theorem dX1_spans_5 : decode cX1_spans 5 = .ok (.aload_n 0, 1) := dk_42 (dk_at dksX1_spans_0 5 rfl rfl)
theorem dX1_spans_6 : decode cX1_spans 6 = .ok (.getfield 33, 3) := dk_180 0 33 (dk_at dksX1_spans_0 6 rfl rfl)
theorem dX1_spans_9 : decode cX1_spans 9 = .ok (.getfield 257, 3) := dk_180 1 1 (dk_at dksX1_spans_0 9 rfl rfl)
theorem dX1_spans_12 : decode cX1_spans 12 = .ok (.if_icmp .ge 44, 3) := dk_162 0 44 (dk_at dksX1_spans_0 12 rfl rfl)
theorem dX1_spans_15 : decode cX1_spans 15 = .ok (.iload_n 1, 1) := dk_27 (dk_at dksX1_spans_0 15 rfl rfl)
theorem dX1_spans_16 : decode cX1_spans 16 = .ok (.aload_n 0, 1) := dk_42 (dk_at dksX1_spans_0 16 rfl rfl)
theorem dX1_spans_17 : decode cX1_spans 17 = .ok (.getfield 50, 3) := dk_180 0 50 (dk_at dksX1_spans_0 17 rfl rfl)
theorem dX1_spans_20 : decode cX1_spans 20 = .ok (.getfield 140, 3) := dk_180 0 140 (dk_at dksX1_spans_0 20 rfl rfl)
theorem dX1_spans_23 : decode cX1_spans 23 = .ok (.iload_n 2, 1) := dk_28 (dk_at dksX1_spans_0 23 rfl rfl)
theorem dX1_spans_24 : decode cX1_spans 24 = .ok (.invokestatic 7, 3) := dk_184 0 7 (dk_at dksX1_spans_1 0 rfl rfl)
theorem dX1_spans_27 : decode cX1_spans 27 = .ok (.ifCond .eq 20, 3) := dk_153 0 20 (dk_at dksX1_spans_1 3 rfl rfl)
theorem dX1_spans_30 : decode cX1_spans 30 = .ok (.aload_n 0, 1) := dk_42 (dk_at dksX1_spans_1 6 rfl rfl)
theorem dX1_spans_31 : decode cX1_spans 31 = .ok (.iload_n 2, 1) := dk_28 (dk_at dksX1_spans_1 7 rfl rfl)
theorem dX1_spans_32 : decode cX1_spans 32 = .ok (.invokevirtual 272, 3) := dk_182 1 16 (dk_at dksX1_spans_1 8 rfl rfl)
theorem dX1_spans_35 : decode cX1_spans 35 = .ok (.aload_n 0, 1) := dk_42 (dk_at dksX1_spans_1 11 rfl rfl)
theorem dX1_spans_36 : decode cX1_spans 36 = .ok (.iload_n 2, 1) := dk_28 (dk_at dksX1_spans_1 12 rfl rfl)
theorem dX1_spans_37 : decode cX1_spans 37 = .ok (.invokevirtual 300, 3) := dk_182 1 44 (dk_at dksX1_spans_1 13 rfl rfl)
theorem dX1_spans_40 : decode cX1_spans 40 = .ok (.iand, 1) := dk_126 (dk_at dksX1_spans_1 16 rfl rfl)
theorem dX1_spans_41 : decode cX1_spans 41 = .ok (.invokestatic 236, 3) := dk_184 0 236 (dk_at dksX1_spans_1 17 rfl rfl)
theorem dX1_spans_44 : decode cX1_spans 44 = .ok (.goto 4, 3) := dk_167 0 4 (dk_at dksX1_spans_1 20 rfl rfl)
theorem dX1_spans_47 : decode cX1_spans 47 = .ok (.iconst 0, 1) := dk_3 (dk_at dksX1_spans_1 23 rfl rfl)
theorem dX1_spans_48 : decode cX1_spans 48 = .ok (.iadd, 1) := dk_96 (dk_at dksX1_spans_2 0 rfl rfl)
theorem dX1_spans_49 : decode cX1_spans 49 = .ok (.istore_n 1, 1) := dk_60 (dk_at dksX1_spans_2 1 rfl rfl)
theorem dX1_spans_50 : decode cX1_spans 50 = .ok (.iinc 2 1, 3) := dk_132 2 1 (dk_at dksX1_spans_2 2 rfl rfl)
theorem dX1_spans_53 : decode cX1_spans 53 = .ok (.goto (-49), 3) := dk_167 255 207 (dk_at dksX1_spans_2 5 rfl rfl)
theorem dX1_spans_56 : decode cX1_spans 56 = .ok (.iload_n 1, 1) := dk_27 (dk_at dksX1_spans_2 8 rfl rfl)
theorem dX1_spans_57 : decode cX1_spans 57 = .ok (.ireturn, 1) := dk_172 (dk_at dksX1_spans_2 9 rfl rfl)
abbrev cX1_outGatesOf : ByteArray := prog_1_method_41_code
def yX1_outGatesOf : MethodName := ⟨RX1, "outGatesOf", "(I)I"⟩
def dkwX1_outGatesOf_2 : List UInt8 := [180, 0, 215, 29, 42, 180, 0, 67, 184, 1, 40, 42, 180, 0, 67, 27, 46, 4, 27, 120, 2, 130, 126, 172]
abbrev dktX1_outGatesOf_2 : List UInt8 := dkwX1_outGatesOf_2 ++ []
def dkwX1_outGatesOf_1 : List UInt8 := [180, 0, 50, 180, 0, 140, 29, 126, 27, 184, 0, 7, 154, 0, 5, 3, 172, 44, 42, 180, 0, 33]
abbrev dktX1_outGatesOf_1 : List UInt8 := dkwX1_outGatesOf_1 ++ dktX1_outGatesOf_2
def dkwX1_outGatesOf_0 : List UInt8 := [42, 180, 0, 33, 184, 1, 33, 77, 44, 42, 180, 0, 33, 180, 0, 215, 3, 185, 1, 37, 3, 0, 62, 42]
abbrev dktX1_outGatesOf_0 : List UInt8 := dkwX1_outGatesOf_0 ++ dktX1_outGatesOf_1
theorem dksX1_outGatesOf_0 : cX1_outGatesOf.data.toList.drop 0 = dktX1_outGatesOf_0 := by decide +kernel
theorem dksX1_outGatesOf_1 : cX1_outGatesOf.data.toList.drop 24 = dktX1_outGatesOf_1 := dk_seg dksX1_outGatesOf_0 24 rfl rfl
theorem dksX1_outGatesOf_2 : cX1_outGatesOf.data.toList.drop 46 = dktX1_outGatesOf_2 := dk_seg dksX1_outGatesOf_1 22 rfl rfl
theorem dX1_outGatesOf_0 : decode cX1_outGatesOf 0 = .ok (.aload_n 0, 1) := dk_42 (dk_at dksX1_outGatesOf_0 0 rfl rfl)
theorem dX1_outGatesOf_1 : decode cX1_outGatesOf 1 = .ok (.getfield 33, 3) := dk_180 0 33 (dk_at dksX1_outGatesOf_0 1 rfl rfl)
theorem dX1_outGatesOf_4 : decode cX1_outGatesOf 4 = .ok (.invokestatic 289, 3) := dk_184 1 33 (dk_at dksX1_outGatesOf_0 4 rfl rfl)
theorem dX1_outGatesOf_7 : decode cX1_outGatesOf 7 = .ok (.astore_n 2, 1) := dk_77 (dk_at dksX1_outGatesOf_0 7 rfl rfl)
theorem dX1_outGatesOf_8 : decode cX1_outGatesOf 8 = .ok (.aload_n 2, 1) := dk_44 (dk_at dksX1_outGatesOf_0 8 rfl rfl)
theorem dX1_outGatesOf_9 : decode cX1_outGatesOf 9 = .ok (.aload_n 0, 1) := dk_42 (dk_at dksX1_outGatesOf_0 9 rfl rfl)
theorem dX1_outGatesOf_10 : decode cX1_outGatesOf 10 = .ok (.getfield 33, 3) := dk_180 0 33 (dk_at dksX1_outGatesOf_0 10 rfl rfl)
theorem dX1_outGatesOf_13 : decode cX1_outGatesOf 13 = .ok (.getfield 215, 3) := dk_180 0 215 (dk_at dksX1_outGatesOf_0 13 rfl rfl)
theorem dX1_outGatesOf_16 : decode cX1_outGatesOf 16 = .ok (.iconst 0, 1) := dk_3 (dk_at dksX1_outGatesOf_0 16 rfl rfl)
theorem dX1_outGatesOf_17 : decode cX1_outGatesOf 17 = .ok (.invokeinterface 293 3, 5) := by decide +kernel
theorem dX1_outGatesOf_22 : decode cX1_outGatesOf 22 = .ok (.istore_n 3, 1) := dk_62 (dk_at dksX1_outGatesOf_0 22 rfl rfl)
theorem dX1_outGatesOf_23 : decode cX1_outGatesOf 23 = .ok (.aload_n 0, 1) := dk_42 (dk_at dksX1_outGatesOf_0 23 rfl rfl)
theorem dX1_outGatesOf_24 : decode cX1_outGatesOf 24 = .ok (.getfield 50, 3) := dk_180 0 50 (dk_at dksX1_outGatesOf_1 0 rfl rfl)
theorem dX1_outGatesOf_27 : decode cX1_outGatesOf 27 = .ok (.getfield 140, 3) := dk_180 0 140 (dk_at dksX1_outGatesOf_1 3 rfl rfl)
theorem dX1_outGatesOf_30 : decode cX1_outGatesOf 30 = .ok (.iload_n 3, 1) := dk_29 (dk_at dksX1_outGatesOf_1 6 rfl rfl)
theorem dX1_outGatesOf_31 : decode cX1_outGatesOf 31 = .ok (.iand, 1) := dk_126 (dk_at dksX1_outGatesOf_1 7 rfl rfl)
theorem dX1_outGatesOf_32 : decode cX1_outGatesOf 32 = .ok (.iload_n 1, 1) := dk_27 (dk_at dksX1_outGatesOf_1 8 rfl rfl)
theorem dX1_outGatesOf_33 : decode cX1_outGatesOf 33 = .ok (.invokestatic 7, 3) := dk_184 0 7 (dk_at dksX1_outGatesOf_1 9 rfl rfl)
theorem dX1_outGatesOf_36 : decode cX1_outGatesOf 36 = .ok (.ifCond .ne 5, 3) := dk_154 0 5 (dk_at dksX1_outGatesOf_1 12 rfl rfl)
theorem dX1_outGatesOf_39 : decode cX1_outGatesOf 39 = .ok (.iconst 0, 1) := dk_3 (dk_at dksX1_outGatesOf_1 15 rfl rfl)
theorem dX1_outGatesOf_40 : decode cX1_outGatesOf 40 = .ok (.ireturn, 1) := dk_172 (dk_at dksX1_outGatesOf_1 16 rfl rfl)
theorem dX1_outGatesOf_41 : decode cX1_outGatesOf 41 = .ok (.aload_n 2, 1) := dk_44 (dk_at dksX1_outGatesOf_1 17 rfl rfl)
theorem dX1_outGatesOf_42 : decode cX1_outGatesOf 42 = .ok (.aload_n 0, 1) := dk_42 (dk_at dksX1_outGatesOf_1 18 rfl rfl)
theorem dX1_outGatesOf_43 : decode cX1_outGatesOf 43 = .ok (.getfield 33, 3) := dk_180 0 33 (dk_at dksX1_outGatesOf_1 19 rfl rfl)
theorem dX1_outGatesOf_46 : decode cX1_outGatesOf 46 = .ok (.getfield 215, 3) := dk_180 0 215 (dk_at dksX1_outGatesOf_2 0 rfl rfl)
theorem dX1_outGatesOf_49 : decode cX1_outGatesOf 49 = .ok (.iload_n 3, 1) := dk_29 (dk_at dksX1_outGatesOf_2 3 rfl rfl)
theorem dX1_outGatesOf_50 : decode cX1_outGatesOf 50 = .ok (.aload_n 0, 1) := dk_42 (dk_at dksX1_outGatesOf_2 4 rfl rfl)
theorem dX1_outGatesOf_51 : decode cX1_outGatesOf 51 = .ok (.getfield 67, 3) := dk_180 0 67 (dk_at dksX1_outGatesOf_2 5 rfl rfl)
theorem dX1_outGatesOf_54 : decode cX1_outGatesOf 54 = .ok (.invokestatic 296, 3) := dk_184 1 40 (dk_at dksX1_outGatesOf_2 8 rfl rfl)
theorem dX1_outGatesOf_57 : decode cX1_outGatesOf 57 = .ok (.aload_n 0, 1) := dk_42 (dk_at dksX1_outGatesOf_2 11 rfl rfl)
theorem dX1_outGatesOf_58 : decode cX1_outGatesOf 58 = .ok (.getfield 67, 3) := dk_180 0 67 (dk_at dksX1_outGatesOf_2 12 rfl rfl)
theorem dX1_outGatesOf_61 : decode cX1_outGatesOf 61 = .ok (.iload_n 1, 1) := dk_27 (dk_at dksX1_outGatesOf_2 15 rfl rfl)
theorem dX1_outGatesOf_62 : decode cX1_outGatesOf 62 = .ok (.iaload, 1) := dk_46 (dk_at dksX1_outGatesOf_2 16 rfl rfl)
theorem dX1_outGatesOf_63 : decode cX1_outGatesOf 63 = .ok (.iconst 1, 1) := dk_4 (dk_at dksX1_outGatesOf_2 17 rfl rfl)
theorem dX1_outGatesOf_64 : decode cX1_outGatesOf 64 = .ok (.iload_n 1, 1) := dk_27 (dk_at dksX1_outGatesOf_2 18 rfl rfl)
theorem dX1_outGatesOf_65 : decode cX1_outGatesOf 65 = .ok (.ishl, 1) := dk_120 (dk_at dksX1_outGatesOf_2 19 rfl rfl)
theorem dX1_outGatesOf_66 : decode cX1_outGatesOf 66 = .ok (.iconst (-1), 1) := dk_2 (dk_at dksX1_outGatesOf_2 20 rfl rfl)
theorem dX1_outGatesOf_67 : decode cX1_outGatesOf 67 = .ok (.ixor, 1) := dk_130 (dk_at dksX1_outGatesOf_2 21 rfl rfl)
theorem dX1_outGatesOf_68 : decode cX1_outGatesOf 68 = .ok (.iand, 1) := dk_126 (dk_at dksX1_outGatesOf_2 22 rfl rfl)
theorem dX1_outGatesOf_69 : decode cX1_outGatesOf 69 = .ok (.ireturn, 1) := dk_172 (dk_at dksX1_outGatesOf_2 23 rfl rfl)
abbrev cX1_rings : ByteArray := prog_1_method_88_code
def yX1_rings : MethodName := ⟨RX1, "rings", "()I"⟩
def dkwX1_rings_2 : List UInt8 := [60, 132, 2, 1, 167, 255, 208, 27, 172]
abbrev dktX1_rings_2 : List UInt8 := dkwX1_rings_2 ++ []
def dkwX1_rings_1 : List UInt8 := [184, 0, 7, 153, 0, 19, 42, 28, 182, 1, 103, 184, 1, 198, 28, 160, 0, 7, 4, 167, 0, 4, 3, 96]
abbrev dktX1_rings_1 : List UInt8 := dkwX1_rings_1 ++ dktX1_rings_2
def dkwX1_rings_0 : List UInt8 := [3, 60, 3, 61, 28, 42, 180, 0, 33, 180, 1, 1, 162, 0, 43, 27, 42, 180, 0, 50, 180, 0, 140, 28]
abbrev dktX1_rings_0 : List UInt8 := dkwX1_rings_0 ++ dktX1_rings_1
theorem dksX1_rings_0 : cX1_rings.data.toList.drop 0 = dktX1_rings_0 := by decide +kernel
theorem dksX1_rings_1 : cX1_rings.data.toList.drop 24 = dktX1_rings_1 := dk_seg dksX1_rings_0 24 rfl rfl
theorem dksX1_rings_2 : cX1_rings.data.toList.drop 48 = dktX1_rings_2 := dk_seg dksX1_rings_1 24 rfl rfl
theorem dX1_rings_0 : decode cX1_rings 0 = .ok (.iconst 0, 1) := dk_3 (dk_at dksX1_rings_0 0 rfl rfl)
theorem dX1_rings_1 : decode cX1_rings 1 = .ok (.istore_n 1, 1) := dk_60 (dk_at dksX1_rings_0 1 rfl rfl)
theorem dX1_rings_2 : decode cX1_rings 2 = .ok (.iconst 0, 1) := dk_3 (dk_at dksX1_rings_0 2 rfl rfl)
theorem dX1_rings_3 : decode cX1_rings 3 = .ok (.istore_n 2, 1) := dk_61 (dk_at dksX1_rings_0 3 rfl rfl)
theorem dX1_rings_4 : decode cX1_rings 4 = .ok (.iload_n 2, 1) := dk_28 (dk_at dksX1_rings_0 4 rfl rfl)
theorem dX1_rings_5 : decode cX1_rings 5 = .ok (.aload_n 0, 1) := dk_42 (dk_at dksX1_rings_0 5 rfl rfl)
theorem dX1_rings_6 : decode cX1_rings 6 = .ok (.getfield 33, 3) := dk_180 0 33 (dk_at dksX1_rings_0 6 rfl rfl)
theorem dX1_rings_9 : decode cX1_rings 9 = .ok (.getfield 257, 3) := dk_180 1 1 (dk_at dksX1_rings_0 9 rfl rfl)
theorem dX1_rings_12 : decode cX1_rings 12 = .ok (.if_icmp .ge 43, 3) := dk_162 0 43 (dk_at dksX1_rings_0 12 rfl rfl)
theorem dX1_rings_15 : decode cX1_rings 15 = .ok (.iload_n 1, 1) := dk_27 (dk_at dksX1_rings_0 15 rfl rfl)
theorem dX1_rings_16 : decode cX1_rings 16 = .ok (.aload_n 0, 1) := dk_42 (dk_at dksX1_rings_0 16 rfl rfl)
theorem dX1_rings_17 : decode cX1_rings 17 = .ok (.getfield 50, 3) := dk_180 0 50 (dk_at dksX1_rings_0 17 rfl rfl)
theorem dX1_rings_20 : decode cX1_rings 20 = .ok (.getfield 140, 3) := dk_180 0 140 (dk_at dksX1_rings_0 20 rfl rfl)
theorem dX1_rings_23 : decode cX1_rings 23 = .ok (.iload_n 2, 1) := dk_28 (dk_at dksX1_rings_0 23 rfl rfl)
theorem dX1_rings_24 : decode cX1_rings 24 = .ok (.invokestatic 7, 3) := dk_184 0 7 (dk_at dksX1_rings_1 0 rfl rfl)
theorem dX1_rings_27 : decode cX1_rings 27 = .ok (.ifCond .eq 19, 3) := dk_153 0 19 (dk_at dksX1_rings_1 3 rfl rfl)
theorem dX1_rings_30 : decode cX1_rings 30 = .ok (.aload_n 0, 1) := dk_42 (dk_at dksX1_rings_1 6 rfl rfl)
theorem dX1_rings_31 : decode cX1_rings 31 = .ok (.iload_n 2, 1) := dk_28 (dk_at dksX1_rings_1 7 rfl rfl)
theorem dX1_rings_32 : decode cX1_rings 32 = .ok (.invokevirtual 359, 3) := dk_182 1 103 (dk_at dksX1_rings_1 8 rfl rfl)
theorem dX1_rings_35 : decode cX1_rings 35 = .ok (.invokestatic 454, 3) := dk_184 1 198 (dk_at dksX1_rings_1 11 rfl rfl)
theorem dX1_rings_38 : decode cX1_rings 38 = .ok (.iload_n 2, 1) := dk_28 (dk_at dksX1_rings_1 14 rfl rfl)
theorem dX1_rings_39 : decode cX1_rings 39 = .ok (.if_icmp .ne 7, 3) := dk_160 0 7 (dk_at dksX1_rings_1 15 rfl rfl)
theorem dX1_rings_42 : decode cX1_rings 42 = .ok (.iconst 1, 1) := dk_4 (dk_at dksX1_rings_1 18 rfl rfl)
theorem dX1_rings_43 : decode cX1_rings 43 = .ok (.goto 4, 3) := dk_167 0 4 (dk_at dksX1_rings_1 19 rfl rfl)
theorem dX1_rings_46 : decode cX1_rings 46 = .ok (.iconst 0, 1) := dk_3 (dk_at dksX1_rings_1 22 rfl rfl)
theorem dX1_rings_47 : decode cX1_rings 47 = .ok (.iadd, 1) := dk_96 (dk_at dksX1_rings_1 23 rfl rfl)
theorem dX1_rings_48 : decode cX1_rings 48 = .ok (.istore_n 1, 1) := dk_60 (dk_at dksX1_rings_2 0 rfl rfl)
theorem dX1_rings_49 : decode cX1_rings 49 = .ok (.iinc 2 1, 3) := dk_132 2 1 (dk_at dksX1_rings_2 1 rfl rfl)
theorem dX1_rings_52 : decode cX1_rings 52 = .ok (.goto (-48), 3) := dk_167 255 208 (dk_at dksX1_rings_2 4 rfl rfl)
theorem dX1_rings_55 : decode cX1_rings 55 = .ok (.iload_n 1, 1) := dk_27 (dk_at dksX1_rings_2 7 rfl rfl)
theorem dX1_rings_56 : decode cX1_rings 56 = .ok (.ireturn, 1) := dk_172 (dk_at dksX1_rings_2 8 rfl rfl)
abbrev cX1_ringOf : ByteArray := prog_1_method_53_code
def yX1_ringOf : MethodName := ⟨RX1, "ringOf", "(I)I"⟩
def dkwX1_ringOf_0 : List UInt8 := [42, 180, 0, 33, 27, 3, 182, 1, 118, 61, 42, 42, 28, 27, 186, 1, 122, 0, 0, 182, 1, 11, 172]
abbrev dktX1_ringOf_0 : List UInt8 := dkwX1_ringOf_0 ++ []
theorem dksX1_ringOf_0 : cX1_ringOf.data.toList.drop 0 = dktX1_ringOf_0 := by decide +kernel
theorem dX1_ringOf_0 : decode cX1_ringOf 0 = .ok (.aload_n 0, 1) := dk_42 (dk_at dksX1_ringOf_0 0 rfl rfl)
theorem dX1_ringOf_1 : decode cX1_ringOf 1 = .ok (.getfield 33, 3) := dk_180 0 33 (dk_at dksX1_ringOf_0 1 rfl rfl)
theorem dX1_ringOf_4 : decode cX1_ringOf 4 = .ok (.iload_n 1, 1) := dk_27 (dk_at dksX1_ringOf_0 4 rfl rfl)
theorem dX1_ringOf_5 : decode cX1_ringOf 5 = .ok (.iconst 0, 1) := dk_3 (dk_at dksX1_ringOf_0 5 rfl rfl)
theorem dX1_ringOf_6 : decode cX1_ringOf 6 = .ok (.invokevirtual 374, 3) := dk_182 1 118 (dk_at dksX1_ringOf_0 6 rfl rfl)
theorem dX1_ringOf_9 : decode cX1_ringOf 9 = .ok (.istore_n 2, 1) := dk_61 (dk_at dksX1_ringOf_0 9 rfl rfl)
theorem dX1_ringOf_10 : decode cX1_ringOf 10 = .ok (.aload_n 0, 1) := dk_42 (dk_at dksX1_ringOf_0 10 rfl rfl)
theorem dX1_ringOf_11 : decode cX1_ringOf 11 = .ok (.aload_n 0, 1) := dk_42 (dk_at dksX1_ringOf_0 11 rfl rfl)
theorem dX1_ringOf_12 : decode cX1_ringOf 12 = .ok (.iload_n 2, 1) := dk_28 (dk_at dksX1_ringOf_0 12 rfl rfl)
theorem dX1_ringOf_13 : decode cX1_ringOf 13 = .ok (.iload_n 1, 1) := dk_27 (dk_at dksX1_ringOf_0 13 rfl rfl)
theorem dX1_ringOf_14 : decode cX1_ringOf 14 = .ok (.invokedynamic 378, 5) := by decide +kernel
theorem dX1_ringOf_19 : decode cX1_ringOf 19 = .ok (.invokevirtual 267, 3) := dk_182 1 11 (dk_at dksX1_ringOf_0 19 rfl rfl)
theorem dX1_ringOf_22 : decode cX1_ringOf 22 = .ok (.ireturn, 1) := dk_172 (dk_at dksX1_ringOf_0 22 rfl rfl)
abbrev cX1_lambda_ringOf_7 : ByteArray := prog_1_method_97_code
def yX1_lambda_ringOf_7 : MethodName := ⟨RX1, "lambda$ringOf$7", "(III)Z"⟩
def dkwX1_lambda_ringOf_7_1 : List UInt8 := [4, 167, 0, 4, 3, 172]
abbrev dktX1_lambda_ringOf_7_1 : List UInt8 := dkwX1_lambda_ringOf_7_1 ++ []
def dkwX1_lambda_ringOf_7_0 : List UInt8 := [27, 29, 184, 0, 7, 153, 0, 23, 42, 180, 0, 33, 29, 3, 182, 1, 118, 28, 184, 0, 7, 153, 0, 7]
abbrev dktX1_lambda_ringOf_7_0 : List UInt8 := dkwX1_lambda_ringOf_7_0 ++ dktX1_lambda_ringOf_7_1
theorem dksX1_lambda_ringOf_7_0 : cX1_lambda_ringOf_7.data.toList.drop 0 = dktX1_lambda_ringOf_7_0 := by decide +kernel
theorem dksX1_lambda_ringOf_7_1 : cX1_lambda_ringOf_7.data.toList.drop 24 = dktX1_lambda_ringOf_7_1 := dk_seg dksX1_lambda_ringOf_7_0 24 rfl rfl
theorem dX1_lambda_ringOf_7_0 : decode cX1_lambda_ringOf_7 0 = .ok (.iload_n 1, 1) := dk_27 (dk_at dksX1_lambda_ringOf_7_0 0 rfl rfl)
theorem dX1_lambda_ringOf_7_1 : decode cX1_lambda_ringOf_7 1 = .ok (.iload_n 3, 1) := dk_29 (dk_at dksX1_lambda_ringOf_7_0 1 rfl rfl)
theorem dX1_lambda_ringOf_7_2 : decode cX1_lambda_ringOf_7 2 = .ok (.invokestatic 7, 3) := dk_184 0 7 (dk_at dksX1_lambda_ringOf_7_0 2 rfl rfl)
theorem dX1_lambda_ringOf_7_5 : decode cX1_lambda_ringOf_7 5 = .ok (.ifCond .eq 23, 3) := dk_153 0 23 (dk_at dksX1_lambda_ringOf_7_0 5 rfl rfl)
theorem dX1_lambda_ringOf_7_8 : decode cX1_lambda_ringOf_7 8 = .ok (.aload_n 0, 1) := dk_42 (dk_at dksX1_lambda_ringOf_7_0 8 rfl rfl)
theorem dX1_lambda_ringOf_7_9 : decode cX1_lambda_ringOf_7 9 = .ok (.getfield 33, 3) := dk_180 0 33 (dk_at dksX1_lambda_ringOf_7_0 9 rfl rfl)
theorem dX1_lambda_ringOf_7_12 : decode cX1_lambda_ringOf_7 12 = .ok (.iload_n 3, 1) := dk_29 (dk_at dksX1_lambda_ringOf_7_0 12 rfl rfl)
theorem dX1_lambda_ringOf_7_13 : decode cX1_lambda_ringOf_7 13 = .ok (.iconst 0, 1) := dk_3 (dk_at dksX1_lambda_ringOf_7_0 13 rfl rfl)
theorem dX1_lambda_ringOf_7_14 : decode cX1_lambda_ringOf_7 14 = .ok (.invokevirtual 374, 3) := dk_182 1 118 (dk_at dksX1_lambda_ringOf_7_0 14 rfl rfl)
theorem dX1_lambda_ringOf_7_17 : decode cX1_lambda_ringOf_7 17 = .ok (.iload_n 2, 1) := dk_28 (dk_at dksX1_lambda_ringOf_7_0 17 rfl rfl)
theorem dX1_lambda_ringOf_7_18 : decode cX1_lambda_ringOf_7 18 = .ok (.invokestatic 7, 3) := dk_184 0 7 (dk_at dksX1_lambda_ringOf_7_0 18 rfl rfl)
theorem dX1_lambda_ringOf_7_21 : decode cX1_lambda_ringOf_7 21 = .ok (.ifCond .eq 7, 3) := dk_153 0 7 (dk_at dksX1_lambda_ringOf_7_0 21 rfl rfl)
theorem dX1_lambda_ringOf_7_24 : decode cX1_lambda_ringOf_7 24 = .ok (.iconst 1, 1) := dk_4 (dk_at dksX1_lambda_ringOf_7_1 0 rfl rfl)
theorem dX1_lambda_ringOf_7_25 : decode cX1_lambda_ringOf_7 25 = .ok (.goto 4, 3) := dk_167 0 4 (dk_at dksX1_lambda_ringOf_7_1 1 rfl rfl)
theorem dX1_lambda_ringOf_7_28 : decode cX1_lambda_ringOf_7 28 = .ok (.iconst 0, 1) := dk_3 (dk_at dksX1_lambda_ringOf_7_1 4 rfl rfl)
theorem dX1_lambda_ringOf_7_29 : decode cX1_lambda_ringOf_7 29 = .ok (.ireturn, 1) := dk_172 (dk_at dksX1_lambda_ringOf_7_1 5 rfl rfl)
abbrev cX1_tollsOfAll : ByteArray := prog_1_method_89_code
def yX1_tollsOfAll : MethodName := ⟨RX1, "tollsOfAll", "()I"⟩
def dkwX1_tollsOfAll_2 : List UInt8 := [167, 255, 212, 27, 172]
abbrev dktX1_tollsOfAll_2 : List UInt8 := dkwX1_tollsOfAll_2 ++ []
def dkwX1_tollsOfAll_1 : List UInt8 := [184, 0, 7, 153, 0, 15, 42, 180, 0, 33, 180, 0, 245, 28, 46, 167, 0, 4, 3, 96, 60, 132, 2, 1]
abbrev dktX1_tollsOfAll_1 : List UInt8 := dkwX1_tollsOfAll_1 ++ dktX1_tollsOfAll_2
def dkwX1_tollsOfAll_0 : List UInt8 := [3, 60, 3, 61, 28, 42, 180, 0, 33, 180, 1, 1, 162, 0, 39, 27, 42, 180, 0, 50, 180, 0, 140, 28]
abbrev dktX1_tollsOfAll_0 : List UInt8 := dkwX1_tollsOfAll_0 ++ dktX1_tollsOfAll_1
theorem dksX1_tollsOfAll_0 : cX1_tollsOfAll.data.toList.drop 0 = dktX1_tollsOfAll_0 := by decide +kernel
theorem dksX1_tollsOfAll_1 : cX1_tollsOfAll.data.toList.drop 24 = dktX1_tollsOfAll_1 := dk_seg dksX1_tollsOfAll_0 24 rfl rfl
theorem dksX1_tollsOfAll_2 : cX1_tollsOfAll.data.toList.drop 48 = dktX1_tollsOfAll_2 := dk_seg dksX1_tollsOfAll_1 24 rfl rfl
theorem dX1_tollsOfAll_0 : decode cX1_tollsOfAll 0 = .ok (.iconst 0, 1) := dk_3 (dk_at dksX1_tollsOfAll_0 0 rfl rfl)
theorem dX1_tollsOfAll_1 : decode cX1_tollsOfAll 1 = .ok (.istore_n 1, 1) := dk_60 (dk_at dksX1_tollsOfAll_0 1 rfl rfl)
theorem dX1_tollsOfAll_2 : decode cX1_tollsOfAll 2 = .ok (.iconst 0, 1) := dk_3 (dk_at dksX1_tollsOfAll_0 2 rfl rfl)
theorem dX1_tollsOfAll_3 : decode cX1_tollsOfAll 3 = .ok (.istore_n 2, 1) := dk_61 (dk_at dksX1_tollsOfAll_0 3 rfl rfl)
theorem dX1_tollsOfAll_4 : decode cX1_tollsOfAll 4 = .ok (.iload_n 2, 1) := dk_28 (dk_at dksX1_tollsOfAll_0 4 rfl rfl)
theorem dX1_tollsOfAll_5 : decode cX1_tollsOfAll 5 = .ok (.aload_n 0, 1) := dk_42 (dk_at dksX1_tollsOfAll_0 5 rfl rfl)
theorem dX1_tollsOfAll_6 : decode cX1_tollsOfAll 6 = .ok (.getfield 33, 3) := dk_180 0 33 (dk_at dksX1_tollsOfAll_0 6 rfl rfl)
theorem dX1_tollsOfAll_9 : decode cX1_tollsOfAll 9 = .ok (.getfield 257, 3) := dk_180 1 1 (dk_at dksX1_tollsOfAll_0 9 rfl rfl)
theorem dX1_tollsOfAll_12 : decode cX1_tollsOfAll 12 = .ok (.if_icmp .ge 39, 3) := dk_162 0 39 (dk_at dksX1_tollsOfAll_0 12 rfl rfl)
theorem dX1_tollsOfAll_15 : decode cX1_tollsOfAll 15 = .ok (.iload_n 1, 1) := dk_27 (dk_at dksX1_tollsOfAll_0 15 rfl rfl)
theorem dX1_tollsOfAll_16 : decode cX1_tollsOfAll 16 = .ok (.aload_n 0, 1) := dk_42 (dk_at dksX1_tollsOfAll_0 16 rfl rfl)
theorem dX1_tollsOfAll_17 : decode cX1_tollsOfAll 17 = .ok (.getfield 50, 3) := dk_180 0 50 (dk_at dksX1_tollsOfAll_0 17 rfl rfl)
theorem dX1_tollsOfAll_20 : decode cX1_tollsOfAll 20 = .ok (.getfield 140, 3) := dk_180 0 140 (dk_at dksX1_tollsOfAll_0 20 rfl rfl)
theorem dX1_tollsOfAll_23 : decode cX1_tollsOfAll 23 = .ok (.iload_n 2, 1) := dk_28 (dk_at dksX1_tollsOfAll_0 23 rfl rfl)
theorem dX1_tollsOfAll_24 : decode cX1_tollsOfAll 24 = .ok (.invokestatic 7, 3) := dk_184 0 7 (dk_at dksX1_tollsOfAll_1 0 rfl rfl)
theorem dX1_tollsOfAll_27 : decode cX1_tollsOfAll 27 = .ok (.ifCond .eq 15, 3) := dk_153 0 15 (dk_at dksX1_tollsOfAll_1 3 rfl rfl)
theorem dX1_tollsOfAll_30 : decode cX1_tollsOfAll 30 = .ok (.aload_n 0, 1) := dk_42 (dk_at dksX1_tollsOfAll_1 6 rfl rfl)
theorem dX1_tollsOfAll_31 : decode cX1_tollsOfAll 31 = .ok (.getfield 33, 3) := dk_180 0 33 (dk_at dksX1_tollsOfAll_1 7 rfl rfl)
theorem dX1_tollsOfAll_34 : decode cX1_tollsOfAll 34 = .ok (.getfield 245, 3) := dk_180 0 245 (dk_at dksX1_tollsOfAll_1 10 rfl rfl)
theorem dX1_tollsOfAll_37 : decode cX1_tollsOfAll 37 = .ok (.iload_n 2, 1) := dk_28 (dk_at dksX1_tollsOfAll_1 13 rfl rfl)
theorem dX1_tollsOfAll_38 : decode cX1_tollsOfAll 38 = .ok (.iaload, 1) := dk_46 (dk_at dksX1_tollsOfAll_1 14 rfl rfl)
theorem dX1_tollsOfAll_39 : decode cX1_tollsOfAll 39 = .ok (.goto 4, 3) := dk_167 0 4 (dk_at dksX1_tollsOfAll_1 15 rfl rfl)
theorem dX1_tollsOfAll_42 : decode cX1_tollsOfAll 42 = .ok (.iconst 0, 1) := dk_3 (dk_at dksX1_tollsOfAll_1 18 rfl rfl)
theorem dX1_tollsOfAll_43 : decode cX1_tollsOfAll 43 = .ok (.iadd, 1) := dk_96 (dk_at dksX1_tollsOfAll_1 19 rfl rfl)
theorem dX1_tollsOfAll_44 : decode cX1_tollsOfAll 44 = .ok (.istore_n 1, 1) := dk_60 (dk_at dksX1_tollsOfAll_1 20 rfl rfl)
theorem dX1_tollsOfAll_45 : decode cX1_tollsOfAll 45 = .ok (.iinc 2 1, 3) := dk_132 2 1 (dk_at dksX1_tollsOfAll_1 21 rfl rfl)
theorem dX1_tollsOfAll_48 : decode cX1_tollsOfAll 48 = .ok (.goto (-44), 3) := dk_167 255 212 (dk_at dksX1_tollsOfAll_2 0 rfl rfl)
theorem dX1_tollsOfAll_51 : decode cX1_tollsOfAll 51 = .ok (.iload_n 1, 1) := dk_27 (dk_at dksX1_tollsOfAll_2 3 rfl rfl)
theorem dX1_tollsOfAll_52 : decode cX1_tollsOfAll 52 = .ok (.ireturn, 1) := dk_172 (dk_at dksX1_tollsOfAll_2 4 rfl rfl)
abbrev cX1_spareArcs : ByteArray := prog_1_method_70_code
def yX1_spareArcs : MethodName := ⟨RX1, "spareArcs", "()I"⟩
def dkwX1_spareArcs_3 : List UInt8 := [3, 96, 60, 132, 2, 1, 167, 255, 183, 27, 172]
abbrev dktX1_spareArcs_3 : List UInt8 := dkwX1_spareArcs_3 ++ []
def dkwX1_spareArcs_2 : List UInt8 := [180, 0, 140, 160, 0, 21, 42, 180, 0, 57, 42, 180, 0, 50, 182, 0, 143, 154, 0, 7, 4, 167, 0, 4]
abbrev dktX1_spareArcs_2 : List UInt8 := dkwX1_spareArcs_2 ++ dktX1_spareArcs_3
def dkwX1_spareArcs_1 : List UInt8 := [154, 0, 6, 167, 0, 47, 42, 28, 182, 1, 160, 27, 42, 180, 0, 57, 180, 0, 140, 42, 180, 0, 50]
abbrev dktX1_spareArcs_1 : List UInt8 := dkwX1_spareArcs_1 ++ dktX1_spareArcs_2
def dkwX1_spareArcs_0 : List UInt8 := [3, 60, 3, 61, 28, 42, 180, 0, 33, 180, 0, 230, 162, 0, 68, 42, 180, 0, 33, 180, 1, 54, 28, 51]
abbrev dktX1_spareArcs_0 : List UInt8 := dkwX1_spareArcs_0 ++ dktX1_spareArcs_1
theorem dksX1_spareArcs_0 : cX1_spareArcs.data.toList.drop 0 = dktX1_spareArcs_0 := by decide +kernel
theorem dksX1_spareArcs_1 : cX1_spareArcs.data.toList.drop 24 = dktX1_spareArcs_1 := dk_seg dksX1_spareArcs_0 24 rfl rfl
theorem dksX1_spareArcs_2 : cX1_spareArcs.data.toList.drop 47 = dktX1_spareArcs_2 := dk_seg dksX1_spareArcs_1 23 rfl rfl
theorem dksX1_spareArcs_3 : cX1_spareArcs.data.toList.drop 71 = dktX1_spareArcs_3 := dk_seg dksX1_spareArcs_2 24 rfl rfl
theorem dX1_spareArcs_0 : decode cX1_spareArcs 0 = .ok (.iconst 0, 1) := dk_3 (dk_at dksX1_spareArcs_0 0 rfl rfl)
theorem dX1_spareArcs_1 : decode cX1_spareArcs 1 = .ok (.istore_n 1, 1) := dk_60 (dk_at dksX1_spareArcs_0 1 rfl rfl)
theorem dX1_spareArcs_2 : decode cX1_spareArcs 2 = .ok (.iconst 0, 1) := dk_3 (dk_at dksX1_spareArcs_0 2 rfl rfl)
theorem dX1_spareArcs_3 : decode cX1_spareArcs 3 = .ok (.istore_n 2, 1) := dk_61 (dk_at dksX1_spareArcs_0 3 rfl rfl)
theorem dX1_spareArcs_4 : decode cX1_spareArcs 4 = .ok (.iload_n 2, 1) := dk_28 (dk_at dksX1_spareArcs_0 4 rfl rfl)
theorem dX1_spareArcs_5 : decode cX1_spareArcs 5 = .ok (.aload_n 0, 1) := dk_42 (dk_at dksX1_spareArcs_0 5 rfl rfl)
theorem dX1_spareArcs_6 : decode cX1_spareArcs 6 = .ok (.getfield 33, 3) := dk_180 0 33 (dk_at dksX1_spareArcs_0 6 rfl rfl)
theorem dX1_spareArcs_9 : decode cX1_spareArcs 9 = .ok (.getfield 230, 3) := dk_180 0 230 (dk_at dksX1_spareArcs_0 9 rfl rfl)
theorem dX1_spareArcs_12 : decode cX1_spareArcs 12 = .ok (.if_icmp .ge 68, 3) := dk_162 0 68 (dk_at dksX1_spareArcs_0 12 rfl rfl)
theorem dX1_spareArcs_15 : decode cX1_spareArcs 15 = .ok (.aload_n 0, 1) := dk_42 (dk_at dksX1_spareArcs_0 15 rfl rfl)
theorem dX1_spareArcs_16 : decode cX1_spareArcs 16 = .ok (.getfield 33, 3) := dk_180 0 33 (dk_at dksX1_spareArcs_0 16 rfl rfl)
theorem dX1_spareArcs_19 : decode cX1_spareArcs 19 = .ok (.getfield 310, 3) := dk_180 1 54 (dk_at dksX1_spareArcs_0 19 rfl rfl)
theorem dX1_spareArcs_22 : decode cX1_spareArcs 22 = .ok (.iload_n 2, 1) := dk_28 (dk_at dksX1_spareArcs_0 22 rfl rfl)
theorem dX1_spareArcs_23 : decode cX1_spareArcs 23 = .ok (.baload, 1) := dk_51 (dk_at dksX1_spareArcs_0 23 rfl rfl)
theorem dX1_spareArcs_24 : decode cX1_spareArcs 24 = .ok (.ifCond .ne 6, 3) := dk_154 0 6 (dk_at dksX1_spareArcs_1 0 rfl rfl)
theorem dX1_spareArcs_27 : decode cX1_spareArcs 27 = .ok (.goto 47, 3) := dk_167 0 47 (dk_at dksX1_spareArcs_1 3 rfl rfl)
theorem dX1_spareArcs_30 : decode cX1_spareArcs 30 = .ok (.aload_n 0, 1) := dk_42 (dk_at dksX1_spareArcs_1 6 rfl rfl)
theorem dX1_spareArcs_31 : decode cX1_spareArcs 31 = .ok (.iload_n 2, 1) := dk_28 (dk_at dksX1_spareArcs_1 7 rfl rfl)
theorem dX1_spareArcs_32 : decode cX1_spareArcs 32 = .ok (.invokevirtual 416, 3) := dk_182 1 160 (dk_at dksX1_spareArcs_1 8 rfl rfl)
theorem dX1_spareArcs_35 : decode cX1_spareArcs 35 = .ok (.iload_n 1, 1) := dk_27 (dk_at dksX1_spareArcs_1 11 rfl rfl)
theorem dX1_spareArcs_36 : decode cX1_spareArcs 36 = .ok (.aload_n 0, 1) := dk_42 (dk_at dksX1_spareArcs_1 12 rfl rfl)
theorem dX1_spareArcs_37 : decode cX1_spareArcs 37 = .ok (.getfield 57, 3) := dk_180 0 57 (dk_at dksX1_spareArcs_1 13 rfl rfl)
theorem dX1_spareArcs_40 : decode cX1_spareArcs 40 = .ok (.getfield 140, 3) := dk_180 0 140 (dk_at dksX1_spareArcs_1 16 rfl rfl)
theorem dX1_spareArcs_43 : decode cX1_spareArcs 43 = .ok (.aload_n 0, 1) := dk_42 (dk_at dksX1_spareArcs_1 19 rfl rfl)
theorem dX1_spareArcs_44 : decode cX1_spareArcs 44 = .ok (.getfield 50, 3) := dk_180 0 50 (dk_at dksX1_spareArcs_1 20 rfl rfl)
theorem dX1_spareArcs_47 : decode cX1_spareArcs 47 = .ok (.getfield 140, 3) := dk_180 0 140 (dk_at dksX1_spareArcs_2 0 rfl rfl)
theorem dX1_spareArcs_50 : decode cX1_spareArcs 50 = .ok (.if_icmp .ne 21, 3) := dk_160 0 21 (dk_at dksX1_spareArcs_2 3 rfl rfl)
theorem dX1_spareArcs_53 : decode cX1_spareArcs 53 = .ok (.aload_n 0, 1) := dk_42 (dk_at dksX1_spareArcs_2 6 rfl rfl)
theorem dX1_spareArcs_54 : decode cX1_spareArcs 54 = .ok (.getfield 57, 3) := dk_180 0 57 (dk_at dksX1_spareArcs_2 7 rfl rfl)
theorem dX1_spareArcs_57 : decode cX1_spareArcs 57 = .ok (.aload_n 0, 1) := dk_42 (dk_at dksX1_spareArcs_2 10 rfl rfl)
theorem dX1_spareArcs_58 : decode cX1_spareArcs 58 = .ok (.getfield 50, 3) := dk_180 0 50 (dk_at dksX1_spareArcs_2 11 rfl rfl)
theorem dX1_spareArcs_61 : decode cX1_spareArcs 61 = .ok (.invokevirtual 143, 3) := dk_182 0 143 (dk_at dksX1_spareArcs_2 14 rfl rfl)
theorem dX1_spareArcs_64 : decode cX1_spareArcs 64 = .ok (.ifCond .ne 7, 3) := dk_154 0 7 (dk_at dksX1_spareArcs_2 17 rfl rfl)
theorem dX1_spareArcs_67 : decode cX1_spareArcs 67 = .ok (.iconst 1, 1) := dk_4 (dk_at dksX1_spareArcs_2 20 rfl rfl)
theorem dX1_spareArcs_68 : decode cX1_spareArcs 68 = .ok (.goto 4, 3) := dk_167 0 4 (dk_at dksX1_spareArcs_2 21 rfl rfl)
theorem dX1_spareArcs_71 : decode cX1_spareArcs 71 = .ok (.iconst 0, 1) := dk_3 (dk_at dksX1_spareArcs_3 0 rfl rfl)
theorem dX1_spareArcs_72 : decode cX1_spareArcs 72 = .ok (.iadd, 1) := dk_96 (dk_at dksX1_spareArcs_3 1 rfl rfl)
theorem dX1_spareArcs_73 : decode cX1_spareArcs 73 = .ok (.istore_n 1, 1) := dk_60 (dk_at dksX1_spareArcs_3 2 rfl rfl)
theorem dX1_spareArcs_74 : decode cX1_spareArcs 74 = .ok (.iinc 2 1, 3) := dk_132 2 1 (dk_at dksX1_spareArcs_3 3 rfl rfl)
theorem dX1_spareArcs_77 : decode cX1_spareArcs 77 = .ok (.goto (-73), 3) := dk_167 255 183 (dk_at dksX1_spareArcs_3 6 rfl rfl)
theorem dX1_spareArcs_80 : decode cX1_spareArcs 80 = .ok (.iload_n 1, 1) := dk_27 (dk_at dksX1_spareArcs_3 9 rfl rfl)
theorem dX1_spareArcs_81 : decode cX1_spareArcs 81 = .ok (.ireturn, 1) := dk_172 (dk_at dksX1_spareArcs_3 10 rfl rfl)
abbrev cX1_shuts : ByteArray := prog_1_method_68_code
def yX1_shuts : MethodName := ⟨RX1, "shuts", "(I)V"⟩
def dkwX1_shuts_1 : List UInt8 := [180, 0, 33, 182, 0, 89, 42, 180, 0, 33, 180, 1, 54, 27, 4, 84, 42, 180, 0, 33, 182, 1, 158, 177]
abbrev dktX1_shuts_1 : List UInt8 := dkwX1_shuts_1 ++ []
def dkwX1_shuts_0 : List UInt8 := [42, 180, 0, 33, 180, 1, 54, 27, 3, 84, 42, 180, 0, 33, 182, 1, 158, 42, 180, 0, 57, 42]
abbrev dktX1_shuts_0 : List UInt8 := dkwX1_shuts_0 ++ dktX1_shuts_1
theorem dksX1_shuts_0 : cX1_shuts.data.toList.drop 0 = dktX1_shuts_0 := by decide +kernel
theorem dksX1_shuts_1 : cX1_shuts.data.toList.drop 22 = dktX1_shuts_1 := dk_seg dksX1_shuts_0 22 rfl rfl
theorem dX1_shuts_0 : decode cX1_shuts 0 = .ok (.aload_n 0, 1) := dk_42 (dk_at dksX1_shuts_0 0 rfl rfl)
theorem dX1_shuts_1 : decode cX1_shuts 1 = .ok (.getfield 33, 3) := dk_180 0 33 (dk_at dksX1_shuts_0 1 rfl rfl)
theorem dX1_shuts_4 : decode cX1_shuts 4 = .ok (.getfield 310, 3) := dk_180 1 54 (dk_at dksX1_shuts_0 4 rfl rfl)
theorem dX1_shuts_7 : decode cX1_shuts 7 = .ok (.iload_n 1, 1) := dk_27 (dk_at dksX1_shuts_0 7 rfl rfl)
theorem dX1_shuts_8 : decode cX1_shuts 8 = .ok (.iconst 0, 1) := dk_3 (dk_at dksX1_shuts_0 8 rfl rfl)
theorem dX1_shuts_9 : decode cX1_shuts 9 = .ok (.bastore, 1) := dk_84 (dk_at dksX1_shuts_0 9 rfl rfl)
theorem dX1_shuts_10 : decode cX1_shuts 10 = .ok (.aload_n 0, 1) := dk_42 (dk_at dksX1_shuts_0 10 rfl rfl)
theorem dX1_shuts_11 : decode cX1_shuts 11 = .ok (.getfield 33, 3) := dk_180 0 33 (dk_at dksX1_shuts_0 11 rfl rfl)
theorem dX1_shuts_14 : decode cX1_shuts 14 = .ok (.invokevirtual 414, 3) := dk_182 1 158 (dk_at dksX1_shuts_0 14 rfl rfl)
theorem dX1_shuts_17 : decode cX1_shuts 17 = .ok (.aload_n 0, 1) := dk_42 (dk_at dksX1_shuts_0 17 rfl rfl)
theorem dX1_shuts_18 : decode cX1_shuts 18 = .ok (.getfield 57, 3) := dk_180 0 57 (dk_at dksX1_shuts_0 18 rfl rfl)
theorem dX1_shuts_21 : decode cX1_shuts 21 = .ok (.aload_n 0, 1) := dk_42 (dk_at dksX1_shuts_0 21 rfl rfl)
theorem dX1_shuts_22 : decode cX1_shuts 22 = .ok (.getfield 33, 3) := dk_180 0 33 (dk_at dksX1_shuts_1 0 rfl rfl)
theorem dX1_shuts_25 : decode cX1_shuts 25 = .ok (.invokevirtual 89, 3) := dk_182 0 89 (dk_at dksX1_shuts_1 3 rfl rfl)
theorem dX1_shuts_28 : decode cX1_shuts 28 = .ok (.aload_n 0, 1) := dk_42 (dk_at dksX1_shuts_1 6 rfl rfl)
theorem dX1_shuts_29 : decode cX1_shuts 29 = .ok (.getfield 33, 3) := dk_180 0 33 (dk_at dksX1_shuts_1 7 rfl rfl)
theorem dX1_shuts_32 : decode cX1_shuts 32 = .ok (.getfield 310, 3) := dk_180 1 54 (dk_at dksX1_shuts_1 10 rfl rfl)
theorem dX1_shuts_35 : decode cX1_shuts 35 = .ok (.iload_n 1, 1) := dk_27 (dk_at dksX1_shuts_1 13 rfl rfl)
theorem dX1_shuts_36 : decode cX1_shuts 36 = .ok (.iconst 1, 1) := dk_4 (dk_at dksX1_shuts_1 14 rfl rfl)
theorem dX1_shuts_37 : decode cX1_shuts 37 = .ok (.bastore, 1) := dk_84 (dk_at dksX1_shuts_1 15 rfl rfl)
theorem dX1_shuts_38 : decode cX1_shuts 38 = .ok (.aload_n 0, 1) := dk_42 (dk_at dksX1_shuts_1 16 rfl rfl)
theorem dX1_shuts_39 : decode cX1_shuts 39 = .ok (.getfield 33, 3) := dk_180 0 33 (dk_at dksX1_shuts_1 17 rfl rfl)
theorem dX1_shuts_42 : decode cX1_shuts 42 = .ok (.invokevirtual 414, 3) := dk_182 1 158 (dk_at dksX1_shuts_1 20 rfl rfl)
theorem dX1_shuts_45 : decode cX1_shuts 45 = .ok (.return_, 1) := dk_177 (dk_at dksX1_shuts_1 23 rfl rfl)
abbrev cX1_acts : ByteArray := prog_1_method_17_code
def yX1_acts : MethodName := ⟨RX1, "acts", "()I"⟩
def dkwX1_acts_4 : List UInt8 := [3, 181, 0, 160, 28, 172]
abbrev dktX1_acts_4 : List UInt8 := dkwX1_acts_4 ++ []
def dkwX1_acts_3 : List UInt8 := [180, 0, 50, 42, 180, 0, 33, 182, 0, 89, 42, 3, 181, 0, 173, 42, 182, 0, 176, 28, 158, 0, 8, 42]
abbrev dktX1_acts_3 : List UInt8 := dkwX1_acts_3 ++ dktX1_acts_4
def dkwX1_acts_2 : List UInt8 := [181, 0, 160, 42, 45, 182, 0, 163, 191, 42, 180, 0, 33, 42, 180, 0, 26, 180, 0, 167, 182, 0, 170, 42]
abbrev dktX1_acts_2 : List UInt8 := dkwX1_acts_2 ++ dktX1_acts_3
def dkwX1_acts_1 : List UInt8 := [167, 0, 31, 78, 42, 180, 0, 26, 180, 0, 157, 158, 0, 14, 42, 42, 180, 0, 26, 180, 0, 157]
abbrev dktX1_acts_1 : List UInt8 := dkwX1_acts_1 ++ dktX1_acts_2
def dkwX1_acts_0 : List UInt8 := [42, 182, 0, 150, 60, 42, 2, 181, 0, 78, 42, 180, 0, 26, 27, 42, 180, 0, 33, 182, 0, 153, 61]
abbrev dktX1_acts_0 : List UInt8 := dkwX1_acts_0 ++ dktX1_acts_1
theorem dksX1_acts_0 : cX1_acts.data.toList.drop 0 = dktX1_acts_0 := by decide +kernel
theorem dksX1_acts_1 : cX1_acts.data.toList.drop 23 = dktX1_acts_1 := dk_seg dksX1_acts_0 23 rfl rfl
theorem dksX1_acts_2 : cX1_acts.data.toList.drop 45 = dktX1_acts_2 := dk_seg dksX1_acts_1 22 rfl rfl
theorem dksX1_acts_3 : cX1_acts.data.toList.drop 69 = dktX1_acts_3 := dk_seg dksX1_acts_2 24 rfl rfl
theorem dksX1_acts_4 : cX1_acts.data.toList.drop 93 = dktX1_acts_4 := dk_seg dksX1_acts_3 24 rfl rfl
theorem dX1_acts_0 : decode cX1_acts 0 = .ok (.aload_n 0, 1) := dk_42 (dk_at dksX1_acts_0 0 rfl rfl)
theorem dX1_acts_1 : decode cX1_acts 1 = .ok (.invokevirtual 150, 3) := dk_182 0 150 (dk_at dksX1_acts_0 1 rfl rfl)
theorem dX1_acts_4 : decode cX1_acts 4 = .ok (.istore_n 1, 1) := dk_60 (dk_at dksX1_acts_0 4 rfl rfl)
theorem dX1_acts_5 : decode cX1_acts 5 = .ok (.aload_n 0, 1) := dk_42 (dk_at dksX1_acts_0 5 rfl rfl)
theorem dX1_acts_6 : decode cX1_acts 6 = .ok (.iconst (-1), 1) := dk_2 (dk_at dksX1_acts_0 6 rfl rfl)
theorem dX1_acts_7 : decode cX1_acts 7 = .ok (.putfield 78, 3) := dk_181 0 78 (dk_at dksX1_acts_0 7 rfl rfl)
theorem dX1_acts_10 : decode cX1_acts 10 = .ok (.aload_n 0, 1) := dk_42 (dk_at dksX1_acts_0 10 rfl rfl)
theorem dX1_acts_11 : decode cX1_acts 11 = .ok (.getfield 26, 3) := dk_180 0 26 (dk_at dksX1_acts_0 11 rfl rfl)
theorem dX1_acts_14 : decode cX1_acts 14 = .ok (.iload_n 1, 1) := dk_27 (dk_at dksX1_acts_0 14 rfl rfl)
theorem dX1_acts_15 : decode cX1_acts 15 = .ok (.aload_n 0, 1) := dk_42 (dk_at dksX1_acts_0 15 rfl rfl)
theorem dX1_acts_16 : decode cX1_acts 16 = .ok (.getfield 33, 3) := dk_180 0 33 (dk_at dksX1_acts_0 16 rfl rfl)
theorem dX1_acts_19 : decode cX1_acts 19 = .ok (.invokevirtual 153, 3) := dk_182 0 153 (dk_at dksX1_acts_0 19 rfl rfl)
theorem dX1_acts_22 : decode cX1_acts 22 = .ok (.istore_n 2, 1) := dk_61 (dk_at dksX1_acts_0 22 rfl rfl)
theorem dX1_acts_23 : decode cX1_acts 23 = .ok (.goto 31, 3) := dk_167 0 31 (dk_at dksX1_acts_1 0 rfl rfl)
theorem dX1_acts_26 : decode cX1_acts 26 = .ok (.astore_n 3, 1) := dk_78 (dk_at dksX1_acts_1 3 rfl rfl)
theorem dX1_acts_27 : decode cX1_acts 27 = .ok (.aload_n 0, 1) := dk_42 (dk_at dksX1_acts_1 4 rfl rfl)
theorem dX1_acts_28 : decode cX1_acts 28 = .ok (.getfield 26, 3) := dk_180 0 26 (dk_at dksX1_acts_1 5 rfl rfl)
theorem dX1_acts_31 : decode cX1_acts 31 = .ok (.getfield 157, 3) := dk_180 0 157 (dk_at dksX1_acts_1 8 rfl rfl)
theorem dX1_acts_34 : decode cX1_acts 34 = .ok (.ifCond .le 14, 3) := dk_158 0 14 (dk_at dksX1_acts_1 11 rfl rfl)
theorem dX1_acts_37 : decode cX1_acts 37 = .ok (.aload_n 0, 1) := dk_42 (dk_at dksX1_acts_1 14 rfl rfl)
theorem dX1_acts_38 : decode cX1_acts 38 = .ok (.aload_n 0, 1) := dk_42 (dk_at dksX1_acts_1 15 rfl rfl)
theorem dX1_acts_39 : decode cX1_acts 39 = .ok (.getfield 26, 3) := dk_180 0 26 (dk_at dksX1_acts_1 16 rfl rfl)
theorem dX1_acts_42 : decode cX1_acts 42 = .ok (.getfield 157, 3) := dk_180 0 157 (dk_at dksX1_acts_1 19 rfl rfl)
theorem dX1_acts_45 : decode cX1_acts 45 = .ok (.putfield 160, 3) := dk_181 0 160 (dk_at dksX1_acts_2 0 rfl rfl)
theorem dX1_acts_48 : decode cX1_acts 48 = .ok (.aload_n 0, 1) := dk_42 (dk_at dksX1_acts_2 3 rfl rfl)
theorem dX1_acts_49 : decode cX1_acts 49 = .ok (.aload_n 3, 1) := dk_45 (dk_at dksX1_acts_2 4 rfl rfl)
theorem dX1_acts_50 : decode cX1_acts 50 = .ok (.invokevirtual 163, 3) := dk_182 0 163 (dk_at dksX1_acts_2 5 rfl rfl)
theorem dX1_acts_53 : decode cX1_acts 53 = .ok (.athrow, 1) := dk_191 (dk_at dksX1_acts_2 8 rfl rfl)
theorem dX1_acts_54 : decode cX1_acts 54 = .ok (.aload_n 0, 1) := dk_42 (dk_at dksX1_acts_2 9 rfl rfl)
theorem dX1_acts_55 : decode cX1_acts 55 = .ok (.getfield 33, 3) := dk_180 0 33 (dk_at dksX1_acts_2 10 rfl rfl)
theorem dX1_acts_58 : decode cX1_acts 58 = .ok (.aload_n 0, 1) := dk_42 (dk_at dksX1_acts_2 13 rfl rfl)
theorem dX1_acts_59 : decode cX1_acts 59 = .ok (.getfield 26, 3) := dk_180 0 26 (dk_at dksX1_acts_2 14 rfl rfl)
theorem dX1_acts_62 : decode cX1_acts 62 = .ok (.getfield 167, 3) := dk_180 0 167 (dk_at dksX1_acts_2 17 rfl rfl)
theorem dX1_acts_65 : decode cX1_acts 65 = .ok (.invokevirtual 170, 3) := dk_182 0 170 (dk_at dksX1_acts_2 20 rfl rfl)
theorem dX1_acts_68 : decode cX1_acts 68 = .ok (.aload_n 0, 1) := dk_42 (dk_at dksX1_acts_2 23 rfl rfl)
theorem dX1_acts_69 : decode cX1_acts 69 = .ok (.getfield 50, 3) := dk_180 0 50 (dk_at dksX1_acts_3 0 rfl rfl)
theorem dX1_acts_72 : decode cX1_acts 72 = .ok (.aload_n 0, 1) := dk_42 (dk_at dksX1_acts_3 3 rfl rfl)
theorem dX1_acts_73 : decode cX1_acts 73 = .ok (.getfield 33, 3) := dk_180 0 33 (dk_at dksX1_acts_3 4 rfl rfl)
theorem dX1_acts_76 : decode cX1_acts 76 = .ok (.invokevirtual 89, 3) := dk_182 0 89 (dk_at dksX1_acts_3 7 rfl rfl)
theorem dX1_acts_79 : decode cX1_acts 79 = .ok (.aload_n 0, 1) := dk_42 (dk_at dksX1_acts_3 10 rfl rfl)
theorem dX1_acts_80 : decode cX1_acts 80 = .ok (.iconst 0, 1) := dk_3 (dk_at dksX1_acts_3 11 rfl rfl)
theorem dX1_acts_81 : decode cX1_acts 81 = .ok (.putfield 173, 3) := dk_181 0 173 (dk_at dksX1_acts_3 12 rfl rfl)
theorem dX1_acts_84 : decode cX1_acts 84 = .ok (.aload_n 0, 1) := dk_42 (dk_at dksX1_acts_3 15 rfl rfl)
theorem dX1_acts_85 : decode cX1_acts 85 = .ok (.invokevirtual 176, 3) := dk_182 0 176 (dk_at dksX1_acts_3 16 rfl rfl)
theorem dX1_acts_88 : decode cX1_acts 88 = .ok (.iload_n 2, 1) := dk_28 (dk_at dksX1_acts_3 19 rfl rfl)
theorem dX1_acts_89 : decode cX1_acts 89 = .ok (.ifCond .le 8, 3) := dk_158 0 8 (dk_at dksX1_acts_3 20 rfl rfl)
theorem dX1_acts_92 : decode cX1_acts 92 = .ok (.aload_n 0, 1) := dk_42 (dk_at dksX1_acts_3 23 rfl rfl)
theorem dX1_acts_93 : decode cX1_acts 93 = .ok (.iconst 0, 1) := dk_3 (dk_at dksX1_acts_4 0 rfl rfl)
theorem dX1_acts_94 : decode cX1_acts 94 = .ok (.putfield 160, 3) := dk_181 0 160 (dk_at dksX1_acts_4 1 rfl rfl)
theorem dX1_acts_97 : decode cX1_acts 97 = .ok (.iload_n 2, 1) := dk_28 (dk_at dksX1_acts_4 4 rfl rfl)
theorem dX1_acts_98 : decode cX1_acts 98 = .ok (.ireturn, 1) := dk_172 (dk_at dksX1_acts_4 5 rfl rfl)
abbrev cX1_took : ByteArray := prog_1_method_13_code
def yX1_took : MethodName := ⟨RX1, "took", "()I"⟩
def dkwX1_took_0 : List UInt8 := [42, 180, 0, 26, 180, 0, 112, 60, 42, 180, 0, 26, 3, 181, 0, 112, 27, 172]
abbrev dktX1_took_0 : List UInt8 := dkwX1_took_0 ++ []
theorem dksX1_took_0 : cX1_took.data.toList.drop 0 = dktX1_took_0 := by decide +kernel
theorem dX1_took_0 : decode cX1_took 0 = .ok (.aload_n 0, 1) := dk_42 (dk_at dksX1_took_0 0 rfl rfl)
theorem dX1_took_1 : decode cX1_took 1 = .ok (.getfield 26, 3) := dk_180 0 26 (dk_at dksX1_took_0 1 rfl rfl)
theorem dX1_took_4 : decode cX1_took 4 = .ok (.getfield 112, 3) := dk_180 0 112 (dk_at dksX1_took_0 4 rfl rfl)
theorem dX1_took_7 : decode cX1_took 7 = .ok (.istore_n 1, 1) := dk_60 (dk_at dksX1_took_0 7 rfl rfl)
theorem dX1_took_8 : decode cX1_took 8 = .ok (.aload_n 0, 1) := dk_42 (dk_at dksX1_took_0 8 rfl rfl)
theorem dX1_took_9 : decode cX1_took 9 = .ok (.getfield 26, 3) := dk_180 0 26 (dk_at dksX1_took_0 9 rfl rfl)
theorem dX1_took_12 : decode cX1_took 12 = .ok (.iconst 0, 1) := dk_3 (dk_at dksX1_took_0 12 rfl rfl)
theorem dX1_took_13 : decode cX1_took 13 = .ok (.putfield 112, 3) := dk_181 0 112 (dk_at dksX1_took_0 13 rfl rfl)
theorem dX1_took_16 : decode cX1_took 16 = .ok (.iload_n 1, 1) := dk_27 (dk_at dksX1_took_0 16 rfl rfl)
theorem dX1_took_17 : decode cX1_took 17 = .ok (.ireturn, 1) := dk_172 (dk_at dksX1_took_0 17 rfl rfl)
abbrev cX1_isWrong : ByteArray := prog_1_method_14_code
def yX1_isWrong : MethodName := ⟨RX1, "isWrong", "(LGateLifter$Wrong;)Ljava/lang/IllegalArgumentException;"⟩
def dkwX1_isWrong_0 : List UInt8 := [42, 43, 180, 0, 123, 181, 0, 78, 187, 0, 93, 89, 183, 0, 95, 176]
abbrev dktX1_isWrong_0 : List UInt8 := dkwX1_isWrong_0 ++ []
theorem dksX1_isWrong_0 : cX1_isWrong.data.toList.drop 0 = dktX1_isWrong_0 := by decide +kernel
theorem dX1_isWrong_0 : decode cX1_isWrong 0 = .ok (.aload_n 0, 1) := dk_42 (dk_at dksX1_isWrong_0 0 rfl rfl)
theorem dX1_isWrong_1 : decode cX1_isWrong 1 = .ok (.aload_n 1, 1) := dk_43 (dk_at dksX1_isWrong_0 1 rfl rfl)
theorem dX1_isWrong_2 : decode cX1_isWrong 2 = .ok (.getfield 123, 3) := dk_180 0 123 (dk_at dksX1_isWrong_0 2 rfl rfl)
theorem dX1_isWrong_5 : decode cX1_isWrong 5 = .ok (.putfield 78, 3) := dk_181 0 78 (dk_at dksX1_isWrong_0 5 rfl rfl)
theorem dX1_isWrong_8 : decode cX1_isWrong 8 = .ok (.new 93, 3) := dk_187 0 93 (dk_at dksX1_isWrong_0 8 rfl rfl)
theorem dX1_isWrong_11 : decode cX1_isWrong 11 = .ok (.dup, 1) := dk_89 (dk_at dksX1_isWrong_0 11 rfl rfl)
theorem dX1_isWrong_12 : decode cX1_isWrong 12 = .ok (.invokespecial 95, 3) := dk_183 0 95 (dk_at dksX1_isWrong_0 12 rfl rfl)
theorem dX1_isWrong_15 : decode cX1_isWrong 15 = .ok (.areturn, 1) := dk_176 (dk_at dksX1_isWrong_0 15 rfl rfl)
abbrev cX1_net : ByteArray := prog_1_method_20_code
def yX1_net : MethodName := ⟨RX1, "net", "(I)V"⟩
def dkwX1_net_1 : List UInt8 := [182, 0, 89, 42, 3, 181, 0, 173, 42, 3, 181, 0, 160, 42, 182, 0, 176, 177]
abbrev dktX1_net_1 : List UInt8 := dkwX1_net_1 ++ []
def dkwX1_net_0 : List UInt8 := [27, 5, 16, 16, 184, 0, 119, 184, 0, 179, 42, 180, 0, 50, 42, 180, 0, 33, 27, 182, 0, 85]
abbrev dktX1_net_0 : List UInt8 := dkwX1_net_0 ++ dktX1_net_1
theorem dksX1_net_0 : cX1_net.data.toList.drop 0 = dktX1_net_0 := by decide +kernel
theorem dksX1_net_1 : cX1_net.data.toList.drop 22 = dktX1_net_1 := dk_seg dksX1_net_0 22 rfl rfl
theorem dX1_net_0 : decode cX1_net 0 = .ok (.iload_n 1, 1) := dk_27 (dk_at dksX1_net_0 0 rfl rfl)
theorem dX1_net_1 : decode cX1_net 1 = .ok (.iconst 2, 1) := dk_5 (dk_at dksX1_net_0 1 rfl rfl)
theorem dX1_net_2 : decode cX1_net 2 = .ok (.bipush 16, 2) := dk_16 16 (dk_at dksX1_net_0 2 rfl rfl)
theorem dX1_net_4 : decode cX1_net 4 = .ok (.invokestatic 119, 3) := dk_184 0 119 (dk_at dksX1_net_0 4 rfl rfl)
theorem dX1_net_7 : decode cX1_net 7 = .ok (.invokestatic 179, 3) := dk_184 0 179 (dk_at dksX1_net_0 7 rfl rfl)
theorem dX1_net_10 : decode cX1_net 10 = .ok (.aload_n 0, 1) := dk_42 (dk_at dksX1_net_0 10 rfl rfl)
theorem dX1_net_11 : decode cX1_net 11 = .ok (.getfield 50, 3) := dk_180 0 50 (dk_at dksX1_net_0 11 rfl rfl)
theorem dX1_net_14 : decode cX1_net 14 = .ok (.aload_n 0, 1) := dk_42 (dk_at dksX1_net_0 14 rfl rfl)
theorem dX1_net_15 : decode cX1_net 15 = .ok (.getfield 33, 3) := dk_180 0 33 (dk_at dksX1_net_0 15 rfl rfl)
theorem dX1_net_18 : decode cX1_net 18 = .ok (.iload_n 1, 1) := dk_27 (dk_at dksX1_net_0 18 rfl rfl)
theorem dX1_net_19 : decode cX1_net 19 = .ok (.invokevirtual 85, 3) := dk_182 0 85 (dk_at dksX1_net_0 19 rfl rfl)
theorem dX1_net_22 : decode cX1_net 22 = .ok (.invokevirtual 89, 3) := dk_182 0 89 (dk_at dksX1_net_1 0 rfl rfl)
theorem dX1_net_25 : decode cX1_net 25 = .ok (.aload_n 0, 1) := dk_42 (dk_at dksX1_net_1 3 rfl rfl)
theorem dX1_net_26 : decode cX1_net 26 = .ok (.iconst 0, 1) := dk_3 (dk_at dksX1_net_1 4 rfl rfl)
theorem dX1_net_27 : decode cX1_net 27 = .ok (.putfield 173, 3) := dk_181 0 173 (dk_at dksX1_net_1 5 rfl rfl)
theorem dX1_net_30 : decode cX1_net 30 = .ok (.aload_n 0, 1) := dk_42 (dk_at dksX1_net_1 8 rfl rfl)
theorem dX1_net_31 : decode cX1_net 31 = .ok (.iconst 0, 1) := dk_3 (dk_at dksX1_net_1 9 rfl rfl)
theorem dX1_net_32 : decode cX1_net 32 = .ok (.putfield 160, 3) := dk_181 0 160 (dk_at dksX1_net_1 10 rfl rfl)
theorem dX1_net_35 : decode cX1_net 35 = .ok (.aload_n 0, 1) := dk_42 (dk_at dksX1_net_1 13 rfl rfl)
theorem dX1_net_36 : decode cX1_net 36 = .ok (.invokevirtual 176, 3) := dk_182 0 176 (dk_at dksX1_net_1 14 rfl rfl)
theorem dX1_net_39 : decode cX1_net 39 = .ok (.return_, 1) := dk_177 (dk_at dksX1_net_1 17 rfl rfl)
abbrev cX1_must : ByteArray := prog_1_method_4_code
def yX1_must : MethodName := ⟨RX1, "must", "(Z)V"⟩
def dkwX1_must_0 : List UInt8 := [26, 154, 0, 11, 187, 0, 93, 89, 183, 0, 95, 191, 177]
abbrev dktX1_must_0 : List UInt8 := dkwX1_must_0 ++ []
theorem dksX1_must_0 : cX1_must.data.toList.drop 0 = dktX1_must_0 := by decide +kernel
theorem dX1_must_0 : decode cX1_must 0 = .ok (.iload_n 0, 1) := dk_26 (dk_at dksX1_must_0 0 rfl rfl)
theorem dX1_must_1 : decode cX1_must 1 = .ok (.ifCond .ne 11, 3) := dk_154 0 11 (dk_at dksX1_must_0 1 rfl rfl)
theorem dX1_must_4 : decode cX1_must 4 = .ok (.new 93, 3) := dk_187 0 93 (dk_at dksX1_must_0 4 rfl rfl)
theorem dX1_must_7 : decode cX1_must 7 = .ok (.dup, 1) := dk_89 (dk_at dksX1_must_0 7 rfl rfl)
theorem dX1_must_8 : decode cX1_must 8 = .ok (.invokespecial 95, 3) := dk_183 0 95 (dk_at dksX1_must_0 8 rfl rfl)
theorem dX1_must_11 : decode cX1_must 11 = .ok (.athrow, 1) := dk_191 (dk_at dksX1_must_0 11 rfl rfl)
theorem dX1_must_12 : decode cX1_must 12 = .ok (.return_, 1) := dk_177 (dk_at dksX1_must_0 12 rfl rfl)
abbrev cX1_tell : ByteArray := prog_1_method_24_code
def yX1_tell : MethodName := ⟨RX1, "tell", "(IZ)I"⟩
def dkwX1_tell_1 : List UInt8 := [180, 0, 218, 62, 42, 42, 180, 0, 33, 27, 28, 182, 0, 221, 2, 182, 0, 224, 29, 172]
abbrev dktX1_tell_1 : List UInt8 := dkwX1_tell_1 ++ []
def dkwX1_tell_0 : List UInt8 := [42, 182, 0, 212, 28, 153, 0, 13, 42, 180, 0, 33, 180, 0, 215, 167, 0, 10, 42, 180, 0, 33]
abbrev dktX1_tell_0 : List UInt8 := dkwX1_tell_0 ++ dktX1_tell_1
theorem dksX1_tell_0 : cX1_tell.data.toList.drop 0 = dktX1_tell_0 := by decide +kernel
theorem dksX1_tell_1 : cX1_tell.data.toList.drop 22 = dktX1_tell_1 := dk_seg dksX1_tell_0 22 rfl rfl
theorem dX1_tell_0 : decode cX1_tell 0 = .ok (.aload_n 0, 1) := dk_42 (dk_at dksX1_tell_0 0 rfl rfl)
theorem dX1_tell_1 : decode cX1_tell 1 = .ok (.invokevirtual 212, 3) := dk_182 0 212 (dk_at dksX1_tell_0 1 rfl rfl)
theorem dX1_tell_4 : decode cX1_tell 4 = .ok (.iload_n 2, 1) := dk_28 (dk_at dksX1_tell_0 4 rfl rfl)
theorem dX1_tell_5 : decode cX1_tell 5 = .ok (.ifCond .eq 13, 3) := dk_153 0 13 (dk_at dksX1_tell_0 5 rfl rfl)
theorem dX1_tell_8 : decode cX1_tell 8 = .ok (.aload_n 0, 1) := dk_42 (dk_at dksX1_tell_0 8 rfl rfl)
theorem dX1_tell_9 : decode cX1_tell 9 = .ok (.getfield 33, 3) := dk_180 0 33 (dk_at dksX1_tell_0 9 rfl rfl)
theorem dX1_tell_12 : decode cX1_tell 12 = .ok (.getfield 215, 3) := dk_180 0 215 (dk_at dksX1_tell_0 12 rfl rfl)
theorem dX1_tell_15 : decode cX1_tell 15 = .ok (.goto 10, 3) := dk_167 0 10 (dk_at dksX1_tell_0 15 rfl rfl)
theorem dX1_tell_18 : decode cX1_tell 18 = .ok (.aload_n 0, 1) := dk_42 (dk_at dksX1_tell_0 18 rfl rfl)
theorem dX1_tell_19 : decode cX1_tell 19 = .ok (.getfield 33, 3) := dk_180 0 33 (dk_at dksX1_tell_0 19 rfl rfl)
theorem dX1_tell_22 : decode cX1_tell 22 = .ok (.getfield 218, 3) := dk_180 0 218 (dk_at dksX1_tell_1 0 rfl rfl)
theorem dX1_tell_25 : decode cX1_tell 25 = .ok (.istore_n 3, 1) := dk_62 (dk_at dksX1_tell_1 3 rfl rfl)
theorem dX1_tell_26 : decode cX1_tell 26 = .ok (.aload_n 0, 1) := dk_42 (dk_at dksX1_tell_1 4 rfl rfl)
theorem dX1_tell_27 : decode cX1_tell 27 = .ok (.aload_n 0, 1) := dk_42 (dk_at dksX1_tell_1 5 rfl rfl)
theorem dX1_tell_28 : decode cX1_tell 28 = .ok (.getfield 33, 3) := dk_180 0 33 (dk_at dksX1_tell_1 6 rfl rfl)
theorem dX1_tell_31 : decode cX1_tell 31 = .ok (.iload_n 1, 1) := dk_27 (dk_at dksX1_tell_1 9 rfl rfl)
theorem dX1_tell_32 : decode cX1_tell 32 = .ok (.iload_n 2, 1) := dk_28 (dk_at dksX1_tell_1 10 rfl rfl)
theorem dX1_tell_33 : decode cX1_tell 33 = .ok (.invokevirtual 221, 3) := dk_182 0 221 (dk_at dksX1_tell_1 11 rfl rfl)
theorem dX1_tell_36 : decode cX1_tell 36 = .ok (.iconst (-1), 1) := dk_2 (dk_at dksX1_tell_1 14 rfl rfl)
theorem dX1_tell_37 : decode cX1_tell 37 = .ok (.invokevirtual 224, 3) := dk_182 0 224 (dk_at dksX1_tell_1 15 rfl rfl)
theorem dX1_tell_40 : decode cX1_tell 40 = .ok (.iload_n 3, 1) := dk_29 (dk_at dksX1_tell_1 18 rfl rfl)
theorem dX1_tell_41 : decode cX1_tell 41 = .ok (.ireturn, 1) := dk_172 (dk_at dksX1_tell_1 19 rfl rfl)
abbrev cX1_ahead : ByteArray := prog_1_method_21_code
def yX1_ahead : MethodName := ⟨RX1, "ahead", "()V"⟩
def dkwX1_ahead_0 : List UInt8 := [42, 180, 0, 40, 42, 180, 0, 33, 182, 0, 170, 42, 180, 0, 54, 42, 180, 0, 50, 182, 0, 183, 177]
abbrev dktX1_ahead_0 : List UInt8 := dkwX1_ahead_0 ++ []
theorem dksX1_ahead_0 : cX1_ahead.data.toList.drop 0 = dktX1_ahead_0 := by decide +kernel
theorem dX1_ahead_0 : decode cX1_ahead 0 = .ok (.aload_n 0, 1) := dk_42 (dk_at dksX1_ahead_0 0 rfl rfl)
theorem dX1_ahead_1 : decode cX1_ahead 1 = .ok (.getfield 40, 3) := dk_180 0 40 (dk_at dksX1_ahead_0 1 rfl rfl)
theorem dX1_ahead_4 : decode cX1_ahead 4 = .ok (.aload_n 0, 1) := dk_42 (dk_at dksX1_ahead_0 4 rfl rfl)
theorem dX1_ahead_5 : decode cX1_ahead 5 = .ok (.getfield 33, 3) := dk_180 0 33 (dk_at dksX1_ahead_0 5 rfl rfl)
theorem dX1_ahead_8 : decode cX1_ahead 8 = .ok (.invokevirtual 170, 3) := dk_182 0 170 (dk_at dksX1_ahead_0 8 rfl rfl)
theorem dX1_ahead_11 : decode cX1_ahead 11 = .ok (.aload_n 0, 1) := dk_42 (dk_at dksX1_ahead_0 11 rfl rfl)
theorem dX1_ahead_12 : decode cX1_ahead 12 = .ok (.getfield 54, 3) := dk_180 0 54 (dk_at dksX1_ahead_0 12 rfl rfl)
theorem dX1_ahead_15 : decode cX1_ahead 15 = .ok (.aload_n 0, 1) := dk_42 (dk_at dksX1_ahead_0 15 rfl rfl)
theorem dX1_ahead_16 : decode cX1_ahead 16 = .ok (.getfield 50, 3) := dk_180 0 50 (dk_at dksX1_ahead_0 16 rfl rfl)
theorem dX1_ahead_19 : decode cX1_ahead 19 = .ok (.invokevirtual 183, 3) := dk_182 0 183 (dk_at dksX1_ahead_0 19 rfl rfl)
theorem dX1_ahead_22 : decode cX1_ahead 22 = .ok (.return_, 1) := dk_177 (dk_at dksX1_ahead_0 22 rfl rfl)
abbrev cX1_done : ByteArray := prog_1_method_23_code
def yX1_done : MethodName := ⟨RX1, "done", "(II)V"⟩
def dkwX1_done_3 : List UInt8 := [180, 0, 50, 42, 180, 0, 54, 182, 0, 208, 177]
abbrev dktX1_done_3 : List UInt8 := dkwX1_done_3 ++ []
def dkwX1_done_2 : List UInt8 := [180, 0, 33, 180, 0, 198, 28, 46, 42, 180, 0, 33, 180, 0, 201, 28, 46, 182, 0, 204, 42, 42]
abbrev dktX1_done_2 : List UInt8 := dkwX1_done_2 ++ dktX1_done_3
def dkwX1_done_1 : List UInt8 := [160, 0, 17, 42, 180, 0, 50, 42, 180, 0, 33, 182, 0, 89, 167, 0, 28, 42, 180, 0, 50, 42]
abbrev dktX1_done_1 : List UInt8 := dkwX1_done_1 ++ dktX1_done_2
def dkwX1_done_0 : List UInt8 := [42, 27, 181, 0, 160, 27, 154, 0, 7, 4, 167, 0, 4, 3, 184, 0, 192, 42, 182, 0, 195, 28, 2]
abbrev dktX1_done_0 : List UInt8 := dkwX1_done_0 ++ dktX1_done_1
theorem dksX1_done_0 : cX1_done.data.toList.drop 0 = dktX1_done_0 := by decide +kernel
theorem dksX1_done_1 : cX1_done.data.toList.drop 23 = dktX1_done_1 := dk_seg dksX1_done_0 23 rfl rfl
theorem dksX1_done_2 : cX1_done.data.toList.drop 45 = dktX1_done_2 := dk_seg dksX1_done_1 22 rfl rfl
theorem dksX1_done_3 : cX1_done.data.toList.drop 67 = dktX1_done_3 := dk_seg dksX1_done_2 22 rfl rfl
theorem dX1_done_0 : decode cX1_done 0 = .ok (.aload_n 0, 1) := dk_42 (dk_at dksX1_done_0 0 rfl rfl)
theorem dX1_done_1 : decode cX1_done 1 = .ok (.iload_n 1, 1) := dk_27 (dk_at dksX1_done_0 1 rfl rfl)
theorem dX1_done_2 : decode cX1_done 2 = .ok (.putfield 160, 3) := dk_181 0 160 (dk_at dksX1_done_0 2 rfl rfl)
theorem dX1_done_5 : decode cX1_done 5 = .ok (.iload_n 1, 1) := dk_27 (dk_at dksX1_done_0 5 rfl rfl)
theorem dX1_done_6 : decode cX1_done 6 = .ok (.ifCond .ne 7, 3) := dk_154 0 7 (dk_at dksX1_done_0 6 rfl rfl)
theorem dX1_done_9 : decode cX1_done 9 = .ok (.iconst 1, 1) := dk_4 (dk_at dksX1_done_0 9 rfl rfl)
theorem dX1_done_10 : decode cX1_done 10 = .ok (.goto 4, 3) := dk_167 0 4 (dk_at dksX1_done_0 10 rfl rfl)
theorem dX1_done_13 : decode cX1_done 13 = .ok (.iconst 0, 1) := dk_3 (dk_at dksX1_done_0 13 rfl rfl)
theorem dX1_done_14 : decode cX1_done 14 = .ok (.invokestatic 192, 3) := dk_184 0 192 (dk_at dksX1_done_0 14 rfl rfl)
theorem dX1_done_17 : decode cX1_done 17 = .ok (.aload_n 0, 1) := dk_42 (dk_at dksX1_done_0 17 rfl rfl)
theorem dX1_done_18 : decode cX1_done 18 = .ok (.invokevirtual 195, 3) := dk_182 0 195 (dk_at dksX1_done_0 18 rfl rfl)
theorem dX1_done_21 : decode cX1_done 21 = .ok (.iload_n 2, 1) := dk_28 (dk_at dksX1_done_0 21 rfl rfl)
theorem dX1_done_22 : decode cX1_done 22 = .ok (.iconst (-1), 1) := dk_2 (dk_at dksX1_done_0 22 rfl rfl)
theorem dX1_done_23 : decode cX1_done 23 = .ok (.if_icmp .ne 17, 3) := dk_160 0 17 (dk_at dksX1_done_1 0 rfl rfl)
theorem dX1_done_26 : decode cX1_done 26 = .ok (.aload_n 0, 1) := dk_42 (dk_at dksX1_done_1 3 rfl rfl)
theorem dX1_done_27 : decode cX1_done 27 = .ok (.getfield 50, 3) := dk_180 0 50 (dk_at dksX1_done_1 4 rfl rfl)
theorem dX1_done_30 : decode cX1_done 30 = .ok (.aload_n 0, 1) := dk_42 (dk_at dksX1_done_1 7 rfl rfl)
theorem dX1_done_31 : decode cX1_done 31 = .ok (.getfield 33, 3) := dk_180 0 33 (dk_at dksX1_done_1 8 rfl rfl)
theorem dX1_done_34 : decode cX1_done 34 = .ok (.invokevirtual 89, 3) := dk_182 0 89 (dk_at dksX1_done_1 11 rfl rfl)
theorem dX1_done_37 : decode cX1_done 37 = .ok (.goto 28, 3) := dk_167 0 28 (dk_at dksX1_done_1 14 rfl rfl)
theorem dX1_done_40 : decode cX1_done 40 = .ok (.aload_n 0, 1) := dk_42 (dk_at dksX1_done_1 17 rfl rfl)
theorem dX1_done_41 : decode cX1_done 41 = .ok (.getfield 50, 3) := dk_180 0 50 (dk_at dksX1_done_1 18 rfl rfl)
theorem dX1_done_44 : decode cX1_done 44 = .ok (.aload_n 0, 1) := dk_42 (dk_at dksX1_done_1 21 rfl rfl)
theorem dX1_done_45 : decode cX1_done 45 = .ok (.getfield 33, 3) := dk_180 0 33 (dk_at dksX1_done_2 0 rfl rfl)
theorem dX1_done_48 : decode cX1_done 48 = .ok (.getfield 198, 3) := dk_180 0 198 (dk_at dksX1_done_2 3 rfl rfl)
theorem dX1_done_51 : decode cX1_done 51 = .ok (.iload_n 2, 1) := dk_28 (dk_at dksX1_done_2 6 rfl rfl)
theorem dX1_done_52 : decode cX1_done 52 = .ok (.iaload, 1) := dk_46 (dk_at dksX1_done_2 7 rfl rfl)
theorem dX1_done_53 : decode cX1_done 53 = .ok (.aload_n 0, 1) := dk_42 (dk_at dksX1_done_2 8 rfl rfl)
theorem dX1_done_54 : decode cX1_done 54 = .ok (.getfield 33, 3) := dk_180 0 33 (dk_at dksX1_done_2 9 rfl rfl)
theorem dX1_done_57 : decode cX1_done 57 = .ok (.getfield 201, 3) := dk_180 0 201 (dk_at dksX1_done_2 12 rfl rfl)
theorem dX1_done_60 : decode cX1_done 60 = .ok (.iload_n 2, 1) := dk_28 (dk_at dksX1_done_2 15 rfl rfl)
theorem dX1_done_61 : decode cX1_done 61 = .ok (.iaload, 1) := dk_46 (dk_at dksX1_done_2 16 rfl rfl)
theorem dX1_done_62 : decode cX1_done 62 = .ok (.invokevirtual 204, 3) := dk_182 0 204 (dk_at dksX1_done_2 17 rfl rfl)
theorem dX1_done_65 : decode cX1_done 65 = .ok (.aload_n 0, 1) := dk_42 (dk_at dksX1_done_2 20 rfl rfl)
theorem dX1_done_66 : decode cX1_done 66 = .ok (.aload_n 0, 1) := dk_42 (dk_at dksX1_done_2 21 rfl rfl)
theorem dX1_done_67 : decode cX1_done 67 = .ok (.getfield 50, 3) := dk_180 0 50 (dk_at dksX1_done_3 0 rfl rfl)
theorem dX1_done_70 : decode cX1_done 70 = .ok (.aload_n 0, 1) := dk_42 (dk_at dksX1_done_3 3 rfl rfl)
theorem dX1_done_71 : decode cX1_done 71 = .ok (.getfield 54, 3) := dk_180 0 54 (dk_at dksX1_done_3 4 rfl rfl)
theorem dX1_done_74 : decode cX1_done 74 = .ok (.invokevirtual 208, 3) := dk_182 0 208 (dk_at dksX1_done_3 7 rfl rfl)
theorem dX1_done_77 : decode cX1_done 77 = .ok (.return_, 1) := dk_177 (dk_at dksX1_done_3 10 rfl rfl)
abbrev cX1_can : ByteArray := prog_1_method_8_code
def yX1_can : MethodName := ⟨RX1, "can", "(Z)V"⟩
def dkwX1_can_0 : List UInt8 := [26, 154, 0, 11, 187, 0, 105, 89, 183, 0, 107, 191, 177]
abbrev dktX1_can_0 : List UInt8 := dkwX1_can_0 ++ []
theorem dksX1_can_0 : cX1_can.data.toList.drop 0 = dktX1_can_0 := by decide +kernel
theorem dX1_can_0 : decode cX1_can 0 = .ok (.iload_n 0, 1) := dk_26 (dk_at dksX1_can_0 0 rfl rfl)
theorem dX1_can_1 : decode cX1_can 1 = .ok (.ifCond .ne 11, 3) := dk_154 0 11 (dk_at dksX1_can_0 1 rfl rfl)
theorem dX1_can_4 : decode cX1_can 4 = .ok (.new 105, 3) := dk_187 0 105 (dk_at dksX1_can_0 4 rfl rfl)
theorem dX1_can_7 : decode cX1_can 7 = .ok (.dup, 1) := dk_89 (dk_at dksX1_can_0 7 rfl rfl)
theorem dX1_can_8 : decode cX1_can 8 = .ok (.invokespecial 107, 3) := dk_183 0 107 (dk_at dksX1_can_0 8 rfl rfl)
theorem dX1_can_11 : decode cX1_can 11 = .ok (.athrow, 1) := dk_191 (dk_at dksX1_can_0 11 rfl rfl)
theorem dX1_can_12 : decode cX1_can 12 = .ok (.return_, 1) := dk_177 (dk_at dksX1_can_0 12 rfl rfl)
abbrev cX1_remembers : ByteArray := prog_1_method_22_code
def yX1_remembers : MethodName := ⟨RX1, "remembers", "()V"⟩
def dkwX1_remembers_3 : List UInt8 := [4, 96, 181, 0, 173, 177]
abbrev dktX1_remembers_3 : List UInt8 := dkwX1_remembers_3 ++ []
def dkwX1_remembers_2 : List UInt8 := [181, 0, 173, 42, 180, 0, 43, 42, 180, 0, 173, 50, 42, 180, 0, 40, 182, 0, 170, 42, 89, 180, 0, 173]
abbrev dktX1_remembers_2 : List UInt8 := dkwX1_remembers_2 ++ dktX1_remembers_3
def dkwX1_remembers_1 : List UInt8 := [180, 0, 43, 3, 16, 7, 184, 0, 186, 42, 180, 0, 43, 16, 7, 43, 83, 42, 89, 180, 0, 173, 4, 100]
abbrev dktX1_remembers_1 : List UInt8 := dkwX1_remembers_1 ++ dktX1_remembers_2
def dkwX1_remembers_0 : List UInt8 := [42, 180, 0, 173, 16, 8, 160, 0, 43, 42, 180, 0, 43, 3, 50, 76, 42, 180, 0, 43, 4, 42]
abbrev dktX1_remembers_0 : List UInt8 := dkwX1_remembers_0 ++ dktX1_remembers_1
theorem dksX1_remembers_0 : cX1_remembers.data.toList.drop 0 = dktX1_remembers_0 := by decide +kernel
theorem dksX1_remembers_1 : cX1_remembers.data.toList.drop 22 = dktX1_remembers_1 := dk_seg dksX1_remembers_0 22 rfl rfl
theorem dksX1_remembers_2 : cX1_remembers.data.toList.drop 46 = dktX1_remembers_2 := dk_seg dksX1_remembers_1 24 rfl rfl
theorem dksX1_remembers_3 : cX1_remembers.data.toList.drop 70 = dktX1_remembers_3 := dk_seg dksX1_remembers_2 24 rfl rfl
theorem dX1_remembers_0 : decode cX1_remembers 0 = .ok (.aload_n 0, 1) := dk_42 (dk_at dksX1_remembers_0 0 rfl rfl)
theorem dX1_remembers_1 : decode cX1_remembers 1 = .ok (.getfield 173, 3) := dk_180 0 173 (dk_at dksX1_remembers_0 1 rfl rfl)
theorem dX1_remembers_4 : decode cX1_remembers 4 = .ok (.bipush 8, 2) := dk_16 8 (dk_at dksX1_remembers_0 4 rfl rfl)
theorem dX1_remembers_6 : decode cX1_remembers 6 = .ok (.if_icmp .ne 43, 3) := dk_160 0 43 (dk_at dksX1_remembers_0 6 rfl rfl)
theorem dX1_remembers_9 : decode cX1_remembers 9 = .ok (.aload_n 0, 1) := dk_42 (dk_at dksX1_remembers_0 9 rfl rfl)
theorem dX1_remembers_10 : decode cX1_remembers 10 = .ok (.getfield 43, 3) := dk_180 0 43 (dk_at dksX1_remembers_0 10 rfl rfl)
theorem dX1_remembers_13 : decode cX1_remembers 13 = .ok (.iconst 0, 1) := dk_3 (dk_at dksX1_remembers_0 13 rfl rfl)
theorem dX1_remembers_14 : decode cX1_remembers 14 = .ok (.aaload, 1) := dk_50 (dk_at dksX1_remembers_0 14 rfl rfl)
theorem dX1_remembers_15 : decode cX1_remembers 15 = .ok (.astore_n 1, 1) := dk_76 (dk_at dksX1_remembers_0 15 rfl rfl)
theorem dX1_remembers_16 : decode cX1_remembers 16 = .ok (.aload_n 0, 1) := dk_42 (dk_at dksX1_remembers_0 16 rfl rfl)
theorem dX1_remembers_17 : decode cX1_remembers 17 = .ok (.getfield 43, 3) := dk_180 0 43 (dk_at dksX1_remembers_0 17 rfl rfl)
theorem dX1_remembers_20 : decode cX1_remembers 20 = .ok (.iconst 1, 1) := dk_4 (dk_at dksX1_remembers_0 20 rfl rfl)
theorem dX1_remembers_21 : decode cX1_remembers 21 = .ok (.aload_n 0, 1) := dk_42 (dk_at dksX1_remembers_0 21 rfl rfl)
theorem dX1_remembers_22 : decode cX1_remembers 22 = .ok (.getfield 43, 3) := dk_180 0 43 (dk_at dksX1_remembers_1 0 rfl rfl)
theorem dX1_remembers_25 : decode cX1_remembers 25 = .ok (.iconst 0, 1) := dk_3 (dk_at dksX1_remembers_1 3 rfl rfl)
theorem dX1_remembers_26 : decode cX1_remembers 26 = .ok (.bipush 7, 2) := dk_16 7 (dk_at dksX1_remembers_1 4 rfl rfl)
theorem dX1_remembers_28 : decode cX1_remembers 28 = .ok (.invokestatic 186, 3) := dk_184 0 186 (dk_at dksX1_remembers_1 6 rfl rfl)
theorem dX1_remembers_31 : decode cX1_remembers 31 = .ok (.aload_n 0, 1) := dk_42 (dk_at dksX1_remembers_1 9 rfl rfl)
theorem dX1_remembers_32 : decode cX1_remembers 32 = .ok (.getfield 43, 3) := dk_180 0 43 (dk_at dksX1_remembers_1 10 rfl rfl)
theorem dX1_remembers_35 : decode cX1_remembers 35 = .ok (.bipush 7, 2) := dk_16 7 (dk_at dksX1_remembers_1 13 rfl rfl)
theorem dX1_remembers_37 : decode cX1_remembers 37 = .ok (.aload_n 1, 1) := dk_43 (dk_at dksX1_remembers_1 15 rfl rfl)
theorem dX1_remembers_38 : decode cX1_remembers 38 = .ok (.aastore, 1) := dk_83 (dk_at dksX1_remembers_1 16 rfl rfl)
theorem dX1_remembers_39 : decode cX1_remembers 39 = .ok (.aload_n 0, 1) := dk_42 (dk_at dksX1_remembers_1 17 rfl rfl)
theorem dX1_remembers_40 : decode cX1_remembers 40 = .ok (.dup, 1) := dk_89 (dk_at dksX1_remembers_1 18 rfl rfl)
theorem dX1_remembers_41 : decode cX1_remembers 41 = .ok (.getfield 173, 3) := dk_180 0 173 (dk_at dksX1_remembers_1 19 rfl rfl)
theorem dX1_remembers_44 : decode cX1_remembers 44 = .ok (.iconst 1, 1) := dk_4 (dk_at dksX1_remembers_1 22 rfl rfl)
theorem dX1_remembers_45 : decode cX1_remembers 45 = .ok (.isub, 1) := dk_100 (dk_at dksX1_remembers_1 23 rfl rfl)
theorem dX1_remembers_46 : decode cX1_remembers 46 = .ok (.putfield 173, 3) := dk_181 0 173 (dk_at dksX1_remembers_2 0 rfl rfl)
theorem dX1_remembers_49 : decode cX1_remembers 49 = .ok (.aload_n 0, 1) := dk_42 (dk_at dksX1_remembers_2 3 rfl rfl)
theorem dX1_remembers_50 : decode cX1_remembers 50 = .ok (.getfield 43, 3) := dk_180 0 43 (dk_at dksX1_remembers_2 4 rfl rfl)
theorem dX1_remembers_53 : decode cX1_remembers 53 = .ok (.aload_n 0, 1) := dk_42 (dk_at dksX1_remembers_2 7 rfl rfl)
theorem dX1_remembers_54 : decode cX1_remembers 54 = .ok (.getfield 173, 3) := dk_180 0 173 (dk_at dksX1_remembers_2 8 rfl rfl)
theorem dX1_remembers_57 : decode cX1_remembers 57 = .ok (.aaload, 1) := dk_50 (dk_at dksX1_remembers_2 11 rfl rfl)
theorem dX1_remembers_58 : decode cX1_remembers 58 = .ok (.aload_n 0, 1) := dk_42 (dk_at dksX1_remembers_2 12 rfl rfl)
theorem dX1_remembers_59 : decode cX1_remembers 59 = .ok (.getfield 40, 3) := dk_180 0 40 (dk_at dksX1_remembers_2 13 rfl rfl)
theorem dX1_remembers_62 : decode cX1_remembers 62 = .ok (.invokevirtual 170, 3) := dk_182 0 170 (dk_at dksX1_remembers_2 16 rfl rfl)
theorem dX1_remembers_65 : decode cX1_remembers 65 = .ok (.aload_n 0, 1) := dk_42 (dk_at dksX1_remembers_2 19 rfl rfl)
theorem dX1_remembers_66 : decode cX1_remembers 66 = .ok (.dup, 1) := dk_89 (dk_at dksX1_remembers_2 20 rfl rfl)
theorem dX1_remembers_67 : decode cX1_remembers 67 = .ok (.getfield 173, 3) := dk_180 0 173 (dk_at dksX1_remembers_2 21 rfl rfl)
theorem dX1_remembers_70 : decode cX1_remembers 70 = .ok (.iconst 1, 1) := dk_4 (dk_at dksX1_remembers_3 0 rfl rfl)
theorem dX1_remembers_71 : decode cX1_remembers 71 = .ok (.iadd, 1) := dk_96 (dk_at dksX1_remembers_3 1 rfl rfl)
theorem dX1_remembers_72 : decode cX1_remembers 72 = .ok (.putfield 173, 3) := dk_181 0 173 (dk_at dksX1_remembers_3 2 rfl rfl)
theorem dX1_remembers_75 : decode cX1_remembers 75 = .ok (.return_, 1) := dk_177 (dk_at dksX1_remembers_3 5 rfl rfl)
abbrev cX1_tells : ByteArray := prog_1_method_16_code
def yX1_tells : MethodName := ⟨RX1, "tells", "(LGateLifter$Tree;LGateLifter$Tree;)V"⟩
def dkwX1_tells_2 : List UInt8 := [177]
abbrev dktX1_tells_2 : List UInt8 := dkwX1_tells_2 ++ []
def dkwX1_tells_1 : List UInt8 := [2, 130, 126, 181, 0, 131, 42, 43, 44, 182, 0, 143, 181, 0, 134, 42, 43, 44, 182, 0, 147, 181, 0, 137]
abbrev dktX1_tells_1 : List UInt8 := dkwX1_tells_1 ++ dktX1_tells_2
def dkwX1_tells_0 : List UInt8 := [42, 43, 180, 0, 140, 44, 180, 0, 140, 2, 130, 126, 181, 0, 128, 42, 44, 180, 0, 140, 43, 180, 0, 140]
abbrev dktX1_tells_0 : List UInt8 := dkwX1_tells_0 ++ dktX1_tells_1
theorem dksX1_tells_0 : cX1_tells.data.toList.drop 0 = dktX1_tells_0 := by decide +kernel
theorem dksX1_tells_1 : cX1_tells.data.toList.drop 24 = dktX1_tells_1 := dk_seg dksX1_tells_0 24 rfl rfl
theorem dksX1_tells_2 : cX1_tells.data.toList.drop 48 = dktX1_tells_2 := dk_seg dksX1_tells_1 24 rfl rfl
theorem dX1_tells_0 : decode cX1_tells 0 = .ok (.aload_n 0, 1) := dk_42 (dk_at dksX1_tells_0 0 rfl rfl)
theorem dX1_tells_1 : decode cX1_tells 1 = .ok (.aload_n 1, 1) := dk_43 (dk_at dksX1_tells_0 1 rfl rfl)
theorem dX1_tells_2 : decode cX1_tells 2 = .ok (.getfield 140, 3) := dk_180 0 140 (dk_at dksX1_tells_0 2 rfl rfl)
theorem dX1_tells_5 : decode cX1_tells 5 = .ok (.aload_n 2, 1) := dk_44 (dk_at dksX1_tells_0 5 rfl rfl)
theorem dX1_tells_6 : decode cX1_tells 6 = .ok (.getfield 140, 3) := dk_180 0 140 (dk_at dksX1_tells_0 6 rfl rfl)
theorem dX1_tells_9 : decode cX1_tells 9 = .ok (.iconst (-1), 1) := dk_2 (dk_at dksX1_tells_0 9 rfl rfl)
theorem dX1_tells_10 : decode cX1_tells 10 = .ok (.ixor, 1) := dk_130 (dk_at dksX1_tells_0 10 rfl rfl)
theorem dX1_tells_11 : decode cX1_tells 11 = .ok (.iand, 1) := dk_126 (dk_at dksX1_tells_0 11 rfl rfl)
theorem dX1_tells_12 : decode cX1_tells 12 = .ok (.putfield 128, 3) := dk_181 0 128 (dk_at dksX1_tells_0 12 rfl rfl)
theorem dX1_tells_15 : decode cX1_tells 15 = .ok (.aload_n 0, 1) := dk_42 (dk_at dksX1_tells_0 15 rfl rfl)
theorem dX1_tells_16 : decode cX1_tells 16 = .ok (.aload_n 2, 1) := dk_44 (dk_at dksX1_tells_0 16 rfl rfl)
theorem dX1_tells_17 : decode cX1_tells 17 = .ok (.getfield 140, 3) := dk_180 0 140 (dk_at dksX1_tells_0 17 rfl rfl)
theorem dX1_tells_20 : decode cX1_tells 20 = .ok (.aload_n 1, 1) := dk_43 (dk_at dksX1_tells_0 20 rfl rfl)
theorem dX1_tells_21 : decode cX1_tells 21 = .ok (.getfield 140, 3) := dk_180 0 140 (dk_at dksX1_tells_0 21 rfl rfl)
theorem dX1_tells_24 : decode cX1_tells 24 = .ok (.iconst (-1), 1) := dk_2 (dk_at dksX1_tells_1 0 rfl rfl)
theorem dX1_tells_25 : decode cX1_tells 25 = .ok (.ixor, 1) := dk_130 (dk_at dksX1_tells_1 1 rfl rfl)
theorem dX1_tells_26 : decode cX1_tells 26 = .ok (.iand, 1) := dk_126 (dk_at dksX1_tells_1 2 rfl rfl)
theorem dX1_tells_27 : decode cX1_tells 27 = .ok (.putfield 131, 3) := dk_181 0 131 (dk_at dksX1_tells_1 3 rfl rfl)
theorem dX1_tells_30 : decode cX1_tells 30 = .ok (.aload_n 0, 1) := dk_42 (dk_at dksX1_tells_1 6 rfl rfl)
theorem dX1_tells_31 : decode cX1_tells 31 = .ok (.aload_n 1, 1) := dk_43 (dk_at dksX1_tells_1 7 rfl rfl)
theorem dX1_tells_32 : decode cX1_tells 32 = .ok (.aload_n 2, 1) := dk_44 (dk_at dksX1_tells_1 8 rfl rfl)
theorem dX1_tells_33 : decode cX1_tells 33 = .ok (.invokevirtual 143, 3) := dk_182 0 143 (dk_at dksX1_tells_1 9 rfl rfl)
theorem dX1_tells_36 : decode cX1_tells 36 = .ok (.putfield 134, 3) := dk_181 0 134 (dk_at dksX1_tells_1 12 rfl rfl)
theorem dX1_tells_39 : decode cX1_tells 39 = .ok (.aload_n 0, 1) := dk_42 (dk_at dksX1_tells_1 15 rfl rfl)
theorem dX1_tells_40 : decode cX1_tells 40 = .ok (.aload_n 1, 1) := dk_43 (dk_at dksX1_tells_1 16 rfl rfl)
theorem dX1_tells_41 : decode cX1_tells 41 = .ok (.aload_n 2, 1) := dk_44 (dk_at dksX1_tells_1 17 rfl rfl)
theorem dX1_tells_42 : decode cX1_tells 42 = .ok (.invokevirtual 147, 3) := dk_182 0 147 (dk_at dksX1_tells_1 18 rfl rfl)
theorem dX1_tells_45 : decode cX1_tells 45 = .ok (.putfield 137, 3) := dk_181 0 137 (dk_at dksX1_tells_1 21 rfl rfl)
theorem dX1_tells_48 : decode cX1_tells 48 = .ok (.return_, 1) := dk_177 (dk_at dksX1_tells_2 0 rfl rfl)
abbrev cX1_lay : ByteArray := prog_1_method_25_code
def yX1_lay : MethodName := ⟨RX1, "lay", "(II)I"⟩
def dkwX1_lay_1 : List UInt8 := [100, 182, 0, 224, 42, 180, 0, 33, 180, 0, 230, 4, 100, 172]
abbrev dktX1_lay_1 : List UInt8 := dkwX1_lay_1 ++ []
def dkwX1_lay_0 : List UInt8 := [42, 182, 0, 212, 42, 180, 0, 33, 27, 28, 182, 0, 227, 62, 42, 29, 42, 180, 0, 33, 180, 0, 230, 4]
abbrev dktX1_lay_0 : List UInt8 := dkwX1_lay_0 ++ dktX1_lay_1
theorem dksX1_lay_0 : cX1_lay.data.toList.drop 0 = dktX1_lay_0 := by decide +kernel
theorem dksX1_lay_1 : cX1_lay.data.toList.drop 24 = dktX1_lay_1 := dk_seg dksX1_lay_0 24 rfl rfl
theorem dX1_lay_0 : decode cX1_lay 0 = .ok (.aload_n 0, 1) := dk_42 (dk_at dksX1_lay_0 0 rfl rfl)
theorem dX1_lay_1 : decode cX1_lay 1 = .ok (.invokevirtual 212, 3) := dk_182 0 212 (dk_at dksX1_lay_0 1 rfl rfl)
theorem dX1_lay_4 : decode cX1_lay 4 = .ok (.aload_n 0, 1) := dk_42 (dk_at dksX1_lay_0 4 rfl rfl)
theorem dX1_lay_5 : decode cX1_lay 5 = .ok (.getfield 33, 3) := dk_180 0 33 (dk_at dksX1_lay_0 5 rfl rfl)
theorem dX1_lay_8 : decode cX1_lay 8 = .ok (.iload_n 1, 1) := dk_27 (dk_at dksX1_lay_0 8 rfl rfl)
theorem dX1_lay_9 : decode cX1_lay 9 = .ok (.iload_n 2, 1) := dk_28 (dk_at dksX1_lay_0 9 rfl rfl)
theorem dX1_lay_10 : decode cX1_lay 10 = .ok (.invokevirtual 227, 3) := dk_182 0 227 (dk_at dksX1_lay_0 10 rfl rfl)
theorem dX1_lay_13 : decode cX1_lay 13 = .ok (.istore_n 3, 1) := dk_62 (dk_at dksX1_lay_0 13 rfl rfl)
theorem dX1_lay_14 : decode cX1_lay 14 = .ok (.aload_n 0, 1) := dk_42 (dk_at dksX1_lay_0 14 rfl rfl)
theorem dX1_lay_15 : decode cX1_lay 15 = .ok (.iload_n 3, 1) := dk_29 (dk_at dksX1_lay_0 15 rfl rfl)
theorem dX1_lay_16 : decode cX1_lay 16 = .ok (.aload_n 0, 1) := dk_42 (dk_at dksX1_lay_0 16 rfl rfl)
theorem dX1_lay_17 : decode cX1_lay 17 = .ok (.getfield 33, 3) := dk_180 0 33 (dk_at dksX1_lay_0 17 rfl rfl)
theorem dX1_lay_20 : decode cX1_lay 20 = .ok (.getfield 230, 3) := dk_180 0 230 (dk_at dksX1_lay_0 20 rfl rfl)
theorem dX1_lay_23 : decode cX1_lay 23 = .ok (.iconst 1, 1) := dk_4 (dk_at dksX1_lay_0 23 rfl rfl)
theorem dX1_lay_24 : decode cX1_lay 24 = .ok (.isub, 1) := dk_100 (dk_at dksX1_lay_1 0 rfl rfl)
theorem dX1_lay_25 : decode cX1_lay 25 = .ok (.invokevirtual 224, 3) := dk_182 0 224 (dk_at dksX1_lay_1 1 rfl rfl)
theorem dX1_lay_28 : decode cX1_lay 28 = .ok (.aload_n 0, 1) := dk_42 (dk_at dksX1_lay_1 4 rfl rfl)
theorem dX1_lay_29 : decode cX1_lay 29 = .ok (.getfield 33, 3) := dk_180 0 33 (dk_at dksX1_lay_1 5 rfl rfl)
theorem dX1_lay_32 : decode cX1_lay 32 = .ok (.getfield 230, 3) := dk_180 0 230 (dk_at dksX1_lay_1 8 rfl rfl)
theorem dX1_lay_35 : decode cX1_lay 35 = .ok (.iconst 1, 1) := dk_4 (dk_at dksX1_lay_1 11 rfl rfl)
theorem dX1_lay_36 : decode cX1_lay 36 = .ok (.isub, 1) := dk_100 (dk_at dksX1_lay_1 12 rfl rfl)
theorem dX1_lay_37 : decode cX1_lay 37 = .ok (.ireturn, 1) := dk_172 (dk_at dksX1_lay_1 13 rfl rfl)
abbrev cX1_shut : ByteArray := prog_1_method_26_code
def yX1_shut : MethodName := ⟨RX1, "shut", "(I)I"⟩
def dkwX1_shut_1 : List UInt8 := [184, 0, 236, 172]
abbrev dktX1_shut_1 : List UInt8 := dkwX1_shut_1 ++ []
def dkwX1_shut_0 : List UInt8 := [42, 182, 0, 212, 42, 42, 180, 0, 33, 27, 3, 182, 0, 233, 2, 182, 0, 224, 42, 180, 0, 131]
abbrev dktX1_shut_0 : List UInt8 := dkwX1_shut_0 ++ dktX1_shut_1
theorem dksX1_shut_0 : cX1_shut.data.toList.drop 0 = dktX1_shut_0 := by decide +kernel
theorem dksX1_shut_1 : cX1_shut.data.toList.drop 22 = dktX1_shut_1 := dk_seg dksX1_shut_0 22 rfl rfl
theorem dX1_shut_0 : decode cX1_shut 0 = .ok (.aload_n 0, 1) := dk_42 (dk_at dksX1_shut_0 0 rfl rfl)
theorem dX1_shut_1 : decode cX1_shut 1 = .ok (.invokevirtual 212, 3) := dk_182 0 212 (dk_at dksX1_shut_0 1 rfl rfl)
theorem dX1_shut_4 : decode cX1_shut 4 = .ok (.aload_n 0, 1) := dk_42 (dk_at dksX1_shut_0 4 rfl rfl)
theorem dX1_shut_5 : decode cX1_shut 5 = .ok (.aload_n 0, 1) := dk_42 (dk_at dksX1_shut_0 5 rfl rfl)
theorem dX1_shut_6 : decode cX1_shut 6 = .ok (.getfield 33, 3) := dk_180 0 33 (dk_at dksX1_shut_0 6 rfl rfl)
theorem dX1_shut_9 : decode cX1_shut 9 = .ok (.iload_n 1, 1) := dk_27 (dk_at dksX1_shut_0 9 rfl rfl)
theorem dX1_shut_10 : decode cX1_shut 10 = .ok (.iconst 0, 1) := dk_3 (dk_at dksX1_shut_0 10 rfl rfl)
theorem dX1_shut_11 : decode cX1_shut 11 = .ok (.invokevirtual 233, 3) := dk_182 0 233 (dk_at dksX1_shut_0 11 rfl rfl)
theorem dX1_shut_14 : decode cX1_shut 14 = .ok (.iconst (-1), 1) := dk_2 (dk_at dksX1_shut_0 14 rfl rfl)
theorem dX1_shut_15 : decode cX1_shut 15 = .ok (.invokevirtual 224, 3) := dk_182 0 224 (dk_at dksX1_shut_0 15 rfl rfl)
theorem dX1_shut_18 : decode cX1_shut 18 = .ok (.aload_n 0, 1) := dk_42 (dk_at dksX1_shut_0 18 rfl rfl)
theorem dX1_shut_19 : decode cX1_shut 19 = .ok (.getfield 131, 3) := dk_180 0 131 (dk_at dksX1_shut_0 19 rfl rfl)
theorem dX1_shut_22 : decode cX1_shut 22 = .ok (.invokestatic 236, 3) := dk_184 0 236 (dk_at dksX1_shut_1 0 rfl rfl)
theorem dX1_shut_25 : decode cX1_shut 25 = .ok (.ireturn, 1) := dk_172 (dk_at dksX1_shut_1 3 rfl rfl)
abbrev cX1_open : ByteArray := prog_1_method_27_code
def yX1_open : MethodName := ⟨RX1, "open", "(I)I"⟩
def dkwX1_open_1 : List UInt8 := [184, 0, 236, 172]
abbrev dktX1_open_1 : List UInt8 := dkwX1_open_1 ++ []
def dkwX1_open_0 : List UInt8 := [42, 182, 0, 212, 42, 42, 180, 0, 33, 27, 4, 182, 0, 233, 27, 182, 0, 224, 42, 180, 0, 128]
abbrev dktX1_open_0 : List UInt8 := dkwX1_open_0 ++ dktX1_open_1
theorem dksX1_open_0 : cX1_open.data.toList.drop 0 = dktX1_open_0 := by decide +kernel
theorem dksX1_open_1 : cX1_open.data.toList.drop 22 = dktX1_open_1 := dk_seg dksX1_open_0 22 rfl rfl
theorem dX1_open_0 : decode cX1_open 0 = .ok (.aload_n 0, 1) := dk_42 (dk_at dksX1_open_0 0 rfl rfl)
theorem dX1_open_1 : decode cX1_open 1 = .ok (.invokevirtual 212, 3) := dk_182 0 212 (dk_at dksX1_open_0 1 rfl rfl)
theorem dX1_open_4 : decode cX1_open 4 = .ok (.aload_n 0, 1) := dk_42 (dk_at dksX1_open_0 4 rfl rfl)
theorem dX1_open_5 : decode cX1_open 5 = .ok (.aload_n 0, 1) := dk_42 (dk_at dksX1_open_0 5 rfl rfl)
theorem dX1_open_6 : decode cX1_open 6 = .ok (.getfield 33, 3) := dk_180 0 33 (dk_at dksX1_open_0 6 rfl rfl)
theorem dX1_open_9 : decode cX1_open 9 = .ok (.iload_n 1, 1) := dk_27 (dk_at dksX1_open_0 9 rfl rfl)
theorem dX1_open_10 : decode cX1_open 10 = .ok (.iconst 1, 1) := dk_4 (dk_at dksX1_open_0 10 rfl rfl)
theorem dX1_open_11 : decode cX1_open 11 = .ok (.invokevirtual 233, 3) := dk_182 0 233 (dk_at dksX1_open_0 11 rfl rfl)
theorem dX1_open_14 : decode cX1_open 14 = .ok (.iload_n 1, 1) := dk_27 (dk_at dksX1_open_0 14 rfl rfl)
theorem dX1_open_15 : decode cX1_open 15 = .ok (.invokevirtual 224, 3) := dk_182 0 224 (dk_at dksX1_open_0 15 rfl rfl)
theorem dX1_open_18 : decode cX1_open 18 = .ok (.aload_n 0, 1) := dk_42 (dk_at dksX1_open_0 18 rfl rfl)
theorem dX1_open_19 : decode cX1_open 19 = .ok (.getfield 128, 3) := dk_180 0 128 (dk_at dksX1_open_0 19 rfl rfl)
theorem dX1_open_22 : decode cX1_open 22 = .ok (.invokestatic 236, 3) := dk_184 0 236 (dk_at dksX1_open_1 0 rfl rfl)
theorem dX1_open_25 : decode cX1_open 25 = .ok (.ireturn, 1) := dk_172 (dk_at dksX1_open_1 3 rfl rfl)
abbrev cX1_toll : ByteArray := prog_1_method_28_code
def yX1_toll : MethodName := ⟨RX1, "toll", "(II)I"⟩
def dkwX1_toll_2 : List UInt8 := [182, 0, 248, 2, 182, 0, 224, 29, 172]
abbrev dktX1_toll_2 : List UInt8 := dkwX1_toll_2 ++ []
def dkwX1_toll_1 : List UInt8 := [153, 0, 15, 42, 180, 0, 33, 180, 0, 245, 27, 46, 167, 0, 4, 3, 62, 42, 42, 180, 0, 33, 27, 28]
abbrev dktX1_toll_1 : List UInt8 := dkwX1_toll_1 ++ dktX1_toll_2
def dkwX1_toll_0 : List UInt8 := [28, 3, 16, 99, 184, 0, 119, 184, 0, 179, 42, 182, 0, 212, 42, 180, 0, 33, 27, 182, 0, 241]
abbrev dktX1_toll_0 : List UInt8 := dkwX1_toll_0 ++ dktX1_toll_1
theorem dksX1_toll_0 : cX1_toll.data.toList.drop 0 = dktX1_toll_0 := by decide +kernel
theorem dksX1_toll_1 : cX1_toll.data.toList.drop 22 = dktX1_toll_1 := dk_seg dksX1_toll_0 22 rfl rfl
theorem dksX1_toll_2 : cX1_toll.data.toList.drop 46 = dktX1_toll_2 := dk_seg dksX1_toll_1 24 rfl rfl
theorem dX1_toll_0 : decode cX1_toll 0 = .ok (.iload_n 2, 1) := dk_28 (dk_at dksX1_toll_0 0 rfl rfl)
theorem dX1_toll_1 : decode cX1_toll 1 = .ok (.iconst 0, 1) := dk_3 (dk_at dksX1_toll_0 1 rfl rfl)
theorem dX1_toll_2 : decode cX1_toll 2 = .ok (.bipush 99, 2) := dk_16 99 (dk_at dksX1_toll_0 2 rfl rfl)
theorem dX1_toll_4 : decode cX1_toll 4 = .ok (.invokestatic 119, 3) := dk_184 0 119 (dk_at dksX1_toll_0 4 rfl rfl)
theorem dX1_toll_7 : decode cX1_toll 7 = .ok (.invokestatic 179, 3) := dk_184 0 179 (dk_at dksX1_toll_0 7 rfl rfl)
theorem dX1_toll_10 : decode cX1_toll 10 = .ok (.aload_n 0, 1) := dk_42 (dk_at dksX1_toll_0 10 rfl rfl)
theorem dX1_toll_11 : decode cX1_toll 11 = .ok (.invokevirtual 212, 3) := dk_182 0 212 (dk_at dksX1_toll_0 11 rfl rfl)
theorem dX1_toll_14 : decode cX1_toll 14 = .ok (.aload_n 0, 1) := dk_42 (dk_at dksX1_toll_0 14 rfl rfl)
theorem dX1_toll_15 : decode cX1_toll 15 = .ok (.getfield 33, 3) := dk_180 0 33 (dk_at dksX1_toll_0 15 rfl rfl)
theorem dX1_toll_18 : decode cX1_toll 18 = .ok (.iload_n 1, 1) := dk_27 (dk_at dksX1_toll_0 18 rfl rfl)
theorem dX1_toll_19 : decode cX1_toll 19 = .ok (.invokevirtual 241, 3) := dk_182 0 241 (dk_at dksX1_toll_0 19 rfl rfl)
theorem dX1_toll_22 : decode cX1_toll 22 = .ok (.ifCond .eq 15, 3) := dk_153 0 15 (dk_at dksX1_toll_1 0 rfl rfl)
theorem dX1_toll_25 : decode cX1_toll 25 = .ok (.aload_n 0, 1) := dk_42 (dk_at dksX1_toll_1 3 rfl rfl)
theorem dX1_toll_26 : decode cX1_toll 26 = .ok (.getfield 33, 3) := dk_180 0 33 (dk_at dksX1_toll_1 4 rfl rfl)
theorem dX1_toll_29 : decode cX1_toll 29 = .ok (.getfield 245, 3) := dk_180 0 245 (dk_at dksX1_toll_1 7 rfl rfl)
theorem dX1_toll_32 : decode cX1_toll 32 = .ok (.iload_n 1, 1) := dk_27 (dk_at dksX1_toll_1 10 rfl rfl)
theorem dX1_toll_33 : decode cX1_toll 33 = .ok (.iaload, 1) := dk_46 (dk_at dksX1_toll_1 11 rfl rfl)
theorem dX1_toll_34 : decode cX1_toll 34 = .ok (.goto 4, 3) := dk_167 0 4 (dk_at dksX1_toll_1 12 rfl rfl)
theorem dX1_toll_37 : decode cX1_toll 37 = .ok (.iconst 0, 1) := dk_3 (dk_at dksX1_toll_1 15 rfl rfl)
theorem dX1_toll_38 : decode cX1_toll 38 = .ok (.istore_n 3, 1) := dk_62 (dk_at dksX1_toll_1 16 rfl rfl)
theorem dX1_toll_39 : decode cX1_toll 39 = .ok (.aload_n 0, 1) := dk_42 (dk_at dksX1_toll_1 17 rfl rfl)
theorem dX1_toll_40 : decode cX1_toll 40 = .ok (.aload_n 0, 1) := dk_42 (dk_at dksX1_toll_1 18 rfl rfl)
theorem dX1_toll_41 : decode cX1_toll 41 = .ok (.getfield 33, 3) := dk_180 0 33 (dk_at dksX1_toll_1 19 rfl rfl)
theorem dX1_toll_44 : decode cX1_toll 44 = .ok (.iload_n 1, 1) := dk_27 (dk_at dksX1_toll_1 22 rfl rfl)
theorem dX1_toll_45 : decode cX1_toll 45 = .ok (.iload_n 2, 1) := dk_28 (dk_at dksX1_toll_1 23 rfl rfl)
theorem dX1_toll_46 : decode cX1_toll 46 = .ok (.invokevirtual 248, 3) := dk_182 0 248 (dk_at dksX1_toll_2 0 rfl rfl)
theorem dX1_toll_49 : decode cX1_toll 49 = .ok (.iconst (-1), 1) := dk_2 (dk_at dksX1_toll_2 3 rfl rfl)
theorem dX1_toll_50 : decode cX1_toll 50 = .ok (.invokevirtual 224, 3) := dk_182 0 224 (dk_at dksX1_toll_2 4 rfl rfl)
theorem dX1_toll_53 : decode cX1_toll 53 = .ok (.iload_n 3, 1) := dk_29 (dk_at dksX1_toll_2 7 rfl rfl)
theorem dX1_toll_54 : decode cX1_toll 54 = .ok (.ireturn, 1) := dk_172 (dk_at dksX1_toll_2 8 rfl rfl)
abbrev cX1_undo : ByteArray := prog_1_method_29_code
def yX1_undo : MethodName := ⟨RX1, "undo", "()I"⟩
def dkwX1_undo_2 : List UInt8 := [180, 0, 33, 182, 0, 89, 42, 182, 0, 176, 42, 180, 0, 173, 172]
abbrev dktX1_undo_2 : List UInt8 := dkwX1_undo_2 ++ []
def dkwX1_undo_1 : List UInt8 := [181, 0, 173, 42, 180, 0, 33, 42, 180, 0, 43, 42, 180, 0, 173, 50, 182, 0, 170, 42, 180, 0, 50, 42]
abbrev dktX1_undo_1 : List UInt8 := dkwX1_undo_1 ++ dktX1_undo_2
def dkwX1_undo_0 : List UInt8 := [42, 180, 0, 173, 158, 0, 7, 4, 167, 0, 4, 3, 184, 0, 192, 42, 89, 180, 0, 173, 4, 100]
abbrev dktX1_undo_0 : List UInt8 := dkwX1_undo_0 ++ dktX1_undo_1
theorem dksX1_undo_0 : cX1_undo.data.toList.drop 0 = dktX1_undo_0 := by decide +kernel
theorem dksX1_undo_1 : cX1_undo.data.toList.drop 22 = dktX1_undo_1 := dk_seg dksX1_undo_0 22 rfl rfl
theorem dksX1_undo_2 : cX1_undo.data.toList.drop 46 = dktX1_undo_2 := dk_seg dksX1_undo_1 24 rfl rfl
theorem dX1_undo_0 : decode cX1_undo 0 = .ok (.aload_n 0, 1) := dk_42 (dk_at dksX1_undo_0 0 rfl rfl)
theorem dX1_undo_1 : decode cX1_undo 1 = .ok (.getfield 173, 3) := dk_180 0 173 (dk_at dksX1_undo_0 1 rfl rfl)
theorem dX1_undo_4 : decode cX1_undo 4 = .ok (.ifCond .le 7, 3) := dk_158 0 7 (dk_at dksX1_undo_0 4 rfl rfl)
theorem dX1_undo_7 : decode cX1_undo 7 = .ok (.iconst 1, 1) := dk_4 (dk_at dksX1_undo_0 7 rfl rfl)
theorem dX1_undo_8 : decode cX1_undo 8 = .ok (.goto 4, 3) := dk_167 0 4 (dk_at dksX1_undo_0 8 rfl rfl)
theorem dX1_undo_11 : decode cX1_undo 11 = .ok (.iconst 0, 1) := dk_3 (dk_at dksX1_undo_0 11 rfl rfl)
theorem dX1_undo_12 : decode cX1_undo 12 = .ok (.invokestatic 192, 3) := dk_184 0 192 (dk_at dksX1_undo_0 12 rfl rfl)
theorem dX1_undo_15 : decode cX1_undo 15 = .ok (.aload_n 0, 1) := dk_42 (dk_at dksX1_undo_0 15 rfl rfl)
theorem dX1_undo_16 : decode cX1_undo 16 = .ok (.dup, 1) := dk_89 (dk_at dksX1_undo_0 16 rfl rfl)
theorem dX1_undo_17 : decode cX1_undo 17 = .ok (.getfield 173, 3) := dk_180 0 173 (dk_at dksX1_undo_0 17 rfl rfl)
theorem dX1_undo_20 : decode cX1_undo 20 = .ok (.iconst 1, 1) := dk_4 (dk_at dksX1_undo_0 20 rfl rfl)
theorem dX1_undo_21 : decode cX1_undo 21 = .ok (.isub, 1) := dk_100 (dk_at dksX1_undo_0 21 rfl rfl)
theorem dX1_undo_22 : decode cX1_undo 22 = .ok (.putfield 173, 3) := dk_181 0 173 (dk_at dksX1_undo_1 0 rfl rfl)
theorem dX1_undo_25 : decode cX1_undo 25 = .ok (.aload_n 0, 1) := dk_42 (dk_at dksX1_undo_1 3 rfl rfl)
theorem dX1_undo_26 : decode cX1_undo 26 = .ok (.getfield 33, 3) := dk_180 0 33 (dk_at dksX1_undo_1 4 rfl rfl)
theorem dX1_undo_29 : decode cX1_undo 29 = .ok (.aload_n 0, 1) := dk_42 (dk_at dksX1_undo_1 7 rfl rfl)
theorem dX1_undo_30 : decode cX1_undo 30 = .ok (.getfield 43, 3) := dk_180 0 43 (dk_at dksX1_undo_1 8 rfl rfl)
theorem dX1_undo_33 : decode cX1_undo 33 = .ok (.aload_n 0, 1) := dk_42 (dk_at dksX1_undo_1 11 rfl rfl)
theorem dX1_undo_34 : decode cX1_undo 34 = .ok (.getfield 173, 3) := dk_180 0 173 (dk_at dksX1_undo_1 12 rfl rfl)
theorem dX1_undo_37 : decode cX1_undo 37 = .ok (.aaload, 1) := dk_50 (dk_at dksX1_undo_1 15 rfl rfl)
theorem dX1_undo_38 : decode cX1_undo 38 = .ok (.invokevirtual 170, 3) := dk_182 0 170 (dk_at dksX1_undo_1 16 rfl rfl)
theorem dX1_undo_41 : decode cX1_undo 41 = .ok (.aload_n 0, 1) := dk_42 (dk_at dksX1_undo_1 19 rfl rfl)
theorem dX1_undo_42 : decode cX1_undo 42 = .ok (.getfield 50, 3) := dk_180 0 50 (dk_at dksX1_undo_1 20 rfl rfl)
theorem dX1_undo_45 : decode cX1_undo 45 = .ok (.aload_n 0, 1) := dk_42 (dk_at dksX1_undo_1 23 rfl rfl)
theorem dX1_undo_46 : decode cX1_undo 46 = .ok (.getfield 33, 3) := dk_180 0 33 (dk_at dksX1_undo_2 0 rfl rfl)
theorem dX1_undo_49 : decode cX1_undo 49 = .ok (.invokevirtual 89, 3) := dk_182 0 89 (dk_at dksX1_undo_2 3 rfl rfl)
theorem dX1_undo_52 : decode cX1_undo 52 = .ok (.aload_n 0, 1) := dk_42 (dk_at dksX1_undo_2 6 rfl rfl)
theorem dX1_undo_53 : decode cX1_undo 53 = .ok (.invokevirtual 176, 3) := dk_182 0 176 (dk_at dksX1_undo_2 7 rfl rfl)
theorem dX1_undo_56 : decode cX1_undo 56 = .ok (.aload_n 0, 1) := dk_42 (dk_at dksX1_undo_2 10 rfl rfl)
theorem dX1_undo_57 : decode cX1_undo 57 = .ok (.getfield 173, 3) := dk_180 0 173 (dk_at dksX1_undo_2 11 rfl rfl)
theorem dX1_undo_60 : decode cX1_undo 60 = .ok (.ireturn, 1) := dk_172 (dk_at dksX1_undo_2 14 rfl rfl)
abbrev cX1_latest : ByteArray := prog_1_method_30_code
def yX1_latest : MethodName := ⟨RX1, "latest", "(I)I"⟩
def dkwX1_latest_3 : List UInt8 := [180, 0, 137, 172]
abbrev dktX1_latest_3 : List UInt8 := dkwX1_latest_3 ++ []
def dkwX1_latest_2 : List UInt8 := [42, 180, 0, 128, 167, 0, 21, 42, 180, 0, 131, 167, 0, 14, 42, 180, 0, 134, 167, 0, 7, 42]
abbrev dktX1_latest_2 : List UInt8 := dkwX1_latest_2 ++ dktX1_latest_3
def dkwX1_latest_1 : List UInt8 := [170, 0, 0, 0, 0, 47, 0, 0, 0, 0, 0, 0, 0, 2, 0, 0, 0, 26, 0, 0, 0, 33, 0, 0, 0, 40]
abbrev dktX1_latest_1 : List UInt8 := dkwX1_latest_1 ++ dktX1_latest_2
def dkwX1_latest_0 : List UInt8 := [27, 3, 6, 184, 0, 119, 184, 0, 251, 27]
abbrev dktX1_latest_0 : List UInt8 := dkwX1_latest_0 ++ dktX1_latest_1
theorem dksX1_latest_0 : cX1_latest.data.toList.drop 0 = dktX1_latest_0 := by decide +kernel
theorem dksX1_latest_1 : cX1_latest.data.toList.drop 10 = dktX1_latest_1 := dk_seg dksX1_latest_0 10 rfl rfl
theorem dksX1_latest_2 : cX1_latest.data.toList.drop 36 = dktX1_latest_2 := dk_seg dksX1_latest_1 26 rfl rfl
theorem dksX1_latest_3 : cX1_latest.data.toList.drop 58 = dktX1_latest_3 := dk_seg dksX1_latest_2 22 rfl rfl
theorem dX1_latest_0 : decode cX1_latest 0 = .ok (.iload_n 1, 1) := dk_27 (dk_at dksX1_latest_0 0 rfl rfl)
theorem dX1_latest_1 : decode cX1_latest 1 = .ok (.iconst 0, 1) := dk_3 (dk_at dksX1_latest_0 1 rfl rfl)
theorem dX1_latest_2 : decode cX1_latest 2 = .ok (.iconst 3, 1) := dk_6 (dk_at dksX1_latest_0 2 rfl rfl)
theorem dX1_latest_3 : decode cX1_latest 3 = .ok (.invokestatic 119, 3) := dk_184 0 119 (dk_at dksX1_latest_0 3 rfl rfl)
theorem dX1_latest_6 : decode cX1_latest 6 = .ok (.invokestatic 251, 3) := dk_184 0 251 (dk_at dksX1_latest_0 6 rfl rfl)
theorem dX1_latest_9 : decode cX1_latest 9 = .ok (.iload_n 1, 1) := dk_27 (dk_at dksX1_latest_0 9 rfl rfl)
theorem dX1_latest_10 : decode cX1_latest 10 = .ok (.tableswitch 47 0 2 #[26, 33, 40], 26) := by decide +kernel
theorem dX1_latest_36 : decode cX1_latest 36 = .ok (.aload_n 0, 1) := dk_42 (dk_at dksX1_latest_2 0 rfl rfl)
theorem dX1_latest_37 : decode cX1_latest 37 = .ok (.getfield 128, 3) := dk_180 0 128 (dk_at dksX1_latest_2 1 rfl rfl)
theorem dX1_latest_40 : decode cX1_latest 40 = .ok (.goto 21, 3) := dk_167 0 21 (dk_at dksX1_latest_2 4 rfl rfl)
theorem dX1_latest_43 : decode cX1_latest 43 = .ok (.aload_n 0, 1) := dk_42 (dk_at dksX1_latest_2 7 rfl rfl)
theorem dX1_latest_44 : decode cX1_latest 44 = .ok (.getfield 131, 3) := dk_180 0 131 (dk_at dksX1_latest_2 8 rfl rfl)
theorem dX1_latest_47 : decode cX1_latest 47 = .ok (.goto 14, 3) := dk_167 0 14 (dk_at dksX1_latest_2 11 rfl rfl)
theorem dX1_latest_50 : decode cX1_latest 50 = .ok (.aload_n 0, 1) := dk_42 (dk_at dksX1_latest_2 14 rfl rfl)
theorem dX1_latest_51 : decode cX1_latest 51 = .ok (.getfield 134, 3) := dk_180 0 134 (dk_at dksX1_latest_2 15 rfl rfl)
theorem dX1_latest_54 : decode cX1_latest 54 = .ok (.goto 7, 3) := dk_167 0 7 (dk_at dksX1_latest_2 18 rfl rfl)
theorem dX1_latest_57 : decode cX1_latest 57 = .ok (.aload_n 0, 1) := dk_42 (dk_at dksX1_latest_2 21 rfl rfl)
theorem dX1_latest_58 : decode cX1_latest 58 = .ok (.getfield 137, 3) := dk_180 0 137 (dk_at dksX1_latest_3 0 rfl rfl)
theorem dX1_latest_61 : decode cX1_latest 61 = .ok (.ireturn, 1) := dk_172 (dk_at dksX1_latest_3 3 rfl rfl)
abbrev cX1_thereIs : ByteArray := prog_1_method_7_code
def yX1_thereIs : MethodName := ⟨RX1, "thereIs", "(Z)V"⟩
def dkwX1_thereIs_0 : List UInt8 := [26, 154, 0, 11, 187, 0, 102, 89, 183, 0, 104, 191, 177]
abbrev dktX1_thereIs_0 : List UInt8 := dkwX1_thereIs_0 ++ []
theorem dksX1_thereIs_0 : cX1_thereIs.data.toList.drop 0 = dktX1_thereIs_0 := by decide +kernel
theorem dX1_thereIs_0 : decode cX1_thereIs 0 = .ok (.iload_n 0, 1) := dk_26 (dk_at dksX1_thereIs_0 0 rfl rfl)
theorem dX1_thereIs_1 : decode cX1_thereIs 1 = .ok (.ifCond .ne 11, 3) := dk_154 0 11 (dk_at dksX1_thereIs_0 1 rfl rfl)
theorem dX1_thereIs_4 : decode cX1_thereIs 4 = .ok (.new 102, 3) := dk_187 0 102 (dk_at dksX1_thereIs_0 4 rfl rfl)
theorem dX1_thereIs_7 : decode cX1_thereIs 7 = .ok (.dup, 1) := dk_89 (dk_at dksX1_thereIs_0 7 rfl rfl)
theorem dX1_thereIs_8 : decode cX1_thereIs 8 = .ok (.invokespecial 104, 3) := dk_183 0 104 (dk_at dksX1_thereIs_0 8 rfl rfl)
theorem dX1_thereIs_11 : decode cX1_thereIs 11 = .ok (.athrow, 1) := dk_191 (dk_at dksX1_thereIs_0 11 rfl rfl)
theorem dX1_thereIs_12 : decode cX1_thereIs 12 = .ok (.return_, 1) := dk_177 (dk_at dksX1_thereIs_0 12 rfl rfl)
abbrev cX1_node : ByteArray := prog_1_method_45_code
def yX1_node : MethodName := ⟨RX1, "node", "(II)I"⟩
def dkwX1_node_12 : List UInt8 := [42, 27, 182, 1, 109, 167, 0, 16, 29, 153, 0, 11, 42, 27, 182, 1, 112, 167, 0, 4, 3, 172]
abbrev dktX1_node_12 : List UInt8 := dkwX1_node_12 ++ []
def dkwX1_node_11 : List UInt8 := [153, 0, 11, 42, 27, 182, 1, 103, 167, 0, 37, 3, 167, 0, 33, 42, 27, 3, 182, 1, 106, 167, 0, 24]
abbrev dktX1_node_11 : List UInt8 := dkwX1_node_11 ++ dktX1_node_12
def dkwX1_node_10 : List UInt8 := [167, 0, 69, 2, 167, 0, 65, 42, 27, 182, 1, 97, 167, 0, 57, 42, 27, 182, 1, 100, 167, 0, 49, 29]
abbrev dktX1_node_10 : List UInt8 := dkwX1_node_10 ++ dktX1_node_11
def dkwX1_node_9 : List UInt8 := [167, 0, 93, 42, 180, 0, 33, 180, 0, 245, 27, 46, 167, 0, 81, 29, 153, 0, 11, 42, 27, 182, 1, 94]
abbrev dktX1_node_9 : List UInt8 := dkwX1_node_9 ++ dktX1_node_10
def dkwX1_node_8 : List UInt8 := [167, 0, 117, 42, 27, 182, 1, 44, 167, 0, 109, 42, 27, 182, 1, 88, 167, 0, 101, 42, 27, 182, 1, 91]
abbrev dktX1_node_8 : List UInt8 := dkwX1_node_8 ++ dktX1_node_9
def dkwX1_node_7 : List UInt8 := [167, 0, 141, 42, 27, 182, 1, 79, 167, 0, 133, 42, 27, 182, 1, 82, 167, 0, 125, 42, 27, 182, 1, 85]
abbrev dktX1_node_7 : List UInt8 := dkwX1_node_7 ++ dktX1_node_8
def dkwX1_node_6 : List UInt8 := [186, 1, 72, 0, 0, 182, 1, 11, 167, 0, 157, 42, 27, 182, 1, 73, 167, 0, 149, 42, 27, 182, 1, 76]
abbrev dktX1_node_6 : List UInt8 := dkwX1_node_6 ++ dktX1_node_7
def dkwX1_node_5 : List UInt8 := [2, 167, 0, 187, 42, 27, 182, 1, 69, 167, 0, 179, 42, 27, 182, 1, 16, 167, 0, 171, 42, 42, 27]
abbrev dktX1_node_5 : List UInt8 := dkwX1_node_5 ++ dktX1_node_6
def dkwX1_node_4 : List UInt8 := [46, 167, 0, 211, 2, 167, 0, 207, 29, 153, 0, 15, 42, 180, 0, 50, 180, 1, 66, 27, 46, 167, 0, 191]
abbrev dktX1_node_4 : List UInt8 := dkwX1_node_4 ++ dktX1_node_5
def dkwX1_node_3 : List UInt8 := [29, 153, 0, 7, 4, 167, 0, 231, 3, 167, 0, 227, 29, 153, 0, 15, 42, 180, 0, 50, 180, 1, 63, 27]
abbrev dktX1_node_3 : List UInt8 := dkwX1_node_3 ++ dktX1_node_4
def dkwX1_node_2 : List UInt8 := [170, 0, 0, 0, 0, 0, 1, 67, 0, 0, 0, 0, 0, 0, 0, 20, 0, 0, 0, 100, 0, 0, 0, 112, 0, 0, 0, 132, 0, 0, 0, 152, 0, 0, 0, 160, 0, 0, 0, 168, 0, 0, 0, 182, 0, 0, 0, 190, 0, 0, 0, 198, 0, 0, 0, 206, 0, 0, 0, 214, 0, 0, 0, 222, 0, 0, 0, 230, 0, 0, 0, 238, 0, 0, 0, 246, 0, 0, 1, 2, 0, 0, 1, 18, 0, 0, 1, 26, 0, 0, 1, 34, 0, 0, 1, 50, 0, 0, 1, 59]
abbrev dktX1_node_2 : List UInt8 := dkwX1_node_2 ++ dktX1_node_3
def dkwX1_node_1 : List UInt8 := [184, 0, 7, 62, 28]
abbrev dktX1_node_1 : List UInt8 := dkwX1_node_1 ++ dktX1_node_2
def dkwX1_node_0 : List UInt8 := [42, 27, 182, 1, 61, 28, 3, 16, 21, 184, 0, 119, 184, 0, 251, 42, 180, 0, 50, 180, 0, 140, 27]
abbrev dktX1_node_0 : List UInt8 := dkwX1_node_0 ++ dktX1_node_1
theorem dksX1_node_0 : cX1_node.data.toList.drop 0 = dktX1_node_0 := by decide +kernel
theorem dksX1_node_1 : cX1_node.data.toList.drop 23 = dktX1_node_1 := dk_seg dksX1_node_0 23 rfl rfl
theorem dksX1_node_2 : cX1_node.data.toList.drop 28 = dktX1_node_2 := dk_seg dksX1_node_1 5 rfl rfl
theorem dksX1_node_3 : cX1_node.data.toList.drop 128 = dktX1_node_3 := dk_seg dksX1_node_2 100 rfl rfl
theorem dksX1_node_4 : cX1_node.data.toList.drop 152 = dktX1_node_4 := dk_seg dksX1_node_3 24 rfl rfl
theorem dksX1_node_5 : cX1_node.data.toList.drop 176 = dktX1_node_5 := dk_seg dksX1_node_4 24 rfl rfl
theorem dksX1_node_6 : cX1_node.data.toList.drop 199 = dktX1_node_6 := dk_seg dksX1_node_5 23 rfl rfl
theorem dksX1_node_7 : cX1_node.data.toList.drop 223 = dktX1_node_7 := dk_seg dksX1_node_6 24 rfl rfl
theorem dksX1_node_8 : cX1_node.data.toList.drop 247 = dktX1_node_8 := dk_seg dksX1_node_7 24 rfl rfl
theorem dksX1_node_9 : cX1_node.data.toList.drop 271 = dktX1_node_9 := dk_seg dksX1_node_8 24 rfl rfl
theorem dksX1_node_10 : cX1_node.data.toList.drop 295 = dktX1_node_10 := dk_seg dksX1_node_9 24 rfl rfl
theorem dksX1_node_11 : cX1_node.data.toList.drop 319 = dktX1_node_11 := dk_seg dksX1_node_10 24 rfl rfl
theorem dksX1_node_12 : cX1_node.data.toList.drop 343 = dktX1_node_12 := dk_seg dksX1_node_11 24 rfl rfl
theorem dX1_node_0 : decode cX1_node 0 = .ok (.aload_n 0, 1) := dk_42 (dk_at dksX1_node_0 0 rfl rfl)
theorem dX1_node_1 : decode cX1_node 1 = .ok (.iload_n 1, 1) := dk_27 (dk_at dksX1_node_0 1 rfl rfl)
theorem dX1_node_2 : decode cX1_node 2 = .ok (.invokevirtual 317, 3) := dk_182 1 61 (dk_at dksX1_node_0 2 rfl rfl)
theorem dX1_node_5 : decode cX1_node 5 = .ok (.iload_n 2, 1) := dk_28 (dk_at dksX1_node_0 5 rfl rfl)
theorem dX1_node_6 : decode cX1_node 6 = .ok (.iconst 0, 1) := dk_3 (dk_at dksX1_node_0 6 rfl rfl)
theorem dX1_node_7 : decode cX1_node 7 = .ok (.bipush 21, 2) := dk_16 21 (dk_at dksX1_node_0 7 rfl rfl)
theorem dX1_node_9 : decode cX1_node 9 = .ok (.invokestatic 119, 3) := dk_184 0 119 (dk_at dksX1_node_0 9 rfl rfl)
theorem dX1_node_12 : decode cX1_node 12 = .ok (.invokestatic 251, 3) := dk_184 0 251 (dk_at dksX1_node_0 12 rfl rfl)
theorem dX1_node_15 : decode cX1_node 15 = .ok (.aload_n 0, 1) := dk_42 (dk_at dksX1_node_0 15 rfl rfl)
theorem dX1_node_16 : decode cX1_node 16 = .ok (.getfield 50, 3) := dk_180 0 50 (dk_at dksX1_node_0 16 rfl rfl)
theorem dX1_node_19 : decode cX1_node 19 = .ok (.getfield 140, 3) := dk_180 0 140 (dk_at dksX1_node_0 19 rfl rfl)
theorem dX1_node_22 : decode cX1_node 22 = .ok (.iload_n 1, 1) := dk_27 (dk_at dksX1_node_0 22 rfl rfl)
theorem dX1_node_23 : decode cX1_node 23 = .ok (.invokestatic 7, 3) := dk_184 0 7 (dk_at dksX1_node_1 0 rfl rfl)
theorem dX1_node_26 : decode cX1_node 26 = .ok (.istore_n 3, 1) := dk_62 (dk_at dksX1_node_1 3 rfl rfl)
theorem dX1_node_27 : decode cX1_node 27 = .ok (.iload_n 2, 1) := dk_28 (dk_at dksX1_node_1 4 rfl rfl)
theorem dX1_node_28 : decode cX1_node 28 = .ok (.tableswitch 323 0 20 #[100, 112, 132, 152, 160, 168, 182, 190, 198, 206, 214, 222, 230, 238, 246, 258, 274, 282, 290, 306, 315], 100) := by decide +kernel
theorem dX1_node_128 : decode cX1_node 128 = .ok (.iload_n 3, 1) := dk_29 (dk_at dksX1_node_3 0 rfl rfl)
theorem dX1_node_129 : decode cX1_node 129 = .ok (.ifCond .eq 7, 3) := dk_153 0 7 (dk_at dksX1_node_3 1 rfl rfl)
theorem dX1_node_132 : decode cX1_node 132 = .ok (.iconst 1, 1) := dk_4 (dk_at dksX1_node_3 4 rfl rfl)
theorem dX1_node_133 : decode cX1_node 133 = .ok (.goto 231, 3) := dk_167 0 231 (dk_at dksX1_node_3 5 rfl rfl)
theorem dX1_node_136 : decode cX1_node 136 = .ok (.iconst 0, 1) := dk_3 (dk_at dksX1_node_3 8 rfl rfl)
theorem dX1_node_137 : decode cX1_node 137 = .ok (.goto 227, 3) := dk_167 0 227 (dk_at dksX1_node_3 9 rfl rfl)
theorem dX1_node_140 : decode cX1_node 140 = .ok (.iload_n 3, 1) := dk_29 (dk_at dksX1_node_3 12 rfl rfl)
theorem dX1_node_141 : decode cX1_node 141 = .ok (.ifCond .eq 15, 3) := dk_153 0 15 (dk_at dksX1_node_3 13 rfl rfl)
theorem dX1_node_144 : decode cX1_node 144 = .ok (.aload_n 0, 1) := dk_42 (dk_at dksX1_node_3 16 rfl rfl)
theorem dX1_node_145 : decode cX1_node 145 = .ok (.getfield 50, 3) := dk_180 0 50 (dk_at dksX1_node_3 17 rfl rfl)
theorem dX1_node_148 : decode cX1_node 148 = .ok (.getfield 319, 3) := dk_180 1 63 (dk_at dksX1_node_3 20 rfl rfl)
theorem dX1_node_151 : decode cX1_node 151 = .ok (.iload_n 1, 1) := dk_27 (dk_at dksX1_node_3 23 rfl rfl)
theorem dX1_node_152 : decode cX1_node 152 = .ok (.iaload, 1) := dk_46 (dk_at dksX1_node_4 0 rfl rfl)
theorem dX1_node_153 : decode cX1_node 153 = .ok (.goto 211, 3) := dk_167 0 211 (dk_at dksX1_node_4 1 rfl rfl)
theorem dX1_node_156 : decode cX1_node 156 = .ok (.iconst (-1), 1) := dk_2 (dk_at dksX1_node_4 4 rfl rfl)
theorem dX1_node_157 : decode cX1_node 157 = .ok (.goto 207, 3) := dk_167 0 207 (dk_at dksX1_node_4 5 rfl rfl)
theorem dX1_node_160 : decode cX1_node 160 = .ok (.iload_n 3, 1) := dk_29 (dk_at dksX1_node_4 8 rfl rfl)
theorem dX1_node_161 : decode cX1_node 161 = .ok (.ifCond .eq 15, 3) := dk_153 0 15 (dk_at dksX1_node_4 9 rfl rfl)
theorem dX1_node_164 : decode cX1_node 164 = .ok (.aload_n 0, 1) := dk_42 (dk_at dksX1_node_4 12 rfl rfl)
theorem dX1_node_165 : decode cX1_node 165 = .ok (.getfield 50, 3) := dk_180 0 50 (dk_at dksX1_node_4 13 rfl rfl)
theorem dX1_node_168 : decode cX1_node 168 = .ok (.getfield 322, 3) := dk_180 1 66 (dk_at dksX1_node_4 16 rfl rfl)
theorem dX1_node_171 : decode cX1_node 171 = .ok (.iload_n 1, 1) := dk_27 (dk_at dksX1_node_4 19 rfl rfl)
theorem dX1_node_172 : decode cX1_node 172 = .ok (.iaload, 1) := dk_46 (dk_at dksX1_node_4 20 rfl rfl)
theorem dX1_node_173 : decode cX1_node 173 = .ok (.goto 191, 3) := dk_167 0 191 (dk_at dksX1_node_4 21 rfl rfl)
theorem dX1_node_176 : decode cX1_node 176 = .ok (.iconst (-1), 1) := dk_2 (dk_at dksX1_node_5 0 rfl rfl)
theorem dX1_node_177 : decode cX1_node 177 = .ok (.goto 187, 3) := dk_167 0 187 (dk_at dksX1_node_5 1 rfl rfl)
theorem dX1_node_180 : decode cX1_node 180 = .ok (.aload_n 0, 1) := dk_42 (dk_at dksX1_node_5 4 rfl rfl)
theorem dX1_node_181 : decode cX1_node 181 = .ok (.iload_n 1, 1) := dk_27 (dk_at dksX1_node_5 5 rfl rfl)
theorem dX1_node_182 : decode cX1_node 182 = .ok (.invokevirtual 325, 3) := dk_182 1 69 (dk_at dksX1_node_5 6 rfl rfl)
theorem dX1_node_185 : decode cX1_node 185 = .ok (.goto 179, 3) := dk_167 0 179 (dk_at dksX1_node_5 9 rfl rfl)
theorem dX1_node_188 : decode cX1_node 188 = .ok (.aload_n 0, 1) := dk_42 (dk_at dksX1_node_5 12 rfl rfl)
theorem dX1_node_189 : decode cX1_node 189 = .ok (.iload_n 1, 1) := dk_27 (dk_at dksX1_node_5 13 rfl rfl)
theorem dX1_node_190 : decode cX1_node 190 = .ok (.invokevirtual 272, 3) := dk_182 1 16 (dk_at dksX1_node_5 14 rfl rfl)
theorem dX1_node_193 : decode cX1_node 193 = .ok (.goto 171, 3) := dk_167 0 171 (dk_at dksX1_node_5 17 rfl rfl)
theorem dX1_node_196 : decode cX1_node 196 = .ok (.aload_n 0, 1) := dk_42 (dk_at dksX1_node_5 20 rfl rfl)
theorem dX1_node_197 : decode cX1_node 197 = .ok (.aload_n 0, 1) := dk_42 (dk_at dksX1_node_5 21 rfl rfl)
theorem dX1_node_198 : decode cX1_node 198 = .ok (.iload_n 1, 1) := dk_27 (dk_at dksX1_node_5 22 rfl rfl)
theorem dX1_node_199 : decode cX1_node 199 = .ok (.invokedynamic 328, 5) := by decide +kernel
theorem dX1_node_204 : decode cX1_node 204 = .ok (.invokevirtual 267, 3) := dk_182 1 11 (dk_at dksX1_node_6 5 rfl rfl)
theorem dX1_node_207 : decode cX1_node 207 = .ok (.goto 157, 3) := dk_167 0 157 (dk_at dksX1_node_6 8 rfl rfl)
theorem dX1_node_210 : decode cX1_node 210 = .ok (.aload_n 0, 1) := dk_42 (dk_at dksX1_node_6 11 rfl rfl)
theorem dX1_node_211 : decode cX1_node 211 = .ok (.iload_n 1, 1) := dk_27 (dk_at dksX1_node_6 12 rfl rfl)
theorem dX1_node_212 : decode cX1_node 212 = .ok (.invokevirtual 329, 3) := dk_182 1 73 (dk_at dksX1_node_6 13 rfl rfl)
theorem dX1_node_215 : decode cX1_node 215 = .ok (.goto 149, 3) := dk_167 0 149 (dk_at dksX1_node_6 16 rfl rfl)
theorem dX1_node_218 : decode cX1_node 218 = .ok (.aload_n 0, 1) := dk_42 (dk_at dksX1_node_6 19 rfl rfl)
theorem dX1_node_219 : decode cX1_node 219 = .ok (.iload_n 1, 1) := dk_27 (dk_at dksX1_node_6 20 rfl rfl)
theorem dX1_node_220 : decode cX1_node 220 = .ok (.invokevirtual 332, 3) := dk_182 1 76 (dk_at dksX1_node_6 21 rfl rfl)
theorem dX1_node_223 : decode cX1_node 223 = .ok (.goto 141, 3) := dk_167 0 141 (dk_at dksX1_node_7 0 rfl rfl)
theorem dX1_node_226 : decode cX1_node 226 = .ok (.aload_n 0, 1) := dk_42 (dk_at dksX1_node_7 3 rfl rfl)
theorem dX1_node_227 : decode cX1_node 227 = .ok (.iload_n 1, 1) := dk_27 (dk_at dksX1_node_7 4 rfl rfl)
theorem dX1_node_228 : decode cX1_node 228 = .ok (.invokevirtual 335, 3) := dk_182 1 79 (dk_at dksX1_node_7 5 rfl rfl)
theorem dX1_node_231 : decode cX1_node 231 = .ok (.goto 133, 3) := dk_167 0 133 (dk_at dksX1_node_7 8 rfl rfl)
theorem dX1_node_234 : decode cX1_node 234 = .ok (.aload_n 0, 1) := dk_42 (dk_at dksX1_node_7 11 rfl rfl)
theorem dX1_node_235 : decode cX1_node 235 = .ok (.iload_n 1, 1) := dk_27 (dk_at dksX1_node_7 12 rfl rfl)
theorem dX1_node_236 : decode cX1_node 236 = .ok (.invokevirtual 338, 3) := dk_182 1 82 (dk_at dksX1_node_7 13 rfl rfl)
theorem dX1_node_239 : decode cX1_node 239 = .ok (.goto 125, 3) := dk_167 0 125 (dk_at dksX1_node_7 16 rfl rfl)
theorem dX1_node_242 : decode cX1_node 242 = .ok (.aload_n 0, 1) := dk_42 (dk_at dksX1_node_7 19 rfl rfl)
theorem dX1_node_243 : decode cX1_node 243 = .ok (.iload_n 1, 1) := dk_27 (dk_at dksX1_node_7 20 rfl rfl)
theorem dX1_node_244 : decode cX1_node 244 = .ok (.invokevirtual 341, 3) := dk_182 1 85 (dk_at dksX1_node_7 21 rfl rfl)
theorem dX1_node_247 : decode cX1_node 247 = .ok (.goto 117, 3) := dk_167 0 117 (dk_at dksX1_node_8 0 rfl rfl)
theorem dX1_node_250 : decode cX1_node 250 = .ok (.aload_n 0, 1) := dk_42 (dk_at dksX1_node_8 3 rfl rfl)
theorem dX1_node_251 : decode cX1_node 251 = .ok (.iload_n 1, 1) := dk_27 (dk_at dksX1_node_8 4 rfl rfl)
theorem dX1_node_252 : decode cX1_node 252 = .ok (.invokevirtual 300, 3) := dk_182 1 44 (dk_at dksX1_node_8 5 rfl rfl)
theorem dX1_node_255 : decode cX1_node 255 = .ok (.goto 109, 3) := dk_167 0 109 (dk_at dksX1_node_8 8 rfl rfl)
theorem dX1_node_258 : decode cX1_node 258 = .ok (.aload_n 0, 1) := dk_42 (dk_at dksX1_node_8 11 rfl rfl)
theorem dX1_node_259 : decode cX1_node 259 = .ok (.iload_n 1, 1) := dk_27 (dk_at dksX1_node_8 12 rfl rfl)
theorem dX1_node_260 : decode cX1_node 260 = .ok (.invokevirtual 344, 3) := dk_182 1 88 (dk_at dksX1_node_8 13 rfl rfl)
theorem dX1_node_263 : decode cX1_node 263 = .ok (.goto 101, 3) := dk_167 0 101 (dk_at dksX1_node_8 16 rfl rfl)
theorem dX1_node_266 : decode cX1_node 266 = .ok (.aload_n 0, 1) := dk_42 (dk_at dksX1_node_8 19 rfl rfl)
theorem dX1_node_267 : decode cX1_node 267 = .ok (.iload_n 1, 1) := dk_27 (dk_at dksX1_node_8 20 rfl rfl)
theorem dX1_node_268 : decode cX1_node 268 = .ok (.invokevirtual 347, 3) := dk_182 1 91 (dk_at dksX1_node_8 21 rfl rfl)
theorem dX1_node_271 : decode cX1_node 271 = .ok (.goto 93, 3) := dk_167 0 93 (dk_at dksX1_node_9 0 rfl rfl)
theorem dX1_node_274 : decode cX1_node 274 = .ok (.aload_n 0, 1) := dk_42 (dk_at dksX1_node_9 3 rfl rfl)
theorem dX1_node_275 : decode cX1_node 275 = .ok (.getfield 33, 3) := dk_180 0 33 (dk_at dksX1_node_9 4 rfl rfl)
theorem dX1_node_278 : decode cX1_node 278 = .ok (.getfield 245, 3) := dk_180 0 245 (dk_at dksX1_node_9 7 rfl rfl)
theorem dX1_node_281 : decode cX1_node 281 = .ok (.iload_n 1, 1) := dk_27 (dk_at dksX1_node_9 10 rfl rfl)
theorem dX1_node_282 : decode cX1_node 282 = .ok (.iaload, 1) := dk_46 (dk_at dksX1_node_9 11 rfl rfl)
theorem dX1_node_283 : decode cX1_node 283 = .ok (.goto 81, 3) := dk_167 0 81 (dk_at dksX1_node_9 12 rfl rfl)
theorem dX1_node_286 : decode cX1_node 286 = .ok (.iload_n 3, 1) := dk_29 (dk_at dksX1_node_9 15 rfl rfl)
theorem dX1_node_287 : decode cX1_node 287 = .ok (.ifCond .eq 11, 3) := dk_153 0 11 (dk_at dksX1_node_9 16 rfl rfl)
theorem dX1_node_290 : decode cX1_node 290 = .ok (.aload_n 0, 1) := dk_42 (dk_at dksX1_node_9 19 rfl rfl)
theorem dX1_node_291 : decode cX1_node 291 = .ok (.iload_n 1, 1) := dk_27 (dk_at dksX1_node_9 20 rfl rfl)
theorem dX1_node_292 : decode cX1_node 292 = .ok (.invokevirtual 350, 3) := dk_182 1 94 (dk_at dksX1_node_9 21 rfl rfl)
theorem dX1_node_295 : decode cX1_node 295 = .ok (.goto 69, 3) := dk_167 0 69 (dk_at dksX1_node_10 0 rfl rfl)
theorem dX1_node_298 : decode cX1_node 298 = .ok (.iconst (-1), 1) := dk_2 (dk_at dksX1_node_10 3 rfl rfl)
theorem dX1_node_299 : decode cX1_node 299 = .ok (.goto 65, 3) := dk_167 0 65 (dk_at dksX1_node_10 4 rfl rfl)
theorem dX1_node_302 : decode cX1_node 302 = .ok (.aload_n 0, 1) := dk_42 (dk_at dksX1_node_10 7 rfl rfl)
theorem dX1_node_303 : decode cX1_node 303 = .ok (.iload_n 1, 1) := dk_27 (dk_at dksX1_node_10 8 rfl rfl)
theorem dX1_node_304 : decode cX1_node 304 = .ok (.invokevirtual 353, 3) := dk_182 1 97 (dk_at dksX1_node_10 9 rfl rfl)
theorem dX1_node_307 : decode cX1_node 307 = .ok (.goto 57, 3) := dk_167 0 57 (dk_at dksX1_node_10 12 rfl rfl)
theorem dX1_node_310 : decode cX1_node 310 = .ok (.aload_n 0, 1) := dk_42 (dk_at dksX1_node_10 15 rfl rfl)
theorem dX1_node_311 : decode cX1_node 311 = .ok (.iload_n 1, 1) := dk_27 (dk_at dksX1_node_10 16 rfl rfl)
theorem dX1_node_312 : decode cX1_node 312 = .ok (.invokevirtual 356, 3) := dk_182 1 100 (dk_at dksX1_node_10 17 rfl rfl)
theorem dX1_node_315 : decode cX1_node 315 = .ok (.goto 49, 3) := dk_167 0 49 (dk_at dksX1_node_10 20 rfl rfl)
theorem dX1_node_318 : decode cX1_node 318 = .ok (.iload_n 3, 1) := dk_29 (dk_at dksX1_node_10 23 rfl rfl)
theorem dX1_node_319 : decode cX1_node 319 = .ok (.ifCond .eq 11, 3) := dk_153 0 11 (dk_at dksX1_node_11 0 rfl rfl)
theorem dX1_node_322 : decode cX1_node 322 = .ok (.aload_n 0, 1) := dk_42 (dk_at dksX1_node_11 3 rfl rfl)
theorem dX1_node_323 : decode cX1_node 323 = .ok (.iload_n 1, 1) := dk_27 (dk_at dksX1_node_11 4 rfl rfl)
theorem dX1_node_324 : decode cX1_node 324 = .ok (.invokevirtual 359, 3) := dk_182 1 103 (dk_at dksX1_node_11 5 rfl rfl)
theorem dX1_node_327 : decode cX1_node 327 = .ok (.goto 37, 3) := dk_167 0 37 (dk_at dksX1_node_11 8 rfl rfl)
theorem dX1_node_330 : decode cX1_node 330 = .ok (.iconst 0, 1) := dk_3 (dk_at dksX1_node_11 11 rfl rfl)
theorem dX1_node_331 : decode cX1_node 331 = .ok (.goto 33, 3) := dk_167 0 33 (dk_at dksX1_node_11 12 rfl rfl)
theorem dX1_node_334 : decode cX1_node 334 = .ok (.aload_n 0, 1) := dk_42 (dk_at dksX1_node_11 15 rfl rfl)
theorem dX1_node_335 : decode cX1_node 335 = .ok (.iload_n 1, 1) := dk_27 (dk_at dksX1_node_11 16 rfl rfl)
theorem dX1_node_336 : decode cX1_node 336 = .ok (.iconst 0, 1) := dk_3 (dk_at dksX1_node_11 17 rfl rfl)
theorem dX1_node_337 : decode cX1_node 337 = .ok (.invokevirtual 362, 3) := dk_182 1 106 (dk_at dksX1_node_11 18 rfl rfl)
theorem dX1_node_340 : decode cX1_node 340 = .ok (.goto 24, 3) := dk_167 0 24 (dk_at dksX1_node_11 21 rfl rfl)
theorem dX1_node_343 : decode cX1_node 343 = .ok (.aload_n 0, 1) := dk_42 (dk_at dksX1_node_12 0 rfl rfl)
theorem dX1_node_344 : decode cX1_node 344 = .ok (.iload_n 1, 1) := dk_27 (dk_at dksX1_node_12 1 rfl rfl)
theorem dX1_node_345 : decode cX1_node 345 = .ok (.invokevirtual 365, 3) := dk_182 1 109 (dk_at dksX1_node_12 2 rfl rfl)
theorem dX1_node_348 : decode cX1_node 348 = .ok (.goto 16, 3) := dk_167 0 16 (dk_at dksX1_node_12 5 rfl rfl)
theorem dX1_node_351 : decode cX1_node 351 = .ok (.iload_n 3, 1) := dk_29 (dk_at dksX1_node_12 8 rfl rfl)
theorem dX1_node_352 : decode cX1_node 352 = .ok (.ifCond .eq 11, 3) := dk_153 0 11 (dk_at dksX1_node_12 9 rfl rfl)
theorem dX1_node_355 : decode cX1_node 355 = .ok (.aload_n 0, 1) := dk_42 (dk_at dksX1_node_12 12 rfl rfl)
theorem dX1_node_356 : decode cX1_node 356 = .ok (.iload_n 1, 1) := dk_27 (dk_at dksX1_node_12 13 rfl rfl)
theorem dX1_node_357 : decode cX1_node 357 = .ok (.invokevirtual 368, 3) := dk_182 1 112 (dk_at dksX1_node_12 14 rfl rfl)
theorem dX1_node_360 : decode cX1_node 360 = .ok (.goto 4, 3) := dk_167 0 4 (dk_at dksX1_node_12 17 rfl rfl)
theorem dX1_node_363 : decode cX1_node 363 = .ok (.iconst 0, 1) := dk_3 (dk_at dksX1_node_12 20 rfl rfl)
theorem dX1_node_364 : decode cX1_node 364 = .ok (.ireturn, 1) := dk_172 (dk_at dksX1_node_12 21 rfl rfl)
abbrev cX1_isNode : ByteArray := prog_1_method_31_code
def yX1_isNode : MethodName := ⟨RX1, "isNode", "(I)V"⟩
def dkwX1_isNode_0 : List UInt8 := [42, 180, 0, 33, 27, 182, 0, 241, 184, 0, 254, 177]
abbrev dktX1_isNode_0 : List UInt8 := dkwX1_isNode_0 ++ []
theorem dksX1_isNode_0 : cX1_isNode.data.toList.drop 0 = dktX1_isNode_0 := by decide +kernel
theorem dX1_isNode_0 : decode cX1_isNode 0 = .ok (.aload_n 0, 1) := dk_42 (dk_at dksX1_isNode_0 0 rfl rfl)
theorem dX1_isNode_1 : decode cX1_isNode 1 = .ok (.getfield 33, 3) := dk_180 0 33 (dk_at dksX1_isNode_0 1 rfl rfl)
theorem dX1_isNode_4 : decode cX1_isNode 4 = .ok (.iload_n 1, 1) := dk_27 (dk_at dksX1_isNode_0 4 rfl rfl)
theorem dX1_isNode_5 : decode cX1_isNode 5 = .ok (.invokevirtual 241, 3) := dk_182 0 241 (dk_at dksX1_isNode_0 5 rfl rfl)
theorem dX1_isNode_8 : decode cX1_isNode 8 = .ok (.invokestatic 254, 3) := dk_184 0 254 (dk_at dksX1_isNode_0 8 rfl rfl)
theorem dX1_isNode_11 : decode cX1_isNode 11 = .ok (.return_, 1) := dk_177 (dk_at dksX1_isNode_0 11 rfl rfl)
abbrev cX1_mustBe : ByteArray := prog_1_method_6_code
def yX1_mustBe : MethodName := ⟨RX1, "mustBe", "(Z)V"⟩
def dkwX1_mustBe_0 : List UInt8 := [26, 154, 0, 11, 187, 0, 99, 89, 183, 0, 101, 191, 177]
abbrev dktX1_mustBe_0 : List UInt8 := dkwX1_mustBe_0 ++ []
theorem dksX1_mustBe_0 : cX1_mustBe.data.toList.drop 0 = dktX1_mustBe_0 := by decide +kernel
theorem dX1_mustBe_0 : decode cX1_mustBe 0 = .ok (.iload_n 0, 1) := dk_26 (dk_at dksX1_mustBe_0 0 rfl rfl)
theorem dX1_mustBe_1 : decode cX1_mustBe 1 = .ok (.ifCond .ne 11, 3) := dk_154 0 11 (dk_at dksX1_mustBe_0 1 rfl rfl)
theorem dX1_mustBe_4 : decode cX1_mustBe 4 = .ok (.new 99, 3) := dk_187 0 99 (dk_at dksX1_mustBe_0 4 rfl rfl)
theorem dX1_mustBe_7 : decode cX1_mustBe 7 = .ok (.dup, 1) := dk_89 (dk_at dksX1_mustBe_0 7 rfl rfl)
theorem dX1_mustBe_8 : decode cX1_mustBe 8 = .ok (.invokespecial 101, 3) := dk_183 0 101 (dk_at dksX1_mustBe_0 8 rfl rfl)
theorem dX1_mustBe_11 : decode cX1_mustBe 11 = .ok (.athrow, 1) := dk_191 (dk_at dksX1_mustBe_0 11 rfl rfl)
theorem dX1_mustBe_12 : decode cX1_mustBe 12 = .ok (.return_, 1) := dk_177 (dk_at dksX1_mustBe_0 12 rfl rfl)
abbrev cX1_gatesOf : ByteArray := prog_1_method_33_code
def yX1_gatesOf : MethodName := ⟨RX1, "gatesOf", "(I)I"⟩
def dkwX1_gatesOf_0 : List UInt8 := [42, 42, 27, 186, 1, 8, 0, 0, 182, 1, 11, 172]
abbrev dktX1_gatesOf_0 : List UInt8 := dkwX1_gatesOf_0 ++ []
theorem dksX1_gatesOf_0 : cX1_gatesOf.data.toList.drop 0 = dktX1_gatesOf_0 := by decide +kernel
theorem dX1_gatesOf_0 : decode cX1_gatesOf 0 = .ok (.aload_n 0, 1) := dk_42 (dk_at dksX1_gatesOf_0 0 rfl rfl)
theorem dX1_gatesOf_1 : decode cX1_gatesOf 1 = .ok (.aload_n 0, 1) := dk_42 (dk_at dksX1_gatesOf_0 1 rfl rfl)
theorem dX1_gatesOf_2 : decode cX1_gatesOf 2 = .ok (.iload_n 1, 1) := dk_27 (dk_at dksX1_gatesOf_0 2 rfl rfl)
theorem dX1_gatesOf_3 : decode cX1_gatesOf 3 = .ok (.invokedynamic 264, 5) := by decide +kernel
theorem dX1_gatesOf_8 : decode cX1_gatesOf 8 = .ok (.invokevirtual 267, 3) := dk_182 1 11 (dk_at dksX1_gatesOf_0 8 rfl rfl)
theorem dX1_gatesOf_11 : decode cX1_gatesOf 11 = .ok (.ireturn, 1) := dk_172 (dk_at dksX1_gatesOf_0 11 rfl rfl)
abbrev cX1_lambda_gatesOf_0 : ByteArray := prog_1_method_104_code
def yX1_lambda_gatesOf_0 : MethodName := ⟨RX1, "lambda$gatesOf$0", "(II)Z"⟩
def dkwX1_lambda_gatesOf_0_0 : List UInt8 := [42, 180, 0, 50, 28, 27, 182, 1, 123, 172]
abbrev dktX1_lambda_gatesOf_0_0 : List UInt8 := dkwX1_lambda_gatesOf_0_0 ++ []
theorem dksX1_lambda_gatesOf_0_0 : cX1_lambda_gatesOf_0.data.toList.drop 0 = dktX1_lambda_gatesOf_0_0 := by decide +kernel
theorem dX1_lambda_gatesOf_0_0 : decode cX1_lambda_gatesOf_0 0 = .ok (.aload_n 0, 1) := dk_42 (dk_at dksX1_lambda_gatesOf_0_0 0 rfl rfl)
theorem dX1_lambda_gatesOf_0_1 : decode cX1_lambda_gatesOf_0 1 = .ok (.getfield 50, 3) := dk_180 0 50 (dk_at dksX1_lambda_gatesOf_0_0 1 rfl rfl)
theorem dX1_lambda_gatesOf_0_4 : decode cX1_lambda_gatesOf_0 4 = .ok (.iload_n 2, 1) := dk_28 (dk_at dksX1_lambda_gatesOf_0_0 4 rfl rfl)
theorem dX1_lambda_gatesOf_0_5 : decode cX1_lambda_gatesOf_0 5 = .ok (.iload_n 1, 1) := dk_27 (dk_at dksX1_lambda_gatesOf_0_0 5 rfl rfl)
theorem dX1_lambda_gatesOf_0_6 : decode cX1_lambda_gatesOf_0 6 = .ok (.invokevirtual 379, 3) := dk_182 1 123 (dk_at dksX1_lambda_gatesOf_0_0 6 rfl rfl)
theorem dX1_lambda_gatesOf_0_9 : decode cX1_lambda_gatesOf_0 9 = .ok (.ireturn, 1) := dk_172 (dk_at dksX1_lambda_gatesOf_0_0 9 rfl rfl)
abbrev cX1_lambda_node_6 : ByteArray := prog_1_method_98_code
def yX1_lambda_node_6 : MethodName := ⟨RX1, "lambda$node$6", "(II)Z"⟩
def dkwX1_lambda_node_6_1 : List UInt8 := [160, 0, 7, 4, 167, 0, 4, 3, 172]
abbrev dktX1_lambda_node_6_1 : List UInt8 := dkwX1_lambda_node_6_1 ++ []
def dkwX1_lambda_node_6_0 : List UInt8 := [42, 180, 0, 50, 180, 0, 140, 28, 184, 0, 7, 153, 0, 20, 42, 180, 0, 50, 180, 1, 63, 28, 46, 27]
abbrev dktX1_lambda_node_6_0 : List UInt8 := dkwX1_lambda_node_6_0 ++ dktX1_lambda_node_6_1
theorem dksX1_lambda_node_6_0 : cX1_lambda_node_6.data.toList.drop 0 = dktX1_lambda_node_6_0 := by decide +kernel
theorem dksX1_lambda_node_6_1 : cX1_lambda_node_6.data.toList.drop 24 = dktX1_lambda_node_6_1 := dk_seg dksX1_lambda_node_6_0 24 rfl rfl
theorem dX1_lambda_node_6_0 : decode cX1_lambda_node_6 0 = .ok (.aload_n 0, 1) := dk_42 (dk_at dksX1_lambda_node_6_0 0 rfl rfl)
theorem dX1_lambda_node_6_1 : decode cX1_lambda_node_6 1 = .ok (.getfield 50, 3) := dk_180 0 50 (dk_at dksX1_lambda_node_6_0 1 rfl rfl)
theorem dX1_lambda_node_6_4 : decode cX1_lambda_node_6 4 = .ok (.getfield 140, 3) := dk_180 0 140 (dk_at dksX1_lambda_node_6_0 4 rfl rfl)
theorem dX1_lambda_node_6_7 : decode cX1_lambda_node_6 7 = .ok (.iload_n 2, 1) := dk_28 (dk_at dksX1_lambda_node_6_0 7 rfl rfl)
theorem dX1_lambda_node_6_8 : decode cX1_lambda_node_6 8 = .ok (.invokestatic 7, 3) := dk_184 0 7 (dk_at dksX1_lambda_node_6_0 8 rfl rfl)
theorem dX1_lambda_node_6_11 : decode cX1_lambda_node_6 11 = .ok (.ifCond .eq 20, 3) := dk_153 0 20 (dk_at dksX1_lambda_node_6_0 11 rfl rfl)
theorem dX1_lambda_node_6_14 : decode cX1_lambda_node_6 14 = .ok (.aload_n 0, 1) := dk_42 (dk_at dksX1_lambda_node_6_0 14 rfl rfl)
theorem dX1_lambda_node_6_15 : decode cX1_lambda_node_6 15 = .ok (.getfield 50, 3) := dk_180 0 50 (dk_at dksX1_lambda_node_6_0 15 rfl rfl)
theorem dX1_lambda_node_6_18 : decode cX1_lambda_node_6 18 = .ok (.getfield 319, 3) := dk_180 1 63 (dk_at dksX1_lambda_node_6_0 18 rfl rfl)
theorem dX1_lambda_node_6_21 : decode cX1_lambda_node_6 21 = .ok (.iload_n 2, 1) := dk_28 (dk_at dksX1_lambda_node_6_0 21 rfl rfl)
theorem dX1_lambda_node_6_22 : decode cX1_lambda_node_6 22 = .ok (.iaload, 1) := dk_46 (dk_at dksX1_lambda_node_6_0 22 rfl rfl)
theorem dX1_lambda_node_6_23 : decode cX1_lambda_node_6 23 = .ok (.iload_n 1, 1) := dk_27 (dk_at dksX1_lambda_node_6_0 23 rfl rfl)
theorem dX1_lambda_node_6_24 : decode cX1_lambda_node_6 24 = .ok (.if_icmp .ne 7, 3) := dk_160 0 7 (dk_at dksX1_lambda_node_6_1 0 rfl rfl)
theorem dX1_lambda_node_6_27 : decode cX1_lambda_node_6 27 = .ok (.iconst 1, 1) := dk_4 (dk_at dksX1_lambda_node_6_1 3 rfl rfl)
theorem dX1_lambda_node_6_28 : decode cX1_lambda_node_6 28 = .ok (.goto 4, 3) := dk_167 0 4 (dk_at dksX1_lambda_node_6_1 4 rfl rfl)
theorem dX1_lambda_node_6_31 : decode cX1_lambda_node_6 31 = .ok (.iconst 0, 1) := dk_3 (dk_at dksX1_lambda_node_6_1 7 rfl rfl)
theorem dX1_lambda_node_6_32 : decode cX1_lambda_node_6 32 = .ok (.ireturn, 1) := dk_172 (dk_at dksX1_lambda_node_6_1 8 rfl rfl)
abbrev cX1_edgeOf : ByteArray := prog_1_method_35_code
def yX1_edgeOf : MethodName := ⟨RX1, "edgeOf", "(I)I"⟩
def dkwX1_edgeOf_3 : List UInt8 := [132, 4, 1, 167, 255, 215, 29, 42, 27, 182, 1, 16, 2, 130, 126, 172]
abbrev dktX1_edgeOf_3 : List UInt8 := dkwX1_edgeOf_3 ++ []
def dkwX1_edgeOf_2 : List UInt8 := [184, 0, 7, 153, 0, 16, 42, 180, 0, 33, 180, 1, 19, 21, 4, 46, 167, 0, 4, 3, 128, 62]
abbrev dktX1_edgeOf_2 : List UInt8 := dkwX1_edgeOf_2 ++ dktX1_edgeOf_3
def dkwX1_edgeOf_1 : List UInt8 := [128, 61, 3, 62, 3, 54, 4, 21, 4, 42, 180, 0, 33, 180, 1, 1, 162, 0, 35, 29, 28, 21, 4]
abbrev dktX1_edgeOf_1 : List UInt8 := dkwX1_edgeOf_1 ++ dktX1_edgeOf_2
def dkwX1_edgeOf_0 : List UInt8 := [42, 180, 0, 50, 180, 0, 140, 27, 184, 0, 7, 154, 0, 5, 3, 172, 42, 27, 182, 1, 16, 4, 27, 120]
abbrev dktX1_edgeOf_0 : List UInt8 := dkwX1_edgeOf_0 ++ dktX1_edgeOf_1
theorem dksX1_edgeOf_0 : cX1_edgeOf.data.toList.drop 0 = dktX1_edgeOf_0 := by decide +kernel
theorem dksX1_edgeOf_1 : cX1_edgeOf.data.toList.drop 24 = dktX1_edgeOf_1 := dk_seg dksX1_edgeOf_0 24 rfl rfl
theorem dksX1_edgeOf_2 : cX1_edgeOf.data.toList.drop 47 = dktX1_edgeOf_2 := dk_seg dksX1_edgeOf_1 23 rfl rfl
theorem dksX1_edgeOf_3 : cX1_edgeOf.data.toList.drop 69 = dktX1_edgeOf_3 := dk_seg dksX1_edgeOf_2 22 rfl rfl
theorem dX1_edgeOf_0 : decode cX1_edgeOf 0 = .ok (.aload_n 0, 1) := dk_42 (dk_at dksX1_edgeOf_0 0 rfl rfl)
theorem dX1_edgeOf_1 : decode cX1_edgeOf 1 = .ok (.getfield 50, 3) := dk_180 0 50 (dk_at dksX1_edgeOf_0 1 rfl rfl)
theorem dX1_edgeOf_4 : decode cX1_edgeOf 4 = .ok (.getfield 140, 3) := dk_180 0 140 (dk_at dksX1_edgeOf_0 4 rfl rfl)
theorem dX1_edgeOf_7 : decode cX1_edgeOf 7 = .ok (.iload_n 1, 1) := dk_27 (dk_at dksX1_edgeOf_0 7 rfl rfl)
theorem dX1_edgeOf_8 : decode cX1_edgeOf 8 = .ok (.invokestatic 7, 3) := dk_184 0 7 (dk_at dksX1_edgeOf_0 8 rfl rfl)
theorem dX1_edgeOf_11 : decode cX1_edgeOf 11 = .ok (.ifCond .ne 5, 3) := dk_154 0 5 (dk_at dksX1_edgeOf_0 11 rfl rfl)
theorem dX1_edgeOf_14 : decode cX1_edgeOf 14 = .ok (.iconst 0, 1) := dk_3 (dk_at dksX1_edgeOf_0 14 rfl rfl)
theorem dX1_edgeOf_15 : decode cX1_edgeOf 15 = .ok (.ireturn, 1) := dk_172 (dk_at dksX1_edgeOf_0 15 rfl rfl)
theorem dX1_edgeOf_16 : decode cX1_edgeOf 16 = .ok (.aload_n 0, 1) := dk_42 (dk_at dksX1_edgeOf_0 16 rfl rfl)
theorem dX1_edgeOf_17 : decode cX1_edgeOf 17 = .ok (.iload_n 1, 1) := dk_27 (dk_at dksX1_edgeOf_0 17 rfl rfl)
theorem dX1_edgeOf_18 : decode cX1_edgeOf 18 = .ok (.invokevirtual 272, 3) := dk_182 1 16 (dk_at dksX1_edgeOf_0 18 rfl rfl)
theorem dX1_edgeOf_21 : decode cX1_edgeOf 21 = .ok (.iconst 1, 1) := dk_4 (dk_at dksX1_edgeOf_0 21 rfl rfl)
theorem dX1_edgeOf_22 : decode cX1_edgeOf 22 = .ok (.iload_n 1, 1) := dk_27 (dk_at dksX1_edgeOf_0 22 rfl rfl)
theorem dX1_edgeOf_23 : decode cX1_edgeOf 23 = .ok (.ishl, 1) := dk_120 (dk_at dksX1_edgeOf_0 23 rfl rfl)
theorem dX1_edgeOf_24 : decode cX1_edgeOf 24 = .ok (.ior, 1) := dk_128 (dk_at dksX1_edgeOf_1 0 rfl rfl)
theorem dX1_edgeOf_25 : decode cX1_edgeOf 25 = .ok (.istore_n 2, 1) := dk_61 (dk_at dksX1_edgeOf_1 1 rfl rfl)
theorem dX1_edgeOf_26 : decode cX1_edgeOf 26 = .ok (.iconst 0, 1) := dk_3 (dk_at dksX1_edgeOf_1 2 rfl rfl)
theorem dX1_edgeOf_27 : decode cX1_edgeOf 27 = .ok (.istore_n 3, 1) := dk_62 (dk_at dksX1_edgeOf_1 3 rfl rfl)
theorem dX1_edgeOf_28 : decode cX1_edgeOf 28 = .ok (.iconst 0, 1) := dk_3 (dk_at dksX1_edgeOf_1 4 rfl rfl)
theorem dX1_edgeOf_29 : decode cX1_edgeOf 29 = .ok (.istore 4, 2) := dk_54 4 (dk_at dksX1_edgeOf_1 5 rfl rfl)
theorem dX1_edgeOf_31 : decode cX1_edgeOf 31 = .ok (.iload 4, 2) := dk_21 4 (dk_at dksX1_edgeOf_1 7 rfl rfl)
theorem dX1_edgeOf_33 : decode cX1_edgeOf 33 = .ok (.aload_n 0, 1) := dk_42 (dk_at dksX1_edgeOf_1 9 rfl rfl)
theorem dX1_edgeOf_34 : decode cX1_edgeOf 34 = .ok (.getfield 33, 3) := dk_180 0 33 (dk_at dksX1_edgeOf_1 10 rfl rfl)
theorem dX1_edgeOf_37 : decode cX1_edgeOf 37 = .ok (.getfield 257, 3) := dk_180 1 1 (dk_at dksX1_edgeOf_1 13 rfl rfl)
theorem dX1_edgeOf_40 : decode cX1_edgeOf 40 = .ok (.if_icmp .ge 35, 3) := dk_162 0 35 (dk_at dksX1_edgeOf_1 16 rfl rfl)
theorem dX1_edgeOf_43 : decode cX1_edgeOf 43 = .ok (.iload_n 3, 1) := dk_29 (dk_at dksX1_edgeOf_1 19 rfl rfl)
theorem dX1_edgeOf_44 : decode cX1_edgeOf 44 = .ok (.iload_n 2, 1) := dk_28 (dk_at dksX1_edgeOf_1 20 rfl rfl)
theorem dX1_edgeOf_45 : decode cX1_edgeOf 45 = .ok (.iload 4, 2) := dk_21 4 (dk_at dksX1_edgeOf_1 21 rfl rfl)
theorem dX1_edgeOf_47 : decode cX1_edgeOf 47 = .ok (.invokestatic 7, 3) := dk_184 0 7 (dk_at dksX1_edgeOf_2 0 rfl rfl)
theorem dX1_edgeOf_50 : decode cX1_edgeOf 50 = .ok (.ifCond .eq 16, 3) := dk_153 0 16 (dk_at dksX1_edgeOf_2 3 rfl rfl)
theorem dX1_edgeOf_53 : decode cX1_edgeOf 53 = .ok (.aload_n 0, 1) := dk_42 (dk_at dksX1_edgeOf_2 6 rfl rfl)
theorem dX1_edgeOf_54 : decode cX1_edgeOf 54 = .ok (.getfield 33, 3) := dk_180 0 33 (dk_at dksX1_edgeOf_2 7 rfl rfl)
theorem dX1_edgeOf_57 : decode cX1_edgeOf 57 = .ok (.getfield 275, 3) := dk_180 1 19 (dk_at dksX1_edgeOf_2 10 rfl rfl)
theorem dX1_edgeOf_60 : decode cX1_edgeOf 60 = .ok (.iload 4, 2) := dk_21 4 (dk_at dksX1_edgeOf_2 13 rfl rfl)
theorem dX1_edgeOf_62 : decode cX1_edgeOf 62 = .ok (.iaload, 1) := dk_46 (dk_at dksX1_edgeOf_2 15 rfl rfl)
theorem dX1_edgeOf_63 : decode cX1_edgeOf 63 = .ok (.goto 4, 3) := dk_167 0 4 (dk_at dksX1_edgeOf_2 16 rfl rfl)
theorem dX1_edgeOf_66 : decode cX1_edgeOf 66 = .ok (.iconst 0, 1) := dk_3 (dk_at dksX1_edgeOf_2 19 rfl rfl)
theorem dX1_edgeOf_67 : decode cX1_edgeOf 67 = .ok (.ior, 1) := dk_128 (dk_at dksX1_edgeOf_2 20 rfl rfl)
theorem dX1_edgeOf_68 : decode cX1_edgeOf 68 = .ok (.istore_n 3, 1) := dk_62 (dk_at dksX1_edgeOf_2 21 rfl rfl)
theorem dX1_edgeOf_69 : decode cX1_edgeOf 69 = .ok (.iinc 4 1, 3) := dk_132 4 1 (dk_at dksX1_edgeOf_3 0 rfl rfl)
theorem dX1_edgeOf_72 : decode cX1_edgeOf 72 = .ok (.goto (-41), 3) := dk_167 255 215 (dk_at dksX1_edgeOf_3 3 rfl rfl)
theorem dX1_edgeOf_75 : decode cX1_edgeOf 75 = .ok (.iload_n 3, 1) := dk_29 (dk_at dksX1_edgeOf_3 6 rfl rfl)
theorem dX1_edgeOf_76 : decode cX1_edgeOf 76 = .ok (.aload_n 0, 1) := dk_42 (dk_at dksX1_edgeOf_3 7 rfl rfl)
theorem dX1_edgeOf_77 : decode cX1_edgeOf 77 = .ok (.iload_n 1, 1) := dk_27 (dk_at dksX1_edgeOf_3 8 rfl rfl)
theorem dX1_edgeOf_78 : decode cX1_edgeOf 78 = .ok (.invokevirtual 272, 3) := dk_182 1 16 (dk_at dksX1_edgeOf_3 9 rfl rfl)
theorem dX1_edgeOf_81 : decode cX1_edgeOf 81 = .ok (.iconst (-1), 1) := dk_2 (dk_at dksX1_edgeOf_3 12 rfl rfl)
theorem dX1_edgeOf_82 : decode cX1_edgeOf 82 = .ok (.ixor, 1) := dk_130 (dk_at dksX1_edgeOf_3 13 rfl rfl)
theorem dX1_edgeOf_83 : decode cX1_edgeOf 83 = .ok (.iand, 1) := dk_126 (dk_at dksX1_edgeOf_3 14 rfl rfl)
theorem dX1_edgeOf_84 : decode cX1_edgeOf 84 = .ok (.ireturn, 1) := dk_172 (dk_at dksX1_edgeOf_3 15 rfl rfl)
abbrev cX1_outKeeperOf : ByteArray := prog_1_method_42_code
def yX1_outKeeperOf : MethodName := ⟨RX1, "outKeeperOf", "(I)I"⟩
def dkwX1_outKeeperOf_2 : List UInt8 := [180, 0, 67, 29, 46, 184, 0, 236, 164, 0, 6, 21, 4, 62, 132, 4, 1, 167, 255, 202, 29, 172]
abbrev dktX1_outKeeperOf_2 : List UInt8 := dkwX1_outKeeperOf_2 ++ []
def dkwX1_outKeeperOf_1 : List UInt8 := [21, 4, 184, 0, 7, 153, 0, 33, 29, 2, 159, 0, 25, 42, 180, 0, 67, 21, 4, 46, 184, 0, 236, 42]
abbrev dktX1_outKeeperOf_1 : List UInt8 := dkwX1_outKeeperOf_1 ++ dktX1_outKeeperOf_2
def dkwX1_outKeeperOf_0 : List UInt8 := [42, 27, 182, 1, 44, 61, 2, 62, 3, 54, 4, 21, 4, 42, 180, 0, 33, 180, 1, 1, 162, 0, 48, 28]
abbrev dktX1_outKeeperOf_0 : List UInt8 := dkwX1_outKeeperOf_0 ++ dktX1_outKeeperOf_1
theorem dksX1_outKeeperOf_0 : cX1_outKeeperOf.data.toList.drop 0 = dktX1_outKeeperOf_0 := by decide +kernel
theorem dksX1_outKeeperOf_1 : cX1_outKeeperOf.data.toList.drop 24 = dktX1_outKeeperOf_1 := dk_seg dksX1_outKeeperOf_0 24 rfl rfl
theorem dksX1_outKeeperOf_2 : cX1_outKeeperOf.data.toList.drop 48 = dktX1_outKeeperOf_2 := dk_seg dksX1_outKeeperOf_1 24 rfl rfl
theorem dX1_outKeeperOf_0 : decode cX1_outKeeperOf 0 = .ok (.aload_n 0, 1) := dk_42 (dk_at dksX1_outKeeperOf_0 0 rfl rfl)
theorem dX1_outKeeperOf_1 : decode cX1_outKeeperOf 1 = .ok (.iload_n 1, 1) := dk_27 (dk_at dksX1_outKeeperOf_0 1 rfl rfl)
theorem dX1_outKeeperOf_2 : decode cX1_outKeeperOf 2 = .ok (.invokevirtual 300, 3) := dk_182 1 44 (dk_at dksX1_outKeeperOf_0 2 rfl rfl)
theorem dX1_outKeeperOf_5 : decode cX1_outKeeperOf 5 = .ok (.istore_n 2, 1) := dk_61 (dk_at dksX1_outKeeperOf_0 5 rfl rfl)
theorem dX1_outKeeperOf_6 : decode cX1_outKeeperOf 6 = .ok (.iconst (-1), 1) := dk_2 (dk_at dksX1_outKeeperOf_0 6 rfl rfl)
theorem dX1_outKeeperOf_7 : decode cX1_outKeeperOf 7 = .ok (.istore_n 3, 1) := dk_62 (dk_at dksX1_outKeeperOf_0 7 rfl rfl)
theorem dX1_outKeeperOf_8 : decode cX1_outKeeperOf 8 = .ok (.iconst 0, 1) := dk_3 (dk_at dksX1_outKeeperOf_0 8 rfl rfl)
theorem dX1_outKeeperOf_9 : decode cX1_outKeeperOf 9 = .ok (.istore 4, 2) := dk_54 4 (dk_at dksX1_outKeeperOf_0 9 rfl rfl)
theorem dX1_outKeeperOf_11 : decode cX1_outKeeperOf 11 = .ok (.iload 4, 2) := dk_21 4 (dk_at dksX1_outKeeperOf_0 11 rfl rfl)
theorem dX1_outKeeperOf_13 : decode cX1_outKeeperOf 13 = .ok (.aload_n 0, 1) := dk_42 (dk_at dksX1_outKeeperOf_0 13 rfl rfl)
theorem dX1_outKeeperOf_14 : decode cX1_outKeeperOf 14 = .ok (.getfield 33, 3) := dk_180 0 33 (dk_at dksX1_outKeeperOf_0 14 rfl rfl)
theorem dX1_outKeeperOf_17 : decode cX1_outKeeperOf 17 = .ok (.getfield 257, 3) := dk_180 1 1 (dk_at dksX1_outKeeperOf_0 17 rfl rfl)
theorem dX1_outKeeperOf_20 : decode cX1_outKeeperOf 20 = .ok (.if_icmp .ge 48, 3) := dk_162 0 48 (dk_at dksX1_outKeeperOf_0 20 rfl rfl)
theorem dX1_outKeeperOf_23 : decode cX1_outKeeperOf 23 = .ok (.iload_n 2, 1) := dk_28 (dk_at dksX1_outKeeperOf_0 23 rfl rfl)
theorem dX1_outKeeperOf_24 : decode cX1_outKeeperOf 24 = .ok (.iload 4, 2) := dk_21 4 (dk_at dksX1_outKeeperOf_1 0 rfl rfl)
theorem dX1_outKeeperOf_26 : decode cX1_outKeeperOf 26 = .ok (.invokestatic 7, 3) := dk_184 0 7 (dk_at dksX1_outKeeperOf_1 2 rfl rfl)
theorem dX1_outKeeperOf_29 : decode cX1_outKeeperOf 29 = .ok (.ifCond .eq 33, 3) := dk_153 0 33 (dk_at dksX1_outKeeperOf_1 5 rfl rfl)
theorem dX1_outKeeperOf_32 : decode cX1_outKeeperOf 32 = .ok (.iload_n 3, 1) := dk_29 (dk_at dksX1_outKeeperOf_1 8 rfl rfl)
theorem dX1_outKeeperOf_33 : decode cX1_outKeeperOf 33 = .ok (.iconst (-1), 1) := dk_2 (dk_at dksX1_outKeeperOf_1 9 rfl rfl)
theorem dX1_outKeeperOf_34 : decode cX1_outKeeperOf 34 = .ok (.if_icmp .eq 25, 3) := dk_159 0 25 (dk_at dksX1_outKeeperOf_1 10 rfl rfl)
theorem dX1_outKeeperOf_37 : decode cX1_outKeeperOf 37 = .ok (.aload_n 0, 1) := dk_42 (dk_at dksX1_outKeeperOf_1 13 rfl rfl)
theorem dX1_outKeeperOf_38 : decode cX1_outKeeperOf 38 = .ok (.getfield 67, 3) := dk_180 0 67 (dk_at dksX1_outKeeperOf_1 14 rfl rfl)
theorem dX1_outKeeperOf_41 : decode cX1_outKeeperOf 41 = .ok (.iload 4, 2) := dk_21 4 (dk_at dksX1_outKeeperOf_1 17 rfl rfl)
theorem dX1_outKeeperOf_43 : decode cX1_outKeeperOf 43 = .ok (.iaload, 1) := dk_46 (dk_at dksX1_outKeeperOf_1 19 rfl rfl)
theorem dX1_outKeeperOf_44 : decode cX1_outKeeperOf 44 = .ok (.invokestatic 236, 3) := dk_184 0 236 (dk_at dksX1_outKeeperOf_1 20 rfl rfl)
theorem dX1_outKeeperOf_47 : decode cX1_outKeeperOf 47 = .ok (.aload_n 0, 1) := dk_42 (dk_at dksX1_outKeeperOf_1 23 rfl rfl)
theorem dX1_outKeeperOf_48 : decode cX1_outKeeperOf 48 = .ok (.getfield 67, 3) := dk_180 0 67 (dk_at dksX1_outKeeperOf_2 0 rfl rfl)
theorem dX1_outKeeperOf_51 : decode cX1_outKeeperOf 51 = .ok (.iload_n 3, 1) := dk_29 (dk_at dksX1_outKeeperOf_2 3 rfl rfl)
theorem dX1_outKeeperOf_52 : decode cX1_outKeeperOf 52 = .ok (.iaload, 1) := dk_46 (dk_at dksX1_outKeeperOf_2 4 rfl rfl)
theorem dX1_outKeeperOf_53 : decode cX1_outKeeperOf 53 = .ok (.invokestatic 236, 3) := dk_184 0 236 (dk_at dksX1_outKeeperOf_2 5 rfl rfl)
theorem dX1_outKeeperOf_56 : decode cX1_outKeeperOf 56 = .ok (.if_icmp .le 6, 3) := dk_164 0 6 (dk_at dksX1_outKeeperOf_2 8 rfl rfl)
theorem dX1_outKeeperOf_59 : decode cX1_outKeeperOf 59 = .ok (.iload 4, 2) := dk_21 4 (dk_at dksX1_outKeeperOf_2 11 rfl rfl)
theorem dX1_outKeeperOf_61 : decode cX1_outKeeperOf 61 = .ok (.istore_n 3, 1) := dk_62 (dk_at dksX1_outKeeperOf_2 13 rfl rfl)
theorem dX1_outKeeperOf_62 : decode cX1_outKeeperOf 62 = .ok (.iinc 4 1, 3) := dk_132 4 1 (dk_at dksX1_outKeeperOf_2 14 rfl rfl)
theorem dX1_outKeeperOf_65 : decode cX1_outKeeperOf 65 = .ok (.goto (-54), 3) := dk_167 255 202 (dk_at dksX1_outKeeperOf_2 17 rfl rfl)
theorem dX1_outKeeperOf_68 : decode cX1_outKeeperOf 68 = .ok (.iload_n 3, 1) := dk_29 (dk_at dksX1_outKeeperOf_2 20 rfl rfl)
theorem dX1_outKeeperOf_69 : decode cX1_outKeeperOf 69 = .ok (.ireturn, 1) := dk_172 (dk_at dksX1_outKeeperOf_2 21 rfl rfl)
abbrev cX1_hardOf : ByteArray := prog_1_method_43_code
def yX1_hardOf : MethodName := ⟨RX1, "hardOf", "(I)I"⟩
def dkwX1_hardOf_4 : List UInt8 := [180, 0, 218, 27, 182, 1, 58, 172]
abbrev dktX1_hardOf_4 : List UInt8 := dkwX1_hardOf_4 ++ []
def dkwX1_hardOf_3 : List UInt8 := [153, 0, 7, 4, 167, 0, 4, 3, 96, 79, 132, 2, 1, 167, 255, 195, 42, 180, 0, 63, 42, 180, 0, 33]
abbrev dktX1_hardOf_3 : List UInt8 := dkwX1_hardOf_3 ++ dktX1_hardOf_4
def dkwX1_hardOf_2 : List UInt8 := [28, 46, 50, 42, 180, 0, 33, 180, 0, 201, 28, 46, 92, 46, 42, 180, 0, 33, 180, 1, 54, 28, 51]
abbrev dktX1_hardOf_2 : List UInt8 := dkwX1_hardOf_2 ++ dktX1_hardOf_3
def dkwX1_hardOf_1 : List UInt8 := [42, 180, 0, 33, 180, 0, 230, 162, 0, 56, 42, 180, 0, 63, 180, 1, 50, 42, 180, 0, 33, 180, 0, 198]
abbrev dktX1_hardOf_1 : List UInt8 := dkwX1_hardOf_1 ++ dktX1_hardOf_2
def dkwX1_hardOf_0 : List UInt8 := [27, 42, 180, 0, 33, 180, 0, 218, 160, 0, 6, 16, 99, 172, 42, 180, 0, 63, 182, 1, 47, 3, 61, 28]
abbrev dktX1_hardOf_0 : List UInt8 := dkwX1_hardOf_0 ++ dktX1_hardOf_1
theorem dksX1_hardOf_0 : cX1_hardOf.data.toList.drop 0 = dktX1_hardOf_0 := by decide +kernel
theorem dksX1_hardOf_1 : cX1_hardOf.data.toList.drop 24 = dktX1_hardOf_1 := dk_seg dksX1_hardOf_0 24 rfl rfl
theorem dksX1_hardOf_2 : cX1_hardOf.data.toList.drop 48 = dktX1_hardOf_2 := dk_seg dksX1_hardOf_1 24 rfl rfl
theorem dksX1_hardOf_3 : cX1_hardOf.data.toList.drop 71 = dktX1_hardOf_3 := dk_seg dksX1_hardOf_2 23 rfl rfl
theorem dksX1_hardOf_4 : cX1_hardOf.data.toList.drop 95 = dktX1_hardOf_4 := dk_seg dksX1_hardOf_3 24 rfl rfl
theorem dX1_hardOf_0 : decode cX1_hardOf 0 = .ok (.iload_n 1, 1) := dk_27 (dk_at dksX1_hardOf_0 0 rfl rfl)
theorem dX1_hardOf_1 : decode cX1_hardOf 1 = .ok (.aload_n 0, 1) := dk_42 (dk_at dksX1_hardOf_0 1 rfl rfl)
theorem dX1_hardOf_2 : decode cX1_hardOf 2 = .ok (.getfield 33, 3) := dk_180 0 33 (dk_at dksX1_hardOf_0 2 rfl rfl)
theorem dX1_hardOf_5 : decode cX1_hardOf 5 = .ok (.getfield 218, 3) := dk_180 0 218 (dk_at dksX1_hardOf_0 5 rfl rfl)
theorem dX1_hardOf_8 : decode cX1_hardOf 8 = .ok (.if_icmp .ne 6, 3) := dk_160 0 6 (dk_at dksX1_hardOf_0 8 rfl rfl)
theorem dX1_hardOf_11 : decode cX1_hardOf 11 = .ok (.bipush 99, 2) := dk_16 99 (dk_at dksX1_hardOf_0 11 rfl rfl)
theorem dX1_hardOf_13 : decode cX1_hardOf 13 = .ok (.ireturn, 1) := dk_172 (dk_at dksX1_hardOf_0 13 rfl rfl)
theorem dX1_hardOf_14 : decode cX1_hardOf 14 = .ok (.aload_n 0, 1) := dk_42 (dk_at dksX1_hardOf_0 14 rfl rfl)
theorem dX1_hardOf_15 : decode cX1_hardOf 15 = .ok (.getfield 63, 3) := dk_180 0 63 (dk_at dksX1_hardOf_0 15 rfl rfl)
theorem dX1_hardOf_18 : decode cX1_hardOf 18 = .ok (.invokevirtual 303, 3) := dk_182 1 47 (dk_at dksX1_hardOf_0 18 rfl rfl)
theorem dX1_hardOf_21 : decode cX1_hardOf 21 = .ok (.iconst 0, 1) := dk_3 (dk_at dksX1_hardOf_0 21 rfl rfl)
theorem dX1_hardOf_22 : decode cX1_hardOf 22 = .ok (.istore_n 2, 1) := dk_61 (dk_at dksX1_hardOf_0 22 rfl rfl)
theorem dX1_hardOf_23 : decode cX1_hardOf 23 = .ok (.iload_n 2, 1) := dk_28 (dk_at dksX1_hardOf_0 23 rfl rfl)
theorem dX1_hardOf_24 : decode cX1_hardOf 24 = .ok (.aload_n 0, 1) := dk_42 (dk_at dksX1_hardOf_1 0 rfl rfl)
theorem dX1_hardOf_25 : decode cX1_hardOf 25 = .ok (.getfield 33, 3) := dk_180 0 33 (dk_at dksX1_hardOf_1 1 rfl rfl)
theorem dX1_hardOf_28 : decode cX1_hardOf 28 = .ok (.getfield 230, 3) := dk_180 0 230 (dk_at dksX1_hardOf_1 4 rfl rfl)
theorem dX1_hardOf_31 : decode cX1_hardOf 31 = .ok (.if_icmp .ge 56, 3) := dk_162 0 56 (dk_at dksX1_hardOf_1 7 rfl rfl)
theorem dX1_hardOf_34 : decode cX1_hardOf 34 = .ok (.aload_n 0, 1) := dk_42 (dk_at dksX1_hardOf_1 10 rfl rfl)
theorem dX1_hardOf_35 : decode cX1_hardOf 35 = .ok (.getfield 63, 3) := dk_180 0 63 (dk_at dksX1_hardOf_1 11 rfl rfl)
theorem dX1_hardOf_38 : decode cX1_hardOf 38 = .ok (.getfield 306, 3) := dk_180 1 50 (dk_at dksX1_hardOf_1 14 rfl rfl)
theorem dX1_hardOf_41 : decode cX1_hardOf 41 = .ok (.aload_n 0, 1) := dk_42 (dk_at dksX1_hardOf_1 17 rfl rfl)
theorem dX1_hardOf_42 : decode cX1_hardOf 42 = .ok (.getfield 33, 3) := dk_180 0 33 (dk_at dksX1_hardOf_1 18 rfl rfl)
theorem dX1_hardOf_45 : decode cX1_hardOf 45 = .ok (.getfield 198, 3) := dk_180 0 198 (dk_at dksX1_hardOf_1 21 rfl rfl)
theorem dX1_hardOf_48 : decode cX1_hardOf 48 = .ok (.iload_n 2, 1) := dk_28 (dk_at dksX1_hardOf_2 0 rfl rfl)
theorem dX1_hardOf_49 : decode cX1_hardOf 49 = .ok (.iaload, 1) := dk_46 (dk_at dksX1_hardOf_2 1 rfl rfl)
theorem dX1_hardOf_50 : decode cX1_hardOf 50 = .ok (.aaload, 1) := dk_50 (dk_at dksX1_hardOf_2 2 rfl rfl)
theorem dX1_hardOf_51 : decode cX1_hardOf 51 = .ok (.aload_n 0, 1) := dk_42 (dk_at dksX1_hardOf_2 3 rfl rfl)
theorem dX1_hardOf_52 : decode cX1_hardOf 52 = .ok (.getfield 33, 3) := dk_180 0 33 (dk_at dksX1_hardOf_2 4 rfl rfl)
theorem dX1_hardOf_55 : decode cX1_hardOf 55 = .ok (.getfield 201, 3) := dk_180 0 201 (dk_at dksX1_hardOf_2 7 rfl rfl)
theorem dX1_hardOf_58 : decode cX1_hardOf 58 = .ok (.iload_n 2, 1) := dk_28 (dk_at dksX1_hardOf_2 10 rfl rfl)
theorem dX1_hardOf_59 : decode cX1_hardOf 59 = .ok (.iaload, 1) := dk_46 (dk_at dksX1_hardOf_2 11 rfl rfl)
theorem dX1_hardOf_60 : decode cX1_hardOf 60 = .ok (.dup2, 1) := dk_92 (dk_at dksX1_hardOf_2 12 rfl rfl)
theorem dX1_hardOf_61 : decode cX1_hardOf 61 = .ok (.iaload, 1) := dk_46 (dk_at dksX1_hardOf_2 13 rfl rfl)
theorem dX1_hardOf_62 : decode cX1_hardOf 62 = .ok (.aload_n 0, 1) := dk_42 (dk_at dksX1_hardOf_2 14 rfl rfl)
theorem dX1_hardOf_63 : decode cX1_hardOf 63 = .ok (.getfield 33, 3) := dk_180 0 33 (dk_at dksX1_hardOf_2 15 rfl rfl)
theorem dX1_hardOf_66 : decode cX1_hardOf 66 = .ok (.getfield 310, 3) := dk_180 1 54 (dk_at dksX1_hardOf_2 18 rfl rfl)
theorem dX1_hardOf_69 : decode cX1_hardOf 69 = .ok (.iload_n 2, 1) := dk_28 (dk_at dksX1_hardOf_2 21 rfl rfl)
theorem dX1_hardOf_70 : decode cX1_hardOf 70 = .ok (.baload, 1) := dk_51 (dk_at dksX1_hardOf_2 22 rfl rfl)
theorem dX1_hardOf_71 : decode cX1_hardOf 71 = .ok (.ifCond .eq 7, 3) := dk_153 0 7 (dk_at dksX1_hardOf_3 0 rfl rfl)
theorem dX1_hardOf_74 : decode cX1_hardOf 74 = .ok (.iconst 1, 1) := dk_4 (dk_at dksX1_hardOf_3 3 rfl rfl)
theorem dX1_hardOf_75 : decode cX1_hardOf 75 = .ok (.goto 4, 3) := dk_167 0 4 (dk_at dksX1_hardOf_3 4 rfl rfl)
theorem dX1_hardOf_78 : decode cX1_hardOf 78 = .ok (.iconst 0, 1) := dk_3 (dk_at dksX1_hardOf_3 7 rfl rfl)
theorem dX1_hardOf_79 : decode cX1_hardOf 79 = .ok (.iadd, 1) := dk_96 (dk_at dksX1_hardOf_3 8 rfl rfl)
theorem dX1_hardOf_80 : decode cX1_hardOf 80 = .ok (.iastore, 1) := dk_79 (dk_at dksX1_hardOf_3 9 rfl rfl)
theorem dX1_hardOf_81 : decode cX1_hardOf 81 = .ok (.iinc 2 1, 3) := dk_132 2 1 (dk_at dksX1_hardOf_3 10 rfl rfl)
theorem dX1_hardOf_84 : decode cX1_hardOf 84 = .ok (.goto (-61), 3) := dk_167 255 195 (dk_at dksX1_hardOf_3 13 rfl rfl)
theorem dX1_hardOf_87 : decode cX1_hardOf 87 = .ok (.aload_n 0, 1) := dk_42 (dk_at dksX1_hardOf_3 16 rfl rfl)
theorem dX1_hardOf_88 : decode cX1_hardOf 88 = .ok (.getfield 63, 3) := dk_180 0 63 (dk_at dksX1_hardOf_3 17 rfl rfl)
theorem dX1_hardOf_91 : decode cX1_hardOf 91 = .ok (.aload_n 0, 1) := dk_42 (dk_at dksX1_hardOf_3 20 rfl rfl)
theorem dX1_hardOf_92 : decode cX1_hardOf 92 = .ok (.getfield 33, 3) := dk_180 0 33 (dk_at dksX1_hardOf_3 21 rfl rfl)
theorem dX1_hardOf_95 : decode cX1_hardOf 95 = .ok (.getfield 218, 3) := dk_180 0 218 (dk_at dksX1_hardOf_4 0 rfl rfl)
theorem dX1_hardOf_98 : decode cX1_hardOf 98 = .ok (.iload_n 1, 1) := dk_27 (dk_at dksX1_hardOf_4 3 rfl rfl)
theorem dX1_hardOf_99 : decode cX1_hardOf 99 = .ok (.invokevirtual 314, 3) := dk_182 1 58 (dk_at dksX1_hardOf_4 4 rfl rfl)
theorem dX1_hardOf_102 : decode cX1_hardOf 102 = .ok (.ireturn, 1) := dk_172 (dk_at dksX1_hardOf_4 7 rfl rfl)
abbrev cX1_wallOf : ByteArray := prog_1_method_44_code
def yX1_wallOf : MethodName := ⟨RX1, "wallOf", "(I)I"⟩
def dkwX1_wallOf_7 : List UInt8 := [182, 1, 58, 172]
abbrev dktX1_wallOf_7 : List UInt8 := dkwX1_wallOf_7 ++ []
def dkwX1_wallOf_6 : List UInt8 := [132, 3, 1, 167, 255, 206, 132, 2, 1, 167, 255, 151, 42, 180, 0, 63, 42, 180, 0, 33, 180, 0, 218, 27]
abbrev dktX1_wallOf_6 : List UInt8 := dkwX1_wallOf_6 ++ dktX1_wallOf_7
def dkwX1_wallOf_5 : List UInt8 := [180, 0, 33, 180, 1, 19, 28, 46, 29, 184, 0, 7, 153, 0, 8, 16, 16, 167, 0, 4, 3, 79]
abbrev dktX1_wallOf_5 : List UInt8 := dkwX1_wallOf_5 ++ dktX1_wallOf_6
def dkwX1_wallOf_4 : List UInt8 := [42, 180, 0, 33, 180, 1, 1, 162, 0, 45, 42, 180, 0, 63, 180, 1, 50, 16, 16, 28, 96, 50, 29, 42]
abbrev dktX1_wallOf_4 : List UInt8 := dkwX1_wallOf_4 ++ dktX1_wallOf_5
def dkwX1_wallOf_3 : List UInt8 := [180, 0, 33, 180, 0, 218, 159, 0, 8, 28, 27, 160, 0, 8, 16, 16, 167, 0, 4, 4, 79, 3, 62, 29]
abbrev dktX1_wallOf_3 : List UInt8 := dkwX1_wallOf_3 ++ dktX1_wallOf_4
def dkwX1_wallOf_2 : List UInt8 := [180, 0, 33, 180, 1, 1, 162, 0, 100, 42, 180, 0, 63, 180, 1, 50, 28, 50, 16, 16, 28, 96, 28, 42]
abbrev dktX1_wallOf_2 : List UInt8 := dkwX1_wallOf_2 ++ dktX1_wallOf_3
def dkwX1_wallOf_1 : List UInt8 := [180, 0, 218, 46, 27, 184, 0, 7, 153, 0, 5, 2, 172, 42, 180, 0, 63, 182, 1, 47, 3, 61, 28, 42]
abbrev dktX1_wallOf_1 : List UInt8 := dkwX1_wallOf_1 ++ dktX1_wallOf_2
def dkwX1_wallOf_0 : List UInt8 := [27, 42, 180, 0, 33, 180, 0, 218, 159, 0, 25, 42, 180, 0, 33, 180, 1, 19, 42, 180, 0, 33]
abbrev dktX1_wallOf_0 : List UInt8 := dkwX1_wallOf_0 ++ dktX1_wallOf_1
theorem dksX1_wallOf_0 : cX1_wallOf.data.toList.drop 0 = dktX1_wallOf_0 := by decide +kernel
theorem dksX1_wallOf_1 : cX1_wallOf.data.toList.drop 22 = dktX1_wallOf_1 := dk_seg dksX1_wallOf_0 22 rfl rfl
theorem dksX1_wallOf_2 : cX1_wallOf.data.toList.drop 46 = dktX1_wallOf_2 := dk_seg dksX1_wallOf_1 24 rfl rfl
theorem dksX1_wallOf_3 : cX1_wallOf.data.toList.drop 70 = dktX1_wallOf_3 := dk_seg dksX1_wallOf_2 24 rfl rfl
theorem dksX1_wallOf_4 : cX1_wallOf.data.toList.drop 94 = dktX1_wallOf_4 := dk_seg dksX1_wallOf_3 24 rfl rfl
theorem dksX1_wallOf_5 : cX1_wallOf.data.toList.drop 118 = dktX1_wallOf_5 := dk_seg dksX1_wallOf_4 24 rfl rfl
theorem dksX1_wallOf_6 : cX1_wallOf.data.toList.drop 140 = dktX1_wallOf_6 := dk_seg dksX1_wallOf_5 22 rfl rfl
theorem dksX1_wallOf_7 : cX1_wallOf.data.toList.drop 164 = dktX1_wallOf_7 := dk_seg dksX1_wallOf_6 24 rfl rfl
theorem dX1_wallOf_0 : decode cX1_wallOf 0 = .ok (.iload_n 1, 1) := dk_27 (dk_at dksX1_wallOf_0 0 rfl rfl)
theorem dX1_wallOf_1 : decode cX1_wallOf 1 = .ok (.aload_n 0, 1) := dk_42 (dk_at dksX1_wallOf_0 1 rfl rfl)
theorem dX1_wallOf_2 : decode cX1_wallOf 2 = .ok (.getfield 33, 3) := dk_180 0 33 (dk_at dksX1_wallOf_0 2 rfl rfl)
theorem dX1_wallOf_5 : decode cX1_wallOf 5 = .ok (.getfield 218, 3) := dk_180 0 218 (dk_at dksX1_wallOf_0 5 rfl rfl)
theorem dX1_wallOf_8 : decode cX1_wallOf 8 = .ok (.if_icmp .eq 25, 3) := dk_159 0 25 (dk_at dksX1_wallOf_0 8 rfl rfl)
theorem dX1_wallOf_11 : decode cX1_wallOf 11 = .ok (.aload_n 0, 1) := dk_42 (dk_at dksX1_wallOf_0 11 rfl rfl)
theorem dX1_wallOf_12 : decode cX1_wallOf 12 = .ok (.getfield 33, 3) := dk_180 0 33 (dk_at dksX1_wallOf_0 12 rfl rfl)
theorem dX1_wallOf_15 : decode cX1_wallOf 15 = .ok (.getfield 275, 3) := dk_180 1 19 (dk_at dksX1_wallOf_0 15 rfl rfl)
theorem dX1_wallOf_18 : decode cX1_wallOf 18 = .ok (.aload_n 0, 1) := dk_42 (dk_at dksX1_wallOf_0 18 rfl rfl)
theorem dX1_wallOf_19 : decode cX1_wallOf 19 = .ok (.getfield 33, 3) := dk_180 0 33 (dk_at dksX1_wallOf_0 19 rfl rfl)
theorem dX1_wallOf_22 : decode cX1_wallOf 22 = .ok (.getfield 218, 3) := dk_180 0 218 (dk_at dksX1_wallOf_1 0 rfl rfl)
theorem dX1_wallOf_25 : decode cX1_wallOf 25 = .ok (.iaload, 1) := dk_46 (dk_at dksX1_wallOf_1 3 rfl rfl)
theorem dX1_wallOf_26 : decode cX1_wallOf 26 = .ok (.iload_n 1, 1) := dk_27 (dk_at dksX1_wallOf_1 4 rfl rfl)
theorem dX1_wallOf_27 : decode cX1_wallOf 27 = .ok (.invokestatic 7, 3) := dk_184 0 7 (dk_at dksX1_wallOf_1 5 rfl rfl)
theorem dX1_wallOf_30 : decode cX1_wallOf 30 = .ok (.ifCond .eq 5, 3) := dk_153 0 5 (dk_at dksX1_wallOf_1 8 rfl rfl)
theorem dX1_wallOf_33 : decode cX1_wallOf 33 = .ok (.iconst (-1), 1) := dk_2 (dk_at dksX1_wallOf_1 11 rfl rfl)
theorem dX1_wallOf_34 : decode cX1_wallOf 34 = .ok (.ireturn, 1) := dk_172 (dk_at dksX1_wallOf_1 12 rfl rfl)
theorem dX1_wallOf_35 : decode cX1_wallOf 35 = .ok (.aload_n 0, 1) := dk_42 (dk_at dksX1_wallOf_1 13 rfl rfl)
theorem dX1_wallOf_36 : decode cX1_wallOf 36 = .ok (.getfield 63, 3) := dk_180 0 63 (dk_at dksX1_wallOf_1 14 rfl rfl)
theorem dX1_wallOf_39 : decode cX1_wallOf 39 = .ok (.invokevirtual 303, 3) := dk_182 1 47 (dk_at dksX1_wallOf_1 17 rfl rfl)
theorem dX1_wallOf_42 : decode cX1_wallOf 42 = .ok (.iconst 0, 1) := dk_3 (dk_at dksX1_wallOf_1 20 rfl rfl)
theorem dX1_wallOf_43 : decode cX1_wallOf 43 = .ok (.istore_n 2, 1) := dk_61 (dk_at dksX1_wallOf_1 21 rfl rfl)
theorem dX1_wallOf_44 : decode cX1_wallOf 44 = .ok (.iload_n 2, 1) := dk_28 (dk_at dksX1_wallOf_1 22 rfl rfl)
theorem dX1_wallOf_45 : decode cX1_wallOf 45 = .ok (.aload_n 0, 1) := dk_42 (dk_at dksX1_wallOf_1 23 rfl rfl)
theorem dX1_wallOf_46 : decode cX1_wallOf 46 = .ok (.getfield 33, 3) := dk_180 0 33 (dk_at dksX1_wallOf_2 0 rfl rfl)
theorem dX1_wallOf_49 : decode cX1_wallOf 49 = .ok (.getfield 257, 3) := dk_180 1 1 (dk_at dksX1_wallOf_2 3 rfl rfl)
theorem dX1_wallOf_52 : decode cX1_wallOf 52 = .ok (.if_icmp .ge 100, 3) := dk_162 0 100 (dk_at dksX1_wallOf_2 6 rfl rfl)
theorem dX1_wallOf_55 : decode cX1_wallOf 55 = .ok (.aload_n 0, 1) := dk_42 (dk_at dksX1_wallOf_2 9 rfl rfl)
theorem dX1_wallOf_56 : decode cX1_wallOf 56 = .ok (.getfield 63, 3) := dk_180 0 63 (dk_at dksX1_wallOf_2 10 rfl rfl)
theorem dX1_wallOf_59 : decode cX1_wallOf 59 = .ok (.getfield 306, 3) := dk_180 1 50 (dk_at dksX1_wallOf_2 13 rfl rfl)
theorem dX1_wallOf_62 : decode cX1_wallOf 62 = .ok (.iload_n 2, 1) := dk_28 (dk_at dksX1_wallOf_2 16 rfl rfl)
theorem dX1_wallOf_63 : decode cX1_wallOf 63 = .ok (.aaload, 1) := dk_50 (dk_at dksX1_wallOf_2 17 rfl rfl)
theorem dX1_wallOf_64 : decode cX1_wallOf 64 = .ok (.bipush 16, 2) := dk_16 16 (dk_at dksX1_wallOf_2 18 rfl rfl)
theorem dX1_wallOf_66 : decode cX1_wallOf 66 = .ok (.iload_n 2, 1) := dk_28 (dk_at dksX1_wallOf_2 20 rfl rfl)
theorem dX1_wallOf_67 : decode cX1_wallOf 67 = .ok (.iadd, 1) := dk_96 (dk_at dksX1_wallOf_2 21 rfl rfl)
theorem dX1_wallOf_68 : decode cX1_wallOf 68 = .ok (.iload_n 2, 1) := dk_28 (dk_at dksX1_wallOf_2 22 rfl rfl)
theorem dX1_wallOf_69 : decode cX1_wallOf 69 = .ok (.aload_n 0, 1) := dk_42 (dk_at dksX1_wallOf_2 23 rfl rfl)
theorem dX1_wallOf_70 : decode cX1_wallOf 70 = .ok (.getfield 33, 3) := dk_180 0 33 (dk_at dksX1_wallOf_3 0 rfl rfl)
theorem dX1_wallOf_73 : decode cX1_wallOf 73 = .ok (.getfield 218, 3) := dk_180 0 218 (dk_at dksX1_wallOf_3 3 rfl rfl)
theorem dX1_wallOf_76 : decode cX1_wallOf 76 = .ok (.if_icmp .eq 8, 3) := dk_159 0 8 (dk_at dksX1_wallOf_3 6 rfl rfl)
theorem dX1_wallOf_79 : decode cX1_wallOf 79 = .ok (.iload_n 2, 1) := dk_28 (dk_at dksX1_wallOf_3 9 rfl rfl)
theorem dX1_wallOf_80 : decode cX1_wallOf 80 = .ok (.iload_n 1, 1) := dk_27 (dk_at dksX1_wallOf_3 10 rfl rfl)
theorem dX1_wallOf_81 : decode cX1_wallOf 81 = .ok (.if_icmp .ne 8, 3) := dk_160 0 8 (dk_at dksX1_wallOf_3 11 rfl rfl)
theorem dX1_wallOf_84 : decode cX1_wallOf 84 = .ok (.bipush 16, 2) := dk_16 16 (dk_at dksX1_wallOf_3 14 rfl rfl)
theorem dX1_wallOf_86 : decode cX1_wallOf 86 = .ok (.goto 4, 3) := dk_167 0 4 (dk_at dksX1_wallOf_3 16 rfl rfl)
theorem dX1_wallOf_89 : decode cX1_wallOf 89 = .ok (.iconst 1, 1) := dk_4 (dk_at dksX1_wallOf_3 19 rfl rfl)
theorem dX1_wallOf_90 : decode cX1_wallOf 90 = .ok (.iastore, 1) := dk_79 (dk_at dksX1_wallOf_3 20 rfl rfl)
theorem dX1_wallOf_91 : decode cX1_wallOf 91 = .ok (.iconst 0, 1) := dk_3 (dk_at dksX1_wallOf_3 21 rfl rfl)
theorem dX1_wallOf_92 : decode cX1_wallOf 92 = .ok (.istore_n 3, 1) := dk_62 (dk_at dksX1_wallOf_3 22 rfl rfl)
theorem dX1_wallOf_93 : decode cX1_wallOf 93 = .ok (.iload_n 3, 1) := dk_29 (dk_at dksX1_wallOf_3 23 rfl rfl)
theorem dX1_wallOf_94 : decode cX1_wallOf 94 = .ok (.aload_n 0, 1) := dk_42 (dk_at dksX1_wallOf_4 0 rfl rfl)
theorem dX1_wallOf_95 : decode cX1_wallOf 95 = .ok (.getfield 33, 3) := dk_180 0 33 (dk_at dksX1_wallOf_4 1 rfl rfl)
theorem dX1_wallOf_98 : decode cX1_wallOf 98 = .ok (.getfield 257, 3) := dk_180 1 1 (dk_at dksX1_wallOf_4 4 rfl rfl)
theorem dX1_wallOf_101 : decode cX1_wallOf 101 = .ok (.if_icmp .ge 45, 3) := dk_162 0 45 (dk_at dksX1_wallOf_4 7 rfl rfl)
theorem dX1_wallOf_104 : decode cX1_wallOf 104 = .ok (.aload_n 0, 1) := dk_42 (dk_at dksX1_wallOf_4 10 rfl rfl)
theorem dX1_wallOf_105 : decode cX1_wallOf 105 = .ok (.getfield 63, 3) := dk_180 0 63 (dk_at dksX1_wallOf_4 11 rfl rfl)
theorem dX1_wallOf_108 : decode cX1_wallOf 108 = .ok (.getfield 306, 3) := dk_180 1 50 (dk_at dksX1_wallOf_4 14 rfl rfl)
theorem dX1_wallOf_111 : decode cX1_wallOf 111 = .ok (.bipush 16, 2) := dk_16 16 (dk_at dksX1_wallOf_4 17 rfl rfl)
theorem dX1_wallOf_113 : decode cX1_wallOf 113 = .ok (.iload_n 2, 1) := dk_28 (dk_at dksX1_wallOf_4 19 rfl rfl)
theorem dX1_wallOf_114 : decode cX1_wallOf 114 = .ok (.iadd, 1) := dk_96 (dk_at dksX1_wallOf_4 20 rfl rfl)
theorem dX1_wallOf_115 : decode cX1_wallOf 115 = .ok (.aaload, 1) := dk_50 (dk_at dksX1_wallOf_4 21 rfl rfl)
theorem dX1_wallOf_116 : decode cX1_wallOf 116 = .ok (.iload_n 3, 1) := dk_29 (dk_at dksX1_wallOf_4 22 rfl rfl)
theorem dX1_wallOf_117 : decode cX1_wallOf 117 = .ok (.aload_n 0, 1) := dk_42 (dk_at dksX1_wallOf_4 23 rfl rfl)
theorem dX1_wallOf_118 : decode cX1_wallOf 118 = .ok (.getfield 33, 3) := dk_180 0 33 (dk_at dksX1_wallOf_5 0 rfl rfl)
theorem dX1_wallOf_121 : decode cX1_wallOf 121 = .ok (.getfield 275, 3) := dk_180 1 19 (dk_at dksX1_wallOf_5 3 rfl rfl)
theorem dX1_wallOf_124 : decode cX1_wallOf 124 = .ok (.iload_n 2, 1) := dk_28 (dk_at dksX1_wallOf_5 6 rfl rfl)
theorem dX1_wallOf_125 : decode cX1_wallOf 125 = .ok (.iaload, 1) := dk_46 (dk_at dksX1_wallOf_5 7 rfl rfl)
theorem dX1_wallOf_126 : decode cX1_wallOf 126 = .ok (.iload_n 3, 1) := dk_29 (dk_at dksX1_wallOf_5 8 rfl rfl)
theorem dX1_wallOf_127 : decode cX1_wallOf 127 = .ok (.invokestatic 7, 3) := dk_184 0 7 (dk_at dksX1_wallOf_5 9 rfl rfl)
theorem dX1_wallOf_130 : decode cX1_wallOf 130 = .ok (.ifCond .eq 8, 3) := dk_153 0 8 (dk_at dksX1_wallOf_5 12 rfl rfl)
theorem dX1_wallOf_133 : decode cX1_wallOf 133 = .ok (.bipush 16, 2) := dk_16 16 (dk_at dksX1_wallOf_5 15 rfl rfl)
theorem dX1_wallOf_135 : decode cX1_wallOf 135 = .ok (.goto 4, 3) := dk_167 0 4 (dk_at dksX1_wallOf_5 17 rfl rfl)
theorem dX1_wallOf_138 : decode cX1_wallOf 138 = .ok (.iconst 0, 1) := dk_3 (dk_at dksX1_wallOf_5 20 rfl rfl)
theorem dX1_wallOf_139 : decode cX1_wallOf 139 = .ok (.iastore, 1) := dk_79 (dk_at dksX1_wallOf_5 21 rfl rfl)
theorem dX1_wallOf_140 : decode cX1_wallOf 140 = .ok (.iinc 3 1, 3) := dk_132 3 1 (dk_at dksX1_wallOf_6 0 rfl rfl)
theorem dX1_wallOf_143 : decode cX1_wallOf 143 = .ok (.goto (-50), 3) := dk_167 255 206 (dk_at dksX1_wallOf_6 3 rfl rfl)
theorem dX1_wallOf_146 : decode cX1_wallOf 146 = .ok (.iinc 2 1, 3) := dk_132 2 1 (dk_at dksX1_wallOf_6 6 rfl rfl)
theorem dX1_wallOf_149 : decode cX1_wallOf 149 = .ok (.goto (-105), 3) := dk_167 255 151 (dk_at dksX1_wallOf_6 9 rfl rfl)
theorem dX1_wallOf_152 : decode cX1_wallOf 152 = .ok (.aload_n 0, 1) := dk_42 (dk_at dksX1_wallOf_6 12 rfl rfl)
theorem dX1_wallOf_153 : decode cX1_wallOf 153 = .ok (.getfield 63, 3) := dk_180 0 63 (dk_at dksX1_wallOf_6 13 rfl rfl)
theorem dX1_wallOf_156 : decode cX1_wallOf 156 = .ok (.aload_n 0, 1) := dk_42 (dk_at dksX1_wallOf_6 16 rfl rfl)
theorem dX1_wallOf_157 : decode cX1_wallOf 157 = .ok (.getfield 33, 3) := dk_180 0 33 (dk_at dksX1_wallOf_6 17 rfl rfl)
theorem dX1_wallOf_160 : decode cX1_wallOf 160 = .ok (.getfield 218, 3) := dk_180 0 218 (dk_at dksX1_wallOf_6 20 rfl rfl)
theorem dX1_wallOf_163 : decode cX1_wallOf 163 = .ok (.iload_n 1, 1) := dk_27 (dk_at dksX1_wallOf_6 23 rfl rfl)
theorem dX1_wallOf_164 : decode cX1_wallOf 164 = .ok (.invokevirtual 314, 3) := dk_182 1 58 (dk_at dksX1_wallOf_7 0 rfl rfl)
theorem dX1_wallOf_167 : decode cX1_wallOf 167 = .ok (.ireturn, 1) := dk_172 (dk_at dksX1_wallOf_7 3 rfl rfl)
abbrev cX1_feeOf : ByteArray := prog_1_method_46_code
def yX1_feeOf : MethodName := ⟨RX1, "feeOf", "(I)I"⟩
def dkwX1_feeOf_1 : List UInt8 := [167, 0, 16, 42, 42, 180, 0, 50, 180, 1, 63, 27, 46, 182, 1, 94, 96, 172]
abbrev dktX1_feeOf_1 : List UInt8 := dkwX1_feeOf_1 ++ []
def dkwX1_feeOf_0 : List UInt8 := [42, 180, 0, 33, 180, 0, 245, 27, 46, 42, 180, 0, 50, 180, 1, 63, 27, 46, 2, 160, 0, 7, 3]
abbrev dktX1_feeOf_0 : List UInt8 := dkwX1_feeOf_0 ++ dktX1_feeOf_1
theorem dksX1_feeOf_0 : cX1_feeOf.data.toList.drop 0 = dktX1_feeOf_0 := by decide +kernel
theorem dksX1_feeOf_1 : cX1_feeOf.data.toList.drop 23 = dktX1_feeOf_1 := dk_seg dksX1_feeOf_0 23 rfl rfl
theorem dX1_feeOf_0 : decode cX1_feeOf 0 = .ok (.aload_n 0, 1) := dk_42 (dk_at dksX1_feeOf_0 0 rfl rfl)
theorem dX1_feeOf_1 : decode cX1_feeOf 1 = .ok (.getfield 33, 3) := dk_180 0 33 (dk_at dksX1_feeOf_0 1 rfl rfl)
theorem dX1_feeOf_4 : decode cX1_feeOf 4 = .ok (.getfield 245, 3) := dk_180 0 245 (dk_at dksX1_feeOf_0 4 rfl rfl)
theorem dX1_feeOf_7 : decode cX1_feeOf 7 = .ok (.iload_n 1, 1) := dk_27 (dk_at dksX1_feeOf_0 7 rfl rfl)
theorem dX1_feeOf_8 : decode cX1_feeOf 8 = .ok (.iaload, 1) := dk_46 (dk_at dksX1_feeOf_0 8 rfl rfl)
theorem dX1_feeOf_9 : decode cX1_feeOf 9 = .ok (.aload_n 0, 1) := dk_42 (dk_at dksX1_feeOf_0 9 rfl rfl)
theorem dX1_feeOf_10 : decode cX1_feeOf 10 = .ok (.getfield 50, 3) := dk_180 0 50 (dk_at dksX1_feeOf_0 10 rfl rfl)
theorem dX1_feeOf_13 : decode cX1_feeOf 13 = .ok (.getfield 319, 3) := dk_180 1 63 (dk_at dksX1_feeOf_0 13 rfl rfl)
theorem dX1_feeOf_16 : decode cX1_feeOf 16 = .ok (.iload_n 1, 1) := dk_27 (dk_at dksX1_feeOf_0 16 rfl rfl)
theorem dX1_feeOf_17 : decode cX1_feeOf 17 = .ok (.iaload, 1) := dk_46 (dk_at dksX1_feeOf_0 17 rfl rfl)
theorem dX1_feeOf_18 : decode cX1_feeOf 18 = .ok (.iconst (-1), 1) := dk_2 (dk_at dksX1_feeOf_0 18 rfl rfl)
theorem dX1_feeOf_19 : decode cX1_feeOf 19 = .ok (.if_icmp .ne 7, 3) := dk_160 0 7 (dk_at dksX1_feeOf_0 19 rfl rfl)
theorem dX1_feeOf_22 : decode cX1_feeOf 22 = .ok (.iconst 0, 1) := dk_3 (dk_at dksX1_feeOf_0 22 rfl rfl)
theorem dX1_feeOf_23 : decode cX1_feeOf 23 = .ok (.goto 16, 3) := dk_167 0 16 (dk_at dksX1_feeOf_1 0 rfl rfl)
theorem dX1_feeOf_26 : decode cX1_feeOf 26 = .ok (.aload_n 0, 1) := dk_42 (dk_at dksX1_feeOf_1 3 rfl rfl)
theorem dX1_feeOf_27 : decode cX1_feeOf 27 = .ok (.aload_n 0, 1) := dk_42 (dk_at dksX1_feeOf_1 4 rfl rfl)
theorem dX1_feeOf_28 : decode cX1_feeOf 28 = .ok (.getfield 50, 3) := dk_180 0 50 (dk_at dksX1_feeOf_1 5 rfl rfl)
theorem dX1_feeOf_31 : decode cX1_feeOf 31 = .ok (.getfield 319, 3) := dk_180 1 63 (dk_at dksX1_feeOf_1 8 rfl rfl)
theorem dX1_feeOf_34 : decode cX1_feeOf 34 = .ok (.iload_n 1, 1) := dk_27 (dk_at dksX1_feeOf_1 11 rfl rfl)
theorem dX1_feeOf_35 : decode cX1_feeOf 35 = .ok (.iaload, 1) := dk_46 (dk_at dksX1_feeOf_1 12 rfl rfl)
theorem dX1_feeOf_36 : decode cX1_feeOf 36 = .ok (.invokevirtual 350, 3) := dk_182 1 94 (dk_at dksX1_feeOf_1 13 rfl rfl)
theorem dX1_feeOf_39 : decode cX1_feeOf 39 = .ok (.iadd, 1) := dk_96 (dk_at dksX1_feeOf_1 16 rfl rfl)
theorem dX1_feeOf_40 : decode cX1_feeOf 40 = .ok (.ireturn, 1) := dk_172 (dk_at dksX1_feeOf_1 17 rfl rfl)
abbrev cX1_fareOf : ByteArray := prog_1_method_47_code
def yX1_fareOf : MethodName := ⟨RX1, "fareOf", "(I)I"⟩
def dkwX1_fareOf_8 : List UInt8 := [167, 255, 113, 42, 180, 0, 82, 27, 46, 172]
abbrev dktX1_fareOf_8 : List UInt8 := dkwX1_fareOf_8 ++ []
def dkwX1_fareOf_7 : List UInt8 := [180, 0, 245, 21, 4, 46, 96, 79, 132, 4, 1, 167, 255, 152, 132, 3, 1, 167, 255, 132, 132, 2, 1]
abbrev dktX1_fareOf_7 : List UInt8 := dkwX1_fareOf_7 ++ dktX1_fareOf_8
def dkwX1_fareOf_6 : List UInt8 := [21, 4, 46, 96, 164, 0, 27, 42, 180, 0, 82, 21, 4, 42, 180, 0, 82, 29, 46, 42, 180, 0, 33]
abbrev dktX1_fareOf_6 : List UInt8 := dkwX1_fareOf_6 ++ dktX1_fareOf_7
def dkwX1_fareOf_5 : List UInt8 := [2, 159, 0, 30, 42, 180, 0, 82, 21, 4, 46, 42, 180, 0, 82, 29, 46, 42, 180, 0, 33, 180, 0, 245]
abbrev dktX1_fareOf_5 : List UInt8 := dkwX1_fareOf_5 ++ dktX1_fareOf_6
def dkwX1_fareOf_4 : List UInt8 := [42, 180, 0, 33, 180, 1, 19, 29, 46, 21, 4, 184, 0, 7, 153, 0, 65, 42, 180, 0, 82, 21, 4, 46]
abbrev dktX1_fareOf_4 : List UInt8 := dkwX1_fareOf_4 ++ dktX1_fareOf_5
def dkwX1_fareOf_3 : List UInt8 := [54, 4, 21, 4, 42, 180, 0, 33, 180, 1, 1, 162, 0, 98, 42, 180, 0, 82, 29, 46, 2, 159, 0, 88]
abbrev dktX1_fareOf_3 : List UInt8 := dkwX1_fareOf_3 ++ dktX1_fareOf_4
def dkwX1_fareOf_2 : List UInt8 := [180, 0, 33, 180, 1, 1, 162, 0, 138, 3, 62, 29, 42, 180, 0, 33, 180, 1, 1, 162, 0, 119, 3]
abbrev dktX1_fareOf_2 : List UInt8 := dkwX1_fareOf_2 ++ dktX1_fareOf_3
def dkwX1_fareOf_1 : List UInt8 := [42, 180, 0, 33, 180, 0, 245, 28, 46, 167, 0, 4, 2, 79, 132, 2, 1, 167, 255, 217, 3, 61, 28, 42]
abbrev dktX1_fareOf_1 : List UInt8 := dkwX1_fareOf_1 ++ dktX1_fareOf_2
def dkwX1_fareOf_0 : List UInt8 := [3, 61, 28, 16, 16, 162, 0, 39, 42, 180, 0, 82, 28, 28, 42, 180, 0, 33, 180, 0, 218, 160, 0, 15]
abbrev dktX1_fareOf_0 : List UInt8 := dkwX1_fareOf_0 ++ dktX1_fareOf_1
theorem dksX1_fareOf_0 : cX1_fareOf.data.toList.drop 0 = dktX1_fareOf_0 := by decide +kernel
theorem dksX1_fareOf_1 : cX1_fareOf.data.toList.drop 24 = dktX1_fareOf_1 := dk_seg dksX1_fareOf_0 24 rfl rfl
theorem dksX1_fareOf_2 : cX1_fareOf.data.toList.drop 48 = dktX1_fareOf_2 := dk_seg dksX1_fareOf_1 24 rfl rfl
theorem dksX1_fareOf_3 : cX1_fareOf.data.toList.drop 71 = dktX1_fareOf_3 := dk_seg dksX1_fareOf_2 23 rfl rfl
theorem dksX1_fareOf_4 : cX1_fareOf.data.toList.drop 95 = dktX1_fareOf_4 := dk_seg dksX1_fareOf_3 24 rfl rfl
theorem dksX1_fareOf_5 : cX1_fareOf.data.toList.drop 119 = dktX1_fareOf_5 := dk_seg dksX1_fareOf_4 24 rfl rfl
theorem dksX1_fareOf_6 : cX1_fareOf.data.toList.drop 143 = dktX1_fareOf_6 := dk_seg dksX1_fareOf_5 24 rfl rfl
theorem dksX1_fareOf_7 : cX1_fareOf.data.toList.drop 166 = dktX1_fareOf_7 := dk_seg dksX1_fareOf_6 23 rfl rfl
theorem dksX1_fareOf_8 : cX1_fareOf.data.toList.drop 189 = dktX1_fareOf_8 := dk_seg dksX1_fareOf_7 23 rfl rfl
theorem dX1_fareOf_0 : decode cX1_fareOf 0 = .ok (.iconst 0, 1) := dk_3 (dk_at dksX1_fareOf_0 0 rfl rfl)
theorem dX1_fareOf_1 : decode cX1_fareOf 1 = .ok (.istore_n 2, 1) := dk_61 (dk_at dksX1_fareOf_0 1 rfl rfl)
theorem dX1_fareOf_2 : decode cX1_fareOf 2 = .ok (.iload_n 2, 1) := dk_28 (dk_at dksX1_fareOf_0 2 rfl rfl)
theorem dX1_fareOf_3 : decode cX1_fareOf 3 = .ok (.bipush 16, 2) := dk_16 16 (dk_at dksX1_fareOf_0 3 rfl rfl)
theorem dX1_fareOf_5 : decode cX1_fareOf 5 = .ok (.if_icmp .ge 39, 3) := dk_162 0 39 (dk_at dksX1_fareOf_0 5 rfl rfl)
theorem dX1_fareOf_8 : decode cX1_fareOf 8 = .ok (.aload_n 0, 1) := dk_42 (dk_at dksX1_fareOf_0 8 rfl rfl)
theorem dX1_fareOf_9 : decode cX1_fareOf 9 = .ok (.getfield 82, 3) := dk_180 0 82 (dk_at dksX1_fareOf_0 9 rfl rfl)
theorem dX1_fareOf_12 : decode cX1_fareOf 12 = .ok (.iload_n 2, 1) := dk_28 (dk_at dksX1_fareOf_0 12 rfl rfl)
theorem dX1_fareOf_13 : decode cX1_fareOf 13 = .ok (.iload_n 2, 1) := dk_28 (dk_at dksX1_fareOf_0 13 rfl rfl)
theorem dX1_fareOf_14 : decode cX1_fareOf 14 = .ok (.aload_n 0, 1) := dk_42 (dk_at dksX1_fareOf_0 14 rfl rfl)
theorem dX1_fareOf_15 : decode cX1_fareOf 15 = .ok (.getfield 33, 3) := dk_180 0 33 (dk_at dksX1_fareOf_0 15 rfl rfl)
theorem dX1_fareOf_18 : decode cX1_fareOf 18 = .ok (.getfield 218, 3) := dk_180 0 218 (dk_at dksX1_fareOf_0 18 rfl rfl)
theorem dX1_fareOf_21 : decode cX1_fareOf 21 = .ok (.if_icmp .ne 15, 3) := dk_160 0 15 (dk_at dksX1_fareOf_0 21 rfl rfl)
theorem dX1_fareOf_24 : decode cX1_fareOf 24 = .ok (.aload_n 0, 1) := dk_42 (dk_at dksX1_fareOf_1 0 rfl rfl)
theorem dX1_fareOf_25 : decode cX1_fareOf 25 = .ok (.getfield 33, 3) := dk_180 0 33 (dk_at dksX1_fareOf_1 1 rfl rfl)
theorem dX1_fareOf_28 : decode cX1_fareOf 28 = .ok (.getfield 245, 3) := dk_180 0 245 (dk_at dksX1_fareOf_1 4 rfl rfl)
theorem dX1_fareOf_31 : decode cX1_fareOf 31 = .ok (.iload_n 2, 1) := dk_28 (dk_at dksX1_fareOf_1 7 rfl rfl)
theorem dX1_fareOf_32 : decode cX1_fareOf 32 = .ok (.iaload, 1) := dk_46 (dk_at dksX1_fareOf_1 8 rfl rfl)
theorem dX1_fareOf_33 : decode cX1_fareOf 33 = .ok (.goto 4, 3) := dk_167 0 4 (dk_at dksX1_fareOf_1 9 rfl rfl)
theorem dX1_fareOf_36 : decode cX1_fareOf 36 = .ok (.iconst (-1), 1) := dk_2 (dk_at dksX1_fareOf_1 12 rfl rfl)
theorem dX1_fareOf_37 : decode cX1_fareOf 37 = .ok (.iastore, 1) := dk_79 (dk_at dksX1_fareOf_1 13 rfl rfl)
theorem dX1_fareOf_38 : decode cX1_fareOf 38 = .ok (.iinc 2 1, 3) := dk_132 2 1 (dk_at dksX1_fareOf_1 14 rfl rfl)
theorem dX1_fareOf_41 : decode cX1_fareOf 41 = .ok (.goto (-39), 3) := dk_167 255 217 (dk_at dksX1_fareOf_1 17 rfl rfl)
theorem dX1_fareOf_44 : decode cX1_fareOf 44 = .ok (.iconst 0, 1) := dk_3 (dk_at dksX1_fareOf_1 20 rfl rfl)
theorem dX1_fareOf_45 : decode cX1_fareOf 45 = .ok (.istore_n 2, 1) := dk_61 (dk_at dksX1_fareOf_1 21 rfl rfl)
theorem dX1_fareOf_46 : decode cX1_fareOf 46 = .ok (.iload_n 2, 1) := dk_28 (dk_at dksX1_fareOf_1 22 rfl rfl)
theorem dX1_fareOf_47 : decode cX1_fareOf 47 = .ok (.aload_n 0, 1) := dk_42 (dk_at dksX1_fareOf_1 23 rfl rfl)
theorem dX1_fareOf_48 : decode cX1_fareOf 48 = .ok (.getfield 33, 3) := dk_180 0 33 (dk_at dksX1_fareOf_2 0 rfl rfl)
theorem dX1_fareOf_51 : decode cX1_fareOf 51 = .ok (.getfield 257, 3) := dk_180 1 1 (dk_at dksX1_fareOf_2 3 rfl rfl)
theorem dX1_fareOf_54 : decode cX1_fareOf 54 = .ok (.if_icmp .ge 138, 3) := dk_162 0 138 (dk_at dksX1_fareOf_2 6 rfl rfl)
theorem dX1_fareOf_57 : decode cX1_fareOf 57 = .ok (.iconst 0, 1) := dk_3 (dk_at dksX1_fareOf_2 9 rfl rfl)
theorem dX1_fareOf_58 : decode cX1_fareOf 58 = .ok (.istore_n 3, 1) := dk_62 (dk_at dksX1_fareOf_2 10 rfl rfl)
theorem dX1_fareOf_59 : decode cX1_fareOf 59 = .ok (.iload_n 3, 1) := dk_29 (dk_at dksX1_fareOf_2 11 rfl rfl)
theorem dX1_fareOf_60 : decode cX1_fareOf 60 = .ok (.aload_n 0, 1) := dk_42 (dk_at dksX1_fareOf_2 12 rfl rfl)
theorem dX1_fareOf_61 : decode cX1_fareOf 61 = .ok (.getfield 33, 3) := dk_180 0 33 (dk_at dksX1_fareOf_2 13 rfl rfl)
theorem dX1_fareOf_64 : decode cX1_fareOf 64 = .ok (.getfield 257, 3) := dk_180 1 1 (dk_at dksX1_fareOf_2 16 rfl rfl)
theorem dX1_fareOf_67 : decode cX1_fareOf 67 = .ok (.if_icmp .ge 119, 3) := dk_162 0 119 (dk_at dksX1_fareOf_2 19 rfl rfl)
theorem dX1_fareOf_70 : decode cX1_fareOf 70 = .ok (.iconst 0, 1) := dk_3 (dk_at dksX1_fareOf_2 22 rfl rfl)
theorem dX1_fareOf_71 : decode cX1_fareOf 71 = .ok (.istore 4, 2) := dk_54 4 (dk_at dksX1_fareOf_3 0 rfl rfl)
theorem dX1_fareOf_73 : decode cX1_fareOf 73 = .ok (.iload 4, 2) := dk_21 4 (dk_at dksX1_fareOf_3 2 rfl rfl)
theorem dX1_fareOf_75 : decode cX1_fareOf 75 = .ok (.aload_n 0, 1) := dk_42 (dk_at dksX1_fareOf_3 4 rfl rfl)
theorem dX1_fareOf_76 : decode cX1_fareOf 76 = .ok (.getfield 33, 3) := dk_180 0 33 (dk_at dksX1_fareOf_3 5 rfl rfl)
theorem dX1_fareOf_79 : decode cX1_fareOf 79 = .ok (.getfield 257, 3) := dk_180 1 1 (dk_at dksX1_fareOf_3 8 rfl rfl)
theorem dX1_fareOf_82 : decode cX1_fareOf 82 = .ok (.if_icmp .ge 98, 3) := dk_162 0 98 (dk_at dksX1_fareOf_3 11 rfl rfl)
theorem dX1_fareOf_85 : decode cX1_fareOf 85 = .ok (.aload_n 0, 1) := dk_42 (dk_at dksX1_fareOf_3 14 rfl rfl)
theorem dX1_fareOf_86 : decode cX1_fareOf 86 = .ok (.getfield 82, 3) := dk_180 0 82 (dk_at dksX1_fareOf_3 15 rfl rfl)
theorem dX1_fareOf_89 : decode cX1_fareOf 89 = .ok (.iload_n 3, 1) := dk_29 (dk_at dksX1_fareOf_3 18 rfl rfl)
theorem dX1_fareOf_90 : decode cX1_fareOf 90 = .ok (.iaload, 1) := dk_46 (dk_at dksX1_fareOf_3 19 rfl rfl)
theorem dX1_fareOf_91 : decode cX1_fareOf 91 = .ok (.iconst (-1), 1) := dk_2 (dk_at dksX1_fareOf_3 20 rfl rfl)
theorem dX1_fareOf_92 : decode cX1_fareOf 92 = .ok (.if_icmp .eq 88, 3) := dk_159 0 88 (dk_at dksX1_fareOf_3 21 rfl rfl)
theorem dX1_fareOf_95 : decode cX1_fareOf 95 = .ok (.aload_n 0, 1) := dk_42 (dk_at dksX1_fareOf_4 0 rfl rfl)
theorem dX1_fareOf_96 : decode cX1_fareOf 96 = .ok (.getfield 33, 3) := dk_180 0 33 (dk_at dksX1_fareOf_4 1 rfl rfl)
theorem dX1_fareOf_99 : decode cX1_fareOf 99 = .ok (.getfield 275, 3) := dk_180 1 19 (dk_at dksX1_fareOf_4 4 rfl rfl)
theorem dX1_fareOf_102 : decode cX1_fareOf 102 = .ok (.iload_n 3, 1) := dk_29 (dk_at dksX1_fareOf_4 7 rfl rfl)
theorem dX1_fareOf_103 : decode cX1_fareOf 103 = .ok (.iaload, 1) := dk_46 (dk_at dksX1_fareOf_4 8 rfl rfl)
theorem dX1_fareOf_104 : decode cX1_fareOf 104 = .ok (.iload 4, 2) := dk_21 4 (dk_at dksX1_fareOf_4 9 rfl rfl)
theorem dX1_fareOf_106 : decode cX1_fareOf 106 = .ok (.invokestatic 7, 3) := dk_184 0 7 (dk_at dksX1_fareOf_4 11 rfl rfl)
theorem dX1_fareOf_109 : decode cX1_fareOf 109 = .ok (.ifCond .eq 65, 3) := dk_153 0 65 (dk_at dksX1_fareOf_4 14 rfl rfl)
theorem dX1_fareOf_112 : decode cX1_fareOf 112 = .ok (.aload_n 0, 1) := dk_42 (dk_at dksX1_fareOf_4 17 rfl rfl)
theorem dX1_fareOf_113 : decode cX1_fareOf 113 = .ok (.getfield 82, 3) := dk_180 0 82 (dk_at dksX1_fareOf_4 18 rfl rfl)
theorem dX1_fareOf_116 : decode cX1_fareOf 116 = .ok (.iload 4, 2) := dk_21 4 (dk_at dksX1_fareOf_4 21 rfl rfl)
theorem dX1_fareOf_118 : decode cX1_fareOf 118 = .ok (.iaload, 1) := dk_46 (dk_at dksX1_fareOf_4 23 rfl rfl)
theorem dX1_fareOf_119 : decode cX1_fareOf 119 = .ok (.iconst (-1), 1) := dk_2 (dk_at dksX1_fareOf_5 0 rfl rfl)
theorem dX1_fareOf_120 : decode cX1_fareOf 120 = .ok (.if_icmp .eq 30, 3) := dk_159 0 30 (dk_at dksX1_fareOf_5 1 rfl rfl)
theorem dX1_fareOf_123 : decode cX1_fareOf 123 = .ok (.aload_n 0, 1) := dk_42 (dk_at dksX1_fareOf_5 4 rfl rfl)
theorem dX1_fareOf_124 : decode cX1_fareOf 124 = .ok (.getfield 82, 3) := dk_180 0 82 (dk_at dksX1_fareOf_5 5 rfl rfl)
theorem dX1_fareOf_127 : decode cX1_fareOf 127 = .ok (.iload 4, 2) := dk_21 4 (dk_at dksX1_fareOf_5 8 rfl rfl)
theorem dX1_fareOf_129 : decode cX1_fareOf 129 = .ok (.iaload, 1) := dk_46 (dk_at dksX1_fareOf_5 10 rfl rfl)
theorem dX1_fareOf_130 : decode cX1_fareOf 130 = .ok (.aload_n 0, 1) := dk_42 (dk_at dksX1_fareOf_5 11 rfl rfl)
theorem dX1_fareOf_131 : decode cX1_fareOf 131 = .ok (.getfield 82, 3) := dk_180 0 82 (dk_at dksX1_fareOf_5 12 rfl rfl)
theorem dX1_fareOf_134 : decode cX1_fareOf 134 = .ok (.iload_n 3, 1) := dk_29 (dk_at dksX1_fareOf_5 15 rfl rfl)
theorem dX1_fareOf_135 : decode cX1_fareOf 135 = .ok (.iaload, 1) := dk_46 (dk_at dksX1_fareOf_5 16 rfl rfl)
theorem dX1_fareOf_136 : decode cX1_fareOf 136 = .ok (.aload_n 0, 1) := dk_42 (dk_at dksX1_fareOf_5 17 rfl rfl)
theorem dX1_fareOf_137 : decode cX1_fareOf 137 = .ok (.getfield 33, 3) := dk_180 0 33 (dk_at dksX1_fareOf_5 18 rfl rfl)
theorem dX1_fareOf_140 : decode cX1_fareOf 140 = .ok (.getfield 245, 3) := dk_180 0 245 (dk_at dksX1_fareOf_5 21 rfl rfl)
theorem dX1_fareOf_143 : decode cX1_fareOf 143 = .ok (.iload 4, 2) := dk_21 4 (dk_at dksX1_fareOf_6 0 rfl rfl)
theorem dX1_fareOf_145 : decode cX1_fareOf 145 = .ok (.iaload, 1) := dk_46 (dk_at dksX1_fareOf_6 2 rfl rfl)
theorem dX1_fareOf_146 : decode cX1_fareOf 146 = .ok (.iadd, 1) := dk_96 (dk_at dksX1_fareOf_6 3 rfl rfl)
theorem dX1_fareOf_147 : decode cX1_fareOf 147 = .ok (.if_icmp .le 27, 3) := dk_164 0 27 (dk_at dksX1_fareOf_6 4 rfl rfl)
theorem dX1_fareOf_150 : decode cX1_fareOf 150 = .ok (.aload_n 0, 1) := dk_42 (dk_at dksX1_fareOf_6 7 rfl rfl)
theorem dX1_fareOf_151 : decode cX1_fareOf 151 = .ok (.getfield 82, 3) := dk_180 0 82 (dk_at dksX1_fareOf_6 8 rfl rfl)
theorem dX1_fareOf_154 : decode cX1_fareOf 154 = .ok (.iload 4, 2) := dk_21 4 (dk_at dksX1_fareOf_6 11 rfl rfl)
theorem dX1_fareOf_156 : decode cX1_fareOf 156 = .ok (.aload_n 0, 1) := dk_42 (dk_at dksX1_fareOf_6 13 rfl rfl)
theorem dX1_fareOf_157 : decode cX1_fareOf 157 = .ok (.getfield 82, 3) := dk_180 0 82 (dk_at dksX1_fareOf_6 14 rfl rfl)
theorem dX1_fareOf_160 : decode cX1_fareOf 160 = .ok (.iload_n 3, 1) := dk_29 (dk_at dksX1_fareOf_6 17 rfl rfl)
theorem dX1_fareOf_161 : decode cX1_fareOf 161 = .ok (.iaload, 1) := dk_46 (dk_at dksX1_fareOf_6 18 rfl rfl)
theorem dX1_fareOf_162 : decode cX1_fareOf 162 = .ok (.aload_n 0, 1) := dk_42 (dk_at dksX1_fareOf_6 19 rfl rfl)
theorem dX1_fareOf_163 : decode cX1_fareOf 163 = .ok (.getfield 33, 3) := dk_180 0 33 (dk_at dksX1_fareOf_6 20 rfl rfl)
theorem dX1_fareOf_166 : decode cX1_fareOf 166 = .ok (.getfield 245, 3) := dk_180 0 245 (dk_at dksX1_fareOf_7 0 rfl rfl)
theorem dX1_fareOf_169 : decode cX1_fareOf 169 = .ok (.iload 4, 2) := dk_21 4 (dk_at dksX1_fareOf_7 3 rfl rfl)
theorem dX1_fareOf_171 : decode cX1_fareOf 171 = .ok (.iaload, 1) := dk_46 (dk_at dksX1_fareOf_7 5 rfl rfl)
theorem dX1_fareOf_172 : decode cX1_fareOf 172 = .ok (.iadd, 1) := dk_96 (dk_at dksX1_fareOf_7 6 rfl rfl)
theorem dX1_fareOf_173 : decode cX1_fareOf 173 = .ok (.iastore, 1) := dk_79 (dk_at dksX1_fareOf_7 7 rfl rfl)
theorem dX1_fareOf_174 : decode cX1_fareOf 174 = .ok (.iinc 4 1, 3) := dk_132 4 1 (dk_at dksX1_fareOf_7 8 rfl rfl)
theorem dX1_fareOf_177 : decode cX1_fareOf 177 = .ok (.goto (-104), 3) := dk_167 255 152 (dk_at dksX1_fareOf_7 11 rfl rfl)
theorem dX1_fareOf_180 : decode cX1_fareOf 180 = .ok (.iinc 3 1, 3) := dk_132 3 1 (dk_at dksX1_fareOf_7 14 rfl rfl)
theorem dX1_fareOf_183 : decode cX1_fareOf 183 = .ok (.goto (-124), 3) := dk_167 255 132 (dk_at dksX1_fareOf_7 17 rfl rfl)
theorem dX1_fareOf_186 : decode cX1_fareOf 186 = .ok (.iinc 2 1, 3) := dk_132 2 1 (dk_at dksX1_fareOf_7 20 rfl rfl)
theorem dX1_fareOf_189 : decode cX1_fareOf 189 = .ok (.goto (-143), 3) := dk_167 255 113 (dk_at dksX1_fareOf_8 0 rfl rfl)
theorem dX1_fareOf_192 : decode cX1_fareOf 192 = .ok (.aload_n 0, 1) := dk_42 (dk_at dksX1_fareOf_8 3 rfl rfl)
theorem dX1_fareOf_193 : decode cX1_fareOf 193 = .ok (.getfield 82, 3) := dk_180 0 82 (dk_at dksX1_fareOf_8 4 rfl rfl)
theorem dX1_fareOf_196 : decode cX1_fareOf 196 = .ok (.iload_n 1, 1) := dk_27 (dk_at dksX1_fareOf_8 7 rfl rfl)
theorem dX1_fareOf_197 : decode cX1_fareOf 197 = .ok (.iaload, 1) := dk_46 (dk_at dksX1_fareOf_8 8 rfl rfl)
theorem dX1_fareOf_198 : decode cX1_fareOf 198 = .ok (.ireturn, 1) := dk_172 (dk_at dksX1_fareOf_8 9 rfl rfl)
abbrev cX1_controlledBy : ByteArray := prog_1_method_52_code
def yX1_controlledBy : MethodName := ⟨RX1, "controlledBy", "(I)I"⟩
def dkwX1_controlledBy_3 : List UInt8 := [128, 62, 132, 4, 1, 167, 255, 201, 29, 28, 2, 130, 126, 172]
abbrev dktX1_controlledBy_3 : List UInt8 := dkwX1_controlledBy_3 ++ []
def dkwX1_controlledBy_2 : List UInt8 := [153, 0, 26, 42, 21, 4, 182, 1, 119, 153, 0, 17, 29, 42, 21, 4, 182, 1, 44, 4, 21, 4, 120, 128]
abbrev dktX1_controlledBy_2 : List UInt8 := dkwX1_controlledBy_2 ++ dktX1_controlledBy_3
def dkwX1_controlledBy_1 : List UInt8 := [180, 0, 33, 180, 1, 1, 162, 0, 49, 42, 180, 0, 33, 180, 1, 19, 27, 46, 21, 4, 184, 0, 7]
abbrev dktX1_controlledBy_1 : List UInt8 := dkwX1_controlledBy_1 ++ dktX1_controlledBy_2
def dkwX1_controlledBy_0 : List UInt8 := [42, 27, 182, 1, 119, 154, 0, 5, 3, 172, 42, 27, 182, 1, 44, 61, 3, 62, 3, 54, 4, 21, 4, 42]
abbrev dktX1_controlledBy_0 : List UInt8 := dkwX1_controlledBy_0 ++ dktX1_controlledBy_1
theorem dksX1_controlledBy_0 : cX1_controlledBy.data.toList.drop 0 = dktX1_controlledBy_0 := by decide +kernel
theorem dksX1_controlledBy_1 : cX1_controlledBy.data.toList.drop 24 = dktX1_controlledBy_1 := dk_seg dksX1_controlledBy_0 24 rfl rfl
theorem dksX1_controlledBy_2 : cX1_controlledBy.data.toList.drop 47 = dktX1_controlledBy_2 := dk_seg dksX1_controlledBy_1 23 rfl rfl
theorem dksX1_controlledBy_3 : cX1_controlledBy.data.toList.drop 71 = dktX1_controlledBy_3 := dk_seg dksX1_controlledBy_2 24 rfl rfl
theorem dX1_controlledBy_0 : decode cX1_controlledBy 0 = .ok (.aload_n 0, 1) := dk_42 (dk_at dksX1_controlledBy_0 0 rfl rfl)
theorem dX1_controlledBy_1 : decode cX1_controlledBy 1 = .ok (.iload_n 1, 1) := dk_27 (dk_at dksX1_controlledBy_0 1 rfl rfl)
theorem dX1_controlledBy_2 : decode cX1_controlledBy 2 = .ok (.invokevirtual 375, 3) := dk_182 1 119 (dk_at dksX1_controlledBy_0 2 rfl rfl)
theorem dX1_controlledBy_5 : decode cX1_controlledBy 5 = .ok (.ifCond .ne 5, 3) := dk_154 0 5 (dk_at dksX1_controlledBy_0 5 rfl rfl)
theorem dX1_controlledBy_8 : decode cX1_controlledBy 8 = .ok (.iconst 0, 1) := dk_3 (dk_at dksX1_controlledBy_0 8 rfl rfl)
theorem dX1_controlledBy_9 : decode cX1_controlledBy 9 = .ok (.ireturn, 1) := dk_172 (dk_at dksX1_controlledBy_0 9 rfl rfl)
theorem dX1_controlledBy_10 : decode cX1_controlledBy 10 = .ok (.aload_n 0, 1) := dk_42 (dk_at dksX1_controlledBy_0 10 rfl rfl)
theorem dX1_controlledBy_11 : decode cX1_controlledBy 11 = .ok (.iload_n 1, 1) := dk_27 (dk_at dksX1_controlledBy_0 11 rfl rfl)
theorem dX1_controlledBy_12 : decode cX1_controlledBy 12 = .ok (.invokevirtual 300, 3) := dk_182 1 44 (dk_at dksX1_controlledBy_0 12 rfl rfl)
theorem dX1_controlledBy_15 : decode cX1_controlledBy 15 = .ok (.istore_n 2, 1) := dk_61 (dk_at dksX1_controlledBy_0 15 rfl rfl)
theorem dX1_controlledBy_16 : decode cX1_controlledBy 16 = .ok (.iconst 0, 1) := dk_3 (dk_at dksX1_controlledBy_0 16 rfl rfl)
theorem dX1_controlledBy_17 : decode cX1_controlledBy 17 = .ok (.istore_n 3, 1) := dk_62 (dk_at dksX1_controlledBy_0 17 rfl rfl)
theorem dX1_controlledBy_18 : decode cX1_controlledBy 18 = .ok (.iconst 0, 1) := dk_3 (dk_at dksX1_controlledBy_0 18 rfl rfl)
theorem dX1_controlledBy_19 : decode cX1_controlledBy 19 = .ok (.istore 4, 2) := dk_54 4 (dk_at dksX1_controlledBy_0 19 rfl rfl)
theorem dX1_controlledBy_21 : decode cX1_controlledBy 21 = .ok (.iload 4, 2) := dk_21 4 (dk_at dksX1_controlledBy_0 21 rfl rfl)
theorem dX1_controlledBy_23 : decode cX1_controlledBy 23 = .ok (.aload_n 0, 1) := dk_42 (dk_at dksX1_controlledBy_0 23 rfl rfl)
theorem dX1_controlledBy_24 : decode cX1_controlledBy 24 = .ok (.getfield 33, 3) := dk_180 0 33 (dk_at dksX1_controlledBy_1 0 rfl rfl)
theorem dX1_controlledBy_27 : decode cX1_controlledBy 27 = .ok (.getfield 257, 3) := dk_180 1 1 (dk_at dksX1_controlledBy_1 3 rfl rfl)
theorem dX1_controlledBy_30 : decode cX1_controlledBy 30 = .ok (.if_icmp .ge 49, 3) := dk_162 0 49 (dk_at dksX1_controlledBy_1 6 rfl rfl)
theorem dX1_controlledBy_33 : decode cX1_controlledBy 33 = .ok (.aload_n 0, 1) := dk_42 (dk_at dksX1_controlledBy_1 9 rfl rfl)
theorem dX1_controlledBy_34 : decode cX1_controlledBy 34 = .ok (.getfield 33, 3) := dk_180 0 33 (dk_at dksX1_controlledBy_1 10 rfl rfl)
theorem dX1_controlledBy_37 : decode cX1_controlledBy 37 = .ok (.getfield 275, 3) := dk_180 1 19 (dk_at dksX1_controlledBy_1 13 rfl rfl)
theorem dX1_controlledBy_40 : decode cX1_controlledBy 40 = .ok (.iload_n 1, 1) := dk_27 (dk_at dksX1_controlledBy_1 16 rfl rfl)
theorem dX1_controlledBy_41 : decode cX1_controlledBy 41 = .ok (.iaload, 1) := dk_46 (dk_at dksX1_controlledBy_1 17 rfl rfl)
theorem dX1_controlledBy_42 : decode cX1_controlledBy 42 = .ok (.iload 4, 2) := dk_21 4 (dk_at dksX1_controlledBy_1 18 rfl rfl)
theorem dX1_controlledBy_44 : decode cX1_controlledBy 44 = .ok (.invokestatic 7, 3) := dk_184 0 7 (dk_at dksX1_controlledBy_1 20 rfl rfl)
theorem dX1_controlledBy_47 : decode cX1_controlledBy 47 = .ok (.ifCond .eq 26, 3) := dk_153 0 26 (dk_at dksX1_controlledBy_2 0 rfl rfl)
theorem dX1_controlledBy_50 : decode cX1_controlledBy 50 = .ok (.aload_n 0, 1) := dk_42 (dk_at dksX1_controlledBy_2 3 rfl rfl)
theorem dX1_controlledBy_51 : decode cX1_controlledBy 51 = .ok (.iload 4, 2) := dk_21 4 (dk_at dksX1_controlledBy_2 4 rfl rfl)
theorem dX1_controlledBy_53 : decode cX1_controlledBy 53 = .ok (.invokevirtual 375, 3) := dk_182 1 119 (dk_at dksX1_controlledBy_2 6 rfl rfl)
theorem dX1_controlledBy_56 : decode cX1_controlledBy 56 = .ok (.ifCond .eq 17, 3) := dk_153 0 17 (dk_at dksX1_controlledBy_2 9 rfl rfl)
theorem dX1_controlledBy_59 : decode cX1_controlledBy 59 = .ok (.iload_n 3, 1) := dk_29 (dk_at dksX1_controlledBy_2 12 rfl rfl)
theorem dX1_controlledBy_60 : decode cX1_controlledBy 60 = .ok (.aload_n 0, 1) := dk_42 (dk_at dksX1_controlledBy_2 13 rfl rfl)
theorem dX1_controlledBy_61 : decode cX1_controlledBy 61 = .ok (.iload 4, 2) := dk_21 4 (dk_at dksX1_controlledBy_2 14 rfl rfl)
theorem dX1_controlledBy_63 : decode cX1_controlledBy 63 = .ok (.invokevirtual 300, 3) := dk_182 1 44 (dk_at dksX1_controlledBy_2 16 rfl rfl)
theorem dX1_controlledBy_66 : decode cX1_controlledBy 66 = .ok (.iconst 1, 1) := dk_4 (dk_at dksX1_controlledBy_2 19 rfl rfl)
theorem dX1_controlledBy_67 : decode cX1_controlledBy 67 = .ok (.iload 4, 2) := dk_21 4 (dk_at dksX1_controlledBy_2 20 rfl rfl)
theorem dX1_controlledBy_69 : decode cX1_controlledBy 69 = .ok (.ishl, 1) := dk_120 (dk_at dksX1_controlledBy_2 22 rfl rfl)
theorem dX1_controlledBy_70 : decode cX1_controlledBy 70 = .ok (.ior, 1) := dk_128 (dk_at dksX1_controlledBy_2 23 rfl rfl)
theorem dX1_controlledBy_71 : decode cX1_controlledBy 71 = .ok (.ior, 1) := dk_128 (dk_at dksX1_controlledBy_3 0 rfl rfl)
theorem dX1_controlledBy_72 : decode cX1_controlledBy 72 = .ok (.istore_n 3, 1) := dk_62 (dk_at dksX1_controlledBy_3 1 rfl rfl)
theorem dX1_controlledBy_73 : decode cX1_controlledBy 73 = .ok (.iinc 4 1, 3) := dk_132 4 1 (dk_at dksX1_controlledBy_3 2 rfl rfl)
theorem dX1_controlledBy_76 : decode cX1_controlledBy 76 = .ok (.goto (-55), 3) := dk_167 255 201 (dk_at dksX1_controlledBy_3 5 rfl rfl)
theorem dX1_controlledBy_79 : decode cX1_controlledBy 79 = .ok (.iload_n 3, 1) := dk_29 (dk_at dksX1_controlledBy_3 8 rfl rfl)
theorem dX1_controlledBy_80 : decode cX1_controlledBy 80 = .ok (.iload_n 2, 1) := dk_28 (dk_at dksX1_controlledBy_3 9 rfl rfl)
theorem dX1_controlledBy_81 : decode cX1_controlledBy 81 = .ok (.iconst (-1), 1) := dk_2 (dk_at dksX1_controlledBy_3 10 rfl rfl)
theorem dX1_controlledBy_82 : decode cX1_controlledBy 82 = .ok (.ixor, 1) := dk_130 (dk_at dksX1_controlledBy_3 11 rfl rfl)
theorem dX1_controlledBy_83 : decode cX1_controlledBy 83 = .ok (.iand, 1) := dk_126 (dk_at dksX1_controlledBy_3 12 rfl rfl)
theorem dX1_controlledBy_84 : decode cX1_controlledBy 84 = .ok (.ireturn, 1) := dk_172 (dk_at dksX1_controlledBy_3 13 rfl rfl)
abbrev cX1_hasOut : ByteArray := prog_1_method_51_code
def yX1_hasOut : MethodName := ⟨RX1, "hasOut", "(I)Z"⟩
def dkwX1_hasOut_1 : List UInt8 := [180, 0, 33, 180, 0, 215, 184, 0, 7, 153, 0, 7, 4, 167, 0, 4, 3, 172]
abbrev dktX1_hasOut_1 : List UInt8 := dkwX1_hasOut_1 ++ []
def dkwX1_hasOut_0 : List UInt8 := [42, 180, 0, 50, 180, 0, 140, 27, 184, 0, 7, 153, 0, 29, 42, 180, 0, 33, 27, 3, 182, 1, 118, 42]
abbrev dktX1_hasOut_0 : List UInt8 := dkwX1_hasOut_0 ++ dktX1_hasOut_1
theorem dksX1_hasOut_0 : cX1_hasOut.data.toList.drop 0 = dktX1_hasOut_0 := by decide +kernel
theorem dksX1_hasOut_1 : cX1_hasOut.data.toList.drop 24 = dktX1_hasOut_1 := dk_seg dksX1_hasOut_0 24 rfl rfl
theorem dX1_hasOut_0 : decode cX1_hasOut 0 = .ok (.aload_n 0, 1) := dk_42 (dk_at dksX1_hasOut_0 0 rfl rfl)
theorem dX1_hasOut_1 : decode cX1_hasOut 1 = .ok (.getfield 50, 3) := dk_180 0 50 (dk_at dksX1_hasOut_0 1 rfl rfl)
theorem dX1_hasOut_4 : decode cX1_hasOut 4 = .ok (.getfield 140, 3) := dk_180 0 140 (dk_at dksX1_hasOut_0 4 rfl rfl)
theorem dX1_hasOut_7 : decode cX1_hasOut 7 = .ok (.iload_n 1, 1) := dk_27 (dk_at dksX1_hasOut_0 7 rfl rfl)
theorem dX1_hasOut_8 : decode cX1_hasOut 8 = .ok (.invokestatic 7, 3) := dk_184 0 7 (dk_at dksX1_hasOut_0 8 rfl rfl)
theorem dX1_hasOut_11 : decode cX1_hasOut 11 = .ok (.ifCond .eq 29, 3) := dk_153 0 29 (dk_at dksX1_hasOut_0 11 rfl rfl)
theorem dX1_hasOut_14 : decode cX1_hasOut 14 = .ok (.aload_n 0, 1) := dk_42 (dk_at dksX1_hasOut_0 14 rfl rfl)
theorem dX1_hasOut_15 : decode cX1_hasOut 15 = .ok (.getfield 33, 3) := dk_180 0 33 (dk_at dksX1_hasOut_0 15 rfl rfl)
theorem dX1_hasOut_18 : decode cX1_hasOut 18 = .ok (.iload_n 1, 1) := dk_27 (dk_at dksX1_hasOut_0 18 rfl rfl)
theorem dX1_hasOut_19 : decode cX1_hasOut 19 = .ok (.iconst 0, 1) := dk_3 (dk_at dksX1_hasOut_0 19 rfl rfl)
theorem dX1_hasOut_20 : decode cX1_hasOut 20 = .ok (.invokevirtual 374, 3) := dk_182 1 118 (dk_at dksX1_hasOut_0 20 rfl rfl)
theorem dX1_hasOut_23 : decode cX1_hasOut 23 = .ok (.aload_n 0, 1) := dk_42 (dk_at dksX1_hasOut_0 23 rfl rfl)
theorem dX1_hasOut_24 : decode cX1_hasOut 24 = .ok (.getfield 33, 3) := dk_180 0 33 (dk_at dksX1_hasOut_1 0 rfl rfl)
theorem dX1_hasOut_27 : decode cX1_hasOut 27 = .ok (.getfield 215, 3) := dk_180 0 215 (dk_at dksX1_hasOut_1 3 rfl rfl)
theorem dX1_hasOut_30 : decode cX1_hasOut 30 = .ok (.invokestatic 7, 3) := dk_184 0 7 (dk_at dksX1_hasOut_1 6 rfl rfl)
theorem dX1_hasOut_33 : decode cX1_hasOut 33 = .ok (.ifCond .eq 7, 3) := dk_153 0 7 (dk_at dksX1_hasOut_1 9 rfl rfl)
theorem dX1_hasOut_36 : decode cX1_hasOut 36 = .ok (.iconst 1, 1) := dk_4 (dk_at dksX1_hasOut_1 12 rfl rfl)
theorem dX1_hasOut_37 : decode cX1_hasOut 37 = .ok (.goto 4, 3) := dk_167 0 4 (dk_at dksX1_hasOut_1 13 rfl rfl)
theorem dX1_hasOut_40 : decode cX1_hasOut 40 = .ok (.iconst 0, 1) := dk_3 (dk_at dksX1_hasOut_1 16 rfl rfl)
theorem dX1_hasOut_41 : decode cX1_hasOut 41 = .ok (.ireturn, 1) := dk_172 (dk_at dksX1_hasOut_1 17 rfl rfl)
abbrev cX1_innerOf : ByteArray := prog_1_method_48_code
def yX1_innerOf : MethodName := ⟨RX1, "innerOf", "(II)I"⟩
def dkwX1_innerOf_3 : List UInt8 := [54, 4, 132, 5, 1, 167, 255, 189, 29, 172]
abbrev dktX1_innerOf_3 : List UInt8 := dkwX1_innerOf_3 ++ []
def dkwX1_innerOf_2 : List UInt8 := [164, 0, 25, 29, 2, 159, 0, 13, 21, 7, 21, 4, 161, 0, 6, 167, 0, 10, 21, 5, 62, 21, 7]
abbrev dktX1_innerOf_2 : List UInt8 := dkwX1_innerOf_2 ++ dktX1_innerOf_3
def dkwX1_innerOf_1 : List UInt8 := [182, 1, 76, 54, 6, 21, 6, 184, 0, 236, 54, 7, 21, 6, 27, 184, 0, 7, 153, 0, 31, 21, 7, 28]
abbrev dktX1_innerOf_1 : List UInt8 := dkwX1_innerOf_1 ++ dktX1_innerOf_2
def dkwX1_innerOf_0 : List UInt8 := [2, 62, 3, 54, 4, 3, 54, 5, 21, 5, 42, 180, 0, 33, 180, 1, 1, 162, 0, 61, 42, 21, 5]
abbrev dktX1_innerOf_0 : List UInt8 := dkwX1_innerOf_0 ++ dktX1_innerOf_1
theorem dksX1_innerOf_0 : cX1_innerOf.data.toList.drop 0 = dktX1_innerOf_0 := by decide +kernel
theorem dksX1_innerOf_1 : cX1_innerOf.data.toList.drop 23 = dktX1_innerOf_1 := dk_seg dksX1_innerOf_0 23 rfl rfl
theorem dksX1_innerOf_2 : cX1_innerOf.data.toList.drop 47 = dktX1_innerOf_2 := dk_seg dksX1_innerOf_1 24 rfl rfl
theorem dksX1_innerOf_3 : cX1_innerOf.data.toList.drop 70 = dktX1_innerOf_3 := dk_seg dksX1_innerOf_2 23 rfl rfl
theorem dX1_innerOf_0 : decode cX1_innerOf 0 = .ok (.iconst (-1), 1) := dk_2 (dk_at dksX1_innerOf_0 0 rfl rfl)
theorem dX1_innerOf_1 : decode cX1_innerOf 1 = .ok (.istore_n 3, 1) := dk_62 (dk_at dksX1_innerOf_0 1 rfl rfl)
theorem dX1_innerOf_2 : decode cX1_innerOf 2 = .ok (.iconst 0, 1) := dk_3 (dk_at dksX1_innerOf_0 2 rfl rfl)
theorem dX1_innerOf_3 : decode cX1_innerOf 3 = .ok (.istore 4, 2) := dk_54 4 (dk_at dksX1_innerOf_0 3 rfl rfl)
theorem dX1_innerOf_5 : decode cX1_innerOf 5 = .ok (.iconst 0, 1) := dk_3 (dk_at dksX1_innerOf_0 5 rfl rfl)
theorem dX1_innerOf_6 : decode cX1_innerOf 6 = .ok (.istore 5, 2) := dk_54 5 (dk_at dksX1_innerOf_0 6 rfl rfl)
theorem dX1_innerOf_8 : decode cX1_innerOf 8 = .ok (.iload 5, 2) := dk_21 5 (dk_at dksX1_innerOf_0 8 rfl rfl)
theorem dX1_innerOf_10 : decode cX1_innerOf 10 = .ok (.aload_n 0, 1) := dk_42 (dk_at dksX1_innerOf_0 10 rfl rfl)
theorem dX1_innerOf_11 : decode cX1_innerOf 11 = .ok (.getfield 33, 3) := dk_180 0 33 (dk_at dksX1_innerOf_0 11 rfl rfl)
theorem dX1_innerOf_14 : decode cX1_innerOf 14 = .ok (.getfield 257, 3) := dk_180 1 1 (dk_at dksX1_innerOf_0 14 rfl rfl)
theorem dX1_innerOf_17 : decode cX1_innerOf 17 = .ok (.if_icmp .ge 61, 3) := dk_162 0 61 (dk_at dksX1_innerOf_0 17 rfl rfl)
theorem dX1_innerOf_20 : decode cX1_innerOf 20 = .ok (.aload_n 0, 1) := dk_42 (dk_at dksX1_innerOf_0 20 rfl rfl)
theorem dX1_innerOf_21 : decode cX1_innerOf 21 = .ok (.iload 5, 2) := dk_21 5 (dk_at dksX1_innerOf_0 21 rfl rfl)
theorem dX1_innerOf_23 : decode cX1_innerOf 23 = .ok (.invokevirtual 332, 3) := dk_182 1 76 (dk_at dksX1_innerOf_1 0 rfl rfl)
theorem dX1_innerOf_26 : decode cX1_innerOf 26 = .ok (.istore 6, 2) := dk_54 6 (dk_at dksX1_innerOf_1 3 rfl rfl)
theorem dX1_innerOf_28 : decode cX1_innerOf 28 = .ok (.iload 6, 2) := dk_21 6 (dk_at dksX1_innerOf_1 5 rfl rfl)
theorem dX1_innerOf_30 : decode cX1_innerOf 30 = .ok (.invokestatic 236, 3) := dk_184 0 236 (dk_at dksX1_innerOf_1 7 rfl rfl)
theorem dX1_innerOf_33 : decode cX1_innerOf 33 = .ok (.istore 7, 2) := dk_54 7 (dk_at dksX1_innerOf_1 10 rfl rfl)
theorem dX1_innerOf_35 : decode cX1_innerOf 35 = .ok (.iload 6, 2) := dk_21 6 (dk_at dksX1_innerOf_1 12 rfl rfl)
theorem dX1_innerOf_37 : decode cX1_innerOf 37 = .ok (.iload_n 1, 1) := dk_27 (dk_at dksX1_innerOf_1 14 rfl rfl)
theorem dX1_innerOf_38 : decode cX1_innerOf 38 = .ok (.invokestatic 7, 3) := dk_184 0 7 (dk_at dksX1_innerOf_1 15 rfl rfl)
theorem dX1_innerOf_41 : decode cX1_innerOf 41 = .ok (.ifCond .eq 31, 3) := dk_153 0 31 (dk_at dksX1_innerOf_1 18 rfl rfl)
theorem dX1_innerOf_44 : decode cX1_innerOf 44 = .ok (.iload 7, 2) := dk_21 7 (dk_at dksX1_innerOf_1 21 rfl rfl)
theorem dX1_innerOf_46 : decode cX1_innerOf 46 = .ok (.iload_n 2, 1) := dk_28 (dk_at dksX1_innerOf_1 23 rfl rfl)
theorem dX1_innerOf_47 : decode cX1_innerOf 47 = .ok (.if_icmp .le 25, 3) := dk_164 0 25 (dk_at dksX1_innerOf_2 0 rfl rfl)
theorem dX1_innerOf_50 : decode cX1_innerOf 50 = .ok (.iload_n 3, 1) := dk_29 (dk_at dksX1_innerOf_2 3 rfl rfl)
theorem dX1_innerOf_51 : decode cX1_innerOf 51 = .ok (.iconst (-1), 1) := dk_2 (dk_at dksX1_innerOf_2 4 rfl rfl)
theorem dX1_innerOf_52 : decode cX1_innerOf 52 = .ok (.if_icmp .eq 13, 3) := dk_159 0 13 (dk_at dksX1_innerOf_2 5 rfl rfl)
theorem dX1_innerOf_55 : decode cX1_innerOf 55 = .ok (.iload 7, 2) := dk_21 7 (dk_at dksX1_innerOf_2 8 rfl rfl)
theorem dX1_innerOf_57 : decode cX1_innerOf 57 = .ok (.iload 4, 2) := dk_21 4 (dk_at dksX1_innerOf_2 10 rfl rfl)
theorem dX1_innerOf_59 : decode cX1_innerOf 59 = .ok (.if_icmp .lt 6, 3) := dk_161 0 6 (dk_at dksX1_innerOf_2 12 rfl rfl)
theorem dX1_innerOf_62 : decode cX1_innerOf 62 = .ok (.goto 10, 3) := dk_167 0 10 (dk_at dksX1_innerOf_2 15 rfl rfl)
theorem dX1_innerOf_65 : decode cX1_innerOf 65 = .ok (.iload 5, 2) := dk_21 5 (dk_at dksX1_innerOf_2 18 rfl rfl)
theorem dX1_innerOf_67 : decode cX1_innerOf 67 = .ok (.istore_n 3, 1) := dk_62 (dk_at dksX1_innerOf_2 20 rfl rfl)
theorem dX1_innerOf_68 : decode cX1_innerOf 68 = .ok (.iload 7, 2) := dk_21 7 (dk_at dksX1_innerOf_2 21 rfl rfl)
theorem dX1_innerOf_70 : decode cX1_innerOf 70 = .ok (.istore 4, 2) := dk_54 4 (dk_at dksX1_innerOf_3 0 rfl rfl)
theorem dX1_innerOf_72 : decode cX1_innerOf 72 = .ok (.iinc 5 1, 3) := dk_132 5 1 (dk_at dksX1_innerOf_3 2 rfl rfl)
theorem dX1_innerOf_75 : decode cX1_innerOf 75 = .ok (.goto (-67), 3) := dk_167 255 189 (dk_at dksX1_innerOf_3 5 rfl rfl)
theorem dX1_innerOf_78 : decode cX1_innerOf 78 = .ok (.iload_n 3, 1) := dk_29 (dk_at dksX1_innerOf_3 8 rfl rfl)
theorem dX1_innerOf_79 : decode cX1_innerOf 79 = .ok (.ireturn, 1) := dk_172 (dk_at dksX1_innerOf_3 9 rfl rfl)
abbrev cX1_outerOf : ByteArray := prog_1_method_49_code
def yX1_outerOf : MethodName := ⟨RX1, "outerOf", "(I)I"⟩
def dkwX1_outerOf_1 : List UInt8 := [184, 0, 236, 182, 1, 106, 172]
abbrev dktX1_outerOf_1 : List UInt8 := dkwX1_outerOf_1 ++ []
def dkwX1_outerOf_0 : List UInt8 := [42, 27, 3, 182, 1, 106, 61, 28, 2, 160, 0, 7, 2, 167, 0, 16, 42, 27, 42, 28, 182, 1, 76]
abbrev dktX1_outerOf_0 : List UInt8 := dkwX1_outerOf_0 ++ dktX1_outerOf_1
theorem dksX1_outerOf_0 : cX1_outerOf.data.toList.drop 0 = dktX1_outerOf_0 := by decide +kernel
theorem dksX1_outerOf_1 : cX1_outerOf.data.toList.drop 23 = dktX1_outerOf_1 := dk_seg dksX1_outerOf_0 23 rfl rfl
theorem dX1_outerOf_0 : decode cX1_outerOf 0 = .ok (.aload_n 0, 1) := dk_42 (dk_at dksX1_outerOf_0 0 rfl rfl)
theorem dX1_outerOf_1 : decode cX1_outerOf 1 = .ok (.iload_n 1, 1) := dk_27 (dk_at dksX1_outerOf_0 1 rfl rfl)
theorem dX1_outerOf_2 : decode cX1_outerOf 2 = .ok (.iconst 0, 1) := dk_3 (dk_at dksX1_outerOf_0 2 rfl rfl)
theorem dX1_outerOf_3 : decode cX1_outerOf 3 = .ok (.invokevirtual 362, 3) := dk_182 1 106 (dk_at dksX1_outerOf_0 3 rfl rfl)
theorem dX1_outerOf_6 : decode cX1_outerOf 6 = .ok (.istore_n 2, 1) := dk_61 (dk_at dksX1_outerOf_0 6 rfl rfl)
theorem dX1_outerOf_7 : decode cX1_outerOf 7 = .ok (.iload_n 2, 1) := dk_28 (dk_at dksX1_outerOf_0 7 rfl rfl)
theorem dX1_outerOf_8 : decode cX1_outerOf 8 = .ok (.iconst (-1), 1) := dk_2 (dk_at dksX1_outerOf_0 8 rfl rfl)
theorem dX1_outerOf_9 : decode cX1_outerOf 9 = .ok (.if_icmp .ne 7, 3) := dk_160 0 7 (dk_at dksX1_outerOf_0 9 rfl rfl)
theorem dX1_outerOf_12 : decode cX1_outerOf 12 = .ok (.iconst (-1), 1) := dk_2 (dk_at dksX1_outerOf_0 12 rfl rfl)
theorem dX1_outerOf_13 : decode cX1_outerOf 13 = .ok (.goto 16, 3) := dk_167 0 16 (dk_at dksX1_outerOf_0 13 rfl rfl)
theorem dX1_outerOf_16 : decode cX1_outerOf 16 = .ok (.aload_n 0, 1) := dk_42 (dk_at dksX1_outerOf_0 16 rfl rfl)
theorem dX1_outerOf_17 : decode cX1_outerOf 17 = .ok (.iload_n 1, 1) := dk_27 (dk_at dksX1_outerOf_0 17 rfl rfl)
theorem dX1_outerOf_18 : decode cX1_outerOf 18 = .ok (.aload_n 0, 1) := dk_42 (dk_at dksX1_outerOf_0 18 rfl rfl)
theorem dX1_outerOf_19 : decode cX1_outerOf 19 = .ok (.iload_n 2, 1) := dk_28 (dk_at dksX1_outerOf_0 19 rfl rfl)
theorem dX1_outerOf_20 : decode cX1_outerOf 20 = .ok (.invokevirtual 332, 3) := dk_182 1 76 (dk_at dksX1_outerOf_0 20 rfl rfl)
theorem dX1_outerOf_23 : decode cX1_outerOf 23 = .ok (.invokestatic 236, 3) := dk_184 0 236 (dk_at dksX1_outerOf_1 0 rfl rfl)
theorem dX1_outerOf_26 : decode cX1_outerOf 26 = .ok (.invokevirtual 362, 3) := dk_182 1 106 (dk_at dksX1_outerOf_1 3 rfl rfl)
theorem dX1_outerOf_29 : decode cX1_outerOf 29 = .ok (.ireturn, 1) := dk_172 (dk_at dksX1_outerOf_1 6 rfl rfl)
abbrev cX1_tiedTo : ByteArray := prog_1_method_50_code
def yX1_tiedTo : MethodName := ⟨RX1, "tiedTo", "(I)I"⟩
def dkwX1_tiedTo_3 : List UInt8 := [167, 255, 196, 28, 172]
abbrev dktX1_tiedTo_3 : List UInt8 := dkwX1_tiedTo_3 ++ []
def dkwX1_tiedTo_2 : List UInt8 := [28, 21, 4, 27, 184, 0, 7, 153, 0, 8, 21, 4, 167, 0, 7, 21, 4, 2, 130, 126, 61, 132, 3, 1]
abbrev dktX1_tiedTo_2 : List UInt8 := dkwX1_tiedTo_2 ++ dktX1_tiedTo_3
def dkwX1_tiedTo_1 : List UInt8 := [180, 0, 33, 180, 1, 54, 29, 51, 154, 0, 6, 167, 0, 34, 42, 180, 0, 33, 29, 182, 1, 115, 54, 4]
abbrev dktX1_tiedTo_1 : List UInt8 := dkwX1_tiedTo_1 ++ dktX1_tiedTo_2
def dkwX1_tiedTo_0 : List UInt8 := [42, 180, 0, 50, 180, 0, 140, 61, 3, 62, 29, 42, 180, 0, 33, 180, 0, 230, 162, 0, 55, 42]
abbrev dktX1_tiedTo_0 : List UInt8 := dkwX1_tiedTo_0 ++ dktX1_tiedTo_1
theorem dksX1_tiedTo_0 : cX1_tiedTo.data.toList.drop 0 = dktX1_tiedTo_0 := by decide +kernel
theorem dksX1_tiedTo_1 : cX1_tiedTo.data.toList.drop 22 = dktX1_tiedTo_1 := dk_seg dksX1_tiedTo_0 22 rfl rfl
theorem dksX1_tiedTo_2 : cX1_tiedTo.data.toList.drop 46 = dktX1_tiedTo_2 := dk_seg dksX1_tiedTo_1 24 rfl rfl
theorem dksX1_tiedTo_3 : cX1_tiedTo.data.toList.drop 70 = dktX1_tiedTo_3 := dk_seg dksX1_tiedTo_2 24 rfl rfl
theorem dX1_tiedTo_0 : decode cX1_tiedTo 0 = .ok (.aload_n 0, 1) := dk_42 (dk_at dksX1_tiedTo_0 0 rfl rfl)
theorem dX1_tiedTo_1 : decode cX1_tiedTo 1 = .ok (.getfield 50, 3) := dk_180 0 50 (dk_at dksX1_tiedTo_0 1 rfl rfl)
theorem dX1_tiedTo_4 : decode cX1_tiedTo 4 = .ok (.getfield 140, 3) := dk_180 0 140 (dk_at dksX1_tiedTo_0 4 rfl rfl)
theorem dX1_tiedTo_7 : decode cX1_tiedTo 7 = .ok (.istore_n 2, 1) := dk_61 (dk_at dksX1_tiedTo_0 7 rfl rfl)
theorem dX1_tiedTo_8 : decode cX1_tiedTo 8 = .ok (.iconst 0, 1) := dk_3 (dk_at dksX1_tiedTo_0 8 rfl rfl)
theorem dX1_tiedTo_9 : decode cX1_tiedTo 9 = .ok (.istore_n 3, 1) := dk_62 (dk_at dksX1_tiedTo_0 9 rfl rfl)
theorem dX1_tiedTo_10 : decode cX1_tiedTo 10 = .ok (.iload_n 3, 1) := dk_29 (dk_at dksX1_tiedTo_0 10 rfl rfl)
theorem dX1_tiedTo_11 : decode cX1_tiedTo 11 = .ok (.aload_n 0, 1) := dk_42 (dk_at dksX1_tiedTo_0 11 rfl rfl)
theorem dX1_tiedTo_12 : decode cX1_tiedTo 12 = .ok (.getfield 33, 3) := dk_180 0 33 (dk_at dksX1_tiedTo_0 12 rfl rfl)
theorem dX1_tiedTo_15 : decode cX1_tiedTo 15 = .ok (.getfield 230, 3) := dk_180 0 230 (dk_at dksX1_tiedTo_0 15 rfl rfl)
theorem dX1_tiedTo_18 : decode cX1_tiedTo 18 = .ok (.if_icmp .ge 55, 3) := dk_162 0 55 (dk_at dksX1_tiedTo_0 18 rfl rfl)
theorem dX1_tiedTo_21 : decode cX1_tiedTo 21 = .ok (.aload_n 0, 1) := dk_42 (dk_at dksX1_tiedTo_0 21 rfl rfl)
theorem dX1_tiedTo_22 : decode cX1_tiedTo 22 = .ok (.getfield 33, 3) := dk_180 0 33 (dk_at dksX1_tiedTo_1 0 rfl rfl)
theorem dX1_tiedTo_25 : decode cX1_tiedTo 25 = .ok (.getfield 310, 3) := dk_180 1 54 (dk_at dksX1_tiedTo_1 3 rfl rfl)
theorem dX1_tiedTo_28 : decode cX1_tiedTo 28 = .ok (.iload_n 3, 1) := dk_29 (dk_at dksX1_tiedTo_1 6 rfl rfl)
theorem dX1_tiedTo_29 : decode cX1_tiedTo 29 = .ok (.baload, 1) := dk_51 (dk_at dksX1_tiedTo_1 7 rfl rfl)
theorem dX1_tiedTo_30 : decode cX1_tiedTo 30 = .ok (.ifCond .ne 6, 3) := dk_154 0 6 (dk_at dksX1_tiedTo_1 8 rfl rfl)
theorem dX1_tiedTo_33 : decode cX1_tiedTo 33 = .ok (.goto 34, 3) := dk_167 0 34 (dk_at dksX1_tiedTo_1 11 rfl rfl)
theorem dX1_tiedTo_36 : decode cX1_tiedTo 36 = .ok (.aload_n 0, 1) := dk_42 (dk_at dksX1_tiedTo_1 14 rfl rfl)
theorem dX1_tiedTo_37 : decode cX1_tiedTo 37 = .ok (.getfield 33, 3) := dk_180 0 33 (dk_at dksX1_tiedTo_1 15 rfl rfl)
theorem dX1_tiedTo_40 : decode cX1_tiedTo 40 = .ok (.iload_n 3, 1) := dk_29 (dk_at dksX1_tiedTo_1 18 rfl rfl)
theorem dX1_tiedTo_41 : decode cX1_tiedTo 41 = .ok (.invokevirtual 371, 3) := dk_182 1 115 (dk_at dksX1_tiedTo_1 19 rfl rfl)
theorem dX1_tiedTo_44 : decode cX1_tiedTo 44 = .ok (.istore 4, 2) := dk_54 4 (dk_at dksX1_tiedTo_1 22 rfl rfl)
theorem dX1_tiedTo_46 : decode cX1_tiedTo 46 = .ok (.iload_n 2, 1) := dk_28 (dk_at dksX1_tiedTo_2 0 rfl rfl)
theorem dX1_tiedTo_47 : decode cX1_tiedTo 47 = .ok (.iload 4, 2) := dk_21 4 (dk_at dksX1_tiedTo_2 1 rfl rfl)
theorem dX1_tiedTo_49 : decode cX1_tiedTo 49 = .ok (.iload_n 1, 1) := dk_27 (dk_at dksX1_tiedTo_2 3 rfl rfl)
theorem dX1_tiedTo_50 : decode cX1_tiedTo 50 = .ok (.invokestatic 7, 3) := dk_184 0 7 (dk_at dksX1_tiedTo_2 4 rfl rfl)
theorem dX1_tiedTo_53 : decode cX1_tiedTo 53 = .ok (.ifCond .eq 8, 3) := dk_153 0 8 (dk_at dksX1_tiedTo_2 7 rfl rfl)
theorem dX1_tiedTo_56 : decode cX1_tiedTo 56 = .ok (.iload 4, 2) := dk_21 4 (dk_at dksX1_tiedTo_2 10 rfl rfl)
theorem dX1_tiedTo_58 : decode cX1_tiedTo 58 = .ok (.goto 7, 3) := dk_167 0 7 (dk_at dksX1_tiedTo_2 12 rfl rfl)
theorem dX1_tiedTo_61 : decode cX1_tiedTo 61 = .ok (.iload 4, 2) := dk_21 4 (dk_at dksX1_tiedTo_2 15 rfl rfl)
theorem dX1_tiedTo_63 : decode cX1_tiedTo 63 = .ok (.iconst (-1), 1) := dk_2 (dk_at dksX1_tiedTo_2 17 rfl rfl)
theorem dX1_tiedTo_64 : decode cX1_tiedTo 64 = .ok (.ixor, 1) := dk_130 (dk_at dksX1_tiedTo_2 18 rfl rfl)
theorem dX1_tiedTo_65 : decode cX1_tiedTo 65 = .ok (.iand, 1) := dk_126 (dk_at dksX1_tiedTo_2 19 rfl rfl)
theorem dX1_tiedTo_66 : decode cX1_tiedTo 66 = .ok (.istore_n 2, 1) := dk_61 (dk_at dksX1_tiedTo_2 20 rfl rfl)
theorem dX1_tiedTo_67 : decode cX1_tiedTo 67 = .ok (.iinc 3 1, 3) := dk_132 3 1 (dk_at dksX1_tiedTo_2 21 rfl rfl)
theorem dX1_tiedTo_70 : decode cX1_tiedTo 70 = .ok (.goto (-60), 3) := dk_167 255 196 (dk_at dksX1_tiedTo_3 0 rfl rfl)
theorem dX1_tiedTo_73 : decode cX1_tiedTo 73 = .ok (.iload_n 2, 1) := dk_28 (dk_at dksX1_tiedTo_3 3 rfl rfl)
theorem dX1_tiedTo_74 : decode cX1_tiedTo 74 = .ok (.ireturn, 1) := dk_172 (dk_at dksX1_tiedTo_3 4 rfl rfl)
abbrev cX1_keeps : ByteArray := prog_1_method_54_code
def yX1_keeps : MethodName := ⟨RX1, "keeps", "(II)Z"⟩
def dkwX1_keeps_0 : List UInt8 := [42, 27, 182, 1, 61, 42, 28, 182, 1, 61, 42, 180, 0, 50, 27, 28, 182, 1, 123, 172]
abbrev dktX1_keeps_0 : List UInt8 := dkwX1_keeps_0 ++ []
theorem dksX1_keeps_0 : cX1_keeps.data.toList.drop 0 = dktX1_keeps_0 := by decide +kernel
theorem dX1_keeps_0 : decode cX1_keeps 0 = .ok (.aload_n 0, 1) := dk_42 (dk_at dksX1_keeps_0 0 rfl rfl)
theorem dX1_keeps_1 : decode cX1_keeps 1 = .ok (.iload_n 1, 1) := dk_27 (dk_at dksX1_keeps_0 1 rfl rfl)
theorem dX1_keeps_2 : decode cX1_keeps 2 = .ok (.invokevirtual 317, 3) := dk_182 1 61 (dk_at dksX1_keeps_0 2 rfl rfl)
theorem dX1_keeps_5 : decode cX1_keeps 5 = .ok (.aload_n 0, 1) := dk_42 (dk_at dksX1_keeps_0 5 rfl rfl)
theorem dX1_keeps_6 : decode cX1_keeps 6 = .ok (.iload_n 2, 1) := dk_28 (dk_at dksX1_keeps_0 6 rfl rfl)
theorem dX1_keeps_7 : decode cX1_keeps 7 = .ok (.invokevirtual 317, 3) := dk_182 1 61 (dk_at dksX1_keeps_0 7 rfl rfl)
theorem dX1_keeps_10 : decode cX1_keeps 10 = .ok (.aload_n 0, 1) := dk_42 (dk_at dksX1_keeps_0 10 rfl rfl)
theorem dX1_keeps_11 : decode cX1_keeps 11 = .ok (.getfield 50, 3) := dk_180 0 50 (dk_at dksX1_keeps_0 11 rfl rfl)
theorem dX1_keeps_14 : decode cX1_keeps 14 = .ok (.iload_n 1, 1) := dk_27 (dk_at dksX1_keeps_0 14 rfl rfl)
theorem dX1_keeps_15 : decode cX1_keeps 15 = .ok (.iload_n 2, 1) := dk_28 (dk_at dksX1_keeps_0 15 rfl rfl)
theorem dX1_keeps_16 : decode cX1_keeps 16 = .ok (.invokevirtual 379, 3) := dk_182 1 123 (dk_at dksX1_keeps_0 16 rfl rfl)
theorem dX1_keeps_19 : decode cX1_keeps 19 = .ok (.ireturn, 1) := dk_172 (dk_at dksX1_keeps_0 19 rfl rfl)
abbrev cX1_common : ByteArray := prog_1_method_55_code
def yX1_common : MethodName := ⟨RX1, "common", "(II)I"⟩
def dkwX1_common_2 : List UInt8 := [167, 0, 4, 2, 172]
abbrev dktX1_common_2 : List UInt8 := dkwX1_common_2 ++ []
def dkwX1_common_1 : List UInt8 := [42, 180, 0, 50, 180, 0, 140, 28, 184, 0, 7, 153, 0, 15, 42, 180, 0, 50, 27, 28, 182, 1, 126]
abbrev dktX1_common_1 : List UInt8 := dkwX1_common_1 ++ dktX1_common_2
def dkwX1_common_0 : List UInt8 := [42, 27, 182, 1, 61, 42, 28, 182, 1, 61, 42, 180, 0, 50, 180, 0, 140, 27, 184, 0, 7, 153, 0, 29]
abbrev dktX1_common_0 : List UInt8 := dkwX1_common_0 ++ dktX1_common_1
theorem dksX1_common_0 : cX1_common.data.toList.drop 0 = dktX1_common_0 := by decide +kernel
theorem dksX1_common_1 : cX1_common.data.toList.drop 24 = dktX1_common_1 := dk_seg dksX1_common_0 24 rfl rfl
theorem dksX1_common_2 : cX1_common.data.toList.drop 47 = dktX1_common_2 := dk_seg dksX1_common_1 23 rfl rfl
theorem dX1_common_0 : decode cX1_common 0 = .ok (.aload_n 0, 1) := dk_42 (dk_at dksX1_common_0 0 rfl rfl)
theorem dX1_common_1 : decode cX1_common 1 = .ok (.iload_n 1, 1) := dk_27 (dk_at dksX1_common_0 1 rfl rfl)
theorem dX1_common_2 : decode cX1_common 2 = .ok (.invokevirtual 317, 3) := dk_182 1 61 (dk_at dksX1_common_0 2 rfl rfl)
theorem dX1_common_5 : decode cX1_common 5 = .ok (.aload_n 0, 1) := dk_42 (dk_at dksX1_common_0 5 rfl rfl)
theorem dX1_common_6 : decode cX1_common 6 = .ok (.iload_n 2, 1) := dk_28 (dk_at dksX1_common_0 6 rfl rfl)
theorem dX1_common_7 : decode cX1_common 7 = .ok (.invokevirtual 317, 3) := dk_182 1 61 (dk_at dksX1_common_0 7 rfl rfl)
theorem dX1_common_10 : decode cX1_common 10 = .ok (.aload_n 0, 1) := dk_42 (dk_at dksX1_common_0 10 rfl rfl)
theorem dX1_common_11 : decode cX1_common 11 = .ok (.getfield 50, 3) := dk_180 0 50 (dk_at dksX1_common_0 11 rfl rfl)
theorem dX1_common_14 : decode cX1_common 14 = .ok (.getfield 140, 3) := dk_180 0 140 (dk_at dksX1_common_0 14 rfl rfl)
theorem dX1_common_17 : decode cX1_common 17 = .ok (.iload_n 1, 1) := dk_27 (dk_at dksX1_common_0 17 rfl rfl)
theorem dX1_common_18 : decode cX1_common 18 = .ok (.invokestatic 7, 3) := dk_184 0 7 (dk_at dksX1_common_0 18 rfl rfl)
theorem dX1_common_21 : decode cX1_common 21 = .ok (.ifCond .eq 29, 3) := dk_153 0 29 (dk_at dksX1_common_0 21 rfl rfl)
theorem dX1_common_24 : decode cX1_common 24 = .ok (.aload_n 0, 1) := dk_42 (dk_at dksX1_common_1 0 rfl rfl)
theorem dX1_common_25 : decode cX1_common 25 = .ok (.getfield 50, 3) := dk_180 0 50 (dk_at dksX1_common_1 1 rfl rfl)
theorem dX1_common_28 : decode cX1_common 28 = .ok (.getfield 140, 3) := dk_180 0 140 (dk_at dksX1_common_1 4 rfl rfl)
theorem dX1_common_31 : decode cX1_common 31 = .ok (.iload_n 2, 1) := dk_28 (dk_at dksX1_common_1 7 rfl rfl)
theorem dX1_common_32 : decode cX1_common 32 = .ok (.invokestatic 7, 3) := dk_184 0 7 (dk_at dksX1_common_1 8 rfl rfl)
theorem dX1_common_35 : decode cX1_common 35 = .ok (.ifCond .eq 15, 3) := dk_153 0 15 (dk_at dksX1_common_1 11 rfl rfl)
theorem dX1_common_38 : decode cX1_common 38 = .ok (.aload_n 0, 1) := dk_42 (dk_at dksX1_common_1 14 rfl rfl)
theorem dX1_common_39 : decode cX1_common 39 = .ok (.getfield 50, 3) := dk_180 0 50 (dk_at dksX1_common_1 15 rfl rfl)
theorem dX1_common_42 : decode cX1_common 42 = .ok (.iload_n 1, 1) := dk_27 (dk_at dksX1_common_1 18 rfl rfl)
theorem dX1_common_43 : decode cX1_common 43 = .ok (.iload_n 2, 1) := dk_28 (dk_at dksX1_common_1 19 rfl rfl)
theorem dX1_common_44 : decode cX1_common 44 = .ok (.invokevirtual 382, 3) := dk_182 1 126 (dk_at dksX1_common_1 20 rfl rfl)
theorem dX1_common_47 : decode cX1_common 47 = .ok (.goto 4, 3) := dk_167 0 4 (dk_at dksX1_common_2 0 rfl rfl)
theorem dX1_common_50 : decode cX1_common 50 = .ok (.iconst (-1), 1) := dk_2 (dk_at dksX1_common_2 3 rfl rfl)
theorem dX1_common_51 : decode cX1_common 51 = .ok (.ireturn, 1) := dk_172 (dk_at dksX1_common_2 4 rfl rfl)
abbrev cX1_arc : ByteArray := prog_1_method_60_code
def yX1_arc : MethodName := ⟨RX1, "arc", "(II)I"⟩
def dkwX1_arc_4 : List UInt8 := [182, 1, 147, 167, 0, 16, 42, 27, 182, 1, 150, 153, 0, 7, 4, 167, 0, 4, 3, 172]
abbrev dktX1_arc_4 : List UInt8 := dkwX1_arc_4 ++ []
def dkwX1_arc_3 : List UInt8 := [42, 180, 0, 33, 180, 1, 54, 27, 51, 153, 0, 7, 4, 167, 0, 28, 3, 167, 0, 24, 42, 27]
abbrev dktX1_arc_3 : List UInt8 := dkwX1_arc_3 ++ dktX1_arc_4
def dkwX1_arc_2 : List UInt8 := [42, 180, 0, 33, 180, 0, 198, 27, 46, 167, 0, 56, 42, 180, 0, 33, 180, 0, 201, 27, 46, 167, 0, 44]
abbrev dktX1_arc_2 : List UInt8 := dkwX1_arc_2 ++ dktX1_arc_3
def dkwX1_arc_1 : List UInt8 := [170, 0, 0, 0, 0, 0, 83, 0, 0, 0, 0, 0, 0, 0, 3, 0, 0, 0, 31, 0, 0, 0, 43, 0, 0, 0, 55, 0, 0, 0, 75]
abbrev dktX1_arc_1 : List UInt8 := dkwX1_arc_1 ++ dktX1_arc_2
def dkwX1_arc_0 : List UInt8 := [42, 180, 0, 33, 27, 182, 1, 144, 184, 0, 254, 28, 3, 7, 184, 0, 119, 184, 0, 251, 28]
abbrev dktX1_arc_0 : List UInt8 := dkwX1_arc_0 ++ dktX1_arc_1
theorem dksX1_arc_0 : cX1_arc.data.toList.drop 0 = dktX1_arc_0 := by decide +kernel
theorem dksX1_arc_1 : cX1_arc.data.toList.drop 21 = dktX1_arc_1 := dk_seg dksX1_arc_0 21 rfl rfl
theorem dksX1_arc_2 : cX1_arc.data.toList.drop 52 = dktX1_arc_2 := dk_seg dksX1_arc_1 31 rfl rfl
theorem dksX1_arc_3 : cX1_arc.data.toList.drop 76 = dktX1_arc_3 := dk_seg dksX1_arc_2 24 rfl rfl
theorem dksX1_arc_4 : cX1_arc.data.toList.drop 98 = dktX1_arc_4 := dk_seg dksX1_arc_3 22 rfl rfl
theorem dX1_arc_0 : decode cX1_arc 0 = .ok (.aload_n 0, 1) := dk_42 (dk_at dksX1_arc_0 0 rfl rfl)
theorem dX1_arc_1 : decode cX1_arc 1 = .ok (.getfield 33, 3) := dk_180 0 33 (dk_at dksX1_arc_0 1 rfl rfl)
theorem dX1_arc_4 : decode cX1_arc 4 = .ok (.iload_n 1, 1) := dk_27 (dk_at dksX1_arc_0 4 rfl rfl)
theorem dX1_arc_5 : decode cX1_arc 5 = .ok (.invokevirtual 400, 3) := dk_182 1 144 (dk_at dksX1_arc_0 5 rfl rfl)
theorem dX1_arc_8 : decode cX1_arc 8 = .ok (.invokestatic 254, 3) := dk_184 0 254 (dk_at dksX1_arc_0 8 rfl rfl)
theorem dX1_arc_11 : decode cX1_arc 11 = .ok (.iload_n 2, 1) := dk_28 (dk_at dksX1_arc_0 11 rfl rfl)
theorem dX1_arc_12 : decode cX1_arc 12 = .ok (.iconst 0, 1) := dk_3 (dk_at dksX1_arc_0 12 rfl rfl)
theorem dX1_arc_13 : decode cX1_arc 13 = .ok (.iconst 4, 1) := dk_7 (dk_at dksX1_arc_0 13 rfl rfl)
theorem dX1_arc_14 : decode cX1_arc 14 = .ok (.invokestatic 119, 3) := dk_184 0 119 (dk_at dksX1_arc_0 14 rfl rfl)
theorem dX1_arc_17 : decode cX1_arc 17 = .ok (.invokestatic 251, 3) := dk_184 0 251 (dk_at dksX1_arc_0 17 rfl rfl)
theorem dX1_arc_20 : decode cX1_arc 20 = .ok (.iload_n 2, 1) := dk_28 (dk_at dksX1_arc_0 20 rfl rfl)
theorem dX1_arc_21 : decode cX1_arc 21 = .ok (.tableswitch 83 0 3 #[31, 43, 55, 75], 31) := by decide +kernel
theorem dX1_arc_52 : decode cX1_arc 52 = .ok (.aload_n 0, 1) := dk_42 (dk_at dksX1_arc_2 0 rfl rfl)
theorem dX1_arc_53 : decode cX1_arc 53 = .ok (.getfield 33, 3) := dk_180 0 33 (dk_at dksX1_arc_2 1 rfl rfl)
theorem dX1_arc_56 : decode cX1_arc 56 = .ok (.getfield 198, 3) := dk_180 0 198 (dk_at dksX1_arc_2 4 rfl rfl)
theorem dX1_arc_59 : decode cX1_arc 59 = .ok (.iload_n 1, 1) := dk_27 (dk_at dksX1_arc_2 7 rfl rfl)
theorem dX1_arc_60 : decode cX1_arc 60 = .ok (.iaload, 1) := dk_46 (dk_at dksX1_arc_2 8 rfl rfl)
theorem dX1_arc_61 : decode cX1_arc 61 = .ok (.goto 56, 3) := dk_167 0 56 (dk_at dksX1_arc_2 9 rfl rfl)
theorem dX1_arc_64 : decode cX1_arc 64 = .ok (.aload_n 0, 1) := dk_42 (dk_at dksX1_arc_2 12 rfl rfl)
theorem dX1_arc_65 : decode cX1_arc 65 = .ok (.getfield 33, 3) := dk_180 0 33 (dk_at dksX1_arc_2 13 rfl rfl)
theorem dX1_arc_68 : decode cX1_arc 68 = .ok (.getfield 201, 3) := dk_180 0 201 (dk_at dksX1_arc_2 16 rfl rfl)
theorem dX1_arc_71 : decode cX1_arc 71 = .ok (.iload_n 1, 1) := dk_27 (dk_at dksX1_arc_2 19 rfl rfl)
theorem dX1_arc_72 : decode cX1_arc 72 = .ok (.iaload, 1) := dk_46 (dk_at dksX1_arc_2 20 rfl rfl)
theorem dX1_arc_73 : decode cX1_arc 73 = .ok (.goto 44, 3) := dk_167 0 44 (dk_at dksX1_arc_2 21 rfl rfl)
theorem dX1_arc_76 : decode cX1_arc 76 = .ok (.aload_n 0, 1) := dk_42 (dk_at dksX1_arc_3 0 rfl rfl)
theorem dX1_arc_77 : decode cX1_arc 77 = .ok (.getfield 33, 3) := dk_180 0 33 (dk_at dksX1_arc_3 1 rfl rfl)
theorem dX1_arc_80 : decode cX1_arc 80 = .ok (.getfield 310, 3) := dk_180 1 54 (dk_at dksX1_arc_3 4 rfl rfl)
theorem dX1_arc_83 : decode cX1_arc 83 = .ok (.iload_n 1, 1) := dk_27 (dk_at dksX1_arc_3 7 rfl rfl)
theorem dX1_arc_84 : decode cX1_arc 84 = .ok (.baload, 1) := dk_51 (dk_at dksX1_arc_3 8 rfl rfl)
theorem dX1_arc_85 : decode cX1_arc 85 = .ok (.ifCond .eq 7, 3) := dk_153 0 7 (dk_at dksX1_arc_3 9 rfl rfl)
theorem dX1_arc_88 : decode cX1_arc 88 = .ok (.iconst 1, 1) := dk_4 (dk_at dksX1_arc_3 12 rfl rfl)
theorem dX1_arc_89 : decode cX1_arc 89 = .ok (.goto 28, 3) := dk_167 0 28 (dk_at dksX1_arc_3 13 rfl rfl)
theorem dX1_arc_92 : decode cX1_arc 92 = .ok (.iconst 0, 1) := dk_3 (dk_at dksX1_arc_3 16 rfl rfl)
theorem dX1_arc_93 : decode cX1_arc 93 = .ok (.goto 24, 3) := dk_167 0 24 (dk_at dksX1_arc_3 17 rfl rfl)
theorem dX1_arc_96 : decode cX1_arc 96 = .ok (.aload_n 0, 1) := dk_42 (dk_at dksX1_arc_3 20 rfl rfl)
theorem dX1_arc_97 : decode cX1_arc 97 = .ok (.iload_n 1, 1) := dk_27 (dk_at dksX1_arc_3 21 rfl rfl)
theorem dX1_arc_98 : decode cX1_arc 98 = .ok (.invokevirtual 403, 3) := dk_182 1 147 (dk_at dksX1_arc_4 0 rfl rfl)
theorem dX1_arc_101 : decode cX1_arc 101 = .ok (.goto 16, 3) := dk_167 0 16 (dk_at dksX1_arc_4 3 rfl rfl)
theorem dX1_arc_104 : decode cX1_arc 104 = .ok (.aload_n 0, 1) := dk_42 (dk_at dksX1_arc_4 6 rfl rfl)
theorem dX1_arc_105 : decode cX1_arc 105 = .ok (.iload_n 1, 1) := dk_27 (dk_at dksX1_arc_4 7 rfl rfl)
theorem dX1_arc_106 : decode cX1_arc 106 = .ok (.invokevirtual 406, 3) := dk_182 1 150 (dk_at dksX1_arc_4 8 rfl rfl)
theorem dX1_arc_109 : decode cX1_arc 109 = .ok (.ifCond .eq 7, 3) := dk_153 0 7 (dk_at dksX1_arc_4 11 rfl rfl)
theorem dX1_arc_112 : decode cX1_arc 112 = .ok (.iconst 1, 1) := dk_4 (dk_at dksX1_arc_4 14 rfl rfl)
theorem dX1_arc_113 : decode cX1_arc 113 = .ok (.goto 4, 3) := dk_167 0 4 (dk_at dksX1_arc_4 15 rfl rfl)
theorem dX1_arc_116 : decode cX1_arc 116 = .ok (.iconst 0, 1) := dk_3 (dk_at dksX1_arc_4 18 rfl rfl)
theorem dX1_arc_117 : decode cX1_arc 117 = .ok (.ireturn, 1) := dk_172 (dk_at dksX1_arc_4 19 rfl rfl)
abbrev cX1_without : ByteArray := prog_1_method_61_code
def yX1_without : MethodName := ⟨RX1, "without", "(I)I"⟩
def dkwX1_without_2 : List UInt8 := [126, 4, 27, 120, 2, 130, 126, 172]
abbrev dktX1_without_2 : List UInt8 := dkwX1_without_2 ++ []
def dkwX1_without_1 : List UInt8 := [42, 180, 0, 33, 180, 0, 218, 4, 27, 120, 182, 1, 118, 61, 42, 180, 0, 50, 180, 0, 140, 28, 2, 130]
abbrev dktX1_without_1 : List UInt8 := dkwX1_without_1 ++ dktX1_without_2
def dkwX1_without_0 : List UInt8 := [42, 27, 182, 1, 61, 27, 42, 180, 0, 33, 180, 0, 218, 160, 0, 7, 3, 167, 0, 20, 42, 180, 0, 33]
abbrev dktX1_without_0 : List UInt8 := dkwX1_without_0 ++ dktX1_without_1
theorem dksX1_without_0 : cX1_without.data.toList.drop 0 = dktX1_without_0 := by decide +kernel
theorem dksX1_without_1 : cX1_without.data.toList.drop 24 = dktX1_without_1 := dk_seg dksX1_without_0 24 rfl rfl
theorem dksX1_without_2 : cX1_without.data.toList.drop 48 = dktX1_without_2 := dk_seg dksX1_without_1 24 rfl rfl
theorem dX1_without_0 : decode cX1_without 0 = .ok (.aload_n 0, 1) := dk_42 (dk_at dksX1_without_0 0 rfl rfl)
theorem dX1_without_1 : decode cX1_without 1 = .ok (.iload_n 1, 1) := dk_27 (dk_at dksX1_without_0 1 rfl rfl)
theorem dX1_without_2 : decode cX1_without 2 = .ok (.invokevirtual 317, 3) := dk_182 1 61 (dk_at dksX1_without_0 2 rfl rfl)
theorem dX1_without_5 : decode cX1_without 5 = .ok (.iload_n 1, 1) := dk_27 (dk_at dksX1_without_0 5 rfl rfl)
theorem dX1_without_6 : decode cX1_without 6 = .ok (.aload_n 0, 1) := dk_42 (dk_at dksX1_without_0 6 rfl rfl)
theorem dX1_without_7 : decode cX1_without 7 = .ok (.getfield 33, 3) := dk_180 0 33 (dk_at dksX1_without_0 7 rfl rfl)
theorem dX1_without_10 : decode cX1_without 10 = .ok (.getfield 218, 3) := dk_180 0 218 (dk_at dksX1_without_0 10 rfl rfl)
theorem dX1_without_13 : decode cX1_without 13 = .ok (.if_icmp .ne 7, 3) := dk_160 0 7 (dk_at dksX1_without_0 13 rfl rfl)
theorem dX1_without_16 : decode cX1_without 16 = .ok (.iconst 0, 1) := dk_3 (dk_at dksX1_without_0 16 rfl rfl)
theorem dX1_without_17 : decode cX1_without 17 = .ok (.goto 20, 3) := dk_167 0 20 (dk_at dksX1_without_0 17 rfl rfl)
theorem dX1_without_20 : decode cX1_without 20 = .ok (.aload_n 0, 1) := dk_42 (dk_at dksX1_without_0 20 rfl rfl)
theorem dX1_without_21 : decode cX1_without 21 = .ok (.getfield 33, 3) := dk_180 0 33 (dk_at dksX1_without_0 21 rfl rfl)
theorem dX1_without_24 : decode cX1_without 24 = .ok (.aload_n 0, 1) := dk_42 (dk_at dksX1_without_1 0 rfl rfl)
theorem dX1_without_25 : decode cX1_without 25 = .ok (.getfield 33, 3) := dk_180 0 33 (dk_at dksX1_without_1 1 rfl rfl)
theorem dX1_without_28 : decode cX1_without 28 = .ok (.getfield 218, 3) := dk_180 0 218 (dk_at dksX1_without_1 4 rfl rfl)
theorem dX1_without_31 : decode cX1_without 31 = .ok (.iconst 1, 1) := dk_4 (dk_at dksX1_without_1 7 rfl rfl)
theorem dX1_without_32 : decode cX1_without 32 = .ok (.iload_n 1, 1) := dk_27 (dk_at dksX1_without_1 8 rfl rfl)
theorem dX1_without_33 : decode cX1_without 33 = .ok (.ishl, 1) := dk_120 (dk_at dksX1_without_1 9 rfl rfl)
theorem dX1_without_34 : decode cX1_without 34 = .ok (.invokevirtual 374, 3) := dk_182 1 118 (dk_at dksX1_without_1 10 rfl rfl)
theorem dX1_without_37 : decode cX1_without 37 = .ok (.istore_n 2, 1) := dk_61 (dk_at dksX1_without_1 13 rfl rfl)
theorem dX1_without_38 : decode cX1_without 38 = .ok (.aload_n 0, 1) := dk_42 (dk_at dksX1_without_1 14 rfl rfl)
theorem dX1_without_39 : decode cX1_without 39 = .ok (.getfield 50, 3) := dk_180 0 50 (dk_at dksX1_without_1 15 rfl rfl)
theorem dX1_without_42 : decode cX1_without 42 = .ok (.getfield 140, 3) := dk_180 0 140 (dk_at dksX1_without_1 18 rfl rfl)
theorem dX1_without_45 : decode cX1_without 45 = .ok (.iload_n 2, 1) := dk_28 (dk_at dksX1_without_1 21 rfl rfl)
theorem dX1_without_46 : decode cX1_without 46 = .ok (.iconst (-1), 1) := dk_2 (dk_at dksX1_without_1 22 rfl rfl)
theorem dX1_without_47 : decode cX1_without 47 = .ok (.ixor, 1) := dk_130 (dk_at dksX1_without_1 23 rfl rfl)
theorem dX1_without_48 : decode cX1_without 48 = .ok (.iand, 1) := dk_126 (dk_at dksX1_without_2 0 rfl rfl)
theorem dX1_without_49 : decode cX1_without 49 = .ok (.iconst 1, 1) := dk_4 (dk_at dksX1_without_2 1 rfl rfl)
theorem dX1_without_50 : decode cX1_without 50 = .ok (.iload_n 1, 1) := dk_27 (dk_at dksX1_without_2 2 rfl rfl)
theorem dX1_without_51 : decode cX1_without 51 = .ok (.ishl, 1) := dk_120 (dk_at dksX1_without_2 3 rfl rfl)
theorem dX1_without_52 : decode cX1_without 52 = .ok (.iconst (-1), 1) := dk_2 (dk_at dksX1_without_2 4 rfl rfl)
theorem dX1_without_53 : decode cX1_without 53 = .ok (.ixor, 1) := dk_130 (dk_at dksX1_without_2 5 rfl rfl)
theorem dX1_without_54 : decode cX1_without 54 = .ok (.iand, 1) := dk_126 (dk_at dksX1_without_2 6 rfl rfl)
theorem dX1_without_55 : decode cX1_without 55 = .ok (.ireturn, 1) := dk_172 (dk_at dksX1_without_2 7 rfl rfl)
abbrev cX1_seal : ByteArray := prog_1_method_62_code
def yX1_seal : MethodName := ⟨RX1, "seal", "(I)I"⟩
def dkwX1_seal_3 : List UInt8 := [130, 126, 27, 2, 130, 126, 172]
abbrev dktX1_seal_3 : List UInt8 := dkwX1_seal_3 ++ []
def dkwX1_seal_2 : List UInt8 := [180, 0, 33, 42, 180, 0, 33, 180, 0, 218, 27, 182, 1, 118, 61, 42, 180, 0, 50, 180, 0, 140, 28, 2]
abbrev dktX1_seal_2 : List UInt8 := dkwX1_seal_2 ++ dktX1_seal_3
def dkwX1_seal_1 : List UInt8 := [184, 0, 179, 27, 42, 180, 0, 33, 180, 0, 218, 184, 0, 7, 153, 0, 7, 3, 167, 0, 18, 42]
abbrev dktX1_seal_1 : List UInt8 := dkwX1_seal_1 ++ dktX1_seal_2
def dkwX1_seal_0 : List UInt8 := [27, 4, 42, 180, 0, 33, 180, 1, 1, 120, 4, 100, 2, 130, 126, 154, 0, 7, 4, 167, 0, 4, 3]
abbrev dktX1_seal_0 : List UInt8 := dkwX1_seal_0 ++ dktX1_seal_1
theorem dksX1_seal_0 : cX1_seal.data.toList.drop 0 = dktX1_seal_0 := by decide +kernel
theorem dksX1_seal_1 : cX1_seal.data.toList.drop 23 = dktX1_seal_1 := dk_seg dksX1_seal_0 23 rfl rfl
theorem dksX1_seal_2 : cX1_seal.data.toList.drop 45 = dktX1_seal_2 := dk_seg dksX1_seal_1 22 rfl rfl
theorem dksX1_seal_3 : cX1_seal.data.toList.drop 69 = dktX1_seal_3 := dk_seg dksX1_seal_2 24 rfl rfl
theorem dX1_seal_0 : decode cX1_seal 0 = .ok (.iload_n 1, 1) := dk_27 (dk_at dksX1_seal_0 0 rfl rfl)
theorem dX1_seal_1 : decode cX1_seal 1 = .ok (.iconst 1, 1) := dk_4 (dk_at dksX1_seal_0 1 rfl rfl)
theorem dX1_seal_2 : decode cX1_seal 2 = .ok (.aload_n 0, 1) := dk_42 (dk_at dksX1_seal_0 2 rfl rfl)
theorem dX1_seal_3 : decode cX1_seal 3 = .ok (.getfield 33, 3) := dk_180 0 33 (dk_at dksX1_seal_0 3 rfl rfl)
theorem dX1_seal_6 : decode cX1_seal 6 = .ok (.getfield 257, 3) := dk_180 1 1 (dk_at dksX1_seal_0 6 rfl rfl)
theorem dX1_seal_9 : decode cX1_seal 9 = .ok (.ishl, 1) := dk_120 (dk_at dksX1_seal_0 9 rfl rfl)
theorem dX1_seal_10 : decode cX1_seal 10 = .ok (.iconst 1, 1) := dk_4 (dk_at dksX1_seal_0 10 rfl rfl)
theorem dX1_seal_11 : decode cX1_seal 11 = .ok (.isub, 1) := dk_100 (dk_at dksX1_seal_0 11 rfl rfl)
theorem dX1_seal_12 : decode cX1_seal 12 = .ok (.iconst (-1), 1) := dk_2 (dk_at dksX1_seal_0 12 rfl rfl)
theorem dX1_seal_13 : decode cX1_seal 13 = .ok (.ixor, 1) := dk_130 (dk_at dksX1_seal_0 13 rfl rfl)
theorem dX1_seal_14 : decode cX1_seal 14 = .ok (.iand, 1) := dk_126 (dk_at dksX1_seal_0 14 rfl rfl)
theorem dX1_seal_15 : decode cX1_seal 15 = .ok (.ifCond .ne 7, 3) := dk_154 0 7 (dk_at dksX1_seal_0 15 rfl rfl)
theorem dX1_seal_18 : decode cX1_seal 18 = .ok (.iconst 1, 1) := dk_4 (dk_at dksX1_seal_0 18 rfl rfl)
theorem dX1_seal_19 : decode cX1_seal 19 = .ok (.goto 4, 3) := dk_167 0 4 (dk_at dksX1_seal_0 19 rfl rfl)
theorem dX1_seal_22 : decode cX1_seal 22 = .ok (.iconst 0, 1) := dk_3 (dk_at dksX1_seal_0 22 rfl rfl)
theorem dX1_seal_23 : decode cX1_seal 23 = .ok (.invokestatic 179, 3) := dk_184 0 179 (dk_at dksX1_seal_1 0 rfl rfl)
theorem dX1_seal_26 : decode cX1_seal 26 = .ok (.iload_n 1, 1) := dk_27 (dk_at dksX1_seal_1 3 rfl rfl)
theorem dX1_seal_27 : decode cX1_seal 27 = .ok (.aload_n 0, 1) := dk_42 (dk_at dksX1_seal_1 4 rfl rfl)
theorem dX1_seal_28 : decode cX1_seal 28 = .ok (.getfield 33, 3) := dk_180 0 33 (dk_at dksX1_seal_1 5 rfl rfl)
theorem dX1_seal_31 : decode cX1_seal 31 = .ok (.getfield 218, 3) := dk_180 0 218 (dk_at dksX1_seal_1 8 rfl rfl)
theorem dX1_seal_34 : decode cX1_seal 34 = .ok (.invokestatic 7, 3) := dk_184 0 7 (dk_at dksX1_seal_1 11 rfl rfl)
theorem dX1_seal_37 : decode cX1_seal 37 = .ok (.ifCond .eq 7, 3) := dk_153 0 7 (dk_at dksX1_seal_1 14 rfl rfl)
theorem dX1_seal_40 : decode cX1_seal 40 = .ok (.iconst 0, 1) := dk_3 (dk_at dksX1_seal_1 17 rfl rfl)
theorem dX1_seal_41 : decode cX1_seal 41 = .ok (.goto 18, 3) := dk_167 0 18 (dk_at dksX1_seal_1 18 rfl rfl)
theorem dX1_seal_44 : decode cX1_seal 44 = .ok (.aload_n 0, 1) := dk_42 (dk_at dksX1_seal_1 21 rfl rfl)
theorem dX1_seal_45 : decode cX1_seal 45 = .ok (.getfield 33, 3) := dk_180 0 33 (dk_at dksX1_seal_2 0 rfl rfl)
theorem dX1_seal_48 : decode cX1_seal 48 = .ok (.aload_n 0, 1) := dk_42 (dk_at dksX1_seal_2 3 rfl rfl)
theorem dX1_seal_49 : decode cX1_seal 49 = .ok (.getfield 33, 3) := dk_180 0 33 (dk_at dksX1_seal_2 4 rfl rfl)
theorem dX1_seal_52 : decode cX1_seal 52 = .ok (.getfield 218, 3) := dk_180 0 218 (dk_at dksX1_seal_2 7 rfl rfl)
theorem dX1_seal_55 : decode cX1_seal 55 = .ok (.iload_n 1, 1) := dk_27 (dk_at dksX1_seal_2 10 rfl rfl)
theorem dX1_seal_56 : decode cX1_seal 56 = .ok (.invokevirtual 374, 3) := dk_182 1 118 (dk_at dksX1_seal_2 11 rfl rfl)
theorem dX1_seal_59 : decode cX1_seal 59 = .ok (.istore_n 2, 1) := dk_61 (dk_at dksX1_seal_2 14 rfl rfl)
theorem dX1_seal_60 : decode cX1_seal 60 = .ok (.aload_n 0, 1) := dk_42 (dk_at dksX1_seal_2 15 rfl rfl)
theorem dX1_seal_61 : decode cX1_seal 61 = .ok (.getfield 50, 3) := dk_180 0 50 (dk_at dksX1_seal_2 16 rfl rfl)
theorem dX1_seal_64 : decode cX1_seal 64 = .ok (.getfield 140, 3) := dk_180 0 140 (dk_at dksX1_seal_2 19 rfl rfl)
theorem dX1_seal_67 : decode cX1_seal 67 = .ok (.iload_n 2, 1) := dk_28 (dk_at dksX1_seal_2 22 rfl rfl)
theorem dX1_seal_68 : decode cX1_seal 68 = .ok (.iconst (-1), 1) := dk_2 (dk_at dksX1_seal_2 23 rfl rfl)
theorem dX1_seal_69 : decode cX1_seal 69 = .ok (.ixor, 1) := dk_130 (dk_at dksX1_seal_3 0 rfl rfl)
theorem dX1_seal_70 : decode cX1_seal 70 = .ok (.iand, 1) := dk_126 (dk_at dksX1_seal_3 1 rfl rfl)
theorem dX1_seal_71 : decode cX1_seal 71 = .ok (.iload_n 1, 1) := dk_27 (dk_at dksX1_seal_3 2 rfl rfl)
theorem dX1_seal_72 : decode cX1_seal 72 = .ok (.iconst (-1), 1) := dk_2 (dk_at dksX1_seal_3 3 rfl rfl)
theorem dX1_seal_73 : decode cX1_seal 73 = .ok (.ixor, 1) := dk_130 (dk_at dksX1_seal_3 4 rfl rfl)
theorem dX1_seal_74 : decode cX1_seal 74 = .ok (.iand, 1) := dk_126 (dk_at dksX1_seal_3 5 rfl rfl)
theorem dX1_seal_75 : decode cX1_seal 75 = .ok (.ireturn, 1) := dk_172 (dk_at dksX1_seal_3 6 rfl rfl)
abbrev cX1_chain : ByteArray := prog_1_method_63_code
def yX1_chain : MethodName := ⟨RX1, "chain", "(II)I"⟩
def dkwX1_chain_2 : List UInt8 := [180, 1, 66, 29, 46, 28, 164, 0, 16, 42, 180, 0, 50, 180, 1, 63, 29, 46, 62, 167, 255, 233, 29, 172]
abbrev dktX1_chain_2 : List UInt8 := dkwX1_chain_2 ++ []
def dkwX1_chain_1 : List UInt8 := [180, 0, 50, 180, 1, 66, 27, 46, 184, 0, 119, 154, 0, 5, 2, 172, 27, 62, 42, 180, 0, 50]
abbrev dktX1_chain_1 : List UInt8 := dkwX1_chain_1 ++ dktX1_chain_2
def dkwX1_chain_0 : List UInt8 := [42, 27, 182, 1, 61, 42, 180, 0, 50, 180, 0, 140, 27, 184, 0, 7, 153, 0, 20, 28, 3, 42]
abbrev dktX1_chain_0 : List UInt8 := dkwX1_chain_0 ++ dktX1_chain_1
theorem dksX1_chain_0 : cX1_chain.data.toList.drop 0 = dktX1_chain_0 := by decide +kernel
theorem dksX1_chain_1 : cX1_chain.data.toList.drop 22 = dktX1_chain_1 := dk_seg dksX1_chain_0 22 rfl rfl
theorem dksX1_chain_2 : cX1_chain.data.toList.drop 44 = dktX1_chain_2 := dk_seg dksX1_chain_1 22 rfl rfl
theorem dX1_chain_0 : decode cX1_chain 0 = .ok (.aload_n 0, 1) := dk_42 (dk_at dksX1_chain_0 0 rfl rfl)
theorem dX1_chain_1 : decode cX1_chain 1 = .ok (.iload_n 1, 1) := dk_27 (dk_at dksX1_chain_0 1 rfl rfl)
theorem dX1_chain_2 : decode cX1_chain 2 = .ok (.invokevirtual 317, 3) := dk_182 1 61 (dk_at dksX1_chain_0 2 rfl rfl)
theorem dX1_chain_5 : decode cX1_chain 5 = .ok (.aload_n 0, 1) := dk_42 (dk_at dksX1_chain_0 5 rfl rfl)
theorem dX1_chain_6 : decode cX1_chain 6 = .ok (.getfield 50, 3) := dk_180 0 50 (dk_at dksX1_chain_0 6 rfl rfl)
theorem dX1_chain_9 : decode cX1_chain 9 = .ok (.getfield 140, 3) := dk_180 0 140 (dk_at dksX1_chain_0 9 rfl rfl)
theorem dX1_chain_12 : decode cX1_chain 12 = .ok (.iload_n 1, 1) := dk_27 (dk_at dksX1_chain_0 12 rfl rfl)
theorem dX1_chain_13 : decode cX1_chain 13 = .ok (.invokestatic 7, 3) := dk_184 0 7 (dk_at dksX1_chain_0 13 rfl rfl)
theorem dX1_chain_16 : decode cX1_chain 16 = .ok (.ifCond .eq 20, 3) := dk_153 0 20 (dk_at dksX1_chain_0 16 rfl rfl)
theorem dX1_chain_19 : decode cX1_chain 19 = .ok (.iload_n 2, 1) := dk_28 (dk_at dksX1_chain_0 19 rfl rfl)
theorem dX1_chain_20 : decode cX1_chain 20 = .ok (.iconst 0, 1) := dk_3 (dk_at dksX1_chain_0 20 rfl rfl)
theorem dX1_chain_21 : decode cX1_chain 21 = .ok (.aload_n 0, 1) := dk_42 (dk_at dksX1_chain_0 21 rfl rfl)
theorem dX1_chain_22 : decode cX1_chain 22 = .ok (.getfield 50, 3) := dk_180 0 50 (dk_at dksX1_chain_1 0 rfl rfl)
theorem dX1_chain_25 : decode cX1_chain 25 = .ok (.getfield 322, 3) := dk_180 1 66 (dk_at dksX1_chain_1 3 rfl rfl)
theorem dX1_chain_28 : decode cX1_chain 28 = .ok (.iload_n 1, 1) := dk_27 (dk_at dksX1_chain_1 6 rfl rfl)
theorem dX1_chain_29 : decode cX1_chain 29 = .ok (.iaload, 1) := dk_46 (dk_at dksX1_chain_1 7 rfl rfl)
theorem dX1_chain_30 : decode cX1_chain 30 = .ok (.invokestatic 119, 3) := dk_184 0 119 (dk_at dksX1_chain_1 8 rfl rfl)
theorem dX1_chain_33 : decode cX1_chain 33 = .ok (.ifCond .ne 5, 3) := dk_154 0 5 (dk_at dksX1_chain_1 11 rfl rfl)
theorem dX1_chain_36 : decode cX1_chain 36 = .ok (.iconst (-1), 1) := dk_2 (dk_at dksX1_chain_1 14 rfl rfl)
theorem dX1_chain_37 : decode cX1_chain 37 = .ok (.ireturn, 1) := dk_172 (dk_at dksX1_chain_1 15 rfl rfl)
theorem dX1_chain_38 : decode cX1_chain 38 = .ok (.iload_n 1, 1) := dk_27 (dk_at dksX1_chain_1 16 rfl rfl)
theorem dX1_chain_39 : decode cX1_chain 39 = .ok (.istore_n 3, 1) := dk_62 (dk_at dksX1_chain_1 17 rfl rfl)
theorem dX1_chain_40 : decode cX1_chain 40 = .ok (.aload_n 0, 1) := dk_42 (dk_at dksX1_chain_1 18 rfl rfl)
theorem dX1_chain_41 : decode cX1_chain 41 = .ok (.getfield 50, 3) := dk_180 0 50 (dk_at dksX1_chain_1 19 rfl rfl)
theorem dX1_chain_44 : decode cX1_chain 44 = .ok (.getfield 322, 3) := dk_180 1 66 (dk_at dksX1_chain_2 0 rfl rfl)
theorem dX1_chain_47 : decode cX1_chain 47 = .ok (.iload_n 3, 1) := dk_29 (dk_at dksX1_chain_2 3 rfl rfl)
theorem dX1_chain_48 : decode cX1_chain 48 = .ok (.iaload, 1) := dk_46 (dk_at dksX1_chain_2 4 rfl rfl)
theorem dX1_chain_49 : decode cX1_chain 49 = .ok (.iload_n 2, 1) := dk_28 (dk_at dksX1_chain_2 5 rfl rfl)
theorem dX1_chain_50 : decode cX1_chain 50 = .ok (.if_icmp .le 16, 3) := dk_164 0 16 (dk_at dksX1_chain_2 6 rfl rfl)
theorem dX1_chain_53 : decode cX1_chain 53 = .ok (.aload_n 0, 1) := dk_42 (dk_at dksX1_chain_2 9 rfl rfl)
theorem dX1_chain_54 : decode cX1_chain 54 = .ok (.getfield 50, 3) := dk_180 0 50 (dk_at dksX1_chain_2 10 rfl rfl)
theorem dX1_chain_57 : decode cX1_chain 57 = .ok (.getfield 319, 3) := dk_180 1 63 (dk_at dksX1_chain_2 13 rfl rfl)
theorem dX1_chain_60 : decode cX1_chain 60 = .ok (.iload_n 3, 1) := dk_29 (dk_at dksX1_chain_2 16 rfl rfl)
theorem dX1_chain_61 : decode cX1_chain 61 = .ok (.iaload, 1) := dk_46 (dk_at dksX1_chain_2 17 rfl rfl)
theorem dX1_chain_62 : decode cX1_chain 62 = .ok (.istore_n 3, 1) := dk_62 (dk_at dksX1_chain_2 18 rfl rfl)
theorem dX1_chain_63 : decode cX1_chain 63 = .ok (.goto (-23), 3) := dk_167 255 233 (dk_at dksX1_chain_2 19 rfl rfl)
theorem dX1_chain_66 : decode cX1_chain 66 = .ok (.iload_n 3, 1) := dk_29 (dk_at dksX1_chain_2 22 rfl rfl)
theorem dX1_chain_67 : decode cX1_chain 67 = .ok (.ireturn, 1) := dk_172 (dk_at dksX1_chain_2 23 rfl rfl)
abbrev cX1_via : ByteArray := prog_1_method_65_code
def yX1_via : MethodName := ⟨RX1, "via", "(II)I"⟩
def dkwX1_via_1 : List UInt8 := [154, 0, 5, 2, 172, 42, 42, 27, 28, 186, 1, 154, 0, 0, 182, 1, 11, 172]
abbrev dktX1_via_1 : List UInt8 := dkwX1_via_1 ++ []
def dkwX1_via_0 : List UInt8 := [42, 27, 182, 1, 61, 42, 28, 182, 1, 61, 42, 180, 0, 33, 27, 3, 182, 1, 118, 28, 184, 0, 7]
abbrev dktX1_via_0 : List UInt8 := dkwX1_via_0 ++ dktX1_via_1
theorem dksX1_via_0 : cX1_via.data.toList.drop 0 = dktX1_via_0 := by decide +kernel
theorem dksX1_via_1 : cX1_via.data.toList.drop 23 = dktX1_via_1 := dk_seg dksX1_via_0 23 rfl rfl
theorem dX1_via_0 : decode cX1_via 0 = .ok (.aload_n 0, 1) := dk_42 (dk_at dksX1_via_0 0 rfl rfl)
theorem dX1_via_1 : decode cX1_via 1 = .ok (.iload_n 1, 1) := dk_27 (dk_at dksX1_via_0 1 rfl rfl)
theorem dX1_via_2 : decode cX1_via 2 = .ok (.invokevirtual 317, 3) := dk_182 1 61 (dk_at dksX1_via_0 2 rfl rfl)
theorem dX1_via_5 : decode cX1_via 5 = .ok (.aload_n 0, 1) := dk_42 (dk_at dksX1_via_0 5 rfl rfl)
theorem dX1_via_6 : decode cX1_via 6 = .ok (.iload_n 2, 1) := dk_28 (dk_at dksX1_via_0 6 rfl rfl)
theorem dX1_via_7 : decode cX1_via 7 = .ok (.invokevirtual 317, 3) := dk_182 1 61 (dk_at dksX1_via_0 7 rfl rfl)
theorem dX1_via_10 : decode cX1_via 10 = .ok (.aload_n 0, 1) := dk_42 (dk_at dksX1_via_0 10 rfl rfl)
theorem dX1_via_11 : decode cX1_via 11 = .ok (.getfield 33, 3) := dk_180 0 33 (dk_at dksX1_via_0 11 rfl rfl)
theorem dX1_via_14 : decode cX1_via 14 = .ok (.iload_n 1, 1) := dk_27 (dk_at dksX1_via_0 14 rfl rfl)
theorem dX1_via_15 : decode cX1_via 15 = .ok (.iconst 0, 1) := dk_3 (dk_at dksX1_via_0 15 rfl rfl)
theorem dX1_via_16 : decode cX1_via 16 = .ok (.invokevirtual 374, 3) := dk_182 1 118 (dk_at dksX1_via_0 16 rfl rfl)
theorem dX1_via_19 : decode cX1_via 19 = .ok (.iload_n 2, 1) := dk_28 (dk_at dksX1_via_0 19 rfl rfl)
theorem dX1_via_20 : decode cX1_via 20 = .ok (.invokestatic 7, 3) := dk_184 0 7 (dk_at dksX1_via_0 20 rfl rfl)
theorem dX1_via_23 : decode cX1_via 23 = .ok (.ifCond .ne 5, 3) := dk_154 0 5 (dk_at dksX1_via_1 0 rfl rfl)
theorem dX1_via_26 : decode cX1_via 26 = .ok (.iconst (-1), 1) := dk_2 (dk_at dksX1_via_1 3 rfl rfl)
theorem dX1_via_27 : decode cX1_via 27 = .ok (.ireturn, 1) := dk_172 (dk_at dksX1_via_1 4 rfl rfl)
theorem dX1_via_28 : decode cX1_via 28 = .ok (.aload_n 0, 1) := dk_42 (dk_at dksX1_via_1 5 rfl rfl)
theorem dX1_via_29 : decode cX1_via 29 = .ok (.aload_n 0, 1) := dk_42 (dk_at dksX1_via_1 6 rfl rfl)
theorem dX1_via_30 : decode cX1_via 30 = .ok (.iload_n 1, 1) := dk_27 (dk_at dksX1_via_1 7 rfl rfl)
theorem dX1_via_31 : decode cX1_via 31 = .ok (.iload_n 2, 1) := dk_28 (dk_at dksX1_via_1 8 rfl rfl)
theorem dX1_via_32 : decode cX1_via 32 = .ok (.invokedynamic 410, 5) := by decide +kernel
theorem dX1_via_37 : decode cX1_via 37 = .ok (.invokevirtual 267, 3) := dk_182 1 11 (dk_at dksX1_via_1 14 rfl rfl)
theorem dX1_via_40 : decode cX1_via 40 = .ok (.ireturn, 1) := dk_172 (dk_at dksX1_via_1 17 rfl rfl)
abbrev cX1_lambda_via_9 : ByteArray := prog_1_method_95_code
def yX1_lambda_via_9 : MethodName := ⟨RX1, "lambda$via$9", "(III)Z"⟩
def dkwX1_lambda_via_9_1 : List UInt8 := [184, 0, 7, 154, 0, 7, 4, 167, 0, 4, 3, 172]
abbrev dktX1_lambda_via_9_1 : List UInt8 := dkwX1_lambda_via_9_1 ++ []
def dkwX1_lambda_via_9_0 : List UInt8 := [29, 27, 159, 0, 30, 29, 28, 159, 0, 25, 42, 180, 0, 33, 27, 4, 29, 120, 182, 1, 118, 28]
abbrev dktX1_lambda_via_9_0 : List UInt8 := dkwX1_lambda_via_9_0 ++ dktX1_lambda_via_9_1
theorem dksX1_lambda_via_9_0 : cX1_lambda_via_9.data.toList.drop 0 = dktX1_lambda_via_9_0 := by decide +kernel
theorem dksX1_lambda_via_9_1 : cX1_lambda_via_9.data.toList.drop 22 = dktX1_lambda_via_9_1 := dk_seg dksX1_lambda_via_9_0 22 rfl rfl
theorem dX1_lambda_via_9_0 : decode cX1_lambda_via_9 0 = .ok (.iload_n 3, 1) := dk_29 (dk_at dksX1_lambda_via_9_0 0 rfl rfl)
theorem dX1_lambda_via_9_1 : decode cX1_lambda_via_9 1 = .ok (.iload_n 1, 1) := dk_27 (dk_at dksX1_lambda_via_9_0 1 rfl rfl)
theorem dX1_lambda_via_9_2 : decode cX1_lambda_via_9 2 = .ok (.if_icmp .eq 30, 3) := dk_159 0 30 (dk_at dksX1_lambda_via_9_0 2 rfl rfl)
theorem dX1_lambda_via_9_5 : decode cX1_lambda_via_9 5 = .ok (.iload_n 3, 1) := dk_29 (dk_at dksX1_lambda_via_9_0 5 rfl rfl)
theorem dX1_lambda_via_9_6 : decode cX1_lambda_via_9 6 = .ok (.iload_n 2, 1) := dk_28 (dk_at dksX1_lambda_via_9_0 6 rfl rfl)
theorem dX1_lambda_via_9_7 : decode cX1_lambda_via_9 7 = .ok (.if_icmp .eq 25, 3) := dk_159 0 25 (dk_at dksX1_lambda_via_9_0 7 rfl rfl)
theorem dX1_lambda_via_9_10 : decode cX1_lambda_via_9 10 = .ok (.aload_n 0, 1) := dk_42 (dk_at dksX1_lambda_via_9_0 10 rfl rfl)
theorem dX1_lambda_via_9_11 : decode cX1_lambda_via_9 11 = .ok (.getfield 33, 3) := dk_180 0 33 (dk_at dksX1_lambda_via_9_0 11 rfl rfl)
theorem dX1_lambda_via_9_14 : decode cX1_lambda_via_9 14 = .ok (.iload_n 1, 1) := dk_27 (dk_at dksX1_lambda_via_9_0 14 rfl rfl)
theorem dX1_lambda_via_9_15 : decode cX1_lambda_via_9 15 = .ok (.iconst 1, 1) := dk_4 (dk_at dksX1_lambda_via_9_0 15 rfl rfl)
theorem dX1_lambda_via_9_16 : decode cX1_lambda_via_9 16 = .ok (.iload_n 3, 1) := dk_29 (dk_at dksX1_lambda_via_9_0 16 rfl rfl)
theorem dX1_lambda_via_9_17 : decode cX1_lambda_via_9 17 = .ok (.ishl, 1) := dk_120 (dk_at dksX1_lambda_via_9_0 17 rfl rfl)
theorem dX1_lambda_via_9_18 : decode cX1_lambda_via_9 18 = .ok (.invokevirtual 374, 3) := dk_182 1 118 (dk_at dksX1_lambda_via_9_0 18 rfl rfl)
theorem dX1_lambda_via_9_21 : decode cX1_lambda_via_9 21 = .ok (.iload_n 2, 1) := dk_28 (dk_at dksX1_lambda_via_9_0 21 rfl rfl)
theorem dX1_lambda_via_9_22 : decode cX1_lambda_via_9 22 = .ok (.invokestatic 7, 3) := dk_184 0 7 (dk_at dksX1_lambda_via_9_1 0 rfl rfl)
theorem dX1_lambda_via_9_25 : decode cX1_lambda_via_9 25 = .ok (.ifCond .ne 7, 3) := dk_154 0 7 (dk_at dksX1_lambda_via_9_1 3 rfl rfl)
theorem dX1_lambda_via_9_28 : decode cX1_lambda_via_9 28 = .ok (.iconst 1, 1) := dk_4 (dk_at dksX1_lambda_via_9_1 6 rfl rfl)
theorem dX1_lambda_via_9_29 : decode cX1_lambda_via_9 29 = .ok (.goto 4, 3) := dk_167 0 4 (dk_at dksX1_lambda_via_9_1 7 rfl rfl)
theorem dX1_lambda_via_9_32 : decode cX1_lambda_via_9 32 = .ok (.iconst 0, 1) := dk_3 (dk_at dksX1_lambda_via_9_1 10 rfl rfl)
theorem dX1_lambda_via_9_33 : decode cX1_lambda_via_9 33 = .ok (.ireturn, 1) := dk_172 (dk_at dksX1_lambda_via_9_1 11 rfl rfl)
abbrev cX1_pass : ByteArray := prog_1_method_67_code
def yX1_pass : MethodName := ⟨RX1, "pass", "(II)I"⟩
def dkwX1_pass_5 : List UInt8 := [160, 0, 7, 29, 167, 0, 4, 2, 172]
abbrev dktX1_pass_5 : List UInt8 := dkwX1_pass_5 ++ []
def dkwX1_pass_4 : List UInt8 := [160, 0, 6, 21, 5, 172, 132, 3, 1, 132, 5, 1, 167, 255, 194, 132, 4, 1, 167, 255, 171, 28, 2]
abbrev dktX1_pass_4 : List UInt8 := dkwX1_pass_4 ++ dktX1_pass_5
def dkwX1_pass_3 : List UInt8 := [180, 1, 66, 42, 180, 0, 33, 180, 0, 198, 21, 5, 46, 46, 21, 4, 159, 0, 6, 167, 0, 14, 29, 28]
abbrev dktX1_pass_3 : List UInt8 := dkwX1_pass_3 ++ dktX1_pass_4
def dkwX1_pass_2 : List UInt8 := [180, 0, 33, 180, 0, 230, 162, 0, 56, 42, 21, 5, 27, 182, 1, 155, 153, 0, 40, 42, 180, 0, 50]
abbrev dktX1_pass_2 : List UInt8 := dkwX1_pass_2 ++ dktX1_pass_3
def dkwX1_pass_1 : List UInt8 := [54, 4, 21, 4, 42, 180, 0, 50, 180, 1, 66, 27, 46, 163, 0, 77, 3, 54, 5, 21, 5, 42]
abbrev dktX1_pass_1 : List UInt8 := dkwX1_pass_1 ++ dktX1_pass_2
def dkwX1_pass_0 : List UInt8 := [42, 27, 182, 1, 61, 42, 180, 0, 50, 180, 0, 140, 27, 184, 0, 7, 154, 0, 5, 2, 172, 3, 62, 3]
abbrev dktX1_pass_0 : List UInt8 := dkwX1_pass_0 ++ dktX1_pass_1
theorem dksX1_pass_0 : cX1_pass.data.toList.drop 0 = dktX1_pass_0 := by decide +kernel
theorem dksX1_pass_1 : cX1_pass.data.toList.drop 24 = dktX1_pass_1 := dk_seg dksX1_pass_0 24 rfl rfl
theorem dksX1_pass_2 : cX1_pass.data.toList.drop 46 = dktX1_pass_2 := dk_seg dksX1_pass_1 22 rfl rfl
theorem dksX1_pass_3 : cX1_pass.data.toList.drop 69 = dktX1_pass_3 := dk_seg dksX1_pass_2 23 rfl rfl
theorem dksX1_pass_4 : cX1_pass.data.toList.drop 93 = dktX1_pass_4 := dk_seg dksX1_pass_3 24 rfl rfl
theorem dksX1_pass_5 : cX1_pass.data.toList.drop 116 = dktX1_pass_5 := dk_seg dksX1_pass_4 23 rfl rfl
theorem dX1_pass_0 : decode cX1_pass 0 = .ok (.aload_n 0, 1) := dk_42 (dk_at dksX1_pass_0 0 rfl rfl)
theorem dX1_pass_1 : decode cX1_pass 1 = .ok (.iload_n 1, 1) := dk_27 (dk_at dksX1_pass_0 1 rfl rfl)
theorem dX1_pass_2 : decode cX1_pass 2 = .ok (.invokevirtual 317, 3) := dk_182 1 61 (dk_at dksX1_pass_0 2 rfl rfl)
theorem dX1_pass_5 : decode cX1_pass 5 = .ok (.aload_n 0, 1) := dk_42 (dk_at dksX1_pass_0 5 rfl rfl)
theorem dX1_pass_6 : decode cX1_pass 6 = .ok (.getfield 50, 3) := dk_180 0 50 (dk_at dksX1_pass_0 6 rfl rfl)
theorem dX1_pass_9 : decode cX1_pass 9 = .ok (.getfield 140, 3) := dk_180 0 140 (dk_at dksX1_pass_0 9 rfl rfl)
theorem dX1_pass_12 : decode cX1_pass 12 = .ok (.iload_n 1, 1) := dk_27 (dk_at dksX1_pass_0 12 rfl rfl)
theorem dX1_pass_13 : decode cX1_pass 13 = .ok (.invokestatic 7, 3) := dk_184 0 7 (dk_at dksX1_pass_0 13 rfl rfl)
theorem dX1_pass_16 : decode cX1_pass 16 = .ok (.ifCond .ne 5, 3) := dk_154 0 5 (dk_at dksX1_pass_0 16 rfl rfl)
theorem dX1_pass_19 : decode cX1_pass 19 = .ok (.iconst (-1), 1) := dk_2 (dk_at dksX1_pass_0 19 rfl rfl)
theorem dX1_pass_20 : decode cX1_pass 20 = .ok (.ireturn, 1) := dk_172 (dk_at dksX1_pass_0 20 rfl rfl)
theorem dX1_pass_21 : decode cX1_pass 21 = .ok (.iconst 0, 1) := dk_3 (dk_at dksX1_pass_0 21 rfl rfl)
theorem dX1_pass_22 : decode cX1_pass 22 = .ok (.istore_n 3, 1) := dk_62 (dk_at dksX1_pass_0 22 rfl rfl)
theorem dX1_pass_23 : decode cX1_pass 23 = .ok (.iconst 0, 1) := dk_3 (dk_at dksX1_pass_0 23 rfl rfl)
theorem dX1_pass_24 : decode cX1_pass 24 = .ok (.istore 4, 2) := dk_54 4 (dk_at dksX1_pass_1 0 rfl rfl)
theorem dX1_pass_26 : decode cX1_pass 26 = .ok (.iload 4, 2) := dk_21 4 (dk_at dksX1_pass_1 2 rfl rfl)
theorem dX1_pass_28 : decode cX1_pass 28 = .ok (.aload_n 0, 1) := dk_42 (dk_at dksX1_pass_1 4 rfl rfl)
theorem dX1_pass_29 : decode cX1_pass 29 = .ok (.getfield 50, 3) := dk_180 0 50 (dk_at dksX1_pass_1 5 rfl rfl)
theorem dX1_pass_32 : decode cX1_pass 32 = .ok (.getfield 322, 3) := dk_180 1 66 (dk_at dksX1_pass_1 8 rfl rfl)
theorem dX1_pass_35 : decode cX1_pass 35 = .ok (.iload_n 1, 1) := dk_27 (dk_at dksX1_pass_1 11 rfl rfl)
theorem dX1_pass_36 : decode cX1_pass 36 = .ok (.iaload, 1) := dk_46 (dk_at dksX1_pass_1 12 rfl rfl)
theorem dX1_pass_37 : decode cX1_pass 37 = .ok (.if_icmp .gt 77, 3) := dk_163 0 77 (dk_at dksX1_pass_1 13 rfl rfl)
theorem dX1_pass_40 : decode cX1_pass 40 = .ok (.iconst 0, 1) := dk_3 (dk_at dksX1_pass_1 16 rfl rfl)
theorem dX1_pass_41 : decode cX1_pass 41 = .ok (.istore 5, 2) := dk_54 5 (dk_at dksX1_pass_1 17 rfl rfl)
theorem dX1_pass_43 : decode cX1_pass 43 = .ok (.iload 5, 2) := dk_21 5 (dk_at dksX1_pass_1 19 rfl rfl)
theorem dX1_pass_45 : decode cX1_pass 45 = .ok (.aload_n 0, 1) := dk_42 (dk_at dksX1_pass_1 21 rfl rfl)
theorem dX1_pass_46 : decode cX1_pass 46 = .ok (.getfield 33, 3) := dk_180 0 33 (dk_at dksX1_pass_2 0 rfl rfl)
theorem dX1_pass_49 : decode cX1_pass 49 = .ok (.getfield 230, 3) := dk_180 0 230 (dk_at dksX1_pass_2 3 rfl rfl)
theorem dX1_pass_52 : decode cX1_pass 52 = .ok (.if_icmp .ge 56, 3) := dk_162 0 56 (dk_at dksX1_pass_2 6 rfl rfl)
theorem dX1_pass_55 : decode cX1_pass 55 = .ok (.aload_n 0, 1) := dk_42 (dk_at dksX1_pass_2 9 rfl rfl)
theorem dX1_pass_56 : decode cX1_pass 56 = .ok (.iload 5, 2) := dk_21 5 (dk_at dksX1_pass_2 10 rfl rfl)
theorem dX1_pass_58 : decode cX1_pass 58 = .ok (.iload_n 1, 1) := dk_27 (dk_at dksX1_pass_2 12 rfl rfl)
theorem dX1_pass_59 : decode cX1_pass 59 = .ok (.invokevirtual 411, 3) := dk_182 1 155 (dk_at dksX1_pass_2 13 rfl rfl)
theorem dX1_pass_62 : decode cX1_pass 62 = .ok (.ifCond .eq 40, 3) := dk_153 0 40 (dk_at dksX1_pass_2 16 rfl rfl)
theorem dX1_pass_65 : decode cX1_pass 65 = .ok (.aload_n 0, 1) := dk_42 (dk_at dksX1_pass_2 19 rfl rfl)
theorem dX1_pass_66 : decode cX1_pass 66 = .ok (.getfield 50, 3) := dk_180 0 50 (dk_at dksX1_pass_2 20 rfl rfl)
theorem dX1_pass_69 : decode cX1_pass 69 = .ok (.getfield 322, 3) := dk_180 1 66 (dk_at dksX1_pass_3 0 rfl rfl)
theorem dX1_pass_72 : decode cX1_pass 72 = .ok (.aload_n 0, 1) := dk_42 (dk_at dksX1_pass_3 3 rfl rfl)
theorem dX1_pass_73 : decode cX1_pass 73 = .ok (.getfield 33, 3) := dk_180 0 33 (dk_at dksX1_pass_3 4 rfl rfl)
theorem dX1_pass_76 : decode cX1_pass 76 = .ok (.getfield 198, 3) := dk_180 0 198 (dk_at dksX1_pass_3 7 rfl rfl)
theorem dX1_pass_79 : decode cX1_pass 79 = .ok (.iload 5, 2) := dk_21 5 (dk_at dksX1_pass_3 10 rfl rfl)
theorem dX1_pass_81 : decode cX1_pass 81 = .ok (.iaload, 1) := dk_46 (dk_at dksX1_pass_3 12 rfl rfl)
theorem dX1_pass_82 : decode cX1_pass 82 = .ok (.iaload, 1) := dk_46 (dk_at dksX1_pass_3 13 rfl rfl)
theorem dX1_pass_83 : decode cX1_pass 83 = .ok (.iload 4, 2) := dk_21 4 (dk_at dksX1_pass_3 14 rfl rfl)
theorem dX1_pass_85 : decode cX1_pass 85 = .ok (.if_icmp .eq 6, 3) := dk_159 0 6 (dk_at dksX1_pass_3 16 rfl rfl)
theorem dX1_pass_88 : decode cX1_pass 88 = .ok (.goto 14, 3) := dk_167 0 14 (dk_at dksX1_pass_3 19 rfl rfl)
theorem dX1_pass_91 : decode cX1_pass 91 = .ok (.iload_n 3, 1) := dk_29 (dk_at dksX1_pass_3 22 rfl rfl)
theorem dX1_pass_92 : decode cX1_pass 92 = .ok (.iload_n 2, 1) := dk_28 (dk_at dksX1_pass_3 23 rfl rfl)
theorem dX1_pass_93 : decode cX1_pass 93 = .ok (.if_icmp .ne 6, 3) := dk_160 0 6 (dk_at dksX1_pass_4 0 rfl rfl)
theorem dX1_pass_96 : decode cX1_pass 96 = .ok (.iload 5, 2) := dk_21 5 (dk_at dksX1_pass_4 3 rfl rfl)
theorem dX1_pass_98 : decode cX1_pass 98 = .ok (.ireturn, 1) := dk_172 (dk_at dksX1_pass_4 5 rfl rfl)
theorem dX1_pass_99 : decode cX1_pass 99 = .ok (.iinc 3 1, 3) := dk_132 3 1 (dk_at dksX1_pass_4 6 rfl rfl)
theorem dX1_pass_102 : decode cX1_pass 102 = .ok (.iinc 5 1, 3) := dk_132 5 1 (dk_at dksX1_pass_4 9 rfl rfl)
theorem dX1_pass_105 : decode cX1_pass 105 = .ok (.goto (-62), 3) := dk_167 255 194 (dk_at dksX1_pass_4 12 rfl rfl)
theorem dX1_pass_108 : decode cX1_pass 108 = .ok (.iinc 4 1, 3) := dk_132 4 1 (dk_at dksX1_pass_4 15 rfl rfl)
theorem dX1_pass_111 : decode cX1_pass 111 = .ok (.goto (-85), 3) := dk_167 255 171 (dk_at dksX1_pass_4 18 rfl rfl)
theorem dX1_pass_114 : decode cX1_pass 114 = .ok (.iload_n 2, 1) := dk_28 (dk_at dksX1_pass_4 21 rfl rfl)
theorem dX1_pass_115 : decode cX1_pass 115 = .ok (.iconst (-1), 1) := dk_2 (dk_at dksX1_pass_4 22 rfl rfl)
theorem dX1_pass_116 : decode cX1_pass 116 = .ok (.if_icmp .ne 7, 3) := dk_160 0 7 (dk_at dksX1_pass_5 0 rfl rfl)
theorem dX1_pass_119 : decode cX1_pass 119 = .ok (.iload_n 3, 1) := dk_29 (dk_at dksX1_pass_5 3 rfl rfl)
theorem dX1_pass_120 : decode cX1_pass 120 = .ok (.goto 4, 3) := dk_167 0 4 (dk_at dksX1_pass_5 4 rfl rfl)
theorem dX1_pass_123 : decode cX1_pass 123 = .ok (.iconst (-1), 1) := dk_2 (dk_at dksX1_pass_5 7 rfl rfl)
theorem dX1_pass_124 : decode cX1_pass 124 = .ok (.ireturn, 1) := dk_172 (dk_at dksX1_pass_5 8 rfl rfl)
abbrev cX1_isPass : ByteArray := prog_1_method_66_code
def yX1_isPass : MethodName := ⟨RX1, "isPass", "(II)Z"⟩
def dkwX1_isPass_1 : List UInt8 := [182, 1, 115, 28, 184, 0, 7, 154, 0, 7, 4, 167, 0, 4, 3, 172]
abbrev dktX1_isPass_1 : List UInt8 := dkwX1_isPass_1 ++ []
def dkwX1_isPass_0 : List UInt8 := [42, 180, 0, 33, 27, 42, 180, 0, 50, 180, 0, 140, 182, 1, 141, 153, 0, 22, 42, 180, 0, 33, 27]
abbrev dktX1_isPass_0 : List UInt8 := dkwX1_isPass_0 ++ dktX1_isPass_1
theorem dksX1_isPass_0 : cX1_isPass.data.toList.drop 0 = dktX1_isPass_0 := by decide +kernel
theorem dksX1_isPass_1 : cX1_isPass.data.toList.drop 23 = dktX1_isPass_1 := dk_seg dksX1_isPass_0 23 rfl rfl
theorem dX1_isPass_0 : decode cX1_isPass 0 = .ok (.aload_n 0, 1) := dk_42 (dk_at dksX1_isPass_0 0 rfl rfl)
theorem dX1_isPass_1 : decode cX1_isPass 1 = .ok (.getfield 33, 3) := dk_180 0 33 (dk_at dksX1_isPass_0 1 rfl rfl)
theorem dX1_isPass_4 : decode cX1_isPass 4 = .ok (.iload_n 1, 1) := dk_27 (dk_at dksX1_isPass_0 4 rfl rfl)
theorem dX1_isPass_5 : decode cX1_isPass 5 = .ok (.aload_n 0, 1) := dk_42 (dk_at dksX1_isPass_0 5 rfl rfl)
theorem dX1_isPass_6 : decode cX1_isPass 6 = .ok (.getfield 50, 3) := dk_180 0 50 (dk_at dksX1_isPass_0 6 rfl rfl)
theorem dX1_isPass_9 : decode cX1_isPass 9 = .ok (.getfield 140, 3) := dk_180 0 140 (dk_at dksX1_isPass_0 9 rfl rfl)
theorem dX1_isPass_12 : decode cX1_isPass 12 = .ok (.invokevirtual 397, 3) := dk_182 1 141 (dk_at dksX1_isPass_0 12 rfl rfl)
theorem dX1_isPass_15 : decode cX1_isPass 15 = .ok (.ifCond .eq 22, 3) := dk_153 0 22 (dk_at dksX1_isPass_0 15 rfl rfl)
theorem dX1_isPass_18 : decode cX1_isPass 18 = .ok (.aload_n 0, 1) := dk_42 (dk_at dksX1_isPass_0 18 rfl rfl)
theorem dX1_isPass_19 : decode cX1_isPass 19 = .ok (.getfield 33, 3) := dk_180 0 33 (dk_at dksX1_isPass_0 19 rfl rfl)
theorem dX1_isPass_22 : decode cX1_isPass 22 = .ok (.iload_n 1, 1) := dk_27 (dk_at dksX1_isPass_0 22 rfl rfl)
theorem dX1_isPass_23 : decode cX1_isPass 23 = .ok (.invokevirtual 371, 3) := dk_182 1 115 (dk_at dksX1_isPass_1 0 rfl rfl)
theorem dX1_isPass_26 : decode cX1_isPass 26 = .ok (.iload_n 2, 1) := dk_28 (dk_at dksX1_isPass_1 3 rfl rfl)
theorem dX1_isPass_27 : decode cX1_isPass 27 = .ok (.invokestatic 7, 3) := dk_184 0 7 (dk_at dksX1_isPass_1 4 rfl rfl)
theorem dX1_isPass_30 : decode cX1_isPass 30 = .ok (.ifCond .ne 7, 3) := dk_154 0 7 (dk_at dksX1_isPass_1 7 rfl rfl)
theorem dX1_isPass_33 : decode cX1_isPass 33 = .ok (.iconst 1, 1) := dk_4 (dk_at dksX1_isPass_1 10 rfl rfl)
theorem dX1_isPass_34 : decode cX1_isPass 34 = .ok (.goto 4, 3) := dk_167 0 4 (dk_at dksX1_isPass_1 11 rfl rfl)
theorem dX1_isPass_37 : decode cX1_isPass 37 = .ok (.iconst 0, 1) := dk_3 (dk_at dksX1_isPass_1 14 rfl rfl)
theorem dX1_isPass_38 : decode cX1_isPass 38 = .ok (.ireturn, 1) := dk_172 (dk_at dksX1_isPass_1 15 rfl rfl)
abbrev cX1_fall : ByteArray := prog_1_method_69_code
def yX1_fall : MethodName := ⟨RX1, "fall", "(II)I"⟩
def dkwX1_fall_4 : List UInt8 := [42, 180, 0, 50, 182, 0, 143, 167, 0, 14, 42, 180, 0, 57, 42, 180, 0, 50, 182, 0, 147, 172]
abbrev dktX1_fall_4 : List UInt8 := dkwX1_fall_4 ++ []
def dkwX1_fall_3 : List UInt8 := [42, 180, 0, 50, 180, 0, 140, 42, 180, 0, 57, 180, 0, 140, 2, 130, 126, 167, 0, 28, 42, 180, 0, 57]
abbrev dktX1_fall_3 : List UInt8 := dkwX1_fall_3 ++ dktX1_fall_4
def dkwX1_fall_2 : List UInt8 := [171, 0, 0, 0, 0, 60, 0, 0, 0, 2, 0, 0, 0, 0, 0, 0, 0, 26, 0, 0, 0, 1, 0, 0, 0, 46]
abbrev dktX1_fall_2 : List UInt8 := dkwX1_fall_2 ++ dktX1_fall_3
def dkwX1_fall_1 : List UInt8 := [180, 1, 54, 27, 51, 184, 0, 192, 42, 27, 182, 1, 160, 28]
abbrev dktX1_fall_1 : List UInt8 := dkwX1_fall_1 ++ dktX1_fall_2
def dkwX1_fall_0 : List UInt8 := [42, 180, 0, 33, 27, 182, 1, 144, 184, 0, 254, 28, 3, 5, 184, 0, 119, 184, 0, 251, 42, 180, 0, 33]
abbrev dktX1_fall_0 : List UInt8 := dkwX1_fall_0 ++ dktX1_fall_1
theorem dksX1_fall_0 : cX1_fall.data.toList.drop 0 = dktX1_fall_0 := by decide +kernel
theorem dksX1_fall_1 : cX1_fall.data.toList.drop 24 = dktX1_fall_1 := dk_seg dksX1_fall_0 24 rfl rfl
theorem dksX1_fall_2 : cX1_fall.data.toList.drop 38 = dktX1_fall_2 := dk_seg dksX1_fall_1 14 rfl rfl
theorem dksX1_fall_3 : cX1_fall.data.toList.drop 64 = dktX1_fall_3 := dk_seg dksX1_fall_2 26 rfl rfl
theorem dksX1_fall_4 : cX1_fall.data.toList.drop 88 = dktX1_fall_4 := dk_seg dksX1_fall_3 24 rfl rfl
theorem dX1_fall_0 : decode cX1_fall 0 = .ok (.aload_n 0, 1) := dk_42 (dk_at dksX1_fall_0 0 rfl rfl)
theorem dX1_fall_1 : decode cX1_fall 1 = .ok (.getfield 33, 3) := dk_180 0 33 (dk_at dksX1_fall_0 1 rfl rfl)
theorem dX1_fall_4 : decode cX1_fall 4 = .ok (.iload_n 1, 1) := dk_27 (dk_at dksX1_fall_0 4 rfl rfl)
theorem dX1_fall_5 : decode cX1_fall 5 = .ok (.invokevirtual 400, 3) := dk_182 1 144 (dk_at dksX1_fall_0 5 rfl rfl)
theorem dX1_fall_8 : decode cX1_fall 8 = .ok (.invokestatic 254, 3) := dk_184 0 254 (dk_at dksX1_fall_0 8 rfl rfl)
theorem dX1_fall_11 : decode cX1_fall 11 = .ok (.iload_n 2, 1) := dk_28 (dk_at dksX1_fall_0 11 rfl rfl)
theorem dX1_fall_12 : decode cX1_fall 12 = .ok (.iconst 0, 1) := dk_3 (dk_at dksX1_fall_0 12 rfl rfl)
theorem dX1_fall_13 : decode cX1_fall 13 = .ok (.iconst 2, 1) := dk_5 (dk_at dksX1_fall_0 13 rfl rfl)
theorem dX1_fall_14 : decode cX1_fall 14 = .ok (.invokestatic 119, 3) := dk_184 0 119 (dk_at dksX1_fall_0 14 rfl rfl)
theorem dX1_fall_17 : decode cX1_fall 17 = .ok (.invokestatic 251, 3) := dk_184 0 251 (dk_at dksX1_fall_0 17 rfl rfl)
theorem dX1_fall_20 : decode cX1_fall 20 = .ok (.aload_n 0, 1) := dk_42 (dk_at dksX1_fall_0 20 rfl rfl)
theorem dX1_fall_21 : decode cX1_fall 21 = .ok (.getfield 33, 3) := dk_180 0 33 (dk_at dksX1_fall_0 21 rfl rfl)
theorem dX1_fall_24 : decode cX1_fall 24 = .ok (.getfield 310, 3) := dk_180 1 54 (dk_at dksX1_fall_1 0 rfl rfl)
theorem dX1_fall_27 : decode cX1_fall 27 = .ok (.iload_n 1, 1) := dk_27 (dk_at dksX1_fall_1 3 rfl rfl)
theorem dX1_fall_28 : decode cX1_fall 28 = .ok (.baload, 1) := dk_51 (dk_at dksX1_fall_1 4 rfl rfl)
theorem dX1_fall_29 : decode cX1_fall 29 = .ok (.invokestatic 192, 3) := dk_184 0 192 (dk_at dksX1_fall_1 5 rfl rfl)
theorem dX1_fall_32 : decode cX1_fall 32 = .ok (.aload_n 0, 1) := dk_42 (dk_at dksX1_fall_1 8 rfl rfl)
theorem dX1_fall_33 : decode cX1_fall 33 = .ok (.iload_n 1, 1) := dk_27 (dk_at dksX1_fall_1 9 rfl rfl)
theorem dX1_fall_34 : decode cX1_fall 34 = .ok (.invokevirtual 416, 3) := dk_182 1 160 (dk_at dksX1_fall_1 10 rfl rfl)
theorem dX1_fall_37 : decode cX1_fall 37 = .ok (.iload_n 2, 1) := dk_28 (dk_at dksX1_fall_1 13 rfl rfl)
theorem dX1_fall_38 : decode cX1_fall 38 = .ok (.lookupswitch 60 #[(0, 26), (1, 46)], 26) := by decide +kernel
theorem dX1_fall_64 : decode cX1_fall 64 = .ok (.aload_n 0, 1) := dk_42 (dk_at dksX1_fall_3 0 rfl rfl)
theorem dX1_fall_65 : decode cX1_fall 65 = .ok (.getfield 50, 3) := dk_180 0 50 (dk_at dksX1_fall_3 1 rfl rfl)
theorem dX1_fall_68 : decode cX1_fall 68 = .ok (.getfield 140, 3) := dk_180 0 140 (dk_at dksX1_fall_3 4 rfl rfl)
theorem dX1_fall_71 : decode cX1_fall 71 = .ok (.aload_n 0, 1) := dk_42 (dk_at dksX1_fall_3 7 rfl rfl)
theorem dX1_fall_72 : decode cX1_fall 72 = .ok (.getfield 57, 3) := dk_180 0 57 (dk_at dksX1_fall_3 8 rfl rfl)
theorem dX1_fall_75 : decode cX1_fall 75 = .ok (.getfield 140, 3) := dk_180 0 140 (dk_at dksX1_fall_3 11 rfl rfl)
theorem dX1_fall_78 : decode cX1_fall 78 = .ok (.iconst (-1), 1) := dk_2 (dk_at dksX1_fall_3 14 rfl rfl)
theorem dX1_fall_79 : decode cX1_fall 79 = .ok (.ixor, 1) := dk_130 (dk_at dksX1_fall_3 15 rfl rfl)
theorem dX1_fall_80 : decode cX1_fall 80 = .ok (.iand, 1) := dk_126 (dk_at dksX1_fall_3 16 rfl rfl)
theorem dX1_fall_81 : decode cX1_fall 81 = .ok (.goto 28, 3) := dk_167 0 28 (dk_at dksX1_fall_3 17 rfl rfl)
theorem dX1_fall_84 : decode cX1_fall 84 = .ok (.aload_n 0, 1) := dk_42 (dk_at dksX1_fall_3 20 rfl rfl)
theorem dX1_fall_85 : decode cX1_fall 85 = .ok (.getfield 57, 3) := dk_180 0 57 (dk_at dksX1_fall_3 21 rfl rfl)
theorem dX1_fall_88 : decode cX1_fall 88 = .ok (.aload_n 0, 1) := dk_42 (dk_at dksX1_fall_4 0 rfl rfl)
theorem dX1_fall_89 : decode cX1_fall 89 = .ok (.getfield 50, 3) := dk_180 0 50 (dk_at dksX1_fall_4 1 rfl rfl)
theorem dX1_fall_92 : decode cX1_fall 92 = .ok (.invokevirtual 143, 3) := dk_182 0 143 (dk_at dksX1_fall_4 4 rfl rfl)
theorem dX1_fall_95 : decode cX1_fall 95 = .ok (.goto 14, 3) := dk_167 0 14 (dk_at dksX1_fall_4 7 rfl rfl)
theorem dX1_fall_98 : decode cX1_fall 98 = .ok (.aload_n 0, 1) := dk_42 (dk_at dksX1_fall_4 10 rfl rfl)
theorem dX1_fall_99 : decode cX1_fall 99 = .ok (.getfield 57, 3) := dk_180 0 57 (dk_at dksX1_fall_4 11 rfl rfl)
theorem dX1_fall_102 : decode cX1_fall 102 = .ok (.aload_n 0, 1) := dk_42 (dk_at dksX1_fall_4 14 rfl rfl)
theorem dX1_fall_103 : decode cX1_fall 103 = .ok (.getfield 50, 3) := dk_180 0 50 (dk_at dksX1_fall_4 15 rfl rfl)
theorem dX1_fall_106 : decode cX1_fall 106 = .ok (.invokevirtual 147, 3) := dk_182 0 147 (dk_at dksX1_fall_4 18 rfl rfl)
theorem dX1_fall_109 : decode cX1_fall 109 = .ok (.ireturn, 1) := dk_172 (dk_at dksX1_fall_4 21 rfl rfl)
abbrev cX1_worst : ByteArray := prog_1_method_72_code
def yX1_worst : MethodName := ⟨RX1, "worst", "(I)I"⟩
def dkwX1_worst_4 : List UInt8 := [154, 0, 7, 29, 167, 0, 4, 28, 172]
abbrev dktX1_worst_4 : List UInt8 := dkwX1_worst_4 ++ []
def dkwX1_worst_3 : List UInt8 := [21, 5, 28, 163, 0, 6, 167, 0, 9, 21, 5, 61, 21, 4, 62, 132, 4, 1, 167, 255, 185, 27]
abbrev dktX1_worst_3 : List UInt8 := dkwX1_worst_3 ++ dktX1_worst_4
def dkwX1_worst_2 : List UInt8 := [180, 0, 140, 42, 180, 0, 33, 21, 4, 182, 1, 115, 2, 130, 126, 184, 0, 236, 167, 0, 4, 3, 54, 5]
abbrev dktX1_worst_2 : List UInt8 := dkwX1_worst_2 ++ dktX1_worst_3
def dkwX1_worst_1 : List UInt8 := [180, 0, 230, 162, 0, 65, 42, 180, 0, 33, 180, 1, 54, 21, 4, 51, 153, 0, 28, 42, 180, 0, 50]
abbrev dktX1_worst_1 : List UInt8 := dkwX1_worst_1 ++ dktX1_worst_2
def dkwX1_worst_0 : List UInt8 := [27, 3, 4, 184, 0, 119, 184, 0, 251, 3, 61, 2, 62, 3, 54, 4, 21, 4, 42, 180, 0, 33]
abbrev dktX1_worst_0 : List UInt8 := dkwX1_worst_0 ++ dktX1_worst_1
theorem dksX1_worst_0 : cX1_worst.data.toList.drop 0 = dktX1_worst_0 := by decide +kernel
theorem dksX1_worst_1 : cX1_worst.data.toList.drop 22 = dktX1_worst_1 := dk_seg dksX1_worst_0 22 rfl rfl
theorem dksX1_worst_2 : cX1_worst.data.toList.drop 45 = dktX1_worst_2 := dk_seg dksX1_worst_1 23 rfl rfl
theorem dksX1_worst_3 : cX1_worst.data.toList.drop 69 = dktX1_worst_3 := dk_seg dksX1_worst_2 24 rfl rfl
theorem dksX1_worst_4 : cX1_worst.data.toList.drop 91 = dktX1_worst_4 := dk_seg dksX1_worst_3 22 rfl rfl
theorem dX1_worst_0 : decode cX1_worst 0 = .ok (.iload_n 1, 1) := dk_27 (dk_at dksX1_worst_0 0 rfl rfl)
theorem dX1_worst_1 : decode cX1_worst 1 = .ok (.iconst 0, 1) := dk_3 (dk_at dksX1_worst_0 1 rfl rfl)
theorem dX1_worst_2 : decode cX1_worst 2 = .ok (.iconst 1, 1) := dk_4 (dk_at dksX1_worst_0 2 rfl rfl)
theorem dX1_worst_3 : decode cX1_worst 3 = .ok (.invokestatic 119, 3) := dk_184 0 119 (dk_at dksX1_worst_0 3 rfl rfl)
theorem dX1_worst_6 : decode cX1_worst 6 = .ok (.invokestatic 251, 3) := dk_184 0 251 (dk_at dksX1_worst_0 6 rfl rfl)
theorem dX1_worst_9 : decode cX1_worst 9 = .ok (.iconst 0, 1) := dk_3 (dk_at dksX1_worst_0 9 rfl rfl)
theorem dX1_worst_10 : decode cX1_worst 10 = .ok (.istore_n 2, 1) := dk_61 (dk_at dksX1_worst_0 10 rfl rfl)
theorem dX1_worst_11 : decode cX1_worst 11 = .ok (.iconst (-1), 1) := dk_2 (dk_at dksX1_worst_0 11 rfl rfl)
theorem dX1_worst_12 : decode cX1_worst 12 = .ok (.istore_n 3, 1) := dk_62 (dk_at dksX1_worst_0 12 rfl rfl)
theorem dX1_worst_13 : decode cX1_worst 13 = .ok (.iconst 0, 1) := dk_3 (dk_at dksX1_worst_0 13 rfl rfl)
theorem dX1_worst_14 : decode cX1_worst 14 = .ok (.istore 4, 2) := dk_54 4 (dk_at dksX1_worst_0 14 rfl rfl)
theorem dX1_worst_16 : decode cX1_worst 16 = .ok (.iload 4, 2) := dk_21 4 (dk_at dksX1_worst_0 16 rfl rfl)
theorem dX1_worst_18 : decode cX1_worst 18 = .ok (.aload_n 0, 1) := dk_42 (dk_at dksX1_worst_0 18 rfl rfl)
theorem dX1_worst_19 : decode cX1_worst 19 = .ok (.getfield 33, 3) := dk_180 0 33 (dk_at dksX1_worst_0 19 rfl rfl)
theorem dX1_worst_22 : decode cX1_worst 22 = .ok (.getfield 230, 3) := dk_180 0 230 (dk_at dksX1_worst_1 0 rfl rfl)
theorem dX1_worst_25 : decode cX1_worst 25 = .ok (.if_icmp .ge 65, 3) := dk_162 0 65 (dk_at dksX1_worst_1 3 rfl rfl)
theorem dX1_worst_28 : decode cX1_worst 28 = .ok (.aload_n 0, 1) := dk_42 (dk_at dksX1_worst_1 6 rfl rfl)
theorem dX1_worst_29 : decode cX1_worst 29 = .ok (.getfield 33, 3) := dk_180 0 33 (dk_at dksX1_worst_1 7 rfl rfl)
theorem dX1_worst_32 : decode cX1_worst 32 = .ok (.getfield 310, 3) := dk_180 1 54 (dk_at dksX1_worst_1 10 rfl rfl)
theorem dX1_worst_35 : decode cX1_worst 35 = .ok (.iload 4, 2) := dk_21 4 (dk_at dksX1_worst_1 13 rfl rfl)
theorem dX1_worst_37 : decode cX1_worst 37 = .ok (.baload, 1) := dk_51 (dk_at dksX1_worst_1 15 rfl rfl)
theorem dX1_worst_38 : decode cX1_worst 38 = .ok (.ifCond .eq 28, 3) := dk_153 0 28 (dk_at dksX1_worst_1 16 rfl rfl)
theorem dX1_worst_41 : decode cX1_worst 41 = .ok (.aload_n 0, 1) := dk_42 (dk_at dksX1_worst_1 19 rfl rfl)
theorem dX1_worst_42 : decode cX1_worst 42 = .ok (.getfield 50, 3) := dk_180 0 50 (dk_at dksX1_worst_1 20 rfl rfl)
theorem dX1_worst_45 : decode cX1_worst 45 = .ok (.getfield 140, 3) := dk_180 0 140 (dk_at dksX1_worst_2 0 rfl rfl)
theorem dX1_worst_48 : decode cX1_worst 48 = .ok (.aload_n 0, 1) := dk_42 (dk_at dksX1_worst_2 3 rfl rfl)
theorem dX1_worst_49 : decode cX1_worst 49 = .ok (.getfield 33, 3) := dk_180 0 33 (dk_at dksX1_worst_2 4 rfl rfl)
theorem dX1_worst_52 : decode cX1_worst 52 = .ok (.iload 4, 2) := dk_21 4 (dk_at dksX1_worst_2 7 rfl rfl)
theorem dX1_worst_54 : decode cX1_worst 54 = .ok (.invokevirtual 371, 3) := dk_182 1 115 (dk_at dksX1_worst_2 9 rfl rfl)
theorem dX1_worst_57 : decode cX1_worst 57 = .ok (.iconst (-1), 1) := dk_2 (dk_at dksX1_worst_2 12 rfl rfl)
theorem dX1_worst_58 : decode cX1_worst 58 = .ok (.ixor, 1) := dk_130 (dk_at dksX1_worst_2 13 rfl rfl)
theorem dX1_worst_59 : decode cX1_worst 59 = .ok (.iand, 1) := dk_126 (dk_at dksX1_worst_2 14 rfl rfl)
theorem dX1_worst_60 : decode cX1_worst 60 = .ok (.invokestatic 236, 3) := dk_184 0 236 (dk_at dksX1_worst_2 15 rfl rfl)
theorem dX1_worst_63 : decode cX1_worst 63 = .ok (.goto 4, 3) := dk_167 0 4 (dk_at dksX1_worst_2 18 rfl rfl)
theorem dX1_worst_66 : decode cX1_worst 66 = .ok (.iconst 0, 1) := dk_3 (dk_at dksX1_worst_2 21 rfl rfl)
theorem dX1_worst_67 : decode cX1_worst 67 = .ok (.istore 5, 2) := dk_54 5 (dk_at dksX1_worst_2 22 rfl rfl)
theorem dX1_worst_69 : decode cX1_worst 69 = .ok (.iload 5, 2) := dk_21 5 (dk_at dksX1_worst_3 0 rfl rfl)
theorem dX1_worst_71 : decode cX1_worst 71 = .ok (.iload_n 2, 1) := dk_28 (dk_at dksX1_worst_3 2 rfl rfl)
theorem dX1_worst_72 : decode cX1_worst 72 = .ok (.if_icmp .gt 6, 3) := dk_163 0 6 (dk_at dksX1_worst_3 3 rfl rfl)
theorem dX1_worst_75 : decode cX1_worst 75 = .ok (.goto 9, 3) := dk_167 0 9 (dk_at dksX1_worst_3 6 rfl rfl)
theorem dX1_worst_78 : decode cX1_worst 78 = .ok (.iload 5, 2) := dk_21 5 (dk_at dksX1_worst_3 9 rfl rfl)
theorem dX1_worst_80 : decode cX1_worst 80 = .ok (.istore_n 2, 1) := dk_61 (dk_at dksX1_worst_3 11 rfl rfl)
theorem dX1_worst_81 : decode cX1_worst 81 = .ok (.iload 4, 2) := dk_21 4 (dk_at dksX1_worst_3 12 rfl rfl)
theorem dX1_worst_83 : decode cX1_worst 83 = .ok (.istore_n 3, 1) := dk_62 (dk_at dksX1_worst_3 14 rfl rfl)
theorem dX1_worst_84 : decode cX1_worst 84 = .ok (.iinc 4 1, 3) := dk_132 4 1 (dk_at dksX1_worst_3 15 rfl rfl)
theorem dX1_worst_87 : decode cX1_worst 87 = .ok (.goto (-71), 3) := dk_167 255 185 (dk_at dksX1_worst_3 18 rfl rfl)
theorem dX1_worst_90 : decode cX1_worst 90 = .ok (.iload_n 1, 1) := dk_27 (dk_at dksX1_worst_3 21 rfl rfl)
theorem dX1_worst_91 : decode cX1_worst 91 = .ok (.ifCond .ne 7, 3) := dk_154 0 7 (dk_at dksX1_worst_4 0 rfl rfl)
theorem dX1_worst_94 : decode cX1_worst 94 = .ok (.iload_n 3, 1) := dk_29 (dk_at dksX1_worst_4 3 rfl rfl)
theorem dX1_worst_95 : decode cX1_worst 95 = .ok (.goto 4, 3) := dk_167 0 4 (dk_at dksX1_worst_4 4 rfl rfl)
theorem dX1_worst_98 : decode cX1_worst 98 = .ok (.iload_n 2, 1) := dk_28 (dk_at dksX1_worst_4 7 rfl rfl)
theorem dX1_worst_99 : decode cX1_worst 99 = .ok (.ireturn, 1) := dk_172 (dk_at dksX1_worst_4 8 rfl rfl)
abbrev cX1_would : ByteArray := prog_1_method_74_code
def yX1_would : MethodName := ⟨RX1, "would", "(III)I"⟩
def dkwX1_would_4 : List UInt8 := [42, 180, 0, 50, 182, 0, 143, 167, 0, 14, 42, 180, 0, 57, 42, 180, 0, 50, 182, 0, 147, 172]
abbrev dktX1_would_4 : List UInt8 := dkwX1_would_4 ++ []
def dkwX1_would_3 : List UInt8 := [42, 180, 0, 57, 180, 0, 140, 42, 180, 0, 50, 180, 0, 140, 2, 130, 126, 167, 0, 28, 42, 180, 0, 57]
abbrev dktX1_would_3 : List UInt8 := dkwX1_would_3 ++ dktX1_would_4
def dkwX1_would_2 : List UInt8 := [171, 0, 0, 0, 0, 60, 0, 0, 0, 2, 0, 0, 0, 0, 0, 0, 0, 26, 0, 0, 0, 1, 0, 0, 0, 46]
abbrev dktX1_would_2 : List UInt8 := dkwX1_would_2 ++ dktX1_would_3
def dkwX1_would_1 : List UInt8 := [182, 1, 163, 29]
abbrev dktX1_would_1 : List UInt8 := dkwX1_would_1 ++ dktX1_would_2
def dkwX1_would_0 : List UInt8 := [42, 27, 182, 1, 61, 42, 28, 182, 1, 61, 29, 3, 5, 184, 0, 119, 184, 0, 251, 42, 27, 28]
abbrev dktX1_would_0 : List UInt8 := dkwX1_would_0 ++ dktX1_would_1
theorem dksX1_would_0 : cX1_would.data.toList.drop 0 = dktX1_would_0 := by decide +kernel
theorem dksX1_would_1 : cX1_would.data.toList.drop 22 = dktX1_would_1 := dk_seg dksX1_would_0 22 rfl rfl
theorem dksX1_would_2 : cX1_would.data.toList.drop 26 = dktX1_would_2 := dk_seg dksX1_would_1 4 rfl rfl
theorem dksX1_would_3 : cX1_would.data.toList.drop 52 = dktX1_would_3 := dk_seg dksX1_would_2 26 rfl rfl
theorem dksX1_would_4 : cX1_would.data.toList.drop 76 = dktX1_would_4 := dk_seg dksX1_would_3 24 rfl rfl
theorem dX1_would_0 : decode cX1_would 0 = .ok (.aload_n 0, 1) := dk_42 (dk_at dksX1_would_0 0 rfl rfl)
theorem dX1_would_1 : decode cX1_would 1 = .ok (.iload_n 1, 1) := dk_27 (dk_at dksX1_would_0 1 rfl rfl)
theorem dX1_would_2 : decode cX1_would 2 = .ok (.invokevirtual 317, 3) := dk_182 1 61 (dk_at dksX1_would_0 2 rfl rfl)
theorem dX1_would_5 : decode cX1_would 5 = .ok (.aload_n 0, 1) := dk_42 (dk_at dksX1_would_0 5 rfl rfl)
theorem dX1_would_6 : decode cX1_would 6 = .ok (.iload_n 2, 1) := dk_28 (dk_at dksX1_would_0 6 rfl rfl)
theorem dX1_would_7 : decode cX1_would 7 = .ok (.invokevirtual 317, 3) := dk_182 1 61 (dk_at dksX1_would_0 7 rfl rfl)
theorem dX1_would_10 : decode cX1_would 10 = .ok (.iload_n 3, 1) := dk_29 (dk_at dksX1_would_0 10 rfl rfl)
theorem dX1_would_11 : decode cX1_would 11 = .ok (.iconst 0, 1) := dk_3 (dk_at dksX1_would_0 11 rfl rfl)
theorem dX1_would_12 : decode cX1_would 12 = .ok (.iconst 2, 1) := dk_5 (dk_at dksX1_would_0 12 rfl rfl)
theorem dX1_would_13 : decode cX1_would 13 = .ok (.invokestatic 119, 3) := dk_184 0 119 (dk_at dksX1_would_0 13 rfl rfl)
theorem dX1_would_16 : decode cX1_would 16 = .ok (.invokestatic 251, 3) := dk_184 0 251 (dk_at dksX1_would_0 16 rfl rfl)
theorem dX1_would_19 : decode cX1_would 19 = .ok (.aload_n 0, 1) := dk_42 (dk_at dksX1_would_0 19 rfl rfl)
theorem dX1_would_20 : decode cX1_would 20 = .ok (.iload_n 1, 1) := dk_27 (dk_at dksX1_would_0 20 rfl rfl)
theorem dX1_would_21 : decode cX1_would 21 = .ok (.iload_n 2, 1) := dk_28 (dk_at dksX1_would_0 21 rfl rfl)
theorem dX1_would_22 : decode cX1_would 22 = .ok (.invokevirtual 419, 3) := dk_182 1 163 (dk_at dksX1_would_1 0 rfl rfl)
theorem dX1_would_25 : decode cX1_would 25 = .ok (.iload_n 3, 1) := dk_29 (dk_at dksX1_would_1 3 rfl rfl)
theorem dX1_would_26 : decode cX1_would 26 = .ok (.lookupswitch 60 #[(0, 26), (1, 46)], 26) := by decide +kernel
theorem dX1_would_52 : decode cX1_would 52 = .ok (.aload_n 0, 1) := dk_42 (dk_at dksX1_would_3 0 rfl rfl)
theorem dX1_would_53 : decode cX1_would 53 = .ok (.getfield 57, 3) := dk_180 0 57 (dk_at dksX1_would_3 1 rfl rfl)
theorem dX1_would_56 : decode cX1_would 56 = .ok (.getfield 140, 3) := dk_180 0 140 (dk_at dksX1_would_3 4 rfl rfl)
theorem dX1_would_59 : decode cX1_would 59 = .ok (.aload_n 0, 1) := dk_42 (dk_at dksX1_would_3 7 rfl rfl)
theorem dX1_would_60 : decode cX1_would 60 = .ok (.getfield 50, 3) := dk_180 0 50 (dk_at dksX1_would_3 8 rfl rfl)
theorem dX1_would_63 : decode cX1_would 63 = .ok (.getfield 140, 3) := dk_180 0 140 (dk_at dksX1_would_3 11 rfl rfl)
theorem dX1_would_66 : decode cX1_would 66 = .ok (.iconst (-1), 1) := dk_2 (dk_at dksX1_would_3 14 rfl rfl)
theorem dX1_would_67 : decode cX1_would 67 = .ok (.ixor, 1) := dk_130 (dk_at dksX1_would_3 15 rfl rfl)
theorem dX1_would_68 : decode cX1_would 68 = .ok (.iand, 1) := dk_126 (dk_at dksX1_would_3 16 rfl rfl)
theorem dX1_would_69 : decode cX1_would 69 = .ok (.goto 28, 3) := dk_167 0 28 (dk_at dksX1_would_3 17 rfl rfl)
theorem dX1_would_72 : decode cX1_would 72 = .ok (.aload_n 0, 1) := dk_42 (dk_at dksX1_would_3 20 rfl rfl)
theorem dX1_would_73 : decode cX1_would 73 = .ok (.getfield 57, 3) := dk_180 0 57 (dk_at dksX1_would_3 21 rfl rfl)
theorem dX1_would_76 : decode cX1_would 76 = .ok (.aload_n 0, 1) := dk_42 (dk_at dksX1_would_4 0 rfl rfl)
theorem dX1_would_77 : decode cX1_would 77 = .ok (.getfield 50, 3) := dk_180 0 50 (dk_at dksX1_would_4 1 rfl rfl)
theorem dX1_would_80 : decode cX1_would 80 = .ok (.invokevirtual 143, 3) := dk_182 0 143 (dk_at dksX1_would_4 4 rfl rfl)
theorem dX1_would_83 : decode cX1_would 83 = .ok (.goto 14, 3) := dk_167 0 14 (dk_at dksX1_would_4 7 rfl rfl)
theorem dX1_would_86 : decode cX1_would 86 = .ok (.aload_n 0, 1) := dk_42 (dk_at dksX1_would_4 10 rfl rfl)
theorem dX1_would_87 : decode cX1_would 87 = .ok (.getfield 57, 3) := dk_180 0 57 (dk_at dksX1_would_4 11 rfl rfl)
theorem dX1_would_90 : decode cX1_would 90 = .ok (.aload_n 0, 1) := dk_42 (dk_at dksX1_would_4 14 rfl rfl)
theorem dX1_would_91 : decode cX1_would 91 = .ok (.getfield 50, 3) := dk_180 0 50 (dk_at dksX1_would_4 15 rfl rfl)
theorem dX1_would_94 : decode cX1_would 94 = .ok (.invokevirtual 147, 3) := dk_182 0 147 (dk_at dksX1_would_4 18 rfl rfl)
theorem dX1_would_97 : decode cX1_would 97 = .ok (.ireturn, 1) := dk_172 (dk_at dksX1_would_4 21 rfl rfl)
abbrev cX1_tries : ByteArray := prog_1_method_73_code
def yX1_tries : MethodName := ⟨RX1, "tries", "(II)V"⟩
def dkwX1_tries_0 : List UInt8 := [42, 180, 0, 57, 42, 180, 0, 50, 182, 0, 183, 42, 180, 0, 57, 27, 28, 182, 0, 204, 177]
abbrev dktX1_tries_0 : List UInt8 := dkwX1_tries_0 ++ []
theorem dksX1_tries_0 : cX1_tries.data.toList.drop 0 = dktX1_tries_0 := by decide +kernel
theorem dX1_tries_0 : decode cX1_tries 0 = .ok (.aload_n 0, 1) := dk_42 (dk_at dksX1_tries_0 0 rfl rfl)
theorem dX1_tries_1 : decode cX1_tries 1 = .ok (.getfield 57, 3) := dk_180 0 57 (dk_at dksX1_tries_0 1 rfl rfl)
theorem dX1_tries_4 : decode cX1_tries 4 = .ok (.aload_n 0, 1) := dk_42 (dk_at dksX1_tries_0 4 rfl rfl)
theorem dX1_tries_5 : decode cX1_tries 5 = .ok (.getfield 50, 3) := dk_180 0 50 (dk_at dksX1_tries_0 5 rfl rfl)
theorem dX1_tries_8 : decode cX1_tries 8 = .ok (.invokevirtual 183, 3) := dk_182 0 183 (dk_at dksX1_tries_0 8 rfl rfl)
theorem dX1_tries_11 : decode cX1_tries 11 = .ok (.aload_n 0, 1) := dk_42 (dk_at dksX1_tries_0 11 rfl rfl)
theorem dX1_tries_12 : decode cX1_tries 12 = .ok (.getfield 57, 3) := dk_180 0 57 (dk_at dksX1_tries_0 12 rfl rfl)
theorem dX1_tries_15 : decode cX1_tries 15 = .ok (.iload_n 1, 1) := dk_27 (dk_at dksX1_tries_0 15 rfl rfl)
theorem dX1_tries_16 : decode cX1_tries 16 = .ok (.iload_n 2, 1) := dk_28 (dk_at dksX1_tries_0 16 rfl rfl)
theorem dX1_tries_17 : decode cX1_tries 17 = .ok (.invokevirtual 204, 3) := dk_182 0 204 (dk_at dksX1_tries_0 17 rfl rfl)
theorem dX1_tries_20 : decode cX1_tries 20 = .ok (.return_, 1) := dk_177 (dk_at dksX1_tries_0 20 rfl rfl)
abbrev cX1_best : ByteArray := prog_1_method_75_code
def yX1_best : MethodName := ⟨RX1, "best", "(I)I"⟩
def dkwX1_best_5 : List UInt8 := [27, 154, 0, 10, 29, 16, 16, 108, 167, 0, 7, 29, 16, 16, 112, 172]
abbrev dktX1_best_5 : List UInt8 := dkwX1_best_5 ++ []
def dkwX1_best_4 : List UInt8 := [132, 4, 1, 167, 255, 178, 27, 5, 160, 0, 7, 28, 167, 0, 27, 29, 2, 160, 0, 7, 2, 167, 0, 18]
abbrev dktX1_best_4 : List UInt8 := dkwX1_best_4 ++ dktX1_best_5
def dkwX1_best_3 : List UInt8 := [180, 0, 50, 182, 0, 147, 54, 5, 21, 5, 28, 163, 0, 6, 167, 0, 9, 21, 5, 61, 21, 4, 62]
abbrev dktX1_best_3 : List UInt8 := dkwX1_best_3 ++ dktX1_best_4
def dkwX1_best_2 : List UInt8 := [167, 0, 45, 42, 21, 4, 16, 16, 108, 21, 4, 16, 16, 112, 182, 1, 163, 42, 180, 0, 57, 42]
abbrev dktX1_best_2 : List UInt8 := dkwX1_best_2 ++ dktX1_best_3
def dkwX1_best_1 : List UInt8 := [180, 1, 1, 104, 162, 0, 69, 21, 4, 16, 16, 112, 42, 180, 0, 33, 180, 1, 1, 161, 0, 6]
abbrev dktX1_best_1 : List UInt8 := dkwX1_best_1 ++ dktX1_best_2
def dkwX1_best_0 : List UInt8 := [27, 3, 5, 184, 0, 119, 184, 0, 251, 3, 61, 2, 62, 3, 54, 4, 21, 4, 16, 16, 42, 180, 0, 33]
abbrev dktX1_best_0 : List UInt8 := dkwX1_best_0 ++ dktX1_best_1
theorem dksX1_best_0 : cX1_best.data.toList.drop 0 = dktX1_best_0 := by decide +kernel
theorem dksX1_best_1 : cX1_best.data.toList.drop 24 = dktX1_best_1 := dk_seg dksX1_best_0 24 rfl rfl
theorem dksX1_best_2 : cX1_best.data.toList.drop 46 = dktX1_best_2 := dk_seg dksX1_best_1 22 rfl rfl
theorem dksX1_best_3 : cX1_best.data.toList.drop 68 = dktX1_best_3 := dk_seg dksX1_best_2 22 rfl rfl
theorem dksX1_best_4 : cX1_best.data.toList.drop 91 = dktX1_best_4 := dk_seg dksX1_best_3 23 rfl rfl
theorem dksX1_best_5 : cX1_best.data.toList.drop 115 = dktX1_best_5 := dk_seg dksX1_best_4 24 rfl rfl
theorem dX1_best_0 : decode cX1_best 0 = .ok (.iload_n 1, 1) := dk_27 (dk_at dksX1_best_0 0 rfl rfl)
theorem dX1_best_1 : decode cX1_best 1 = .ok (.iconst 0, 1) := dk_3 (dk_at dksX1_best_0 1 rfl rfl)
theorem dX1_best_2 : decode cX1_best 2 = .ok (.iconst 2, 1) := dk_5 (dk_at dksX1_best_0 2 rfl rfl)
theorem dX1_best_3 : decode cX1_best 3 = .ok (.invokestatic 119, 3) := dk_184 0 119 (dk_at dksX1_best_0 3 rfl rfl)
theorem dX1_best_6 : decode cX1_best 6 = .ok (.invokestatic 251, 3) := dk_184 0 251 (dk_at dksX1_best_0 6 rfl rfl)
theorem dX1_best_9 : decode cX1_best 9 = .ok (.iconst 0, 1) := dk_3 (dk_at dksX1_best_0 9 rfl rfl)
theorem dX1_best_10 : decode cX1_best 10 = .ok (.istore_n 2, 1) := dk_61 (dk_at dksX1_best_0 10 rfl rfl)
theorem dX1_best_11 : decode cX1_best 11 = .ok (.iconst (-1), 1) := dk_2 (dk_at dksX1_best_0 11 rfl rfl)
theorem dX1_best_12 : decode cX1_best 12 = .ok (.istore_n 3, 1) := dk_62 (dk_at dksX1_best_0 12 rfl rfl)
theorem dX1_best_13 : decode cX1_best 13 = .ok (.iconst 0, 1) := dk_3 (dk_at dksX1_best_0 13 rfl rfl)
theorem dX1_best_14 : decode cX1_best 14 = .ok (.istore 4, 2) := dk_54 4 (dk_at dksX1_best_0 14 rfl rfl)
theorem dX1_best_16 : decode cX1_best 16 = .ok (.iload 4, 2) := dk_21 4 (dk_at dksX1_best_0 16 rfl rfl)
theorem dX1_best_18 : decode cX1_best 18 = .ok (.bipush 16, 2) := dk_16 16 (dk_at dksX1_best_0 18 rfl rfl)
theorem dX1_best_20 : decode cX1_best 20 = .ok (.aload_n 0, 1) := dk_42 (dk_at dksX1_best_0 20 rfl rfl)
theorem dX1_best_21 : decode cX1_best 21 = .ok (.getfield 33, 3) := dk_180 0 33 (dk_at dksX1_best_0 21 rfl rfl)
theorem dX1_best_24 : decode cX1_best 24 = .ok (.getfield 257, 3) := dk_180 1 1 (dk_at dksX1_best_1 0 rfl rfl)
theorem dX1_best_27 : decode cX1_best 27 = .ok (.imul, 1) := dk_104 (dk_at dksX1_best_1 3 rfl rfl)
theorem dX1_best_28 : decode cX1_best 28 = .ok (.if_icmp .ge 69, 3) := dk_162 0 69 (dk_at dksX1_best_1 4 rfl rfl)
theorem dX1_best_31 : decode cX1_best 31 = .ok (.iload 4, 2) := dk_21 4 (dk_at dksX1_best_1 7 rfl rfl)
theorem dX1_best_33 : decode cX1_best 33 = .ok (.bipush 16, 2) := dk_16 16 (dk_at dksX1_best_1 9 rfl rfl)
theorem dX1_best_35 : decode cX1_best 35 = .ok (.irem, 1) := dk_112 (dk_at dksX1_best_1 11 rfl rfl)
theorem dX1_best_36 : decode cX1_best 36 = .ok (.aload_n 0, 1) := dk_42 (dk_at dksX1_best_1 12 rfl rfl)
theorem dX1_best_37 : decode cX1_best 37 = .ok (.getfield 33, 3) := dk_180 0 33 (dk_at dksX1_best_1 13 rfl rfl)
theorem dX1_best_40 : decode cX1_best 40 = .ok (.getfield 257, 3) := dk_180 1 1 (dk_at dksX1_best_1 16 rfl rfl)
theorem dX1_best_43 : decode cX1_best 43 = .ok (.if_icmp .lt 6, 3) := dk_161 0 6 (dk_at dksX1_best_1 19 rfl rfl)
theorem dX1_best_46 : decode cX1_best 46 = .ok (.goto 45, 3) := dk_167 0 45 (dk_at dksX1_best_2 0 rfl rfl)
theorem dX1_best_49 : decode cX1_best 49 = .ok (.aload_n 0, 1) := dk_42 (dk_at dksX1_best_2 3 rfl rfl)
theorem dX1_best_50 : decode cX1_best 50 = .ok (.iload 4, 2) := dk_21 4 (dk_at dksX1_best_2 4 rfl rfl)
theorem dX1_best_52 : decode cX1_best 52 = .ok (.bipush 16, 2) := dk_16 16 (dk_at dksX1_best_2 6 rfl rfl)
theorem dX1_best_54 : decode cX1_best 54 = .ok (.idiv, 1) := dk_108 (dk_at dksX1_best_2 8 rfl rfl)
theorem dX1_best_55 : decode cX1_best 55 = .ok (.iload 4, 2) := dk_21 4 (dk_at dksX1_best_2 9 rfl rfl)
theorem dX1_best_57 : decode cX1_best 57 = .ok (.bipush 16, 2) := dk_16 16 (dk_at dksX1_best_2 11 rfl rfl)
theorem dX1_best_59 : decode cX1_best 59 = .ok (.irem, 1) := dk_112 (dk_at dksX1_best_2 13 rfl rfl)
theorem dX1_best_60 : decode cX1_best 60 = .ok (.invokevirtual 419, 3) := dk_182 1 163 (dk_at dksX1_best_2 14 rfl rfl)
theorem dX1_best_63 : decode cX1_best 63 = .ok (.aload_n 0, 1) := dk_42 (dk_at dksX1_best_2 17 rfl rfl)
theorem dX1_best_64 : decode cX1_best 64 = .ok (.getfield 57, 3) := dk_180 0 57 (dk_at dksX1_best_2 18 rfl rfl)
theorem dX1_best_67 : decode cX1_best 67 = .ok (.aload_n 0, 1) := dk_42 (dk_at dksX1_best_2 21 rfl rfl)
theorem dX1_best_68 : decode cX1_best 68 = .ok (.getfield 50, 3) := dk_180 0 50 (dk_at dksX1_best_3 0 rfl rfl)
theorem dX1_best_71 : decode cX1_best 71 = .ok (.invokevirtual 147, 3) := dk_182 0 147 (dk_at dksX1_best_3 3 rfl rfl)
theorem dX1_best_74 : decode cX1_best 74 = .ok (.istore 5, 2) := dk_54 5 (dk_at dksX1_best_3 6 rfl rfl)
theorem dX1_best_76 : decode cX1_best 76 = .ok (.iload 5, 2) := dk_21 5 (dk_at dksX1_best_3 8 rfl rfl)
theorem dX1_best_78 : decode cX1_best 78 = .ok (.iload_n 2, 1) := dk_28 (dk_at dksX1_best_3 10 rfl rfl)
theorem dX1_best_79 : decode cX1_best 79 = .ok (.if_icmp .gt 6, 3) := dk_163 0 6 (dk_at dksX1_best_3 11 rfl rfl)
theorem dX1_best_82 : decode cX1_best 82 = .ok (.goto 9, 3) := dk_167 0 9 (dk_at dksX1_best_3 14 rfl rfl)
theorem dX1_best_85 : decode cX1_best 85 = .ok (.iload 5, 2) := dk_21 5 (dk_at dksX1_best_3 17 rfl rfl)
theorem dX1_best_87 : decode cX1_best 87 = .ok (.istore_n 2, 1) := dk_61 (dk_at dksX1_best_3 19 rfl rfl)
theorem dX1_best_88 : decode cX1_best 88 = .ok (.iload 4, 2) := dk_21 4 (dk_at dksX1_best_3 20 rfl rfl)
theorem dX1_best_90 : decode cX1_best 90 = .ok (.istore_n 3, 1) := dk_62 (dk_at dksX1_best_3 22 rfl rfl)
theorem dX1_best_91 : decode cX1_best 91 = .ok (.iinc 4 1, 3) := dk_132 4 1 (dk_at dksX1_best_4 0 rfl rfl)
theorem dX1_best_94 : decode cX1_best 94 = .ok (.goto (-78), 3) := dk_167 255 178 (dk_at dksX1_best_4 3 rfl rfl)
theorem dX1_best_97 : decode cX1_best 97 = .ok (.iload_n 1, 1) := dk_27 (dk_at dksX1_best_4 6 rfl rfl)
theorem dX1_best_98 : decode cX1_best 98 = .ok (.iconst 2, 1) := dk_5 (dk_at dksX1_best_4 7 rfl rfl)
theorem dX1_best_99 : decode cX1_best 99 = .ok (.if_icmp .ne 7, 3) := dk_160 0 7 (dk_at dksX1_best_4 8 rfl rfl)
theorem dX1_best_102 : decode cX1_best 102 = .ok (.iload_n 2, 1) := dk_28 (dk_at dksX1_best_4 11 rfl rfl)
theorem dX1_best_103 : decode cX1_best 103 = .ok (.goto 27, 3) := dk_167 0 27 (dk_at dksX1_best_4 12 rfl rfl)
theorem dX1_best_106 : decode cX1_best 106 = .ok (.iload_n 3, 1) := dk_29 (dk_at dksX1_best_4 15 rfl rfl)
theorem dX1_best_107 : decode cX1_best 107 = .ok (.iconst (-1), 1) := dk_2 (dk_at dksX1_best_4 16 rfl rfl)
theorem dX1_best_108 : decode cX1_best 108 = .ok (.if_icmp .ne 7, 3) := dk_160 0 7 (dk_at dksX1_best_4 17 rfl rfl)
theorem dX1_best_111 : decode cX1_best 111 = .ok (.iconst (-1), 1) := dk_2 (dk_at dksX1_best_4 20 rfl rfl)
theorem dX1_best_112 : decode cX1_best 112 = .ok (.goto 18, 3) := dk_167 0 18 (dk_at dksX1_best_4 21 rfl rfl)
theorem dX1_best_115 : decode cX1_best 115 = .ok (.iload_n 1, 1) := dk_27 (dk_at dksX1_best_5 0 rfl rfl)
theorem dX1_best_116 : decode cX1_best 116 = .ok (.ifCond .ne 10, 3) := dk_154 0 10 (dk_at dksX1_best_5 1 rfl rfl)
theorem dX1_best_119 : decode cX1_best 119 = .ok (.iload_n 3, 1) := dk_29 (dk_at dksX1_best_5 4 rfl rfl)
theorem dX1_best_120 : decode cX1_best 120 = .ok (.bipush 16, 2) := dk_16 16 (dk_at dksX1_best_5 5 rfl rfl)
theorem dX1_best_122 : decode cX1_best 122 = .ok (.idiv, 1) := dk_108 (dk_at dksX1_best_5 7 rfl rfl)
theorem dX1_best_123 : decode cX1_best 123 = .ok (.goto 7, 3) := dk_167 0 7 (dk_at dksX1_best_5 8 rfl rfl)
theorem dX1_best_126 : decode cX1_best 126 = .ok (.iload_n 3, 1) := dk_29 (dk_at dksX1_best_5 11 rfl rfl)
theorem dX1_best_127 : decode cX1_best 127 = .ok (.bipush 16, 2) := dk_16 16 (dk_at dksX1_best_5 12 rfl rfl)
theorem dX1_best_129 : decode cX1_best 129 = .ok (.irem, 1) := dk_112 (dk_at dksX1_best_5 14 rfl rfl)
theorem dX1_best_130 : decode cX1_best 130 = .ok (.ireturn, 1) := dk_172 (dk_at dksX1_best_5 15 rfl rfl)
abbrev cX1_text : ByteArray := prog_1_method_77_code
def yX1_text : MethodName := ⟨RX1, "text", "(I)I"⟩
def dkwX1_text_2 : List UInt8 := [185, 1, 177, 1, 0, 172]
abbrev dktX1_text_2 : List UInt8 := dkwX1_text_2 ++ []
def dkwX1_text_1 : List UInt8 := [184, 0, 7, 153, 0, 12, 42, 42, 180, 0, 74, 27, 182, 1, 166, 42, 180, 0, 74, 77, 44]
abbrev dktX1_text_1 : List UInt8 := dkwX1_text_1 ++ dktX1_text_2
def dkwX1_text_0 : List UInt8 := [42, 27, 182, 1, 61, 42, 187, 0, 71, 89, 183, 0, 73, 181, 0, 74, 42, 180, 0, 50, 180, 0, 140, 27]
abbrev dktX1_text_0 : List UInt8 := dkwX1_text_0 ++ dktX1_text_1
theorem dksX1_text_0 : cX1_text.data.toList.drop 0 = dktX1_text_0 := by decide +kernel
theorem dksX1_text_1 : cX1_text.data.toList.drop 24 = dktX1_text_1 := dk_seg dksX1_text_0 24 rfl rfl
theorem dksX1_text_2 : cX1_text.data.toList.drop 45 = dktX1_text_2 := dk_seg dksX1_text_1 21 rfl rfl
theorem dX1_text_0 : decode cX1_text 0 = .ok (.aload_n 0, 1) := dk_42 (dk_at dksX1_text_0 0 rfl rfl)
theorem dX1_text_1 : decode cX1_text 1 = .ok (.iload_n 1, 1) := dk_27 (dk_at dksX1_text_0 1 rfl rfl)
theorem dX1_text_2 : decode cX1_text 2 = .ok (.invokevirtual 317, 3) := dk_182 1 61 (dk_at dksX1_text_0 2 rfl rfl)
theorem dX1_text_5 : decode cX1_text 5 = .ok (.aload_n 0, 1) := dk_42 (dk_at dksX1_text_0 5 rfl rfl)
theorem dX1_text_6 : decode cX1_text 6 = .ok (.new 71, 3) := dk_187 0 71 (dk_at dksX1_text_0 6 rfl rfl)
theorem dX1_text_9 : decode cX1_text 9 = .ok (.dup, 1) := dk_89 (dk_at dksX1_text_0 9 rfl rfl)
theorem dX1_text_10 : decode cX1_text 10 = .ok (.invokespecial 73, 3) := dk_183 0 73 (dk_at dksX1_text_0 10 rfl rfl)
theorem dX1_text_13 : decode cX1_text 13 = .ok (.putfield 74, 3) := dk_181 0 74 (dk_at dksX1_text_0 13 rfl rfl)
theorem dX1_text_16 : decode cX1_text 16 = .ok (.aload_n 0, 1) := dk_42 (dk_at dksX1_text_0 16 rfl rfl)
theorem dX1_text_17 : decode cX1_text 17 = .ok (.getfield 50, 3) := dk_180 0 50 (dk_at dksX1_text_0 17 rfl rfl)
theorem dX1_text_20 : decode cX1_text 20 = .ok (.getfield 140, 3) := dk_180 0 140 (dk_at dksX1_text_0 20 rfl rfl)
theorem dX1_text_23 : decode cX1_text 23 = .ok (.iload_n 1, 1) := dk_27 (dk_at dksX1_text_0 23 rfl rfl)
theorem dX1_text_24 : decode cX1_text 24 = .ok (.invokestatic 7, 3) := dk_184 0 7 (dk_at dksX1_text_1 0 rfl rfl)
theorem dX1_text_27 : decode cX1_text 27 = .ok (.ifCond .eq 12, 3) := dk_153 0 12 (dk_at dksX1_text_1 3 rfl rfl)
theorem dX1_text_30 : decode cX1_text 30 = .ok (.aload_n 0, 1) := dk_42 (dk_at dksX1_text_1 6 rfl rfl)
theorem dX1_text_31 : decode cX1_text 31 = .ok (.aload_n 0, 1) := dk_42 (dk_at dksX1_text_1 7 rfl rfl)
theorem dX1_text_32 : decode cX1_text 32 = .ok (.getfield 74, 3) := dk_180 0 74 (dk_at dksX1_text_1 8 rfl rfl)
theorem dX1_text_35 : decode cX1_text 35 = .ok (.iload_n 1, 1) := dk_27 (dk_at dksX1_text_1 11 rfl rfl)
theorem dX1_text_36 : decode cX1_text 36 = .ok (.invokevirtual 422, 3) := dk_182 1 166 (dk_at dksX1_text_1 12 rfl rfl)
theorem dX1_text_39 : decode cX1_text 39 = .ok (.aload_n 0, 1) := dk_42 (dk_at dksX1_text_1 15 rfl rfl)
theorem dX1_text_40 : decode cX1_text 40 = .ok (.getfield 74, 3) := dk_180 0 74 (dk_at dksX1_text_1 16 rfl rfl)
theorem dX1_text_43 : decode cX1_text 43 = .ok (.astore_n 2, 1) := dk_77 (dk_at dksX1_text_1 19 rfl rfl)
theorem dX1_text_44 : decode cX1_text 44 = .ok (.aload_n 2, 1) := dk_44 (dk_at dksX1_text_1 20 rfl rfl)
theorem dX1_text_45 : decode cX1_text 45 = .ok (.invokeinterface 433 1, 5) := by decide +kernel
theorem dX1_text_50 : decode cX1_text 50 = .ok (.ireturn, 1) := dk_172 (dk_at dksX1_text_2 5 rfl rfl)
abbrev cX1_writes : ByteArray := prog_1_method_76_code
def yX1_writes : MethodName := ⟨RX1, "writes", "(Ljava/lang/StringBuilder;I)V"⟩
def dkwX1_writes_1 : List UInt8 := [182, 1, 166, 43, 16, 32, 182, 1, 170, 87, 43, 28, 182, 1, 174, 87, 177]
abbrev dktX1_writes_1 : List UInt8 := dkwX1_writes_1 ++ []
def dkwX1_writes_0 : List UInt8 := [42, 180, 0, 50, 180, 1, 63, 28, 46, 2, 159, 0, 24, 42, 43, 42, 180, 0, 50, 180, 1, 63, 28, 46]
abbrev dktX1_writes_0 : List UInt8 := dkwX1_writes_0 ++ dktX1_writes_1
theorem dksX1_writes_0 : cX1_writes.data.toList.drop 0 = dktX1_writes_0 := by decide +kernel
theorem dksX1_writes_1 : cX1_writes.data.toList.drop 24 = dktX1_writes_1 := dk_seg dksX1_writes_0 24 rfl rfl
theorem dX1_writes_0 : decode cX1_writes 0 = .ok (.aload_n 0, 1) := dk_42 (dk_at dksX1_writes_0 0 rfl rfl)
theorem dX1_writes_1 : decode cX1_writes 1 = .ok (.getfield 50, 3) := dk_180 0 50 (dk_at dksX1_writes_0 1 rfl rfl)
theorem dX1_writes_4 : decode cX1_writes 4 = .ok (.getfield 319, 3) := dk_180 1 63 (dk_at dksX1_writes_0 4 rfl rfl)
theorem dX1_writes_7 : decode cX1_writes 7 = .ok (.iload_n 2, 1) := dk_28 (dk_at dksX1_writes_0 7 rfl rfl)
theorem dX1_writes_8 : decode cX1_writes 8 = .ok (.iaload, 1) := dk_46 (dk_at dksX1_writes_0 8 rfl rfl)
theorem dX1_writes_9 : decode cX1_writes 9 = .ok (.iconst (-1), 1) := dk_2 (dk_at dksX1_writes_0 9 rfl rfl)
theorem dX1_writes_10 : decode cX1_writes 10 = .ok (.if_icmp .eq 24, 3) := dk_159 0 24 (dk_at dksX1_writes_0 10 rfl rfl)
theorem dX1_writes_13 : decode cX1_writes 13 = .ok (.aload_n 0, 1) := dk_42 (dk_at dksX1_writes_0 13 rfl rfl)
theorem dX1_writes_14 : decode cX1_writes 14 = .ok (.aload_n 1, 1) := dk_43 (dk_at dksX1_writes_0 14 rfl rfl)
theorem dX1_writes_15 : decode cX1_writes 15 = .ok (.aload_n 0, 1) := dk_42 (dk_at dksX1_writes_0 15 rfl rfl)
theorem dX1_writes_16 : decode cX1_writes 16 = .ok (.getfield 50, 3) := dk_180 0 50 (dk_at dksX1_writes_0 16 rfl rfl)
theorem dX1_writes_19 : decode cX1_writes 19 = .ok (.getfield 319, 3) := dk_180 1 63 (dk_at dksX1_writes_0 19 rfl rfl)
theorem dX1_writes_22 : decode cX1_writes 22 = .ok (.iload_n 2, 1) := dk_28 (dk_at dksX1_writes_0 22 rfl rfl)
theorem dX1_writes_23 : decode cX1_writes 23 = .ok (.iaload, 1) := dk_46 (dk_at dksX1_writes_0 23 rfl rfl)
theorem dX1_writes_24 : decode cX1_writes 24 = .ok (.invokevirtual 422, 3) := dk_182 1 166 (dk_at dksX1_writes_1 0 rfl rfl)
theorem dX1_writes_27 : decode cX1_writes 27 = .ok (.aload_n 1, 1) := dk_43 (dk_at dksX1_writes_1 3 rfl rfl)
theorem dX1_writes_28 : decode cX1_writes 28 = .ok (.bipush 32, 2) := dk_16 32 (dk_at dksX1_writes_1 4 rfl rfl)
theorem dX1_writes_30 : decode cX1_writes 30 = .ok (.invokevirtual 426, 3) := dk_182 1 170 (dk_at dksX1_writes_1 6 rfl rfl)
theorem dX1_writes_33 : decode cX1_writes 33 = .ok (.pop, 1) := dk_87 (dk_at dksX1_writes_1 9 rfl rfl)
theorem dX1_writes_34 : decode cX1_writes 34 = .ok (.aload_n 1, 1) := dk_43 (dk_at dksX1_writes_1 10 rfl rfl)
theorem dX1_writes_35 : decode cX1_writes 35 = .ok (.iload_n 2, 1) := dk_28 (dk_at dksX1_writes_1 11 rfl rfl)
theorem dX1_writes_36 : decode cX1_writes 36 = .ok (.invokevirtual 430, 3) := dk_182 1 174 (dk_at dksX1_writes_1 12 rfl rfl)
theorem dX1_writes_39 : decode cX1_writes 39 = .ok (.pop, 1) := dk_87 (dk_at dksX1_writes_1 15 rfl rfl)
theorem dX1_writes_40 : decode cX1_writes 40 = .ok (.return_, 1) := dk_177 (dk_at dksX1_writes_1 16 rfl rfl)
theorem q164 : (Jvm.Cond.initialized "GateLifter") ∈ lw_all := lw_g (lw_at lw_m1 1 rfl) rfl
theorem q194 : (Jvm.Cond.instantiable "GateLifter" (22 : Nat)) ∈ lw_all := lw_g (lw_at lw_m1 31 rfl) rfl
theorem q196 : (Jvm.Cond.instanceMethod ({ cls := "GateLifter", name := "<init>", desc := "()V" } : Jvm.MethodName)) ∈ lw_all := lw_g (lw_at lw_m1 33 rfl) rfl
theorem q197 : (Jvm.Cond.code ({ cls := "GateLifter", name := "<init>", desc := "()V" } : Jvm.MethodName) prog_1_method_3_code (2 : Nat) (Option.none : Option Jvm.ClassFile.FieldType)) ∈ lw_all := lw_g (lw_at lw_m1 34 rfl) rfl
theorem q198 : (Jvm.Cond.methodLink "GateLifter" (17 : Nat) ({ cls := "java/lang/Object", name := "<init>", desc := "()V" } : Jvm.MethodName)) ∈ lw_all := lw_g (lw_at lw_m1 35 rfl) rfl
theorem q201 : (Jvm.Cond.classLink "GateLifter" (23 : Nat) "GateLifter$Reader") ∈ lw_all := lw_g (lw_at lw_m1 38 rfl) rfl
theorem q203 : (Jvm.Cond.methodLinkNest "GateLifter" (25 : Nat) ({ cls := "GateLifter$Reader", name := "<init>", desc := "()V" } : Jvm.MethodName) "GateLifter") ∈ lw_tbl := lw_at lw_m1 40 rfl
theorem q214 : (Jvm.Cond.fieldLinkNest "GateLifter" (198 : Nat) "GateLifter$Net" "from" "[I" "GateLifter") ∈ lw_tbl := lw_at lw_m1 51 rfl
theorem q216 : (Jvm.Cond.fieldLinkNest "GateLifter" (201 : Nat) "GateLifter$Net" "to" "[I" "GateLifter") ∈ lw_tbl := lw_at lw_m1 53 rfl
theorem q219 : (Jvm.Cond.fieldLinkNest "GateLifter" (275 : Nat) "GateLifter$Net" "rows" "[I" "GateLifter") ∈ lw_tbl := lw_at lw_m1 56 rfl
theorem q221 : (Jvm.Cond.fieldLinkNest "GateLifter" (245 : Nat) "GateLifter$Net" "tolls" "[I" "GateLifter") ∈ lw_tbl := lw_at lw_m1 58 rfl
theorem q223 : (Jvm.Cond.fieldLinkNest "GateLifter" (310 : Nat) "GateLifter$Net" "open" "[Z" "GateLifter") ∈ lw_tbl := lw_at lw_m1 60 rfl
theorem q226 : (Jvm.Cond.fieldLinkNest "GateLifter" (257 : Nat) "GateLifter$Net" "nodes" "I" "GateLifter") ∈ lw_tbl := lw_at lw_m1 63 rfl
theorem q229 : (Jvm.Cond.fieldLinkNest "GateLifter" (218 : Nat) "GateLifter$Net" "root" "I" "GateLifter") ∈ lw_tbl := lw_at lw_m1 66 rfl
theorem q231 : (Jvm.Cond.fieldLinkNest "GateLifter" (215 : Nat) "GateLifter$Net" "exit" "I" "GateLifter") ∈ lw_tbl := lw_at lw_m1 68 rfl
theorem q233 : (Jvm.Cond.fieldLinkNest "GateLifter" (230 : Nat) "GateLifter$Net" "many" "I" "GateLifter") ∈ lw_tbl := lw_at lw_m1 70 rfl
theorem q313 : (Jvm.Cond.fieldLinkNest "GateLifter" (123 : Nat) "GateLifter$Wrong" "place" "I" "GateLifter") ∈ lw_tbl := lw_at lw_m1 150 rfl
theorem q330 : (Jvm.Cond.fieldLinkNest "GateLifter" (108 : Nat) "GateLifter$Reader" "tape" "[B" "GateLifter") ∈ lw_tbl := lw_at lw_m1 167 rfl
theorem q332 : (Jvm.Cond.fieldLinkNest "GateLifter" (167 : Nat) "GateLifter$Reader" "draft" "LGateLifter$Net;" "GateLifter") ∈ lw_tbl := lw_at lw_m1 169 rfl
theorem q336 : (Jvm.Cond.fieldLinkNest "GateLifter" (112 : Nat) "GateLifter$Reader" "size" "I" "GateLifter") ∈ lw_tbl := lw_at lw_m1 173 rfl
theorem q340 : (Jvm.Cond.fieldLinkNest "GateLifter" (157 : Nat) "GateLifter$Reader" "code" "I" "GateLifter") ∈ lw_tbl := lw_at lw_m1 177 rfl
theorem q363 : (Jvm.Cond.classLink "GateLifter" (30 : Nat) "GateLifter$Net") ∈ lw_all := lw_g (lw_at lw_m1 200 rfl) rfl
theorem q364 : (Jvm.Cond.methodLinkNest "GateLifter" (32 : Nat) ({ cls := "GateLifter$Net", name := "<init>", desc := "()V" } : Jvm.MethodName) "GateLifter") ∈ lw_tbl := lw_at lw_m1 201 rfl
theorem q366 : (Jvm.Cond.classLink "GateLifter" (47 : Nat) "GateLifter$Tree") ∈ lw_all := lw_g (lw_at lw_m1 203 rfl) rfl
theorem q368 : (Jvm.Cond.methodLinkNest "GateLifter" (49 : Nat) ({ cls := "GateLifter$Tree", name := "<init>", desc := "()V" } : Jvm.MethodName) "GateLifter") ∈ lw_tbl := lw_at lw_m1 205 rfl
theorem q373 : (Jvm.Cond.fieldLinkNest "GateLifter" (319 : Nat) "GateLifter$Tree" "keeper" "[I" "GateLifter") ∈ lw_tbl := lw_at lw_m1 210 rfl
theorem q375 : (Jvm.Cond.fieldLinkNest "GateLifter" (322 : Nat) "GateLifter$Tree" "depth" "[I" "GateLifter") ∈ lw_tbl := lw_at lw_m1 212 rfl
theorem q382 : (Jvm.Cond.fieldLinkNest "GateLifter" (140 : Nat) "GateLifter$Tree" "reached" "I" "GateLifter") ∈ lw_tbl := lw_at lw_m1 219 rfl
theorem q406 : (Jvm.Cond.classLink "GateLifter" (60 : Nat) "GateLifter$Pipes") ∈ lw_all := lw_g (lw_at lw_m2 3 rfl) rfl
theorem q408 : (Jvm.Cond.methodLinkNest "GateLifter" (62 : Nat) ({ cls := "GateLifter$Pipes", name := "<init>", desc := "()V" } : Jvm.MethodName) "GateLifter") ∈ lw_tbl := lw_at lw_m2 5 rfl
theorem q415 : (Jvm.Cond.fieldLinkNest "GateLifter" (306 : Nat) "GateLifter$Pipes" "room" "[[I" "GateLifter") ∈ lw_tbl := lw_at lw_m2 12 rfl
theorem q425 : (Jvm.Cond.classLink "GateLifter" (71 : Nat) "java/lang/StringBuilder") ∈ lw_all := lw_g (lw_at lw_m2 22 rfl) rfl
theorem q427 : (Jvm.Cond.methodLink "GateLifter" (73 : Nat) ({ cls := "java/lang/StringBuilder", name := "<init>", desc := "()V" } : Jvm.MethodName)) ∈ lw_all := lw_g (lw_at lw_m2 24 rfl) rfl
theorem q456 : (Jvm.Cond.methodLink "GateLifter" (85 : Nat) ({ cls := "GateLifter$Net", name := "begins", desc := "(I)LGateLifter$Net;" } : Jvm.MethodName)) ∈ lw_all := lw_g (lw_at lw_m2 53 rfl) rfl
theorem q464 : (Jvm.Cond.methodLink "GateLifter" (89 : Nat) ({ cls := "GateLifter$Tree", name := "grows", desc := "(LGateLifter$Net;)V" } : Jvm.MethodName)) ∈ lw_all := lw_g (lw_at lw_m2 61 rfl) rfl
theorem q501 : (Jvm.Cond.static ({ cls := "GateLifter", name := "has", desc := "(II)Z" } : Jvm.MethodName)) ∈ lw_all := lw_g (lw_at lw_m2 98 rfl) rfl
theorem q502 : (Jvm.Cond.code ({ cls := "GateLifter", name := "has", desc := "(II)Z" } : Jvm.MethodName) prog_1_method_1_code (2 : Nat) (Option.some Jvm.ClassFile.FieldType.boolean)) ∈ lw_all := lw_g (lw_at lw_m2 99 rfl) rfl
theorem q530 : (Jvm.Cond.static ({ cls := "GateLifter", name := "gates", desc := "(LGateLifter$Flow;II[I)V" } : Jvm.MethodName)) ∈ lw_all := lw_g (lw_at lw_m2 127 rfl) rfl
theorem q531 : (Jvm.Cond.code ({ cls := "GateLifter", name := "gates", desc := "(LGateLifter$Flow;II[I)V" } : Jvm.MethodName) prog_1_method_2_code (8 : Nat) (Option.none : Option Jvm.ClassFile.FieldType)) ∈ lw_all := lw_g (lw_at lw_m2 128 rfl) rfl
theorem q532 : (Jvm.Cond.interfaceEntry "GateLifter" (1 : Nat)) ∈ lw_tbl := lw_at lw_m2 129 rfl
theorem q533 : (Jvm.Cond.methodLink "GateLifter" (1 : Nat) ({ cls := "GateLifter$Flow", name := "nodes", desc := "()I" } : Jvm.MethodName)) ∈ lw_all := lw_g (lw_at lw_m2 130 rfl) rfl
theorem q534 : (Jvm.Cond.methodLink "GateLifter" (7 : Nat) ({ cls := "GateLifter", name := "has", desc := "(II)Z" } : Jvm.MethodName)) ∈ lw_all := lw_g (lw_at lw_m2 131 rfl) rfl
theorem q535 : (Jvm.Cond.interfaceEntry "GateLifter" (13 : Nat)) ∈ lw_tbl := lw_at lw_m2 132 rfl
theorem q536 : (Jvm.Cond.methodLink "GateLifter" (13 : Nat) ({ cls := "GateLifter$Flow", name := "next", desc := "(I)I" } : Jvm.MethodName)) ∈ lw_all := lw_g (lw_at lw_m2 133 rfl) rfl
theorem q556 : (Jvm.Cond.fieldLink "GateLifter" (26 : Nat) "GateLifter" "reader" "LGateLifter$Reader;") ∈ lw_all := lw_g (lw_at lw_m2 153 rfl) rfl
theorem q557 : (Jvm.Cond.fieldLink "GateLifter" (33 : Nat) "GateLifter" "now" "LGateLifter$Net;") ∈ lw_all := lw_g (lw_at lw_m2 154 rfl) rfl
theorem q558 : (Jvm.Cond.fieldLink "GateLifter" (37 : Nat) "GateLifter" "image" "LGateLifter$Net;") ∈ lw_all := lw_g (lw_at lw_m2 155 rfl) rfl
theorem q559 : (Jvm.Cond.fieldLink "GateLifter" (40 : Nat) "GateLifter" "before" "LGateLifter$Net;") ∈ lw_all := lw_g (lw_at lw_m2 156 rfl) rfl
theorem q560 : (Jvm.Cond.fieldLink "GateLifter" (43 : Nat) "GateLifter" "was" "[LGateLifter$Net;") ∈ lw_all := lw_g (lw_at lw_m2 157 rfl) rfl
theorem q561 : (Jvm.Cond.fieldLink "GateLifter" (50 : Nat) "GateLifter" "tree" "LGateLifter$Tree;") ∈ lw_all := lw_g (lw_at lw_m2 158 rfl) rfl
theorem q562 : (Jvm.Cond.fieldLink "GateLifter" (54 : Nat) "GateLifter" "old" "LGateLifter$Tree;") ∈ lw_all := lw_g (lw_at lw_m2 159 rfl) rfl
theorem q563 : (Jvm.Cond.fieldLink "GateLifter" (57 : Nat) "GateLifter" "trial" "LGateLifter$Tree;") ∈ lw_all := lw_g (lw_at lw_m2 160 rfl) rfl
theorem q564 : (Jvm.Cond.fieldLink "GateLifter" (63 : Nat) "GateLifter" "pipes" "LGateLifter$Pipes;") ∈ lw_all := lw_g (lw_at lw_m2 161 rfl) rfl
theorem q565 : (Jvm.Cond.fieldLink "GateLifter" (67 : Nat) "GateLifter" "outs" "[I") ∈ lw_all := lw_g (lw_at lw_m2 162 rfl) rfl
theorem q566 : (Jvm.Cond.fieldLink "GateLifter" (74 : Nat) "GateLifter" "written" "Ljava/lang/StringBuilder;") ∈ lw_all := lw_g (lw_at lw_m2 163 rfl) rfl
theorem q567 : (Jvm.Cond.fieldLink "GateLifter" (78 : Nat) "GateLifter" "wrongAt" "I") ∈ lw_all := lw_g (lw_at lw_m2 164 rfl) rfl
theorem q568 : (Jvm.Cond.fieldLink "GateLifter" (160 : Nat) "GateLifter" "why" "I") ∈ lw_all := lw_g (lw_at lw_m2 165 rfl) rfl
theorem q569 : (Jvm.Cond.fieldLink "GateLifter" (173 : Nat) "GateLifter" "undos" "I") ∈ lw_all := lw_g (lw_at lw_m2 166 rfl) rfl
theorem q570 : (Jvm.Cond.fieldLink "GateLifter" (128 : Nat) "GateLifter" "gained" "I") ∈ lw_all := lw_g (lw_at lw_m2 167 rfl) rfl
theorem q571 : (Jvm.Cond.fieldLink "GateLifter" (131 : Nat) "GateLifter" "lost" "I") ∈ lw_all := lw_g (lw_at lw_m2 168 rfl) rfl
theorem q572 : (Jvm.Cond.fieldLink "GateLifter" (134 : Nat) "GateLifter" "moved" "I") ∈ lw_all := lw_g (lw_at lw_m2 169 rfl) rfl
theorem q573 : (Jvm.Cond.fieldLink "GateLifter" (137 : Nat) "GateLifter" "lift" "I") ∈ lw_all := lw_g (lw_at lw_m2 170 rfl) rfl
theorem q574 : (Jvm.Cond.fieldLink "GateLifter" (443 : Nat) "GateLifter" "kept" "Z") ∈ lw_all := lw_g (lw_at lw_m2 171 rfl) rfl
theorem q575 : (Jvm.Cond.fieldLink "GateLifter" (82 : Nat) "GateLifter" "fares" "[I") ∈ lw_all := lw_g (lw_at lw_m2 172 rfl) rfl
theorem q576 : (Jvm.Cond.fieldLink "GateLifter" (385 : Nat) "GateLifter" "walked" "I") ∈ lw_all := lw_g (lw_at lw_m2 173 rfl) rfl
theorem q577 : (Jvm.Cond.fieldLink "GateLifter" (388 : Nat) "GateLifter" "wanted" "I") ∈ lw_all := lw_g (lw_at lw_m2 174 rfl) rfl
theorem q578 : (Jvm.Cond.laysFinal "GateLifter" "GateLifter" "reader" "LGateLifter$Reader;") ∈ lw_all := lw_g (lw_at lw_m2 175 rfl) rfl
theorem q579 : (Jvm.Cond.soleField "GateLifter" "reader") ∈ lw_all := lw_g (lw_at lw_m2 176 rfl) rfl
theorem q580 : (Jvm.Cond.laysFinal "GateLifter" "GateLifter" "now" "LGateLifter$Net;") ∈ lw_all := lw_g (lw_at lw_m2 177 rfl) rfl
theorem q581 : (Jvm.Cond.soleField "GateLifter" "now") ∈ lw_all := lw_g (lw_at lw_m2 178 rfl) rfl
theorem q582 : (Jvm.Cond.laysFinal "GateLifter" "GateLifter" "image" "LGateLifter$Net;") ∈ lw_all := lw_g (lw_at lw_m2 179 rfl) rfl
theorem q583 : (Jvm.Cond.soleField "GateLifter" "image") ∈ lw_all := lw_g (lw_at lw_m2 180 rfl) rfl
theorem q584 : (Jvm.Cond.laysFinal "GateLifter" "GateLifter" "before" "LGateLifter$Net;") ∈ lw_all := lw_g (lw_at lw_m2 181 rfl) rfl
theorem q585 : (Jvm.Cond.soleField "GateLifter" "before") ∈ lw_all := lw_g (lw_at lw_m2 182 rfl) rfl
theorem q586 : (Jvm.Cond.laysFinal "GateLifter" "GateLifter" "was" "[LGateLifter$Net;") ∈ lw_all := lw_g (lw_at lw_m2 183 rfl) rfl
theorem q587 : (Jvm.Cond.soleField "GateLifter" "was") ∈ lw_all := lw_g (lw_at lw_m2 184 rfl) rfl
theorem q588 : (Jvm.Cond.laysFinal "GateLifter" "GateLifter" "tree" "LGateLifter$Tree;") ∈ lw_all := lw_g (lw_at lw_m2 185 rfl) rfl
theorem q589 : (Jvm.Cond.soleField "GateLifter" "tree") ∈ lw_all := lw_g (lw_at lw_m2 186 rfl) rfl
theorem q590 : (Jvm.Cond.laysFinal "GateLifter" "GateLifter" "old" "LGateLifter$Tree;") ∈ lw_all := lw_g (lw_at lw_m2 187 rfl) rfl
theorem q591 : (Jvm.Cond.soleField "GateLifter" "old") ∈ lw_all := lw_g (lw_at lw_m2 188 rfl) rfl
theorem q592 : (Jvm.Cond.laysFinal "GateLifter" "GateLifter" "trial" "LGateLifter$Tree;") ∈ lw_all := lw_g (lw_at lw_m2 189 rfl) rfl
theorem q593 : (Jvm.Cond.soleField "GateLifter" "trial") ∈ lw_all := lw_g (lw_at lw_m2 190 rfl) rfl
theorem q594 : (Jvm.Cond.laysFinal "GateLifter" "GateLifter" "pipes" "LGateLifter$Pipes;") ∈ lw_all := lw_g (lw_at lw_m2 191 rfl) rfl
theorem q595 : (Jvm.Cond.soleField "GateLifter" "pipes") ∈ lw_all := lw_g (lw_at lw_m2 192 rfl) rfl
theorem q596 : (Jvm.Cond.laysFinal "GateLifter" "GateLifter" "outs" "[I") ∈ lw_all := lw_g (lw_at lw_m2 193 rfl) rfl
theorem q597 : (Jvm.Cond.soleField "GateLifter" "outs") ∈ lw_all := lw_g (lw_at lw_m2 194 rfl) rfl
theorem q598 : (Jvm.Cond.lays "GateLifter" "GateLifter" "written" "Ljava/lang/StringBuilder;") ∈ lw_all := lw_g (lw_at lw_m2 195 rfl) rfl
theorem q599 : (Jvm.Cond.soleField "GateLifter" "written") ∈ lw_all := lw_g (lw_at lw_m2 196 rfl) rfl
theorem q600 : (Jvm.Cond.lays "GateLifter" "GateLifter" "wrongAt" "I") ∈ lw_all := lw_g (lw_at lw_m2 197 rfl) rfl
theorem q601 : (Jvm.Cond.soleField "GateLifter" "wrongAt") ∈ lw_all := lw_g (lw_at lw_m2 198 rfl) rfl
theorem q602 : (Jvm.Cond.lays "GateLifter" "GateLifter" "why" "I") ∈ lw_all := lw_g (lw_at lw_m2 199 rfl) rfl
theorem q603 : (Jvm.Cond.soleField "GateLifter" "why") ∈ lw_all := lw_g (lw_at lw_m2 200 rfl) rfl
theorem q604 : (Jvm.Cond.lays "GateLifter" "GateLifter" "undos" "I") ∈ lw_all := lw_g (lw_at lw_m2 201 rfl) rfl
theorem q605 : (Jvm.Cond.soleField "GateLifter" "undos") ∈ lw_all := lw_g (lw_at lw_m2 202 rfl) rfl
theorem q606 : (Jvm.Cond.lays "GateLifter" "GateLifter" "gained" "I") ∈ lw_all := lw_g (lw_at lw_m2 203 rfl) rfl
theorem q607 : (Jvm.Cond.soleField "GateLifter" "gained") ∈ lw_all := lw_g (lw_at lw_m2 204 rfl) rfl
theorem q608 : (Jvm.Cond.lays "GateLifter" "GateLifter" "lost" "I") ∈ lw_all := lw_g (lw_at lw_m2 205 rfl) rfl
theorem q609 : (Jvm.Cond.soleField "GateLifter" "lost") ∈ lw_all := lw_g (lw_at lw_m2 206 rfl) rfl
theorem q610 : (Jvm.Cond.lays "GateLifter" "GateLifter" "moved" "I") ∈ lw_all := lw_g (lw_at lw_m2 207 rfl) rfl
theorem q611 : (Jvm.Cond.soleField "GateLifter" "moved") ∈ lw_all := lw_g (lw_at lw_m2 208 rfl) rfl
theorem q612 : (Jvm.Cond.lays "GateLifter" "GateLifter" "lift" "I") ∈ lw_all := lw_g (lw_at lw_m2 209 rfl) rfl
theorem q613 : (Jvm.Cond.soleField "GateLifter" "lift") ∈ lw_all := lw_g (lw_at lw_m2 210 rfl) rfl
theorem q614 : (Jvm.Cond.lays "GateLifter" "GateLifter" "kept" "Z") ∈ lw_all := lw_g (lw_at lw_m2 211 rfl) rfl
theorem q615 : (Jvm.Cond.soleField "GateLifter" "kept") ∈ lw_all := lw_g (lw_at lw_m2 212 rfl) rfl
theorem q616 : (Jvm.Cond.laysFinal "GateLifter" "GateLifter" "fares" "[I") ∈ lw_all := lw_g (lw_at lw_m2 213 rfl) rfl
theorem q617 : (Jvm.Cond.soleField "GateLifter" "fares") ∈ lw_all := lw_g (lw_at lw_m2 214 rfl) rfl
theorem q618 : (Jvm.Cond.lays "GateLifter" "GateLifter" "walked" "I") ∈ lw_all := lw_g (lw_at lw_m2 215 rfl) rfl
theorem q619 : (Jvm.Cond.soleField "GateLifter" "walked") ∈ lw_all := lw_g (lw_at lw_m2 216 rfl) rfl
theorem q620 : (Jvm.Cond.lays "GateLifter" "GateLifter" "wanted" "I") ∈ lw_all := lw_g (lw_at lw_m2 217 rfl) rfl
theorem q621 : (Jvm.Cond.soleField "GateLifter" "wanted") ∈ lw_all := lw_g (lw_at lw_m2 218 rfl) rfl
theorem q622 : (Jvm.Cond.superclass "GateLifter" "java/lang/Object") ∈ lw_all := lw_g (lw_at lw_m2 219 rfl) rfl
theorem q624 : (Jvm.Cond.instanceMethod ({ cls := "GateLifter", name := "feed", desc := "(IIIII)I" } : Jvm.MethodName)) ∈ lw_all := lw_g (lw_at lw_m2 221 rfl) rfl
theorem q625 : (Jvm.Cond.selects "GateLifter" ({ cls := "GateLifter", name := "feed", desc := "(IIIII)I" } : Jvm.MethodName) ({ cls := "GateLifter", name := "feed", desc := "(IIIII)I" } : Jvm.MethodName)) ∈ lw_all := lw_g (lw_at lw_m2 222 rfl) rfl
theorem q626 : (Jvm.Cond.code ({ cls := "GateLifter", name := "feed", desc := "(IIIII)I" } : Jvm.MethodName) prog_1_method_11_code (6 : Nat) (Option.some Jvm.ClassFile.FieldType.int)) ∈ lw_all := lw_g (lw_at lw_m2 223 rfl) rfl
theorem q627 : (Jvm.Cond.methodLink "GateLifter" (115 : Nat) ({ cls := "GateLifter", name := "four", desc := "(I)V" } : Jvm.MethodName)) ∈ lw_all := lw_g (lw_at lw_m2 224 rfl) rfl
theorem q628 : (Jvm.Cond.privateMethod ({ cls := "GateLifter", name := "four", desc := "(I)V" } : Jvm.MethodName)) ∈ lw_tbl := lw_at lw_m2 225 rfl
theorem q629 : (Jvm.Cond.instanceMethod ({ cls := "GateLifter", name := "four", desc := "(I)V" } : Jvm.MethodName)) ∈ lw_all := lw_g (lw_at lw_m2 226 rfl) rfl
theorem q630 : (Jvm.Cond.code ({ cls := "GateLifter", name := "four", desc := "(I)V" } : Jvm.MethodName) prog_1_method_10_code (3 : Nat) (Option.none : Option Jvm.ClassFile.FieldType)) ∈ lw_all := lw_g (lw_at lw_m2 227 rfl) rfl
theorem q632 : (Jvm.Cond.instanceMethod ({ cls := "GateLifter", name := "end", desc := "(I)Z" } : Jvm.MethodName)) ∈ lw_all := lw_g (lw_at lw_m2 229 rfl) rfl
theorem q633 : (Jvm.Cond.selects "GateLifter" ({ cls := "GateLifter", name := "end", desc := "(I)Z" } : Jvm.MethodName) ({ cls := "GateLifter", name := "end", desc := "(I)Z" } : Jvm.MethodName)) ∈ lw_all := lw_g (lw_at lw_m2 230 rfl) rfl
theorem q634 : (Jvm.Cond.code ({ cls := "GateLifter", name := "end", desc := "(I)Z" } : Jvm.MethodName) prog_1_method_12_code (2 : Nat) (Option.some Jvm.ClassFile.FieldType.boolean)) ∈ lw_all := lw_g (lw_at lw_m2 231 rfl) rfl
theorem q635 : (Jvm.Cond.methodLink "GateLifter" (119 : Nat) ({ cls := "GateLifter", name := "isIn", desc := "(III)Z" } : Jvm.MethodName)) ∈ lw_all := lw_g (lw_at lw_m2 232 rfl) rfl
theorem q636 : (Jvm.Cond.static ({ cls := "GateLifter", name := "isIn", desc := "(III)Z" } : Jvm.MethodName)) ∈ lw_all := lw_g (lw_at lw_m2 233 rfl) rfl
theorem q637 : (Jvm.Cond.code ({ cls := "GateLifter", name := "isIn", desc := "(III)Z" } : Jvm.MethodName) prog_1_method_9_code (3 : Nat) (Option.some Jvm.ClassFile.FieldType.boolean)) ∈ lw_all := lw_g (lw_at lw_m2 234 rfl) rfl
theorem q639 : (Jvm.Cond.instanceMethod ({ cls := "GateLifter", name := "fault", desc := "()I" } : Jvm.MethodName)) ∈ lw_all := lw_g (lw_at lw_m2 236 rfl) rfl
theorem q640 : (Jvm.Cond.selects "GateLifter" ({ cls := "GateLifter", name := "fault", desc := "()I" } : Jvm.MethodName) ({ cls := "GateLifter", name := "fault", desc := "()I" } : Jvm.MethodName)) ∈ lw_all := lw_g (lw_at lw_m2 237 rfl) rfl
theorem q641 : (Jvm.Cond.code ({ cls := "GateLifter", name := "fault", desc := "()I" } : Jvm.MethodName) prog_1_method_18_code (1 : Nat) (Option.some Jvm.ClassFile.FieldType.int)) ∈ lw_all := lw_g (lw_at lw_m2 238 rfl) rfl
theorem q643 : (Jvm.Cond.instanceMethod ({ cls := "GateLifter", name := "why", desc := "()I" } : Jvm.MethodName)) ∈ lw_all := lw_g (lw_at lw_m3 0 rfl) rfl
theorem q644 : (Jvm.Cond.selects "GateLifter" ({ cls := "GateLifter", name := "why", desc := "()I" } : Jvm.MethodName) ({ cls := "GateLifter", name := "why", desc := "()I" } : Jvm.MethodName)) ∈ lw_all := lw_g (lw_at lw_m3 1 rfl) rfl
theorem q645 : (Jvm.Cond.code ({ cls := "GateLifter", name := "why", desc := "()I" } : Jvm.MethodName) prog_1_method_19_code (1 : Nat) (Option.some Jvm.ClassFile.FieldType.int)) ∈ lw_all := lw_g (lw_at lw_m3 2 rfl) rfl
theorem q647 : (Jvm.Cond.instanceMethod ({ cls := "GateLifter", name := "walk", desc := "(I)I" } : Jvm.MethodName)) ∈ lw_all := lw_g (lw_at lw_m3 4 rfl) rfl
theorem q648 : (Jvm.Cond.selects "GateLifter" ({ cls := "GateLifter", name := "walk", desc := "(I)I" } : Jvm.MethodName) ({ cls := "GateLifter", name := "walk", desc := "(I)I" } : Jvm.MethodName)) ∈ lw_all := lw_g (lw_at lw_m3 5 rfl) rfl
theorem q649 : (Jvm.Cond.code ({ cls := "GateLifter", name := "walk", desc := "(I)I" } : Jvm.MethodName) prog_1_method_57_code (2 : Nat) (Option.some Jvm.ClassFile.FieldType.int)) ∈ lw_all := lw_g (lw_at lw_m3 6 rfl) rfl
theorem q650 : (Jvm.Cond.methodLink "GateLifter" (391 : Nat) ({ cls := "GateLifter", name := "walks", desc := "(I)I" } : Jvm.MethodName)) ∈ lw_all := lw_g (lw_at lw_m3 7 rfl) rfl
theorem q651 : (Jvm.Cond.privateMethod ({ cls := "GateLifter", name := "walks", desc := "(I)I" } : Jvm.MethodName)) ∈ lw_tbl := lw_at lw_m3 8 rfl
theorem q652 : (Jvm.Cond.instanceMethod ({ cls := "GateLifter", name := "walks", desc := "(I)I" } : Jvm.MethodName)) ∈ lw_all := lw_g (lw_at lw_m3 9 rfl) rfl
theorem q653 : (Jvm.Cond.code ({ cls := "GateLifter", name := "walks", desc := "(I)I" } : Jvm.MethodName) prog_1_method_56_code (4 : Nat) (Option.some Jvm.ClassFile.FieldType.int)) ∈ lw_all := lw_g (lw_at lw_m3 10 rfl) rfl
theorem q655 : (Jvm.Cond.instanceMethod ({ cls := "GateLifter", name := "level", desc := "(I)I" } : Jvm.MethodName)) ∈ lw_all := lw_g (lw_at lw_m3 12 rfl) rfl
theorem q656 : (Jvm.Cond.selects "GateLifter" ({ cls := "GateLifter", name := "level", desc := "(I)I" } : Jvm.MethodName) ({ cls := "GateLifter", name := "level", desc := "(I)I" } : Jvm.MethodName)) ∈ lw_all := lw_g (lw_at lw_m3 13 rfl) rfl
theorem q657 : (Jvm.Cond.code ({ cls := "GateLifter", name := "level", desc := "(I)I" } : Jvm.MethodName) prog_1_method_64_code (2 : Nat) (Option.some Jvm.ClassFile.FieldType.int)) ∈ lw_all := lw_g (lw_at lw_m3 14 rfl) rfl
theorem q658 : (Jvm.Cond.privateMethod ({ cls := "GateLifter", name := "lambda$level$8", desc := "(II)Z" } : Jvm.MethodName)) ∈ lw_tbl := lw_at lw_m3 15 rfl
theorem q659 : (Jvm.Cond.instanceMethod ({ cls := "GateLifter", name := "lambda$level$8", desc := "(II)Z" } : Jvm.MethodName)) ∈ lw_all := lw_g (lw_at lw_m3 16 rfl) rfl
theorem q660 : (Jvm.Cond.code ({ cls := "GateLifter", name := "lambda$level$8", desc := "(II)Z" } : Jvm.MethodName) prog_1_method_96_code (3 : Nat) (Option.some Jvm.ClassFile.FieldType.boolean)) ∈ lw_all := lw_g (lw_at lw_m3 17 rfl) rfl
theorem q661 : (Jvm.Cond.methodLink "GateLifter" (267 : Nat) ({ cls := "GateLifter", name := "bits", desc := "(LGateLifter$Is;)I" } : Jvm.MethodName)) ∈ lw_all := lw_g (lw_at lw_m3 18 rfl) rfl
theorem q662 : (Jvm.Cond.privateMethod ({ cls := "GateLifter", name := "bits", desc := "(LGateLifter$Is;)I" } : Jvm.MethodName)) ∈ lw_tbl := lw_at lw_m3 19 rfl
theorem q663 : (Jvm.Cond.instanceMethod ({ cls := "GateLifter", name := "bits", desc := "(LGateLifter$Is;)I" } : Jvm.MethodName)) ∈ lw_all := lw_g (lw_at lw_m3 20 rfl) rfl
theorem q664 : (Jvm.Cond.code ({ cls := "GateLifter", name := "bits", desc := "(LGateLifter$Is;)I" } : Jvm.MethodName) prog_1_method_32_code (4 : Nat) (Option.some Jvm.ClassFile.FieldType.int)) ∈ lw_all := lw_g (lw_at lw_m3 21 rfl) rfl
theorem q665 : (Jvm.Cond.interfaceEntry "GateLifter" (259 : Nat)) ∈ lw_tbl := lw_at lw_m3 22 rfl
theorem q666 : (Jvm.Cond.methodLink "GateLifter" (259 : Nat) ({ cls := "GateLifter$Is", name := "of", desc := "(I)Z" } : Jvm.MethodName)) ∈ lw_all := lw_g (lw_at lw_m3 23 rfl) rfl
theorem q670 : (Jvm.Cond.instanceMethod ({ cls := "GateLifter", name := "row", desc := "(I)I" } : Jvm.MethodName)) ∈ lw_all := lw_g (lw_at lw_m3 27 rfl) rfl
theorem q671 : (Jvm.Cond.selects "GateLifter" ({ cls := "GateLifter", name := "row", desc := "(I)I" } : Jvm.MethodName) ({ cls := "GateLifter", name := "row", desc := "(I)I" } : Jvm.MethodName)) ∈ lw_all := lw_g (lw_at lw_m3 28 rfl) rfl
theorem q672 : (Jvm.Cond.code ({ cls := "GateLifter", name := "row", desc := "(I)I" } : Jvm.MethodName) prog_1_method_71_code (5 : Nat) (Option.some Jvm.ClassFile.FieldType.int)) ∈ lw_all := lw_g (lw_at lw_m3 29 rfl) rfl
theorem q673 : (Jvm.Cond.methodLink "GateLifter" (338 : Nat) ({ cls := "GateLifter", name := "nearOf", desc := "(I)I" } : Jvm.MethodName)) ∈ lw_all := lw_g (lw_at lw_m3 30 rfl) rfl
theorem q674 : (Jvm.Cond.privateMethod ({ cls := "GateLifter", name := "nearOf", desc := "(I)I" } : Jvm.MethodName)) ∈ lw_tbl := lw_at lw_m3 31 rfl
theorem q675 : (Jvm.Cond.instanceMethod ({ cls := "GateLifter", name := "nearOf", desc := "(I)I" } : Jvm.MethodName)) ∈ lw_all := lw_g (lw_at lw_m3 32 rfl) rfl
theorem q676 : (Jvm.Cond.code ({ cls := "GateLifter", name := "nearOf", desc := "(I)I" } : Jvm.MethodName) prog_1_method_40_code (6 : Nat) (Option.some Jvm.ClassFile.FieldType.int)) ∈ lw_all := lw_g (lw_at lw_m3 33 rfl) rfl
theorem q678 : (Jvm.Cond.instanceMethod ({ cls := "GateLifter", name := "octet", desc := "(I)I" } : Jvm.MethodName)) ∈ lw_all := lw_g (lw_at lw_m3 35 rfl) rfl
theorem q679 : (Jvm.Cond.selects "GateLifter" ({ cls := "GateLifter", name := "octet", desc := "(I)I" } : Jvm.MethodName) ({ cls := "GateLifter", name := "octet", desc := "(I)I" } : Jvm.MethodName)) ∈ lw_all := lw_g (lw_at lw_m3 36 rfl) rfl
theorem q680 : (Jvm.Cond.code ({ cls := "GateLifter", name := "octet", desc := "(I)I" } : Jvm.MethodName) prog_1_method_78_code (2 : Nat) (Option.some Jvm.ClassFile.FieldType.int)) ∈ lw_all := lw_g (lw_at lw_m3 37 rfl) rfl
theorem q681 : (Jvm.Cond.methodLink "GateLifter" (438 : Nat) ({ cls := "java/lang/StringBuilder", name := "length", desc := "()I" } : Jvm.MethodName)) ∈ lw_all := lw_g (lw_at lw_m3 38 rfl) rfl
theorem q688 : (Jvm.Cond.methodLink "GateLifter" (439 : Nat) ({ cls := "java/lang/StringBuilder", name := "charAt", desc := "(I)C" } : Jvm.MethodName)) ∈ lw_all := lw_g (lw_at lw_m3 45 rfl) rfl
theorem q719 : (Jvm.Cond.instanceMethod ({ cls := "GateLifter", name := "image", desc := "()V" } : Jvm.MethodName)) ∈ lw_all := lw_g (lw_at lw_m3 76 rfl) rfl
theorem q720 : (Jvm.Cond.selects "GateLifter" ({ cls := "GateLifter", name := "image", desc := "()V" } : Jvm.MethodName) ({ cls := "GateLifter", name := "image", desc := "()V" } : Jvm.MethodName)) ∈ lw_all := lw_g (lw_at lw_m3 77 rfl) rfl
theorem q721 : (Jvm.Cond.code ({ cls := "GateLifter", name := "image", desc := "()V" } : Jvm.MethodName) prog_1_method_79_code (1 : Nat) (Option.none : Option Jvm.ClassFile.FieldType)) ∈ lw_all := lw_g (lw_at lw_m3 78 rfl) rfl
theorem q722 : (Jvm.Cond.methodLink "GateLifter" (170 : Nat) ({ cls := "GateLifter$Net", name := "be", desc := "(LGateLifter$Net;)V" } : Jvm.MethodName)) ∈ lw_all := lw_g (lw_at lw_m3 79 rfl) rfl
theorem q728 : (Jvm.Cond.instanceMethod ({ cls := "GateLifter", name := "back", desc := "()Z" } : Jvm.MethodName)) ∈ lw_all := lw_g (lw_at lw_m3 85 rfl) rfl
theorem q729 : (Jvm.Cond.selects "GateLifter" ({ cls := "GateLifter", name := "back", desc := "()Z" } : Jvm.MethodName) ({ cls := "GateLifter", name := "back", desc := "()Z" } : Jvm.MethodName)) ∈ lw_all := lw_g (lw_at lw_m3 86 rfl) rfl
theorem q730 : (Jvm.Cond.code ({ cls := "GateLifter", name := "back", desc := "()Z" } : Jvm.MethodName) prog_1_method_80_code (1 : Nat) (Option.some Jvm.ClassFile.FieldType.boolean)) ∈ lw_all := lw_g (lw_at lw_m3 87 rfl) rfl
theorem q731 : (Jvm.Cond.methodLink "GateLifter" (176 : Nat) ({ cls := "GateLifter", name := "forgets", desc := "()V" } : Jvm.MethodName)) ∈ lw_all := lw_g (lw_at lw_m3 88 rfl) rfl
theorem q732 : (Jvm.Cond.privateMethod ({ cls := "GateLifter", name := "forgets", desc := "()V" } : Jvm.MethodName)) ∈ lw_tbl := lw_at lw_m3 89 rfl
theorem q733 : (Jvm.Cond.instanceMethod ({ cls := "GateLifter", name := "forgets", desc := "()V" } : Jvm.MethodName)) ∈ lw_all := lw_g (lw_at lw_m3 90 rfl) rfl
theorem q734 : (Jvm.Cond.code ({ cls := "GateLifter", name := "forgets", desc := "()V" } : Jvm.MethodName) prog_1_method_15_code (1 : Nat) (Option.none : Option Jvm.ClassFile.FieldType)) ∈ lw_all := lw_g (lw_at lw_m3 91 rfl) rfl
theorem q736 : (Jvm.Cond.instanceMethod ({ cls := "GateLifter", name := "count", desc := "(I)I" } : Jvm.MethodName)) ∈ lw_all := lw_g (lw_at lw_m3 93 rfl) rfl
theorem q737 : (Jvm.Cond.selects "GateLifter" ({ cls := "GateLifter", name := "count", desc := "(I)I" } : Jvm.MethodName) ({ cls := "GateLifter", name := "count", desc := "(I)I" } : Jvm.MethodName)) ∈ lw_all := lw_g (lw_at lw_m3 94 rfl) rfl
theorem q738 : (Jvm.Cond.code ({ cls := "GateLifter", name := "count", desc := "(I)I" } : Jvm.MethodName) prog_1_method_91_code (2 : Nat) (Option.some Jvm.ClassFile.FieldType.int)) ∈ lw_all := lw_g (lw_at lw_m3 95 rfl) rfl
theorem q739 : (Jvm.Cond.methodLink "GateLifter" (457 : Nat) ({ cls := "GateLifter", name := "openArcs", desc := "()I" } : Jvm.MethodName)) ∈ lw_all := lw_g (lw_at lw_m3 96 rfl) rfl
theorem q740 : (Jvm.Cond.privateMethod ({ cls := "GateLifter", name := "openArcs", desc := "()I" } : Jvm.MethodName)) ∈ lw_tbl := lw_at lw_m3 97 rfl
theorem q741 : (Jvm.Cond.instanceMethod ({ cls := "GateLifter", name := "openArcs", desc := "()I" } : Jvm.MethodName)) ∈ lw_all := lw_g (lw_at lw_m3 98 rfl) rfl
theorem q742 : (Jvm.Cond.code ({ cls := "GateLifter", name := "openArcs", desc := "()I" } : Jvm.MethodName) prog_1_method_90_code (3 : Nat) (Option.some Jvm.ClassFile.FieldType.int)) ∈ lw_all := lw_g (lw_at lw_m3 99 rfl) rfl
theorem q743 : (Jvm.Cond.methodLink "GateLifter" (460 : Nat) ({ cls := "GateLifter", name := "depths", desc := "(Z)I" } : Jvm.MethodName)) ∈ lw_all := lw_g (lw_at lw_m3 100 rfl) rfl
theorem q744 : (Jvm.Cond.privateMethod ({ cls := "GateLifter", name := "depths", desc := "(Z)I" } : Jvm.MethodName)) ∈ lw_tbl := lw_at lw_m3 101 rfl
theorem q745 : (Jvm.Cond.instanceMethod ({ cls := "GateLifter", name := "depths", desc := "(Z)I" } : Jvm.MethodName)) ∈ lw_all := lw_g (lw_at lw_m3 102 rfl) rfl
theorem q746 : (Jvm.Cond.code ({ cls := "GateLifter", name := "depths", desc := "(Z)I" } : Jvm.MethodName) prog_1_method_85_code (5 : Nat) (Option.some Jvm.ClassFile.FieldType.int)) ∈ lw_all := lw_g (lw_at lw_m3 103 rfl) rfl
theorem q747 : (Jvm.Cond.methodLink "GateLifter" (449 : Nat) ({ cls := "java/lang/Math", name := "max", desc := "(II)I" } : Jvm.MethodName)) ∈ lw_all := lw_g (lw_at lw_m3 104 rfl) rfl
theorem q750 : (Jvm.Cond.methodLink "GateLifter" (464 : Nat) ({ cls := "GateLifter", name := "heads", desc := "()I" } : Jvm.MethodName)) ∈ lw_all := lw_g (lw_at lw_m3 107 rfl) rfl
theorem q751 : (Jvm.Cond.privateMethod ({ cls := "GateLifter", name := "heads", desc := "()I" } : Jvm.MethodName)) ∈ lw_tbl := lw_at lw_m3 108 rfl
theorem q752 : (Jvm.Cond.instanceMethod ({ cls := "GateLifter", name := "heads", desc := "()I" } : Jvm.MethodName)) ∈ lw_all := lw_g (lw_at lw_m3 109 rfl) rfl
theorem q753 : (Jvm.Cond.code ({ cls := "GateLifter", name := "heads", desc := "()I" } : Jvm.MethodName) prog_1_method_37_code (1 : Nat) (Option.some Jvm.ClassFile.FieldType.int)) ∈ lw_all := lw_g (lw_at lw_m3 110 rfl) rfl
theorem q754 : (Jvm.Cond.privateMethod ({ cls := "GateLifter", name := "lambda$heads$3", desc := "(I)Z" } : Jvm.MethodName)) ∈ lw_tbl := lw_at lw_m3 111 rfl
theorem q755 : (Jvm.Cond.instanceMethod ({ cls := "GateLifter", name := "lambda$heads$3", desc := "(I)Z" } : Jvm.MethodName)) ∈ lw_all := lw_g (lw_at lw_m3 112 rfl) rfl
theorem q756 : (Jvm.Cond.code ({ cls := "GateLifter", name := "lambda$heads$3", desc := "(I)Z" } : Jvm.MethodName) prog_1_method_101_code (2 : Nat) (Option.some Jvm.ClassFile.FieldType.boolean)) ∈ lw_all := lw_g (lw_at lw_m3 113 rfl) rfl
theorem q757 : (Jvm.Cond.methodLink "GateLifter" (282 : Nat) ({ cls := "GateLifter", name := "tailsOf", desc := "(I)I" } : Jvm.MethodName)) ∈ lw_all := lw_g (lw_at lw_m3 114 rfl) rfl
theorem q758 : (Jvm.Cond.privateMethod ({ cls := "GateLifter", name := "tailsOf", desc := "(I)I" } : Jvm.MethodName)) ∈ lw_tbl := lw_at lw_m3 115 rfl
theorem q759 : (Jvm.Cond.instanceMethod ({ cls := "GateLifter", name := "tailsOf", desc := "(I)I" } : Jvm.MethodName)) ∈ lw_all := lw_g (lw_at lw_m3 116 rfl) rfl
theorem q760 : (Jvm.Cond.code ({ cls := "GateLifter", name := "tailsOf", desc := "(I)I" } : Jvm.MethodName) prog_1_method_36_code (2 : Nat) (Option.some Jvm.ClassFile.FieldType.int)) ∈ lw_all := lw_g (lw_at lw_m3 117 rfl) rfl
theorem q761 : (Jvm.Cond.privateMethod ({ cls := "GateLifter", name := "lambda$tailsOf$2", desc := "(II)Z" } : Jvm.MethodName)) ∈ lw_tbl := lw_at lw_m3 118 rfl
theorem q762 : (Jvm.Cond.instanceMethod ({ cls := "GateLifter", name := "lambda$tailsOf$2", desc := "(II)Z" } : Jvm.MethodName)) ∈ lw_all := lw_g (lw_at lw_m3 119 rfl) rfl
theorem q763 : (Jvm.Cond.code ({ cls := "GateLifter", name := "lambda$tailsOf$2", desc := "(II)Z" } : Jvm.MethodName) prog_1_method_102_code (3 : Nat) (Option.some Jvm.ClassFile.FieldType.boolean)) ∈ lw_all := lw_g (lw_at lw_m3 120 rfl) rfl
theorem q764 : (Jvm.Cond.methodLink "GateLifter" (394 : Nat) ({ cls := "GateLifter$Tree", name := "isBack", desc := "(II)Z" } : Jvm.MethodName)) ∈ lw_all := lw_g (lw_at lw_m3 121 rfl) rfl
theorem q772 : (Jvm.Cond.methodLink "GateLifter" (467 : Nat) ({ cls := "GateLifter", name := "arcsOf", desc := "(I)I" } : Jvm.MethodName)) ∈ lw_all := lw_g (lw_at lw_m3 129 rfl) rfl
theorem q773 : (Jvm.Cond.privateMethod ({ cls := "GateLifter", name := "arcsOf", desc := "(I)I" } : Jvm.MethodName)) ∈ lw_tbl := lw_at lw_m3 130 rfl
theorem q774 : (Jvm.Cond.instanceMethod ({ cls := "GateLifter", name := "arcsOf", desc := "(I)I" } : Jvm.MethodName)) ∈ lw_all := lw_g (lw_at lw_m3 131 rfl) rfl
theorem q775 : (Jvm.Cond.code ({ cls := "GateLifter", name := "arcsOf", desc := "(I)I" } : Jvm.MethodName) prog_1_method_81_code (4 : Nat) (Option.some Jvm.ClassFile.FieldType.int)) ∈ lw_all := lw_g (lw_at lw_m3 132 rfl) rfl
theorem q776 : (Jvm.Cond.methodLink "GateLifter" (403 : Nat) ({ cls := "GateLifter", name := "kindOf", desc := "(I)I" } : Jvm.MethodName)) ∈ lw_all := lw_g (lw_at lw_m3 133 rfl) rfl
theorem q777 : (Jvm.Cond.privateMethod ({ cls := "GateLifter", name := "kindOf", desc := "(I)I" } : Jvm.MethodName)) ∈ lw_tbl := lw_at lw_m3 134 rfl
theorem q778 : (Jvm.Cond.instanceMethod ({ cls := "GateLifter", name := "kindOf", desc := "(I)I" } : Jvm.MethodName)) ∈ lw_all := lw_g (lw_at lw_m3 135 rfl) rfl
theorem q779 : (Jvm.Cond.code ({ cls := "GateLifter", name := "kindOf", desc := "(I)I" } : Jvm.MethodName) prog_1_method_58_code (2 : Nat) (Option.some Jvm.ClassFile.FieldType.int)) ∈ lw_all := lw_g (lw_at lw_m3 136 rfl) rfl
theorem q780 : (Jvm.Cond.methodLink "GateLifter" (470 : Nat) ({ cls := "GateLifter", name := "bridges", desc := "()I" } : Jvm.MethodName)) ∈ lw_all := lw_g (lw_at lw_m3 137 rfl) rfl
theorem q781 : (Jvm.Cond.privateMethod ({ cls := "GateLifter", name := "bridges", desc := "()I" } : Jvm.MethodName)) ∈ lw_tbl := lw_at lw_m3 138 rfl
theorem q782 : (Jvm.Cond.instanceMethod ({ cls := "GateLifter", name := "bridges", desc := "()I" } : Jvm.MethodName)) ∈ lw_all := lw_g (lw_at lw_m3 139 rfl) rfl
theorem q783 : (Jvm.Cond.code ({ cls := "GateLifter", name := "bridges", desc := "()I" } : Jvm.MethodName) prog_1_method_82_code (3 : Nat) (Option.some Jvm.ClassFile.FieldType.int)) ∈ lw_all := lw_g (lw_at lw_m3 140 rfl) rfl
theorem q784 : (Jvm.Cond.methodLink "GateLifter" (406 : Nat) ({ cls := "GateLifter", name := "isBridge", desc := "(I)Z" } : Jvm.MethodName)) ∈ lw_all := lw_g (lw_at lw_m3 141 rfl) rfl
theorem q785 : (Jvm.Cond.privateMethod ({ cls := "GateLifter", name := "isBridge", desc := "(I)Z" } : Jvm.MethodName)) ∈ lw_tbl := lw_at lw_m3 142 rfl
theorem q786 : (Jvm.Cond.instanceMethod ({ cls := "GateLifter", name := "isBridge", desc := "(I)Z" } : Jvm.MethodName)) ∈ lw_all := lw_g (lw_at lw_m3 143 rfl) rfl
theorem q787 : (Jvm.Cond.code ({ cls := "GateLifter", name := "isBridge", desc := "(I)Z" } : Jvm.MethodName) prog_1_method_59_code (2 : Nat) (Option.some Jvm.ClassFile.FieldType.boolean)) ∈ lw_all := lw_g (lw_at lw_m3 144 rfl) rfl
theorem q788 : (Jvm.Cond.methodLink "GateLifter" (397 : Nat) ({ cls := "GateLifter$Net", name := "isOpenFrom", desc := "(II)Z" } : Jvm.MethodName)) ∈ lw_all := lw_g (lw_at lw_m3 145 rfl) rfl
theorem q793 : (Jvm.Cond.methodLink "GateLifter" (371 : Nat) ({ cls := "GateLifter$Net", name := "reachedBut", desc := "(I)I" } : Jvm.MethodName)) ∈ lw_all := lw_g (lw_at lw_m3 150 rfl) rfl
theorem q802 : (Jvm.Cond.methodLink "GateLifter" (473 : Nat) ({ cls := "GateLifter", name := "isSound", desc := "()Z" } : Jvm.MethodName)) ∈ lw_all := lw_g (lw_at lw_m3 159 rfl) rfl
theorem q803 : (Jvm.Cond.privateMethod ({ cls := "GateLifter", name := "isSound", desc := "()Z" } : Jvm.MethodName)) ∈ lw_tbl := lw_at lw_m3 160 rfl
theorem q804 : (Jvm.Cond.instanceMethod ({ cls := "GateLifter", name := "isSound", desc := "()Z" } : Jvm.MethodName)) ∈ lw_all := lw_g (lw_at lw_m3 161 rfl) rfl
theorem q805 : (Jvm.Cond.code ({ cls := "GateLifter", name := "isSound", desc := "()Z" } : Jvm.MethodName) prog_1_method_83_code (4 : Nat) (Option.some Jvm.ClassFile.FieldType.boolean)) ∈ lw_all := lw_g (lw_at lw_m3 162 rfl) rfl
theorem q806 : (Jvm.Cond.privateMethod ({ cls := "GateLifter", name := "lambda$isSound$10", desc := "(II)Z" } : Jvm.MethodName)) ∈ lw_tbl := lw_at lw_m3 163 rfl
theorem q807 : (Jvm.Cond.instanceMethod ({ cls := "GateLifter", name := "lambda$isSound$10", desc := "(II)Z" } : Jvm.MethodName)) ∈ lw_all := lw_g (lw_at lw_m3 164 rfl) rfl
theorem q808 : (Jvm.Cond.code ({ cls := "GateLifter", name := "lambda$isSound$10", desc := "(II)Z" } : Jvm.MethodName) prog_1_method_94_code (3 : Nat) (Option.some Jvm.ClassFile.FieldType.boolean)) ∈ lw_all := lw_g (lw_at lw_m3 165 rfl) rfl
theorem q809 : (Jvm.Cond.methodLink "GateLifter" (493 : Nat) ({ cls := "GateLifter", name := "backFrom", desc := "(I)I" } : Jvm.MethodName)) ∈ lw_all := lw_g (lw_at lw_m3 166 rfl) rfl
theorem q810 : (Jvm.Cond.privateMethod ({ cls := "GateLifter", name := "backFrom", desc := "(I)I" } : Jvm.MethodName)) ∈ lw_tbl := lw_at lw_m3 167 rfl
theorem q811 : (Jvm.Cond.instanceMethod ({ cls := "GateLifter", name := "backFrom", desc := "(I)I" } : Jvm.MethodName)) ∈ lw_all := lw_g (lw_at lw_m3 168 rfl) rfl
theorem q812 : (Jvm.Cond.code ({ cls := "GateLifter", name := "backFrom", desc := "(I)I" } : Jvm.MethodName) prog_1_method_84_code (2 : Nat) (Option.some Jvm.ClassFile.FieldType.int)) ∈ lw_all := lw_g (lw_at lw_m3 169 rfl) rfl
theorem q813 : (Jvm.Cond.privateMethod ({ cls := "GateLifter", name := "lambda$backFrom$11", desc := "(II)Z" } : Jvm.MethodName)) ∈ lw_tbl := lw_at lw_m3 170 rfl
theorem q814 : (Jvm.Cond.instanceMethod ({ cls := "GateLifter", name := "lambda$backFrom$11", desc := "(II)Z" } : Jvm.MethodName)) ∈ lw_all := lw_g (lw_at lw_m3 171 rfl) rfl
theorem q815 : (Jvm.Cond.code ({ cls := "GateLifter", name := "lambda$backFrom$11", desc := "(II)Z" } : Jvm.MethodName) prog_1_method_93_code (3 : Nat) (Option.some Jvm.ClassFile.FieldType.boolean)) ∈ lw_all := lw_g (lw_at lw_m3 172 rfl) rfl
theorem q816 : (Jvm.Cond.privateMethod ({ cls := "GateLifter", name := "lambda$count$12", desc := "(I)Z" } : Jvm.MethodName)) ∈ lw_tbl := lw_at lw_m3 173 rfl
theorem q817 : (Jvm.Cond.instanceMethod ({ cls := "GateLifter", name := "lambda$count$12", desc := "(I)Z" } : Jvm.MethodName)) ∈ lw_all := lw_g (lw_at lw_m3 174 rfl) rfl
theorem q818 : (Jvm.Cond.code ({ cls := "GateLifter", name := "lambda$count$12", desc := "(I)Z" } : Jvm.MethodName) prog_1_method_92_code (2 : Nat) (Option.some Jvm.ClassFile.FieldType.boolean)) ∈ lw_all := lw_g (lw_at lw_m3 175 rfl) rfl
theorem q819 : (Jvm.Cond.methodLink "GateLifter" (272 : Nat) ({ cls := "GateLifter", name := "keptBy", desc := "(I)I" } : Jvm.MethodName)) ∈ lw_all := lw_g (lw_at lw_m3 176 rfl) rfl
theorem q820 : (Jvm.Cond.privateMethod ({ cls := "GateLifter", name := "keptBy", desc := "(I)I" } : Jvm.MethodName)) ∈ lw_tbl := lw_at lw_m3 177 rfl
theorem q821 : (Jvm.Cond.instanceMethod ({ cls := "GateLifter", name := "keptBy", desc := "(I)I" } : Jvm.MethodName)) ∈ lw_all := lw_g (lw_at lw_m3 178 rfl) rfl
theorem q822 : (Jvm.Cond.code ({ cls := "GateLifter", name := "keptBy", desc := "(I)I" } : Jvm.MethodName) prog_1_method_34_code (2 : Nat) (Option.some Jvm.ClassFile.FieldType.int)) ∈ lw_all := lw_g (lw_at lw_m3 179 rfl) rfl
theorem q823 : (Jvm.Cond.privateMethod ({ cls := "GateLifter", name := "lambda$keptBy$1", desc := "(II)Z" } : Jvm.MethodName)) ∈ lw_tbl := lw_at lw_m3 180 rfl
theorem q824 : (Jvm.Cond.instanceMethod ({ cls := "GateLifter", name := "lambda$keptBy$1", desc := "(II)Z" } : Jvm.MethodName)) ∈ lw_all := lw_g (lw_at lw_m3 181 rfl) rfl
theorem q825 : (Jvm.Cond.code ({ cls := "GateLifter", name := "lambda$keptBy$1", desc := "(II)Z" } : Jvm.MethodName) prog_1_method_103_code (3 : Nat) (Option.some Jvm.ClassFile.FieldType.boolean)) ∈ lw_all := lw_g (lw_at lw_m3 182 rfl) rfl
theorem q826 : (Jvm.Cond.methodLink "GateLifter" (379 : Nat) ({ cls := "GateLifter$Tree", name := "keeps", desc := "(II)Z" } : Jvm.MethodName)) ∈ lw_all := lw_g (lw_at lw_m3 183 rfl) rfl
theorem q827 : (Jvm.Cond.methodLink "GateLifter" (478 : Nat) ({ cls := "GateLifter", name := "mostNest", desc := "()I" } : Jvm.MethodName)) ∈ lw_all := lw_g (lw_at lw_m3 184 rfl) rfl
theorem q828 : (Jvm.Cond.privateMethod ({ cls := "GateLifter", name := "mostNest", desc := "()I" } : Jvm.MethodName)) ∈ lw_tbl := lw_at lw_m3 185 rfl
theorem q829 : (Jvm.Cond.instanceMethod ({ cls := "GateLifter", name := "mostNest", desc := "()I" } : Jvm.MethodName)) ∈ lw_all := lw_g (lw_at lw_m3 186 rfl) rfl
theorem q830 : (Jvm.Cond.code ({ cls := "GateLifter", name := "mostNest", desc := "()I" } : Jvm.MethodName) prog_1_method_86_code (3 : Nat) (Option.some Jvm.ClassFile.FieldType.int)) ∈ lw_all := lw_g (lw_at lw_m3 187 rfl) rfl
theorem q831 : (Jvm.Cond.methodLink "GateLifter" (335 : Nat) ({ cls := "GateLifter", name := "nestOf", desc := "(I)I" } : Jvm.MethodName)) ∈ lw_all := lw_g (lw_at lw_m3 188 rfl) rfl
theorem q832 : (Jvm.Cond.privateMethod ({ cls := "GateLifter", name := "nestOf", desc := "(I)I" } : Jvm.MethodName)) ∈ lw_tbl := lw_at lw_m3 189 rfl
theorem q833 : (Jvm.Cond.instanceMethod ({ cls := "GateLifter", name := "nestOf", desc := "(I)I" } : Jvm.MethodName)) ∈ lw_all := lw_g (lw_at lw_m3 190 rfl) rfl
theorem q834 : (Jvm.Cond.code ({ cls := "GateLifter", name := "nestOf", desc := "(I)I" } : Jvm.MethodName) prog_1_method_39_code (2 : Nat) (Option.some Jvm.ClassFile.FieldType.int)) ∈ lw_all := lw_g (lw_at lw_m3 191 rfl) rfl
theorem q835 : (Jvm.Cond.privateMethod ({ cls := "GateLifter", name := "lambda$nestOf$5", desc := "(II)Z" } : Jvm.MethodName)) ∈ lw_tbl := lw_at lw_m3 192 rfl
theorem q836 : (Jvm.Cond.instanceMethod ({ cls := "GateLifter", name := "lambda$nestOf$5", desc := "(II)Z" } : Jvm.MethodName)) ∈ lw_all := lw_g (lw_at lw_m3 193 rfl) rfl
theorem q837 : (Jvm.Cond.code ({ cls := "GateLifter", name := "lambda$nestOf$5", desc := "(II)Z" } : Jvm.MethodName) prog_1_method_99_code (3 : Nat) (Option.some Jvm.ClassFile.FieldType.boolean)) ∈ lw_all := lw_g (lw_at lw_m3 194 rfl) rfl
theorem q838 : (Jvm.Cond.methodLink "GateLifter" (332 : Nat) ({ cls := "GateLifter", name := "bodyOf", desc := "(I)I" } : Jvm.MethodName)) ∈ lw_all := lw_g (lw_at lw_m3 195 rfl) rfl
theorem q839 : (Jvm.Cond.privateMethod ({ cls := "GateLifter", name := "bodyOf", desc := "(I)I" } : Jvm.MethodName)) ∈ lw_tbl := lw_at lw_m3 196 rfl
theorem q840 : (Jvm.Cond.instanceMethod ({ cls := "GateLifter", name := "bodyOf", desc := "(I)I" } : Jvm.MethodName)) ∈ lw_all := lw_g (lw_at lw_m3 197 rfl) rfl
theorem q841 : (Jvm.Cond.code ({ cls := "GateLifter", name := "bodyOf", desc := "(I)I" } : Jvm.MethodName) prog_1_method_38_code (3 : Nat) (Option.some Jvm.ClassFile.FieldType.int)) ∈ lw_all := lw_g (lw_at lw_m3 198 rfl) rfl
theorem q842 : (Jvm.Cond.privateMethod ({ cls := "GateLifter", name := "lambda$bodyOf$4", desc := "(III)Z" } : Jvm.MethodName)) ∈ lw_tbl := lw_at lw_m3 199 rfl
theorem q843 : (Jvm.Cond.instanceMethod ({ cls := "GateLifter", name := "lambda$bodyOf$4", desc := "(III)Z" } : Jvm.MethodName)) ∈ lw_all := lw_g (lw_at lw_m3 200 rfl) rfl
theorem q844 : (Jvm.Cond.code ({ cls := "GateLifter", name := "lambda$bodyOf$4", desc := "(III)Z" } : Jvm.MethodName) prog_1_method_100_code (4 : Nat) (Option.some Jvm.ClassFile.FieldType.boolean)) ∈ lw_all := lw_g (lw_at lw_m3 201 rfl) rfl
theorem q845 : (Jvm.Cond.methodLink "GateLifter" (236 : Nat) ({ cls := "java/lang/Integer", name := "bitCount", desc := "(I)I" } : Jvm.MethodName)) ∈ lw_all := lw_g (lw_at lw_m3 202 rfl) rfl
theorem q846 : (Jvm.Cond.methodLink "GateLifter" (481 : Nat) ({ cls := "GateLifter", name := "spans", desc := "()I" } : Jvm.MethodName)) ∈ lw_all := lw_g (lw_at lw_m3 203 rfl) rfl
theorem q847 : (Jvm.Cond.privateMethod ({ cls := "GateLifter", name := "spans", desc := "()I" } : Jvm.MethodName)) ∈ lw_tbl := lw_at lw_m3 204 rfl
theorem q848 : (Jvm.Cond.instanceMethod ({ cls := "GateLifter", name := "spans", desc := "()I" } : Jvm.MethodName)) ∈ lw_all := lw_g (lw_at lw_m3 205 rfl) rfl
theorem q849 : (Jvm.Cond.code ({ cls := "GateLifter", name := "spans", desc := "()I" } : Jvm.MethodName) prog_1_method_87_code (3 : Nat) (Option.some Jvm.ClassFile.FieldType.int)) ∈ lw_all := lw_g (lw_at lw_m3 206 rfl) rfl
theorem q850 : (Jvm.Cond.methodLink "GateLifter" (300 : Nat) ({ cls := "GateLifter", name := "outGatesOf", desc := "(I)I" } : Jvm.MethodName)) ∈ lw_all := lw_g (lw_at lw_m3 207 rfl) rfl
theorem q851 : (Jvm.Cond.privateMethod ({ cls := "GateLifter", name := "outGatesOf", desc := "(I)I" } : Jvm.MethodName)) ∈ lw_tbl := lw_at lw_m3 208 rfl
theorem q852 : (Jvm.Cond.instanceMethod ({ cls := "GateLifter", name := "outGatesOf", desc := "(I)I" } : Jvm.MethodName)) ∈ lw_all := lw_g (lw_at lw_m3 209 rfl) rfl
theorem q853 : (Jvm.Cond.code ({ cls := "GateLifter", name := "outGatesOf", desc := "(I)I" } : Jvm.MethodName) prog_1_method_41_code (4 : Nat) (Option.some Jvm.ClassFile.FieldType.int)) ∈ lw_all := lw_g (lw_at lw_m3 210 rfl) rfl
theorem q854 : (Jvm.Cond.methodLink "GateLifter" (289 : Nat) ({ cls := "GateLifter$Flow", name := "turned", desc := "(LGateLifter$Flow;)LGateLifter$Flow;" } : Jvm.MethodName)) ∈ lw_all := lw_g (lw_at lw_m3 211 rfl) rfl
theorem q867 : (Jvm.Cond.interfaceEntry "GateLifter" (293 : Nat)) ∈ lw_tbl := lw_at lw_m3 224 rfl
theorem q868 : (Jvm.Cond.methodLink "GateLifter" (293 : Nat) ({ cls := "GateLifter$Flow", name := "reach", desc := "(II)I" } : Jvm.MethodName)) ∈ lw_all := lw_g (lw_at lw_m3 225 rfl) rfl
theorem q871 : (Jvm.Cond.methodLink "GateLifter" (296 : Nat) ({ cls := "GateLifter", name := "gates", desc := "(LGateLifter$Flow;II[I)V" } : Jvm.MethodName)) ∈ lw_all := lw_g (lw_at lw_m3 228 rfl) rfl
theorem q872 : (Jvm.Cond.methodLink "GateLifter" (484 : Nat) ({ cls := "GateLifter", name := "rings", desc := "()I" } : Jvm.MethodName)) ∈ lw_all := lw_g (lw_at lw_m3 229 rfl) rfl
theorem q873 : (Jvm.Cond.privateMethod ({ cls := "GateLifter", name := "rings", desc := "()I" } : Jvm.MethodName)) ∈ lw_tbl := lw_at lw_m3 230 rfl
theorem q874 : (Jvm.Cond.instanceMethod ({ cls := "GateLifter", name := "rings", desc := "()I" } : Jvm.MethodName)) ∈ lw_all := lw_g (lw_at lw_m3 231 rfl) rfl
theorem q875 : (Jvm.Cond.code ({ cls := "GateLifter", name := "rings", desc := "()I" } : Jvm.MethodName) prog_1_method_88_code (3 : Nat) (Option.some Jvm.ClassFile.FieldType.int)) ∈ lw_all := lw_g (lw_at lw_m3 232 rfl) rfl
theorem q876 : (Jvm.Cond.methodLink "GateLifter" (359 : Nat) ({ cls := "GateLifter", name := "ringOf", desc := "(I)I" } : Jvm.MethodName)) ∈ lw_all := lw_g (lw_at lw_m3 233 rfl) rfl
theorem q877 : (Jvm.Cond.privateMethod ({ cls := "GateLifter", name := "ringOf", desc := "(I)I" } : Jvm.MethodName)) ∈ lw_tbl := lw_at lw_m3 234 rfl
theorem q878 : (Jvm.Cond.instanceMethod ({ cls := "GateLifter", name := "ringOf", desc := "(I)I" } : Jvm.MethodName)) ∈ lw_all := lw_g (lw_at lw_m3 235 rfl) rfl
theorem q879 : (Jvm.Cond.code ({ cls := "GateLifter", name := "ringOf", desc := "(I)I" } : Jvm.MethodName) prog_1_method_53_code (3 : Nat) (Option.some Jvm.ClassFile.FieldType.int)) ∈ lw_all := lw_g (lw_at lw_m3 236 rfl) rfl
theorem q880 : (Jvm.Cond.privateMethod ({ cls := "GateLifter", name := "lambda$ringOf$7", desc := "(III)Z" } : Jvm.MethodName)) ∈ lw_tbl := lw_at lw_m3 237 rfl
theorem q881 : (Jvm.Cond.instanceMethod ({ cls := "GateLifter", name := "lambda$ringOf$7", desc := "(III)Z" } : Jvm.MethodName)) ∈ lw_all := lw_g (lw_at lw_m3 238 rfl) rfl
theorem q882 : (Jvm.Cond.code ({ cls := "GateLifter", name := "lambda$ringOf$7", desc := "(III)Z" } : Jvm.MethodName) prog_1_method_97_code (4 : Nat) (Option.some Jvm.ClassFile.FieldType.boolean)) ∈ lw_all := lw_g (lw_at lw_m3 239 rfl) rfl
theorem q883 : (Jvm.Cond.methodLink "GateLifter" (454 : Nat) ({ cls := "java/lang/Integer", name := "numberOfTrailingZeros", desc := "(I)I" } : Jvm.MethodName)) ∈ lw_all := lw_g (lw_at lw_m4 0 rfl) rfl
theorem q887 : (Jvm.Cond.methodLink "GateLifter" (487 : Nat) ({ cls := "GateLifter", name := "tollsOfAll", desc := "()I" } : Jvm.MethodName)) ∈ lw_all := lw_g (lw_at lw_m4 4 rfl) rfl
theorem q888 : (Jvm.Cond.privateMethod ({ cls := "GateLifter", name := "tollsOfAll", desc := "()I" } : Jvm.MethodName)) ∈ lw_tbl := lw_at lw_m4 5 rfl
theorem q889 : (Jvm.Cond.instanceMethod ({ cls := "GateLifter", name := "tollsOfAll", desc := "()I" } : Jvm.MethodName)) ∈ lw_all := lw_g (lw_at lw_m4 6 rfl) rfl
theorem q890 : (Jvm.Cond.code ({ cls := "GateLifter", name := "tollsOfAll", desc := "()I" } : Jvm.MethodName) prog_1_method_89_code (3 : Nat) (Option.some Jvm.ClassFile.FieldType.int)) ∈ lw_all := lw_g (lw_at lw_m4 7 rfl) rfl
theorem q891 : (Jvm.Cond.methodLink "GateLifter" (490 : Nat) ({ cls := "GateLifter", name := "spareArcs", desc := "()I" } : Jvm.MethodName)) ∈ lw_all := lw_g (lw_at lw_m4 8 rfl) rfl
theorem q892 : (Jvm.Cond.privateMethod ({ cls := "GateLifter", name := "spareArcs", desc := "()I" } : Jvm.MethodName)) ∈ lw_tbl := lw_at lw_m4 9 rfl
theorem q893 : (Jvm.Cond.instanceMethod ({ cls := "GateLifter", name := "spareArcs", desc := "()I" } : Jvm.MethodName)) ∈ lw_all := lw_g (lw_at lw_m4 10 rfl) rfl
theorem q894 : (Jvm.Cond.code ({ cls := "GateLifter", name := "spareArcs", desc := "()I" } : Jvm.MethodName) prog_1_method_70_code (3 : Nat) (Option.some Jvm.ClassFile.FieldType.int)) ∈ lw_all := lw_g (lw_at lw_m4 11 rfl) rfl
theorem q895 : (Jvm.Cond.methodLink "GateLifter" (416 : Nat) ({ cls := "GateLifter", name := "shuts", desc := "(I)V" } : Jvm.MethodName)) ∈ lw_all := lw_g (lw_at lw_m4 12 rfl) rfl
theorem q896 : (Jvm.Cond.privateMethod ({ cls := "GateLifter", name := "shuts", desc := "(I)V" } : Jvm.MethodName)) ∈ lw_tbl := lw_at lw_m4 13 rfl
theorem q897 : (Jvm.Cond.instanceMethod ({ cls := "GateLifter", name := "shuts", desc := "(I)V" } : Jvm.MethodName)) ∈ lw_all := lw_g (lw_at lw_m4 14 rfl) rfl
theorem q898 : (Jvm.Cond.code ({ cls := "GateLifter", name := "shuts", desc := "(I)V" } : Jvm.MethodName) prog_1_method_68_code (2 : Nat) (Option.none : Option Jvm.ClassFile.FieldType)) ∈ lw_all := lw_g (lw_at lw_m4 15 rfl) rfl
theorem q899 : (Jvm.Cond.methodLinkNest "GateLifter" (414 : Nat) ({ cls := "GateLifter$Net", name := "rows", desc := "()V" } : Jvm.MethodName) "GateLifter") ∈ lw_tbl := lw_at lw_m4 16 rfl
theorem q900 : (Jvm.Cond.methodLink "GateLifter" (143 : Nat) ({ cls := "GateLifter$Tree", name := "movedFrom", desc := "(LGateLifter$Tree;)I" } : Jvm.MethodName)) ∈ lw_all := lw_g (lw_at lw_m4 17 rfl) rfl
theorem q909 : (Jvm.Cond.instanceMethod ({ cls := "GateLifter", name := "acts", desc := "()I" } : Jvm.MethodName)) ∈ lw_all := lw_g (lw_at lw_m4 26 rfl) rfl
theorem q910 : (Jvm.Cond.selects "GateLifter" ({ cls := "GateLifter", name := "acts", desc := "()I" } : Jvm.MethodName) ({ cls := "GateLifter", name := "acts", desc := "()I" } : Jvm.MethodName)) ∈ lw_all := lw_g (lw_at lw_m4 27 rfl) rfl
theorem q911 : (Jvm.Cond.codeWith ({ cls := "GateLifter", name := "acts", desc := "()I" } : Jvm.MethodName) prog_1_method_17_code (4 : Nat) (Option.some Jvm.ClassFile.FieldType.int) [((10 : Nat), (23 : Nat), (26 : Nat), (124 : Nat))]) ∈ lw_all := lw_g (lw_at lw_m4 28 rfl) rfl
theorem q912 : (Jvm.Cond.classLink "GateLifter" (124 : Nat) "GateLifter$Wrong") ∈ lw_all := lw_g (lw_at lw_m4 29 rfl) rfl
theorem q913 : (Jvm.Cond.methodLink "GateLifter" (150 : Nat) ({ cls := "GateLifter", name := "took", desc := "()I" } : Jvm.MethodName)) ∈ lw_all := lw_g (lw_at lw_m4 30 rfl) rfl
theorem q914 : (Jvm.Cond.privateMethod ({ cls := "GateLifter", name := "took", desc := "()I" } : Jvm.MethodName)) ∈ lw_tbl := lw_at lw_m4 31 rfl
theorem q915 : (Jvm.Cond.instanceMethod ({ cls := "GateLifter", name := "took", desc := "()I" } : Jvm.MethodName)) ∈ lw_all := lw_g (lw_at lw_m4 32 rfl) rfl
theorem q916 : (Jvm.Cond.code ({ cls := "GateLifter", name := "took", desc := "()I" } : Jvm.MethodName) prog_1_method_13_code (2 : Nat) (Option.some Jvm.ClassFile.FieldType.int)) ∈ lw_all := lw_g (lw_at lw_m4 33 rfl) rfl
theorem q917 : (Jvm.Cond.methodLink "GateLifter" (153 : Nat) ({ cls := "GateLifter$Reader", name := "acts", desc := "(ILGateLifter$Net;)I" } : Jvm.MethodName)) ∈ lw_all := lw_g (lw_at lw_m4 34 rfl) rfl
theorem q1299 : (Jvm.Cond.methodLink "GateLifter" (163 : Nat) ({ cls := "GateLifter", name := "isWrong", desc := "(LGateLifter$Wrong;)Ljava/lang/IllegalArgumentException;" } : Jvm.MethodName)) ∈ lw_all := lw_g (lw_at lw_m5 176 rfl) rfl
theorem q1300 : (Jvm.Cond.privateMethod ({ cls := "GateLifter", name := "isWrong", desc := "(LGateLifter$Wrong;)Ljava/lang/IllegalArgumentException;" } : Jvm.MethodName)) ∈ lw_tbl := lw_at lw_m5 177 rfl
theorem q1301 : (Jvm.Cond.instanceMethod ({ cls := "GateLifter", name := "isWrong", desc := "(LGateLifter$Wrong;)Ljava/lang/IllegalArgumentException;" } : Jvm.MethodName)) ∈ lw_all := lw_g (lw_at lw_m5 178 rfl) rfl
theorem q1302 : (Jvm.Cond.code ({ cls := "GateLifter", name := "isWrong", desc := "(LGateLifter$Wrong;)Ljava/lang/IllegalArgumentException;" } : Jvm.MethodName) prog_1_method_14_code (2 : Nat) (Option.some (Jvm.ClassFile.FieldType.object "java/lang/IllegalArgumentException"))) ∈ lw_all := lw_g (lw_at lw_m5 179 rfl) rfl
theorem q1303 : (Jvm.Cond.classLink "GateLifter" (93 : Nat) "java/lang/IllegalArgumentException") ∈ lw_all := lw_g (lw_at lw_m5 180 rfl) rfl
theorem q1304 : (Jvm.Cond.methodLink "GateLifter" (95 : Nat) ({ cls := "java/lang/IllegalArgumentException", name := "<init>", desc := "()V" } : Jvm.MethodName)) ∈ lw_all := lw_g (lw_at lw_m5 181 rfl) rfl
theorem q1318 : (Jvm.Cond.instanceMethod ({ cls := "GateLifter", name := "net", desc := "(I)V" } : Jvm.MethodName)) ∈ lw_all := lw_g (lw_at lw_m5 195 rfl) rfl
theorem q1319 : (Jvm.Cond.selects "GateLifter" ({ cls := "GateLifter", name := "net", desc := "(I)V" } : Jvm.MethodName) ({ cls := "GateLifter", name := "net", desc := "(I)V" } : Jvm.MethodName)) ∈ lw_all := lw_g (lw_at lw_m5 196 rfl) rfl
theorem q1320 : (Jvm.Cond.code ({ cls := "GateLifter", name := "net", desc := "(I)V" } : Jvm.MethodName) prog_1_method_20_code (2 : Nat) (Option.none : Option Jvm.ClassFile.FieldType)) ∈ lw_all := lw_g (lw_at lw_m5 197 rfl) rfl
theorem q1321 : (Jvm.Cond.methodLink "GateLifter" (179 : Nat) ({ cls := "GateLifter", name := "must", desc := "(Z)V" } : Jvm.MethodName)) ∈ lw_all := lw_g (lw_at lw_m5 198 rfl) rfl
theorem q1322 : (Jvm.Cond.static ({ cls := "GateLifter", name := "must", desc := "(Z)V" } : Jvm.MethodName)) ∈ lw_all := lw_g (lw_at lw_m5 199 rfl) rfl
theorem q1323 : (Jvm.Cond.code ({ cls := "GateLifter", name := "must", desc := "(Z)V" } : Jvm.MethodName) prog_1_method_4_code (1 : Nat) (Option.none : Option Jvm.ClassFile.FieldType)) ∈ lw_all := lw_g (lw_at lw_m5 200 rfl) rfl
theorem q1329 : (Jvm.Cond.instanceMethod ({ cls := "GateLifter", name := "tell", desc := "(IZ)I" } : Jvm.MethodName)) ∈ lw_all := lw_g (lw_at lw_m5 206 rfl) rfl
theorem q1330 : (Jvm.Cond.selects "GateLifter" ({ cls := "GateLifter", name := "tell", desc := "(IZ)I" } : Jvm.MethodName) ({ cls := "GateLifter", name := "tell", desc := "(IZ)I" } : Jvm.MethodName)) ∈ lw_all := lw_g (lw_at lw_m5 207 rfl) rfl
theorem q1331 : (Jvm.Cond.code ({ cls := "GateLifter", name := "tell", desc := "(IZ)I" } : Jvm.MethodName) prog_1_method_24_code (4 : Nat) (Option.some Jvm.ClassFile.FieldType.int)) ∈ lw_all := lw_g (lw_at lw_m5 208 rfl) rfl
theorem q1332 : (Jvm.Cond.methodLink "GateLifter" (212 : Nat) ({ cls := "GateLifter", name := "ahead", desc := "()V" } : Jvm.MethodName)) ∈ lw_all := lw_g (lw_at lw_m5 209 rfl) rfl
theorem q1333 : (Jvm.Cond.privateMethod ({ cls := "GateLifter", name := "ahead", desc := "()V" } : Jvm.MethodName)) ∈ lw_tbl := lw_at lw_m5 210 rfl
theorem q1334 : (Jvm.Cond.instanceMethod ({ cls := "GateLifter", name := "ahead", desc := "()V" } : Jvm.MethodName)) ∈ lw_all := lw_g (lw_at lw_m5 211 rfl) rfl
theorem q1335 : (Jvm.Cond.code ({ cls := "GateLifter", name := "ahead", desc := "()V" } : Jvm.MethodName) prog_1_method_21_code (1 : Nat) (Option.none : Option Jvm.ClassFile.FieldType)) ∈ lw_all := lw_g (lw_at lw_m5 212 rfl) rfl
theorem q1336 : (Jvm.Cond.methodLink "GateLifter" (183 : Nat) ({ cls := "GateLifter$Tree", name := "be", desc := "(LGateLifter$Tree;)V" } : Jvm.MethodName)) ∈ lw_all := lw_g (lw_at lw_m5 213 rfl) rfl
theorem q1340 : (Jvm.Cond.methodLink "GateLifter" (221 : Nat) ({ cls := "GateLifter$Net", name := "tells", desc := "(IZ)I" } : Jvm.MethodName)) ∈ lw_all := lw_g (lw_at lw_m5 217 rfl) rfl
theorem q1341 : (Jvm.Cond.methodLink "GateLifter" (224 : Nat) ({ cls := "GateLifter", name := "done", desc := "(II)V" } : Jvm.MethodName)) ∈ lw_all := lw_g (lw_at lw_m5 218 rfl) rfl
theorem q1342 : (Jvm.Cond.privateMethod ({ cls := "GateLifter", name := "done", desc := "(II)V" } : Jvm.MethodName)) ∈ lw_tbl := lw_at lw_m5 219 rfl
theorem q1343 : (Jvm.Cond.instanceMethod ({ cls := "GateLifter", name := "done", desc := "(II)V" } : Jvm.MethodName)) ∈ lw_all := lw_g (lw_at lw_m5 220 rfl) rfl
theorem q1344 : (Jvm.Cond.code ({ cls := "GateLifter", name := "done", desc := "(II)V" } : Jvm.MethodName) prog_1_method_23_code (3 : Nat) (Option.none : Option Jvm.ClassFile.FieldType)) ∈ lw_all := lw_g (lw_at lw_m5 221 rfl) rfl
theorem q1345 : (Jvm.Cond.methodLink "GateLifter" (192 : Nat) ({ cls := "GateLifter", name := "can", desc := "(Z)V" } : Jvm.MethodName)) ∈ lw_all := lw_g (lw_at lw_m5 222 rfl) rfl
theorem q1346 : (Jvm.Cond.static ({ cls := "GateLifter", name := "can", desc := "(Z)V" } : Jvm.MethodName)) ∈ lw_all := lw_g (lw_at lw_m5 223 rfl) rfl
theorem q1347 : (Jvm.Cond.code ({ cls := "GateLifter", name := "can", desc := "(Z)V" } : Jvm.MethodName) prog_1_method_8_code (1 : Nat) (Option.none : Option Jvm.ClassFile.FieldType)) ∈ lw_all := lw_g (lw_at lw_m5 224 rfl) rfl
theorem q1348 : (Jvm.Cond.classLink "GateLifter" (105 : Nat) "java/lang/IllegalStateException") ∈ lw_all := lw_g (lw_at lw_m5 225 rfl) rfl
theorem q1357 : (Jvm.Cond.methodLink "GateLifter" (107 : Nat) ({ cls := "java/lang/IllegalStateException", name := "<init>", desc := "()V" } : Jvm.MethodName)) ∈ lw_all := lw_g (lw_at lw_m5 234 rfl) rfl
theorem q1363 : (Jvm.Cond.methodLink "GateLifter" (195 : Nat) ({ cls := "GateLifter", name := "remembers", desc := "()V" } : Jvm.MethodName)) ∈ lw_all := lw_g (lw_at lw_m6 0 rfl) rfl
theorem q1364 : (Jvm.Cond.privateMethod ({ cls := "GateLifter", name := "remembers", desc := "()V" } : Jvm.MethodName)) ∈ lw_tbl := lw_at lw_m6 1 rfl
theorem q1365 : (Jvm.Cond.instanceMethod ({ cls := "GateLifter", name := "remembers", desc := "()V" } : Jvm.MethodName)) ∈ lw_all := lw_g (lw_at lw_m6 2 rfl) rfl
theorem q1366 : (Jvm.Cond.code ({ cls := "GateLifter", name := "remembers", desc := "()V" } : Jvm.MethodName) prog_1_method_22_code (2 : Nat) (Option.none : Option Jvm.ClassFile.FieldType)) ∈ lw_all := lw_g (lw_at lw_m6 3 rfl) rfl
theorem q1367 : (Jvm.Cond.methodLink "GateLifter" (186 : Nat) ({ cls := "java/lang/System", name := "arraycopy", desc := "(Ljava/lang/Object;ILjava/lang/Object;II)V" } : Jvm.MethodName)) ∈ lw_all := lw_g (lw_at lw_m6 4 rfl) rfl
theorem q1368 : (Jvm.Cond.methodLink "GateLifter" (204 : Nat) ({ cls := "GateLifter$Tree", name := "lays", desc := "(II)V" } : Jvm.MethodName)) ∈ lw_all := lw_g (lw_at lw_m6 5 rfl) rfl
theorem q1389 : (Jvm.Cond.methodLink "GateLifter" (208 : Nat) ({ cls := "GateLifter", name := "tells", desc := "(LGateLifter$Tree;LGateLifter$Tree;)V" } : Jvm.MethodName)) ∈ lw_all := lw_g (lw_at lw_m6 26 rfl) rfl
theorem q1390 : (Jvm.Cond.privateMethod ({ cls := "GateLifter", name := "tells", desc := "(LGateLifter$Tree;LGateLifter$Tree;)V" } : Jvm.MethodName)) ∈ lw_tbl := lw_at lw_m6 27 rfl
theorem q1391 : (Jvm.Cond.instanceMethod ({ cls := "GateLifter", name := "tells", desc := "(LGateLifter$Tree;LGateLifter$Tree;)V" } : Jvm.MethodName)) ∈ lw_all := lw_g (lw_at lw_m6 28 rfl) rfl
theorem q1392 : (Jvm.Cond.code ({ cls := "GateLifter", name := "tells", desc := "(LGateLifter$Tree;LGateLifter$Tree;)V" } : Jvm.MethodName) prog_1_method_16_code (3 : Nat) (Option.none : Option Jvm.ClassFile.FieldType)) ∈ lw_all := lw_g (lw_at lw_m6 29 rfl) rfl
theorem q1393 : (Jvm.Cond.methodLink "GateLifter" (147 : Nat) ({ cls := "GateLifter$Tree", name := "liftFrom", desc := "(LGateLifter$Tree;)I" } : Jvm.MethodName)) ∈ lw_all := lw_g (lw_at lw_m6 30 rfl) rfl
theorem q1401 : (Jvm.Cond.instanceMethod ({ cls := "GateLifter", name := "lay", desc := "(II)I" } : Jvm.MethodName)) ∈ lw_all := lw_g (lw_at lw_m6 38 rfl) rfl
theorem q1402 : (Jvm.Cond.selects "GateLifter" ({ cls := "GateLifter", name := "lay", desc := "(II)I" } : Jvm.MethodName) ({ cls := "GateLifter", name := "lay", desc := "(II)I" } : Jvm.MethodName)) ∈ lw_all := lw_g (lw_at lw_m6 39 rfl) rfl
theorem q1403 : (Jvm.Cond.code ({ cls := "GateLifter", name := "lay", desc := "(II)I" } : Jvm.MethodName) prog_1_method_25_code (4 : Nat) (Option.some Jvm.ClassFile.FieldType.int)) ∈ lw_all := lw_g (lw_at lw_m6 40 rfl) rfl
theorem q1404 : (Jvm.Cond.methodLink "GateLifter" (227 : Nat) ({ cls := "GateLifter$Net", name := "lays", desc := "(II)I" } : Jvm.MethodName)) ∈ lw_all := lw_g (lw_at lw_m6 41 rfl) rfl
theorem q1409 : (Jvm.Cond.instanceMethod ({ cls := "GateLifter", name := "shut", desc := "(I)I" } : Jvm.MethodName)) ∈ lw_all := lw_g (lw_at lw_m6 46 rfl) rfl
theorem q1410 : (Jvm.Cond.selects "GateLifter" ({ cls := "GateLifter", name := "shut", desc := "(I)I" } : Jvm.MethodName) ({ cls := "GateLifter", name := "shut", desc := "(I)I" } : Jvm.MethodName)) ∈ lw_all := lw_g (lw_at lw_m6 47 rfl) rfl
theorem q1411 : (Jvm.Cond.code ({ cls := "GateLifter", name := "shut", desc := "(I)I" } : Jvm.MethodName) prog_1_method_26_code (2 : Nat) (Option.some Jvm.ClassFile.FieldType.int)) ∈ lw_all := lw_g (lw_at lw_m6 48 rfl) rfl
theorem q1412 : (Jvm.Cond.methodLink "GateLifter" (233 : Nat) ({ cls := "GateLifter$Net", name := "turns", desc := "(IZ)I" } : Jvm.MethodName)) ∈ lw_all := lw_g (lw_at lw_m6 49 rfl) rfl
theorem q1417 : (Jvm.Cond.instanceMethod ({ cls := "GateLifter", name := "open", desc := "(I)I" } : Jvm.MethodName)) ∈ lw_all := lw_g (lw_at lw_m6 54 rfl) rfl
theorem q1418 : (Jvm.Cond.selects "GateLifter" ({ cls := "GateLifter", name := "open", desc := "(I)I" } : Jvm.MethodName) ({ cls := "GateLifter", name := "open", desc := "(I)I" } : Jvm.MethodName)) ∈ lw_all := lw_g (lw_at lw_m6 55 rfl) rfl
theorem q1419 : (Jvm.Cond.code ({ cls := "GateLifter", name := "open", desc := "(I)I" } : Jvm.MethodName) prog_1_method_27_code (2 : Nat) (Option.some Jvm.ClassFile.FieldType.int)) ∈ lw_all := lw_g (lw_at lw_m6 56 rfl) rfl
theorem q1424 : (Jvm.Cond.instanceMethod ({ cls := "GateLifter", name := "toll", desc := "(II)I" } : Jvm.MethodName)) ∈ lw_all := lw_g (lw_at lw_m6 61 rfl) rfl
theorem q1425 : (Jvm.Cond.selects "GateLifter" ({ cls := "GateLifter", name := "toll", desc := "(II)I" } : Jvm.MethodName) ({ cls := "GateLifter", name := "toll", desc := "(II)I" } : Jvm.MethodName)) ∈ lw_all := lw_g (lw_at lw_m6 62 rfl) rfl
theorem q1426 : (Jvm.Cond.code ({ cls := "GateLifter", name := "toll", desc := "(II)I" } : Jvm.MethodName) prog_1_method_28_code (4 : Nat) (Option.some Jvm.ClassFile.FieldType.int)) ∈ lw_all := lw_g (lw_at lw_m6 63 rfl) rfl
theorem q1427 : (Jvm.Cond.methodLink "GateLifter" (241 : Nat) ({ cls := "GateLifter$Net", name := "isNode", desc := "(I)Z" } : Jvm.MethodName)) ∈ lw_all := lw_g (lw_at lw_m6 64 rfl) rfl
theorem q1428 : (Jvm.Cond.methodLink "GateLifter" (248 : Nat) ({ cls := "GateLifter$Net", name := "asks", desc := "(II)I" } : Jvm.MethodName)) ∈ lw_all := lw_g (lw_at lw_m6 65 rfl) rfl
theorem q1433 : (Jvm.Cond.instanceMethod ({ cls := "GateLifter", name := "undo", desc := "()I" } : Jvm.MethodName)) ∈ lw_all := lw_g (lw_at lw_m6 70 rfl) rfl
theorem q1434 : (Jvm.Cond.selects "GateLifter" ({ cls := "GateLifter", name := "undo", desc := "()I" } : Jvm.MethodName) ({ cls := "GateLifter", name := "undo", desc := "()I" } : Jvm.MethodName)) ∈ lw_all := lw_g (lw_at lw_m6 71 rfl) rfl
theorem q1435 : (Jvm.Cond.code ({ cls := "GateLifter", name := "undo", desc := "()I" } : Jvm.MethodName) prog_1_method_29_code (1 : Nat) (Option.some Jvm.ClassFile.FieldType.int)) ∈ lw_all := lw_g (lw_at lw_m6 72 rfl) rfl
theorem q1441 : (Jvm.Cond.instanceMethod ({ cls := "GateLifter", name := "latest", desc := "(I)I" } : Jvm.MethodName)) ∈ lw_all := lw_g (lw_at lw_m6 78 rfl) rfl
theorem q1442 : (Jvm.Cond.selects "GateLifter" ({ cls := "GateLifter", name := "latest", desc := "(I)I" } : Jvm.MethodName) ({ cls := "GateLifter", name := "latest", desc := "(I)I" } : Jvm.MethodName)) ∈ lw_all := lw_g (lw_at lw_m6 79 rfl) rfl
theorem q1443 : (Jvm.Cond.code ({ cls := "GateLifter", name := "latest", desc := "(I)I" } : Jvm.MethodName) prog_1_method_30_code (2 : Nat) (Option.some Jvm.ClassFile.FieldType.int)) ∈ lw_all := lw_g (lw_at lw_m6 80 rfl) rfl
theorem q1444 : (Jvm.Cond.methodLink "GateLifter" (251 : Nat) ({ cls := "GateLifter", name := "thereIs", desc := "(Z)V" } : Jvm.MethodName)) ∈ lw_all := lw_g (lw_at lw_m6 81 rfl) rfl
theorem q1445 : (Jvm.Cond.static ({ cls := "GateLifter", name := "thereIs", desc := "(Z)V" } : Jvm.MethodName)) ∈ lw_all := lw_g (lw_at lw_m6 82 rfl) rfl
theorem q1446 : (Jvm.Cond.code ({ cls := "GateLifter", name := "thereIs", desc := "(Z)V" } : Jvm.MethodName) prog_1_method_7_code (1 : Nat) (Option.none : Option Jvm.ClassFile.FieldType)) ∈ lw_all := lw_g (lw_at lw_m6 83 rfl) rfl
theorem q1447 : (Jvm.Cond.classLink "GateLifter" (102 : Nat) "java/util/NoSuchElementException") ∈ lw_all := lw_g (lw_at lw_m6 84 rfl) rfl
theorem q1456 : (Jvm.Cond.methodLink "GateLifter" (104 : Nat) ({ cls := "java/util/NoSuchElementException", name := "<init>", desc := "()V" } : Jvm.MethodName)) ∈ lw_all := lw_g (lw_at lw_m6 93 rfl) rfl
theorem q1485 : (Jvm.Cond.instanceMethod ({ cls := "GateLifter", name := "node", desc := "(II)I" } : Jvm.MethodName)) ∈ lw_all := lw_g (lw_at lw_m6 122 rfl) rfl
theorem q1486 : (Jvm.Cond.selects "GateLifter" ({ cls := "GateLifter", name := "node", desc := "(II)I" } : Jvm.MethodName) ({ cls := "GateLifter", name := "node", desc := "(II)I" } : Jvm.MethodName)) ∈ lw_all := lw_g (lw_at lw_m6 123 rfl) rfl
theorem q1487 : (Jvm.Cond.code ({ cls := "GateLifter", name := "node", desc := "(II)I" } : Jvm.MethodName) prog_1_method_45_code (4 : Nat) (Option.some Jvm.ClassFile.FieldType.int)) ∈ lw_all := lw_g (lw_at lw_m6 124 rfl) rfl
theorem q1488 : (Jvm.Cond.methodLink "GateLifter" (317 : Nat) ({ cls := "GateLifter", name := "isNode", desc := "(I)V" } : Jvm.MethodName)) ∈ lw_all := lw_g (lw_at lw_m6 125 rfl) rfl
theorem q1489 : (Jvm.Cond.privateMethod ({ cls := "GateLifter", name := "isNode", desc := "(I)V" } : Jvm.MethodName)) ∈ lw_tbl := lw_at lw_m6 126 rfl
theorem q1490 : (Jvm.Cond.instanceMethod ({ cls := "GateLifter", name := "isNode", desc := "(I)V" } : Jvm.MethodName)) ∈ lw_all := lw_g (lw_at lw_m6 127 rfl) rfl
theorem q1491 : (Jvm.Cond.code ({ cls := "GateLifter", name := "isNode", desc := "(I)V" } : Jvm.MethodName) prog_1_method_31_code (2 : Nat) (Option.none : Option Jvm.ClassFile.FieldType)) ∈ lw_all := lw_g (lw_at lw_m6 128 rfl) rfl
theorem q1492 : (Jvm.Cond.methodLink "GateLifter" (254 : Nat) ({ cls := "GateLifter", name := "mustBe", desc := "(Z)V" } : Jvm.MethodName)) ∈ lw_all := lw_g (lw_at lw_m6 129 rfl) rfl
theorem q1493 : (Jvm.Cond.static ({ cls := "GateLifter", name := "mustBe", desc := "(Z)V" } : Jvm.MethodName)) ∈ lw_all := lw_g (lw_at lw_m6 130 rfl) rfl
theorem q1494 : (Jvm.Cond.code ({ cls := "GateLifter", name := "mustBe", desc := "(Z)V" } : Jvm.MethodName) prog_1_method_6_code (1 : Nat) (Option.none : Option Jvm.ClassFile.FieldType)) ∈ lw_all := lw_g (lw_at lw_m6 131 rfl) rfl
theorem q1495 : (Jvm.Cond.classLink "GateLifter" (99 : Nat) "java/lang/IndexOutOfBoundsException") ∈ lw_all := lw_g (lw_at lw_m6 132 rfl) rfl
theorem q1504 : (Jvm.Cond.methodLink "GateLifter" (101 : Nat) ({ cls := "java/lang/IndexOutOfBoundsException", name := "<init>", desc := "()V" } : Jvm.MethodName)) ∈ lw_all := lw_g (lw_at lw_m6 141 rfl) rfl
theorem q1510 : (Jvm.Cond.methodLink "GateLifter" (325 : Nat) ({ cls := "GateLifter", name := "gatesOf", desc := "(I)I" } : Jvm.MethodName)) ∈ lw_all := lw_g (lw_at lw_m6 147 rfl) rfl
theorem q1511 : (Jvm.Cond.privateMethod ({ cls := "GateLifter", name := "gatesOf", desc := "(I)I" } : Jvm.MethodName)) ∈ lw_tbl := lw_at lw_m6 148 rfl
theorem q1512 : (Jvm.Cond.instanceMethod ({ cls := "GateLifter", name := "gatesOf", desc := "(I)I" } : Jvm.MethodName)) ∈ lw_all := lw_g (lw_at lw_m6 149 rfl) rfl
theorem q1513 : (Jvm.Cond.code ({ cls := "GateLifter", name := "gatesOf", desc := "(I)I" } : Jvm.MethodName) prog_1_method_33_code (2 : Nat) (Option.some Jvm.ClassFile.FieldType.int)) ∈ lw_all := lw_g (lw_at lw_m6 150 rfl) rfl
theorem q1514 : (Jvm.Cond.privateMethod ({ cls := "GateLifter", name := "lambda$gatesOf$0", desc := "(II)Z" } : Jvm.MethodName)) ∈ lw_tbl := lw_at lw_m6 151 rfl
theorem q1515 : (Jvm.Cond.instanceMethod ({ cls := "GateLifter", name := "lambda$gatesOf$0", desc := "(II)Z" } : Jvm.MethodName)) ∈ lw_all := lw_g (lw_at lw_m6 152 rfl) rfl
theorem q1516 : (Jvm.Cond.code ({ cls := "GateLifter", name := "lambda$gatesOf$0", desc := "(II)Z" } : Jvm.MethodName) prog_1_method_104_code (3 : Nat) (Option.some Jvm.ClassFile.FieldType.boolean)) ∈ lw_all := lw_g (lw_at lw_m6 153 rfl) rfl
theorem q1517 : (Jvm.Cond.privateMethod ({ cls := "GateLifter", name := "lambda$node$6", desc := "(II)Z" } : Jvm.MethodName)) ∈ lw_tbl := lw_at lw_m6 154 rfl
theorem q1518 : (Jvm.Cond.instanceMethod ({ cls := "GateLifter", name := "lambda$node$6", desc := "(II)Z" } : Jvm.MethodName)) ∈ lw_all := lw_g (lw_at lw_m6 155 rfl) rfl
theorem q1519 : (Jvm.Cond.code ({ cls := "GateLifter", name := "lambda$node$6", desc := "(II)Z" } : Jvm.MethodName) prog_1_method_98_code (3 : Nat) (Option.some Jvm.ClassFile.FieldType.boolean)) ∈ lw_all := lw_g (lw_at lw_m6 156 rfl) rfl
theorem q1520 : (Jvm.Cond.methodLink "GateLifter" (329 : Nat) ({ cls := "GateLifter", name := "edgeOf", desc := "(I)I" } : Jvm.MethodName)) ∈ lw_all := lw_g (lw_at lw_m6 157 rfl) rfl
theorem q1521 : (Jvm.Cond.privateMethod ({ cls := "GateLifter", name := "edgeOf", desc := "(I)I" } : Jvm.MethodName)) ∈ lw_tbl := lw_at lw_m6 158 rfl
theorem q1522 : (Jvm.Cond.instanceMethod ({ cls := "GateLifter", name := "edgeOf", desc := "(I)I" } : Jvm.MethodName)) ∈ lw_all := lw_g (lw_at lw_m6 159 rfl) rfl
theorem q1523 : (Jvm.Cond.code ({ cls := "GateLifter", name := "edgeOf", desc := "(I)I" } : Jvm.MethodName) prog_1_method_35_code (5 : Nat) (Option.some Jvm.ClassFile.FieldType.int)) ∈ lw_all := lw_g (lw_at lw_m6 160 rfl) rfl
theorem q1524 : (Jvm.Cond.methodLink "GateLifter" (341 : Nat) ({ cls := "GateLifter", name := "outKeeperOf", desc := "(I)I" } : Jvm.MethodName)) ∈ lw_all := lw_g (lw_at lw_m6 161 rfl) rfl
theorem q1525 : (Jvm.Cond.privateMethod ({ cls := "GateLifter", name := "outKeeperOf", desc := "(I)I" } : Jvm.MethodName)) ∈ lw_tbl := lw_at lw_m6 162 rfl
theorem q1526 : (Jvm.Cond.instanceMethod ({ cls := "GateLifter", name := "outKeeperOf", desc := "(I)I" } : Jvm.MethodName)) ∈ lw_all := lw_g (lw_at lw_m6 163 rfl) rfl
theorem q1527 : (Jvm.Cond.code ({ cls := "GateLifter", name := "outKeeperOf", desc := "(I)I" } : Jvm.MethodName) prog_1_method_42_code (5 : Nat) (Option.some Jvm.ClassFile.FieldType.int)) ∈ lw_all := lw_g (lw_at lw_m6 164 rfl) rfl
theorem q1528 : (Jvm.Cond.methodLink "GateLifter" (344 : Nat) ({ cls := "GateLifter", name := "hardOf", desc := "(I)I" } : Jvm.MethodName)) ∈ lw_all := lw_g (lw_at lw_m6 165 rfl) rfl
theorem q1529 : (Jvm.Cond.privateMethod ({ cls := "GateLifter", name := "hardOf", desc := "(I)I" } : Jvm.MethodName)) ∈ lw_tbl := lw_at lw_m6 166 rfl
theorem q1530 : (Jvm.Cond.instanceMethod ({ cls := "GateLifter", name := "hardOf", desc := "(I)I" } : Jvm.MethodName)) ∈ lw_all := lw_g (lw_at lw_m6 167 rfl) rfl
theorem q1531 : (Jvm.Cond.code ({ cls := "GateLifter", name := "hardOf", desc := "(I)I" } : Jvm.MethodName) prog_1_method_43_code (3 : Nat) (Option.some Jvm.ClassFile.FieldType.int)) ∈ lw_all := lw_g (lw_at lw_m6 168 rfl) rfl
theorem q1532 : (Jvm.Cond.methodLink "GateLifter" (303 : Nat) ({ cls := "GateLifter$Pipes", name := "empties", desc := "()V" } : Jvm.MethodName)) ∈ lw_all := lw_g (lw_at lw_m6 169 rfl) rfl
theorem q1536 : (Jvm.Cond.methodLink "GateLifter" (314 : Nat) ({ cls := "GateLifter$Pipes", name := "most", desc := "(II)I" } : Jvm.MethodName)) ∈ lw_all := lw_g (lw_at lw_m6 173 rfl) rfl
theorem q1544 : (Jvm.Cond.methodLink "GateLifter" (347 : Nat) ({ cls := "GateLifter", name := "wallOf", desc := "(I)I" } : Jvm.MethodName)) ∈ lw_all := lw_g (lw_at lw_m6 181 rfl) rfl
theorem q1545 : (Jvm.Cond.privateMethod ({ cls := "GateLifter", name := "wallOf", desc := "(I)I" } : Jvm.MethodName)) ∈ lw_tbl := lw_at lw_m6 182 rfl
theorem q1546 : (Jvm.Cond.instanceMethod ({ cls := "GateLifter", name := "wallOf", desc := "(I)I" } : Jvm.MethodName)) ∈ lw_all := lw_g (lw_at lw_m6 183 rfl) rfl
theorem q1547 : (Jvm.Cond.code ({ cls := "GateLifter", name := "wallOf", desc := "(I)I" } : Jvm.MethodName) prog_1_method_44_code (4 : Nat) (Option.some Jvm.ClassFile.FieldType.int)) ∈ lw_all := lw_g (lw_at lw_m6 184 rfl) rfl
theorem q1548 : (Jvm.Cond.methodLink "GateLifter" (350 : Nat) ({ cls := "GateLifter", name := "feeOf", desc := "(I)I" } : Jvm.MethodName)) ∈ lw_all := lw_g (lw_at lw_m6 185 rfl) rfl
theorem q1549 : (Jvm.Cond.privateMethod ({ cls := "GateLifter", name := "feeOf", desc := "(I)I" } : Jvm.MethodName)) ∈ lw_tbl := lw_at lw_m6 186 rfl
theorem q1550 : (Jvm.Cond.instanceMethod ({ cls := "GateLifter", name := "feeOf", desc := "(I)I" } : Jvm.MethodName)) ∈ lw_all := lw_g (lw_at lw_m6 187 rfl) rfl
theorem q1551 : (Jvm.Cond.code ({ cls := "GateLifter", name := "feeOf", desc := "(I)I" } : Jvm.MethodName) prog_1_method_46_code (2 : Nat) (Option.some Jvm.ClassFile.FieldType.int)) ∈ lw_all := lw_g (lw_at lw_m6 188 rfl) rfl
theorem q1552 : (Jvm.Cond.methodLink "GateLifter" (353 : Nat) ({ cls := "GateLifter", name := "fareOf", desc := "(I)I" } : Jvm.MethodName)) ∈ lw_all := lw_g (lw_at lw_m6 189 rfl) rfl
theorem q1553 : (Jvm.Cond.privateMethod ({ cls := "GateLifter", name := "fareOf", desc := "(I)I" } : Jvm.MethodName)) ∈ lw_tbl := lw_at lw_m6 190 rfl
theorem q1554 : (Jvm.Cond.instanceMethod ({ cls := "GateLifter", name := "fareOf", desc := "(I)I" } : Jvm.MethodName)) ∈ lw_all := lw_g (lw_at lw_m6 191 rfl) rfl
theorem q1555 : (Jvm.Cond.code ({ cls := "GateLifter", name := "fareOf", desc := "(I)I" } : Jvm.MethodName) prog_1_method_47_code (5 : Nat) (Option.some Jvm.ClassFile.FieldType.int)) ∈ lw_all := lw_g (lw_at lw_m6 192 rfl) rfl
theorem q1556 : (Jvm.Cond.methodLink "GateLifter" (356 : Nat) ({ cls := "GateLifter", name := "controlledBy", desc := "(I)I" } : Jvm.MethodName)) ∈ lw_all := lw_g (lw_at lw_m6 193 rfl) rfl
theorem q1557 : (Jvm.Cond.privateMethod ({ cls := "GateLifter", name := "controlledBy", desc := "(I)I" } : Jvm.MethodName)) ∈ lw_tbl := lw_at lw_m6 194 rfl
theorem q1558 : (Jvm.Cond.instanceMethod ({ cls := "GateLifter", name := "controlledBy", desc := "(I)I" } : Jvm.MethodName)) ∈ lw_all := lw_g (lw_at lw_m6 195 rfl) rfl
theorem q1559 : (Jvm.Cond.code ({ cls := "GateLifter", name := "controlledBy", desc := "(I)I" } : Jvm.MethodName) prog_1_method_52_code (5 : Nat) (Option.some Jvm.ClassFile.FieldType.int)) ∈ lw_all := lw_g (lw_at lw_m6 196 rfl) rfl
theorem q1560 : (Jvm.Cond.methodLink "GateLifter" (375 : Nat) ({ cls := "GateLifter", name := "hasOut", desc := "(I)Z" } : Jvm.MethodName)) ∈ lw_all := lw_g (lw_at lw_m6 197 rfl) rfl
theorem q1561 : (Jvm.Cond.privateMethod ({ cls := "GateLifter", name := "hasOut", desc := "(I)Z" } : Jvm.MethodName)) ∈ lw_tbl := lw_at lw_m6 198 rfl
theorem q1562 : (Jvm.Cond.instanceMethod ({ cls := "GateLifter", name := "hasOut", desc := "(I)Z" } : Jvm.MethodName)) ∈ lw_all := lw_g (lw_at lw_m6 199 rfl) rfl
theorem q1563 : (Jvm.Cond.code ({ cls := "GateLifter", name := "hasOut", desc := "(I)Z" } : Jvm.MethodName) prog_1_method_51_code (2 : Nat) (Option.some Jvm.ClassFile.FieldType.boolean)) ∈ lw_all := lw_g (lw_at lw_m6 200 rfl) rfl
theorem q1564 : (Jvm.Cond.methodLink "GateLifter" (362 : Nat) ({ cls := "GateLifter", name := "innerOf", desc := "(II)I" } : Jvm.MethodName)) ∈ lw_all := lw_g (lw_at lw_m6 201 rfl) rfl
theorem q1565 : (Jvm.Cond.privateMethod ({ cls := "GateLifter", name := "innerOf", desc := "(II)I" } : Jvm.MethodName)) ∈ lw_tbl := lw_at lw_m6 202 rfl
theorem q1566 : (Jvm.Cond.instanceMethod ({ cls := "GateLifter", name := "innerOf", desc := "(II)I" } : Jvm.MethodName)) ∈ lw_all := lw_g (lw_at lw_m6 203 rfl) rfl
theorem q1567 : (Jvm.Cond.code ({ cls := "GateLifter", name := "innerOf", desc := "(II)I" } : Jvm.MethodName) prog_1_method_48_code (8 : Nat) (Option.some Jvm.ClassFile.FieldType.int)) ∈ lw_all := lw_g (lw_at lw_m6 204 rfl) rfl
theorem q1568 : (Jvm.Cond.methodLink "GateLifter" (365 : Nat) ({ cls := "GateLifter", name := "outerOf", desc := "(I)I" } : Jvm.MethodName)) ∈ lw_all := lw_g (lw_at lw_m6 205 rfl) rfl
theorem q1569 : (Jvm.Cond.privateMethod ({ cls := "GateLifter", name := "outerOf", desc := "(I)I" } : Jvm.MethodName)) ∈ lw_tbl := lw_at lw_m6 206 rfl
theorem q1570 : (Jvm.Cond.instanceMethod ({ cls := "GateLifter", name := "outerOf", desc := "(I)I" } : Jvm.MethodName)) ∈ lw_all := lw_g (lw_at lw_m6 207 rfl) rfl
theorem q1571 : (Jvm.Cond.code ({ cls := "GateLifter", name := "outerOf", desc := "(I)I" } : Jvm.MethodName) prog_1_method_49_code (3 : Nat) (Option.some Jvm.ClassFile.FieldType.int)) ∈ lw_all := lw_g (lw_at lw_m6 208 rfl) rfl
theorem q1572 : (Jvm.Cond.methodLink "GateLifter" (368 : Nat) ({ cls := "GateLifter", name := "tiedTo", desc := "(I)I" } : Jvm.MethodName)) ∈ lw_all := lw_g (lw_at lw_m6 209 rfl) rfl
theorem q1573 : (Jvm.Cond.privateMethod ({ cls := "GateLifter", name := "tiedTo", desc := "(I)I" } : Jvm.MethodName)) ∈ lw_tbl := lw_at lw_m6 210 rfl
theorem q1574 : (Jvm.Cond.instanceMethod ({ cls := "GateLifter", name := "tiedTo", desc := "(I)I" } : Jvm.MethodName)) ∈ lw_all := lw_g (lw_at lw_m6 211 rfl) rfl
theorem q1575 : (Jvm.Cond.code ({ cls := "GateLifter", name := "tiedTo", desc := "(I)I" } : Jvm.MethodName) prog_1_method_50_code (5 : Nat) (Option.some Jvm.ClassFile.FieldType.int)) ∈ lw_all := lw_g (lw_at lw_m6 212 rfl) rfl
theorem q1580 : (Jvm.Cond.instanceMethod ({ cls := "GateLifter", name := "keeps", desc := "(II)Z" } : Jvm.MethodName)) ∈ lw_all := lw_g (lw_at lw_m6 217 rfl) rfl
theorem q1581 : (Jvm.Cond.selects "GateLifter" ({ cls := "GateLifter", name := "keeps", desc := "(II)Z" } : Jvm.MethodName) ({ cls := "GateLifter", name := "keeps", desc := "(II)Z" } : Jvm.MethodName)) ∈ lw_all := lw_g (lw_at lw_m6 218 rfl) rfl
theorem q1582 : (Jvm.Cond.code ({ cls := "GateLifter", name := "keeps", desc := "(II)Z" } : Jvm.MethodName) prog_1_method_54_code (3 : Nat) (Option.some Jvm.ClassFile.FieldType.boolean)) ∈ lw_all := lw_g (lw_at lw_m6 219 rfl) rfl
theorem q1587 : (Jvm.Cond.instanceMethod ({ cls := "GateLifter", name := "common", desc := "(II)I" } : Jvm.MethodName)) ∈ lw_all := lw_g (lw_at lw_m6 224 rfl) rfl
theorem q1588 : (Jvm.Cond.selects "GateLifter" ({ cls := "GateLifter", name := "common", desc := "(II)I" } : Jvm.MethodName) ({ cls := "GateLifter", name := "common", desc := "(II)I" } : Jvm.MethodName)) ∈ lw_all := lw_g (lw_at lw_m6 225 rfl) rfl
theorem q1589 : (Jvm.Cond.code ({ cls := "GateLifter", name := "common", desc := "(II)I" } : Jvm.MethodName) prog_1_method_55_code (3 : Nat) (Option.some Jvm.ClassFile.FieldType.int)) ∈ lw_all := lw_g (lw_at lw_m6 226 rfl) rfl
theorem q1590 : (Jvm.Cond.methodLink "GateLifter" (382 : Nat) ({ cls := "GateLifter$Tree", name := "common", desc := "(II)I" } : Jvm.MethodName)) ∈ lw_all := lw_g (lw_at lw_m6 227 rfl) rfl
theorem q1595 : (Jvm.Cond.instanceMethod ({ cls := "GateLifter", name := "arc", desc := "(II)I" } : Jvm.MethodName)) ∈ lw_all := lw_g (lw_at lw_m6 232 rfl) rfl
theorem q1596 : (Jvm.Cond.selects "GateLifter" ({ cls := "GateLifter", name := "arc", desc := "(II)I" } : Jvm.MethodName) ({ cls := "GateLifter", name := "arc", desc := "(II)I" } : Jvm.MethodName)) ∈ lw_all := lw_g (lw_at lw_m6 233 rfl) rfl
theorem q1597 : (Jvm.Cond.code ({ cls := "GateLifter", name := "arc", desc := "(II)I" } : Jvm.MethodName) prog_1_method_60_code (3 : Nat) (Option.some Jvm.ClassFile.FieldType.int)) ∈ lw_all := lw_g (lw_at lw_m6 234 rfl) rfl
theorem q1598 : (Jvm.Cond.methodLink "GateLifter" (400 : Nat) ({ cls := "GateLifter$Net", name := "isArc", desc := "(I)Z" } : Jvm.MethodName)) ∈ lw_all := lw_g (lw_at lw_m6 235 rfl) rfl
theorem q1603 : (Jvm.Cond.instanceMethod ({ cls := "GateLifter", name := "without", desc := "(I)I" } : Jvm.MethodName)) ∈ lw_all := lw_g (lw_at lw_m7 0 rfl) rfl
theorem q1604 : (Jvm.Cond.selects "GateLifter" ({ cls := "GateLifter", name := "without", desc := "(I)I" } : Jvm.MethodName) ({ cls := "GateLifter", name := "without", desc := "(I)I" } : Jvm.MethodName)) ∈ lw_all := lw_g (lw_at lw_m7 1 rfl) rfl
theorem q1605 : (Jvm.Cond.code ({ cls := "GateLifter", name := "without", desc := "(I)I" } : Jvm.MethodName) prog_1_method_61_code (3 : Nat) (Option.some Jvm.ClassFile.FieldType.int)) ∈ lw_all := lw_g (lw_at lw_m7 2 rfl) rfl
theorem q1610 : (Jvm.Cond.instanceMethod ({ cls := "GateLifter", name := "seal", desc := "(I)I" } : Jvm.MethodName)) ∈ lw_all := lw_g (lw_at lw_m7 7 rfl) rfl
theorem q1611 : (Jvm.Cond.selects "GateLifter" ({ cls := "GateLifter", name := "seal", desc := "(I)I" } : Jvm.MethodName) ({ cls := "GateLifter", name := "seal", desc := "(I)I" } : Jvm.MethodName)) ∈ lw_all := lw_g (lw_at lw_m7 8 rfl) rfl
theorem q1612 : (Jvm.Cond.code ({ cls := "GateLifter", name := "seal", desc := "(I)I" } : Jvm.MethodName) prog_1_method_62_code (3 : Nat) (Option.some Jvm.ClassFile.FieldType.int)) ∈ lw_all := lw_g (lw_at lw_m7 9 rfl) rfl
theorem q1617 : (Jvm.Cond.instanceMethod ({ cls := "GateLifter", name := "chain", desc := "(II)I" } : Jvm.MethodName)) ∈ lw_all := lw_g (lw_at lw_m7 14 rfl) rfl
theorem q1618 : (Jvm.Cond.selects "GateLifter" ({ cls := "GateLifter", name := "chain", desc := "(II)I" } : Jvm.MethodName) ({ cls := "GateLifter", name := "chain", desc := "(II)I" } : Jvm.MethodName)) ∈ lw_all := lw_g (lw_at lw_m7 15 rfl) rfl
theorem q1619 : (Jvm.Cond.code ({ cls := "GateLifter", name := "chain", desc := "(II)I" } : Jvm.MethodName) prog_1_method_63_code (4 : Nat) (Option.some Jvm.ClassFile.FieldType.int)) ∈ lw_all := lw_g (lw_at lw_m7 16 rfl) rfl
theorem q1624 : (Jvm.Cond.instanceMethod ({ cls := "GateLifter", name := "via", desc := "(II)I" } : Jvm.MethodName)) ∈ lw_all := lw_g (lw_at lw_m7 21 rfl) rfl
theorem q1625 : (Jvm.Cond.selects "GateLifter" ({ cls := "GateLifter", name := "via", desc := "(II)I" } : Jvm.MethodName) ({ cls := "GateLifter", name := "via", desc := "(II)I" } : Jvm.MethodName)) ∈ lw_all := lw_g (lw_at lw_m7 22 rfl) rfl
theorem q1626 : (Jvm.Cond.code ({ cls := "GateLifter", name := "via", desc := "(II)I" } : Jvm.MethodName) prog_1_method_65_code (3 : Nat) (Option.some Jvm.ClassFile.FieldType.int)) ∈ lw_all := lw_g (lw_at lw_m7 23 rfl) rfl
theorem q1627 : (Jvm.Cond.privateMethod ({ cls := "GateLifter", name := "lambda$via$9", desc := "(III)Z" } : Jvm.MethodName)) ∈ lw_tbl := lw_at lw_m7 24 rfl
theorem q1628 : (Jvm.Cond.instanceMethod ({ cls := "GateLifter", name := "lambda$via$9", desc := "(III)Z" } : Jvm.MethodName)) ∈ lw_all := lw_g (lw_at lw_m7 25 rfl) rfl
theorem q1629 : (Jvm.Cond.code ({ cls := "GateLifter", name := "lambda$via$9", desc := "(III)Z" } : Jvm.MethodName) prog_1_method_95_code (4 : Nat) (Option.some Jvm.ClassFile.FieldType.boolean)) ∈ lw_all := lw_g (lw_at lw_m7 26 rfl) rfl
theorem q1634 : (Jvm.Cond.instanceMethod ({ cls := "GateLifter", name := "pass", desc := "(II)I" } : Jvm.MethodName)) ∈ lw_all := lw_g (lw_at lw_m7 31 rfl) rfl
theorem q1635 : (Jvm.Cond.selects "GateLifter" ({ cls := "GateLifter", name := "pass", desc := "(II)I" } : Jvm.MethodName) ({ cls := "GateLifter", name := "pass", desc := "(II)I" } : Jvm.MethodName)) ∈ lw_all := lw_g (lw_at lw_m7 32 rfl) rfl
theorem q1636 : (Jvm.Cond.code ({ cls := "GateLifter", name := "pass", desc := "(II)I" } : Jvm.MethodName) prog_1_method_67_code (6 : Nat) (Option.some Jvm.ClassFile.FieldType.int)) ∈ lw_all := lw_g (lw_at lw_m7 33 rfl) rfl
theorem q1637 : (Jvm.Cond.methodLink "GateLifter" (411 : Nat) ({ cls := "GateLifter", name := "isPass", desc := "(II)Z" } : Jvm.MethodName)) ∈ lw_all := lw_g (lw_at lw_m7 34 rfl) rfl
theorem q1638 : (Jvm.Cond.privateMethod ({ cls := "GateLifter", name := "isPass", desc := "(II)Z" } : Jvm.MethodName)) ∈ lw_tbl := lw_at lw_m7 35 rfl
theorem q1639 : (Jvm.Cond.instanceMethod ({ cls := "GateLifter", name := "isPass", desc := "(II)Z" } : Jvm.MethodName)) ∈ lw_all := lw_g (lw_at lw_m7 36 rfl) rfl
theorem q1640 : (Jvm.Cond.code ({ cls := "GateLifter", name := "isPass", desc := "(II)Z" } : Jvm.MethodName) prog_1_method_66_code (3 : Nat) (Option.some Jvm.ClassFile.FieldType.boolean)) ∈ lw_all := lw_g (lw_at lw_m7 37 rfl) rfl
theorem q1645 : (Jvm.Cond.instanceMethod ({ cls := "GateLifter", name := "fall", desc := "(II)I" } : Jvm.MethodName)) ∈ lw_all := lw_g (lw_at lw_m7 42 rfl) rfl
theorem q1646 : (Jvm.Cond.selects "GateLifter" ({ cls := "GateLifter", name := "fall", desc := "(II)I" } : Jvm.MethodName) ({ cls := "GateLifter", name := "fall", desc := "(II)I" } : Jvm.MethodName)) ∈ lw_all := lw_g (lw_at lw_m7 43 rfl) rfl
theorem q1647 : (Jvm.Cond.code ({ cls := "GateLifter", name := "fall", desc := "(II)I" } : Jvm.MethodName) prog_1_method_69_code (3 : Nat) (Option.some Jvm.ClassFile.FieldType.int)) ∈ lw_all := lw_g (lw_at lw_m7 44 rfl) rfl
theorem q1652 : (Jvm.Cond.instanceMethod ({ cls := "GateLifter", name := "worst", desc := "(I)I" } : Jvm.MethodName)) ∈ lw_all := lw_g (lw_at lw_m7 49 rfl) rfl
theorem q1653 : (Jvm.Cond.selects "GateLifter" ({ cls := "GateLifter", name := "worst", desc := "(I)I" } : Jvm.MethodName) ({ cls := "GateLifter", name := "worst", desc := "(I)I" } : Jvm.MethodName)) ∈ lw_all := lw_g (lw_at lw_m7 50 rfl) rfl
theorem q1654 : (Jvm.Cond.code ({ cls := "GateLifter", name := "worst", desc := "(I)I" } : Jvm.MethodName) prog_1_method_72_code (6 : Nat) (Option.some Jvm.ClassFile.FieldType.int)) ∈ lw_all := lw_g (lw_at lw_m7 51 rfl) rfl
theorem q1659 : (Jvm.Cond.instanceMethod ({ cls := "GateLifter", name := "would", desc := "(III)I" } : Jvm.MethodName)) ∈ lw_all := lw_g (lw_at lw_m7 56 rfl) rfl
theorem q1660 : (Jvm.Cond.selects "GateLifter" ({ cls := "GateLifter", name := "would", desc := "(III)I" } : Jvm.MethodName) ({ cls := "GateLifter", name := "would", desc := "(III)I" } : Jvm.MethodName)) ∈ lw_all := lw_g (lw_at lw_m7 57 rfl) rfl
theorem q1661 : (Jvm.Cond.code ({ cls := "GateLifter", name := "would", desc := "(III)I" } : Jvm.MethodName) prog_1_method_74_code (4 : Nat) (Option.some Jvm.ClassFile.FieldType.int)) ∈ lw_all := lw_g (lw_at lw_m7 58 rfl) rfl
theorem q1662 : (Jvm.Cond.methodLink "GateLifter" (419 : Nat) ({ cls := "GateLifter", name := "tries", desc := "(II)V" } : Jvm.MethodName)) ∈ lw_all := lw_g (lw_at lw_m7 59 rfl) rfl
theorem q1663 : (Jvm.Cond.privateMethod ({ cls := "GateLifter", name := "tries", desc := "(II)V" } : Jvm.MethodName)) ∈ lw_tbl := lw_at lw_m7 60 rfl
theorem q1664 : (Jvm.Cond.instanceMethod ({ cls := "GateLifter", name := "tries", desc := "(II)V" } : Jvm.MethodName)) ∈ lw_all := lw_g (lw_at lw_m7 61 rfl) rfl
theorem q1665 : (Jvm.Cond.code ({ cls := "GateLifter", name := "tries", desc := "(II)V" } : Jvm.MethodName) prog_1_method_73_code (3 : Nat) (Option.none : Option Jvm.ClassFile.FieldType)) ∈ lw_all := lw_g (lw_at lw_m7 62 rfl) rfl
theorem q1670 : (Jvm.Cond.instanceMethod ({ cls := "GateLifter", name := "best", desc := "(I)I" } : Jvm.MethodName)) ∈ lw_all := lw_g (lw_at lw_m7 67 rfl) rfl
theorem q1671 : (Jvm.Cond.selects "GateLifter" ({ cls := "GateLifter", name := "best", desc := "(I)I" } : Jvm.MethodName) ({ cls := "GateLifter", name := "best", desc := "(I)I" } : Jvm.MethodName)) ∈ lw_all := lw_g (lw_at lw_m7 68 rfl) rfl
theorem q1672 : (Jvm.Cond.code ({ cls := "GateLifter", name := "best", desc := "(I)I" } : Jvm.MethodName) prog_1_method_75_code (6 : Nat) (Option.some Jvm.ClassFile.FieldType.int)) ∈ lw_all := lw_g (lw_at lw_m7 69 rfl) rfl
theorem q1677 : (Jvm.Cond.instanceMethod ({ cls := "GateLifter", name := "text", desc := "(I)I" } : Jvm.MethodName)) ∈ lw_all := lw_g (lw_at lw_m7 74 rfl) rfl
theorem q1678 : (Jvm.Cond.selects "GateLifter" ({ cls := "GateLifter", name := "text", desc := "(I)I" } : Jvm.MethodName) ({ cls := "GateLifter", name := "text", desc := "(I)I" } : Jvm.MethodName)) ∈ lw_all := lw_g (lw_at lw_m7 75 rfl) rfl
theorem q1679 : (Jvm.Cond.code ({ cls := "GateLifter", name := "text", desc := "(I)I" } : Jvm.MethodName) prog_1_method_77_code (3 : Nat) (Option.some Jvm.ClassFile.FieldType.int)) ∈ lw_all := lw_g (lw_at lw_m7 76 rfl) rfl
theorem q1680 : (Jvm.Cond.methodLink "GateLifter" (422 : Nat) ({ cls := "GateLifter", name := "writes", desc := "(Ljava/lang/StringBuilder;I)V" } : Jvm.MethodName)) ∈ lw_all := lw_g (lw_at lw_m7 77 rfl) rfl
theorem q1681 : (Jvm.Cond.privateMethod ({ cls := "GateLifter", name := "writes", desc := "(Ljava/lang/StringBuilder;I)V" } : Jvm.MethodName)) ∈ lw_tbl := lw_at lw_m7 78 rfl
theorem q1682 : (Jvm.Cond.instanceMethod ({ cls := "GateLifter", name := "writes", desc := "(Ljava/lang/StringBuilder;I)V" } : Jvm.MethodName)) ∈ lw_all := lw_g (lw_at lw_m7 79 rfl) rfl
theorem q1683 : (Jvm.Cond.code ({ cls := "GateLifter", name := "writes", desc := "(Ljava/lang/StringBuilder;I)V" } : Jvm.MethodName) prog_1_method_76_code (3 : Nat) (Option.none : Option Jvm.ClassFile.FieldType)) ∈ lw_all := lw_g (lw_at lw_m7 80 rfl) rfl
theorem q1684 : (Jvm.Cond.methodLink "GateLifter" (426 : Nat) ({ cls := "java/lang/StringBuilder", name := "append", desc := "(C)Ljava/lang/StringBuilder;" } : Jvm.MethodName)) ∈ lw_all := lw_g (lw_at lw_m7 81 rfl) rfl
theorem q1685 : (Jvm.Cond.methodLink "GateLifter" (430 : Nat) ({ cls := "java/lang/StringBuilder", name := "append", desc := "(I)Ljava/lang/StringBuilder;" } : Jvm.MethodName)) ∈ lw_all := lw_g (lw_at lw_m7 82 rfl) rfl
theorem q1686 : (Jvm.Cond.interfaceEntry "GateLifter" (433 : Nat)) ∈ lw_tbl := lw_at lw_m7 83 rfl
theorem q1687 : (Jvm.Cond.methodLink "GateLifter" (433 : Nat) ({ cls := "java/lang/CharSequence", name := "length", desc := "()I" } : Jvm.MethodName)) ∈ lw_all := lw_g (lw_at lw_m7 84 rfl) rfl
theorem q2339 : (Jvm.Cond.castable "GateLifter" "java/lang/Object") ∈ lw_tbl := lw_at lw_m10 16 rfl
theorem in_X1 : ∀ w ∈ wsX10, w ∈ lw_all := lw_in wsX10 [578, 580, 582, 584, 586, 588, 590, 592, 594, 596, 598, 600, 602, 604, 606, 608, 610, 612, 614, 616, 618, 620] (by decide +kernel) (by decide +kernel)
